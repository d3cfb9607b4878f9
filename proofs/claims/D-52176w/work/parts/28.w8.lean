set_option maxRecDepth 100000
abbrev cX1_tell : ByteArray := prog_1_method_10_code
def yX1_tell : MethodName := ⟨"DebateHall", "tell", "()I"⟩
def dkwX1_tell_4 : List UInt8 := [180, 0, 132, 60, 42, 44, 180, 0, 135, 181, 0, 29, 42, 180, 0, 25, 3, 181, 0, 70, 27, 172]
abbrev dktX1_tell_4 : List UInt8 := dkwX1_tell_4 ++ []
def dkwX1_tell_3 : List UInt8 := [25, 5, 45, 182, 0, 122, 167, 255, 228, 42, 45, 1, 182, 0, 126, 181, 0, 36, 167, 0, 17, 77, 44]
abbrev dktX1_tell_3 : List UInt8 := dkwX1_tell_3 ++ dktX1_tell_4
def dkwX1_tell_2 : List UInt8 := [58, 4, 25, 4, 185, 0, 110, 1, 0, 153, 0, 24, 25, 4, 185, 0, 116, 1, 0, 192, 0, 120, 58, 5]
abbrev dktX1_tell_2 : List UInt8 := dkwX1_tell_2 ++ dktX1_tell_3
def dkwX1_tell_1 : List UInt8 := [182, 0, 90, 183, 0, 94, 182, 0, 97, 77, 42, 180, 0, 36, 182, 0, 100, 78, 44, 185, 0, 104, 1, 0]
abbrev dktX1_tell_1 : List UInt8 := dkwX1_tell_1 ++ dktX1_tell_2
def dkwX1_tell_0 : List UInt8 := [3, 60, 42, 2, 181, 0, 29, 187, 0, 83, 89, 187, 0, 85, 89, 42, 180, 0, 25, 183, 0, 87]
abbrev dktX1_tell_0 : List UInt8 := dkwX1_tell_0 ++ dktX1_tell_1
theorem dksX1_tell_0 : cX1_tell.data.toList.drop 0 = dktX1_tell_0 := by decide +kernel
theorem dksX1_tell_1 : cX1_tell.data.toList.drop 22 = dktX1_tell_1 := dk_seg dksX1_tell_0 22 rfl rfl
theorem dksX1_tell_2 : cX1_tell.data.toList.drop 46 = dktX1_tell_2 := dk_seg dksX1_tell_1 24 rfl rfl
theorem dksX1_tell_3 : cX1_tell.data.toList.drop 70 = dktX1_tell_3 := dk_seg dksX1_tell_2 24 rfl rfl
theorem dksX1_tell_4 : cX1_tell.data.toList.drop 93 = dktX1_tell_4 := dk_seg dksX1_tell_3 23 rfl rfl
theorem dX1_tell_0 : decode cX1_tell 0 = .ok (.iconst 0, 1) := dk_3 (dk_at dksX1_tell_0 0 rfl rfl)
theorem dX1_tell_1 : decode cX1_tell 1 = .ok (.istore_n 1, 1) := dk_60 (dk_at dksX1_tell_0 1 rfl rfl)
theorem dX1_tell_2 : decode cX1_tell 2 = .ok (.aload_n 0, 1) := dk_42 (dk_at dksX1_tell_0 2 rfl rfl)
theorem dX1_tell_3 : decode cX1_tell 3 = .ok (.iconst (-1), 1) := dk_2 (dk_at dksX1_tell_0 3 rfl rfl)
theorem dX1_tell_4 : decode cX1_tell 4 = .ok (.putfield 29, 3) := dk_181 0 29 (dk_at dksX1_tell_0 4 rfl rfl)
theorem dX1_tell_7 : decode cX1_tell 7 = .ok (.new 83, 3) := dk_187 0 83 (dk_at dksX1_tell_0 7 rfl rfl)
theorem dX1_tell_10 : decode cX1_tell 10 = .ok (.dup, 1) := dk_89 (dk_at dksX1_tell_0 10 rfl rfl)
theorem dX1_tell_11 : decode cX1_tell 11 = .ok (.new 85, 3) := dk_187 0 85 (dk_at dksX1_tell_0 11 rfl rfl)
theorem dX1_tell_14 : decode cX1_tell 14 = .ok (.dup, 1) := dk_89 (dk_at dksX1_tell_0 14 rfl rfl)
theorem dX1_tell_15 : decode cX1_tell 15 = .ok (.aload_n 0, 1) := dk_42 (dk_at dksX1_tell_0 15 rfl rfl)
theorem dX1_tell_16 : decode cX1_tell 16 = .ok (.getfield 25, 3) := dk_180 0 25 (dk_at dksX1_tell_0 16 rfl rfl)
theorem dX1_tell_19 : decode cX1_tell 19 = .ok (.invokespecial 87, 3) := dk_183 0 87 (dk_at dksX1_tell_0 19 rfl rfl)
theorem dX1_tell_22 : decode cX1_tell 22 = .ok (.invokevirtual 90, 3) := dk_182 0 90 (dk_at dksX1_tell_1 0 rfl rfl)
theorem dX1_tell_25 : decode cX1_tell 25 = .ok (.invokespecial 94, 3) := dk_183 0 94 (dk_at dksX1_tell_1 3 rfl rfl)
theorem dX1_tell_28 : decode cX1_tell 28 = .ok (.invokevirtual 97, 3) := dk_182 0 97 (dk_at dksX1_tell_1 6 rfl rfl)
theorem dX1_tell_31 : decode cX1_tell 31 = .ok (.astore_n 2, 1) := dk_77 (dk_at dksX1_tell_1 9 rfl rfl)
theorem dX1_tell_32 : decode cX1_tell 32 = .ok (.aload_n 0, 1) := dk_42 (dk_at dksX1_tell_1 10 rfl rfl)
theorem dX1_tell_33 : decode cX1_tell 33 = .ok (.getfield 36, 3) := dk_180 0 36 (dk_at dksX1_tell_1 11 rfl rfl)
theorem dX1_tell_36 : decode cX1_tell 36 = .ok (.invokevirtual 100, 3) := dk_182 0 100 (dk_at dksX1_tell_1 14 rfl rfl)
theorem dX1_tell_39 : decode cX1_tell 39 = .ok (.astore_n 3, 1) := dk_78 (dk_at dksX1_tell_1 17 rfl rfl)
theorem dX1_tell_40 : decode cX1_tell 40 = .ok (.aload_n 2, 1) := dk_44 (dk_at dksX1_tell_1 18 rfl rfl)
theorem dX1_tell_41 : decode cX1_tell 41 = .ok (.invokeinterface 104 1, 5) := by decide +kernel
theorem dX1_tell_46 : decode cX1_tell 46 = .ok (.astore 4, 2) := dk_58 4 (dk_at dksX1_tell_2 0 rfl rfl)
theorem dX1_tell_48 : decode cX1_tell 48 = .ok (.aload 4, 2) := dk_25 4 (dk_at dksX1_tell_2 2 rfl rfl)
theorem dX1_tell_50 : decode cX1_tell 50 = .ok (.invokeinterface 110 1, 5) := by decide +kernel
theorem dX1_tell_55 : decode cX1_tell 55 = .ok (.ifCond .eq 24, 3) := dk_153 0 24 (dk_at dksX1_tell_2 9 rfl rfl)
theorem dX1_tell_58 : decode cX1_tell 58 = .ok (.aload 4, 2) := dk_25 4 (dk_at dksX1_tell_2 12 rfl rfl)
theorem dX1_tell_60 : decode cX1_tell 60 = .ok (.invokeinterface 116 1, 5) := by decide +kernel
theorem dX1_tell_65 : decode cX1_tell 65 = .ok (.checkcast 120, 3) := dk_192 0 120 (dk_at dksX1_tell_2 19 rfl rfl)
theorem dX1_tell_68 : decode cX1_tell 68 = .ok (.astore 5, 2) := dk_58 5 (dk_at dksX1_tell_2 22 rfl rfl)
theorem dX1_tell_70 : decode cX1_tell 70 = .ok (.aload 5, 2) := dk_25 5 (dk_at dksX1_tell_3 0 rfl rfl)
theorem dX1_tell_72 : decode cX1_tell 72 = .ok (.aload_n 3, 1) := dk_45 (dk_at dksX1_tell_3 2 rfl rfl)
theorem dX1_tell_73 : decode cX1_tell 73 = .ok (.invokevirtual 122, 3) := dk_182 0 122 (dk_at dksX1_tell_3 3 rfl rfl)
theorem dX1_tell_76 : decode cX1_tell 76 = .ok (.goto (-28), 3) := dk_167 255 228 (dk_at dksX1_tell_3 6 rfl rfl)
theorem dX1_tell_79 : decode cX1_tell 79 = .ok (.aload_n 0, 1) := dk_42 (dk_at dksX1_tell_3 9 rfl rfl)
theorem dX1_tell_80 : decode cX1_tell 80 = .ok (.aload_n 3, 1) := dk_45 (dk_at dksX1_tell_3 10 rfl rfl)
theorem dX1_tell_81 : decode cX1_tell 81 = .ok (.aconst_null, 1) := dk_1 (dk_at dksX1_tell_3 11 rfl rfl)
theorem dX1_tell_82 : decode cX1_tell 82 = .ok (.invokevirtual 126, 3) := dk_182 0 126 (dk_at dksX1_tell_3 12 rfl rfl)
theorem dX1_tell_85 : decode cX1_tell 85 = .ok (.putfield 36, 3) := dk_181 0 36 (dk_at dksX1_tell_3 15 rfl rfl)
theorem dX1_tell_88 : decode cX1_tell 88 = .ok (.goto 17, 3) := dk_167 0 17 (dk_at dksX1_tell_3 18 rfl rfl)
theorem dX1_tell_91 : decode cX1_tell 91 = .ok (.astore_n 2, 1) := dk_77 (dk_at dksX1_tell_3 21 rfl rfl)
theorem dX1_tell_92 : decode cX1_tell 92 = .ok (.aload_n 2, 1) := dk_44 (dk_at dksX1_tell_3 22 rfl rfl)
theorem dX1_tell_93 : decode cX1_tell 93 = .ok (.getfield 132, 3) := dk_180 0 132 (dk_at dksX1_tell_4 0 rfl rfl)
theorem dX1_tell_96 : decode cX1_tell 96 = .ok (.istore_n 1, 1) := dk_60 (dk_at dksX1_tell_4 3 rfl rfl)
theorem dX1_tell_97 : decode cX1_tell 97 = .ok (.aload_n 0, 1) := dk_42 (dk_at dksX1_tell_4 4 rfl rfl)
theorem dX1_tell_98 : decode cX1_tell 98 = .ok (.aload_n 2, 1) := dk_44 (dk_at dksX1_tell_4 5 rfl rfl)
theorem dX1_tell_99 : decode cX1_tell 99 = .ok (.getfield 135, 3) := dk_180 0 135 (dk_at dksX1_tell_4 6 rfl rfl)
theorem dX1_tell_102 : decode cX1_tell 102 = .ok (.putfield 29, 3) := dk_181 0 29 (dk_at dksX1_tell_4 9 rfl rfl)
theorem dX1_tell_105 : decode cX1_tell 105 = .ok (.aload_n 0, 1) := dk_42 (dk_at dksX1_tell_4 12 rfl rfl)
theorem dX1_tell_106 : decode cX1_tell 106 = .ok (.getfield 25, 3) := dk_180 0 25 (dk_at dksX1_tell_4 13 rfl rfl)
theorem dX1_tell_109 : decode cX1_tell 109 = .ok (.iconst 0, 1) := dk_3 (dk_at dksX1_tell_4 16 rfl rfl)
theorem dX1_tell_110 : decode cX1_tell 110 = .ok (.putfield 70, 3) := dk_181 0 70 (dk_at dksX1_tell_4 17 rfl rfl)
theorem dX1_tell_113 : decode cX1_tell 113 = .ok (.iload_n 1, 1) := dk_27 (dk_at dksX1_tell_4 20 rfl rfl)
theorem dX1_tell_114 : decode cX1_tell 114 = .ok (.ireturn, 1) := dk_172 (dk_at dksX1_tell_4 21 rfl rfl)
theorem q321 : (Jvm.Cond.classLink "DebateHall" (83 : Nat) "DebateHall$Reader") ∈ lw_all := lw_g (lw_at lw_m2 1 rfl) rfl
theorem q323 : (Jvm.Cond.classLink "DebateHall" (85 : Nat) "DebateHall$Scanner") ∈ lw_all := lw_g (lw_at lw_m2 3 rfl) rfl
theorem q327 : (Jvm.Cond.code ({ cls := "DebateHall$Scanner", name := "<init>", desc := "(LDebateHall$Tape;)V" } : Jvm.MethodName) prog_14_method_1_code (2 : Nat) (Option.none : Option Jvm.ClassFile.FieldType)) ∈ lw_all := lw_g (lw_at lw_m2 7 rfl) rfl
theorem zk_X7_init : zz_cd yX7_init cX7_init 2 none none ∈ lw_all := q327
theorem zy_X7_init : zz_yok yX7_init 1 = true := by decide +kernel
theorem q341 : (Jvm.Cond.code ({ cls := "DebateHall$Scanner", name := "all", desc := "()Ljava/util/List;" } : Jvm.MethodName) prog_14_method_6_code (3 : Nat) (Option.some (Jvm.ClassFile.FieldType.object "java/util/List"))) ∈ lw_all := lw_g (lw_at lw_m2 21 rfl) rfl
theorem zk_X7_all : zz_cd yX7_all cX7_all 3 (some (.object "java/util/List")) none ∈ lw_all := q341
theorem zy_X7_all : zz_yok yX7_all 0 = true := by decide +kernel
theorem q848 : (Jvm.Cond.code ({ cls := "DebateHall$Reader", name := "<init>", desc := "(Ljava/util/List;)V" } : Jvm.MethodName) prog_13_method_1_code (2 : Nat) (Option.none : Option Jvm.ClassFile.FieldType)) ∈ lw_all := lw_g (lw_at lw_m4 48 rfl) rfl
theorem zk_X6_init : zz_cd yX6_init cX6_init 2 none none ∈ lw_all := q848
theorem zy_X6_init : zz_yok yX6_init 1 = true := by decide +kernel
theorem q863 : (Jvm.Cond.code ({ cls := "DebateHall$Reader", name := "read", desc := "()Ljava/util/List;" } : Jvm.MethodName) prog_13_method_8_code (3 : Nat) (Option.some (Jvm.ClassFile.FieldType.object "java/util/List"))) ∈ lw_all := lw_g (lw_at lw_m4 63 rfl) rfl
theorem zk_X6_read : zz_cd yX6_read cX6_read 3 (some (.object "java/util/List")) none ∈ lw_all := q863
theorem zy_X6_read : zz_yok yX6_read 0 = true := by decide +kernel
theorem q1141 : (Jvm.Cond.code ({ cls := "DebateHall$Minutes", name := "copy", desc := "()LDebateHall$Minutes;" } : Jvm.MethodName) prog_12_method_2_code (7 : Nat) (Option.some (Jvm.ClassFile.FieldType.object "DebateHall$Minutes"))) ∈ lw_all := lw_g (lw_at lw_m5 101 rfl) rfl
theorem zk_X3_copy : zz_cd yX3_copy cX3_copy 7 (some (.object "DebateHall$Minutes")) none ∈ lw_all := q1141
theorem zy_X3_copy : zz_yok yX3_copy 0 = true := by decide +kernel
theorem q1786 : (Jvm.Cond.methodLink "DebateHall" (104 : Nat) ({ cls := "java/util/List", name := "iterator", desc := "()Ljava/util/Iterator;" } : Jvm.MethodName)) ∈ lw_all := lw_g (lw_at lw_m8 26 rfl) rfl
theorem q1789 : (Jvm.Cond.selects "java/util/ArrayList" ({ cls := "java/util/List", name := "iterator", desc := "()Ljava/util/Iterator;" } : Jvm.MethodName) ({ cls := "java/util/ArrayList", name := "iterator", desc := "()Ljava/util/Iterator;" } : Jvm.MethodName)) ∈ lw_all := lw_g (lw_at lw_m8 29 rfl) rfl
theorem zyo_java_util_List_iterator___Ljava_util_Iterator_ : zz_yok ⟨"java/util/List", "iterator", "()Ljava/util/Iterator;"⟩ 0 = true := by decide +kernel
theorem q1138 : (Jvm.Cond.methodLink "DebateHall" (100 : Nat) ({ cls := "DebateHall$Minutes", name := "copy", desc := "()LDebateHall$Minutes;" } : Jvm.MethodName)) ∈ lw_all := lw_g (lw_at lw_m5 98 rfl) rfl
theorem q1139 : (Jvm.Cond.instanceMethod ({ cls := "DebateHall$Minutes", name := "copy", desc := "()LDebateHall$Minutes;" } : Jvm.MethodName)) ∈ lw_all := lw_g (lw_at lw_m5 99 rfl) rfl
theorem q1140 : (Jvm.Cond.selects "DebateHall$Minutes" ({ cls := "DebateHall$Minutes", name := "copy", desc := "()LDebateHall$Minutes;" } : Jvm.MethodName) ({ cls := "DebateHall$Minutes", name := "copy", desc := "()LDebateHall$Minutes;" } : Jvm.MethodName)) ∈ lw_all := lw_g (lw_at lw_m5 100 rfl) rfl
theorem q320 : (Jvm.Cond.classLink "DebateHall" (130 : Nat) "DebateHall$Fault") ∈ lw_all := lw_g (lw_at lw_m2 0 rfl) rfl
theorem q917 : (Jvm.Cond.castable "DebateHall$Fault" "DebateHall$Fault") ∈ lw_tbl := lw_at lw_m4 117 rfl
theorem q860 : (Jvm.Cond.methodLink "DebateHall" (97 : Nat) ({ cls := "DebateHall$Reader", name := "read", desc := "()Ljava/util/List;" } : Jvm.MethodName)) ∈ lw_all := lw_g (lw_at lw_m4 60 rfl) rfl
theorem q861 : (Jvm.Cond.instanceMethod ({ cls := "DebateHall$Reader", name := "read", desc := "()Ljava/util/List;" } : Jvm.MethodName)) ∈ lw_all := lw_g (lw_at lw_m4 61 rfl) rfl
theorem q862 : (Jvm.Cond.selects "DebateHall$Reader" ({ cls := "DebateHall$Reader", name := "read", desc := "()Ljava/util/List;" } : Jvm.MethodName) ({ cls := "DebateHall$Reader", name := "read", desc := "()Ljava/util/List;" } : Jvm.MethodName)) ∈ lw_all := lw_g (lw_at lw_m4 62 rfl) rfl
theorem q846 : (Jvm.Cond.methodLink "DebateHall" (94 : Nat) ({ cls := "DebateHall$Reader", name := "<init>", desc := "(Ljava/util/List;)V" } : Jvm.MethodName)) ∈ lw_all := lw_g (lw_at lw_m4 46 rfl) rfl
theorem q847 : (Jvm.Cond.instanceMethod ({ cls := "DebateHall$Reader", name := "<init>", desc := "(Ljava/util/List;)V" } : Jvm.MethodName)) ∈ lw_all := lw_g (lw_at lw_m4 47 rfl) rfl
theorem q338 : (Jvm.Cond.methodLink "DebateHall" (90 : Nat) ({ cls := "DebateHall$Scanner", name := "all", desc := "()Ljava/util/List;" } : Jvm.MethodName)) ∈ lw_all := lw_g (lw_at lw_m2 18 rfl) rfl
theorem q339 : (Jvm.Cond.instanceMethod ({ cls := "DebateHall$Scanner", name := "all", desc := "()Ljava/util/List;" } : Jvm.MethodName)) ∈ lw_all := lw_g (lw_at lw_m2 19 rfl) rfl
theorem q340 : (Jvm.Cond.selects "DebateHall$Scanner" ({ cls := "DebateHall$Scanner", name := "all", desc := "()Ljava/util/List;" } : Jvm.MethodName) ({ cls := "DebateHall$Scanner", name := "all", desc := "()Ljava/util/List;" } : Jvm.MethodName)) ∈ lw_all := lw_g (lw_at lw_m2 20 rfl) rfl
theorem q325 : (Jvm.Cond.methodLink "DebateHall" (87 : Nat) ({ cls := "DebateHall$Scanner", name := "<init>", desc := "(LDebateHall$Tape;)V" } : Jvm.MethodName)) ∈ lw_all := lw_g (lw_at lw_m2 5 rfl) rfl
theorem q326 : (Jvm.Cond.instanceMethod ({ cls := "DebateHall$Scanner", name := "<init>", desc := "(LDebateHall$Tape;)V" } : Jvm.MethodName)) ∈ lw_all := lw_g (lw_at lw_m2 6 rfl) rfl
theorem q932 : (Jvm.Cond.fieldLinkNest "DebateHall" (132 : Nat) "DebateHall$Fault" "error" "I" "DebateHall") ∈ lw_tbl := lw_at lw_m4 132 rfl
theorem q934 : (Jvm.Cond.fieldLinkNest "DebateHall" (135 : Nat) "DebateHall$Fault" "at" "I" "DebateHall") ∈ lw_tbl := lw_at lw_m4 134 rfl
theorem zp_1_1 : zz_pok [1] 1 := zz_pok1 (zR_1, zT_1, 2) (by decide) rfl rfl
theorem q1796 : (Jvm.Cond.classLink "DebateHall" (120 : Nat) "DebateHall$Line") ∈ lw_all := lw_g (lw_at lw_m8 36 rfl) rfl
theorem q2884 : (Jvm.Cond.castable "DebateHall$Seat" "DebateHall$Line") ∈ lw_tbl := lw_at lw_m12 164 rfl
theorem q2883 : (Jvm.Cond.castable "DebateHall$Claim" "DebateHall$Line") ∈ lw_tbl := lw_at lw_m12 163 rfl
theorem q2885 : (Jvm.Cond.castable "DebateHall$Thrust" "DebateHall$Line") ∈ lw_tbl := lw_at lw_m12 165 rfl
theorem q2886 : (Jvm.Cond.castable "DebateHall$Turn" "DebateHall$Line") ∈ lw_tbl := lw_at lw_m12 166 rfl
theorem zc_7_8_12_13_ebateHall_Line : zz_cok [7, 8, 12, 13] "DebateHall$Line" := by
  intro t ht
  simp only [List.mem_cons, List.not_mem_nil, or_false] at ht
  rcases ht with rfl | rfl | rfl | rfl
  · exact ⟨(zR_7, zT_7, 3), rfl, Or.inr q2884⟩
  · exact ⟨(zR_8, zT_8, 4), rfl, Or.inr q2883⟩
  · exact ⟨(zR_12, zT_12, 7), rfl, Or.inr q2885⟩
  · exact ⟨(zR_13, zT_13, 3), rfl, Or.inr q2886⟩
theorem q1869 : (Jvm.Cond.code ({ cls := "DebateHall$Seat", name := "carryOut", desc := "(LDebateHall$Minutes;)V" } : Jvm.MethodName) prog_15_method_2_code (2 : Nat) (Option.none : Option Jvm.ClassFile.FieldType)) ∈ lw_all := lw_g (lw_at lw_m8 109 rfl) rfl
theorem zk_X11_carryOut : zz_cd yX11_carryOut cX11_carryOut 2 none none ∈ lw_all := q1869
theorem zy_X11_carryOut : zz_yok yX11_carryOut 1 = true := by decide +kernel
theorem q1797 : (Jvm.Cond.methodLink "DebateHall" (122 : Nat) ({ cls := "DebateHall$Line", name := "carryOut", desc := "(LDebateHall$Minutes;)V" } : Jvm.MethodName)) ∈ lw_all := lw_g (lw_at lw_m8 37 rfl) rfl
theorem q1798 : (Jvm.Cond.declares ({ cls := "DebateHall$Line", name := "carryOut", desc := "(LDebateHall$Minutes;)V" } : Jvm.MethodName)) ∈ lw_tbl := lw_at lw_m8 38 rfl
theorem q1799 : (Jvm.Cond.sameMethod "DebateHall$Line" "DebateHall$Line" "carryOut" "(LDebateHall$Minutes;)V") ∈ lw_all := lw_g (lw_at lw_m8 39 rfl) rfl
theorem q1868 : (Jvm.Cond.instanceMethod ({ cls := "DebateHall$Seat", name := "carryOut", desc := "(LDebateHall$Minutes;)V" } : Jvm.MethodName)) ∈ lw_all := lw_g (lw_at lw_m8 108 rfl) rfl
theorem q1867 : (Jvm.Cond.selects "DebateHall$Seat" ({ cls := "DebateHall$Line", name := "carryOut", desc := "(LDebateHall$Minutes;)V" } : Jvm.MethodName) ({ cls := "DebateHall$Seat", name := "carryOut", desc := "(LDebateHall$Minutes;)V" } : Jvm.MethodName)) ∈ lw_all := lw_g (lw_at lw_m8 107 rfl) rfl
theorem zyo_DebateHall_Line_carryOut__LDebateHall_Minutes__V : zz_yok ⟨"DebateHall$Line", "carryOut", "(LDebateHall$Minutes;)V"⟩ 1 = true := by decide +kernel
theorem q1802 : (Jvm.Cond.code ({ cls := "DebateHall$Claim", name := "carryOut", desc := "(LDebateHall$Minutes;)V" } : Jvm.MethodName) prog_3_method_2_code (4 : Nat) (Option.none : Option Jvm.ClassFile.FieldType)) ∈ lw_all := lw_g (lw_at lw_m8 42 rfl) rfl
theorem zk_X12_carryOut : zz_cd yX12_carryOut cX12_carryOut 4 none none ∈ lw_all := q1802
theorem zy_X12_carryOut : zz_yok yX12_carryOut 1 = true := by decide +kernel
theorem q1801 : (Jvm.Cond.instanceMethod ({ cls := "DebateHall$Claim", name := "carryOut", desc := "(LDebateHall$Minutes;)V" } : Jvm.MethodName)) ∈ lw_all := lw_g (lw_at lw_m8 41 rfl) rfl
theorem q1800 : (Jvm.Cond.selects "DebateHall$Claim" ({ cls := "DebateHall$Line", name := "carryOut", desc := "(LDebateHall$Minutes;)V" } : Jvm.MethodName) ({ cls := "DebateHall$Claim", name := "carryOut", desc := "(LDebateHall$Minutes;)V" } : Jvm.MethodName)) ∈ lw_all := lw_g (lw_at lw_m8 40 rfl) rfl
theorem q1881 : (Jvm.Cond.code ({ cls := "DebateHall$Thrust", name := "carryOut", desc := "(LDebateHall$Minutes;)V" } : Jvm.MethodName) prog_21_method_2_code (5 : Nat) (Option.none : Option Jvm.ClassFile.FieldType)) ∈ lw_all := lw_g (lw_at lw_m8 121 rfl) rfl
theorem zk_X17_carryOut : zz_cd yX17_carryOut cX17_carryOut 5 none none ∈ lw_all := q1881
theorem zy_X17_carryOut : zz_yok yX17_carryOut 1 = true := by decide +kernel
theorem q1880 : (Jvm.Cond.instanceMethod ({ cls := "DebateHall$Thrust", name := "carryOut", desc := "(LDebateHall$Minutes;)V" } : Jvm.MethodName)) ∈ lw_all := lw_g (lw_at lw_m8 120 rfl) rfl
theorem q1879 : (Jvm.Cond.selects "DebateHall$Thrust" ({ cls := "DebateHall$Line", name := "carryOut", desc := "(LDebateHall$Minutes;)V" } : Jvm.MethodName) ({ cls := "DebateHall$Thrust", name := "carryOut", desc := "(LDebateHall$Minutes;)V" } : Jvm.MethodName)) ∈ lw_all := lw_g (lw_at lw_m8 119 rfl) rfl
theorem q2000 : (Jvm.Cond.code ({ cls := "DebateHall$Turn", name := "carryOut", desc := "(LDebateHall$Minutes;)V" } : Jvm.MethodName) prog_23_method_2_code (3 : Nat) (Option.none : Option Jvm.ClassFile.FieldType)) ∈ lw_all := lw_g (lw_at lw_m9 0 rfl) rfl
theorem zk_X18_carryOut : zz_cd yX18_carryOut cX18_carryOut 3 none none ∈ lw_all := q2000
theorem zy_X18_carryOut : zz_yok yX18_carryOut 1 = true := by decide +kernel
theorem q1999 : (Jvm.Cond.instanceMethod ({ cls := "DebateHall$Turn", name := "carryOut", desc := "(LDebateHall$Minutes;)V" } : Jvm.MethodName)) ∈ lw_all := lw_g (lw_at lw_m8 239 rfl) rfl
theorem q1998 : (Jvm.Cond.selects "DebateHall$Turn" ({ cls := "DebateHall$Line", name := "carryOut", desc := "(LDebateHall$Minutes;)V" } : Jvm.MethodName) ({ cls := "DebateHall$Turn", name := "carryOut", desc := "(LDebateHall$Minutes;)V" } : Jvm.MethodName)) ∈ lw_all := lw_g (lw_at lw_m8 238 rfl) rfl
def wp_X1_tell_B76 (Z : zzG) (k48 : Option Nat → Int32 → Option Nat → Option Nat → zzM → Nat → Nat → Prop) (K : Option Value → zzM → Prop) (v0 : Option Nat) (v1 : Int32) (v3 : Option Nat) (v4 : Option Nat) (M : zzM) (bc bs : Nat) : Prop := k48 v0 v1 v3 v4 M bc bs
def wp_X1_tell_B105 (Z : zzG) (K : Option Value → zzM → Prop) (v0 : Option Nat) (v1 : Int32) (M : zzM) (bc bs : Nat) : Prop := zgA Z M v0 [0] 0 fun x47 => zput Z M x47 [1] 1 (.int (0 : Int32)) fun M48 => K (some (.int v1)) M48
def wp_X1_tell_B91 (Z : zzG) (K : Option Value → zzM → Prop) (v0 : Option Nat) (s0 : Option Nat) (M : zzM) (bc bs : Nat) : Prop := zgI Z M s0 [6] 0 fun x44 => zgI Z M s0 [6] 1 fun x45 => zput Z M v0 [0] 1 (.int x45) fun M46 => wp_X1_tell_B105 Z K v0 x44 M46 bc bs
def wp_X1_tell_L48 (Z : zzG) (K : Option Value → zzM → Prop) : Nat → Option Nat → Int32 → Option Nat → Option Nat → zzM → Nat → Nat → Prop
  | 0, _, _, _, _, _, _, _ => False
  | n + 1, v0, v1, v3, v4, M, bc, bs => zty Z M v4 fun t => t = 23 ∧ wp_J24_hasNext Z v4 M (fun r49 M50 => zrI r49 fun x53 => if x53 = 0 then (zty Z M50 v3 fun t => t = 2 ∧ wp_X3_settle Z v3 none M50 (fun r54 M55 => zrA r54 fun x58 => zput Z M55 v0 [0] 2 (va_rf x58) fun M59 => wp_X1_tell_B105 Z K v0 v1 M59 bc bs)) else (zty Z M50 v4 fun t => t = 23 ∧ wp_J24_next Z v4 M50 (fun r60 M61 => zrA r60 fun x64 => zcast Z M61 x64 [7, 8, 12, 13] <| zty Z M61 x64 fun t => if t = 7 then (zcx bc bs (fun c s k x => wp_X11_carryOut Z x64 v3 M61 c s k x) (fun r65 M66 bc67 bs68 => zrV r65 (wp_X1_tell_B76 Z (wp_X1_tell_L48 Z K n) K v0 v1 v3 v4 M66 bc67 bs68)) (fun t q69 M70 bc71 bs72 => if t = 6 then (wp_X1_tell_B91 Z K v0 (some q69) M70 bc71 bs72) else False)) else if t = 8 then (zcx bc bs (fun c s k x => wp_X12_carryOut Z x64 v3 M61 c s k x) (fun r73 M74 bc75 bs76 => zrV r73 (wp_X1_tell_B76 Z (wp_X1_tell_L48 Z K n) K v0 v1 v3 v4 M74 bc75 bs76)) (fun t q77 M78 bc79 bs80 => if t = 6 then (wp_X1_tell_B91 Z K v0 (some q77) M78 bc79 bs80) else False)) else if t = 12 then (zcx bc bs (fun c s k x => wp_X17_carryOut Z x64 v3 M61 c s k x) (fun r81 M82 bc83 bs84 => zrV r81 (wp_X1_tell_B76 Z (wp_X1_tell_L48 Z K n) K v0 v1 v3 v4 M82 bc83 bs84)) (fun t q85 M86 bc87 bs88 => if t = 6 then (wp_X1_tell_B91 Z K v0 (some q85) M86 bc87 bs88) else False)) else if t = 13 then (zcx bc bs (fun c s k x => wp_X18_carryOut Z x64 v3 M61 c s k x) (fun r89 M90 bc91 bs92 => zrV r89 (wp_X1_tell_B76 Z (wp_X1_tell_L48 Z K n) K v0 v1 v3 v4 M90 bc91 bs92)) (fun t q93 M94 bc95 bs96 => if t = 6 then (wp_X1_tell_B91 Z K v0 (some q93) M94 bc95 bs96) else False)) else False)))
def wp_X1_tell (Z : zzG) (this : Option Nat) (M : zzM) (bc bs : Nat) (K : Option Value → zzM → Prop) : Prop := zput Z M this [0] 1 (.int (-1 : Int32)) fun M1 => znew Z M1 bc bs 3 3 [.null, .int 0, .int 0] fun q2 M3 bc4 bs5 => znew Z M3 bc4 bs5 4 2 [.null, .null] fun q6 M7 bc8 bs9 => zgA Z M7 this [0] 0 fun x10 => zcc bc8 bs9 (fun c s k => wp_X7_init Z (some q6) x10 M7 c s k) fun r11 M12 bc13 bs14 => zrV r11 (zty Z M12 (some q6) fun t => t = 4 ∧ zcc bc13 bs14 (fun c s k => wp_X7_all Z (some q6) M12 c s k) fun r15 M16 bc17 bs18 => zrA r15 fun x19 => wp_X6_init Z (some q2) x19 M16 (fun r20 M21 => zrV r20 (zty Z M21 (some q2) fun t => t = 3 ∧ zcx bc17 bs18 (fun c s k x => wp_X6_read Z (some q2) M21 c s k x) (fun r24 M25 bc26 bs27 => zrA r24 fun x28 => zgA Z M25 this [0] 2 fun x29 => zty Z M25 x29 fun t => t = 2 ∧ zcc bc26 bs27 (fun c s k => wp_X3_copy Z x29 M25 c s k) fun r30 M31 bc32 bs33 => zrA r30 fun x34 => zty Z M31 x28 fun t => t = 18 ∧ zcc bc32 bs33 (fun c s k => wp_J2_iterator Z x28 M31 c s k) fun r35 M36 bc37 bs38 => zrA r35 fun x39 => ∃ n48 : Nat, wp_X1_tell_L48 Z K n48 this (0 : Int32) x34 x39 M36 bc37 bs38) (fun t q40 M41 bc42 bs43 => if t = 6 then (wp_X1_tell_B91 Z K this (some q40) M41 bc42 bs43) else False))))
theorem ok_X1_tell_B76 {G : zzX} (C : zz_C G cX1_tell "DebateHall" 6) {K : Option Value → zzM → Prop} (E : zz_E G (some .int) K (fun _ _ _ => False)) (hH : zz_H G [(7, 88, 91, 130)]) (hR : zz_Rm G 138) {k48 : Option Nat → Int32 → Option Nat → Option Nat → zzM → Nat → Nat → Prop} (hk48 : ∀ (z0 : Option Nat) (z1 : Int32) (z2 : Option Nat) (z3 : Option Nat) (M : zzM) (bc bs : Nat), k48 z0 z1 z2 z3 M bc bs → zz_T G 6 M bc bs 48 [(0, va_rf z0), (1, .int z1), (3, va_rf z2), (4, va_rf z3)] []) {v0 : Option Nat} {v1 : Int32} {v3 : Option Nat} {v4 : Option Nat} {M : zzM} {bc bs : Nat} (hw : wp_X1_tell_B76 (zz_Zof G) k48 K v0 v1 v3 v4 M bc bs) : zz_T G 6 M bc bs 76 [(0, va_rf v0), (1, .int v1), (3, va_rf v3), (4, va_rf v4)] [] := by
  unfold wp_X1_tell_B76 at hw
  refine zz_goto (tgt := 48) C dX1_tell_76 (by decide) ?_
  refine zz_subP [0, 1, 2, 3] rfl ?_
  exact hk48 _ _ _ _ _ _ _ hw
theorem ok_X1_tell_B105 {G : zzX} (C : zz_C G cX1_tell "DebateHall" 6) {K : Option Value → zzM → Prop} (E : zz_E G (some .int) K (fun _ _ _ => False)) (hH : zz_H G [(7, 88, 91, 130)]) (hR : zz_Rm G 138) {v0 : Option Nat} {v1 : Int32} {M : zzM} {bc bs : Nat} (hw : wp_X1_tell_B105 (zz_Zof G) K v0 v1 M bc bs) : zz_T G 6 M bc bs 105 [(0, va_rf v0), (1, .int v1)] [] := by
  unfold wp_X1_tell_B105 at hw
  refine zz_aload_n C dX1_tell_105 rfl 0 rfl ?_
  refine zz_getA C dX1_tell_106 (Or.inl q303) zf_0_0_DebateHall hw (fun x47 hw => ?_)
  refine zz_iconst (v := (0 : Int32)) C dX1_tell_109 (by decide) ?_
  refine zz_put C dX1_tell_110 (Or.inr ⟨_, q157⟩) zf_1_1_ebateHall_Tape zp_1_1 (zz_hn1 ⟨rfl, rfl⟩) hw (fun M48 hw => ?_)
  refine zz_iload_n C dX1_tell_113 rfl 1 rfl ?_
  exact zz_iret C E dX1_tell_114 hw
theorem ok_X1_tell_B91 {G : zzX} (C : zz_C G cX1_tell "DebateHall" 6) {K : Option Value → zzM → Prop} (E : zz_E G (some .int) K (fun _ _ _ => False)) (hH : zz_H G [(7, 88, 91, 130)]) (hR : zz_Rm G 138) {v0 : Option Nat} {s0 : Option Nat} {M : zzM} {bc bs : Nat} (hw : wp_X1_tell_B91 (zz_Zof G) K v0 s0 M bc bs) : zz_T G 6 M bc bs 91 [(0, va_rf v0)] [va_rf s0] := by
  unfold wp_X1_tell_B91 at hw
  refine zz_astore_n (i := 2) (lv' := [(2, va_rf s0), (0, va_rf v0)]) C dX1_tell_91 rfl (by decide) rfl ?_
  refine zz_aload_n C dX1_tell_92 rfl 0 rfl ?_
  refine zz_getI C dX1_tell_93 (Or.inr ⟨_, q932⟩) zf_6_0_bateHall_Fault hw (fun x44 hw => ?_)
  refine zz_istore_n (i := 1) (lv' := [(1, .int x44), (2, va_rf s0), (0, va_rf v0)]) C dX1_tell_96 rfl (by decide) (by simp [zz_cat, zz_catI, zz_catJ, zz_catD]) ?_
  refine zz_aload_n C dX1_tell_97 rfl 2 rfl ?_
  refine zz_aload_n C dX1_tell_98 rfl 1 rfl ?_
  refine zz_getI C dX1_tell_99 (Or.inr ⟨_, q934⟩) zf_6_1_bateHall_Fault hw (fun x45 hw => ?_)
  refine zz_put C dX1_tell_102 (Or.inl q304) zf_0_1_DebateHall zp_0_1 (zz_hn1 ⟨rfl, rfl⟩) hw (fun M46 hw => ?_)
  refine zz_subP [2, 0] rfl ?_
  exact ok_X1_tell_B105 C E hH hR hw
theorem ok_X1_tell_L48 {G : zzX} (C : zz_C G cX1_tell "DebateHall" 6) {K : Option Value → zzM → Prop} (E : zz_E G (some .int) K (fun _ _ _ => False)) (hH : zz_H G [(7, 88, 91, 130)]) (hR : zz_Rm G 138) : ∀ (n : Nat) (v0 : Option Nat) (v1 : Int32) (v3 : Option Nat) (v4 : Option Nat) (M : zzM) (bc bs : Nat), wp_X1_tell_L48 (zz_Zof G) K n v0 v1 v3 v4 M bc bs → zz_T G 6 M bc bs 48 [(0, va_rf v0), (1, .int v1), (3, va_rf v3), (4, va_rf v4)] [] := by
  intro n
  induction n with
  | zero =>
    intro v0 v1 v3 v4 M bc bs hw
    exact False.elim hw
  | succ n ih =>
    intro v0 v1 v3 v4 M bc bs hw
    refine zz_aload C dX1_tell_48 3 rfl ?_
    obtain ⟨a9, t9, b9, fs9, hro, hL, rfl, hw⟩ := ztyS hw
    refine zz_callF (r := (zR_23, zT_23, 4)) (x := ⟨"java/util/Iterator", "hasNext", "()Z"⟩) (As := []) (rest := []) (mc := 0) (ms := 0) C hR hro dX1_tell_50 q1793 (by decide +kernel) q1174 q1172 zl_java_util_ArrayList_Itr zk_J24_hasNext zyo_java_util_Iterator_hasNext___Z rfl (by decide) (by decide) hL (ok_J24_hasNext (zz_hl C) hw) (Nat.zero_le _) (Nat.zero_le _) (zz_cat10 _ (Nat.le_of_ble_eq_true rfl)) (fun r49 M50 hw => zz_kI hw (fun x53 hw => ?_)) (fun _ _ _ h9 => h9.elim) rfl
    refine zz_if_eq (tgt := 79) C dX1_tell_55 (by decide) hw (fun hw => ?_) (fun hw => ?_)
    · refine zz_aload_n C dX1_tell_79 rfl 0 rfl ?_
      refine zz_aload_n C dX1_tell_80 rfl 2 rfl ?_
      refine zz_null C dX1_tell_81 ?_
      obtain ⟨a9, t9, b9, fs9, hro, hL, rfl, hw⟩ := ztyS hw
      refine zz_callV (r := (zR_2, zT_2, 8)) (As := [va_rf none]) (rest := [va_rf v0]) (mc := 0) (ms := 0) C hR hro dX1_tell_82 (Or.inl q2008) q1930 (Or.inl q1931) zl_DebateHall_Minutes zk_X3_settle (Or.inl rfl) zy_X3_settle rfl (by decide) (by decide) hL (ok_X3_settle (zz_hl C) hw) (Nat.zero_le _) (Nat.zero_le _) (zz_cat10 _ (Nat.le_of_ble_eq_true rfl)) (fun r54 M55 hw => zz_kA hw (fun x58 hw => ?_)) (fun _ _ _ h9 => h9.elim) rfl
      refine zz_put C dX1_tell_85 (Or.inl q305) zf_0_2_DebateHall zp_0_2 (zz_hn1 (zz_nA _ rfl x58)) hw (fun M59 hw => ?_)
      refine zz_goto (tgt := 105) C dX1_tell_88 (by decide) ?_
      refine zz_subP [0, 1] rfl ?_
      exact ok_X1_tell_B105 C E hH hR hw
    · refine zz_aload C dX1_tell_58 3 rfl ?_
      obtain ⟨a9, t9, b9, fs9, hro, hL, rfl, hw⟩ := ztyS hw
      refine zz_callF (r := (zR_23, zT_23, 4)) (x := ⟨"java/util/Iterator", "next", "()Ljava/lang/Object;"⟩) (As := []) (rest := []) (mc := 0) (ms := 0) C hR hro dX1_tell_60 q1795 (by decide +kernel) q1183 q1181 zl_java_util_ArrayList_Itr zk_J24_next zyo_java_util_Iterator_next___Ljava_lang_Object_ rfl (by decide) (by decide) hL (ok_J24_next (zz_hl C) hw) (Nat.zero_le _) (Nat.zero_le _) (zz_cat10 _ (Nat.le_of_ble_eq_true rfl)) (fun r60 M61 hw => zz_kA hw (fun x64 hw => ?_)) (fun _ _ _ h9 => h9.elim) rfl
      refine zz_cast C dX1_tell_65 q1796 zc_7_8_12_13_ebateHall_Line hw (fun hw => ?_)
      refine zz_astore (lv' := [(5, va_rf x64), (0, va_rf v0), (1, .int v1), (3, va_rf v3), (4, va_rf v4)]) C dX1_tell_68 (by decide) (by simp [zz_cat, zz_catI, zz_catJ, zz_catD]) ?_
      refine zz_aload C dX1_tell_70 0 rfl ?_
      refine zz_aload_n C dX1_tell_72 rfl 3 rfl ?_
      obtain ⟨a9, t9, b9, fs9, hro, hL, hw⟩ := ztyS hw
      by_cases e7 : t9 = 7
      · replace hw := zz_ifp e7 hw
        subst e7
        obtain ⟨c9, s9, hc9, hs9, hw⟩ := hw
        refine zz_callU (r := (zR_7, zT_7, 3)) (x := ⟨"DebateHall$Line", "carryOut", "(LDebateHall$Minutes;)V"⟩) (owner := "DebateHall$Line") (As := [va_rf v3]) (rest := []) C hR hro dX1_tell_73 q1797 q1799 (Or.inl q1798) q1868 q1867 zl_DebateHall_Seat zk_X11_carryOut zyo_DebateHall_Line_carryOut__LDebateHall_Minutes__V rfl (by decide) (by decide) hL (ok_X11_carryOut (zz_hl C) hw) hc9 hs9 (zz_cat10 _ (Nat.le_of_ble_eq_true rfl)) (fun r65 M66 hw => zz_kV hw (fun hw => ?_)) (fun t9 q69 M70 hw => ?_) rfl
        · refine zz_subP [1, 2, 3, 4] rfl ?_
          exact ok_X1_tell_B76 C E hH hR (fun z0 z1 z2 z3 z4 z5 z6 hw => ih z0 z1 z2 z3 z4 z5 z6 hw) hw
        · by_cases e6 : t9 = 6
          · replace hw := zz_ifp e6 hw
            subst e6
            refine zz_catch (r := (zR_6, zT_6, 8)) C hH rfl [] (7, 88, 91, 130) [] rfl (fun _ h9 => absurd h9 List.not_mem_nil) rfl (by decide) q320 q917 ?_
            refine zz_subP [1] rfl ?_
            exact ok_X1_tell_B91 C E hH hR hw
          · replace hw := zz_ifn e6 hw
            exact hw.elim
      · replace hw := zz_ifn e7 hw
        by_cases e8 : t9 = 8
        · replace hw := zz_ifp e8 hw
          subst e8
          obtain ⟨c9, s9, hc9, hs9, hw⟩ := hw
          refine zz_callU (r := (zR_8, zT_8, 4)) (x := ⟨"DebateHall$Line", "carryOut", "(LDebateHall$Minutes;)V"⟩) (owner := "DebateHall$Line") (As := [va_rf v3]) (rest := []) C hR hro dX1_tell_73 q1797 q1799 (Or.inl q1798) q1801 q1800 zl_DebateHall_Claim zk_X12_carryOut zyo_DebateHall_Line_carryOut__LDebateHall_Minutes__V rfl (by decide) (by decide) hL (ok_X12_carryOut (zz_hl C) hw) hc9 hs9 (zz_cat10 _ (Nat.le_of_ble_eq_true rfl)) (fun r73 M74 hw => zz_kV hw (fun hw => ?_)) (fun t9 q77 M78 hw => ?_) rfl
          · refine zz_subP [1, 2, 3, 4] rfl ?_
            exact ok_X1_tell_B76 C E hH hR (fun z0 z1 z2 z3 z4 z5 z6 hw => ih z0 z1 z2 z3 z4 z5 z6 hw) hw
          · by_cases e6 : t9 = 6
            · replace hw := zz_ifp e6 hw
              subst e6
              refine zz_catch (r := (zR_6, zT_6, 8)) C hH rfl [] (7, 88, 91, 130) [] rfl (fun _ h9 => absurd h9 List.not_mem_nil) rfl (by decide) q320 q917 ?_
              refine zz_subP [1] rfl ?_
              exact ok_X1_tell_B91 C E hH hR hw
            · replace hw := zz_ifn e6 hw
              exact hw.elim
        · replace hw := zz_ifn e8 hw
          by_cases e12 : t9 = 12
          · replace hw := zz_ifp e12 hw
            subst e12
            obtain ⟨c9, s9, hc9, hs9, hw⟩ := hw
            refine zz_callU (r := (zR_12, zT_12, 7)) (x := ⟨"DebateHall$Line", "carryOut", "(LDebateHall$Minutes;)V"⟩) (owner := "DebateHall$Line") (As := [va_rf v3]) (rest := []) C hR hro dX1_tell_73 q1797 q1799 (Or.inl q1798) q1880 q1879 zl_DebateHall_Thrust zk_X17_carryOut zyo_DebateHall_Line_carryOut__LDebateHall_Minutes__V rfl (by decide) (by decide) hL (ok_X17_carryOut (zz_hl C) hw) hc9 hs9 (zz_cat10 _ (Nat.le_of_ble_eq_true rfl)) (fun r81 M82 hw => zz_kV hw (fun hw => ?_)) (fun t9 q85 M86 hw => ?_) rfl
            · refine zz_subP [1, 2, 3, 4] rfl ?_
              exact ok_X1_tell_B76 C E hH hR (fun z0 z1 z2 z3 z4 z5 z6 hw => ih z0 z1 z2 z3 z4 z5 z6 hw) hw
            · by_cases e6 : t9 = 6
              · replace hw := zz_ifp e6 hw
                subst e6
                refine zz_catch (r := (zR_6, zT_6, 8)) C hH rfl [] (7, 88, 91, 130) [] rfl (fun _ h9 => absurd h9 List.not_mem_nil) rfl (by decide) q320 q917 ?_
                refine zz_subP [1] rfl ?_
                exact ok_X1_tell_B91 C E hH hR hw
              · replace hw := zz_ifn e6 hw
                exact hw.elim
          · replace hw := zz_ifn e12 hw
            by_cases e13 : t9 = 13
            · replace hw := zz_ifp e13 hw
              subst e13
              obtain ⟨c9, s9, hc9, hs9, hw⟩ := hw
              refine zz_callU (r := (zR_13, zT_13, 3)) (x := ⟨"DebateHall$Line", "carryOut", "(LDebateHall$Minutes;)V"⟩) (owner := "DebateHall$Line") (As := [va_rf v3]) (rest := []) C hR hro dX1_tell_73 q1797 q1799 (Or.inl q1798) q1999 q1998 zl_DebateHall_Turn zk_X18_carryOut zyo_DebateHall_Line_carryOut__LDebateHall_Minutes__V rfl (by decide) (by decide) hL (ok_X18_carryOut (zz_hl C) hw) hc9 hs9 (zz_cat10 _ (Nat.le_of_ble_eq_true rfl)) (fun r89 M90 hw => zz_kV hw (fun hw => ?_)) (fun t9 q93 M94 hw => ?_) rfl
              · refine zz_subP [1, 2, 3, 4] rfl ?_
                exact ok_X1_tell_B76 C E hH hR (fun z0 z1 z2 z3 z4 z5 z6 hw => ih z0 z1 z2 z3 z4 z5 z6 hw) hw
              · by_cases e6 : t9 = 6
                · replace hw := zz_ifp e6 hw
                  subst e6
                  refine zz_catch (r := (zR_6, zT_6, 8)) C hH rfl [] (7, 88, 91, 130) [] rfl (fun _ h9 => absurd h9 List.not_mem_nil) rfl (by decide) q320 q917 ?_
                  refine zz_subP [1] rfl ?_
                  exact ok_X1_tell_B91 C E hH hR hw
                · replace hw := zz_ifn e6 hw
                  exact hw.elim
            · replace hw := zz_ifn e13 hw
              exact hw.elim
theorem ok_X1_tell {Z : zzG} {l : Launch} (hl : l.stackTraces = false) {this : Option Nat} {M : zzM} {mc ms : Nat} {K : Option Value → zzM → Prop} (hw : wp_X1_tell Z this M mc ms K) : zz_Met Z l yX1_tell (zz_ws yX1_tell cX1_tell 6 (some .int) (some [(7, 88, 91, 130)])) 138 [va_rf this] M mc ms K (fun _ _ _ => False) := by
  refine zz_ofW hl (plainFor_of_name (by decide)) (by simp only [zz_sl0, zz_slI, zz_slJ, zz_slA] <;> decide) (fun G hZ hll C E hH hR hin => ?_)
  subst hZ
  subst hll
  rw [show lv_args 0 [va_rf this] = [(0, va_rf this)] by simp only [zz_la0, zz_laI, zz_laJ, zz_laA]]
  unfold wp_X1_tell at hw
  refine zz_iconst (v := (0 : Int32)) C dX1_tell_0 (by decide) ?_
  refine zz_istore_n (i := 1) (lv' := [(1, .int (0 : Int32)), (0, va_rf this)]) C dX1_tell_1 rfl (by decide) (by simp [zz_cat, zz_catI, zz_catJ, zz_catD]) ?_
  refine zz_aload_n C dX1_tell_2 rfl 1 rfl ?_
  refine zz_iconst (v := (-1 : Int32)) C dX1_tell_3 (by decide) ?_
  refine zz_put C dX1_tell_4 (Or.inl q304) zf_0_1_DebateHall zp_0_1 (zz_hn1 ⟨rfl, rfl⟩) hw (fun M1 hw => ?_)
  refine zz_new (r := (zR_3, zT_3, 3)) C dX1_tell_7 rfl (by decide) q321 q322 zl_DebateHall_Reader rfl hw (fun q2 M3 bc4 bs5 hw => ?_)
  refine zz_dup C dX1_tell_10 (zz_cat _) ?_
  refine zz_new (r := (zR_4, zT_4, 2)) C dX1_tell_11 rfl (by decide) q323 q324 zl_DebateHall_Scanner rfl hw (fun q6 M7 bc8 bs9 hw => ?_)
  refine zz_dup C dX1_tell_14 (zz_cat _) ?_
  refine zz_aload_n C dX1_tell_15 rfl 1 rfl ?_
  refine zz_getA C dX1_tell_16 (Or.inl q303) zf_0_0_DebateHall hw (fun x10 hw => ?_)
  obtain ⟨c9, s9, hc9, hs9, hw⟩ := hw
  refine zz_callI (As := [va_rf x10]) (rest := [va_rf (some q6), va_rf (some q2), va_rf (some q2)]) C hR rfl dX1_tell_19 (Or.inl q325) q326 zl_DebateHall_Scanner zk_X7_init rfl zy_X7_init (by decide) (by decide) (ok_X7_init (zz_hl C) hw) hc9 hs9 (zz_cat10 _ (Nat.le_of_ble_eq_true rfl)) (fun r11 M12 hw => zz_kV hw (fun hw => ?_)) (fun _ _ _ h9 => h9.elim) rfl
  obtain ⟨a9, t9, b9, fs9, hro, hL, rfl, hw⟩ := ztyS hw
  obtain ⟨c9, s9, hc9, hs9, hw⟩ := hw
  refine zz_callV (r := (zR_4, zT_4, 2)) (As := []) (rest := [va_rf (some q2), va_rf (some q2)]) C hR hro dX1_tell_22 (Or.inl q338) q339 (Or.inl q340) zl_DebateHall_Scanner zk_X7_all (Or.inl rfl) zy_X7_all rfl (by decide) (by decide) hL (ok_X7_all (zz_hl C) hw) hc9 hs9 (zz_cat10 _ (Nat.le_of_ble_eq_true rfl)) (fun r15 M16 hw => zz_kA hw (fun x19 hw => ?_)) (fun _ _ _ h9 => h9.elim) rfl
  refine zz_callI (As := [va_rf x19]) (rest := [va_rf (some q2)]) (mc := 0) (ms := 0) C hR rfl dX1_tell_25 (Or.inl q846) q847 zl_DebateHall_Reader zk_X6_init rfl zy_X6_init (by decide) (by decide) (ok_X6_init (zz_hl C) hw) (Nat.zero_le _) (Nat.zero_le _) (zz_cat10 _ (Nat.le_of_ble_eq_true rfl)) (fun r20 M21 hw => zz_kV hw (fun hw => ?_)) (fun _ _ _ h9 => h9.elim) rfl
  obtain ⟨a9, t9, b9, fs9, hro, hL, rfl, hw⟩ := ztyS hw
  obtain ⟨c9, s9, hc9, hs9, hw⟩ := hw
  refine zz_callV (r := (zR_3, zT_3, 3)) (As := []) (rest := []) C hR hro dX1_tell_28 (Or.inl q860) q861 (Or.inl q862) zl_DebateHall_Reader zk_X6_read (Or.inl rfl) zy_X6_read rfl (by decide) (by decide) hL (ok_X6_read (zz_hl C) hw) hc9 hs9 (zz_cat10 _ (Nat.le_of_ble_eq_true rfl)) (fun r24 M25 hw => zz_kA hw (fun x28 hw => ?_)) (fun t9 q40 M41 hw => ?_) rfl
  · refine zz_astore_n (i := 2) (lv' := [(2, va_rf x28), (1, .int (0 : Int32)), (0, va_rf this)]) C dX1_tell_31 rfl (by decide) rfl ?_
    refine zz_aload_n C dX1_tell_32 rfl 2 rfl ?_
    refine zz_getA C dX1_tell_33 (Or.inl q305) zf_0_2_DebateHall hw (fun x29 hw => ?_)
    obtain ⟨a9, t9, b9, fs9, hro, hL, rfl, hw⟩ := ztyS hw
    obtain ⟨c9, s9, hc9, hs9, hw⟩ := hw
    refine zz_callV (r := (zR_2, zT_2, 8)) (As := []) (rest := []) C hR hro dX1_tell_36 (Or.inl q1138) q1139 (Or.inl q1140) zl_DebateHall_Minutes zk_X3_copy (Or.inl rfl) zy_X3_copy rfl (by decide) (by decide) hL (ok_X3_copy (zz_hl C) hw) hc9 hs9 (zz_cat10 _ (Nat.le_of_ble_eq_true rfl)) (fun r30 M31 hw => zz_kA hw (fun x34 hw => ?_)) (fun _ _ _ h9 => h9.elim) rfl
    refine zz_astore_n (i := 3) (lv' := [(3, va_rf x34), (2, va_rf x28), (1, .int (0 : Int32)), (0, va_rf this)]) C dX1_tell_39 rfl (by decide) (by simp [zz_cat, zz_catI, zz_catJ, zz_catD]) ?_
    refine zz_aload_n C dX1_tell_40 rfl 1 rfl ?_
    obtain ⟨a9, t9, b9, fs9, hro, hL, rfl, hw⟩ := ztyS hw
    obtain ⟨c9, s9, hc9, hs9, hw⟩ := hw
    refine zz_callF (r := (zR_18, zT_18, 3)) (x := ⟨"java/util/List", "iterator", "()Ljava/util/Iterator;"⟩) (As := []) (rest := []) C hR hro dX1_tell_41 q1786 (by decide +kernel) q1145 q1789 zl_java_util_ArrayList zk_J2_iterator zyo_java_util_List_iterator___Ljava_util_Iterator_ rfl (by decide) (by decide) hL (ok_J2_iterator (zz_hl C) hw) hc9 hs9 (zz_cat10 _ (Nat.le_of_ble_eq_true rfl)) (fun r35 M36 hw => zz_kA hw (fun x39 hw => ?_)) (fun _ _ _ h9 => h9.elim) rfl
    refine zz_astore (lv' := [(4, va_rf x39), (3, va_rf x34), (2, va_rf x28), (1, .int (0 : Int32)), (0, va_rf this)]) C dX1_tell_46 (by decide) (by simp [zz_cat, zz_catI, zz_catJ, zz_catD]) ?_
    refine zz_subP [4, 3, 1, 0] rfl ?_
    obtain ⟨n48, hw⟩ := hw
    exact ok_X1_tell_L48 C E hH hR n48 _ _ _ _ _ _ _ hw
  · by_cases e6 : t9 = 6
    · replace hw := zz_ifp e6 hw
      subst e6
      refine zz_catch (r := (zR_6, zT_6, 8)) C hH rfl [] (7, 88, 91, 130) [] rfl (fun _ h9 => absurd h9 List.not_mem_nil) rfl (by decide) q320 q917 ?_
      refine zz_subP [1] rfl ?_
      exact ok_X1_tell_B91 C E hH hR hw
    · replace hw := zz_ifn e6 hw
      exact hw.elim
abbrev cX4_token : ByteArray := prog_25_method_16_code
def yX4_token : MethodName := ⟨"DebateHallModel", "token", "(IIJ)V"⟩
def dkwX4_token_2 : List UInt8 := [80, 42, 89, 180, 0, 142, 4, 96, 181, 0, 142, 177]
abbrev dktX4_token_2 : List UInt8 := dkwX4_token_2 ++ []
def dkwX4_token_1 : List UInt8 := [167, 0, 4, 27, 79, 42, 180, 0, 37, 42, 180, 0, 142, 28, 79, 42, 180, 0, 40, 42, 180, 0, 142, 33]
abbrev dktX4_token_1 : List UInt8 := dkwX4_token_1 ++ dktX4_token_2
def dkwX4_token_0 : List UInt8 := [42, 180, 0, 34, 42, 180, 0, 142, 42, 180, 0, 142, 17, 1, 144, 160, 0, 11, 27, 153, 0, 7, 4]
abbrev dktX4_token_0 : List UInt8 := dkwX4_token_0 ++ dktX4_token_1
theorem dksX4_token_0 : cX4_token.data.toList.drop 0 = dktX4_token_0 := by decide +kernel
theorem dksX4_token_1 : cX4_token.data.toList.drop 23 = dktX4_token_1 := dk_seg dksX4_token_0 23 rfl rfl
theorem dksX4_token_2 : cX4_token.data.toList.drop 47 = dktX4_token_2 := dk_seg dksX4_token_1 24 rfl rfl
theorem dX4_token_0 : decode cX4_token 0 = .ok (.aload_n 0, 1) := dk_42 (dk_at dksX4_token_0 0 rfl rfl)
theorem dX4_token_1 : decode cX4_token 1 = .ok (.getfield 34, 3) := dk_180 0 34 (dk_at dksX4_token_0 1 rfl rfl)
theorem dX4_token_4 : decode cX4_token 4 = .ok (.aload_n 0, 1) := dk_42 (dk_at dksX4_token_0 4 rfl rfl)
theorem dX4_token_5 : decode cX4_token 5 = .ok (.getfield 142, 3) := dk_180 0 142 (dk_at dksX4_token_0 5 rfl rfl)
theorem dX4_token_8 : decode cX4_token 8 = .ok (.aload_n 0, 1) := dk_42 (dk_at dksX4_token_0 8 rfl rfl)
theorem dX4_token_9 : decode cX4_token 9 = .ok (.getfield 142, 3) := dk_180 0 142 (dk_at dksX4_token_0 9 rfl rfl)
theorem dX4_token_12 : decode cX4_token 12 = .ok (.sipush 400, 3) := dk_17 1 144 (dk_at dksX4_token_0 12 rfl rfl)
theorem dX4_token_15 : decode cX4_token 15 = .ok (.if_icmp .ne 11, 3) := dk_160 0 11 (dk_at dksX4_token_0 15 rfl rfl)
theorem dX4_token_18 : decode cX4_token 18 = .ok (.iload_n 1, 1) := dk_27 (dk_at dksX4_token_0 18 rfl rfl)
theorem dX4_token_19 : decode cX4_token 19 = .ok (.ifCond .eq 7, 3) := dk_153 0 7 (dk_at dksX4_token_0 19 rfl rfl)
theorem dX4_token_22 : decode cX4_token 22 = .ok (.iconst 1, 1) := dk_4 (dk_at dksX4_token_0 22 rfl rfl)
theorem dX4_token_23 : decode cX4_token 23 = .ok (.goto 4, 3) := dk_167 0 4 (dk_at dksX4_token_1 0 rfl rfl)
theorem dX4_token_26 : decode cX4_token 26 = .ok (.iload_n 1, 1) := dk_27 (dk_at dksX4_token_1 3 rfl rfl)
theorem dX4_token_27 : decode cX4_token 27 = .ok (.iastore, 1) := dk_79 (dk_at dksX4_token_1 4 rfl rfl)
theorem dX4_token_28 : decode cX4_token 28 = .ok (.aload_n 0, 1) := dk_42 (dk_at dksX4_token_1 5 rfl rfl)
theorem dX4_token_29 : decode cX4_token 29 = .ok (.getfield 37, 3) := dk_180 0 37 (dk_at dksX4_token_1 6 rfl rfl)
theorem dX4_token_32 : decode cX4_token 32 = .ok (.aload_n 0, 1) := dk_42 (dk_at dksX4_token_1 9 rfl rfl)
theorem dX4_token_33 : decode cX4_token 33 = .ok (.getfield 142, 3) := dk_180 0 142 (dk_at dksX4_token_1 10 rfl rfl)
theorem dX4_token_36 : decode cX4_token 36 = .ok (.iload_n 2, 1) := dk_28 (dk_at dksX4_token_1 13 rfl rfl)
theorem dX4_token_37 : decode cX4_token 37 = .ok (.iastore, 1) := dk_79 (dk_at dksX4_token_1 14 rfl rfl)
theorem dX4_token_38 : decode cX4_token 38 = .ok (.aload_n 0, 1) := dk_42 (dk_at dksX4_token_1 15 rfl rfl)
theorem dX4_token_39 : decode cX4_token 39 = .ok (.getfield 40, 3) := dk_180 0 40 (dk_at dksX4_token_1 16 rfl rfl)
theorem dX4_token_42 : decode cX4_token 42 = .ok (.aload_n 0, 1) := dk_42 (dk_at dksX4_token_1 19 rfl rfl)
theorem dX4_token_43 : decode cX4_token 43 = .ok (.getfield 142, 3) := dk_180 0 142 (dk_at dksX4_token_1 20 rfl rfl)
theorem dX4_token_46 : decode cX4_token 46 = .ok (.lload_n 3, 1) := dk_33 (dk_at dksX4_token_1 23 rfl rfl)
theorem dX4_token_47 : decode cX4_token 47 = .ok (.lastore, 1) := dk_80 (dk_at dksX4_token_2 0 rfl rfl)
theorem dX4_token_48 : decode cX4_token 48 = .ok (.aload_n 0, 1) := dk_42 (dk_at dksX4_token_2 1 rfl rfl)
theorem dX4_token_49 : decode cX4_token 49 = .ok (.dup, 1) := dk_89 (dk_at dksX4_token_2 2 rfl rfl)
theorem dX4_token_50 : decode cX4_token 50 = .ok (.getfield 142, 3) := dk_180 0 142 (dk_at dksX4_token_2 3 rfl rfl)
theorem dX4_token_53 : decode cX4_token 53 = .ok (.iconst 1, 1) := dk_4 (dk_at dksX4_token_2 6 rfl rfl)
theorem dX4_token_54 : decode cX4_token 54 = .ok (.iadd, 1) := dk_96 (dk_at dksX4_token_2 7 rfl rfl)
theorem dX4_token_55 : decode cX4_token 55 = .ok (.putfield 142, 3) := dk_181 0 142 (dk_at dksX4_token_2 8 rfl rfl)
theorem dX4_token_58 : decode cX4_token 58 = .ok (.return_, 1) := dk_177 (dk_at dksX4_token_2 11 rfl rfl)
theorem zf_16_6_ebateHallModel : zz_fok [16] 6 "DebateHallModel" "tokens" "I" := zz_fok1 (zR_16, zT_16, 24) rfl (by decide) rfl rfl (Or.inl rfl)
theorem q2442 : (Jvm.Cond.fieldLink "DebateHallModel" (142 : Nat) "DebateHallModel" "tokens" "I") ∈ lw_all := lw_g (lw_at lw_m10 202 rfl) rfl
theorem zp_16_6 : zz_pok [16] 6 := zz_pok1 (zR_16, zT_16, 24) (by decide) rfl rfl
def wp_X4_token_B27 (Z : zzG) (K : Option Value → zzM → Prop) (v0 : Option Nat) (v2 : Int32) (v3 : Int64) (s0 : Int32) (s1 : Int32) (s2 : Option Nat) (M : zzM) : Prop := zast Z M s2 [100] s1 (.int s0) fun M4 => zgA Z M4 v0 [16] 8 fun x5 => zgI Z M4 v0 [16] 6 fun x6 => zast Z M4 x5 [100] x6 (.int v2) fun M7 => zgA Z M7 v0 [16] 9 fun x8 => zgI Z M7 v0 [16] 6 fun x9 => zast Z M7 x8 [102] x9 (.long v3) fun M10 => zgI Z M10 v0 [16] 6 fun x11 => zput Z M10 v0 [16] 6 (.int (x11 + (1 : Int32))) fun M12 => K none M12
def wp_X4_token_B26 (Z : zzG) (K : Option Value → zzM → Prop) (v0 : Option Nat) (v1 : Int32) (v2 : Int32) (v3 : Int64) (s0 : Int32) (s1 : Option Nat) (M : zzM) : Prop := wp_X4_token_B27 Z K v0 v2 v3 v1 s0 s1 M
def wp_X4_token (Z : zzG) (this : Option Nat) (p0 : Int32) (p1 : Int32) (p2 : Int64) (M : zzM) (K : Option Value → zzM → Prop) : Prop := zgA Z M this [16] 7 fun x1 => zgI Z M this [16] 6 fun x2 => zgI Z M this [16] 6 fun x3 => if x3 = (400 : Int32) then (if p0 = 0 then (wp_X4_token_B26 Z K this p0 p1 p2 x2 x1 M) else (wp_X4_token_B27 Z K this p1 p2 (1 : Int32) x2 x1 M)) else (wp_X4_token_B26 Z K this p0 p1 p2 x2 x1 M)
theorem ok_X4_token_B27 {G : zzX} (C : zz_C G cX4_token "DebateHallModel" 5) {K : Option Value → zzM → Prop} (E : zz_E G none K (fun _ _ _ => False)) (hH : zz_H G []) (hR : zz_Rm G 1) {v0 : Option Nat} {v2 : Int32} {v3 : Int64} {s0 : Int32} {s1 : Int32} {s2 : Option Nat} {M : zzM} {bc bs : Nat} (hw : wp_X4_token_B27 (zz_Zof G) K v0 v2 v3 s0 s1 s2 M) : zz_T G 5 M bc bs 27 [(0, va_rf v0), (2, .int v2), (3, .long v3)] [.int s0, .int s1, va_rf s2] := by
  unfold wp_X4_token_B27 at hw
  refine zz_iast C dX4_token_27 hw (fun M4 hw => ?_)
  refine zz_aload_n C dX4_token_28 rfl 0 rfl ?_
  refine zz_getA C dX4_token_29 (Or.inl q2444) zf_16_8_ebateHallModel hw (fun x5 hw => ?_)
  refine zz_aload_n C dX4_token_32 rfl 0 rfl ?_
  refine zz_getI C dX4_token_33 (Or.inl q2442) zf_16_6_ebateHallModel hw (fun x6 hw => ?_)
  refine zz_iload_n C dX4_token_36 rfl 1 rfl ?_
  refine zz_iast C dX4_token_37 hw (fun M7 hw => ?_)
  refine zz_aload_n C dX4_token_38 rfl 0 rfl ?_
  refine zz_getA C dX4_token_39 (Or.inl q2445) zf_16_9_ebateHallModel hw (fun x8 hw => ?_)
  refine zz_aload_n C dX4_token_42 rfl 0 rfl ?_
  refine zz_getI C dX4_token_43 (Or.inl q2442) zf_16_6_ebateHallModel hw (fun x9 hw => ?_)
  refine zz_lload_n C dX4_token_46 rfl 2 rfl ?_
  refine zz_last C dX4_token_47 hw (fun M10 hw => ?_)
  refine zz_aload_n C dX4_token_48 rfl 0 rfl ?_
  refine zz_dup C dX4_token_49 (zz_cat _) ?_
  refine zz_getI C dX4_token_50 (Or.inl q2442) zf_16_6_ebateHallModel hw (fun x11 hw => ?_)
  refine zz_iconst (v := (1 : Int32)) C dX4_token_53 (by decide) ?_
  refine zz_iadd C dX4_token_54 ?_
  refine zz_put C dX4_token_55 (Or.inl q2442) zf_16_6_ebateHallModel zp_16_6 (zz_hn1 ⟨rfl, rfl⟩) hw (fun M12 hw => ?_)
  exact zz_vret C E dX4_token_58 hw
theorem ok_X4_token_B26 {G : zzX} (C : zz_C G cX4_token "DebateHallModel" 5) {K : Option Value → zzM → Prop} (E : zz_E G none K (fun _ _ _ => False)) (hH : zz_H G []) (hR : zz_Rm G 1) {v0 : Option Nat} {v1 : Int32} {v2 : Int32} {v3 : Int64} {s0 : Int32} {s1 : Option Nat} {M : zzM} {bc bs : Nat} (hw : wp_X4_token_B26 (zz_Zof G) K v0 v1 v2 v3 s0 s1 M) : zz_T G 5 M bc bs 26 [(0, va_rf v0), (1, .int v1), (2, .int v2), (3, .long v3)] [.int s0, va_rf s1] := by
  unfold wp_X4_token_B26 at hw
  refine zz_iload_n C dX4_token_26 rfl 1 rfl ?_
  refine zz_subP [0, 2, 3] rfl ?_
  exact ok_X4_token_B27 C E hH hR hw
theorem ok_X4_token {Z : zzG} {l : Launch} (hl : l.stackTraces = false) {this : Option Nat} {p0 : Int32} {p1 : Int32} {p2 : Int64} {M : zzM} {mc ms : Nat} {K : Option Value → zzM → Prop} (hw : wp_X4_token Z this p0 p1 p2 M K) : zz_Met Z l yX4_token (zz_ws yX4_token cX4_token 5 none none) 1 [va_rf this, .int p0, .int p1, .long p2] M mc ms K (fun _ _ _ => False) := by
  refine zz_ofW hl (plainFor_of_name (by decide)) (by simp only [zz_sl0, zz_slI, zz_slJ, zz_slA] <;> decide) (fun G hZ hll C E hH hR hin => ?_)
  subst hZ
  subst hll
  rw [show lv_args 0 [va_rf this, .int p0, .int p1, .long p2] = [(0, va_rf this), (1, .int p0), (2, .int p1), (3, .long p2)] by simp only [zz_la0, zz_laI, zz_laJ, zz_laA]]
  unfold wp_X4_token at hw
  refine zz_aload_n C dX4_token_0 rfl 0 rfl ?_
  refine zz_getA C dX4_token_1 (Or.inl q2443) zf_16_7_ebateHallModel hw (fun x1 hw => ?_)
  refine zz_aload_n C dX4_token_4 rfl 0 rfl ?_
  refine zz_getI C dX4_token_5 (Or.inl q2442) zf_16_6_ebateHallModel hw (fun x2 hw => ?_)
  refine zz_aload_n C dX4_token_8 rfl 0 rfl ?_
  refine zz_getI C dX4_token_9 (Or.inl q2442) zf_16_6_ebateHallModel hw (fun x3 hw => ?_)
  refine zz_sipush (v := (400 : Int32)) C dX4_token_12 (by decide) ?_
  refine zz_icmp_ne (tgt := 26) C dX4_token_15 (by decide) hw (fun hw => ?_) (fun hw => ?_)
  · refine zz_subP [0, 1, 2, 3] rfl ?_
    exact ok_X4_token_B26 C E hH hR hw
  · refine zz_iload_n C dX4_token_18 rfl 1 rfl ?_
    refine zz_if_eq (tgt := 26) C dX4_token_19 (by decide) hw (fun hw => ?_) (fun hw => ?_)
    · refine zz_subP [0, 1, 2, 3] rfl ?_
      exact ok_X4_token_B26 C E hH hR hw
    · refine zz_iconst (v := (1 : Int32)) C dX4_token_22 (by decide) ?_
      refine zz_goto (tgt := 27) C dX4_token_23 (by decide) ?_
      refine zz_subP [0, 2, 3] rfl ?_
      exact ok_X4_token_B27 C E hH hR hw
abbrev cX4_isLetter : ByteArray := prog_25_method_14_code
def yX4_isLetter : MethodName := ⟨"DebateHallModel", "isLetter", "(I)Z"⟩
def dkwX4_isLetter_0 : List UInt8 := [26, 16, 97, 161, 0, 13, 26, 16, 122, 163, 0, 7, 4, 167, 0, 4, 3, 172]
abbrev dktX4_isLetter_0 : List UInt8 := dkwX4_isLetter_0 ++ []
theorem dksX4_isLetter_0 : cX4_isLetter.data.toList.drop 0 = dktX4_isLetter_0 := by decide +kernel
theorem dX4_isLetter_0 : decode cX4_isLetter 0 = .ok (.iload_n 0, 1) := dk_26 (dk_at dksX4_isLetter_0 0 rfl rfl)
theorem dX4_isLetter_1 : decode cX4_isLetter 1 = .ok (.bipush 97, 2) := dk_16 97 (dk_at dksX4_isLetter_0 1 rfl rfl)
theorem dX4_isLetter_3 : decode cX4_isLetter 3 = .ok (.if_icmp .lt 13, 3) := dk_161 0 13 (dk_at dksX4_isLetter_0 3 rfl rfl)
theorem dX4_isLetter_6 : decode cX4_isLetter 6 = .ok (.iload_n 0, 1) := dk_26 (dk_at dksX4_isLetter_0 6 rfl rfl)
theorem dX4_isLetter_7 : decode cX4_isLetter 7 = .ok (.bipush 122, 2) := dk_16 122 (dk_at dksX4_isLetter_0 7 rfl rfl)
theorem dX4_isLetter_9 : decode cX4_isLetter 9 = .ok (.if_icmp .gt 7, 3) := dk_163 0 7 (dk_at dksX4_isLetter_0 9 rfl rfl)
theorem dX4_isLetter_12 : decode cX4_isLetter 12 = .ok (.iconst 1, 1) := dk_4 (dk_at dksX4_isLetter_0 12 rfl rfl)
theorem dX4_isLetter_13 : decode cX4_isLetter 13 = .ok (.goto 4, 3) := dk_167 0 4 (dk_at dksX4_isLetter_0 13 rfl rfl)
theorem dX4_isLetter_16 : decode cX4_isLetter 16 = .ok (.iconst 0, 1) := dk_3 (dk_at dksX4_isLetter_0 16 rfl rfl)
theorem dX4_isLetter_17 : decode cX4_isLetter 17 = .ok (.ireturn, 1) := dk_172 (dk_at dksX4_isLetter_0 17 rfl rfl)
def wp_X4_isLetter_B17 (Z : zzG) (K : Option Value → zzM → Prop) (s0 : Int32) (M : zzM) : Prop := narrow .boolean (.int s0) = .int s0 ∧ K (some (.int s0)) M
def wp_X4_isLetter_B16 (Z : zzG) (K : Option Value → zzM → Prop) (M : zzM) : Prop := wp_X4_isLetter_B17 Z K (0 : Int32) M
def wp_X4_isLetter (Z : zzG) (p0 : Int32) (M : zzM) (K : Option Value → zzM → Prop) : Prop := if p0 < (97 : Int32) then (wp_X4_isLetter_B16 Z K M) else (if (122 : Int32) < p0 then (wp_X4_isLetter_B16 Z K M) else (wp_X4_isLetter_B17 Z K (1 : Int32) M))
theorem ok_X4_isLetter_B17 {G : zzX} (C : zz_C G cX4_isLetter "DebateHallModel" 1) {K : Option Value → zzM → Prop} (E : zz_E G (some .boolean) K (fun _ _ _ => False)) (hH : zz_H G []) (hR : zz_Rm G 1) {s0 : Int32} {M : zzM} {bc bs : Nat} (hw : wp_X4_isLetter_B17 (zz_Zof G) K s0 M) : zz_T G 1 M bc bs 17 [] [.int s0] := by
  unfold wp_X4_isLetter_B17 at hw
  exact zz_zret C E dX4_isLetter_17 hw
theorem ok_X4_isLetter_B16 {G : zzX} (C : zz_C G cX4_isLetter "DebateHallModel" 1) {K : Option Value → zzM → Prop} (E : zz_E G (some .boolean) K (fun _ _ _ => False)) (hH : zz_H G []) (hR : zz_Rm G 1) {M : zzM} {bc bs : Nat} (hw : wp_X4_isLetter_B16 (zz_Zof G) K M) : zz_T G 1 M bc bs 16 [] [] := by
  unfold wp_X4_isLetter_B16 at hw
  refine zz_iconst (v := (0 : Int32)) C dX4_isLetter_16 (by decide) ?_
  refine zz_subP [] rfl ?_
  exact ok_X4_isLetter_B17 C E hH hR hw
theorem ok_X4_isLetter {Z : zzG} {l : Launch} (hl : l.stackTraces = false) {p0 : Int32} {M : zzM} {mc ms : Nat} {K : Option Value → zzM → Prop} (hw : wp_X4_isLetter Z p0 M K) : zz_Met Z l yX4_isLetter (zz_ws yX4_isLetter cX4_isLetter 1 (some .boolean) none) 1 [.int p0] M mc ms K (fun _ _ _ => False) := by
  refine zz_ofW hl (plainFor_of_name (by decide)) (by simp only [zz_sl0, zz_slI, zz_slJ, zz_slA] <;> decide) (fun G hZ hll C E hH hR hin => ?_)
  subst hZ
  subst hll
  rw [show lv_args 0 [.int p0] = [(0, .int p0)] by simp only [zz_la0, zz_laI, zz_laJ, zz_laA]]
  unfold wp_X4_isLetter at hw
  refine zz_iload_n C dX4_isLetter_0 rfl 0 rfl ?_
  refine zz_bipush (v := (97 : Int32)) C dX4_isLetter_1 (by decide) ?_
  refine zz_icmp_lt (tgt := 16) C dX4_isLetter_3 (by decide) hw (fun hw => ?_) (fun hw => ?_)
  · refine zz_subP [] rfl ?_
    exact ok_X4_isLetter_B16 C E hH hR hw
  · refine zz_iload_n C dX4_isLetter_6 rfl 0 rfl ?_
    refine zz_bipush (v := (122 : Int32)) C dX4_isLetter_7 (by decide) ?_
    refine zz_icmp_gt (tgt := 16) C dX4_isLetter_9 (by decide) hw (fun hw => ?_) (fun hw => ?_)
    · refine zz_subP [] rfl ?_
      exact ok_X4_isLetter_B16 C E hH hR hw
    · refine zz_iconst (v := (1 : Int32)) C dX4_isLetter_12 (by decide) ?_
      refine zz_goto (tgt := 17) C dX4_isLetter_13 (by decide) ?_
      refine zz_subP [] rfl ?_
      exact ok_X4_isLetter_B17 C E hH hR hw
abbrev cX4_isDigit : ByteArray := prog_25_method_15_code
def yX4_isDigit : MethodName := ⟨"DebateHallModel", "isDigit", "(I)Z"⟩
def dkwX4_isDigit_0 : List UInt8 := [26, 16, 48, 161, 0, 13, 26, 16, 57, 163, 0, 7, 4, 167, 0, 4, 3, 172]
abbrev dktX4_isDigit_0 : List UInt8 := dkwX4_isDigit_0 ++ []
theorem dksX4_isDigit_0 : cX4_isDigit.data.toList.drop 0 = dktX4_isDigit_0 := by decide +kernel
theorem dX4_isDigit_0 : decode cX4_isDigit 0 = .ok (.iload_n 0, 1) := dk_26 (dk_at dksX4_isDigit_0 0 rfl rfl)
theorem dX4_isDigit_1 : decode cX4_isDigit 1 = .ok (.bipush 48, 2) := dk_16 48 (dk_at dksX4_isDigit_0 1 rfl rfl)
theorem dX4_isDigit_3 : decode cX4_isDigit 3 = .ok (.if_icmp .lt 13, 3) := dk_161 0 13 (dk_at dksX4_isDigit_0 3 rfl rfl)
theorem dX4_isDigit_6 : decode cX4_isDigit 6 = .ok (.iload_n 0, 1) := dk_26 (dk_at dksX4_isDigit_0 6 rfl rfl)
theorem dX4_isDigit_7 : decode cX4_isDigit 7 = .ok (.bipush 57, 2) := dk_16 57 (dk_at dksX4_isDigit_0 7 rfl rfl)
theorem dX4_isDigit_9 : decode cX4_isDigit 9 = .ok (.if_icmp .gt 7, 3) := dk_163 0 7 (dk_at dksX4_isDigit_0 9 rfl rfl)
theorem dX4_isDigit_12 : decode cX4_isDigit 12 = .ok (.iconst 1, 1) := dk_4 (dk_at dksX4_isDigit_0 12 rfl rfl)
theorem dX4_isDigit_13 : decode cX4_isDigit 13 = .ok (.goto 4, 3) := dk_167 0 4 (dk_at dksX4_isDigit_0 13 rfl rfl)
theorem dX4_isDigit_16 : decode cX4_isDigit 16 = .ok (.iconst 0, 1) := dk_3 (dk_at dksX4_isDigit_0 16 rfl rfl)
theorem dX4_isDigit_17 : decode cX4_isDigit 17 = .ok (.ireturn, 1) := dk_172 (dk_at dksX4_isDigit_0 17 rfl rfl)
def wp_X4_isDigit_B17 (Z : zzG) (K : Option Value → zzM → Prop) (s0 : Int32) (M : zzM) : Prop := narrow .boolean (.int s0) = .int s0 ∧ K (some (.int s0)) M
def wp_X4_isDigit_B16 (Z : zzG) (K : Option Value → zzM → Prop) (M : zzM) : Prop := wp_X4_isDigit_B17 Z K (0 : Int32) M
def wp_X4_isDigit (Z : zzG) (p0 : Int32) (M : zzM) (K : Option Value → zzM → Prop) : Prop := if p0 < (48 : Int32) then (wp_X4_isDigit_B16 Z K M) else (if (57 : Int32) < p0 then (wp_X4_isDigit_B16 Z K M) else (wp_X4_isDigit_B17 Z K (1 : Int32) M))
theorem ok_X4_isDigit_B17 {G : zzX} (C : zz_C G cX4_isDigit "DebateHallModel" 1) {K : Option Value → zzM → Prop} (E : zz_E G (some .boolean) K (fun _ _ _ => False)) (hH : zz_H G []) (hR : zz_Rm G 1) {s0 : Int32} {M : zzM} {bc bs : Nat} (hw : wp_X4_isDigit_B17 (zz_Zof G) K s0 M) : zz_T G 1 M bc bs 17 [] [.int s0] := by
  unfold wp_X4_isDigit_B17 at hw
  exact zz_zret C E dX4_isDigit_17 hw
theorem ok_X4_isDigit_B16 {G : zzX} (C : zz_C G cX4_isDigit "DebateHallModel" 1) {K : Option Value → zzM → Prop} (E : zz_E G (some .boolean) K (fun _ _ _ => False)) (hH : zz_H G []) (hR : zz_Rm G 1) {M : zzM} {bc bs : Nat} (hw : wp_X4_isDigit_B16 (zz_Zof G) K M) : zz_T G 1 M bc bs 16 [] [] := by
  unfold wp_X4_isDigit_B16 at hw
  refine zz_iconst (v := (0 : Int32)) C dX4_isDigit_16 (by decide) ?_
  refine zz_subP [] rfl ?_
  exact ok_X4_isDigit_B17 C E hH hR hw
theorem ok_X4_isDigit {Z : zzG} {l : Launch} (hl : l.stackTraces = false) {p0 : Int32} {M : zzM} {mc ms : Nat} {K : Option Value → zzM → Prop} (hw : wp_X4_isDigit Z p0 M K) : zz_Met Z l yX4_isDigit (zz_ws yX4_isDigit cX4_isDigit 1 (some .boolean) none) 1 [.int p0] M mc ms K (fun _ _ _ => False) := by
  refine zz_ofW hl (plainFor_of_name (by decide)) (by simp only [zz_sl0, zz_slI, zz_slJ, zz_slA] <;> decide) (fun G hZ hll C E hH hR hin => ?_)
  subst hZ
  subst hll
  rw [show lv_args 0 [.int p0] = [(0, .int p0)] by simp only [zz_la0, zz_laI, zz_laJ, zz_laA]]
  unfold wp_X4_isDigit at hw
  refine zz_iload_n C dX4_isDigit_0 rfl 0 rfl ?_
  refine zz_bipush (v := (48 : Int32)) C dX4_isDigit_1 (by decide) ?_
  refine zz_icmp_lt (tgt := 16) C dX4_isDigit_3 (by decide) hw (fun hw => ?_) (fun hw => ?_)
  · refine zz_subP [] rfl ?_
    exact ok_X4_isDigit_B16 C E hH hR hw
  · refine zz_iload_n C dX4_isDigit_6 rfl 0 rfl ?_
    refine zz_bipush (v := (57 : Int32)) C dX4_isDigit_7 (by decide) ?_
    refine zz_icmp_gt (tgt := 16) C dX4_isDigit_9 (by decide) hw (fun hw => ?_) (fun hw => ?_)
    · refine zz_subP [] rfl ?_
      exact ok_X4_isDigit_B16 C E hH hR hw
    · refine zz_iconst (v := (1 : Int32)) C dX4_isDigit_12 (by decide) ?_
      refine zz_goto (tgt := 17) C dX4_isDigit_13 (by decide) ?_
      refine zz_subP [] rfl ?_
      exact ok_X4_isDigit_B17 C E hH hR hw
abbrev cX4_read : ByteArray := prog_25_method_17_code
def yX4_read : MethodName := ⟨"DebateHallModel", "read", "()V"⟩
def dkwX4_read_14 : List UInt8 := [177]
abbrev dktX4_read_14 : List UInt8 := dkwX4_read_14 ++ []
def dkwX4_read_13 : List UInt8 := [28, 33, 182, 0, 148, 42, 180, 0, 34, 42, 180, 0, 142, 4, 100, 46, 4, 160, 0, 4, 177, 167, 254, 196]
abbrev dktX4_read_13 : List UInt8 := dkwX4_read_13 ++ dktX4_read_14
def dkwX4_read_12 : List UInt8 := [153, 0, 19, 33, 20, 0, 164, 148, 153, 0, 11, 33, 20, 0, 166, 148, 154, 0, 7, 7, 167, 0, 4, 4]
abbrev dktX4_read_12 : List UInt8 := dkwX4_read_12 ++ dktX4_read_13
def dkwX4_read_11 : List UInt8 := [6, 167, 0, 4, 4, 28, 33, 182, 0, 148, 167, 0, 41, 132, 1, 1, 42, 33, 20, 0, 162, 148]
abbrev dktX4_read_11 : List UInt8 := dkwX4_read_11 ++ dktX4_read_12
def dkwX4_read_10 : List UInt8 := [20, 0, 158, 101, 167, 0, 4, 33, 66, 132, 1, 1, 167, 255, 203, 42, 27, 28, 100, 16, 6, 163, 0, 7]
abbrev dktX4_read_10 : List UInt8 := dkwX4_read_10 ++ dktX4_read_11
def dkwX4_read_9 : List UInt8 := [153, 0, 39, 27, 28, 100, 16, 6, 162, 0, 23, 20, 0, 160, 33, 105, 42, 180, 0, 27, 27, 46, 133, 97]
abbrev dktX4_read_9 : List UInt8 := dkwX4_read_9 ++ dktX4_read_10
def dkwX4_read_8 : List UInt8 := [101, 66, 132, 1, 1, 27, 42, 180, 0, 145, 162, 0, 51, 42, 180, 0, 27, 27, 46, 184, 0, 155]
abbrev dktX4_read_8 : List UInt8 := dkwX4_read_8 ++ dktX4_read_9
def dkwX4_read_7 : List UInt8 := [28, 33, 182, 0, 148, 167, 0, 140, 42, 180, 0, 27, 27, 46, 184, 0, 155, 153, 0, 90, 33, 20, 0, 158]
abbrev dktX4_read_7 : List UInt8 := dkwX4_read_7 ++ dktX4_read_8
def dkwX4_read_6 : List UInt8 := [46, 133, 129, 66, 132, 1, 1, 167, 255, 208, 42, 27, 28, 100, 16, 8, 163, 0, 7, 5, 167, 0, 4, 4]
abbrev dktX4_read_6 : List UInt8 := dkwX4_read_6 ++ dktX4_read_7
def dkwX4_read_5 : List UInt8 := [154, 0, 15, 42, 180, 0, 27, 27, 46, 184, 0, 155, 153, 0, 22, 33, 16, 8, 121, 42, 180, 0, 27, 27]
abbrev dktX4_read_5 : List UInt8 := dkwX4_read_5 ++ dktX4_read_6
def dkwX4_read_4 : List UInt8 := [153, 0, 79, 132, 1, 1, 27, 42, 180, 0, 145, 162, 0, 46, 42, 180, 0, 27, 27, 46, 184, 0, 152]
abbrev dktX4_read_4 : List UInt8 := dkwX4_read_4 ++ dktX4_read_5
def dkwX4_read_3 : List UInt8 := [182, 0, 148, 177, 27, 61, 42, 180, 0, 27, 27, 46, 133, 66, 42, 180, 0, 27, 27, 46, 184, 0, 152]
abbrev dktX4_read_3 : List UInt8 := dkwX4_read_3 ++ dktX4_read_4
def dkwX4_read_2 : List UInt8 := [160, 0, 9, 132, 1, 1, 167, 255, 223, 27, 42, 180, 0, 145, 160, 0, 14, 42, 3, 42, 180, 0, 145, 9]
abbrev dktX4_read_2 : List UInt8 := dkwX4_read_2 ++ dktX4_read_3
def dkwX4_read_1 : List UInt8 := [162, 0, 31, 42, 180, 0, 27, 27, 46, 16, 32, 159, 0, 14, 42, 180, 0, 27, 27, 46, 16, 10]
abbrev dktX4_read_1 : List UInt8 := dkwX4_read_1 ++ dktX4_read_2
def dkwX4_read_0 : List UInt8 := [42, 3, 181, 0, 142, 3, 60, 42, 180, 0, 142, 17, 1, 144, 163, 1, 56, 27, 42, 180, 0, 145]
abbrev dktX4_read_0 : List UInt8 := dkwX4_read_0 ++ dktX4_read_1
theorem dksX4_read_0 : cX4_read.data.toList.drop 0 = dktX4_read_0 := by decide +kernel
theorem dksX4_read_1 : cX4_read.data.toList.drop 22 = dktX4_read_1 := dk_seg dksX4_read_0 22 rfl rfl
theorem dksX4_read_2 : cX4_read.data.toList.drop 44 = dktX4_read_2 := dk_seg dksX4_read_1 22 rfl rfl
theorem dksX4_read_3 : cX4_read.data.toList.drop 68 = dktX4_read_3 := dk_seg dksX4_read_2 24 rfl rfl
theorem dksX4_read_4 : cX4_read.data.toList.drop 91 = dktX4_read_4 := dk_seg dksX4_read_3 23 rfl rfl
theorem dksX4_read_5 : cX4_read.data.toList.drop 114 = dktX4_read_5 := dk_seg dksX4_read_4 23 rfl rfl
theorem dksX4_read_6 : cX4_read.data.toList.drop 138 = dktX4_read_6 := dk_seg dksX4_read_5 24 rfl rfl
theorem dksX4_read_7 : cX4_read.data.toList.drop 162 = dktX4_read_7 := dk_seg dksX4_read_6 24 rfl rfl
theorem dksX4_read_8 : cX4_read.data.toList.drop 186 = dktX4_read_8 := dk_seg dksX4_read_7 24 rfl rfl
theorem dksX4_read_9 : cX4_read.data.toList.drop 208 = dktX4_read_9 := dk_seg dksX4_read_8 22 rfl rfl
theorem dksX4_read_10 : cX4_read.data.toList.drop 232 = dktX4_read_10 := dk_seg dksX4_read_9 24 rfl rfl
theorem dksX4_read_11 : cX4_read.data.toList.drop 256 = dktX4_read_11 := dk_seg dksX4_read_10 24 rfl rfl
theorem dksX4_read_12 : cX4_read.data.toList.drop 278 = dktX4_read_12 := dk_seg dksX4_read_11 22 rfl rfl
theorem dksX4_read_13 : cX4_read.data.toList.drop 302 = dktX4_read_13 := dk_seg dksX4_read_12 24 rfl rfl
theorem dksX4_read_14 : cX4_read.data.toList.drop 326 = dktX4_read_14 := dk_seg dksX4_read_13 24 rfl rfl
theorem dX4_read_0 : decode cX4_read 0 = .ok (.aload_n 0, 1) := dk_42 (dk_at dksX4_read_0 0 rfl rfl)
theorem dX4_read_1 : decode cX4_read 1 = .ok (.iconst 0, 1) := dk_3 (dk_at dksX4_read_0 1 rfl rfl)
theorem dX4_read_2 : decode cX4_read 2 = .ok (.putfield 142, 3) := dk_181 0 142 (dk_at dksX4_read_0 2 rfl rfl)
theorem dX4_read_5 : decode cX4_read 5 = .ok (.iconst 0, 1) := dk_3 (dk_at dksX4_read_0 5 rfl rfl)
theorem dX4_read_6 : decode cX4_read 6 = .ok (.istore_n 1, 1) := dk_60 (dk_at dksX4_read_0 6 rfl rfl)
theorem dX4_read_7 : decode cX4_read 7 = .ok (.aload_n 0, 1) := dk_42 (dk_at dksX4_read_0 7 rfl rfl)
theorem dX4_read_8 : decode cX4_read 8 = .ok (.getfield 142, 3) := dk_180 0 142 (dk_at dksX4_read_0 8 rfl rfl)
theorem dX4_read_11 : decode cX4_read 11 = .ok (.sipush 400, 3) := dk_17 1 144 (dk_at dksX4_read_0 11 rfl rfl)
theorem dX4_read_14 : decode cX4_read 14 = .ok (.if_icmp .gt 312, 3) := dk_163 1 56 (dk_at dksX4_read_0 14 rfl rfl)
theorem dX4_read_17 : decode cX4_read 17 = .ok (.iload_n 1, 1) := dk_27 (dk_at dksX4_read_0 17 rfl rfl)
theorem dX4_read_18 : decode cX4_read 18 = .ok (.aload_n 0, 1) := dk_42 (dk_at dksX4_read_0 18 rfl rfl)
theorem dX4_read_19 : decode cX4_read 19 = .ok (.getfield 145, 3) := dk_180 0 145 (dk_at dksX4_read_0 19 rfl rfl)
theorem dX4_read_22 : decode cX4_read 22 = .ok (.if_icmp .ge 31, 3) := dk_162 0 31 (dk_at dksX4_read_1 0 rfl rfl)
theorem dX4_read_25 : decode cX4_read 25 = .ok (.aload_n 0, 1) := dk_42 (dk_at dksX4_read_1 3 rfl rfl)
theorem dX4_read_26 : decode cX4_read 26 = .ok (.getfield 27, 3) := dk_180 0 27 (dk_at dksX4_read_1 4 rfl rfl)
theorem dX4_read_29 : decode cX4_read 29 = .ok (.iload_n 1, 1) := dk_27 (dk_at dksX4_read_1 7 rfl rfl)
theorem dX4_read_30 : decode cX4_read 30 = .ok (.iaload, 1) := dk_46 (dk_at dksX4_read_1 8 rfl rfl)
theorem dX4_read_31 : decode cX4_read 31 = .ok (.bipush 32, 2) := dk_16 32 (dk_at dksX4_read_1 9 rfl rfl)
theorem dX4_read_33 : decode cX4_read 33 = .ok (.if_icmp .eq 14, 3) := dk_159 0 14 (dk_at dksX4_read_1 11 rfl rfl)
theorem dX4_read_36 : decode cX4_read 36 = .ok (.aload_n 0, 1) := dk_42 (dk_at dksX4_read_1 14 rfl rfl)
theorem dX4_read_37 : decode cX4_read 37 = .ok (.getfield 27, 3) := dk_180 0 27 (dk_at dksX4_read_1 15 rfl rfl)
theorem dX4_read_40 : decode cX4_read 40 = .ok (.iload_n 1, 1) := dk_27 (dk_at dksX4_read_1 18 rfl rfl)
theorem dX4_read_41 : decode cX4_read 41 = .ok (.iaload, 1) := dk_46 (dk_at dksX4_read_1 19 rfl rfl)
theorem dX4_read_42 : decode cX4_read 42 = .ok (.bipush 10, 2) := dk_16 10 (dk_at dksX4_read_1 20 rfl rfl)
theorem dX4_read_44 : decode cX4_read 44 = .ok (.if_icmp .ne 9, 3) := dk_160 0 9 (dk_at dksX4_read_2 0 rfl rfl)
theorem dX4_read_47 : decode cX4_read 47 = .ok (.iinc 1 1, 3) := dk_132 1 1 (dk_at dksX4_read_2 3 rfl rfl)
theorem dX4_read_50 : decode cX4_read 50 = .ok (.goto (-33), 3) := dk_167 255 223 (dk_at dksX4_read_2 6 rfl rfl)
theorem dX4_read_53 : decode cX4_read 53 = .ok (.iload_n 1, 1) := dk_27 (dk_at dksX4_read_2 9 rfl rfl)
theorem dX4_read_54 : decode cX4_read 54 = .ok (.aload_n 0, 1) := dk_42 (dk_at dksX4_read_2 10 rfl rfl)
theorem dX4_read_55 : decode cX4_read 55 = .ok (.getfield 145, 3) := dk_180 0 145 (dk_at dksX4_read_2 11 rfl rfl)
theorem dX4_read_58 : decode cX4_read 58 = .ok (.if_icmp .ne 14, 3) := dk_160 0 14 (dk_at dksX4_read_2 14 rfl rfl)
theorem dX4_read_61 : decode cX4_read 61 = .ok (.aload_n 0, 1) := dk_42 (dk_at dksX4_read_2 17 rfl rfl)
theorem dX4_read_62 : decode cX4_read 62 = .ok (.iconst 0, 1) := dk_3 (dk_at dksX4_read_2 18 rfl rfl)
theorem dX4_read_63 : decode cX4_read 63 = .ok (.aload_n 0, 1) := dk_42 (dk_at dksX4_read_2 19 rfl rfl)
theorem dX4_read_64 : decode cX4_read 64 = .ok (.getfield 145, 3) := dk_180 0 145 (dk_at dksX4_read_2 20 rfl rfl)
theorem dX4_read_67 : decode cX4_read 67 = .ok (.lconst 0, 1) := dk_9 (dk_at dksX4_read_2 23 rfl rfl)
theorem dX4_read_68 : decode cX4_read 68 = .ok (.invokevirtual 148, 3) := dk_182 0 148 (dk_at dksX4_read_3 0 rfl rfl)
theorem dX4_read_71 : decode cX4_read 71 = .ok (.return_, 1) := dk_177 (dk_at dksX4_read_3 3 rfl rfl)
theorem dX4_read_72 : decode cX4_read 72 = .ok (.iload_n 1, 1) := dk_27 (dk_at dksX4_read_3 4 rfl rfl)
theorem dX4_read_73 : decode cX4_read 73 = .ok (.istore_n 2, 1) := dk_61 (dk_at dksX4_read_3 5 rfl rfl)
theorem dX4_read_74 : decode cX4_read 74 = .ok (.aload_n 0, 1) := dk_42 (dk_at dksX4_read_3 6 rfl rfl)
theorem dX4_read_75 : decode cX4_read 75 = .ok (.getfield 27, 3) := dk_180 0 27 (dk_at dksX4_read_3 7 rfl rfl)
theorem dX4_read_78 : decode cX4_read 78 = .ok (.iload_n 1, 1) := dk_27 (dk_at dksX4_read_3 10 rfl rfl)
theorem dX4_read_79 : decode cX4_read 79 = .ok (.iaload, 1) := dk_46 (dk_at dksX4_read_3 11 rfl rfl)
theorem dX4_read_80 : decode cX4_read 80 = .ok (.i2l, 1) := dk_133 (dk_at dksX4_read_3 12 rfl rfl)
theorem dX4_read_81 : decode cX4_read 81 = .ok (.lstore_n 3, 1) := dk_66 (dk_at dksX4_read_3 13 rfl rfl)
theorem dX4_read_82 : decode cX4_read 82 = .ok (.aload_n 0, 1) := dk_42 (dk_at dksX4_read_3 14 rfl rfl)
theorem dX4_read_83 : decode cX4_read 83 = .ok (.getfield 27, 3) := dk_180 0 27 (dk_at dksX4_read_3 15 rfl rfl)
theorem dX4_read_86 : decode cX4_read 86 = .ok (.iload_n 1, 1) := dk_27 (dk_at dksX4_read_3 18 rfl rfl)
theorem dX4_read_87 : decode cX4_read 87 = .ok (.iaload, 1) := dk_46 (dk_at dksX4_read_3 19 rfl rfl)
theorem dX4_read_88 : decode cX4_read 88 = .ok (.invokestatic 152, 3) := dk_184 0 152 (dk_at dksX4_read_3 20 rfl rfl)
theorem dX4_read_91 : decode cX4_read 91 = .ok (.ifCond .eq 79, 3) := dk_153 0 79 (dk_at dksX4_read_4 0 rfl rfl)
theorem dX4_read_94 : decode cX4_read 94 = .ok (.iinc 1 1, 3) := dk_132 1 1 (dk_at dksX4_read_4 3 rfl rfl)
theorem dX4_read_97 : decode cX4_read 97 = .ok (.iload_n 1, 1) := dk_27 (dk_at dksX4_read_4 6 rfl rfl)
theorem dX4_read_98 : decode cX4_read 98 = .ok (.aload_n 0, 1) := dk_42 (dk_at dksX4_read_4 7 rfl rfl)
theorem dX4_read_99 : decode cX4_read 99 = .ok (.getfield 145, 3) := dk_180 0 145 (dk_at dksX4_read_4 8 rfl rfl)
theorem dX4_read_102 : decode cX4_read 102 = .ok (.if_icmp .ge 46, 3) := dk_162 0 46 (dk_at dksX4_read_4 11 rfl rfl)
theorem dX4_read_105 : decode cX4_read 105 = .ok (.aload_n 0, 1) := dk_42 (dk_at dksX4_read_4 14 rfl rfl)
theorem dX4_read_106 : decode cX4_read 106 = .ok (.getfield 27, 3) := dk_180 0 27 (dk_at dksX4_read_4 15 rfl rfl)
theorem dX4_read_109 : decode cX4_read 109 = .ok (.iload_n 1, 1) := dk_27 (dk_at dksX4_read_4 18 rfl rfl)
theorem dX4_read_110 : decode cX4_read 110 = .ok (.iaload, 1) := dk_46 (dk_at dksX4_read_4 19 rfl rfl)
theorem dX4_read_111 : decode cX4_read 111 = .ok (.invokestatic 152, 3) := dk_184 0 152 (dk_at dksX4_read_4 20 rfl rfl)
theorem dX4_read_114 : decode cX4_read 114 = .ok (.ifCond .ne 15, 3) := dk_154 0 15 (dk_at dksX4_read_5 0 rfl rfl)
theorem dX4_read_117 : decode cX4_read 117 = .ok (.aload_n 0, 1) := dk_42 (dk_at dksX4_read_5 3 rfl rfl)
theorem dX4_read_118 : decode cX4_read 118 = .ok (.getfield 27, 3) := dk_180 0 27 (dk_at dksX4_read_5 4 rfl rfl)
theorem dX4_read_121 : decode cX4_read 121 = .ok (.iload_n 1, 1) := dk_27 (dk_at dksX4_read_5 7 rfl rfl)
theorem dX4_read_122 : decode cX4_read 122 = .ok (.iaload, 1) := dk_46 (dk_at dksX4_read_5 8 rfl rfl)
theorem dX4_read_123 : decode cX4_read 123 = .ok (.invokestatic 155, 3) := dk_184 0 155 (dk_at dksX4_read_5 9 rfl rfl)
theorem dX4_read_126 : decode cX4_read 126 = .ok (.ifCond .eq 22, 3) := dk_153 0 22 (dk_at dksX4_read_5 12 rfl rfl)
theorem dX4_read_129 : decode cX4_read 129 = .ok (.lload_n 3, 1) := dk_33 (dk_at dksX4_read_5 15 rfl rfl)
theorem dX4_read_130 : decode cX4_read 130 = .ok (.bipush 8, 2) := dk_16 8 (dk_at dksX4_read_5 16 rfl rfl)
theorem dX4_read_132 : decode cX4_read 132 = .ok (.lshl, 1) := dk_121 (dk_at dksX4_read_5 18 rfl rfl)
theorem dX4_read_133 : decode cX4_read 133 = .ok (.aload_n 0, 1) := dk_42 (dk_at dksX4_read_5 19 rfl rfl)
theorem dX4_read_134 : decode cX4_read 134 = .ok (.getfield 27, 3) := dk_180 0 27 (dk_at dksX4_read_5 20 rfl rfl)
theorem dX4_read_137 : decode cX4_read 137 = .ok (.iload_n 1, 1) := dk_27 (dk_at dksX4_read_5 23 rfl rfl)
theorem dX4_read_138 : decode cX4_read 138 = .ok (.iaload, 1) := dk_46 (dk_at dksX4_read_6 0 rfl rfl)
theorem dX4_read_139 : decode cX4_read 139 = .ok (.i2l, 1) := dk_133 (dk_at dksX4_read_6 1 rfl rfl)
theorem dX4_read_140 : decode cX4_read 140 = .ok (.lor, 1) := dk_129 (dk_at dksX4_read_6 2 rfl rfl)
theorem dX4_read_141 : decode cX4_read 141 = .ok (.lstore_n 3, 1) := dk_66 (dk_at dksX4_read_6 3 rfl rfl)
theorem dX4_read_142 : decode cX4_read 142 = .ok (.iinc 1 1, 3) := dk_132 1 1 (dk_at dksX4_read_6 4 rfl rfl)
theorem dX4_read_145 : decode cX4_read 145 = .ok (.goto (-48), 3) := dk_167 255 208 (dk_at dksX4_read_6 7 rfl rfl)
theorem dX4_read_148 : decode cX4_read 148 = .ok (.aload_n 0, 1) := dk_42 (dk_at dksX4_read_6 10 rfl rfl)
theorem dX4_read_149 : decode cX4_read 149 = .ok (.iload_n 1, 1) := dk_27 (dk_at dksX4_read_6 11 rfl rfl)
theorem dX4_read_150 : decode cX4_read 150 = .ok (.iload_n 2, 1) := dk_28 (dk_at dksX4_read_6 12 rfl rfl)
theorem dX4_read_151 : decode cX4_read 151 = .ok (.isub, 1) := dk_100 (dk_at dksX4_read_6 13 rfl rfl)
theorem dX4_read_152 : decode cX4_read 152 = .ok (.bipush 8, 2) := dk_16 8 (dk_at dksX4_read_6 14 rfl rfl)
theorem dX4_read_154 : decode cX4_read 154 = .ok (.if_icmp .gt 7, 3) := dk_163 0 7 (dk_at dksX4_read_6 16 rfl rfl)
theorem dX4_read_157 : decode cX4_read 157 = .ok (.iconst 2, 1) := dk_5 (dk_at dksX4_read_6 19 rfl rfl)
theorem dX4_read_158 : decode cX4_read 158 = .ok (.goto 4, 3) := dk_167 0 4 (dk_at dksX4_read_6 20 rfl rfl)
theorem dX4_read_161 : decode cX4_read 161 = .ok (.iconst 1, 1) := dk_4 (dk_at dksX4_read_6 23 rfl rfl)
theorem dX4_read_162 : decode cX4_read 162 = .ok (.iload_n 2, 1) := dk_28 (dk_at dksX4_read_7 0 rfl rfl)
theorem dX4_read_163 : decode cX4_read 163 = .ok (.lload_n 3, 1) := dk_33 (dk_at dksX4_read_7 1 rfl rfl)
theorem dX4_read_164 : decode cX4_read 164 = .ok (.invokevirtual 148, 3) := dk_182 0 148 (dk_at dksX4_read_7 2 rfl rfl)
theorem dX4_read_167 : decode cX4_read 167 = .ok (.goto 140, 3) := dk_167 0 140 (dk_at dksX4_read_7 5 rfl rfl)
theorem dX4_read_170 : decode cX4_read 170 = .ok (.aload_n 0, 1) := dk_42 (dk_at dksX4_read_7 8 rfl rfl)
theorem dX4_read_171 : decode cX4_read 171 = .ok (.getfield 27, 3) := dk_180 0 27 (dk_at dksX4_read_7 9 rfl rfl)
theorem dX4_read_174 : decode cX4_read 174 = .ok (.iload_n 1, 1) := dk_27 (dk_at dksX4_read_7 12 rfl rfl)
theorem dX4_read_175 : decode cX4_read 175 = .ok (.iaload, 1) := dk_46 (dk_at dksX4_read_7 13 rfl rfl)
theorem dX4_read_176 : decode cX4_read 176 = .ok (.invokestatic 155, 3) := dk_184 0 155 (dk_at dksX4_read_7 14 rfl rfl)
theorem dX4_read_179 : decode cX4_read 179 = .ok (.ifCond .eq 90, 3) := dk_153 0 90 (dk_at dksX4_read_7 17 rfl rfl)
theorem dX4_read_182 : decode cX4_read 182 = .ok (.lload_n 3, 1) := dk_33 (dk_at dksX4_read_7 20 rfl rfl)
theorem dX4_read_183 : decode cX4_read 183 = .ok (.ldc2_w 158, 3) := dk_20 0 158 (dk_at dksX4_read_7 21 rfl rfl)
theorem dX4_read_186 : decode cX4_read 186 = .ok (.lsub, 1) := dk_101 (dk_at dksX4_read_8 0 rfl rfl)
theorem dX4_read_187 : decode cX4_read 187 = .ok (.lstore_n 3, 1) := dk_66 (dk_at dksX4_read_8 1 rfl rfl)
theorem dX4_read_188 : decode cX4_read 188 = .ok (.iinc 1 1, 3) := dk_132 1 1 (dk_at dksX4_read_8 2 rfl rfl)
theorem dX4_read_191 : decode cX4_read 191 = .ok (.iload_n 1, 1) := dk_27 (dk_at dksX4_read_8 5 rfl rfl)
theorem dX4_read_192 : decode cX4_read 192 = .ok (.aload_n 0, 1) := dk_42 (dk_at dksX4_read_8 6 rfl rfl)
theorem dX4_read_193 : decode cX4_read 193 = .ok (.getfield 145, 3) := dk_180 0 145 (dk_at dksX4_read_8 7 rfl rfl)
theorem dX4_read_196 : decode cX4_read 196 = .ok (.if_icmp .ge 51, 3) := dk_162 0 51 (dk_at dksX4_read_8 10 rfl rfl)
theorem dX4_read_199 : decode cX4_read 199 = .ok (.aload_n 0, 1) := dk_42 (dk_at dksX4_read_8 13 rfl rfl)
theorem dX4_read_200 : decode cX4_read 200 = .ok (.getfield 27, 3) := dk_180 0 27 (dk_at dksX4_read_8 14 rfl rfl)
theorem dX4_read_203 : decode cX4_read 203 = .ok (.iload_n 1, 1) := dk_27 (dk_at dksX4_read_8 17 rfl rfl)
theorem dX4_read_204 : decode cX4_read 204 = .ok (.iaload, 1) := dk_46 (dk_at dksX4_read_8 18 rfl rfl)
theorem dX4_read_205 : decode cX4_read 205 = .ok (.invokestatic 155, 3) := dk_184 0 155 (dk_at dksX4_read_8 19 rfl rfl)
theorem dX4_read_208 : decode cX4_read 208 = .ok (.ifCond .eq 39, 3) := dk_153 0 39 (dk_at dksX4_read_9 0 rfl rfl)
theorem dX4_read_211 : decode cX4_read 211 = .ok (.iload_n 1, 1) := dk_27 (dk_at dksX4_read_9 3 rfl rfl)
theorem dX4_read_212 : decode cX4_read 212 = .ok (.iload_n 2, 1) := dk_28 (dk_at dksX4_read_9 4 rfl rfl)
theorem dX4_read_213 : decode cX4_read 213 = .ok (.isub, 1) := dk_100 (dk_at dksX4_read_9 5 rfl rfl)
theorem dX4_read_214 : decode cX4_read 214 = .ok (.bipush 6, 2) := dk_16 6 (dk_at dksX4_read_9 6 rfl rfl)
theorem dX4_read_216 : decode cX4_read 216 = .ok (.if_icmp .ge 23, 3) := dk_162 0 23 (dk_at dksX4_read_9 8 rfl rfl)
theorem dX4_read_219 : decode cX4_read 219 = .ok (.ldc2_w 160, 3) := dk_20 0 160 (dk_at dksX4_read_9 11 rfl rfl)
theorem dX4_read_222 : decode cX4_read 222 = .ok (.lload_n 3, 1) := dk_33 (dk_at dksX4_read_9 14 rfl rfl)
theorem dX4_read_223 : decode cX4_read 223 = .ok (.lmul, 1) := dk_105 (dk_at dksX4_read_9 15 rfl rfl)
theorem dX4_read_224 : decode cX4_read 224 = .ok (.aload_n 0, 1) := dk_42 (dk_at dksX4_read_9 16 rfl rfl)
theorem dX4_read_225 : decode cX4_read 225 = .ok (.getfield 27, 3) := dk_180 0 27 (dk_at dksX4_read_9 17 rfl rfl)
theorem dX4_read_228 : decode cX4_read 228 = .ok (.iload_n 1, 1) := dk_27 (dk_at dksX4_read_9 20 rfl rfl)
theorem dX4_read_229 : decode cX4_read 229 = .ok (.iaload, 1) := dk_46 (dk_at dksX4_read_9 21 rfl rfl)
theorem dX4_read_230 : decode cX4_read 230 = .ok (.i2l, 1) := dk_133 (dk_at dksX4_read_9 22 rfl rfl)
theorem dX4_read_231 : decode cX4_read 231 = .ok (.ladd, 1) := dk_97 (dk_at dksX4_read_9 23 rfl rfl)
theorem dX4_read_232 : decode cX4_read 232 = .ok (.ldc2_w 158, 3) := dk_20 0 158 (dk_at dksX4_read_10 0 rfl rfl)
theorem dX4_read_235 : decode cX4_read 235 = .ok (.lsub, 1) := dk_101 (dk_at dksX4_read_10 3 rfl rfl)
theorem dX4_read_236 : decode cX4_read 236 = .ok (.goto 4, 3) := dk_167 0 4 (dk_at dksX4_read_10 4 rfl rfl)
theorem dX4_read_239 : decode cX4_read 239 = .ok (.lload_n 3, 1) := dk_33 (dk_at dksX4_read_10 7 rfl rfl)
theorem dX4_read_240 : decode cX4_read 240 = .ok (.lstore_n 3, 1) := dk_66 (dk_at dksX4_read_10 8 rfl rfl)
theorem dX4_read_241 : decode cX4_read 241 = .ok (.iinc 1 1, 3) := dk_132 1 1 (dk_at dksX4_read_10 9 rfl rfl)
theorem dX4_read_244 : decode cX4_read 244 = .ok (.goto (-53), 3) := dk_167 255 203 (dk_at dksX4_read_10 12 rfl rfl)
theorem dX4_read_247 : decode cX4_read 247 = .ok (.aload_n 0, 1) := dk_42 (dk_at dksX4_read_10 15 rfl rfl)
theorem dX4_read_248 : decode cX4_read 248 = .ok (.iload_n 1, 1) := dk_27 (dk_at dksX4_read_10 16 rfl rfl)
theorem dX4_read_249 : decode cX4_read 249 = .ok (.iload_n 2, 1) := dk_28 (dk_at dksX4_read_10 17 rfl rfl)
theorem dX4_read_250 : decode cX4_read 250 = .ok (.isub, 1) := dk_100 (dk_at dksX4_read_10 18 rfl rfl)
theorem dX4_read_251 : decode cX4_read 251 = .ok (.bipush 6, 2) := dk_16 6 (dk_at dksX4_read_10 19 rfl rfl)
theorem dX4_read_253 : decode cX4_read 253 = .ok (.if_icmp .gt 7, 3) := dk_163 0 7 (dk_at dksX4_read_10 21 rfl rfl)
theorem dX4_read_256 : decode cX4_read 256 = .ok (.iconst 3, 1) := dk_6 (dk_at dksX4_read_11 0 rfl rfl)
theorem dX4_read_257 : decode cX4_read 257 = .ok (.goto 4, 3) := dk_167 0 4 (dk_at dksX4_read_11 1 rfl rfl)
theorem dX4_read_260 : decode cX4_read 260 = .ok (.iconst 1, 1) := dk_4 (dk_at dksX4_read_11 4 rfl rfl)
theorem dX4_read_261 : decode cX4_read 261 = .ok (.iload_n 2, 1) := dk_28 (dk_at dksX4_read_11 5 rfl rfl)
theorem dX4_read_262 : decode cX4_read 262 = .ok (.lload_n 3, 1) := dk_33 (dk_at dksX4_read_11 6 rfl rfl)
theorem dX4_read_263 : decode cX4_read 263 = .ok (.invokevirtual 148, 3) := dk_182 0 148 (dk_at dksX4_read_11 7 rfl rfl)
theorem dX4_read_266 : decode cX4_read 266 = .ok (.goto 41, 3) := dk_167 0 41 (dk_at dksX4_read_11 10 rfl rfl)
theorem dX4_read_269 : decode cX4_read 269 = .ok (.iinc 1 1, 3) := dk_132 1 1 (dk_at dksX4_read_11 13 rfl rfl)
theorem dX4_read_272 : decode cX4_read 272 = .ok (.aload_n 0, 1) := dk_42 (dk_at dksX4_read_11 16 rfl rfl)
theorem dX4_read_273 : decode cX4_read 273 = .ok (.lload_n 3, 1) := dk_33 (dk_at dksX4_read_11 17 rfl rfl)
theorem dX4_read_274 : decode cX4_read 274 = .ok (.ldc2_w 162, 3) := dk_20 0 162 (dk_at dksX4_read_11 18 rfl rfl)
theorem dX4_read_277 : decode cX4_read 277 = .ok (.lcmp, 1) := dk_148 (dk_at dksX4_read_11 21 rfl rfl)
theorem dX4_read_278 : decode cX4_read 278 = .ok (.ifCond .eq 19, 3) := dk_153 0 19 (dk_at dksX4_read_12 0 rfl rfl)
theorem dX4_read_281 : decode cX4_read 281 = .ok (.lload_n 3, 1) := dk_33 (dk_at dksX4_read_12 3 rfl rfl)
theorem dX4_read_282 : decode cX4_read 282 = .ok (.ldc2_w 164, 3) := dk_20 0 164 (dk_at dksX4_read_12 4 rfl rfl)
theorem dX4_read_285 : decode cX4_read 285 = .ok (.lcmp, 1) := dk_148 (dk_at dksX4_read_12 7 rfl rfl)
theorem dX4_read_286 : decode cX4_read 286 = .ok (.ifCond .eq 11, 3) := dk_153 0 11 (dk_at dksX4_read_12 8 rfl rfl)
theorem dX4_read_289 : decode cX4_read 289 = .ok (.lload_n 3, 1) := dk_33 (dk_at dksX4_read_12 11 rfl rfl)
theorem dX4_read_290 : decode cX4_read 290 = .ok (.ldc2_w 166, 3) := dk_20 0 166 (dk_at dksX4_read_12 12 rfl rfl)
theorem dX4_read_293 : decode cX4_read 293 = .ok (.lcmp, 1) := dk_148 (dk_at dksX4_read_12 15 rfl rfl)
theorem dX4_read_294 : decode cX4_read 294 = .ok (.ifCond .ne 7, 3) := dk_154 0 7 (dk_at dksX4_read_12 16 rfl rfl)
theorem dX4_read_297 : decode cX4_read 297 = .ok (.iconst 4, 1) := dk_7 (dk_at dksX4_read_12 19 rfl rfl)
theorem dX4_read_298 : decode cX4_read 298 = .ok (.goto 4, 3) := dk_167 0 4 (dk_at dksX4_read_12 20 rfl rfl)
theorem dX4_read_301 : decode cX4_read 301 = .ok (.iconst 1, 1) := dk_4 (dk_at dksX4_read_12 23 rfl rfl)
theorem dX4_read_302 : decode cX4_read 302 = .ok (.iload_n 2, 1) := dk_28 (dk_at dksX4_read_13 0 rfl rfl)
theorem dX4_read_303 : decode cX4_read 303 = .ok (.lload_n 3, 1) := dk_33 (dk_at dksX4_read_13 1 rfl rfl)
theorem dX4_read_304 : decode cX4_read 304 = .ok (.invokevirtual 148, 3) := dk_182 0 148 (dk_at dksX4_read_13 2 rfl rfl)
theorem dX4_read_307 : decode cX4_read 307 = .ok (.aload_n 0, 1) := dk_42 (dk_at dksX4_read_13 5 rfl rfl)
theorem dX4_read_308 : decode cX4_read 308 = .ok (.getfield 34, 3) := dk_180 0 34 (dk_at dksX4_read_13 6 rfl rfl)
theorem dX4_read_311 : decode cX4_read 311 = .ok (.aload_n 0, 1) := dk_42 (dk_at dksX4_read_13 9 rfl rfl)
theorem dX4_read_312 : decode cX4_read 312 = .ok (.getfield 142, 3) := dk_180 0 142 (dk_at dksX4_read_13 10 rfl rfl)
theorem dX4_read_315 : decode cX4_read 315 = .ok (.iconst 1, 1) := dk_4 (dk_at dksX4_read_13 13 rfl rfl)
theorem dX4_read_316 : decode cX4_read 316 = .ok (.isub, 1) := dk_100 (dk_at dksX4_read_13 14 rfl rfl)
theorem dX4_read_317 : decode cX4_read 317 = .ok (.iaload, 1) := dk_46 (dk_at dksX4_read_13 15 rfl rfl)
theorem dX4_read_318 : decode cX4_read 318 = .ok (.iconst 1, 1) := dk_4 (dk_at dksX4_read_13 16 rfl rfl)
theorem dX4_read_319 : decode cX4_read 319 = .ok (.if_icmp .ne 4, 3) := dk_160 0 4 (dk_at dksX4_read_13 17 rfl rfl)
theorem dX4_read_322 : decode cX4_read 322 = .ok (.return_, 1) := dk_177 (dk_at dksX4_read_13 20 rfl rfl)
theorem dX4_read_323 : decode cX4_read 323 = .ok (.goto (-316), 3) := dk_167 254 196 (dk_at dksX4_read_13 21 rfl rfl)
theorem dX4_read_326 : decode cX4_read 326 = .ok (.return_, 1) := dk_177 (dk_at dksX4_read_14 0 rfl rfl)
theorem q2542 : (Jvm.Cond.code ({ cls := "DebateHallModel", name := "isLetter", desc := "(I)Z" } : Jvm.MethodName) prog_25_method_14_code (1 : Nat) (Option.some Jvm.ClassFile.FieldType.boolean)) ∈ lw_all := lw_g (lw_at lw_m11 62 rfl) rfl
theorem zk_X4_isLetter : zz_cd yX4_isLetter cX4_isLetter 1 (some .boolean) none ∈ lw_all := q2542
theorem zy_X4_isLetter : zz_yok yX4_isLetter 1 = true := by decide +kernel
theorem q2545 : (Jvm.Cond.code ({ cls := "DebateHallModel", name := "isDigit", desc := "(I)Z" } : Jvm.MethodName) prog_25_method_15_code (1 : Nat) (Option.some Jvm.ClassFile.FieldType.boolean)) ∈ lw_all := lw_g (lw_at lw_m11 65 rfl) rfl
theorem zk_X4_isDigit : zz_cd yX4_isDigit cX4_isDigit 1 (some .boolean) none ∈ lw_all := q2545
theorem zy_X4_isDigit : zz_yok yX4_isDigit 1 = true := by decide +kernel
theorem q2548 : (Jvm.Cond.constantLong "DebateHallModel" (162 : Nat) (91 : Int64)) ∈ lw_all := lw_g (lw_at lw_m11 68 rfl) rfl
theorem q2549 : (Jvm.Cond.constantLong "DebateHallModel" (164 : Nat) (93 : Int64)) ∈ lw_all := lw_g (lw_at lw_m11 69 rfl) rfl
theorem q2550 : (Jvm.Cond.constantLong "DebateHallModel" (166 : Nat) (59 : Int64)) ∈ lw_all := lw_g (lw_at lw_m11 70 rfl) rfl
theorem q2546 : (Jvm.Cond.constantLong "DebateHallModel" (158 : Nat) (48 : Int64)) ∈ lw_all := lw_g (lw_at lw_m11 66 rfl) rfl
theorem q2543 : (Jvm.Cond.methodLink "DebateHallModel" (155 : Nat) ({ cls := "DebateHallModel", name := "isDigit", desc := "(I)Z" } : Jvm.MethodName)) ∈ lw_all := lw_g (lw_at lw_m11 63 rfl) rfl
theorem q2544 : (Jvm.Cond.static ({ cls := "DebateHallModel", name := "isDigit", desc := "(I)Z" } : Jvm.MethodName)) ∈ lw_all := lw_g (lw_at lw_m11 64 rfl) rfl
theorem q2540 : (Jvm.Cond.methodLink "DebateHallModel" (152 : Nat) ({ cls := "DebateHallModel", name := "isLetter", desc := "(I)Z" } : Jvm.MethodName)) ∈ lw_all := lw_g (lw_at lw_m11 60 rfl) rfl
theorem q2541 : (Jvm.Cond.static ({ cls := "DebateHallModel", name := "isLetter", desc := "(I)Z" } : Jvm.MethodName)) ∈ lw_all := lw_g (lw_at lw_m11 61 rfl) rfl
theorem q2539 : (Jvm.Cond.code ({ cls := "DebateHallModel", name := "token", desc := "(IIJ)V" } : Jvm.MethodName) prog_25_method_16_code (5 : Nat) (Option.none : Option Jvm.ClassFile.FieldType)) ∈ lw_all := lw_g (lw_at lw_m11 59 rfl) rfl
theorem zk_X4_token : zz_cd yX4_token cX4_token 5 none none ∈ lw_all := q2539
theorem zy_X4_token : zz_yok yX4_token 3 = true := by decide +kernel
theorem q2536 : (Jvm.Cond.methodLink "DebateHallModel" (148 : Nat) ({ cls := "DebateHallModel", name := "token", desc := "(IIJ)V" } : Jvm.MethodName)) ∈ lw_all := lw_g (lw_at lw_m11 56 rfl) rfl
theorem q2538 : (Jvm.Cond.instanceMethod ({ cls := "DebateHallModel", name := "token", desc := "(IIJ)V" } : Jvm.MethodName)) ∈ lw_all := lw_g (lw_at lw_m11 58 rfl) rfl
theorem q2547 : (Jvm.Cond.constantLong "DebateHallModel" (160 : Nat) (10 : Int64)) ∈ lw_all := lw_g (lw_at lw_m11 67 rfl) rfl
def wp_X4_read_B47 (Z : zzG) (k7 : Option Nat → Int32 → zzM → Prop) (k17 : Option Nat → Int32 → zzM → Prop) (K : Option Value → zzM → Prop) (v0 : Option Nat) (v1 : Int32) (M : zzM) : Prop := k17 v0 (v1 + 1) M
def wp_X4_read_B129 (Z : zzG) (k7 : Option Nat → Int32 → zzM → Prop) (k97 : Option Nat → Int32 → Int32 → Int64 → zzM → Prop) (K : Option Value → zzM → Prop) (v0 : Option Nat) (v1 : Int32) (v2 : Int32) (v3 : Int64) (M : zzM) : Prop := zgA Z M v0 [16] 3 fun x45 => zaI Z M x45 [100] v1 fun x46 => k97 v0 (v1 + 1) v2 ((v3 <<< ((8 : Int32).toInt64 &&& 63)) ||| x46.toInt64) M
def wp_X4_read_B307 (Z : zzG) (k7 : Option Nat → Int32 → zzM → Prop) (K : Option Value → zzM → Prop) (v0 : Option Nat) (v1 : Int32) (M : zzM) : Prop := zgA Z M v0 [16] 7 fun x51 => zgI Z M v0 [16] 6 fun x52 => zaI Z M x51 [100] (x52 - (1 : Int32)) fun x53 => if x53 = (1 : Int32) then (K none M) else (k7 v0 v1 M)
def wp_X4_read_B162 (Z : zzG) (k7 : Option Nat → Int32 → zzM → Prop) (K : Option Value → zzM → Prop) (v0 : Option Nat) (v1 : Int32) (v2 : Int32) (v3 : Int64) (s0 : Int32) (s1 : Option Nat) (M : zzM) : Prop := zty Z M s1 fun t => t = 16 ∧ wp_X4_token Z s1 s0 v2 v3 M (fun r47 M48 => zrV r47 (wp_X4_read_B307 Z k7 K v0 v1 M48))
def wp_X4_read_B148 (Z : zzG) (k7 : Option Nat → Int32 → zzM → Prop) (K : Option Value → zzM → Prop) (v0 : Option Nat) (v1 : Int32) (v2 : Int32) (v3 : Int64) (M : zzM) : Prop := if (8 : Int32) < (v1 - v2) then (wp_X4_read_B162 Z k7 K v0 v1 v2 v3 (1 : Int32) v0 M) else (wp_X4_read_B162 Z k7 K v0 v1 v2 v3 (2 : Int32) v0 M)
def wp_X4_read_L97 (Z : zzG) (k7 : Option Nat → Int32 → zzM → Prop) (K : Option Value → zzM → Prop) : Nat → Option Nat → Int32 → Int32 → Int64 → zzM → Prop
  | 0, _, _, _, _, _ => False
  | n + 1, v0, v1, v2, v3, M => zgI Z M v0 [16] 2 fun x30 => if x30 ≤ v1 then (wp_X4_read_B148 Z k7 K v0 v1 v2 v3 M) else (zgA Z M v0 [16] 3 fun x31 => zaI Z M x31 [100] v1 fun x32 => wp_X4_isLetter Z x32 M (fun r33 M34 => zrI r33 fun x37 => if x37 = 0 then (zgA Z M34 v0 [16] 3 fun x38 => zaI Z M34 x38 [100] v1 fun x39 => wp_X4_isDigit Z x39 M34 (fun r40 M41 => zrI r40 fun x44 => if x44 = 0 then (wp_X4_read_B148 Z k7 K v0 v1 v2 v3 M41) else (wp_X4_read_B129 Z k7 (wp_X4_read_L97 Z k7 K n) K v0 v1 v2 v3 M41))) else (wp_X4_read_B129 Z k7 (wp_X4_read_L97 Z k7 K n) K v0 v1 v2 v3 M34)))
def wp_X4_read_B240 (Z : zzG) (k7 : Option Nat → Int32 → zzM → Prop) (k191 : Option Nat → Int32 → Int32 → Int64 → zzM → Prop) (K : Option Value → zzM → Prop) (v0 : Option Nat) (v1 : Int32) (v2 : Int32) (s0 : Int64) (M : zzM) : Prop := k191 v0 (v1 + 1) v2 s0 M
def wp_X4_read_B261 (Z : zzG) (k7 : Option Nat → Int32 → zzM → Prop) (K : Option Value → zzM → Prop) (v0 : Option Nat) (v1 : Int32) (v2 : Int32) (v3 : Int64) (s0 : Int32) (s1 : Option Nat) (M : zzM) : Prop := zty Z M s1 fun t => t = 16 ∧ wp_X4_token Z s1 s0 v2 v3 M (fun r64 M65 => zrV r64 (wp_X4_read_B307 Z k7 K v0 v1 M65))
def wp_X4_read_B247 (Z : zzG) (k7 : Option Nat → Int32 → zzM → Prop) (K : Option Value → zzM → Prop) (v0 : Option Nat) (v1 : Int32) (v2 : Int32) (v3 : Int64) (M : zzM) : Prop := if (6 : Int32) < (v1 - v2) then (wp_X4_read_B261 Z k7 K v0 v1 v2 v3 (1 : Int32) v0 M) else (wp_X4_read_B261 Z k7 K v0 v1 v2 v3 (3 : Int32) v0 M)
def wp_X4_read_L191 (Z : zzG) (k7 : Option Nat → Int32 → zzM → Prop) (K : Option Value → zzM → Prop) : Nat → Option Nat → Int32 → Int32 → Int64 → zzM → Prop
  | 0, _, _, _, _, _ => False
  | n + 1, v0, v1, v2, v3, M => zgI Z M v0 [16] 2 fun x54 => if x54 ≤ v1 then (wp_X4_read_B247 Z k7 K v0 v1 v2 v3 M) else (zgA Z M v0 [16] 3 fun x55 => zaI Z M x55 [100] v1 fun x56 => wp_X4_isDigit Z x56 M (fun r57 M58 => zrI r57 fun x61 => if x61 = 0 then (wp_X4_read_B247 Z k7 K v0 v1 v2 v3 M58) else (if (6 : Int32) ≤ (v1 - v2) then (wp_X4_read_B240 Z k7 (wp_X4_read_L191 Z k7 K n) K v0 v1 v2 v3 M58) else (zgA Z M58 v0 [16] 3 fun x62 => zaI Z M58 x62 [100] v1 fun x63 => wp_X4_read_B240 Z k7 (wp_X4_read_L191 Z k7 K n) K v0 v1 v2 ((((10 : Int64) * v3) + x63.toInt64) - (48 : Int64)) M58))))
def wp_X4_read_B302 (Z : zzG) (k7 : Option Nat → Int32 → zzM → Prop) (K : Option Value → zzM → Prop) (v0 : Option Nat) (v1 : Int32) (v2 : Int32) (v3 : Int64) (s0 : Int32) (s1 : Option Nat) (M : zzM) : Prop := zty Z M s1 fun t => t = 16 ∧ wp_X4_token Z s1 s0 v2 v3 M (fun r68 M69 => zrV r68 (wp_X4_read_B307 Z k7 K v0 v1 M69))
def wp_X4_read_B297 (Z : zzG) (k7 : Option Nat → Int32 → zzM → Prop) (K : Option Value → zzM → Prop) (v0 : Option Nat) (v1 : Int32) (v2 : Int32) (v3 : Int64) (s0 : Option Nat) (M : zzM) : Prop := wp_X4_read_B302 Z k7 K v0 v1 v2 v3 (4 : Int32) s0 M
def wp_X4_read_B53 (Z : zzG) (k7 : Option Nat → Int32 → zzM → Prop) (K : Option Value → zzM → Prop) (v0 : Option Nat) (v1 : Int32) (M : zzM) : Prop := zgI Z M v0 [16] 2 fun x8 => if v1 = x8 then (zgI Z M v0 [16] 2 fun x25 => zty Z M v0 fun t => t = 16 ∧ wp_X4_token Z v0 (0 : Int32) x25 (0 : Int64) M (fun r26 M27 => zrV r26 (K none M27))) else (zgA Z M v0 [16] 3 fun x9 => zaI Z M x9 [100] v1 fun x10 => zgA Z M v0 [16] 3 fun x11 => zaI Z M x11 [100] v1 fun x12 => wp_X4_isLetter Z x12 M (fun r13 M14 => zrI r13 fun x17 => if x17 = 0 then (zgA Z M14 v0 [16] 3 fun x18 => zaI Z M14 x18 [100] v1 fun x19 => wp_X4_isDigit Z x19 M14 (fun r20 M21 => zrI r20 fun x24 => if x24 = 0 then (if (lg_cmp x10.toInt64 (91 : Int64)) = 0 then (wp_X4_read_B297 Z k7 K v0 (v1 + 1) v1 x10.toInt64 v0 M21) else (if (lg_cmp x10.toInt64 (93 : Int64)) = 0 then (wp_X4_read_B297 Z k7 K v0 (v1 + 1) v1 x10.toInt64 v0 M21) else (if (lg_cmp x10.toInt64 (59 : Int64)) = 0 then (wp_X4_read_B297 Z k7 K v0 (v1 + 1) v1 x10.toInt64 v0 M21) else (wp_X4_read_B302 Z k7 K v0 (v1 + 1) v1 x10.toInt64 (1 : Int32) v0 M21)))) else (∃ n191 : Nat, wp_X4_read_L191 Z k7 K n191 v0 (v1 + 1) v1 (x10.toInt64 - (48 : Int64)) M21))) else (∃ n97 : Nat, wp_X4_read_L97 Z k7 K n97 v0 (v1 + 1) v1 x10.toInt64 M14)))
def wp_X4_read_L17 (Z : zzG) (k7 : Option Nat → Int32 → zzM → Prop) (K : Option Value → zzM → Prop) : Nat → Option Nat → Int32 → zzM → Prop
  | 0, _, _, _ => False
  | n + 1, v0, v1, M => zgI Z M v0 [16] 2 fun x3 => if x3 ≤ v1 then (wp_X4_read_B53 Z k7 K v0 v1 M) else (zgA Z M v0 [16] 3 fun x4 => zaI Z M x4 [100] v1 fun x5 => if x5 = (32 : Int32) then (wp_X4_read_B47 Z k7 (wp_X4_read_L17 Z k7 K n) K v0 v1 M) else (zgA Z M v0 [16] 3 fun x6 => zaI Z M x6 [100] v1 fun x7 => if x7 = (10 : Int32) then (wp_X4_read_B47 Z k7 (wp_X4_read_L17 Z k7 K n) K v0 v1 M) else (wp_X4_read_B53 Z k7 K v0 v1 M)))
def wp_X4_read_L7 (Z : zzG) (K : Option Value → zzM → Prop) : Nat → Option Nat → Int32 → zzM → Prop
  | 0, _, _, _ => False
  | n + 1, v0, v1, M => zgI Z M v0 [16] 6 fun x2 => if (400 : Int32) < x2 then (K none M) else (∃ n17 : Nat, wp_X4_read_L17 Z (wp_X4_read_L7 Z K n) K n17 v0 v1 M)
def wp_X4_read (Z : zzG) (this : Option Nat) (M : zzM) (K : Option Value → zzM → Prop) : Prop := zput Z M this [16] 6 (.int (0 : Int32)) fun M1 => ∃ n7 : Nat, wp_X4_read_L7 Z K n7 this (0 : Int32) M1
theorem ok_X4_read_B47 {G : zzX} (C : zz_C G cX4_read "DebateHallModel" 5) {K : Option Value → zzM → Prop} (E : zz_E G none K (fun _ _ _ => False)) (hH : zz_H G []) (hR : zz_Rm G 2) {k7 : Option Nat → Int32 → zzM → Prop} (hk7 : ∀ (z0 : Option Nat) (z1 : Int32) (M : zzM) (bc bs : Nat), k7 z0 z1 M → zz_T G 5 M bc bs 7 [(0, va_rf z0), (1, .int z1)] []) {k17 : Option Nat → Int32 → zzM → Prop} (hk17 : ∀ (z0 : Option Nat) (z1 : Int32) (M : zzM) (bc bs : Nat), k17 z0 z1 M → zz_T G 5 M bc bs 17 [(0, va_rf z0), (1, .int z1)] []) {v0 : Option Nat} {v1 : Int32} {M : zzM} {bc bs : Nat} (hw : wp_X4_read_B47 (zz_Zof G) k7 k17 K v0 v1 M) : zz_T G 5 M bc bs 47 [(0, va_rf v0), (1, .int v1)] [] := by
  unfold wp_X4_read_B47 at hw
  refine zz_iinc (lv' := [(1, .int (v1 + 1)), (0, va_rf v0)]) C dX4_read_47 1 rfl (by rfl) (by decide) (by simp [zz_cat, zz_catI, zz_catJ, zz_catD]) ?_
  refine zz_goto (tgt := 17) C dX4_read_50 (by decide) ?_
  refine zz_subP [1, 0] rfl ?_
  exact hk17 _ _ _ _ _ hw
theorem ok_X4_read_B129 {G : zzX} (C : zz_C G cX4_read "DebateHallModel" 5) {K : Option Value → zzM → Prop} (E : zz_E G none K (fun _ _ _ => False)) (hH : zz_H G []) (hR : zz_Rm G 2) {k7 : Option Nat → Int32 → zzM → Prop} (hk7 : ∀ (z0 : Option Nat) (z1 : Int32) (M : zzM) (bc bs : Nat), k7 z0 z1 M → zz_T G 5 M bc bs 7 [(0, va_rf z0), (1, .int z1)] []) {k97 : Option Nat → Int32 → Int32 → Int64 → zzM → Prop} (hk97 : ∀ (z0 : Option Nat) (z1 : Int32) (z2 : Int32) (z3 : Int64) (M : zzM) (bc bs : Nat), k97 z0 z1 z2 z3 M → zz_T G 5 M bc bs 97 [(0, va_rf z0), (1, .int z1), (2, .int z2), (3, .long z3)] []) {v0 : Option Nat} {v1 : Int32} {v2 : Int32} {v3 : Int64} {M : zzM} {bc bs : Nat} (hw : wp_X4_read_B129 (zz_Zof G) k7 k97 K v0 v1 v2 v3 M) : zz_T G 5 M bc bs 129 [(0, va_rf v0), (1, .int v1), (2, .int v2), (3, .long v3)] [] := by
  unfold wp_X4_read_B129 at hw
  refine zz_lload_n C dX4_read_129 rfl 3 rfl ?_
  refine zz_bipush (v := (8 : Int32)) C dX4_read_130 (by decide) ?_
  refine zz_lshl C dX4_read_132 rfl ?_
  refine zz_aload_n C dX4_read_133 rfl 0 rfl ?_
  refine zz_getA C dX4_read_134 (Or.inl q2439) zf_16_3_ebateHallModel hw (fun x45 hw => ?_)
  refine zz_iload_n C dX4_read_137 rfl 1 rfl ?_
  refine zz_iald C dX4_read_138 hw (fun x46 hw => ?_)
  refine zz_i2l C dX4_read_139 ?_
  refine zz_lor C dX4_read_140 ?_
  refine zz_lstore_n (i := 3) (lv' := [(3, .long ((v3 <<< ((8 : Int32).toInt64 &&& 63)) ||| x46.toInt64)), (0, va_rf v0), (1, .int v1), (2, .int v2)]) C dX4_read_141 rfl (by decide) rfl ?_
  refine zz_iinc (lv' := [(1, .int (v1 + 1)), (3, .long ((v3 <<< ((8 : Int32).toInt64 &&& 63)) ||| x46.toInt64)), (0, va_rf v0), (2, .int v2)]) C dX4_read_142 2 rfl (by rfl) (by decide) (by simp [zz_cat, zz_catI, zz_catJ, zz_catD]) ?_
  refine zz_goto (tgt := 97) C dX4_read_145 (by decide) ?_
  refine zz_subP [2, 0, 3, 1] rfl ?_
  exact hk97 _ _ _ _ _ _ _ hw
theorem ok_X4_read_B307 {G : zzX} (C : zz_C G cX4_read "DebateHallModel" 5) {K : Option Value → zzM → Prop} (E : zz_E G none K (fun _ _ _ => False)) (hH : zz_H G []) (hR : zz_Rm G 2) {k7 : Option Nat → Int32 → zzM → Prop} (hk7 : ∀ (z0 : Option Nat) (z1 : Int32) (M : zzM) (bc bs : Nat), k7 z0 z1 M → zz_T G 5 M bc bs 7 [(0, va_rf z0), (1, .int z1)] []) {v0 : Option Nat} {v1 : Int32} {M : zzM} {bc bs : Nat} (hw : wp_X4_read_B307 (zz_Zof G) k7 K v0 v1 M) : zz_T G 5 M bc bs 307 [(0, va_rf v0), (1, .int v1)] [] := by
  unfold wp_X4_read_B307 at hw
  refine zz_aload_n C dX4_read_307 rfl 0 rfl ?_
  refine zz_getA C dX4_read_308 (Or.inl q2443) zf_16_7_ebateHallModel hw (fun x51 hw => ?_)
  refine zz_aload_n C dX4_read_311 rfl 0 rfl ?_
  refine zz_getI C dX4_read_312 (Or.inl q2442) zf_16_6_ebateHallModel hw (fun x52 hw => ?_)
  refine zz_iconst (v := (1 : Int32)) C dX4_read_315 (by decide) ?_
  refine zz_isub C dX4_read_316 ?_
  refine zz_iald C dX4_read_317 hw (fun x53 hw => ?_)
  refine zz_iconst (v := (1 : Int32)) C dX4_read_318 (by decide) ?_
  refine zz_icmp_ne (tgt := 323) C dX4_read_319 (by decide) hw (fun hw => ?_) (fun hw => ?_)
  · refine zz_goto (tgt := 7) C dX4_read_323 (by decide) ?_
    refine zz_subP [0, 1] rfl ?_
    exact hk7 _ _ _ _ _ hw
  · exact zz_vret C E dX4_read_322 hw
theorem ok_X4_read_B162 {G : zzX} (C : zz_C G cX4_read "DebateHallModel" 5) {K : Option Value → zzM → Prop} (E : zz_E G none K (fun _ _ _ => False)) (hH : zz_H G []) (hR : zz_Rm G 2) {k7 : Option Nat → Int32 → zzM → Prop} (hk7 : ∀ (z0 : Option Nat) (z1 : Int32) (M : zzM) (bc bs : Nat), k7 z0 z1 M → zz_T G 5 M bc bs 7 [(0, va_rf z0), (1, .int z1)] []) {v0 : Option Nat} {v1 : Int32} {v2 : Int32} {v3 : Int64} {s0 : Int32} {s1 : Option Nat} {M : zzM} {bc bs : Nat} (hw : wp_X4_read_B162 (zz_Zof G) k7 K v0 v1 v2 v3 s0 s1 M) : zz_T G 5 M bc bs 162 [(0, va_rf v0), (1, .int v1), (2, .int v2), (3, .long v3)] [.int s0, va_rf s1] := by
  unfold wp_X4_read_B162 at hw
  refine zz_iload_n C dX4_read_162 rfl 2 rfl ?_
  refine zz_lload_n C dX4_read_163 rfl 3 rfl ?_
  obtain ⟨a9, t9, b9, fs9, hro, hL, rfl, hw⟩ := ztyS hw
  refine zz_callV (r := (zR_16, zT_16, 24)) (As := [.int s0, .int v2, .long v3]) (rest := []) (mc := 0) (ms := 0) C hR hro dX4_read_164 (Or.inl q2536) q2538 (Or.inl qs34) zl_DebateHallModel zk_X4_token (Or.inl rfl) zy_X4_token rfl (by decide) (by decide) hL (ok_X4_token (zz_hl C) hw) (Nat.zero_le _) (Nat.zero_le _) (zz_cat10 _ (Nat.le_of_ble_eq_true rfl)) (fun r47 M48 hw => zz_kV hw (fun hw => ?_)) (fun _ _ _ h9 => h9.elim) rfl
  refine zz_goto (tgt := 307) C dX4_read_167 (by decide) ?_
  refine zz_subP [0, 1] rfl ?_
  exact ok_X4_read_B307 C E hH hR hk7 hw
theorem ok_X4_read_B148 {G : zzX} (C : zz_C G cX4_read "DebateHallModel" 5) {K : Option Value → zzM → Prop} (E : zz_E G none K (fun _ _ _ => False)) (hH : zz_H G []) (hR : zz_Rm G 2) {k7 : Option Nat → Int32 → zzM → Prop} (hk7 : ∀ (z0 : Option Nat) (z1 : Int32) (M : zzM) (bc bs : Nat), k7 z0 z1 M → zz_T G 5 M bc bs 7 [(0, va_rf z0), (1, .int z1)] []) {v0 : Option Nat} {v1 : Int32} {v2 : Int32} {v3 : Int64} {M : zzM} {bc bs : Nat} (hw : wp_X4_read_B148 (zz_Zof G) k7 K v0 v1 v2 v3 M) : zz_T G 5 M bc bs 148 [(0, va_rf v0), (1, .int v1), (2, .int v2), (3, .long v3)] [] := by
  unfold wp_X4_read_B148 at hw
  refine zz_aload_n C dX4_read_148 rfl 0 rfl ?_
  refine zz_iload_n C dX4_read_149 rfl 1 rfl ?_
  refine zz_iload_n C dX4_read_150 rfl 2 rfl ?_
  refine zz_isub C dX4_read_151 ?_
  refine zz_bipush (v := (8 : Int32)) C dX4_read_152 (by decide) ?_
  refine zz_icmp_gt (tgt := 161) C dX4_read_154 (by decide) hw (fun hw => ?_) (fun hw => ?_)
  · refine zz_iconst (v := (1 : Int32)) C dX4_read_161 (by decide) ?_
    refine zz_subP [0, 1, 2, 3] rfl ?_
    exact ok_X4_read_B162 C E hH hR hk7 hw
  · refine zz_iconst (v := (2 : Int32)) C dX4_read_157 (by decide) ?_
    refine zz_goto (tgt := 162) C dX4_read_158 (by decide) ?_
    refine zz_subP [0, 1, 2, 3] rfl ?_
    exact ok_X4_read_B162 C E hH hR hk7 hw
theorem ok_X4_read_L97 {G : zzX} (C : zz_C G cX4_read "DebateHallModel" 5) {K : Option Value → zzM → Prop} (E : zz_E G none K (fun _ _ _ => False)) (hH : zz_H G []) (hR : zz_Rm G 2) {k7 : Option Nat → Int32 → zzM → Prop} (hk7 : ∀ (z0 : Option Nat) (z1 : Int32) (M : zzM) (bc bs : Nat), k7 z0 z1 M → zz_T G 5 M bc bs 7 [(0, va_rf z0), (1, .int z1)] []) : ∀ (n : Nat) (v0 : Option Nat) (v1 : Int32) (v2 : Int32) (v3 : Int64) (M : zzM) (bc bs : Nat), wp_X4_read_L97 (zz_Zof G) k7 K n v0 v1 v2 v3 M → zz_T G 5 M bc bs 97 [(0, va_rf v0), (1, .int v1), (2, .int v2), (3, .long v3)] [] := by
  intro n
  induction n with
  | zero =>
    intro v0 v1 v2 v3 M bc bs hw
    exact False.elim hw
  | succ n ih =>
    intro v0 v1 v2 v3 M bc bs hw
    refine zz_iload_n C dX4_read_97 rfl 1 rfl ?_
    refine zz_aload_n C dX4_read_98 rfl 0 rfl ?_
    refine zz_getI C dX4_read_99 (Or.inl q2438) zf_16_2_ebateHallModel hw (fun x30 hw => ?_)
    refine zz_icmp_ge (tgt := 148) C dX4_read_102 (by decide) hw (fun hw => ?_) (fun hw => ?_)
    · refine zz_subP [0, 1, 2, 3] rfl ?_
      exact ok_X4_read_B148 C E hH hR hk7 hw
    · refine zz_aload_n C dX4_read_105 rfl 0 rfl ?_
      refine zz_getA C dX4_read_106 (Or.inl q2439) zf_16_3_ebateHallModel hw (fun x31 hw => ?_)
      refine zz_iload_n C dX4_read_109 rfl 1 rfl ?_
      refine zz_iald C dX4_read_110 hw (fun x32 hw => ?_)
      refine zz_callS (As := [.int x32]) (rest := []) (mc := 0) (ms := 0) C hR dX4_read_111 (Or.inl q2540) q2541 zl_DebateHallModel zk_X4_isLetter (Or.inl rfl) zy_X4_isLetter (by decide) (by decide) (ok_X4_isLetter (zz_hl C) hw) (Nat.zero_le _) (Nat.zero_le _) (zz_cat10 _ (Nat.le_of_ble_eq_true rfl)) (fun r33 M34 hw => zz_kI hw (fun x37 hw => ?_)) (fun _ _ _ h9 => h9.elim) rfl
      refine zz_if_ne (tgt := 129) C dX4_read_114 (by decide) hw (fun hw => ?_) (fun hw => ?_)
      · refine zz_subP [0, 1, 2, 3] rfl ?_
        exact ok_X4_read_B129 C E hH hR hk7 (fun z0 z1 z2 z3 z4 z5 z6 hw => ih z0 z1 z2 z3 z4 z5 z6 hw) hw
      · refine zz_aload_n C dX4_read_117 rfl 0 rfl ?_
        refine zz_getA C dX4_read_118 (Or.inl q2439) zf_16_3_ebateHallModel hw (fun x38 hw => ?_)
        refine zz_iload_n C dX4_read_121 rfl 1 rfl ?_
        refine zz_iald C dX4_read_122 hw (fun x39 hw => ?_)
        refine zz_callS (As := [.int x39]) (rest := []) (mc := 0) (ms := 0) C hR dX4_read_123 (Or.inl q2543) q2544 zl_DebateHallModel zk_X4_isDigit (Or.inl rfl) zy_X4_isDigit (by decide) (by decide) (ok_X4_isDigit (zz_hl C) hw) (Nat.zero_le _) (Nat.zero_le _) (zz_cat10 _ (Nat.le_of_ble_eq_true rfl)) (fun r40 M41 hw => zz_kI hw (fun x44 hw => ?_)) (fun _ _ _ h9 => h9.elim) rfl
        refine zz_if_eq (tgt := 148) C dX4_read_126 (by decide) hw (fun hw => ?_) (fun hw => ?_)
        · refine zz_subP [0, 1, 2, 3] rfl ?_
          exact ok_X4_read_B148 C E hH hR hk7 hw
        · refine zz_subP [0, 1, 2, 3] rfl ?_
          exact ok_X4_read_B129 C E hH hR hk7 (fun z0 z1 z2 z3 z4 z5 z6 hw => ih z0 z1 z2 z3 z4 z5 z6 hw) hw
theorem ok_X4_read_B240 {G : zzX} (C : zz_C G cX4_read "DebateHallModel" 5) {K : Option Value → zzM → Prop} (E : zz_E G none K (fun _ _ _ => False)) (hH : zz_H G []) (hR : zz_Rm G 2) {k7 : Option Nat → Int32 → zzM → Prop} (hk7 : ∀ (z0 : Option Nat) (z1 : Int32) (M : zzM) (bc bs : Nat), k7 z0 z1 M → zz_T G 5 M bc bs 7 [(0, va_rf z0), (1, .int z1)] []) {k191 : Option Nat → Int32 → Int32 → Int64 → zzM → Prop} (hk191 : ∀ (z0 : Option Nat) (z1 : Int32) (z2 : Int32) (z3 : Int64) (M : zzM) (bc bs : Nat), k191 z0 z1 z2 z3 M → zz_T G 5 M bc bs 191 [(0, va_rf z0), (1, .int z1), (2, .int z2), (3, .long z3)] []) {v0 : Option Nat} {v1 : Int32} {v2 : Int32} {s0 : Int64} {M : zzM} {bc bs : Nat} (hw : wp_X4_read_B240 (zz_Zof G) k7 k191 K v0 v1 v2 s0 M) : zz_T G 5 M bc bs 240 [(0, va_rf v0), (1, .int v1), (2, .int v2)] [.long s0] := by
  unfold wp_X4_read_B240 at hw
  refine zz_lstore_n (i := 3) (lv' := [(3, .long s0), (0, va_rf v0), (1, .int v1), (2, .int v2)]) C dX4_read_240 rfl (by decide) rfl ?_
  refine zz_iinc (lv' := [(1, .int (v1 + 1)), (3, .long s0), (0, va_rf v0), (2, .int v2)]) C dX4_read_241 2 rfl (by rfl) (by decide) (by simp [zz_cat, zz_catI, zz_catJ, zz_catD]) ?_
  refine zz_goto (tgt := 191) C dX4_read_244 (by decide) ?_
  refine zz_subP [2, 0, 3, 1] rfl ?_
  exact hk191 _ _ _ _ _ _ _ hw
theorem ok_X4_read_B261 {G : zzX} (C : zz_C G cX4_read "DebateHallModel" 5) {K : Option Value → zzM → Prop} (E : zz_E G none K (fun _ _ _ => False)) (hH : zz_H G []) (hR : zz_Rm G 2) {k7 : Option Nat → Int32 → zzM → Prop} (hk7 : ∀ (z0 : Option Nat) (z1 : Int32) (M : zzM) (bc bs : Nat), k7 z0 z1 M → zz_T G 5 M bc bs 7 [(0, va_rf z0), (1, .int z1)] []) {v0 : Option Nat} {v1 : Int32} {v2 : Int32} {v3 : Int64} {s0 : Int32} {s1 : Option Nat} {M : zzM} {bc bs : Nat} (hw : wp_X4_read_B261 (zz_Zof G) k7 K v0 v1 v2 v3 s0 s1 M) : zz_T G 5 M bc bs 261 [(0, va_rf v0), (1, .int v1), (2, .int v2), (3, .long v3)] [.int s0, va_rf s1] := by
  unfold wp_X4_read_B261 at hw
  refine zz_iload_n C dX4_read_261 rfl 2 rfl ?_
  refine zz_lload_n C dX4_read_262 rfl 3 rfl ?_
  obtain ⟨a9, t9, b9, fs9, hro, hL, rfl, hw⟩ := ztyS hw
  refine zz_callV (r := (zR_16, zT_16, 24)) (As := [.int s0, .int v2, .long v3]) (rest := []) (mc := 0) (ms := 0) C hR hro dX4_read_263 (Or.inl q2536) q2538 (Or.inl qs34) zl_DebateHallModel zk_X4_token (Or.inl rfl) zy_X4_token rfl (by decide) (by decide) hL (ok_X4_token (zz_hl C) hw) (Nat.zero_le _) (Nat.zero_le _) (zz_cat10 _ (Nat.le_of_ble_eq_true rfl)) (fun r64 M65 hw => zz_kV hw (fun hw => ?_)) (fun _ _ _ h9 => h9.elim) rfl
  refine zz_goto (tgt := 307) C dX4_read_266 (by decide) ?_
  refine zz_subP [0, 1] rfl ?_
  exact ok_X4_read_B307 C E hH hR hk7 hw
theorem ok_X4_read_B247 {G : zzX} (C : zz_C G cX4_read "DebateHallModel" 5) {K : Option Value → zzM → Prop} (E : zz_E G none K (fun _ _ _ => False)) (hH : zz_H G []) (hR : zz_Rm G 2) {k7 : Option Nat → Int32 → zzM → Prop} (hk7 : ∀ (z0 : Option Nat) (z1 : Int32) (M : zzM) (bc bs : Nat), k7 z0 z1 M → zz_T G 5 M bc bs 7 [(0, va_rf z0), (1, .int z1)] []) {v0 : Option Nat} {v1 : Int32} {v2 : Int32} {v3 : Int64} {M : zzM} {bc bs : Nat} (hw : wp_X4_read_B247 (zz_Zof G) k7 K v0 v1 v2 v3 M) : zz_T G 5 M bc bs 247 [(0, va_rf v0), (1, .int v1), (2, .int v2), (3, .long v3)] [] := by
  unfold wp_X4_read_B247 at hw
  refine zz_aload_n C dX4_read_247 rfl 0 rfl ?_
  refine zz_iload_n C dX4_read_248 rfl 1 rfl ?_
  refine zz_iload_n C dX4_read_249 rfl 2 rfl ?_
  refine zz_isub C dX4_read_250 ?_
  refine zz_bipush (v := (6 : Int32)) C dX4_read_251 (by decide) ?_
  refine zz_icmp_gt (tgt := 260) C dX4_read_253 (by decide) hw (fun hw => ?_) (fun hw => ?_)
  · refine zz_iconst (v := (1 : Int32)) C dX4_read_260 (by decide) ?_
    refine zz_subP [0, 1, 2, 3] rfl ?_
    exact ok_X4_read_B261 C E hH hR hk7 hw
  · refine zz_iconst (v := (3 : Int32)) C dX4_read_256 (by decide) ?_
    refine zz_goto (tgt := 261) C dX4_read_257 (by decide) ?_
    refine zz_subP [0, 1, 2, 3] rfl ?_
    exact ok_X4_read_B261 C E hH hR hk7 hw
theorem ok_X4_read_L191 {G : zzX} (C : zz_C G cX4_read "DebateHallModel" 5) {K : Option Value → zzM → Prop} (E : zz_E G none K (fun _ _ _ => False)) (hH : zz_H G []) (hR : zz_Rm G 2) {k7 : Option Nat → Int32 → zzM → Prop} (hk7 : ∀ (z0 : Option Nat) (z1 : Int32) (M : zzM) (bc bs : Nat), k7 z0 z1 M → zz_T G 5 M bc bs 7 [(0, va_rf z0), (1, .int z1)] []) : ∀ (n : Nat) (v0 : Option Nat) (v1 : Int32) (v2 : Int32) (v3 : Int64) (M : zzM) (bc bs : Nat), wp_X4_read_L191 (zz_Zof G) k7 K n v0 v1 v2 v3 M → zz_T G 5 M bc bs 191 [(0, va_rf v0), (1, .int v1), (2, .int v2), (3, .long v3)] [] := by
  intro n
  induction n with
  | zero =>
    intro v0 v1 v2 v3 M bc bs hw
    exact False.elim hw
  | succ n ih =>
    intro v0 v1 v2 v3 M bc bs hw
    refine zz_iload_n C dX4_read_191 rfl 1 rfl ?_
    refine zz_aload_n C dX4_read_192 rfl 0 rfl ?_
    refine zz_getI C dX4_read_193 (Or.inl q2438) zf_16_2_ebateHallModel hw (fun x54 hw => ?_)
    refine zz_icmp_ge (tgt := 247) C dX4_read_196 (by decide) hw (fun hw => ?_) (fun hw => ?_)
    · refine zz_subP [0, 1, 2, 3] rfl ?_
      exact ok_X4_read_B247 C E hH hR hk7 hw
    · refine zz_aload_n C dX4_read_199 rfl 0 rfl ?_
      refine zz_getA C dX4_read_200 (Or.inl q2439) zf_16_3_ebateHallModel hw (fun x55 hw => ?_)
      refine zz_iload_n C dX4_read_203 rfl 1 rfl ?_
      refine zz_iald C dX4_read_204 hw (fun x56 hw => ?_)
      refine zz_callS (As := [.int x56]) (rest := []) (mc := 0) (ms := 0) C hR dX4_read_205 (Or.inl q2543) q2544 zl_DebateHallModel zk_X4_isDigit (Or.inl rfl) zy_X4_isDigit (by decide) (by decide) (ok_X4_isDigit (zz_hl C) hw) (Nat.zero_le _) (Nat.zero_le _) (zz_cat10 _ (Nat.le_of_ble_eq_true rfl)) (fun r57 M58 hw => zz_kI hw (fun x61 hw => ?_)) (fun _ _ _ h9 => h9.elim) rfl
      refine zz_if_eq (tgt := 247) C dX4_read_208 (by decide) hw (fun hw => ?_) (fun hw => ?_)
      · refine zz_subP [0, 1, 2, 3] rfl ?_
        exact ok_X4_read_B247 C E hH hR hk7 hw
      · refine zz_iload_n C dX4_read_211 rfl 1 rfl ?_
        refine zz_iload_n C dX4_read_212 rfl 2 rfl ?_
        refine zz_isub C dX4_read_213 ?_
        refine zz_bipush (v := (6 : Int32)) C dX4_read_214 (by decide) ?_
        refine zz_icmp_ge (tgt := 239) C dX4_read_216 (by decide) hw (fun hw => ?_) (fun hw => ?_)
        · refine zz_lload_n C dX4_read_239 rfl 3 rfl ?_
          refine zz_subP [0, 1, 2] rfl ?_
          exact ok_X4_read_B240 C E hH hR hk7 (fun z0 z1 z2 z3 z4 z5 z6 hw => ih z0 z1 z2 z3 z4 z5 z6 hw) hw
        · refine zz_ldc2 C dX4_read_219 q2547 ?_
          refine zz_lload_n C dX4_read_222 rfl 3 rfl ?_
          refine zz_lmul C dX4_read_223 ?_
          refine zz_aload_n C dX4_read_224 rfl 0 rfl ?_
          refine zz_getA C dX4_read_225 (Or.inl q2439) zf_16_3_ebateHallModel hw (fun x62 hw => ?_)
          refine zz_iload_n C dX4_read_228 rfl 1 rfl ?_
          refine zz_iald C dX4_read_229 hw (fun x63 hw => ?_)
          refine zz_i2l C dX4_read_230 ?_
          refine zz_ladd C dX4_read_231 ?_
          refine zz_ldc2 C dX4_read_232 q2546 ?_
          refine zz_lsub C dX4_read_235 ?_
          refine zz_goto (tgt := 240) C dX4_read_236 (by decide) ?_
          refine zz_subP [0, 1, 2] rfl ?_
          exact ok_X4_read_B240 C E hH hR hk7 (fun z0 z1 z2 z3 z4 z5 z6 hw => ih z0 z1 z2 z3 z4 z5 z6 hw) hw
theorem ok_X4_read_B302 {G : zzX} (C : zz_C G cX4_read "DebateHallModel" 5) {K : Option Value → zzM → Prop} (E : zz_E G none K (fun _ _ _ => False)) (hH : zz_H G []) (hR : zz_Rm G 2) {k7 : Option Nat → Int32 → zzM → Prop} (hk7 : ∀ (z0 : Option Nat) (z1 : Int32) (M : zzM) (bc bs : Nat), k7 z0 z1 M → zz_T G 5 M bc bs 7 [(0, va_rf z0), (1, .int z1)] []) {v0 : Option Nat} {v1 : Int32} {v2 : Int32} {v3 : Int64} {s0 : Int32} {s1 : Option Nat} {M : zzM} {bc bs : Nat} (hw : wp_X4_read_B302 (zz_Zof G) k7 K v0 v1 v2 v3 s0 s1 M) : zz_T G 5 M bc bs 302 [(0, va_rf v0), (1, .int v1), (2, .int v2), (3, .long v3)] [.int s0, va_rf s1] := by
  unfold wp_X4_read_B302 at hw
  refine zz_iload_n C dX4_read_302 rfl 2 rfl ?_
  refine zz_lload_n C dX4_read_303 rfl 3 rfl ?_
  obtain ⟨a9, t9, b9, fs9, hro, hL, rfl, hw⟩ := ztyS hw
  refine zz_callV (r := (zR_16, zT_16, 24)) (As := [.int s0, .int v2, .long v3]) (rest := []) (mc := 0) (ms := 0) C hR hro dX4_read_304 (Or.inl q2536) q2538 (Or.inl qs34) zl_DebateHallModel zk_X4_token (Or.inl rfl) zy_X4_token rfl (by decide) (by decide) hL (ok_X4_token (zz_hl C) hw) (Nat.zero_le _) (Nat.zero_le _) (zz_cat10 _ (Nat.le_of_ble_eq_true rfl)) (fun r68 M69 hw => zz_kV hw (fun hw => ?_)) (fun _ _ _ h9 => h9.elim) rfl
  refine zz_subP [0, 1] rfl ?_
  exact ok_X4_read_B307 C E hH hR hk7 hw
theorem ok_X4_read_B297 {G : zzX} (C : zz_C G cX4_read "DebateHallModel" 5) {K : Option Value → zzM → Prop} (E : zz_E G none K (fun _ _ _ => False)) (hH : zz_H G []) (hR : zz_Rm G 2) {k7 : Option Nat → Int32 → zzM → Prop} (hk7 : ∀ (z0 : Option Nat) (z1 : Int32) (M : zzM) (bc bs : Nat), k7 z0 z1 M → zz_T G 5 M bc bs 7 [(0, va_rf z0), (1, .int z1)] []) {v0 : Option Nat} {v1 : Int32} {v2 : Int32} {v3 : Int64} {s0 : Option Nat} {M : zzM} {bc bs : Nat} (hw : wp_X4_read_B297 (zz_Zof G) k7 K v0 v1 v2 v3 s0 M) : zz_T G 5 M bc bs 297 [(0, va_rf v0), (1, .int v1), (2, .int v2), (3, .long v3)] [va_rf s0] := by
  unfold wp_X4_read_B297 at hw
  refine zz_iconst (v := (4 : Int32)) C dX4_read_297 (by decide) ?_
  refine zz_goto (tgt := 302) C dX4_read_298 (by decide) ?_
  refine zz_subP [0, 1, 2, 3] rfl ?_
  exact ok_X4_read_B302 C E hH hR hk7 hw
theorem ok_X4_read_B53 {G : zzX} (C : zz_C G cX4_read "DebateHallModel" 5) {K : Option Value → zzM → Prop} (E : zz_E G none K (fun _ _ _ => False)) (hH : zz_H G []) (hR : zz_Rm G 2) {k7 : Option Nat → Int32 → zzM → Prop} (hk7 : ∀ (z0 : Option Nat) (z1 : Int32) (M : zzM) (bc bs : Nat), k7 z0 z1 M → zz_T G 5 M bc bs 7 [(0, va_rf z0), (1, .int z1)] []) {v0 : Option Nat} {v1 : Int32} {M : zzM} {bc bs : Nat} (hw : wp_X4_read_B53 (zz_Zof G) k7 K v0 v1 M) : zz_T G 5 M bc bs 53 [(0, va_rf v0), (1, .int v1)] [] := by
  unfold wp_X4_read_B53 at hw
  refine zz_iload_n C dX4_read_53 rfl 1 rfl ?_
  refine zz_aload_n C dX4_read_54 rfl 0 rfl ?_
  refine zz_getI C dX4_read_55 (Or.inl q2438) zf_16_2_ebateHallModel hw (fun x8 hw => ?_)
  refine zz_icmp_ne (tgt := 72) C dX4_read_58 (by decide) hw (fun hw => ?_) (fun hw => ?_)
  · refine zz_iload_n C dX4_read_72 rfl 1 rfl ?_
    refine zz_istore_n (i := 2) (lv' := [(2, .int v1), (0, va_rf v0), (1, .int v1)]) C dX4_read_73 rfl (by decide) rfl ?_
    refine zz_aload_n C dX4_read_74 rfl 1 rfl ?_
    refine zz_getA C dX4_read_75 (Or.inl q2439) zf_16_3_ebateHallModel hw (fun x9 hw => ?_)
    refine zz_iload_n C dX4_read_78 rfl 2 rfl ?_
    refine zz_iald C dX4_read_79 hw (fun x10 hw => ?_)
    refine zz_i2l C dX4_read_80 ?_
    refine zz_lstore_n (i := 3) (lv' := [(3, .long x10.toInt64), (2, .int v1), (0, va_rf v0), (1, .int v1)]) C dX4_read_81 rfl (by decide) rfl ?_
    refine zz_aload_n C dX4_read_82 rfl 2 rfl ?_
    refine zz_getA C dX4_read_83 (Or.inl q2439) zf_16_3_ebateHallModel hw (fun x11 hw => ?_)
    refine zz_iload_n C dX4_read_86 rfl 3 rfl ?_
    refine zz_iald C dX4_read_87 hw (fun x12 hw => ?_)
    refine zz_callS (As := [.int x12]) (rest := []) (mc := 0) (ms := 0) C hR dX4_read_88 (Or.inl q2540) q2541 zl_DebateHallModel zk_X4_isLetter (Or.inl rfl) zy_X4_isLetter (by decide) (by decide) (ok_X4_isLetter (zz_hl C) hw) (Nat.zero_le _) (Nat.zero_le _) (zz_cat10 _ (Nat.le_of_ble_eq_true rfl)) (fun r13 M14 hw => zz_kI hw (fun x17 hw => ?_)) (fun _ _ _ h9 => h9.elim) rfl
    refine zz_if_eq (tgt := 170) C dX4_read_91 (by decide) hw (fun hw => ?_) (fun hw => ?_)
    · refine zz_aload_n C dX4_read_170 rfl 2 rfl ?_
      refine zz_getA C dX4_read_171 (Or.inl q2439) zf_16_3_ebateHallModel hw (fun x18 hw => ?_)
      refine zz_iload_n C dX4_read_174 rfl 3 rfl ?_
      refine zz_iald C dX4_read_175 hw (fun x19 hw => ?_)
      refine zz_callS (As := [.int x19]) (rest := []) (mc := 0) (ms := 0) C hR dX4_read_176 (Or.inl q2543) q2544 zl_DebateHallModel zk_X4_isDigit (Or.inl rfl) zy_X4_isDigit (by decide) (by decide) (ok_X4_isDigit (zz_hl C) hw) (Nat.zero_le _) (Nat.zero_le _) (zz_cat10 _ (Nat.le_of_ble_eq_true rfl)) (fun r20 M21 hw => zz_kI hw (fun x24 hw => ?_)) (fun _ _ _ h9 => h9.elim) rfl
      refine zz_if_eq (tgt := 269) C dX4_read_179 (by decide) hw (fun hw => ?_) (fun hw => ?_)
      · refine zz_iinc (lv' := [(1, .int (v1 + 1)), (3, .long x10.toInt64), (2, .int v1), (0, va_rf v0)]) C dX4_read_269 3 rfl (by rfl) (by decide) (by simp [zz_cat, zz_catI, zz_catJ, zz_catD]) ?_
        refine zz_aload_n C dX4_read_272 rfl 3 rfl ?_
        refine zz_lload_n C dX4_read_273 rfl 1 rfl ?_
        refine zz_ldc2 C dX4_read_274 q2548 ?_
        refine zz_lcmp C dX4_read_277 ?_
        refine zz_if_eq (tgt := 297) C dX4_read_278 (by decide) hw (fun hw => ?_) (fun hw => ?_)
        · refine zz_subP [3, 0, 2, 1] rfl ?_
          exact ok_X4_read_B297 C E hH hR hk7 hw
        · refine zz_lload_n C dX4_read_281 rfl 1 rfl ?_
          refine zz_ldc2 C dX4_read_282 q2549 ?_
          refine zz_lcmp C dX4_read_285 ?_
          refine zz_if_eq (tgt := 297) C dX4_read_286 (by decide) hw (fun hw => ?_) (fun hw => ?_)
          · refine zz_subP [3, 0, 2, 1] rfl ?_
            exact ok_X4_read_B297 C E hH hR hk7 hw
          · refine zz_lload_n C dX4_read_289 rfl 1 rfl ?_
            refine zz_ldc2 C dX4_read_290 q2550 ?_
            refine zz_lcmp C dX4_read_293 ?_
            refine zz_if_ne (tgt := 301) C dX4_read_294 (by decide) hw (fun hw => ?_) (fun hw => ?_)
            · refine zz_iconst (v := (1 : Int32)) C dX4_read_301 (by decide) ?_
              refine zz_subP [3, 0, 2, 1] rfl ?_
              exact ok_X4_read_B302 C E hH hR hk7 hw
            · refine zz_subP [3, 0, 2, 1] rfl ?_
              exact ok_X4_read_B297 C E hH hR hk7 hw
      · refine zz_lload_n C dX4_read_182 rfl 0 rfl ?_
        refine zz_ldc2 C dX4_read_183 q2546 ?_
        refine zz_lsub C dX4_read_186 ?_
        refine zz_lstore_n (i := 3) (lv' := [(3, .long (x10.toInt64 - (48 : Int64))), (2, .int v1), (0, va_rf v0), (1, .int v1)]) C dX4_read_187 rfl (by decide) rfl ?_
        refine zz_iinc (lv' := [(1, .int (v1 + 1)), (3, .long (x10.toInt64 - (48 : Int64))), (2, .int v1), (0, va_rf v0)]) C dX4_read_188 3 rfl (by rfl) (by decide) (by simp [zz_cat, zz_catI, zz_catJ, zz_catD]) ?_
        refine zz_subP [3, 0, 2, 1] rfl ?_
        obtain ⟨n191, hw⟩ := hw
        exact ok_X4_read_L191 C E hH hR hk7 n191 _ _ _ _ _ _ _ hw
    · refine zz_iinc (lv' := [(1, .int (v1 + 1)), (3, .long x10.toInt64), (2, .int v1), (0, va_rf v0)]) C dX4_read_94 3 rfl (by rfl) (by decide) (by simp [zz_cat, zz_catI, zz_catJ, zz_catD]) ?_
      refine zz_subP [3, 0, 2, 1] rfl ?_
      obtain ⟨n97, hw⟩ := hw
      exact ok_X4_read_L97 C E hH hR hk7 n97 _ _ _ _ _ _ _ hw
  · refine zz_aload_n C dX4_read_61 rfl 0 rfl ?_
    refine zz_iconst (v := (0 : Int32)) C dX4_read_62 (by decide) ?_
    refine zz_aload_n C dX4_read_63 rfl 0 rfl ?_
    refine zz_getI C dX4_read_64 (Or.inl q2438) zf_16_2_ebateHallModel hw (fun x25 hw => ?_)
    refine zz_lconst (v := (0 : Int64)) C dX4_read_67 (by decide) ?_
    obtain ⟨a9, t9, b9, fs9, hro, hL, rfl, hw⟩ := ztyS hw
    refine zz_callV (r := (zR_16, zT_16, 24)) (As := [.int (0 : Int32), .int x25, .long (0 : Int64)]) (rest := []) (mc := 0) (ms := 0) C hR hro dX4_read_68 (Or.inl q2536) q2538 (Or.inl qs34) zl_DebateHallModel zk_X4_token (Or.inl rfl) zy_X4_token rfl (by decide) (by decide) hL (ok_X4_token (zz_hl C) hw) (Nat.zero_le _) (Nat.zero_le _) (zz_cat10 _ (Nat.le_of_ble_eq_true rfl)) (fun r26 M27 hw => zz_kV hw (fun hw => ?_)) (fun _ _ _ h9 => h9.elim) rfl
    exact zz_vret C E dX4_read_71 hw
theorem ok_X4_read_L17 {G : zzX} (C : zz_C G cX4_read "DebateHallModel" 5) {K : Option Value → zzM → Prop} (E : zz_E G none K (fun _ _ _ => False)) (hH : zz_H G []) (hR : zz_Rm G 2) {k7 : Option Nat → Int32 → zzM → Prop} (hk7 : ∀ (z0 : Option Nat) (z1 : Int32) (M : zzM) (bc bs : Nat), k7 z0 z1 M → zz_T G 5 M bc bs 7 [(0, va_rf z0), (1, .int z1)] []) : ∀ (n : Nat) (v0 : Option Nat) (v1 : Int32) (M : zzM) (bc bs : Nat), wp_X4_read_L17 (zz_Zof G) k7 K n v0 v1 M → zz_T G 5 M bc bs 17 [(0, va_rf v0), (1, .int v1)] [] := by
  intro n
  induction n with
  | zero =>
    intro v0 v1 M bc bs hw
    exact False.elim hw
  | succ n ih =>
    intro v0 v1 M bc bs hw
    refine zz_iload_n C dX4_read_17 rfl 1 rfl ?_
    refine zz_aload_n C dX4_read_18 rfl 0 rfl ?_
    refine zz_getI C dX4_read_19 (Or.inl q2438) zf_16_2_ebateHallModel hw (fun x3 hw => ?_)
    refine zz_icmp_ge (tgt := 53) C dX4_read_22 (by decide) hw (fun hw => ?_) (fun hw => ?_)
    · refine zz_subP [0, 1] rfl ?_
      exact ok_X4_read_B53 C E hH hR hk7 hw
    · refine zz_aload_n C dX4_read_25 rfl 0 rfl ?_
      refine zz_getA C dX4_read_26 (Or.inl q2439) zf_16_3_ebateHallModel hw (fun x4 hw => ?_)
      refine zz_iload_n C dX4_read_29 rfl 1 rfl ?_
      refine zz_iald C dX4_read_30 hw (fun x5 hw => ?_)
      refine zz_bipush (v := (32 : Int32)) C dX4_read_31 (by decide) ?_
      refine zz_icmp_eq (tgt := 47) C dX4_read_33 (by decide) hw (fun hw => ?_) (fun hw => ?_)
      · refine zz_subP [0, 1] rfl ?_
        exact ok_X4_read_B47 C E hH hR hk7 (fun z0 z1 z2 z3 z4 hw => ih z0 z1 z2 z3 z4 hw) hw
      · refine zz_aload_n C dX4_read_36 rfl 0 rfl ?_
        refine zz_getA C dX4_read_37 (Or.inl q2439) zf_16_3_ebateHallModel hw (fun x6 hw => ?_)
        refine zz_iload_n C dX4_read_40 rfl 1 rfl ?_
        refine zz_iald C dX4_read_41 hw (fun x7 hw => ?_)
        refine zz_bipush (v := (10 : Int32)) C dX4_read_42 (by decide) ?_
        refine zz_icmp_ne (tgt := 53) C dX4_read_44 (by decide) hw (fun hw => ?_) (fun hw => ?_)
        · refine zz_subP [0, 1] rfl ?_
          exact ok_X4_read_B53 C E hH hR hk7 hw
        · refine zz_subP [0, 1] rfl ?_
          exact ok_X4_read_B47 C E hH hR hk7 (fun z0 z1 z2 z3 z4 hw => ih z0 z1 z2 z3 z4 hw) hw
theorem ok_X4_read_L7 {G : zzX} (C : zz_C G cX4_read "DebateHallModel" 5) {K : Option Value → zzM → Prop} (E : zz_E G none K (fun _ _ _ => False)) (hH : zz_H G []) (hR : zz_Rm G 2) : ∀ (n : Nat) (v0 : Option Nat) (v1 : Int32) (M : zzM) (bc bs : Nat), wp_X4_read_L7 (zz_Zof G) K n v0 v1 M → zz_T G 5 M bc bs 7 [(0, va_rf v0), (1, .int v1)] [] := by
  intro n
  induction n with
  | zero =>
    intro v0 v1 M bc bs hw
    exact False.elim hw
  | succ n ih =>
    intro v0 v1 M bc bs hw
    refine zz_aload_n C dX4_read_7 rfl 0 rfl ?_
    refine zz_getI C dX4_read_8 (Or.inl q2442) zf_16_6_ebateHallModel hw (fun x2 hw => ?_)
    refine zz_sipush (v := (400 : Int32)) C dX4_read_11 (by decide) ?_
    refine zz_icmp_gt (tgt := 326) C dX4_read_14 (by decide) hw (fun hw => ?_) (fun hw => ?_)
    · exact zz_vret C E dX4_read_326 hw
    · refine zz_subP [0, 1] rfl ?_
      obtain ⟨n17, hw⟩ := hw
      exact ok_X4_read_L17 C E hH hR (fun z0 z1 z2 z3 z4 hw => ih z0 z1 z2 z3 z4 hw) n17 _ _ _ _ _ hw
theorem ok_X4_read {Z : zzG} {l : Launch} (hl : l.stackTraces = false) {this : Option Nat} {M : zzM} {mc ms : Nat} {K : Option Value → zzM → Prop} (hw : wp_X4_read Z this M K) : zz_Met Z l yX4_read (zz_ws yX4_read cX4_read 5 none none) 2 [va_rf this] M mc ms K (fun _ _ _ => False) := by
  refine zz_ofW hl (plainFor_of_name (by decide)) (by simp only [zz_sl0, zz_slI, zz_slJ, zz_slA] <;> decide) (fun G hZ hll C E hH hR hin => ?_)
  subst hZ
  subst hll
  rw [show lv_args 0 [va_rf this] = [(0, va_rf this)] by simp only [zz_la0, zz_laI, zz_laJ, zz_laA]]
  unfold wp_X4_read at hw
  refine zz_aload_n C dX4_read_0 rfl 0 rfl ?_
  refine zz_iconst (v := (0 : Int32)) C dX4_read_1 (by decide) ?_
  refine zz_put C dX4_read_2 (Or.inl q2442) zf_16_6_ebateHallModel zp_16_6 (zz_hn1 ⟨rfl, rfl⟩) hw (fun M1 hw => ?_)
  refine zz_iconst (v := (0 : Int32)) C dX4_read_5 (by decide) ?_
  refine zz_istore_n (i := 1) (lv' := [(1, .int (0 : Int32)), (0, va_rf this)]) C dX4_read_6 rfl (by decide) (by simp [zz_cat, zz_catI, zz_catJ, zz_catD]) ?_
  refine zz_subP [1, 0] rfl ?_
  obtain ⟨n7, hw⟩ := hw
  exact ok_X4_read_L7 C E hH hR n7 _ _ _ _ _ hw
abbrev cX4_is : ByteArray := prog_25_method_18_code
def yX4_is : MethodName := ⟨"DebateHallModel", "is", "(Ljava/lang/String;)Z"⟩
def dkwX4_is_1 : List UInt8 := [184, 0, 171, 148, 154, 0, 7, 4, 167, 0, 4, 3, 172]
abbrev dktX4_is_1 : List UInt8 := dkwX4_is_1 ++ []
def dkwX4_is_0 : List UInt8 := [42, 180, 0, 34, 42, 180, 0, 168, 46, 5, 160, 0, 24, 42, 180, 0, 40, 42, 180, 0, 168, 47, 43]
abbrev dktX4_is_0 : List UInt8 := dkwX4_is_0 ++ dktX4_is_1
theorem dksX4_is_0 : cX4_is.data.toList.drop 0 = dktX4_is_0 := by decide +kernel
theorem dksX4_is_1 : cX4_is.data.toList.drop 23 = dktX4_is_1 := dk_seg dksX4_is_0 23 rfl rfl
theorem dX4_is_0 : decode cX4_is 0 = .ok (.aload_n 0, 1) := dk_42 (dk_at dksX4_is_0 0 rfl rfl)
theorem dX4_is_1 : decode cX4_is 1 = .ok (.getfield 34, 3) := dk_180 0 34 (dk_at dksX4_is_0 1 rfl rfl)
theorem dX4_is_4 : decode cX4_is 4 = .ok (.aload_n 0, 1) := dk_42 (dk_at dksX4_is_0 4 rfl rfl)
theorem dX4_is_5 : decode cX4_is 5 = .ok (.getfield 168, 3) := dk_180 0 168 (dk_at dksX4_is_0 5 rfl rfl)
theorem dX4_is_8 : decode cX4_is 8 = .ok (.iaload, 1) := dk_46 (dk_at dksX4_is_0 8 rfl rfl)
theorem dX4_is_9 : decode cX4_is 9 = .ok (.iconst 2, 1) := dk_5 (dk_at dksX4_is_0 9 rfl rfl)
theorem dX4_is_10 : decode cX4_is 10 = .ok (.if_icmp .ne 24, 3) := dk_160 0 24 (dk_at dksX4_is_0 10 rfl rfl)
theorem dX4_is_13 : decode cX4_is 13 = .ok (.aload_n 0, 1) := dk_42 (dk_at dksX4_is_0 13 rfl rfl)
theorem dX4_is_14 : decode cX4_is 14 = .ok (.getfield 40, 3) := dk_180 0 40 (dk_at dksX4_is_0 14 rfl rfl)
theorem dX4_is_17 : decode cX4_is 17 = .ok (.aload_n 0, 1) := dk_42 (dk_at dksX4_is_0 17 rfl rfl)
theorem dX4_is_18 : decode cX4_is 18 = .ok (.getfield 168, 3) := dk_180 0 168 (dk_at dksX4_is_0 18 rfl rfl)
theorem dX4_is_21 : decode cX4_is 21 = .ok (.laload, 1) := dk_47 (dk_at dksX4_is_0 21 rfl rfl)
theorem dX4_is_22 : decode cX4_is 22 = .ok (.aload_n 1, 1) := dk_43 (dk_at dksX4_is_0 22 rfl rfl)
theorem dX4_is_23 : decode cX4_is 23 = .ok (.invokestatic 171, 3) := dk_184 0 171 (dk_at dksX4_is_1 0 rfl rfl)
theorem dX4_is_26 : decode cX4_is 26 = .ok (.lcmp, 1) := dk_148 (dk_at dksX4_is_1 3 rfl rfl)
theorem dX4_is_27 : decode cX4_is 27 = .ok (.ifCond .ne 7, 3) := dk_154 0 7 (dk_at dksX4_is_1 4 rfl rfl)
theorem dX4_is_30 : decode cX4_is 30 = .ok (.iconst 1, 1) := dk_4 (dk_at dksX4_is_1 7 rfl rfl)
theorem dX4_is_31 : decode cX4_is 31 = .ok (.goto 4, 3) := dk_167 0 4 (dk_at dksX4_is_1 8 rfl rfl)
theorem dX4_is_34 : decode cX4_is 34 = .ok (.iconst 0, 1) := dk_3 (dk_at dksX4_is_1 11 rfl rfl)
theorem dX4_is_35 : decode cX4_is 35 = .ok (.ireturn, 1) := dk_172 (dk_at dksX4_is_1 12 rfl rfl)
theorem zf_16_10_ebateHallModel : zz_fok [16] 10 "DebateHallModel" "t" "I" := zz_fok1 (zR_16, zT_16, 24) rfl (by decide) rfl rfl (Or.inl rfl)
theorem q2446 : (Jvm.Cond.fieldLink "DebateHallModel" (168 : Nat) "DebateHallModel" "t" "I") ∈ lw_all := lw_g (lw_at lw_m10 206 rfl) rfl
def wp_X4_is_B35 (Z : zzG) (K : Option Value → zzM → Prop) (s0 : Int32) (M : zzM) : Prop := narrow .boolean (.int s0) = .int s0 ∧ K (some (.int s0)) M
def wp_X4_is_B34 (Z : zzG) (K : Option Value → zzM → Prop) (M : zzM) : Prop := wp_X4_is_B35 Z K (0 : Int32) M
def wp_X4_is (Z : zzG) (this : Option Nat) (p0 : Option Nat) (M : zzM) (K : Option Value → zzM → Prop) : Prop := zgA Z M this [16] 7 fun x1 => zgI Z M this [16] 10 fun x2 => zaI Z M x1 [100] x2 fun x3 => if x3 = (2 : Int32) then (zgA Z M this [16] 9 fun x4 => zgI Z M this [16] 10 fun x5 => zaJ Z M x4 [102] x5 fun x6 => wp_X4_packed Z p0 M (fun r7 M8 => zrJ r7 fun x11 => if (lg_cmp x6 x11) = 0 then (wp_X4_is_B35 Z K (1 : Int32) M8) else (wp_X4_is_B34 Z K M8))) else (wp_X4_is_B34 Z K M)
theorem ok_X4_is_B35 {G : zzX} (C : zz_C G cX4_is "DebateHallModel" 2) {K : Option Value → zzM → Prop} (E : zz_E G (some .boolean) K (fun _ _ _ => False)) (hH : zz_H G []) (hR : zz_Rm G 6) {s0 : Int32} {M : zzM} {bc bs : Nat} (hw : wp_X4_is_B35 (zz_Zof G) K s0 M) : zz_T G 2 M bc bs 35 [] [.int s0] := by
  unfold wp_X4_is_B35 at hw
  exact zz_zret C E dX4_is_35 hw
theorem ok_X4_is_B34 {G : zzX} (C : zz_C G cX4_is "DebateHallModel" 2) {K : Option Value → zzM → Prop} (E : zz_E G (some .boolean) K (fun _ _ _ => False)) (hH : zz_H G []) (hR : zz_Rm G 6) {M : zzM} {bc bs : Nat} (hw : wp_X4_is_B34 (zz_Zof G) K M) : zz_T G 2 M bc bs 34 [] [] := by
  unfold wp_X4_is_B34 at hw
  refine zz_iconst (v := (0 : Int32)) C dX4_is_34 (by decide) ?_
  refine zz_subP [] rfl ?_
  exact ok_X4_is_B35 C E hH hR hw
theorem ok_X4_is {Z : zzG} {l : Launch} (hl : l.stackTraces = false) {this : Option Nat} {p0 : Option Nat} {M : zzM} {mc ms : Nat} {K : Option Value → zzM → Prop} (hw : wp_X4_is Z this p0 M K) : zz_Met Z l yX4_is (zz_ws yX4_is cX4_is 2 (some .boolean) none) 6 [va_rf this, va_rf p0] M mc ms K (fun _ _ _ => False) := by
  refine zz_ofW hl (plainFor_of_name (by decide)) (by simp only [zz_sl0, zz_slI, zz_slJ, zz_slA] <;> decide) (fun G hZ hll C E hH hR hin => ?_)
  subst hZ
  subst hll
  rw [show lv_args 0 [va_rf this, va_rf p0] = [(0, va_rf this), (1, va_rf p0)] by simp only [zz_la0, zz_laI, zz_laJ, zz_laA]]
  unfold wp_X4_is at hw
  refine zz_aload_n C dX4_is_0 rfl 0 rfl ?_
  refine zz_getA C dX4_is_1 (Or.inl q2443) zf_16_7_ebateHallModel hw (fun x1 hw => ?_)
  refine zz_aload_n C dX4_is_4 rfl 0 rfl ?_
  refine zz_getI C dX4_is_5 (Or.inl q2446) zf_16_10_ebateHallModel hw (fun x2 hw => ?_)
  refine zz_iald C dX4_is_8 hw (fun x3 hw => ?_)
  refine zz_iconst (v := (2 : Int32)) C dX4_is_9 (by decide) ?_
  refine zz_icmp_ne (tgt := 34) C dX4_is_10 (by decide) hw (fun hw => ?_) (fun hw => ?_)
  · refine zz_subP [] rfl ?_
    exact ok_X4_is_B34 C E hH hR hw
  · refine zz_aload_n C dX4_is_13 rfl 0 rfl ?_
    refine zz_getA C dX4_is_14 (Or.inl q2445) zf_16_9_ebateHallModel hw (fun x4 hw => ?_)
    refine zz_aload_n C dX4_is_17 rfl 0 rfl ?_
    refine zz_getI C dX4_is_18 (Or.inl q2446) zf_16_10_ebateHallModel hw (fun x5 hw => ?_)
    refine zz_lald C dX4_is_21 hw (fun x6 hw => ?_)
    refine zz_aload_n C dX4_is_22 rfl 1 rfl ?_
    refine zz_callS (As := [va_rf p0]) (rest := [.long x6]) (mc := 0) (ms := 0) C hR dX4_is_23 (Or.inl q2568) q2569 zl_DebateHallModel zk_X4_packed (Or.inl rfl) zy_X4_packed (by decide) (by decide) (ok_X4_packed (zz_hl C) hw) (Nat.zero_le _) (Nat.zero_le _) (zz_cat10 _ (Nat.le_of_ble_eq_true rfl)) (fun r7 M8 hw => zz_kJ hw (fun x11 hw => ?_)) (fun _ _ _ h9 => h9.elim) rfl
    refine zz_lcmp C dX4_is_26 ?_
    refine zz_if_ne (tgt := 34) C dX4_is_27 (by decide) hw (fun hw => ?_) (fun hw => ?_)
    · refine zz_subP [] rfl ?_
      exact ok_X4_is_B34 C E hH hR hw
    · refine zz_iconst (v := (1 : Int32)) C dX4_is_30 (by decide) ?_
      refine zz_goto (tgt := 35) C dX4_is_31 (by decide) ?_
      refine zz_subP [] rfl ?_
      exact ok_X4_is_B35 C E hH hR hw
abbrev cX4_past : ByteArray := prog_25_method_20_code
def yX4_past : MethodName := ⟨"DebateHallModel", "past", "(Z)Z"⟩
def dkwX4_past_0 : List UInt8 := [27, 153, 0, 13, 42, 89, 180, 0, 168, 4, 96, 181, 0, 168, 27, 172]
abbrev dktX4_past_0 : List UInt8 := dkwX4_past_0 ++ []
theorem dksX4_past_0 : cX4_past.data.toList.drop 0 = dktX4_past_0 := by decide +kernel
theorem dX4_past_0 : decode cX4_past 0 = .ok (.iload_n 1, 1) := dk_27 (dk_at dksX4_past_0 0 rfl rfl)
theorem dX4_past_1 : decode cX4_past 1 = .ok (.ifCond .eq 13, 3) := dk_153 0 13 (dk_at dksX4_past_0 1 rfl rfl)
theorem dX4_past_4 : decode cX4_past 4 = .ok (.aload_n 0, 1) := dk_42 (dk_at dksX4_past_0 4 rfl rfl)
theorem dX4_past_5 : decode cX4_past 5 = .ok (.dup, 1) := dk_89 (dk_at dksX4_past_0 5 rfl rfl)
theorem dX4_past_6 : decode cX4_past 6 = .ok (.getfield 168, 3) := dk_180 0 168 (dk_at dksX4_past_0 6 rfl rfl)
theorem dX4_past_9 : decode cX4_past 9 = .ok (.iconst 1, 1) := dk_4 (dk_at dksX4_past_0 9 rfl rfl)
theorem dX4_past_10 : decode cX4_past 10 = .ok (.iadd, 1) := dk_96 (dk_at dksX4_past_0 10 rfl rfl)
theorem dX4_past_11 : decode cX4_past 11 = .ok (.putfield 168, 3) := dk_181 0 168 (dk_at dksX4_past_0 11 rfl rfl)
theorem dX4_past_14 : decode cX4_past 14 = .ok (.iload_n 1, 1) := dk_27 (dk_at dksX4_past_0 14 rfl rfl)
theorem dX4_past_15 : decode cX4_past 15 = .ok (.ireturn, 1) := dk_172 (dk_at dksX4_past_0 15 rfl rfl)
theorem zp_16_10 : zz_pok [16] 10 := zz_pok1 (zR_16, zT_16, 24) (by decide) rfl rfl
def wp_X4_past_B14 (Z : zzG) (K : Option Value → zzM → Prop) (v1 : Int32) (M : zzM) : Prop := narrow .boolean (.int v1) = .int v1 ∧ K (some (.int v1)) M
def wp_X4_past (Z : zzG) (this : Option Nat) (p0 : Int32) (M : zzM) (K : Option Value → zzM → Prop) : Prop := if p0 = 0 then (wp_X4_past_B14 Z K p0 M) else (zgI Z M this [16] 10 fun x1 => zput Z M this [16] 10 (.int (x1 + (1 : Int32))) fun M2 => wp_X4_past_B14 Z K p0 M2)
theorem ok_X4_past_B14 {G : zzX} (C : zz_C G cX4_past "DebateHallModel" 2) {K : Option Value → zzM → Prop} (E : zz_E G (some .boolean) K (fun _ _ _ => False)) (hH : zz_H G []) (hR : zz_Rm G 1) {v1 : Int32} {M : zzM} {bc bs : Nat} (hw : wp_X4_past_B14 (zz_Zof G) K v1 M) : zz_T G 2 M bc bs 14 [(1, .int v1)] [] := by
  unfold wp_X4_past_B14 at hw
  refine zz_iload_n C dX4_past_14 rfl 0 rfl ?_
  exact zz_zret C E dX4_past_15 hw
theorem ok_X4_past {Z : zzG} {l : Launch} (hl : l.stackTraces = false) {this : Option Nat} {p0 : Int32} {M : zzM} {mc ms : Nat} {K : Option Value → zzM → Prop} (hw : wp_X4_past Z this p0 M K) : zz_Met Z l yX4_past (zz_ws yX4_past cX4_past 2 (some .boolean) none) 1 [va_rf this, .int p0] M mc ms K (fun _ _ _ => False) := by
  refine zz_ofW hl (plainFor_of_name (by decide)) (by simp only [zz_sl0, zz_slI, zz_slJ, zz_slA] <;> decide) (fun G hZ hll C E hH hR hin => ?_)
  subst hZ
  subst hll
  rw [show lv_args 0 [va_rf this, .int p0] = [(0, va_rf this), (1, .int p0)] by simp only [zz_la0, zz_laI, zz_laJ, zz_laA]]
  unfold wp_X4_past at hw
  refine zz_iload_n C dX4_past_0 rfl 1 rfl ?_
  refine zz_if_eq (tgt := 14) C dX4_past_1 (by decide) hw (fun hw => ?_) (fun hw => ?_)
  · refine zz_subP [1] rfl ?_
    exact ok_X4_past_B14 C E hH hR hw
  · refine zz_aload_n C dX4_past_4 rfl 0 rfl ?_
    refine zz_dup C dX4_past_5 (zz_cat _) ?_
    refine zz_getI C dX4_past_6 (Or.inl q2446) zf_16_10_ebateHallModel hw (fun x1 hw => ?_)
    refine zz_iconst (v := (1 : Int32)) C dX4_past_9 (by decide) ?_
    refine zz_iadd C dX4_past_10 ?_
    refine zz_put C dX4_past_11 (Or.inl q2446) zf_16_10_ebateHallModel zp_16_10 (zz_hn1 ⟨rfl, rfl⟩) hw (fun M2 hw => ?_)
    refine zz_subP [1] rfl ?_
    exact ok_X4_past_B14 C E hH hR hw
abbrev cX4_word : ByteArray := prog_25_method_21_code
def yX4_word : MethodName := ⟨"DebateHallModel", "word", "(Ljava/lang/String;)Z"⟩
def dkwX4_word_0 : List UInt8 := [42, 42, 43, 182, 0, 175, 182, 0, 179, 172]
abbrev dktX4_word_0 : List UInt8 := dkwX4_word_0 ++ []
theorem dksX4_word_0 : cX4_word.data.toList.drop 0 = dktX4_word_0 := by decide +kernel
theorem dX4_word_0 : decode cX4_word 0 = .ok (.aload_n 0, 1) := dk_42 (dk_at dksX4_word_0 0 rfl rfl)
theorem dX4_word_1 : decode cX4_word 1 = .ok (.aload_n 0, 1) := dk_42 (dk_at dksX4_word_0 1 rfl rfl)
theorem dX4_word_2 : decode cX4_word 2 = .ok (.aload_n 1, 1) := dk_43 (dk_at dksX4_word_0 2 rfl rfl)
theorem dX4_word_3 : decode cX4_word 3 = .ok (.invokevirtual 175, 3) := dk_182 0 175 (dk_at dksX4_word_0 3 rfl rfl)
theorem dX4_word_6 : decode cX4_word 6 = .ok (.invokevirtual 179, 3) := dk_182 0 179 (dk_at dksX4_word_0 6 rfl rfl)
theorem dX4_word_9 : decode cX4_word 9 = .ok (.ireturn, 1) := dk_172 (dk_at dksX4_word_0 9 rfl rfl)
theorem q2567 : (Jvm.Cond.code ({ cls := "DebateHallModel", name := "is", desc := "(Ljava/lang/String;)Z" } : Jvm.MethodName) prog_25_method_18_code (2 : Nat) (Option.some Jvm.ClassFile.FieldType.boolean)) ∈ lw_all := lw_g (lw_at lw_m11 87 rfl) rfl
theorem zk_X4_is : zz_cd yX4_is cX4_is 2 (some .boolean) none ∈ lw_all := q2567
theorem zy_X4_is : zz_yok yX4_is 1 = true := by decide +kernel
theorem q2576 : (Jvm.Cond.code ({ cls := "DebateHallModel", name := "past", desc := "(Z)Z" } : Jvm.MethodName) prog_25_method_20_code (2 : Nat) (Option.some Jvm.ClassFile.FieldType.boolean)) ∈ lw_all := lw_g (lw_at lw_m11 96 rfl) rfl
theorem zk_X4_past : zz_cd yX4_past cX4_past 2 (some .boolean) none ∈ lw_all := q2576
theorem zy_X4_past : zz_yok yX4_past 1 = true := by decide +kernel
theorem q2573 : (Jvm.Cond.methodLink "DebateHallModel" (179 : Nat) ({ cls := "DebateHallModel", name := "past", desc := "(Z)Z" } : Jvm.MethodName)) ∈ lw_all := lw_g (lw_at lw_m11 93 rfl) rfl
theorem q2575 : (Jvm.Cond.instanceMethod ({ cls := "DebateHallModel", name := "past", desc := "(Z)Z" } : Jvm.MethodName)) ∈ lw_all := lw_g (lw_at lw_m11 95 rfl) rfl
theorem q2564 : (Jvm.Cond.methodLink "DebateHallModel" (175 : Nat) ({ cls := "DebateHallModel", name := "is", desc := "(Ljava/lang/String;)Z" } : Jvm.MethodName)) ∈ lw_all := lw_g (lw_at lw_m11 84 rfl) rfl
theorem q2566 : (Jvm.Cond.instanceMethod ({ cls := "DebateHallModel", name := "is", desc := "(Ljava/lang/String;)Z" } : Jvm.MethodName)) ∈ lw_all := lw_g (lw_at lw_m11 86 rfl) rfl
def wp_X4_word (Z : zzG) (this : Option Nat) (p0 : Option Nat) (M : zzM) (K : Option Value → zzM → Prop) : Prop := zty Z M this fun t => t = 16 ∧ wp_X4_is Z this p0 M (fun r1 M2 => zrI r1 fun x5 => zty Z M2 this fun t => t = 16 ∧ wp_X4_past Z this x5 M2 (fun r6 M7 => zrI r6 fun x10 => narrow .boolean (.int x10) = .int x10 ∧ K (some (.int x10)) M7))
theorem ok_X4_word {Z : zzG} {l : Launch} (hl : l.stackTraces = false) {this : Option Nat} {p0 : Option Nat} {M : zzM} {mc ms : Nat} {K : Option Value → zzM → Prop} (hw : wp_X4_word Z this p0 M K) : zz_Met Z l yX4_word (zz_ws yX4_word cX4_word 2 (some .boolean) none) 7 [va_rf this, va_rf p0] M mc ms K (fun _ _ _ => False) := by
  refine zz_ofW hl (plainFor_of_name (by decide)) (by simp only [zz_sl0, zz_slI, zz_slJ, zz_slA] <;> decide) (fun G hZ hll C E hH hR hin => ?_)
  subst hZ
  subst hll
  rw [show lv_args 0 [va_rf this, va_rf p0] = [(0, va_rf this), (1, va_rf p0)] by simp only [zz_la0, zz_laI, zz_laJ, zz_laA]]
  unfold wp_X4_word at hw
  refine zz_aload_n C dX4_word_0 rfl 0 rfl ?_
  refine zz_aload_n C dX4_word_1 rfl 0 rfl ?_
  refine zz_aload_n C dX4_word_2 rfl 1 rfl ?_
  obtain ⟨a9, t9, b9, fs9, hro, hL, rfl, hw⟩ := ztyS hw
  refine zz_callV (r := (zR_16, zT_16, 24)) (As := [va_rf p0]) (rest := [va_rf this]) (mc := 0) (ms := 0) C hR hro dX4_word_3 (Or.inl q2564) q2566 (Or.inl qs38) zl_DebateHallModel zk_X4_is (Or.inl rfl) zy_X4_is rfl (by decide) (by decide) hL (ok_X4_is (zz_hl C) hw) (Nat.zero_le _) (Nat.zero_le _) (zz_cat10 _ (Nat.le_of_ble_eq_true rfl)) (fun r1 M2 hw => zz_kI hw (fun x5 hw => ?_)) (fun _ _ _ h9 => h9.elim) rfl
  obtain ⟨a9, t9, b9, fs9, hro, hL, rfl, hw⟩ := ztyS hw
  refine zz_callV (r := (zR_16, zT_16, 24)) (As := [.int x5]) (rest := []) (mc := 0) (ms := 0) C hR hro dX4_word_6 (Or.inl q2573) q2575 (Or.inl qs39) zl_DebateHallModel zk_X4_past (Or.inl rfl) zy_X4_past rfl (by decide) (by decide) hL (ok_X4_past (zz_hl C) hw) (Nat.zero_le _) (Nat.zero_le _) (zz_cat10 _ (Nat.le_of_ble_eq_true rfl)) (fun r6 M7 hw => zz_kI hw (fun x10 hw => ?_)) (fun _ _ _ h9 => h9.elim) rfl
  exact zz_zret C E dX4_word_9 hw
abbrev cX4_isKeyword : ByteArray := prog_25_method_2_code
def yX4_isKeyword : MethodName := ⟨"DebateHallModel", "isKeyword", "(J)Z"⟩
def dkwX4_isKeyword_1 : List UInt8 := [132, 2, 1, 167, 255, 233, 3, 172]
abbrev dktX4_isKeyword_1 : List UInt8 := dkwX4_isKeyword_1 ++ []
def dkwX4_isKeyword_0 : List UInt8 := [3, 61, 28, 178, 0, 11, 190, 162, 0, 21, 178, 0, 11, 28, 47, 30, 148, 154, 0, 5, 4, 172]
abbrev dktX4_isKeyword_0 : List UInt8 := dkwX4_isKeyword_0 ++ dktX4_isKeyword_1
theorem dksX4_isKeyword_0 : cX4_isKeyword.data.toList.drop 0 = dktX4_isKeyword_0 := by decide +kernel
theorem dksX4_isKeyword_1 : cX4_isKeyword.data.toList.drop 22 = dktX4_isKeyword_1 := dk_seg dksX4_isKeyword_0 22 rfl rfl
theorem dX4_isKeyword_0 : decode cX4_isKeyword 0 = .ok (.iconst 0, 1) := dk_3 (dk_at dksX4_isKeyword_0 0 rfl rfl)
theorem dX4_isKeyword_1 : decode cX4_isKeyword 1 = .ok (.istore_n 2, 1) := dk_61 (dk_at dksX4_isKeyword_0 1 rfl rfl)
theorem dX4_isKeyword_2 : decode cX4_isKeyword 2 = .ok (.iload_n 2, 1) := dk_28 (dk_at dksX4_isKeyword_0 2 rfl rfl)
theorem dX4_isKeyword_3 : decode cX4_isKeyword 3 = .ok (.getstatic 11, 3) := dk_178 0 11 (dk_at dksX4_isKeyword_0 3 rfl rfl)
theorem dX4_isKeyword_6 : decode cX4_isKeyword 6 = .ok (.arraylength, 1) := dk_190 (dk_at dksX4_isKeyword_0 6 rfl rfl)
theorem dX4_isKeyword_7 : decode cX4_isKeyword 7 = .ok (.if_icmp .ge 21, 3) := dk_162 0 21 (dk_at dksX4_isKeyword_0 7 rfl rfl)
theorem dX4_isKeyword_10 : decode cX4_isKeyword 10 = .ok (.getstatic 11, 3) := dk_178 0 11 (dk_at dksX4_isKeyword_0 10 rfl rfl)
theorem dX4_isKeyword_13 : decode cX4_isKeyword 13 = .ok (.iload_n 2, 1) := dk_28 (dk_at dksX4_isKeyword_0 13 rfl rfl)
theorem dX4_isKeyword_14 : decode cX4_isKeyword 14 = .ok (.laload, 1) := dk_47 (dk_at dksX4_isKeyword_0 14 rfl rfl)
theorem dX4_isKeyword_15 : decode cX4_isKeyword 15 = .ok (.lload_n 0, 1) := dk_30 (dk_at dksX4_isKeyword_0 15 rfl rfl)
theorem dX4_isKeyword_16 : decode cX4_isKeyword 16 = .ok (.lcmp, 1) := dk_148 (dk_at dksX4_isKeyword_0 16 rfl rfl)
theorem dX4_isKeyword_17 : decode cX4_isKeyword 17 = .ok (.ifCond .ne 5, 3) := dk_154 0 5 (dk_at dksX4_isKeyword_0 17 rfl rfl)
theorem dX4_isKeyword_20 : decode cX4_isKeyword 20 = .ok (.iconst 1, 1) := dk_4 (dk_at dksX4_isKeyword_0 20 rfl rfl)
theorem dX4_isKeyword_21 : decode cX4_isKeyword 21 = .ok (.ireturn, 1) := dk_172 (dk_at dksX4_isKeyword_0 21 rfl rfl)
theorem dX4_isKeyword_22 : decode cX4_isKeyword 22 = .ok (.iinc 2 1, 3) := dk_132 2 1 (dk_at dksX4_isKeyword_1 0 rfl rfl)
theorem dX4_isKeyword_25 : decode cX4_isKeyword 25 = .ok (.goto (-23), 3) := dk_167 255 233 (dk_at dksX4_isKeyword_1 3 rfl rfl)
theorem dX4_isKeyword_28 : decode cX4_isKeyword 28 = .ok (.iconst 0, 1) := dk_3 (dk_at dksX4_isKeyword_1 6 rfl rfl)
theorem dX4_isKeyword_29 : decode cX4_isKeyword 29 = .ok (.ireturn, 1) := dk_172 (dk_at dksX4_isKeyword_1 7 rfl rfl)
theorem q2584 : (Jvm.Cond.fieldLink "DebateHallModel" (11 : Nat) "DebateHallModel" "KEYS" "[J") ∈ lw_all := lw_g (lw_at lw_m11 104 rfl) rfl
def wp_X4_isKeyword_L2 (Z : zzG) (K : Option Value → zzM → Prop) : Nat → Int64 → Int32 → zzM → Prop
  | 0, _, _, _ => False
  | n + 1, v0, v2, M => zlen Z M (some (zz_ad Z 13)) fun x1 => if x1 ≤ v2 then (narrow .boolean (.int (0 : Int32)) = .int (0 : Int32) ∧ K (some (.int (0 : Int32))) M) else (zaJ Z M (some (zz_ad Z 13)) [102] v2 fun x2 => if (lg_cmp x2 v0) = 0 then (narrow .boolean (.int (1 : Int32)) = .int (1 : Int32) ∧ K (some (.int (1 : Int32))) M) else (wp_X4_isKeyword_L2 Z K n v0 (v2 + 1) M))
def wp_X4_isKeyword (Z : zzG) (p0 : Int64) (M : zzM) (K : Option Value → zzM → Prop) : Prop := ∃ n2 : Nat, wp_X4_isKeyword_L2 Z K n2 p0 (0 : Int32) M
theorem ok_X4_isKeyword_L2 {G : zzX} (C : zz_C G cX4_isKeyword "DebateHallModel" 3) {K : Option Value → zzM → Prop} (E : zz_E G (some .boolean) K (fun _ _ _ => False)) (hH : zz_H G []) (hR : zz_Rm G 1) : ∀ (n : Nat) (v0 : Int64) (v2 : Int32) (M : zzM) (bc bs : Nat), wp_X4_isKeyword_L2 (zz_Zof G) K n v0 v2 M → zz_T G 3 M bc bs 2 [(0, .long v0), (2, .int v2)] [] := by
  intro n
  induction n with
  | zero =>
    intro v0 v2 M bc bs hw
    exact False.elim hw
  | succ n ih =>
    intro v0 v2 M bc bs hw
    refine zz_iload_n C dX4_isKeyword_2 rfl 1 rfl ?_
    refine zz_gets (j := 13) (v := va_rf (some (zz_ad (zz_Zof G) 13))) C dX4_isKeyword_3 (Or.inl q2584) rfl (Or.inl rfl) rfl ?_
    refine zz_alen C dX4_isKeyword_6 hw (fun x1 hw => ?_)
    refine zz_icmp_ge (tgt := 28) C dX4_isKeyword_7 (by decide) hw (fun hw => ?_) (fun hw => ?_)
    · refine zz_iconst (v := (0 : Int32)) C dX4_isKeyword_28 (by decide) ?_
      exact zz_zret C E dX4_isKeyword_29 hw
    · refine zz_gets (j := 13) (v := va_rf (some (zz_ad (zz_Zof G) 13))) C dX4_isKeyword_10 (Or.inl q2584) rfl (Or.inl rfl) rfl ?_
      refine zz_iload_n C dX4_isKeyword_13 rfl 1 rfl ?_
      refine zz_lald C dX4_isKeyword_14 hw (fun x2 hw => ?_)
      refine zz_lload_n C dX4_isKeyword_15 rfl 0 rfl ?_
      refine zz_lcmp C dX4_isKeyword_16 ?_
      refine zz_if_ne (tgt := 22) C dX4_isKeyword_17 (by decide) hw (fun hw => ?_) (fun hw => ?_)
      · refine zz_iinc (lv' := [(2, .int (v2 + 1)), (0, .long v0)]) C dX4_isKeyword_22 1 rfl (by rfl) (by decide) rfl ?_
        refine zz_goto (tgt := 2) C dX4_isKeyword_25 (by decide) ?_
        refine zz_subP [1, 0] rfl ?_
        exact ih _ _ _ _ _ hw
      · refine zz_iconst (v := (1 : Int32)) C dX4_isKeyword_20 (by decide) ?_
        exact zz_zret C E dX4_isKeyword_21 hw
theorem ok_X4_isKeyword {Z : zzG} {l : Launch} (hl : l.stackTraces = false) {p0 : Int64} {M : zzM} {mc ms : Nat} {K : Option Value → zzM → Prop} (hw : wp_X4_isKeyword Z p0 M K) : zz_Met Z l yX4_isKeyword (zz_ws yX4_isKeyword cX4_isKeyword 3 (some .boolean) none) 1 [.long p0] M mc ms K (fun _ _ _ => False) := by
  refine zz_ofW hl (plainFor_of_name (by decide)) (by simp only [zz_sl0, zz_slI, zz_slJ, zz_slA] <;> decide) (fun G hZ hll C E hH hR hin => ?_)
  subst hZ
  subst hll
  rw [show lv_args 0 [.long p0] = [(0, .long p0)] by simp only [zz_la0, zz_laI, zz_laJ, zz_laA]]
  unfold wp_X4_isKeyword at hw
  refine zz_iconst (v := (0 : Int32)) C dX4_isKeyword_0 (by decide) ?_
  refine zz_istore_n (i := 2) (lv' := [(2, .int (0 : Int32)), (0, .long p0)]) C dX4_isKeyword_1 rfl (by decide) rfl ?_
  refine zz_subP [1, 0] rfl ?_
  obtain ⟨n2, hw⟩ := hw
  exact ok_X4_isKeyword_L2 C E hH hR n2 _ _ _ _ _ hw
abbrev cX4_name : ByteArray := prog_25_method_22_code
def yX4_name : MethodName := ⟨"DebateHallModel", "name", "()Z"⟩
def dkwX4_name_1 : List UInt8 := [184, 0, 183, 154, 0, 7, 4, 167, 0, 4, 3, 182, 0, 179, 172]
abbrev dktX4_name_1 : List UInt8 := dkwX4_name_1 ++ []
def dkwX4_name_0 : List UInt8 := [42, 42, 180, 0, 34, 42, 180, 0, 168, 46, 5, 160, 0, 22, 42, 180, 0, 40, 42, 180, 0, 168, 47]
abbrev dktX4_name_0 : List UInt8 := dkwX4_name_0 ++ dktX4_name_1
theorem dksX4_name_0 : cX4_name.data.toList.drop 0 = dktX4_name_0 := by decide +kernel
theorem dksX4_name_1 : cX4_name.data.toList.drop 23 = dktX4_name_1 := dk_seg dksX4_name_0 23 rfl rfl
theorem dX4_name_0 : decode cX4_name 0 = .ok (.aload_n 0, 1) := dk_42 (dk_at dksX4_name_0 0 rfl rfl)
theorem dX4_name_1 : decode cX4_name 1 = .ok (.aload_n 0, 1) := dk_42 (dk_at dksX4_name_0 1 rfl rfl)
theorem dX4_name_2 : decode cX4_name 2 = .ok (.getfield 34, 3) := dk_180 0 34 (dk_at dksX4_name_0 2 rfl rfl)
theorem dX4_name_5 : decode cX4_name 5 = .ok (.aload_n 0, 1) := dk_42 (dk_at dksX4_name_0 5 rfl rfl)
theorem dX4_name_6 : decode cX4_name 6 = .ok (.getfield 168, 3) := dk_180 0 168 (dk_at dksX4_name_0 6 rfl rfl)
theorem dX4_name_9 : decode cX4_name 9 = .ok (.iaload, 1) := dk_46 (dk_at dksX4_name_0 9 rfl rfl)
theorem dX4_name_10 : decode cX4_name 10 = .ok (.iconst 2, 1) := dk_5 (dk_at dksX4_name_0 10 rfl rfl)
theorem dX4_name_11 : decode cX4_name 11 = .ok (.if_icmp .ne 22, 3) := dk_160 0 22 (dk_at dksX4_name_0 11 rfl rfl)
theorem dX4_name_14 : decode cX4_name 14 = .ok (.aload_n 0, 1) := dk_42 (dk_at dksX4_name_0 14 rfl rfl)
theorem dX4_name_15 : decode cX4_name 15 = .ok (.getfield 40, 3) := dk_180 0 40 (dk_at dksX4_name_0 15 rfl rfl)
theorem dX4_name_18 : decode cX4_name 18 = .ok (.aload_n 0, 1) := dk_42 (dk_at dksX4_name_0 18 rfl rfl)
theorem dX4_name_19 : decode cX4_name 19 = .ok (.getfield 168, 3) := dk_180 0 168 (dk_at dksX4_name_0 19 rfl rfl)
theorem dX4_name_22 : decode cX4_name 22 = .ok (.laload, 1) := dk_47 (dk_at dksX4_name_0 22 rfl rfl)
theorem dX4_name_23 : decode cX4_name 23 = .ok (.invokestatic 183, 3) := dk_184 0 183 (dk_at dksX4_name_1 0 rfl rfl)
theorem dX4_name_26 : decode cX4_name 26 = .ok (.ifCond .ne 7, 3) := dk_154 0 7 (dk_at dksX4_name_1 3 rfl rfl)
theorem dX4_name_29 : decode cX4_name 29 = .ok (.iconst 1, 1) := dk_4 (dk_at dksX4_name_1 6 rfl rfl)
theorem dX4_name_30 : decode cX4_name 30 = .ok (.goto 4, 3) := dk_167 0 4 (dk_at dksX4_name_1 7 rfl rfl)
theorem dX4_name_33 : decode cX4_name 33 = .ok (.iconst 0, 1) := dk_3 (dk_at dksX4_name_1 10 rfl rfl)
theorem dX4_name_34 : decode cX4_name 34 = .ok (.invokevirtual 179, 3) := dk_182 0 179 (dk_at dksX4_name_1 11 rfl rfl)
theorem dX4_name_37 : decode cX4_name 37 = .ok (.ireturn, 1) := dk_172 (dk_at dksX4_name_1 14 rfl rfl)
theorem q2583 : (Jvm.Cond.code ({ cls := "DebateHallModel", name := "isKeyword", desc := "(J)Z" } : Jvm.MethodName) prog_25_method_2_code (3 : Nat) (Option.some Jvm.ClassFile.FieldType.boolean)) ∈ lw_all := lw_g (lw_at lw_m11 103 rfl) rfl
theorem zk_X4_isKeyword : zz_cd yX4_isKeyword cX4_isKeyword 3 (some .boolean) none ∈ lw_all := q2583
theorem zy_X4_isKeyword : zz_yok yX4_isKeyword 1 = true := by decide +kernel
theorem q2581 : (Jvm.Cond.methodLink "DebateHallModel" (183 : Nat) ({ cls := "DebateHallModel", name := "isKeyword", desc := "(J)Z" } : Jvm.MethodName)) ∈ lw_all := lw_g (lw_at lw_m11 101 rfl) rfl
theorem q2582 : (Jvm.Cond.static ({ cls := "DebateHallModel", name := "isKeyword", desc := "(J)Z" } : Jvm.MethodName)) ∈ lw_all := lw_g (lw_at lw_m11 102 rfl) rfl
def wp_X4_name_B34 (Z : zzG) (K : Option Value → zzM → Prop) (s0 : Int32) (s1 : Option Nat) (M : zzM) : Prop := zty Z M s1 fun t => t = 16 ∧ wp_X4_past Z s1 s0 M (fun r12 M13 => zrI r12 fun x16 => narrow .boolean (.int x16) = .int x16 ∧ K (some (.int x16)) M13)
def wp_X4_name_B33 (Z : zzG) (K : Option Value → zzM → Prop) (s0 : Option Nat) (M : zzM) : Prop := wp_X4_name_B34 Z K (0 : Int32) s0 M
def wp_X4_name (Z : zzG) (this : Option Nat) (M : zzM) (K : Option Value → zzM → Prop) : Prop := zgA Z M this [16] 7 fun x1 => zgI Z M this [16] 10 fun x2 => zaI Z M x1 [100] x2 fun x3 => if x3 = (2 : Int32) then (zgA Z M this [16] 9 fun x4 => zgI Z M this [16] 10 fun x5 => zaJ Z M x4 [102] x5 fun x6 => wp_X4_isKeyword Z x6 M (fun r7 M8 => zrI r7 fun x11 => if x11 = 0 then (wp_X4_name_B34 Z K (1 : Int32) this M8) else (wp_X4_name_B33 Z K this M8))) else (wp_X4_name_B33 Z K this M)
theorem ok_X4_name_B34 {G : zzX} (C : zz_C G cX4_name "DebateHallModel" 1) {K : Option Value → zzM → Prop} (E : zz_E G (some .boolean) K (fun _ _ _ => False)) (hH : zz_H G []) (hR : zz_Rm G 2) {s0 : Int32} {s1 : Option Nat} {M : zzM} {bc bs : Nat} (hw : wp_X4_name_B34 (zz_Zof G) K s0 s1 M) : zz_T G 1 M bc bs 34 [] [.int s0, va_rf s1] := by
  unfold wp_X4_name_B34 at hw
  obtain ⟨a9, t9, b9, fs9, hro, hL, rfl, hw⟩ := ztyS hw
  refine zz_callV (r := (zR_16, zT_16, 24)) (As := [.int s0]) (rest := []) (mc := 0) (ms := 0) C hR hro dX4_name_34 (Or.inl q2573) q2575 (Or.inl qs39) zl_DebateHallModel zk_X4_past (Or.inl rfl) zy_X4_past rfl (by decide) (by decide) hL (ok_X4_past (zz_hl C) hw) (Nat.zero_le _) (Nat.zero_le _) (zz_cat10 _ (Nat.le_of_ble_eq_true rfl)) (fun r12 M13 hw => zz_kI hw (fun x16 hw => ?_)) (fun _ _ _ h9 => h9.elim) rfl
  exact zz_zret C E dX4_name_37 hw
theorem ok_X4_name_B33 {G : zzX} (C : zz_C G cX4_name "DebateHallModel" 1) {K : Option Value → zzM → Prop} (E : zz_E G (some .boolean) K (fun _ _ _ => False)) (hH : zz_H G []) (hR : zz_Rm G 2) {s0 : Option Nat} {M : zzM} {bc bs : Nat} (hw : wp_X4_name_B33 (zz_Zof G) K s0 M) : zz_T G 1 M bc bs 33 [] [va_rf s0] := by
  unfold wp_X4_name_B33 at hw
  refine zz_iconst (v := (0 : Int32)) C dX4_name_33 (by decide) ?_
  refine zz_subP [] rfl ?_
  exact ok_X4_name_B34 C E hH hR hw
theorem ok_X4_name {Z : zzG} {l : Launch} (hl : l.stackTraces = false) {this : Option Nat} {M : zzM} {mc ms : Nat} {K : Option Value → zzM → Prop} (hw : wp_X4_name Z this M K) : zz_Met Z l yX4_name (zz_ws yX4_name cX4_name 1 (some .boolean) none) 2 [va_rf this] M mc ms K (fun _ _ _ => False) := by
  refine zz_ofW hl (plainFor_of_name (by decide)) (by simp only [zz_sl0, zz_slI, zz_slJ, zz_slA] <;> decide) (fun G hZ hll C E hH hR hin => ?_)
  subst hZ
  subst hll
  rw [show lv_args 0 [va_rf this] = [(0, va_rf this)] by simp only [zz_la0, zz_laI, zz_laJ, zz_laA]]
  unfold wp_X4_name at hw
  refine zz_aload_n C dX4_name_0 rfl 0 rfl ?_
  refine zz_aload_n C dX4_name_1 rfl 0 rfl ?_
  refine zz_getA C dX4_name_2 (Or.inl q2443) zf_16_7_ebateHallModel hw (fun x1 hw => ?_)
  refine zz_aload_n C dX4_name_5 rfl 0 rfl ?_
  refine zz_getI C dX4_name_6 (Or.inl q2446) zf_16_10_ebateHallModel hw (fun x2 hw => ?_)
  refine zz_iald C dX4_name_9 hw (fun x3 hw => ?_)
  refine zz_iconst (v := (2 : Int32)) C dX4_name_10 (by decide) ?_
  refine zz_icmp_ne (tgt := 33) C dX4_name_11 (by decide) hw (fun hw => ?_) (fun hw => ?_)
  · refine zz_subP [] rfl ?_
    exact ok_X4_name_B33 C E hH hR hw
  · refine zz_aload_n C dX4_name_14 rfl 0 rfl ?_
    refine zz_getA C dX4_name_15 (Or.inl q2445) zf_16_9_ebateHallModel hw (fun x4 hw => ?_)
    refine zz_aload_n C dX4_name_18 rfl 0 rfl ?_
    refine zz_getI C dX4_name_19 (Or.inl q2446) zf_16_10_ebateHallModel hw (fun x5 hw => ?_)
    refine zz_lald C dX4_name_22 hw (fun x6 hw => ?_)
    refine zz_callS (As := [.long x6]) (rest := [va_rf this]) (mc := 0) (ms := 0) C hR dX4_name_23 (Or.inl q2581) q2582 zl_DebateHallModel zk_X4_isKeyword (Or.inl rfl) zy_X4_isKeyword (by decide) (by decide) (ok_X4_isKeyword (zz_hl C) hw) (Nat.zero_le _) (Nat.zero_le _) (zz_cat10 _ (Nat.le_of_ble_eq_true rfl)) (fun r7 M8 hw => zz_kI hw (fun x11 hw => ?_)) (fun _ _ _ h9 => h9.elim) rfl
    refine zz_if_ne (tgt := 33) C dX4_name_26 (by decide) hw (fun hw => ?_) (fun hw => ?_)
    · refine zz_subP [] rfl ?_
      exact ok_X4_name_B33 C E hH hR hw
    · refine zz_iconst (v := (1 : Int32)) C dX4_name_29 (by decide) ?_
      refine zz_goto (tgt := 34) C dX4_name_30 (by decide) ?_
      refine zz_subP [] rfl ?_
      exact ok_X4_name_B34 C E hH hR hw
abbrev cX4_number : ByteArray := prog_25_method_23_code
def yX4_number : MethodName := ⟨"DebateHallModel", "number", "()Z"⟩
def dkwX4_number_0 : List UInt8 := [42, 42, 180, 0, 34, 42, 180, 0, 168, 46, 6, 160, 0, 7, 4, 167, 0, 4, 3, 182, 0, 179, 172]
abbrev dktX4_number_0 : List UInt8 := dkwX4_number_0 ++ []
theorem dksX4_number_0 : cX4_number.data.toList.drop 0 = dktX4_number_0 := by decide +kernel
theorem dX4_number_0 : decode cX4_number 0 = .ok (.aload_n 0, 1) := dk_42 (dk_at dksX4_number_0 0 rfl rfl)
theorem dX4_number_1 : decode cX4_number 1 = .ok (.aload_n 0, 1) := dk_42 (dk_at dksX4_number_0 1 rfl rfl)
theorem dX4_number_2 : decode cX4_number 2 = .ok (.getfield 34, 3) := dk_180 0 34 (dk_at dksX4_number_0 2 rfl rfl)
theorem dX4_number_5 : decode cX4_number 5 = .ok (.aload_n 0, 1) := dk_42 (dk_at dksX4_number_0 5 rfl rfl)
theorem dX4_number_6 : decode cX4_number 6 = .ok (.getfield 168, 3) := dk_180 0 168 (dk_at dksX4_number_0 6 rfl rfl)
theorem dX4_number_9 : decode cX4_number 9 = .ok (.iaload, 1) := dk_46 (dk_at dksX4_number_0 9 rfl rfl)
theorem dX4_number_10 : decode cX4_number 10 = .ok (.iconst 3, 1) := dk_6 (dk_at dksX4_number_0 10 rfl rfl)
theorem dX4_number_11 : decode cX4_number 11 = .ok (.if_icmp .ne 7, 3) := dk_160 0 7 (dk_at dksX4_number_0 11 rfl rfl)
theorem dX4_number_14 : decode cX4_number 14 = .ok (.iconst 1, 1) := dk_4 (dk_at dksX4_number_0 14 rfl rfl)
theorem dX4_number_15 : decode cX4_number 15 = .ok (.goto 4, 3) := dk_167 0 4 (dk_at dksX4_number_0 15 rfl rfl)
theorem dX4_number_18 : decode cX4_number 18 = .ok (.iconst 0, 1) := dk_3 (dk_at dksX4_number_0 18 rfl rfl)
theorem dX4_number_19 : decode cX4_number 19 = .ok (.invokevirtual 179, 3) := dk_182 0 179 (dk_at dksX4_number_0 19 rfl rfl)
theorem dX4_number_22 : decode cX4_number 22 = .ok (.ireturn, 1) := dk_172 (dk_at dksX4_number_0 22 rfl rfl)
def wp_X4_number_B19 (Z : zzG) (K : Option Value → zzM → Prop) (s0 : Int32) (s1 : Option Nat) (M : zzM) : Prop := zty Z M s1 fun t => t = 16 ∧ wp_X4_past Z s1 s0 M (fun r4 M5 => zrI r4 fun x8 => narrow .boolean (.int x8) = .int x8 ∧ K (some (.int x8)) M5)
def wp_X4_number (Z : zzG) (this : Option Nat) (M : zzM) (K : Option Value → zzM → Prop) : Prop := zgA Z M this [16] 7 fun x1 => zgI Z M this [16] 10 fun x2 => zaI Z M x1 [100] x2 fun x3 => if x3 = (3 : Int32) then (wp_X4_number_B19 Z K (1 : Int32) this M) else (wp_X4_number_B19 Z K (0 : Int32) this M)
theorem ok_X4_number_B19 {G : zzX} (C : zz_C G cX4_number "DebateHallModel" 1) {K : Option Value → zzM → Prop} (E : zz_E G (some .boolean) K (fun _ _ _ => False)) (hH : zz_H G []) (hR : zz_Rm G 2) {s0 : Int32} {s1 : Option Nat} {M : zzM} {bc bs : Nat} (hw : wp_X4_number_B19 (zz_Zof G) K s0 s1 M) : zz_T G 1 M bc bs 19 [] [.int s0, va_rf s1] := by
  unfold wp_X4_number_B19 at hw
  obtain ⟨a9, t9, b9, fs9, hro, hL, rfl, hw⟩ := ztyS hw
  refine zz_callV (r := (zR_16, zT_16, 24)) (As := [.int s0]) (rest := []) (mc := 0) (ms := 0) C hR hro dX4_number_19 (Or.inl q2573) q2575 (Or.inl qs39) zl_DebateHallModel zk_X4_past (Or.inl rfl) zy_X4_past rfl (by decide) (by decide) hL (ok_X4_past (zz_hl C) hw) (Nat.zero_le _) (Nat.zero_le _) (zz_cat10 _ (Nat.le_of_ble_eq_true rfl)) (fun r4 M5 hw => zz_kI hw (fun x8 hw => ?_)) (fun _ _ _ h9 => h9.elim) rfl
  exact zz_zret C E dX4_number_22 hw
theorem ok_X4_number {Z : zzG} {l : Launch} (hl : l.stackTraces = false) {this : Option Nat} {M : zzM} {mc ms : Nat} {K : Option Value → zzM → Prop} (hw : wp_X4_number Z this M K) : zz_Met Z l yX4_number (zz_ws yX4_number cX4_number 1 (some .boolean) none) 2 [va_rf this] M mc ms K (fun _ _ _ => False) := by
  refine zz_ofW hl (plainFor_of_name (by decide)) (by simp only [zz_sl0, zz_slI, zz_slJ, zz_slA] <;> decide) (fun G hZ hll C E hH hR hin => ?_)
  subst hZ
  subst hll
  rw [show lv_args 0 [va_rf this] = [(0, va_rf this)] by simp only [zz_la0, zz_laI, zz_laJ, zz_laA]]
  unfold wp_X4_number at hw
  refine zz_aload_n C dX4_number_0 rfl 0 rfl ?_
  refine zz_aload_n C dX4_number_1 rfl 0 rfl ?_
  refine zz_getA C dX4_number_2 (Or.inl q2443) zf_16_7_ebateHallModel hw (fun x1 hw => ?_)
  refine zz_aload_n C dX4_number_5 rfl 0 rfl ?_
  refine zz_getI C dX4_number_6 (Or.inl q2446) zf_16_10_ebateHallModel hw (fun x2 hw => ?_)
  refine zz_iald C dX4_number_9 hw (fun x3 hw => ?_)
  refine zz_iconst (v := (3 : Int32)) C dX4_number_10 (by decide) ?_
  refine zz_icmp_ne (tgt := 18) C dX4_number_11 (by decide) hw (fun hw => ?_) (fun hw => ?_)
  · refine zz_iconst (v := (0 : Int32)) C dX4_number_18 (by decide) ?_
    refine zz_subP [] rfl ?_
    exact ok_X4_number_B19 C E hH hR hw
  · refine zz_iconst (v := (1 : Int32)) C dX4_number_14 (by decide) ?_
    refine zz_goto (tgt := 19) C dX4_number_15 (by decide) ?_
    refine zz_subP [] rfl ?_
    exact ok_X4_number_B19 C E hH hR hw
abbrev cX4_isSymbol : ByteArray := prog_25_method_19_code
def yX4_isSymbol : MethodName := ⟨"DebateHallModel", "isSymbol", "(C)Z"⟩
def dkwX4_isSymbol_1 : List UInt8 := [148, 154, 0, 7, 4, 167, 0, 4, 3, 172]
abbrev dktX4_isSymbol_1 : List UInt8 := dkwX4_isSymbol_1 ++ []
def dkwX4_isSymbol_0 : List UInt8 := [42, 180, 0, 34, 42, 180, 0, 168, 46, 7, 160, 0, 22, 42, 180, 0, 40, 42, 180, 0, 168, 47, 27, 133]
abbrev dktX4_isSymbol_0 : List UInt8 := dkwX4_isSymbol_0 ++ dktX4_isSymbol_1
theorem dksX4_isSymbol_0 : cX4_isSymbol.data.toList.drop 0 = dktX4_isSymbol_0 := by decide +kernel
theorem dksX4_isSymbol_1 : cX4_isSymbol.data.toList.drop 24 = dktX4_isSymbol_1 := dk_seg dksX4_isSymbol_0 24 rfl rfl
theorem dX4_isSymbol_0 : decode cX4_isSymbol 0 = .ok (.aload_n 0, 1) := dk_42 (dk_at dksX4_isSymbol_0 0 rfl rfl)
theorem dX4_isSymbol_1 : decode cX4_isSymbol 1 = .ok (.getfield 34, 3) := dk_180 0 34 (dk_at dksX4_isSymbol_0 1 rfl rfl)
theorem dX4_isSymbol_4 : decode cX4_isSymbol 4 = .ok (.aload_n 0, 1) := dk_42 (dk_at dksX4_isSymbol_0 4 rfl rfl)
theorem dX4_isSymbol_5 : decode cX4_isSymbol 5 = .ok (.getfield 168, 3) := dk_180 0 168 (dk_at dksX4_isSymbol_0 5 rfl rfl)
theorem dX4_isSymbol_8 : decode cX4_isSymbol 8 = .ok (.iaload, 1) := dk_46 (dk_at dksX4_isSymbol_0 8 rfl rfl)
theorem dX4_isSymbol_9 : decode cX4_isSymbol 9 = .ok (.iconst 4, 1) := dk_7 (dk_at dksX4_isSymbol_0 9 rfl rfl)
theorem dX4_isSymbol_10 : decode cX4_isSymbol 10 = .ok (.if_icmp .ne 22, 3) := dk_160 0 22 (dk_at dksX4_isSymbol_0 10 rfl rfl)
theorem dX4_isSymbol_13 : decode cX4_isSymbol 13 = .ok (.aload_n 0, 1) := dk_42 (dk_at dksX4_isSymbol_0 13 rfl rfl)
theorem dX4_isSymbol_14 : decode cX4_isSymbol 14 = .ok (.getfield 40, 3) := dk_180 0 40 (dk_at dksX4_isSymbol_0 14 rfl rfl)
theorem dX4_isSymbol_17 : decode cX4_isSymbol 17 = .ok (.aload_n 0, 1) := dk_42 (dk_at dksX4_isSymbol_0 17 rfl rfl)
theorem dX4_isSymbol_18 : decode cX4_isSymbol 18 = .ok (.getfield 168, 3) := dk_180 0 168 (dk_at dksX4_isSymbol_0 18 rfl rfl)
theorem dX4_isSymbol_21 : decode cX4_isSymbol 21 = .ok (.laload, 1) := dk_47 (dk_at dksX4_isSymbol_0 21 rfl rfl)
theorem dX4_isSymbol_22 : decode cX4_isSymbol 22 = .ok (.iload_n 1, 1) := dk_27 (dk_at dksX4_isSymbol_0 22 rfl rfl)
theorem dX4_isSymbol_23 : decode cX4_isSymbol 23 = .ok (.i2l, 1) := dk_133 (dk_at dksX4_isSymbol_0 23 rfl rfl)
theorem dX4_isSymbol_24 : decode cX4_isSymbol 24 = .ok (.lcmp, 1) := dk_148 (dk_at dksX4_isSymbol_1 0 rfl rfl)
theorem dX4_isSymbol_25 : decode cX4_isSymbol 25 = .ok (.ifCond .ne 7, 3) := dk_154 0 7 (dk_at dksX4_isSymbol_1 1 rfl rfl)
theorem dX4_isSymbol_28 : decode cX4_isSymbol 28 = .ok (.iconst 1, 1) := dk_4 (dk_at dksX4_isSymbol_1 4 rfl rfl)
theorem dX4_isSymbol_29 : decode cX4_isSymbol 29 = .ok (.goto 4, 3) := dk_167 0 4 (dk_at dksX4_isSymbol_1 5 rfl rfl)
theorem dX4_isSymbol_32 : decode cX4_isSymbol 32 = .ok (.iconst 0, 1) := dk_3 (dk_at dksX4_isSymbol_1 8 rfl rfl)
theorem dX4_isSymbol_33 : decode cX4_isSymbol 33 = .ok (.ireturn, 1) := dk_172 (dk_at dksX4_isSymbol_1 9 rfl rfl)
def wp_X4_isSymbol_B33 (Z : zzG) (K : Option Value → zzM → Prop) (s0 : Int32) (M : zzM) : Prop := narrow .boolean (.int s0) = .int s0 ∧ K (some (.int s0)) M
def wp_X4_isSymbol_B32 (Z : zzG) (K : Option Value → zzM → Prop) (M : zzM) : Prop := wp_X4_isSymbol_B33 Z K (0 : Int32) M
def wp_X4_isSymbol (Z : zzG) (this : Option Nat) (p0 : Int32) (M : zzM) (K : Option Value → zzM → Prop) : Prop := zgA Z M this [16] 7 fun x1 => zgI Z M this [16] 10 fun x2 => zaI Z M x1 [100] x2 fun x3 => if x3 = (4 : Int32) then (zgA Z M this [16] 9 fun x4 => zgI Z M this [16] 10 fun x5 => zaJ Z M x4 [102] x5 fun x6 => if (lg_cmp x6 p0.toInt64) = 0 then (wp_X4_isSymbol_B33 Z K (1 : Int32) M) else (wp_X4_isSymbol_B32 Z K M)) else (wp_X4_isSymbol_B32 Z K M)
theorem ok_X4_isSymbol_B33 {G : zzX} (C : zz_C G cX4_isSymbol "DebateHallModel" 2) {K : Option Value → zzM → Prop} (E : zz_E G (some .boolean) K (fun _ _ _ => False)) (hH : zz_H G []) (hR : zz_Rm G 1) {s0 : Int32} {M : zzM} {bc bs : Nat} (hw : wp_X4_isSymbol_B33 (zz_Zof G) K s0 M) : zz_T G 2 M bc bs 33 [] [.int s0] := by
  unfold wp_X4_isSymbol_B33 at hw
  exact zz_zret C E dX4_isSymbol_33 hw
theorem ok_X4_isSymbol_B32 {G : zzX} (C : zz_C G cX4_isSymbol "DebateHallModel" 2) {K : Option Value → zzM → Prop} (E : zz_E G (some .boolean) K (fun _ _ _ => False)) (hH : zz_H G []) (hR : zz_Rm G 1) {M : zzM} {bc bs : Nat} (hw : wp_X4_isSymbol_B32 (zz_Zof G) K M) : zz_T G 2 M bc bs 32 [] [] := by
  unfold wp_X4_isSymbol_B32 at hw
  refine zz_iconst (v := (0 : Int32)) C dX4_isSymbol_32 (by decide) ?_
  refine zz_subP [] rfl ?_
  exact ok_X4_isSymbol_B33 C E hH hR hw
theorem ok_X4_isSymbol {Z : zzG} {l : Launch} (hl : l.stackTraces = false) {this : Option Nat} {p0 : Int32} {M : zzM} {mc ms : Nat} {K : Option Value → zzM → Prop} (hw : wp_X4_isSymbol Z this p0 M K) : zz_Met Z l yX4_isSymbol (zz_ws yX4_isSymbol cX4_isSymbol 2 (some .boolean) none) 1 [va_rf this, .int p0] M mc ms K (fun _ _ _ => False) := by
  refine zz_ofW hl (plainFor_of_name (by decide)) (by simp only [zz_sl0, zz_slI, zz_slJ, zz_slA] <;> decide) (fun G hZ hll C E hH hR hin => ?_)
  subst hZ
  subst hll
  rw [show lv_args 0 [va_rf this, .int p0] = [(0, va_rf this), (1, .int p0)] by simp only [zz_la0, zz_laI, zz_laJ, zz_laA]]
  unfold wp_X4_isSymbol at hw
  refine zz_aload_n C dX4_isSymbol_0 rfl 0 rfl ?_
  refine zz_getA C dX4_isSymbol_1 (Or.inl q2443) zf_16_7_ebateHallModel hw (fun x1 hw => ?_)
  refine zz_aload_n C dX4_isSymbol_4 rfl 0 rfl ?_
  refine zz_getI C dX4_isSymbol_5 (Or.inl q2446) zf_16_10_ebateHallModel hw (fun x2 hw => ?_)
  refine zz_iald C dX4_isSymbol_8 hw (fun x3 hw => ?_)
  refine zz_iconst (v := (4 : Int32)) C dX4_isSymbol_9 (by decide) ?_
  refine zz_icmp_ne (tgt := 32) C dX4_isSymbol_10 (by decide) hw (fun hw => ?_) (fun hw => ?_)
  · refine zz_subP [] rfl ?_
    exact ok_X4_isSymbol_B32 C E hH hR hw
  · refine zz_aload_n C dX4_isSymbol_13 rfl 0 rfl ?_
    refine zz_getA C dX4_isSymbol_14 (Or.inl q2445) zf_16_9_ebateHallModel hw (fun x4 hw => ?_)
    refine zz_aload_n C dX4_isSymbol_17 rfl 0 rfl ?_
    refine zz_getI C dX4_isSymbol_18 (Or.inl q2446) zf_16_10_ebateHallModel hw (fun x5 hw => ?_)
    refine zz_lald C dX4_isSymbol_21 hw (fun x6 hw => ?_)
    refine zz_iload_n C dX4_isSymbol_22 rfl 1 rfl ?_
    refine zz_i2l C dX4_isSymbol_23 ?_
    refine zz_lcmp C dX4_isSymbol_24 ?_
    refine zz_if_ne (tgt := 32) C dX4_isSymbol_25 (by decide) hw (fun hw => ?_) (fun hw => ?_)
    · refine zz_subP [] rfl ?_
      exact ok_X4_isSymbol_B32 C E hH hR hw
    · refine zz_iconst (v := (1 : Int32)) C dX4_isSymbol_28 (by decide) ?_
      refine zz_goto (tgt := 33) C dX4_isSymbol_29 (by decide) ?_
      refine zz_subP [] rfl ?_
      exact ok_X4_isSymbol_B33 C E hH hR hw
abbrev cX4_both : ByteArray := prog_25_method_27_code
def yX4_both : MethodName := ⟨"DebateHallModel", "both", "(I)Z"⟩
def dkwX4_both_1 : List UInt8 := [154, 255, 242, 3, 172, 4, 172]
abbrev dktX4_both_1 : List UInt8 := dkwX4_both_1 ++ []
def dkwX4_both_0 : List UInt8 := [42, 27, 182, 0, 234, 154, 0, 5, 3, 172, 42, 18, 237, 182, 0, 189, 153, 0, 13, 42, 27, 182, 0, 234]
abbrev dktX4_both_0 : List UInt8 := dkwX4_both_0 ++ dktX4_both_1
theorem dksX4_both_0 : cX4_both.data.toList.drop 0 = dktX4_both_0 := by decide +kernel
theorem dksX4_both_1 : cX4_both.data.toList.drop 24 = dktX4_both_1 := dk_seg dksX4_both_0 24 rfl rfl
theorem dX4_both_0 : decode cX4_both 0 = .ok (.aload_n 0, 1) := dk_42 (dk_at dksX4_both_0 0 rfl rfl)
theorem dX4_both_1 : decode cX4_both 1 = .ok (.iload_n 1, 1) := dk_27 (dk_at dksX4_both_0 1 rfl rfl)
theorem dX4_both_2 : decode cX4_both 2 = .ok (.invokevirtual 234, 3) := dk_182 0 234 (dk_at dksX4_both_0 2 rfl rfl)
theorem dX4_both_5 : decode cX4_both 5 = .ok (.ifCond .ne 5, 3) := dk_154 0 5 (dk_at dksX4_both_0 5 rfl rfl)
theorem dX4_both_8 : decode cX4_both 8 = .ok (.iconst 0, 1) := dk_3 (dk_at dksX4_both_0 8 rfl rfl)
theorem dX4_both_9 : decode cX4_both 9 = .ok (.ireturn, 1) := dk_172 (dk_at dksX4_both_0 9 rfl rfl)
theorem dX4_both_10 : decode cX4_both 10 = .ok (.aload_n 0, 1) := dk_42 (dk_at dksX4_both_0 10 rfl rfl)
theorem dX4_both_11 : decode cX4_both 11 = .ok (.ldc 237, 2) := dk_18 237 (dk_at dksX4_both_0 11 rfl rfl)
theorem dX4_both_13 : decode cX4_both 13 = .ok (.invokevirtual 189, 3) := dk_182 0 189 (dk_at dksX4_both_0 13 rfl rfl)
theorem dX4_both_16 : decode cX4_both 16 = .ok (.ifCond .eq 13, 3) := dk_153 0 13 (dk_at dksX4_both_0 16 rfl rfl)
theorem dX4_both_19 : decode cX4_both 19 = .ok (.aload_n 0, 1) := dk_42 (dk_at dksX4_both_0 19 rfl rfl)
theorem dX4_both_20 : decode cX4_both 20 = .ok (.iload_n 1, 1) := dk_27 (dk_at dksX4_both_0 20 rfl rfl)
theorem dX4_both_21 : decode cX4_both 21 = .ok (.invokevirtual 234, 3) := dk_182 0 234 (dk_at dksX4_both_0 21 rfl rfl)
theorem dX4_both_24 : decode cX4_both 24 = .ok (.ifCond .ne (-14), 3) := dk_154 255 242 (dk_at dksX4_both_1 0 rfl rfl)
theorem dX4_both_27 : decode cX4_both 27 = .ok (.iconst 0, 1) := dk_3 (dk_at dksX4_both_1 3 rfl rfl)
theorem dX4_both_28 : decode cX4_both 28 = .ok (.ireturn, 1) := dk_172 (dk_at dksX4_both_1 4 rfl rfl)
theorem dX4_both_29 : decode cX4_both 29 = .ok (.iconst 1, 1) := dk_4 (dk_at dksX4_both_1 5 rfl rfl)
theorem dX4_both_30 : decode cX4_both 30 = .ok (.ireturn, 1) := dk_172 (dk_at dksX4_both_1 6 rfl rfl)
abbrev cX4_single : ByteArray := prog_25_method_28_code
def yX4_single : MethodName := ⟨"DebateHallModel", "single", "(I)Z"⟩
def dkwX4_single_5 : List UInt8 := [153, 0, 14, 42, 182, 0, 192, 153, 0, 7, 4, 167, 0, 4, 3, 172]
abbrev dktX4_single_5 : List UInt8 := dkwX4_single_5 ++ []
def dkwX4_single_4 : List UInt8 := [42, 18, 247, 182, 0, 189, 154, 0, 21, 42, 18, 249, 182, 0, 189, 154, 0, 12, 42, 18, 251, 182, 0, 189]
abbrev dktX4_single_4 : List UInt8 := dkwX4_single_4 ++ dktX4_single_5
def dkwX4_single_3 : List UInt8 := [182, 0, 241, 182, 0, 179, 153, 0, 7, 4, 167, 0, 4, 3, 172, 42, 18, 245, 182, 0, 189, 154, 0, 30]
abbrev dktX4_single_3 : List UInt8 := dkwX4_single_3 ++ dktX4_single_4
def dkwX4_single_2 : List UInt8 := [27, 4, 96, 182, 0, 234, 167, 0, 31, 42, 27, 4, 96, 182, 0, 226, 153, 0, 20, 42, 42, 16, 93]
abbrev dktX4_single_2 : List UInt8 := dkwX4_single_2 ++ dktX4_single_3
def dkwX4_single_1 : List UInt8 := [3, 172, 42, 18, 239, 182, 0, 175, 61, 42, 89, 180, 0, 168, 4, 96, 181, 0, 168, 28, 153, 0, 13, 42]
abbrev dktX4_single_1 : List UInt8 := dkwX4_single_1 ++ dktX4_single_2
def dkwX4_single_0 : List UInt8 := [42, 18, 239, 182, 0, 175, 154, 0, 12, 42, 16, 91, 182, 0, 241, 153, 0, 71, 27, 16, 6, 160, 0, 5]
abbrev dktX4_single_0 : List UInt8 := dkwX4_single_0 ++ dktX4_single_1
theorem dksX4_single_0 : cX4_single.data.toList.drop 0 = dktX4_single_0 := by decide +kernel
theorem dksX4_single_1 : cX4_single.data.toList.drop 24 = dktX4_single_1 := dk_seg dksX4_single_0 24 rfl rfl
theorem dksX4_single_2 : cX4_single.data.toList.drop 48 = dktX4_single_2 := dk_seg dksX4_single_1 24 rfl rfl
theorem dksX4_single_3 : cX4_single.data.toList.drop 71 = dktX4_single_3 := dk_seg dksX4_single_2 23 rfl rfl
theorem dksX4_single_4 : cX4_single.data.toList.drop 95 = dktX4_single_4 := dk_seg dksX4_single_3 24 rfl rfl
theorem dksX4_single_5 : cX4_single.data.toList.drop 119 = dktX4_single_5 := dk_seg dksX4_single_4 24 rfl rfl
theorem dX4_single_0 : decode cX4_single 0 = .ok (.aload_n 0, 1) := dk_42 (dk_at dksX4_single_0 0 rfl rfl)
theorem dX4_single_1 : decode cX4_single 1 = .ok (.ldc 239, 2) := dk_18 239 (dk_at dksX4_single_0 1 rfl rfl)
theorem dX4_single_3 : decode cX4_single 3 = .ok (.invokevirtual 175, 3) := dk_182 0 175 (dk_at dksX4_single_0 3 rfl rfl)
theorem dX4_single_6 : decode cX4_single 6 = .ok (.ifCond .ne 12, 3) := dk_154 0 12 (dk_at dksX4_single_0 6 rfl rfl)
theorem dX4_single_9 : decode cX4_single 9 = .ok (.aload_n 0, 1) := dk_42 (dk_at dksX4_single_0 9 rfl rfl)
theorem dX4_single_10 : decode cX4_single 10 = .ok (.bipush 91, 2) := dk_16 91 (dk_at dksX4_single_0 10 rfl rfl)
theorem dX4_single_12 : decode cX4_single 12 = .ok (.invokevirtual 241, 3) := dk_182 0 241 (dk_at dksX4_single_0 12 rfl rfl)
theorem dX4_single_15 : decode cX4_single 15 = .ok (.ifCond .eq 71, 3) := dk_153 0 71 (dk_at dksX4_single_0 15 rfl rfl)
theorem dX4_single_18 : decode cX4_single 18 = .ok (.iload_n 1, 1) := dk_27 (dk_at dksX4_single_0 18 rfl rfl)
theorem dX4_single_19 : decode cX4_single 19 = .ok (.bipush 6, 2) := dk_16 6 (dk_at dksX4_single_0 19 rfl rfl)
theorem dX4_single_21 : decode cX4_single 21 = .ok (.if_icmp .ne 5, 3) := dk_160 0 5 (dk_at dksX4_single_0 21 rfl rfl)
theorem dX4_single_24 : decode cX4_single 24 = .ok (.iconst 0, 1) := dk_3 (dk_at dksX4_single_1 0 rfl rfl)
theorem dX4_single_25 : decode cX4_single 25 = .ok (.ireturn, 1) := dk_172 (dk_at dksX4_single_1 1 rfl rfl)
theorem dX4_single_26 : decode cX4_single 26 = .ok (.aload_n 0, 1) := dk_42 (dk_at dksX4_single_1 2 rfl rfl)
theorem dX4_single_27 : decode cX4_single 27 = .ok (.ldc 239, 2) := dk_18 239 (dk_at dksX4_single_1 3 rfl rfl)
theorem dX4_single_29 : decode cX4_single 29 = .ok (.invokevirtual 175, 3) := dk_182 0 175 (dk_at dksX4_single_1 5 rfl rfl)
theorem dX4_single_32 : decode cX4_single 32 = .ok (.istore_n 2, 1) := dk_61 (dk_at dksX4_single_1 8 rfl rfl)
theorem dX4_single_33 : decode cX4_single 33 = .ok (.aload_n 0, 1) := dk_42 (dk_at dksX4_single_1 9 rfl rfl)
theorem dX4_single_34 : decode cX4_single 34 = .ok (.dup, 1) := dk_89 (dk_at dksX4_single_1 10 rfl rfl)
theorem dX4_single_35 : decode cX4_single 35 = .ok (.getfield 168, 3) := dk_180 0 168 (dk_at dksX4_single_1 11 rfl rfl)
theorem dX4_single_38 : decode cX4_single 38 = .ok (.iconst 1, 1) := dk_4 (dk_at dksX4_single_1 14 rfl rfl)
theorem dX4_single_39 : decode cX4_single 39 = .ok (.iadd, 1) := dk_96 (dk_at dksX4_single_1 15 rfl rfl)
theorem dX4_single_40 : decode cX4_single 40 = .ok (.putfield 168, 3) := dk_181 0 168 (dk_at dksX4_single_1 16 rfl rfl)
theorem dX4_single_43 : decode cX4_single 43 = .ok (.iload_n 2, 1) := dk_28 (dk_at dksX4_single_1 19 rfl rfl)
theorem dX4_single_44 : decode cX4_single 44 = .ok (.ifCond .eq 13, 3) := dk_153 0 13 (dk_at dksX4_single_1 20 rfl rfl)
theorem dX4_single_47 : decode cX4_single 47 = .ok (.aload_n 0, 1) := dk_42 (dk_at dksX4_single_1 23 rfl rfl)
theorem dX4_single_48 : decode cX4_single 48 = .ok (.iload_n 1, 1) := dk_27 (dk_at dksX4_single_2 0 rfl rfl)
theorem dX4_single_49 : decode cX4_single 49 = .ok (.iconst 1, 1) := dk_4 (dk_at dksX4_single_2 1 rfl rfl)
theorem dX4_single_50 : decode cX4_single 50 = .ok (.iadd, 1) := dk_96 (dk_at dksX4_single_2 2 rfl rfl)
theorem dX4_single_51 : decode cX4_single 51 = .ok (.invokevirtual 234, 3) := dk_182 0 234 (dk_at dksX4_single_2 3 rfl rfl)
theorem dX4_single_54 : decode cX4_single 54 = .ok (.goto 31, 3) := dk_167 0 31 (dk_at dksX4_single_2 6 rfl rfl)
theorem dX4_single_57 : decode cX4_single 57 = .ok (.aload_n 0, 1) := dk_42 (dk_at dksX4_single_2 9 rfl rfl)
theorem dX4_single_58 : decode cX4_single 58 = .ok (.iload_n 1, 1) := dk_27 (dk_at dksX4_single_2 10 rfl rfl)
theorem dX4_single_59 : decode cX4_single 59 = .ok (.iconst 1, 1) := dk_4 (dk_at dksX4_single_2 11 rfl rfl)
theorem dX4_single_60 : decode cX4_single 60 = .ok (.iadd, 1) := dk_96 (dk_at dksX4_single_2 12 rfl rfl)
theorem dX4_single_61 : decode cX4_single 61 = .ok (.invokevirtual 226, 3) := dk_182 0 226 (dk_at dksX4_single_2 13 rfl rfl)
theorem dX4_single_64 : decode cX4_single 64 = .ok (.ifCond .eq 20, 3) := dk_153 0 20 (dk_at dksX4_single_2 16 rfl rfl)
theorem dX4_single_67 : decode cX4_single 67 = .ok (.aload_n 0, 1) := dk_42 (dk_at dksX4_single_2 19 rfl rfl)
theorem dX4_single_68 : decode cX4_single 68 = .ok (.aload_n 0, 1) := dk_42 (dk_at dksX4_single_2 20 rfl rfl)
theorem dX4_single_69 : decode cX4_single 69 = .ok (.bipush 93, 2) := dk_16 93 (dk_at dksX4_single_2 21 rfl rfl)
theorem dX4_single_71 : decode cX4_single 71 = .ok (.invokevirtual 241, 3) := dk_182 0 241 (dk_at dksX4_single_3 0 rfl rfl)
theorem dX4_single_74 : decode cX4_single 74 = .ok (.invokevirtual 179, 3) := dk_182 0 179 (dk_at dksX4_single_3 3 rfl rfl)
theorem dX4_single_77 : decode cX4_single 77 = .ok (.ifCond .eq 7, 3) := dk_153 0 7 (dk_at dksX4_single_3 6 rfl rfl)
theorem dX4_single_80 : decode cX4_single 80 = .ok (.iconst 1, 1) := dk_4 (dk_at dksX4_single_3 9 rfl rfl)
theorem dX4_single_81 : decode cX4_single 81 = .ok (.goto 4, 3) := dk_167 0 4 (dk_at dksX4_single_3 10 rfl rfl)
theorem dX4_single_84 : decode cX4_single 84 = .ok (.iconst 0, 1) := dk_3 (dk_at dksX4_single_3 13 rfl rfl)
theorem dX4_single_85 : decode cX4_single 85 = .ok (.ireturn, 1) := dk_172 (dk_at dksX4_single_3 14 rfl rfl)
theorem dX4_single_86 : decode cX4_single 86 = .ok (.aload_n 0, 1) := dk_42 (dk_at dksX4_single_3 15 rfl rfl)
theorem dX4_single_87 : decode cX4_single 87 = .ok (.ldc 245, 2) := dk_18 245 (dk_at dksX4_single_3 16 rfl rfl)
theorem dX4_single_89 : decode cX4_single 89 = .ok (.invokevirtual 189, 3) := dk_182 0 189 (dk_at dksX4_single_3 18 rfl rfl)
theorem dX4_single_92 : decode cX4_single 92 = .ok (.ifCond .ne 30, 3) := dk_154 0 30 (dk_at dksX4_single_3 21 rfl rfl)
theorem dX4_single_95 : decode cX4_single 95 = .ok (.aload_n 0, 1) := dk_42 (dk_at dksX4_single_4 0 rfl rfl)
theorem dX4_single_96 : decode cX4_single 96 = .ok (.ldc 247, 2) := dk_18 247 (dk_at dksX4_single_4 1 rfl rfl)
theorem dX4_single_98 : decode cX4_single 98 = .ok (.invokevirtual 189, 3) := dk_182 0 189 (dk_at dksX4_single_4 3 rfl rfl)
theorem dX4_single_101 : decode cX4_single 101 = .ok (.ifCond .ne 21, 3) := dk_154 0 21 (dk_at dksX4_single_4 6 rfl rfl)
theorem dX4_single_104 : decode cX4_single 104 = .ok (.aload_n 0, 1) := dk_42 (dk_at dksX4_single_4 9 rfl rfl)
theorem dX4_single_105 : decode cX4_single 105 = .ok (.ldc 249, 2) := dk_18 249 (dk_at dksX4_single_4 10 rfl rfl)
theorem dX4_single_107 : decode cX4_single 107 = .ok (.invokevirtual 189, 3) := dk_182 0 189 (dk_at dksX4_single_4 12 rfl rfl)
theorem dX4_single_110 : decode cX4_single 110 = .ok (.ifCond .ne 12, 3) := dk_154 0 12 (dk_at dksX4_single_4 15 rfl rfl)
theorem dX4_single_113 : decode cX4_single 113 = .ok (.aload_n 0, 1) := dk_42 (dk_at dksX4_single_4 18 rfl rfl)
theorem dX4_single_114 : decode cX4_single 114 = .ok (.ldc 251, 2) := dk_18 251 (dk_at dksX4_single_4 19 rfl rfl)
theorem dX4_single_116 : decode cX4_single 116 = .ok (.invokevirtual 189, 3) := dk_182 0 189 (dk_at dksX4_single_4 21 rfl rfl)
theorem dX4_single_119 : decode cX4_single 119 = .ok (.ifCond .eq 14, 3) := dk_153 0 14 (dk_at dksX4_single_5 0 rfl rfl)
theorem dX4_single_122 : decode cX4_single 122 = .ok (.aload_n 0, 1) := dk_42 (dk_at dksX4_single_5 3 rfl rfl)
theorem dX4_single_123 : decode cX4_single 123 = .ok (.invokevirtual 192, 3) := dk_182 0 192 (dk_at dksX4_single_5 4 rfl rfl)
theorem dX4_single_126 : decode cX4_single 126 = .ok (.ifCond .eq 7, 3) := dk_153 0 7 (dk_at dksX4_single_5 7 rfl rfl)
theorem dX4_single_129 : decode cX4_single 129 = .ok (.iconst 1, 1) := dk_4 (dk_at dksX4_single_5 10 rfl rfl)
theorem dX4_single_130 : decode cX4_single 130 = .ok (.goto 4, 3) := dk_167 0 4 (dk_at dksX4_single_5 11 rfl rfl)
theorem dX4_single_133 : decode cX4_single 133 = .ok (.iconst 0, 1) := dk_3 (dk_at dksX4_single_5 14 rfl rfl)
theorem dX4_single_134 : decode cX4_single 134 = .ok (.ireturn, 1) := dk_172 (dk_at dksX4_single_5 15 rfl rfl)
abbrev cX4_test : ByteArray := prog_25_method_26_code
def yX4_test : MethodName := ⟨"DebateHallModel", "test", "(I)Z"⟩
def dkwX4_test_1 : List UInt8 := [154, 255, 242, 3, 172, 4, 172]
abbrev dktX4_test_1 : List UInt8 := dkwX4_test_1 ++ []
def dkwX4_test_0 : List UInt8 := [42, 27, 182, 0, 229, 154, 0, 5, 3, 172, 42, 18, 232, 182, 0, 189, 153, 0, 13, 42, 27, 182, 0, 229]
abbrev dktX4_test_0 : List UInt8 := dkwX4_test_0 ++ dktX4_test_1
theorem dksX4_test_0 : cX4_test.data.toList.drop 0 = dktX4_test_0 := by decide +kernel
theorem dksX4_test_1 : cX4_test.data.toList.drop 24 = dktX4_test_1 := dk_seg dksX4_test_0 24 rfl rfl
theorem dX4_test_0 : decode cX4_test 0 = .ok (.aload_n 0, 1) := dk_42 (dk_at dksX4_test_0 0 rfl rfl)
theorem dX4_test_1 : decode cX4_test 1 = .ok (.iload_n 1, 1) := dk_27 (dk_at dksX4_test_0 1 rfl rfl)
theorem dX4_test_2 : decode cX4_test 2 = .ok (.invokevirtual 229, 3) := dk_182 0 229 (dk_at dksX4_test_0 2 rfl rfl)
theorem dX4_test_5 : decode cX4_test 5 = .ok (.ifCond .ne 5, 3) := dk_154 0 5 (dk_at dksX4_test_0 5 rfl rfl)
theorem dX4_test_8 : decode cX4_test 8 = .ok (.iconst 0, 1) := dk_3 (dk_at dksX4_test_0 8 rfl rfl)
theorem dX4_test_9 : decode cX4_test 9 = .ok (.ireturn, 1) := dk_172 (dk_at dksX4_test_0 9 rfl rfl)
theorem dX4_test_10 : decode cX4_test 10 = .ok (.aload_n 0, 1) := dk_42 (dk_at dksX4_test_0 10 rfl rfl)
theorem dX4_test_11 : decode cX4_test 11 = .ok (.ldc 232, 2) := dk_18 232 (dk_at dksX4_test_0 11 rfl rfl)
theorem dX4_test_13 : decode cX4_test 13 = .ok (.invokevirtual 189, 3) := dk_182 0 189 (dk_at dksX4_test_0 13 rfl rfl)
theorem dX4_test_16 : decode cX4_test 16 = .ok (.ifCond .eq 13, 3) := dk_153 0 13 (dk_at dksX4_test_0 16 rfl rfl)
theorem dX4_test_19 : decode cX4_test 19 = .ok (.aload_n 0, 1) := dk_42 (dk_at dksX4_test_0 19 rfl rfl)
theorem dX4_test_20 : decode cX4_test 20 = .ok (.iload_n 1, 1) := dk_27 (dk_at dksX4_test_0 20 rfl rfl)
theorem dX4_test_21 : decode cX4_test 21 = .ok (.invokevirtual 229, 3) := dk_182 0 229 (dk_at dksX4_test_0 21 rfl rfl)
theorem dX4_test_24 : decode cX4_test 24 = .ok (.ifCond .ne (-14), 3) := dk_154 255 242 (dk_at dksX4_test_1 0 rfl rfl)
theorem dX4_test_27 : decode cX4_test 27 = .ok (.iconst 0, 1) := dk_3 (dk_at dksX4_test_1 3 rfl rfl)
theorem dX4_test_28 : decode cX4_test 28 = .ok (.ireturn, 1) := dk_172 (dk_at dksX4_test_1 4 rfl rfl)
theorem dX4_test_29 : decode cX4_test 29 = .ok (.iconst 1, 1) := dk_4 (dk_at dksX4_test_1 5 rfl rfl)
theorem dX4_test_30 : decode cX4_test 30 = .ok (.ireturn, 1) := dk_172 (dk_at dksX4_test_1 6 rfl rfl)
theorem q2614 : (Jvm.Cond.code ({ cls := "DebateHallModel", name := "single", desc := "(I)Z" } : Jvm.MethodName) prog_25_method_28_code (3 : Nat) (Option.some Jvm.ClassFile.FieldType.boolean)) ∈ lw_all := lw_g (lw_at lw_m11 134 rfl) rfl
theorem zk_X4_single : zz_cd yX4_single cX4_single 3 (some .boolean) none ∈ lw_all := q2614
theorem zy_X4_single : zz_yok yX4_single 1 = true := by decide +kernel
theorem q2611 : (Jvm.Cond.methodLink "DebateHallModel" (234 : Nat) ({ cls := "DebateHallModel", name := "single", desc := "(I)Z" } : Jvm.MethodName)) ∈ lw_all := lw_g (lw_at lw_m11 131 rfl) rfl
theorem q2613 : (Jvm.Cond.instanceMethod ({ cls := "DebateHallModel", name := "single", desc := "(I)Z" } : Jvm.MethodName)) ∈ lw_all := lw_g (lw_at lw_m11 133 rfl) rfl
theorem q2563 : (Jvm.Cond.code ({ cls := "DebateHallModel", name := "word", desc := "(Ljava/lang/String;)Z" } : Jvm.MethodName) prog_25_method_21_code (2 : Nat) (Option.some Jvm.ClassFile.FieldType.boolean)) ∈ lw_all := lw_g (lw_at lw_m11 83 rfl) rfl
theorem zk_X4_word : zz_cd yX4_word cX4_word 2 (some .boolean) none ∈ lw_all := q2563
theorem zy_X4_word : zz_yok yX4_word 1 = true := by decide +kernel
theorem q2560 : (Jvm.Cond.methodLink "DebateHallModel" (189 : Nat) ({ cls := "DebateHallModel", name := "word", desc := "(Ljava/lang/String;)Z" } : Jvm.MethodName)) ∈ lw_all := lw_g (lw_at lw_m11 80 rfl) rfl
theorem q2562 : (Jvm.Cond.instanceMethod ({ cls := "DebateHallModel", name := "word", desc := "(Ljava/lang/String;)Z" } : Jvm.MethodName)) ∈ lw_all := lw_g (lw_at lw_m11 82 rfl) rfl
theorem q2619 : (Jvm.Cond.code ({ cls := "DebateHallModel", name := "isSymbol", desc := "(C)Z" } : Jvm.MethodName) prog_25_method_19_code (2 : Nat) (Option.some Jvm.ClassFile.FieldType.boolean)) ∈ lw_all := lw_g (lw_at lw_m11 139 rfl) rfl
theorem zk_X4_isSymbol : zz_cd yX4_isSymbol cX4_isSymbol 2 (some .boolean) none ∈ lw_all := q2619
theorem zy_X4_isSymbol : zz_yok yX4_isSymbol 1 = true := by decide +kernel
theorem q2616 : (Jvm.Cond.methodLink "DebateHallModel" (241 : Nat) ({ cls := "DebateHallModel", name := "isSymbol", desc := "(C)Z" } : Jvm.MethodName)) ∈ lw_all := lw_g (lw_at lw_m11 136 rfl) rfl
theorem q2618 : (Jvm.Cond.instanceMethod ({ cls := "DebateHallModel", name := "isSymbol", desc := "(C)Z" } : Jvm.MethodName)) ∈ lw_all := lw_g (lw_at lw_m11 138 rfl) rfl
theorem q2580 : (Jvm.Cond.code ({ cls := "DebateHallModel", name := "name", desc := "()Z" } : Jvm.MethodName) prog_25_method_22_code (1 : Nat) (Option.some Jvm.ClassFile.FieldType.boolean)) ∈ lw_all := lw_g (lw_at lw_m11 100 rfl) rfl
theorem zk_X4_name : zz_cd yX4_name cX4_name 1 (some .boolean) none ∈ lw_all := q2580
theorem zy_X4_name : zz_yok yX4_name 0 = true := by decide +kernel
theorem q2577 : (Jvm.Cond.methodLink "DebateHallModel" (192 : Nat) ({ cls := "DebateHallModel", name := "name", desc := "()Z" } : Jvm.MethodName)) ∈ lw_all := lw_g (lw_at lw_m11 97 rfl) rfl
theorem q2579 : (Jvm.Cond.instanceMethod ({ cls := "DebateHallModel", name := "name", desc := "()Z" } : Jvm.MethodName)) ∈ lw_all := lw_g (lw_at lw_m11 99 rfl) rfl
theorem q2606 : (Jvm.Cond.code ({ cls := "DebateHallModel", name := "test", desc := "(I)Z" } : Jvm.MethodName) prog_25_method_26_code (2 : Nat) (Option.some Jvm.ClassFile.FieldType.boolean)) ∈ lw_all := lw_g (lw_at lw_m11 126 rfl) rfl
theorem zk_X4_test : zz_cd yX4_test cX4_test 2 (some .boolean) none ∈ lw_all := q2606
theorem zy_X4_test : zz_yok yX4_test 1 = true := by decide +kernel
theorem q2603 : (Jvm.Cond.methodLink "DebateHallModel" (226 : Nat) ({ cls := "DebateHallModel", name := "test", desc := "(I)Z" } : Jvm.MethodName)) ∈ lw_all := lw_g (lw_at lw_m11 123 rfl) rfl
theorem q2605 : (Jvm.Cond.instanceMethod ({ cls := "DebateHallModel", name := "test", desc := "(I)Z" } : Jvm.MethodName)) ∈ lw_all := lw_g (lw_at lw_m11 125 rfl) rfl
theorem q2610 : (Jvm.Cond.code ({ cls := "DebateHallModel", name := "both", desc := "(I)Z" } : Jvm.MethodName) prog_25_method_27_code (2 : Nat) (Option.some Jvm.ClassFile.FieldType.boolean)) ∈ lw_all := lw_g (lw_at lw_m11 130 rfl) rfl
theorem zk_X4_both : zz_cd yX4_both cX4_both 2 (some .boolean) none ∈ lw_all := q2610
theorem zy_X4_both : zz_yok yX4_both 1 = true := by decide +kernel
theorem q2607 : (Jvm.Cond.methodLink "DebateHallModel" (229 : Nat) ({ cls := "DebateHallModel", name := "both", desc := "(I)Z" } : Jvm.MethodName)) ∈ lw_all := lw_g (lw_at lw_m11 127 rfl) rfl
theorem q2609 : (Jvm.Cond.instanceMethod ({ cls := "DebateHallModel", name := "both", desc := "(I)Z" } : Jvm.MethodName)) ∈ lw_all := lw_g (lw_at lw_m11 129 rfl) rfl
def wp_X4_both_L10 (Z : zzG) (r_X4_both : Option Nat → Int32 → zzM → (Option Value → zzM → Prop) → Prop) (r_X4_single : Option Nat → Int32 → zzM → (Option Value → zzM → Prop) → Prop) (r_X4_test : Option Nat → Int32 → zzM → (Option Value → zzM → Prop) → Prop) (K : Option Value → zzM → Prop) : Nat → Option Nat → Int32 → zzM → Prop
  | 0, _, _, _ => False
  | n + 1, v0, v1, M => zty Z M v0 fun t => t = 16 ∧ wp_X4_word Z v0 (some (zz_ad Z 112)) M (fun r6 M7 => zrI r6 fun x10 => if x10 = 0 then (narrow .boolean (.int (1 : Int32)) = .int (1 : Int32) ∧ K (some (.int (1 : Int32))) M7) else (zty Z M7 v0 fun t => t = 16 ∧ r_X4_single v0 v1 M7 (fun r11 M12 => zrI r11 fun x15 => if x15 = 0 then (narrow .boolean (.int (0 : Int32)) = .int (0 : Int32) ∧ K (some (.int (0 : Int32))) M12) else (wp_X4_both_L10 Z r_X4_both r_X4_single r_X4_test K n v0 v1 M12))))
def wpb_X4_both (Z : zzG) (r_X4_both : Option Nat → Int32 → zzM → (Option Value → zzM → Prop) → Prop) (r_X4_single : Option Nat → Int32 → zzM → (Option Value → zzM → Prop) → Prop) (r_X4_test : Option Nat → Int32 → zzM → (Option Value → zzM → Prop) → Prop) (this : Option Nat) (p0 : Int32) (M : zzM) (K : Option Value → zzM → Prop) : Prop := zty Z M this fun t => t = 16 ∧ r_X4_single this p0 M (fun r1 M2 => zrI r1 fun x5 => if x5 = 0 then (narrow .boolean (.int (0 : Int32)) = .int (0 : Int32) ∧ K (some (.int (0 : Int32))) M2) else (∃ n10 : Nat, wp_X4_both_L10 Z r_X4_both r_X4_single r_X4_test K n10 this p0 M2))
def wp_X4_single_B85 (Z : zzG) (r_X4_both : Option Nat → Int32 → zzM → (Option Value → zzM → Prop) → Prop) (r_X4_single : Option Nat → Int32 → zzM → (Option Value → zzM → Prop) → Prop) (r_X4_test : Option Nat → Int32 → zzM → (Option Value → zzM → Prop) → Prop) (K : Option Value → zzM → Prop) (s0 : Int32) (M : zzM) : Prop := narrow .boolean (.int s0) = .int s0 ∧ K (some (.int s0)) M
def wp_X4_single_B84 (Z : zzG) (r_X4_both : Option Nat → Int32 → zzM → (Option Value → zzM → Prop) → Prop) (r_X4_single : Option Nat → Int32 → zzM → (Option Value → zzM → Prop) → Prop) (r_X4_test : Option Nat → Int32 → zzM → (Option Value → zzM → Prop) → Prop) (K : Option Value → zzM → Prop) (M : zzM) : Prop := wp_X4_single_B85 Z r_X4_both r_X4_single r_X4_test K (0 : Int32) M
def wp_X4_single_B18 (Z : zzG) (r_X4_both : Option Nat → Int32 → zzM → (Option Value → zzM → Prop) → Prop) (r_X4_single : Option Nat → Int32 → zzM → (Option Value → zzM → Prop) → Prop) (r_X4_test : Option Nat → Int32 → zzM → (Option Value → zzM → Prop) → Prop) (K : Option Value → zzM → Prop) (v0 : Option Nat) (v1 : Int32) (M : zzM) : Prop := if v1 = (6 : Int32) then (narrow .boolean (.int (0 : Int32)) = .int (0 : Int32) ∧ K (some (.int (0 : Int32))) M) else (zty Z M v0 fun t => t = 16 ∧ wp_X4_is Z v0 (some (zz_ad Z 148)) M (fun r36 M37 => zrI r36 fun x40 => zgI Z M37 v0 [16] 10 fun x41 => zput Z M37 v0 [16] 10 (.int (x41 + (1 : Int32))) fun M42 => if x40 = 0 then (zty Z M42 v0 fun t => t = 16 ∧ r_X4_test v0 (v1 + (1 : Int32)) M42 (fun r43 M44 => zrI r43 fun x47 => if x47 = 0 then (wp_X4_single_B84 Z r_X4_both r_X4_single r_X4_test K M44) else (zty Z M44 v0 fun t => t = 16 ∧ wp_X4_isSymbol Z v0 (93 : Int32) M44 (fun r48 M49 => zrI r48 fun x52 => zty Z M49 v0 fun t => t = 16 ∧ wp_X4_past Z v0 x52 M49 (fun r53 M54 => zrI r53 fun x57 => if x57 = 0 then (wp_X4_single_B84 Z r_X4_both r_X4_single r_X4_test K M54) else (wp_X4_single_B85 Z r_X4_both r_X4_single r_X4_test K (1 : Int32) M54)))))) else (zty Z M42 v0 fun t => t = 16 ∧ r_X4_single v0 (v1 + (1 : Int32)) M42 (fun r58 M59 => zrI r58 fun x62 => wp_X4_single_B85 Z r_X4_both r_X4_single r_X4_test K x62 M59))))
def wp_X4_single_B134 (Z : zzG) (r_X4_both : Option Nat → Int32 → zzM → (Option Value → zzM → Prop) → Prop) (r_X4_single : Option Nat → Int32 → zzM → (Option Value → zzM → Prop) → Prop) (r_X4_test : Option Nat → Int32 → zzM → (Option Value → zzM → Prop) → Prop) (K : Option Value → zzM → Prop) (s0 : Int32) (M : zzM) : Prop := narrow .boolean (.int s0) = .int s0 ∧ K (some (.int s0)) M
def wp_X4_single_B133 (Z : zzG) (r_X4_both : Option Nat → Int32 → zzM → (Option Value → zzM → Prop) → Prop) (r_X4_single : Option Nat → Int32 → zzM → (Option Value → zzM → Prop) → Prop) (r_X4_test : Option Nat → Int32 → zzM → (Option Value → zzM → Prop) → Prop) (K : Option Value → zzM → Prop) (M : zzM) : Prop := wp_X4_single_B134 Z r_X4_both r_X4_single r_X4_test K (0 : Int32) M
def wp_X4_single_B122 (Z : zzG) (r_X4_both : Option Nat → Int32 → zzM → (Option Value → zzM → Prop) → Prop) (r_X4_single : Option Nat → Int32 → zzM → (Option Value → zzM → Prop) → Prop) (r_X4_test : Option Nat → Int32 → zzM → (Option Value → zzM → Prop) → Prop) (K : Option Value → zzM → Prop) (v0 : Option Nat) (M : zzM) : Prop := zty Z M v0 fun t => t = 16 ∧ wp_X4_name Z v0 M (fun r31 M32 => zrI r31 fun x35 => if x35 = 0 then (wp_X4_single_B133 Z r_X4_both r_X4_single r_X4_test K M32) else (wp_X4_single_B134 Z r_X4_both r_X4_single r_X4_test K (1 : Int32) M32))
def wpb_X4_single (Z : zzG) (r_X4_both : Option Nat → Int32 → zzM → (Option Value → zzM → Prop) → Prop) (r_X4_single : Option Nat → Int32 → zzM → (Option Value → zzM → Prop) → Prop) (r_X4_test : Option Nat → Int32 → zzM → (Option Value → zzM → Prop) → Prop) (this : Option Nat) (p0 : Int32) (M : zzM) (K : Option Value → zzM → Prop) : Prop := zty Z M this fun t => t = 16 ∧ wp_X4_is Z this (some (zz_ad Z 148)) M (fun r1 M2 => zrI r1 fun x5 => if x5 = 0 then (zty Z M2 this fun t => t = 16 ∧ wp_X4_isSymbol Z this (91 : Int32) M2 (fun r6 M7 => zrI r6 fun x10 => if x10 = 0 then (zty Z M7 this fun t => t = 16 ∧ wp_X4_word Z this (some (zz_ad Z 145)) M7 (fun r11 M12 => zrI r11 fun x15 => if x15 = 0 then (zty Z M12 this fun t => t = 16 ∧ wp_X4_word Z this (some (zz_ad Z 162)) M12 (fun r16 M17 => zrI r16 fun x20 => if x20 = 0 then (zty Z M17 this fun t => t = 16 ∧ wp_X4_word Z this (some (zz_ad Z 155)) M17 (fun r21 M22 => zrI r21 fun x25 => if x25 = 0 then (zty Z M22 this fun t => t = 16 ∧ wp_X4_word Z this (some (zz_ad Z 128)) M22 (fun r26 M27 => zrI r26 fun x30 => if x30 = 0 then (wp_X4_single_B133 Z r_X4_both r_X4_single r_X4_test K M27) else (wp_X4_single_B122 Z r_X4_both r_X4_single r_X4_test K this M27))) else (wp_X4_single_B122 Z r_X4_both r_X4_single r_X4_test K this M22))) else (wp_X4_single_B122 Z r_X4_both r_X4_single r_X4_test K this M17))) else (wp_X4_single_B122 Z r_X4_both r_X4_single r_X4_test K this M12))) else (wp_X4_single_B18 Z r_X4_both r_X4_single r_X4_test K this p0 M7))) else (wp_X4_single_B18 Z r_X4_both r_X4_single r_X4_test K this p0 M2))
def wp_X4_test_L10 (Z : zzG) (r_X4_both : Option Nat → Int32 → zzM → (Option Value → zzM → Prop) → Prop) (r_X4_single : Option Nat → Int32 → zzM → (Option Value → zzM → Prop) → Prop) (r_X4_test : Option Nat → Int32 → zzM → (Option Value → zzM → Prop) → Prop) (K : Option Value → zzM → Prop) : Nat → Option Nat → Int32 → zzM → Prop
  | 0, _, _, _ => False
  | n + 1, v0, v1, M => zty Z M v0 fun t => t = 16 ∧ wp_X4_word Z v0 (some (zz_ad Z 158)) M (fun r6 M7 => zrI r6 fun x10 => if x10 = 0 then (narrow .boolean (.int (1 : Int32)) = .int (1 : Int32) ∧ K (some (.int (1 : Int32))) M7) else (zty Z M7 v0 fun t => t = 16 ∧ r_X4_both v0 v1 M7 (fun r11 M12 => zrI r11 fun x15 => if x15 = 0 then (narrow .boolean (.int (0 : Int32)) = .int (0 : Int32) ∧ K (some (.int (0 : Int32))) M12) else (wp_X4_test_L10 Z r_X4_both r_X4_single r_X4_test K n v0 v1 M12))))
def wpb_X4_test (Z : zzG) (r_X4_both : Option Nat → Int32 → zzM → (Option Value → zzM → Prop) → Prop) (r_X4_single : Option Nat → Int32 → zzM → (Option Value → zzM → Prop) → Prop) (r_X4_test : Option Nat → Int32 → zzM → (Option Value → zzM → Prop) → Prop) (this : Option Nat) (p0 : Int32) (M : zzM) (K : Option Value → zzM → Prop) : Prop := zty Z M this fun t => t = 16 ∧ r_X4_both this p0 M (fun r1 M2 => zrI r1 fun x5 => if x5 = 0 then (narrow .boolean (.int (0 : Int32)) = .int (0 : Int32) ∧ K (some (.int (0 : Int32))) M2) else (∃ n10 : Nat, wp_X4_test_L10 Z r_X4_both r_X4_single r_X4_test K n10 this p0 M2))
theorem ok_X4_both_L10 {G : zzX} (C : zz_C G cX4_both "DebateHallModel" 2) {K : Option Value → zzM → Prop} (E : zz_E G (some .boolean) K (fun _ _ _ => False)) (hH : zz_H G []) {fr frr : Nat} (hR : zz_Rm G fr) (hF : 8 ≤ fr) (hfrr : frr + 1 ≤ fr) {r_X4_both : Option Nat → Int32 → zzM → (Option Value → zzM → Prop) → Prop} (h_X4_both : ∀ {u0 : Option Nat}{u1 : Int32}{M : zzM} {mc ms : Nat} {K : Option Value → zzM → Prop}, r_X4_both u0 u1 M K → zz_Met (zz_Zof G) (zz_l G) yX4_both (zz_ws yX4_both cX4_both 2 (some .boolean) none) frr [va_rf u0, .int u1] M mc ms K (fun _ _ _ => False)) {r_X4_single : Option Nat → Int32 → zzM → (Option Value → zzM → Prop) → Prop} (h_X4_single : ∀ {u0 : Option Nat}{u1 : Int32}{M : zzM} {mc ms : Nat} {K : Option Value → zzM → Prop}, r_X4_single u0 u1 M K → zz_Met (zz_Zof G) (zz_l G) yX4_single (zz_ws yX4_single cX4_single 3 (some .boolean) none) frr [va_rf u0, .int u1] M mc ms K (fun _ _ _ => False)) {r_X4_test : Option Nat → Int32 → zzM → (Option Value → zzM → Prop) → Prop} (h_X4_test : ∀ {u0 : Option Nat}{u1 : Int32}{M : zzM} {mc ms : Nat} {K : Option Value → zzM → Prop}, r_X4_test u0 u1 M K → zz_Met (zz_Zof G) (zz_l G) yX4_test (zz_ws yX4_test cX4_test 2 (some .boolean) none) frr [va_rf u0, .int u1] M mc ms K (fun _ _ _ => False)) : ∀ (n : Nat) (v0 : Option Nat) (v1 : Int32) (M : zzM) (bc bs : Nat), wp_X4_both_L10 (zz_Zof G) r_X4_both r_X4_single r_X4_test K n v0 v1 M → zz_T G 2 M bc bs 10 [(0, va_rf v0), (1, .int v1)] [] := by
  intro n
  induction n with
  | zero =>
    intro v0 v1 M bc bs hw
    exact False.elim hw
  | succ n ih =>
    intro v0 v1 M bc bs hw
    refine zz_aload_n C dX4_both_10 rfl 0 rfl ?_
    refine zz_ldcS (j := 12) C dX4_both_11 rfl ?_
    obtain ⟨a9, t9, b9, fs9, hro, hL, rfl, hw⟩ := ztyS hw
    refine zz_callV (r := (zR_16, zT_16, 24)) (As := [va_rf (some (zz_ad (zz_Zof G) 112))]) (rest := []) (mc := 0) (ms := 0) C hR hro dX4_both_13 (Or.inl q2560) q2562 (Or.inl qs37) zl_DebateHallModel zk_X4_word (Or.inl rfl) zy_X4_word rfl (Nat.le_trans (by decide : 8 ≤ 8) hF) (by decide) hL (ok_X4_word (zz_hl C) hw) (Nat.zero_le _) (Nat.zero_le _) (zz_cat10 _ (Nat.le_of_ble_eq_true rfl)) (fun r6 M7 hw => zz_kI hw (fun x10 hw => ?_)) (fun _ _ _ h9 => h9.elim) rfl
    refine zz_if_eq (tgt := 29) C dX4_both_16 (by decide) hw (fun hw => ?_) (fun hw => ?_)
    · refine zz_iconst (v := (1 : Int32)) C dX4_both_29 (by decide) ?_
      exact zz_zret C E dX4_both_30 hw
    · refine zz_aload_n C dX4_both_19 rfl 0 rfl ?_
      refine zz_iload_n C dX4_both_20 rfl 1 rfl ?_
      obtain ⟨a9, t9, b9, fs9, hro, hL, rfl, hw⟩ := ztyS hw
      refine zz_callV (r := (zR_16, zT_16, 24)) (As := [.int v1]) (rest := []) (mc := 0) (ms := 0) C hR hro dX4_both_21 (Or.inl q2611) q2613 (Or.inl qs45) zl_DebateHallModel zk_X4_single (Or.inl rfl) zy_X4_single rfl hfrr (by decide) hL (h_X4_single hw) (Nat.zero_le _) (Nat.zero_le _) (zz_cat10 _ (Nat.le_of_ble_eq_true rfl)) (fun r11 M12 hw => zz_kI hw (fun x15 hw => ?_)) (fun _ _ _ h9 => h9.elim) rfl
      refine zz_if_ne (tgt := 10) C dX4_both_24 (by decide) hw (fun hw => ?_) (fun hw => ?_)
      · refine zz_subP [0, 1] rfl ?_
        exact ih _ _ _ _ _ hw
      · refine zz_iconst (v := (0 : Int32)) C dX4_both_27 (by decide) ?_
        exact zz_zret C E dX4_both_28 hw
theorem okb_X4_both {Z : zzG} {l : Launch} (hl : l.stackTraces = false) {fr frr : Nat} (hF : 8 ≤ fr) (hfrr : frr + 1 ≤ fr) {r_X4_both : Option Nat → Int32 → zzM → (Option Value → zzM → Prop) → Prop} (h_X4_both : ∀ {u0 : Option Nat}{u1 : Int32}{M : zzM} {mc ms : Nat} {K : Option Value → zzM → Prop}, r_X4_both u0 u1 M K → zz_Met Z l yX4_both (zz_ws yX4_both cX4_both 2 (some .boolean) none) frr [va_rf u0, .int u1] M mc ms K (fun _ _ _ => False)) {r_X4_single : Option Nat → Int32 → zzM → (Option Value → zzM → Prop) → Prop} (h_X4_single : ∀ {u0 : Option Nat}{u1 : Int32}{M : zzM} {mc ms : Nat} {K : Option Value → zzM → Prop}, r_X4_single u0 u1 M K → zz_Met Z l yX4_single (zz_ws yX4_single cX4_single 3 (some .boolean) none) frr [va_rf u0, .int u1] M mc ms K (fun _ _ _ => False)) {r_X4_test : Option Nat → Int32 → zzM → (Option Value → zzM → Prop) → Prop} (h_X4_test : ∀ {u0 : Option Nat}{u1 : Int32}{M : zzM} {mc ms : Nat} {K : Option Value → zzM → Prop}, r_X4_test u0 u1 M K → zz_Met Z l yX4_test (zz_ws yX4_test cX4_test 2 (some .boolean) none) frr [va_rf u0, .int u1] M mc ms K (fun _ _ _ => False)) {this : Option Nat} {p0 : Int32} {M : zzM} {mc ms : Nat} {K : Option Value → zzM → Prop} (hw : wpb_X4_both Z r_X4_both r_X4_single r_X4_test this p0 M K) : zz_Met Z l yX4_both (zz_ws yX4_both cX4_both 2 (some .boolean) none) fr [va_rf this, .int p0] M mc ms K (fun _ _ _ => False) := by
  refine zz_ofW hl (plainFor_of_name (by decide)) (by simp only [zz_sl0, zz_slI, zz_slJ, zz_slA] <;> decide) (fun G hZ hll C E hH hR hin => ?_)
  subst hZ
  subst hll
  rw [show lv_args 0 [va_rf this, .int p0] = [(0, va_rf this), (1, .int p0)] by simp only [zz_la0, zz_laI, zz_laJ, zz_laA]]
  unfold wpb_X4_both at hw
  refine zz_aload_n C dX4_both_0 rfl 0 rfl ?_
  refine zz_iload_n C dX4_both_1 rfl 1 rfl ?_
  obtain ⟨a9, t9, b9, fs9, hro, hL, rfl, hw⟩ := ztyS hw
  refine zz_callV (r := (zR_16, zT_16, 24)) (As := [.int p0]) (rest := []) (mc := 0) (ms := 0) C hR hro dX4_both_2 (Or.inl q2611) q2613 (Or.inl qs45) zl_DebateHallModel zk_X4_single (Or.inl rfl) zy_X4_single rfl hfrr (by decide) hL (h_X4_single hw) (Nat.zero_le _) (Nat.zero_le _) (zz_cat10 _ (Nat.le_of_ble_eq_true rfl)) (fun r1 M2 hw => zz_kI hw (fun x5 hw => ?_)) (fun _ _ _ h9 => h9.elim) rfl
  refine zz_if_ne (tgt := 10) C dX4_both_5 (by decide) hw (fun hw => ?_) (fun hw => ?_)
  · refine zz_subP [0, 1] rfl ?_
    obtain ⟨n10, hw⟩ := hw
    exact ok_X4_both_L10 C E hH hR hF hfrr h_X4_both h_X4_single h_X4_test n10 _ _ _ _ _ hw
  · refine zz_iconst (v := (0 : Int32)) C dX4_both_8 (by decide) ?_
    exact zz_zret C E dX4_both_9 hw
theorem ok_X4_single_B85 {G : zzX} (C : zz_C G cX4_single "DebateHallModel" 3) {K : Option Value → zzM → Prop} (E : zz_E G (some .boolean) K (fun _ _ _ => False)) (hH : zz_H G []) {fr frr : Nat} (hR : zz_Rm G fr) (hF : 8 ≤ fr) (hfrr : frr + 1 ≤ fr) {r_X4_both : Option Nat → Int32 → zzM → (Option Value → zzM → Prop) → Prop} (h_X4_both : ∀ {u0 : Option Nat}{u1 : Int32}{M : zzM} {mc ms : Nat} {K : Option Value → zzM → Prop}, r_X4_both u0 u1 M K → zz_Met (zz_Zof G) (zz_l G) yX4_both (zz_ws yX4_both cX4_both 2 (some .boolean) none) frr [va_rf u0, .int u1] M mc ms K (fun _ _ _ => False)) {r_X4_single : Option Nat → Int32 → zzM → (Option Value → zzM → Prop) → Prop} (h_X4_single : ∀ {u0 : Option Nat}{u1 : Int32}{M : zzM} {mc ms : Nat} {K : Option Value → zzM → Prop}, r_X4_single u0 u1 M K → zz_Met (zz_Zof G) (zz_l G) yX4_single (zz_ws yX4_single cX4_single 3 (some .boolean) none) frr [va_rf u0, .int u1] M mc ms K (fun _ _ _ => False)) {r_X4_test : Option Nat → Int32 → zzM → (Option Value → zzM → Prop) → Prop} (h_X4_test : ∀ {u0 : Option Nat}{u1 : Int32}{M : zzM} {mc ms : Nat} {K : Option Value → zzM → Prop}, r_X4_test u0 u1 M K → zz_Met (zz_Zof G) (zz_l G) yX4_test (zz_ws yX4_test cX4_test 2 (some .boolean) none) frr [va_rf u0, .int u1] M mc ms K (fun _ _ _ => False)) {s0 : Int32} {M : zzM} {bc bs : Nat} (hw : wp_X4_single_B85 (zz_Zof G) r_X4_both r_X4_single r_X4_test K s0 M) : zz_T G 3 M bc bs 85 [] [.int s0] := by
  unfold wp_X4_single_B85 at hw
  exact zz_zret C E dX4_single_85 hw
theorem ok_X4_single_B84 {G : zzX} (C : zz_C G cX4_single "DebateHallModel" 3) {K : Option Value → zzM → Prop} (E : zz_E G (some .boolean) K (fun _ _ _ => False)) (hH : zz_H G []) {fr frr : Nat} (hR : zz_Rm G fr) (hF : 8 ≤ fr) (hfrr : frr + 1 ≤ fr) {r_X4_both : Option Nat → Int32 → zzM → (Option Value → zzM → Prop) → Prop} (h_X4_both : ∀ {u0 : Option Nat}{u1 : Int32}{M : zzM} {mc ms : Nat} {K : Option Value → zzM → Prop}, r_X4_both u0 u1 M K → zz_Met (zz_Zof G) (zz_l G) yX4_both (zz_ws yX4_both cX4_both 2 (some .boolean) none) frr [va_rf u0, .int u1] M mc ms K (fun _ _ _ => False)) {r_X4_single : Option Nat → Int32 → zzM → (Option Value → zzM → Prop) → Prop} (h_X4_single : ∀ {u0 : Option Nat}{u1 : Int32}{M : zzM} {mc ms : Nat} {K : Option Value → zzM → Prop}, r_X4_single u0 u1 M K → zz_Met (zz_Zof G) (zz_l G) yX4_single (zz_ws yX4_single cX4_single 3 (some .boolean) none) frr [va_rf u0, .int u1] M mc ms K (fun _ _ _ => False)) {r_X4_test : Option Nat → Int32 → zzM → (Option Value → zzM → Prop) → Prop} (h_X4_test : ∀ {u0 : Option Nat}{u1 : Int32}{M : zzM} {mc ms : Nat} {K : Option Value → zzM → Prop}, r_X4_test u0 u1 M K → zz_Met (zz_Zof G) (zz_l G) yX4_test (zz_ws yX4_test cX4_test 2 (some .boolean) none) frr [va_rf u0, .int u1] M mc ms K (fun _ _ _ => False)) {M : zzM} {bc bs : Nat} (hw : wp_X4_single_B84 (zz_Zof G) r_X4_both r_X4_single r_X4_test K M) : zz_T G 3 M bc bs 84 [] [] := by
  unfold wp_X4_single_B84 at hw
  refine zz_iconst (v := (0 : Int32)) C dX4_single_84 (by decide) ?_
  refine zz_subP [] rfl ?_
  exact ok_X4_single_B85 C E hH hR hF hfrr h_X4_both h_X4_single h_X4_test hw
theorem ok_X4_single_B18 {G : zzX} (C : zz_C G cX4_single "DebateHallModel" 3) {K : Option Value → zzM → Prop} (E : zz_E G (some .boolean) K (fun _ _ _ => False)) (hH : zz_H G []) {fr frr : Nat} (hR : zz_Rm G fr) (hF : 8 ≤ fr) (hfrr : frr + 1 ≤ fr) {r_X4_both : Option Nat → Int32 → zzM → (Option Value → zzM → Prop) → Prop} (h_X4_both : ∀ {u0 : Option Nat}{u1 : Int32}{M : zzM} {mc ms : Nat} {K : Option Value → zzM → Prop}, r_X4_both u0 u1 M K → zz_Met (zz_Zof G) (zz_l G) yX4_both (zz_ws yX4_both cX4_both 2 (some .boolean) none) frr [va_rf u0, .int u1] M mc ms K (fun _ _ _ => False)) {r_X4_single : Option Nat → Int32 → zzM → (Option Value → zzM → Prop) → Prop} (h_X4_single : ∀ {u0 : Option Nat}{u1 : Int32}{M : zzM} {mc ms : Nat} {K : Option Value → zzM → Prop}, r_X4_single u0 u1 M K → zz_Met (zz_Zof G) (zz_l G) yX4_single (zz_ws yX4_single cX4_single 3 (some .boolean) none) frr [va_rf u0, .int u1] M mc ms K (fun _ _ _ => False)) {r_X4_test : Option Nat → Int32 → zzM → (Option Value → zzM → Prop) → Prop} (h_X4_test : ∀ {u0 : Option Nat}{u1 : Int32}{M : zzM} {mc ms : Nat} {K : Option Value → zzM → Prop}, r_X4_test u0 u1 M K → zz_Met (zz_Zof G) (zz_l G) yX4_test (zz_ws yX4_test cX4_test 2 (some .boolean) none) frr [va_rf u0, .int u1] M mc ms K (fun _ _ _ => False)) {v0 : Option Nat} {v1 : Int32} {M : zzM} {bc bs : Nat} (hw : wp_X4_single_B18 (zz_Zof G) r_X4_both r_X4_single r_X4_test K v0 v1 M) : zz_T G 3 M bc bs 18 [(0, va_rf v0), (1, .int v1)] [] := by
  unfold wp_X4_single_B18 at hw
  refine zz_iload_n C dX4_single_18 rfl 1 rfl ?_
  refine zz_bipush (v := (6 : Int32)) C dX4_single_19 (by decide) ?_
  refine zz_icmp_ne (tgt := 26) C dX4_single_21 (by decide) hw (fun hw => ?_) (fun hw => ?_)
  · refine zz_aload_n C dX4_single_26 rfl 0 rfl ?_
    refine zz_ldcS (j := 48) C dX4_single_27 rfl ?_
    obtain ⟨a9, t9, b9, fs9, hro, hL, rfl, hw⟩ := ztyS hw
    refine zz_callV (r := (zR_16, zT_16, 24)) (As := [va_rf (some (zz_ad (zz_Zof G) 148))]) (rest := []) (mc := 0) (ms := 0) C hR hro dX4_single_29 (Or.inl q2564) q2566 (Or.inl qs38) zl_DebateHallModel zk_X4_is (Or.inl rfl) zy_X4_is rfl (Nat.le_trans (by decide : 7 ≤ 8) hF) (by decide) hL (ok_X4_is (zz_hl C) hw) (Nat.zero_le _) (Nat.zero_le _) (zz_cat10 _ (Nat.le_of_ble_eq_true rfl)) (fun r36 M37 hw => zz_kI hw (fun x40 hw => ?_)) (fun _ _ _ h9 => h9.elim) rfl
    refine zz_istore_n (i := 2) (lv' := [(2, .int x40), (0, va_rf v0), (1, .int v1)]) C dX4_single_32 rfl (by decide) rfl ?_
    refine zz_aload_n C dX4_single_33 rfl 1 rfl ?_
    refine zz_dup C dX4_single_34 (zz_cat _) ?_
    refine zz_getI C dX4_single_35 (Or.inl q2446) zf_16_10_ebateHallModel hw (fun x41 hw => ?_)
    refine zz_iconst (v := (1 : Int32)) C dX4_single_38 (by decide) ?_
    refine zz_iadd C dX4_single_39 ?_
    refine zz_put C dX4_single_40 (Or.inl q2446) zf_16_10_ebateHallModel zp_16_10 (zz_hn1 ⟨rfl, rfl⟩) hw (fun M42 hw => ?_)
    refine zz_iload_n C dX4_single_43 rfl 0 rfl ?_
    refine zz_if_eq (tgt := 57) C dX4_single_44 (by decide) hw (fun hw => ?_) (fun hw => ?_)
    · refine zz_aload_n C dX4_single_57 rfl 1 rfl ?_
      refine zz_iload_n C dX4_single_58 rfl 2 rfl ?_
      refine zz_iconst (v := (1 : Int32)) C dX4_single_59 (by decide) ?_
      refine zz_iadd C dX4_single_60 ?_
      obtain ⟨a9, t9, b9, fs9, hro, hL, rfl, hw⟩ := ztyS hw
      refine zz_callV (r := (zR_16, zT_16, 24)) (As := [.int (v1 + (1 : Int32))]) (rest := []) (mc := 0) (ms := 0) C hR hro dX4_single_61 (Or.inl q2603) q2605 (Or.inl qs43) zl_DebateHallModel zk_X4_test (Or.inl rfl) zy_X4_test rfl hfrr (by decide) hL (h_X4_test hw) (Nat.zero_le _) (Nat.zero_le _) (zz_cat10 _ (Nat.le_of_ble_eq_true rfl)) (fun r43 M44 hw => zz_kI hw (fun x47 hw => ?_)) (fun _ _ _ h9 => h9.elim) rfl
      refine zz_if_eq (tgt := 84) C dX4_single_64 (by decide) hw (fun hw => ?_) (fun hw => ?_)
      · refine zz_subP [] rfl ?_
        exact ok_X4_single_B84 C E hH hR hF hfrr h_X4_both h_X4_single h_X4_test hw
      · refine zz_aload_n C dX4_single_67 rfl 1 rfl ?_
        refine zz_aload_n C dX4_single_68 rfl 1 rfl ?_
        refine zz_bipush (v := (93 : Int32)) C dX4_single_69 (by decide) ?_
        obtain ⟨a9, t9, b9, fs9, hro, hL, rfl, hw⟩ := ztyS hw
        refine zz_callV (r := (zR_16, zT_16, 24)) (As := [.int (93 : Int32)]) (rest := [va_rf v0]) (mc := 0) (ms := 0) C hR hro dX4_single_71 (Or.inl q2616) q2618 (Or.inl qs46) zl_DebateHallModel zk_X4_isSymbol (Or.inl rfl) zy_X4_isSymbol rfl (Nat.le_trans (by decide : 2 ≤ 8) hF) (by decide) hL (ok_X4_isSymbol (zz_hl C) hw) (Nat.zero_le _) (Nat.zero_le _) (zz_cat10 _ (Nat.le_of_ble_eq_true rfl)) (fun r48 M49 hw => zz_kI hw (fun x52 hw => ?_)) (fun _ _ _ h9 => h9.elim) rfl
        obtain ⟨a9, t9, b9, fs9, hro, hL, rfl, hw⟩ := ztyS hw
        refine zz_callV (r := (zR_16, zT_16, 24)) (As := [.int x52]) (rest := []) (mc := 0) (ms := 0) C hR hro dX4_single_74 (Or.inl q2573) q2575 (Or.inl qs39) zl_DebateHallModel zk_X4_past (Or.inl rfl) zy_X4_past rfl (Nat.le_trans (by decide : 2 ≤ 8) hF) (by decide) hL (ok_X4_past (zz_hl C) hw) (Nat.zero_le _) (Nat.zero_le _) (zz_cat10 _ (Nat.le_of_ble_eq_true rfl)) (fun r53 M54 hw => zz_kI hw (fun x57 hw => ?_)) (fun _ _ _ h9 => h9.elim) rfl
        refine zz_if_eq (tgt := 84) C dX4_single_77 (by decide) hw (fun hw => ?_) (fun hw => ?_)
        · refine zz_subP [] rfl ?_
          exact ok_X4_single_B84 C E hH hR hF hfrr h_X4_both h_X4_single h_X4_test hw
        · refine zz_iconst (v := (1 : Int32)) C dX4_single_80 (by decide) ?_
          refine zz_goto (tgt := 85) C dX4_single_81 (by decide) ?_
          refine zz_subP [] rfl ?_
          exact ok_X4_single_B85 C E hH hR hF hfrr h_X4_both h_X4_single h_X4_test hw
    · refine zz_aload_n C dX4_single_47 rfl 1 rfl ?_
      refine zz_iload_n C dX4_single_48 rfl 2 rfl ?_
      refine zz_iconst (v := (1 : Int32)) C dX4_single_49 (by decide) ?_
      refine zz_iadd C dX4_single_50 ?_
      obtain ⟨a9, t9, b9, fs9, hro, hL, rfl, hw⟩ := ztyS hw
      refine zz_callV (r := (zR_16, zT_16, 24)) (As := [.int (v1 + (1 : Int32))]) (rest := []) (mc := 0) (ms := 0) C hR hro dX4_single_51 (Or.inl q2611) q2613 (Or.inl qs45) zl_DebateHallModel zk_X4_single (Or.inl rfl) zy_X4_single rfl hfrr (by decide) hL (h_X4_single hw) (Nat.zero_le _) (Nat.zero_le _) (zz_cat10 _ (Nat.le_of_ble_eq_true rfl)) (fun r58 M59 hw => zz_kI hw (fun x62 hw => ?_)) (fun _ _ _ h9 => h9.elim) rfl
      refine zz_goto (tgt := 85) C dX4_single_54 (by decide) ?_
      refine zz_subP [] rfl ?_
      exact ok_X4_single_B85 C E hH hR hF hfrr h_X4_both h_X4_single h_X4_test hw
  · refine zz_iconst (v := (0 : Int32)) C dX4_single_24 (by decide) ?_
    exact zz_zret C E dX4_single_25 hw
theorem ok_X4_single_B134 {G : zzX} (C : zz_C G cX4_single "DebateHallModel" 3) {K : Option Value → zzM → Prop} (E : zz_E G (some .boolean) K (fun _ _ _ => False)) (hH : zz_H G []) {fr frr : Nat} (hR : zz_Rm G fr) (hF : 8 ≤ fr) (hfrr : frr + 1 ≤ fr) {r_X4_both : Option Nat → Int32 → zzM → (Option Value → zzM → Prop) → Prop} (h_X4_both : ∀ {u0 : Option Nat}{u1 : Int32}{M : zzM} {mc ms : Nat} {K : Option Value → zzM → Prop}, r_X4_both u0 u1 M K → zz_Met (zz_Zof G) (zz_l G) yX4_both (zz_ws yX4_both cX4_both 2 (some .boolean) none) frr [va_rf u0, .int u1] M mc ms K (fun _ _ _ => False)) {r_X4_single : Option Nat → Int32 → zzM → (Option Value → zzM → Prop) → Prop} (h_X4_single : ∀ {u0 : Option Nat}{u1 : Int32}{M : zzM} {mc ms : Nat} {K : Option Value → zzM → Prop}, r_X4_single u0 u1 M K → zz_Met (zz_Zof G) (zz_l G) yX4_single (zz_ws yX4_single cX4_single 3 (some .boolean) none) frr [va_rf u0, .int u1] M mc ms K (fun _ _ _ => False)) {r_X4_test : Option Nat → Int32 → zzM → (Option Value → zzM → Prop) → Prop} (h_X4_test : ∀ {u0 : Option Nat}{u1 : Int32}{M : zzM} {mc ms : Nat} {K : Option Value → zzM → Prop}, r_X4_test u0 u1 M K → zz_Met (zz_Zof G) (zz_l G) yX4_test (zz_ws yX4_test cX4_test 2 (some .boolean) none) frr [va_rf u0, .int u1] M mc ms K (fun _ _ _ => False)) {s0 : Int32} {M : zzM} {bc bs : Nat} (hw : wp_X4_single_B134 (zz_Zof G) r_X4_both r_X4_single r_X4_test K s0 M) : zz_T G 3 M bc bs 134 [] [.int s0] := by
  unfold wp_X4_single_B134 at hw
  exact zz_zret C E dX4_single_134 hw
theorem ok_X4_single_B133 {G : zzX} (C : zz_C G cX4_single "DebateHallModel" 3) {K : Option Value → zzM → Prop} (E : zz_E G (some .boolean) K (fun _ _ _ => False)) (hH : zz_H G []) {fr frr : Nat} (hR : zz_Rm G fr) (hF : 8 ≤ fr) (hfrr : frr + 1 ≤ fr) {r_X4_both : Option Nat → Int32 → zzM → (Option Value → zzM → Prop) → Prop} (h_X4_both : ∀ {u0 : Option Nat}{u1 : Int32}{M : zzM} {mc ms : Nat} {K : Option Value → zzM → Prop}, r_X4_both u0 u1 M K → zz_Met (zz_Zof G) (zz_l G) yX4_both (zz_ws yX4_both cX4_both 2 (some .boolean) none) frr [va_rf u0, .int u1] M mc ms K (fun _ _ _ => False)) {r_X4_single : Option Nat → Int32 → zzM → (Option Value → zzM → Prop) → Prop} (h_X4_single : ∀ {u0 : Option Nat}{u1 : Int32}{M : zzM} {mc ms : Nat} {K : Option Value → zzM → Prop}, r_X4_single u0 u1 M K → zz_Met (zz_Zof G) (zz_l G) yX4_single (zz_ws yX4_single cX4_single 3 (some .boolean) none) frr [va_rf u0, .int u1] M mc ms K (fun _ _ _ => False)) {r_X4_test : Option Nat → Int32 → zzM → (Option Value → zzM → Prop) → Prop} (h_X4_test : ∀ {u0 : Option Nat}{u1 : Int32}{M : zzM} {mc ms : Nat} {K : Option Value → zzM → Prop}, r_X4_test u0 u1 M K → zz_Met (zz_Zof G) (zz_l G) yX4_test (zz_ws yX4_test cX4_test 2 (some .boolean) none) frr [va_rf u0, .int u1] M mc ms K (fun _ _ _ => False)) {M : zzM} {bc bs : Nat} (hw : wp_X4_single_B133 (zz_Zof G) r_X4_both r_X4_single r_X4_test K M) : zz_T G 3 M bc bs 133 [] [] := by
  unfold wp_X4_single_B133 at hw
  refine zz_iconst (v := (0 : Int32)) C dX4_single_133 (by decide) ?_
  refine zz_subP [] rfl ?_
  exact ok_X4_single_B134 C E hH hR hF hfrr h_X4_both h_X4_single h_X4_test hw
theorem ok_X4_single_B122 {G : zzX} (C : zz_C G cX4_single "DebateHallModel" 3) {K : Option Value → zzM → Prop} (E : zz_E G (some .boolean) K (fun _ _ _ => False)) (hH : zz_H G []) {fr frr : Nat} (hR : zz_Rm G fr) (hF : 8 ≤ fr) (hfrr : frr + 1 ≤ fr) {r_X4_both : Option Nat → Int32 → zzM → (Option Value → zzM → Prop) → Prop} (h_X4_both : ∀ {u0 : Option Nat}{u1 : Int32}{M : zzM} {mc ms : Nat} {K : Option Value → zzM → Prop}, r_X4_both u0 u1 M K → zz_Met (zz_Zof G) (zz_l G) yX4_both (zz_ws yX4_both cX4_both 2 (some .boolean) none) frr [va_rf u0, .int u1] M mc ms K (fun _ _ _ => False)) {r_X4_single : Option Nat → Int32 → zzM → (Option Value → zzM → Prop) → Prop} (h_X4_single : ∀ {u0 : Option Nat}{u1 : Int32}{M : zzM} {mc ms : Nat} {K : Option Value → zzM → Prop}, r_X4_single u0 u1 M K → zz_Met (zz_Zof G) (zz_l G) yX4_single (zz_ws yX4_single cX4_single 3 (some .boolean) none) frr [va_rf u0, .int u1] M mc ms K (fun _ _ _ => False)) {r_X4_test : Option Nat → Int32 → zzM → (Option Value → zzM → Prop) → Prop} (h_X4_test : ∀ {u0 : Option Nat}{u1 : Int32}{M : zzM} {mc ms : Nat} {K : Option Value → zzM → Prop}, r_X4_test u0 u1 M K → zz_Met (zz_Zof G) (zz_l G) yX4_test (zz_ws yX4_test cX4_test 2 (some .boolean) none) frr [va_rf u0, .int u1] M mc ms K (fun _ _ _ => False)) {v0 : Option Nat} {M : zzM} {bc bs : Nat} (hw : wp_X4_single_B122 (zz_Zof G) r_X4_both r_X4_single r_X4_test K v0 M) : zz_T G 3 M bc bs 122 [(0, va_rf v0)] [] := by
  unfold wp_X4_single_B122 at hw
  refine zz_aload_n C dX4_single_122 rfl 0 rfl ?_
  obtain ⟨a9, t9, b9, fs9, hro, hL, rfl, hw⟩ := ztyS hw
  refine zz_callV (r := (zR_16, zT_16, 24)) (As := []) (rest := []) (mc := 0) (ms := 0) C hR hro dX4_single_123 (Or.inl q2577) q2579 (Or.inl qs40) zl_DebateHallModel zk_X4_name (Or.inl rfl) zy_X4_name rfl (Nat.le_trans (by decide : 3 ≤ 8) hF) (by decide) hL (ok_X4_name (zz_hl C) hw) (Nat.zero_le _) (Nat.zero_le _) (zz_cat10 _ (Nat.le_of_ble_eq_true rfl)) (fun r31 M32 hw => zz_kI hw (fun x35 hw => ?_)) (fun _ _ _ h9 => h9.elim) rfl
  refine zz_if_eq (tgt := 133) C dX4_single_126 (by decide) hw (fun hw => ?_) (fun hw => ?_)
  · refine zz_subP [] rfl ?_
    exact ok_X4_single_B133 C E hH hR hF hfrr h_X4_both h_X4_single h_X4_test hw
  · refine zz_iconst (v := (1 : Int32)) C dX4_single_129 (by decide) ?_
    refine zz_goto (tgt := 134) C dX4_single_130 (by decide) ?_
    refine zz_subP [] rfl ?_
    exact ok_X4_single_B134 C E hH hR hF hfrr h_X4_both h_X4_single h_X4_test hw
theorem okb_X4_single {Z : zzG} {l : Launch} (hl : l.stackTraces = false) {fr frr : Nat} (hF : 8 ≤ fr) (hfrr : frr + 1 ≤ fr) {r_X4_both : Option Nat → Int32 → zzM → (Option Value → zzM → Prop) → Prop} (h_X4_both : ∀ {u0 : Option Nat}{u1 : Int32}{M : zzM} {mc ms : Nat} {K : Option Value → zzM → Prop}, r_X4_both u0 u1 M K → zz_Met Z l yX4_both (zz_ws yX4_both cX4_both 2 (some .boolean) none) frr [va_rf u0, .int u1] M mc ms K (fun _ _ _ => False)) {r_X4_single : Option Nat → Int32 → zzM → (Option Value → zzM → Prop) → Prop} (h_X4_single : ∀ {u0 : Option Nat}{u1 : Int32}{M : zzM} {mc ms : Nat} {K : Option Value → zzM → Prop}, r_X4_single u0 u1 M K → zz_Met Z l yX4_single (zz_ws yX4_single cX4_single 3 (some .boolean) none) frr [va_rf u0, .int u1] M mc ms K (fun _ _ _ => False)) {r_X4_test : Option Nat → Int32 → zzM → (Option Value → zzM → Prop) → Prop} (h_X4_test : ∀ {u0 : Option Nat}{u1 : Int32}{M : zzM} {mc ms : Nat} {K : Option Value → zzM → Prop}, r_X4_test u0 u1 M K → zz_Met Z l yX4_test (zz_ws yX4_test cX4_test 2 (some .boolean) none) frr [va_rf u0, .int u1] M mc ms K (fun _ _ _ => False)) {this : Option Nat} {p0 : Int32} {M : zzM} {mc ms : Nat} {K : Option Value → zzM → Prop} (hw : wpb_X4_single Z r_X4_both r_X4_single r_X4_test this p0 M K) : zz_Met Z l yX4_single (zz_ws yX4_single cX4_single 3 (some .boolean) none) fr [va_rf this, .int p0] M mc ms K (fun _ _ _ => False) := by
  refine zz_ofW hl (plainFor_of_name (by decide)) (by simp only [zz_sl0, zz_slI, zz_slJ, zz_slA] <;> decide) (fun G hZ hll C E hH hR hin => ?_)
  subst hZ
  subst hll
  rw [show lv_args 0 [va_rf this, .int p0] = [(0, va_rf this), (1, .int p0)] by simp only [zz_la0, zz_laI, zz_laJ, zz_laA]]
  unfold wpb_X4_single at hw
  refine zz_aload_n C dX4_single_0 rfl 0 rfl ?_
  refine zz_ldcS (j := 48) C dX4_single_1 rfl ?_
  obtain ⟨a9, t9, b9, fs9, hro, hL, rfl, hw⟩ := ztyS hw
  refine zz_callV (r := (zR_16, zT_16, 24)) (As := [va_rf (some (zz_ad (zz_Zof G) 148))]) (rest := []) (mc := 0) (ms := 0) C hR hro dX4_single_3 (Or.inl q2564) q2566 (Or.inl qs38) zl_DebateHallModel zk_X4_is (Or.inl rfl) zy_X4_is rfl (Nat.le_trans (by decide : 7 ≤ 8) hF) (by decide) hL (ok_X4_is (zz_hl C) hw) (Nat.zero_le _) (Nat.zero_le _) (zz_cat10 _ (Nat.le_of_ble_eq_true rfl)) (fun r1 M2 hw => zz_kI hw (fun x5 hw => ?_)) (fun _ _ _ h9 => h9.elim) rfl
  refine zz_if_ne (tgt := 18) C dX4_single_6 (by decide) hw (fun hw => ?_) (fun hw => ?_)
  · refine zz_subP [0, 1] rfl ?_
    exact ok_X4_single_B18 C E hH hR hF hfrr h_X4_both h_X4_single h_X4_test hw
  · refine zz_aload_n C dX4_single_9 rfl 0 rfl ?_
    refine zz_bipush (v := (91 : Int32)) C dX4_single_10 (by decide) ?_
    obtain ⟨a9, t9, b9, fs9, hro, hL, rfl, hw⟩ := ztyS hw
    refine zz_callV (r := (zR_16, zT_16, 24)) (As := [.int (91 : Int32)]) (rest := []) (mc := 0) (ms := 0) C hR hro dX4_single_12 (Or.inl q2616) q2618 (Or.inl qs46) zl_DebateHallModel zk_X4_isSymbol (Or.inl rfl) zy_X4_isSymbol rfl (Nat.le_trans (by decide : 2 ≤ 8) hF) (by decide) hL (ok_X4_isSymbol (zz_hl C) hw) (Nat.zero_le _) (Nat.zero_le _) (zz_cat10 _ (Nat.le_of_ble_eq_true rfl)) (fun r6 M7 hw => zz_kI hw (fun x10 hw => ?_)) (fun _ _ _ h9 => h9.elim) rfl
    refine zz_if_eq (tgt := 86) C dX4_single_15 (by decide) hw (fun hw => ?_) (fun hw => ?_)
    · refine zz_aload_n C dX4_single_86 rfl 0 rfl ?_
      refine zz_ldcS (j := 45) C dX4_single_87 rfl ?_
      obtain ⟨a9, t9, b9, fs9, hro, hL, rfl, hw⟩ := ztyS hw
      refine zz_callV (r := (zR_16, zT_16, 24)) (As := [va_rf (some (zz_ad (zz_Zof G) 145))]) (rest := []) (mc := 0) (ms := 0) C hR hro dX4_single_89 (Or.inl q2560) q2562 (Or.inl qs37) zl_DebateHallModel zk_X4_word (Or.inl rfl) zy_X4_word rfl (Nat.le_trans (by decide : 8 ≤ 8) hF) (by decide) hL (ok_X4_word (zz_hl C) hw) (Nat.zero_le _) (Nat.zero_le _) (zz_cat10 _ (Nat.le_of_ble_eq_true rfl)) (fun r11 M12 hw => zz_kI hw (fun x15 hw => ?_)) (fun _ _ _ h9 => h9.elim) rfl
      refine zz_if_ne (tgt := 122) C dX4_single_92 (by decide) hw (fun hw => ?_) (fun hw => ?_)
      · refine zz_subP [0] rfl ?_
        exact ok_X4_single_B122 C E hH hR hF hfrr h_X4_both h_X4_single h_X4_test hw
      · refine zz_aload_n C dX4_single_95 rfl 0 rfl ?_
        refine zz_ldcS (j := 62) C dX4_single_96 rfl ?_
        obtain ⟨a9, t9, b9, fs9, hro, hL, rfl, hw⟩ := ztyS hw
        refine zz_callV (r := (zR_16, zT_16, 24)) (As := [va_rf (some (zz_ad (zz_Zof G) 162))]) (rest := []) (mc := 0) (ms := 0) C hR hro dX4_single_98 (Or.inl q2560) q2562 (Or.inl qs37) zl_DebateHallModel zk_X4_word (Or.inl rfl) zy_X4_word rfl (Nat.le_trans (by decide : 8 ≤ 8) hF) (by decide) hL (ok_X4_word (zz_hl C) hw) (Nat.zero_le _) (Nat.zero_le _) (zz_cat10 _ (Nat.le_of_ble_eq_true rfl)) (fun r16 M17 hw => zz_kI hw (fun x20 hw => ?_)) (fun _ _ _ h9 => h9.elim) rfl
        refine zz_if_ne (tgt := 122) C dX4_single_101 (by decide) hw (fun hw => ?_) (fun hw => ?_)
        · refine zz_subP [0] rfl ?_
          exact ok_X4_single_B122 C E hH hR hF hfrr h_X4_both h_X4_single h_X4_test hw
        · refine zz_aload_n C dX4_single_104 rfl 0 rfl ?_
          refine zz_ldcS (j := 55) C dX4_single_105 rfl ?_
          obtain ⟨a9, t9, b9, fs9, hro, hL, rfl, hw⟩ := ztyS hw
          refine zz_callV (r := (zR_16, zT_16, 24)) (As := [va_rf (some (zz_ad (zz_Zof G) 155))]) (rest := []) (mc := 0) (ms := 0) C hR hro dX4_single_107 (Or.inl q2560) q2562 (Or.inl qs37) zl_DebateHallModel zk_X4_word (Or.inl rfl) zy_X4_word rfl (Nat.le_trans (by decide : 8 ≤ 8) hF) (by decide) hL (ok_X4_word (zz_hl C) hw) (Nat.zero_le _) (Nat.zero_le _) (zz_cat10 _ (Nat.le_of_ble_eq_true rfl)) (fun r21 M22 hw => zz_kI hw (fun x25 hw => ?_)) (fun _ _ _ h9 => h9.elim) rfl
          refine zz_if_ne (tgt := 122) C dX4_single_110 (by decide) hw (fun hw => ?_) (fun hw => ?_)
          · refine zz_subP [0] rfl ?_
            exact ok_X4_single_B122 C E hH hR hF hfrr h_X4_both h_X4_single h_X4_test hw
          · refine zz_aload_n C dX4_single_113 rfl 0 rfl ?_
            refine zz_ldcS (j := 28) C dX4_single_114 rfl ?_
            obtain ⟨a9, t9, b9, fs9, hro, hL, rfl, hw⟩ := ztyS hw
            refine zz_callV (r := (zR_16, zT_16, 24)) (As := [va_rf (some (zz_ad (zz_Zof G) 128))]) (rest := []) (mc := 0) (ms := 0) C hR hro dX4_single_116 (Or.inl q2560) q2562 (Or.inl qs37) zl_DebateHallModel zk_X4_word (Or.inl rfl) zy_X4_word rfl (Nat.le_trans (by decide : 8 ≤ 8) hF) (by decide) hL (ok_X4_word (zz_hl C) hw) (Nat.zero_le _) (Nat.zero_le _) (zz_cat10 _ (Nat.le_of_ble_eq_true rfl)) (fun r26 M27 hw => zz_kI hw (fun x30 hw => ?_)) (fun _ _ _ h9 => h9.elim) rfl
            refine zz_if_eq (tgt := 133) C dX4_single_119 (by decide) hw (fun hw => ?_) (fun hw => ?_)
            · refine zz_subP [] rfl ?_
              exact ok_X4_single_B133 C E hH hR hF hfrr h_X4_both h_X4_single h_X4_test hw
            · refine zz_subP [0] rfl ?_
              exact ok_X4_single_B122 C E hH hR hF hfrr h_X4_both h_X4_single h_X4_test hw
    · refine zz_subP [0, 1] rfl ?_
      exact ok_X4_single_B18 C E hH hR hF hfrr h_X4_both h_X4_single h_X4_test hw
theorem ok_X4_test_L10 {G : zzX} (C : zz_C G cX4_test "DebateHallModel" 2) {K : Option Value → zzM → Prop} (E : zz_E G (some .boolean) K (fun _ _ _ => False)) (hH : zz_H G []) {fr frr : Nat} (hR : zz_Rm G fr) (hF : 8 ≤ fr) (hfrr : frr + 1 ≤ fr) {r_X4_both : Option Nat → Int32 → zzM → (Option Value → zzM → Prop) → Prop} (h_X4_both : ∀ {u0 : Option Nat}{u1 : Int32}{M : zzM} {mc ms : Nat} {K : Option Value → zzM → Prop}, r_X4_both u0 u1 M K → zz_Met (zz_Zof G) (zz_l G) yX4_both (zz_ws yX4_both cX4_both 2 (some .boolean) none) frr [va_rf u0, .int u1] M mc ms K (fun _ _ _ => False)) {r_X4_single : Option Nat → Int32 → zzM → (Option Value → zzM → Prop) → Prop} (h_X4_single : ∀ {u0 : Option Nat}{u1 : Int32}{M : zzM} {mc ms : Nat} {K : Option Value → zzM → Prop}, r_X4_single u0 u1 M K → zz_Met (zz_Zof G) (zz_l G) yX4_single (zz_ws yX4_single cX4_single 3 (some .boolean) none) frr [va_rf u0, .int u1] M mc ms K (fun _ _ _ => False)) {r_X4_test : Option Nat → Int32 → zzM → (Option Value → zzM → Prop) → Prop} (h_X4_test : ∀ {u0 : Option Nat}{u1 : Int32}{M : zzM} {mc ms : Nat} {K : Option Value → zzM → Prop}, r_X4_test u0 u1 M K → zz_Met (zz_Zof G) (zz_l G) yX4_test (zz_ws yX4_test cX4_test 2 (some .boolean) none) frr [va_rf u0, .int u1] M mc ms K (fun _ _ _ => False)) : ∀ (n : Nat) (v0 : Option Nat) (v1 : Int32) (M : zzM) (bc bs : Nat), wp_X4_test_L10 (zz_Zof G) r_X4_both r_X4_single r_X4_test K n v0 v1 M → zz_T G 2 M bc bs 10 [(0, va_rf v0), (1, .int v1)] [] := by
  intro n
  induction n with
  | zero =>
    intro v0 v1 M bc bs hw
    exact False.elim hw
  | succ n ih =>
    intro v0 v1 M bc bs hw
    refine zz_aload_n C dX4_test_10 rfl 0 rfl ?_
    refine zz_ldcS (j := 58) C dX4_test_11 rfl ?_
    obtain ⟨a9, t9, b9, fs9, hro, hL, rfl, hw⟩ := ztyS hw
    refine zz_callV (r := (zR_16, zT_16, 24)) (As := [va_rf (some (zz_ad (zz_Zof G) 158))]) (rest := []) (mc := 0) (ms := 0) C hR hro dX4_test_13 (Or.inl q2560) q2562 (Or.inl qs37) zl_DebateHallModel zk_X4_word (Or.inl rfl) zy_X4_word rfl (Nat.le_trans (by decide : 8 ≤ 8) hF) (by decide) hL (ok_X4_word (zz_hl C) hw) (Nat.zero_le _) (Nat.zero_le _) (zz_cat10 _ (Nat.le_of_ble_eq_true rfl)) (fun r6 M7 hw => zz_kI hw (fun x10 hw => ?_)) (fun _ _ _ h9 => h9.elim) rfl
    refine zz_if_eq (tgt := 29) C dX4_test_16 (by decide) hw (fun hw => ?_) (fun hw => ?_)
    · refine zz_iconst (v := (1 : Int32)) C dX4_test_29 (by decide) ?_
      exact zz_zret C E dX4_test_30 hw
    · refine zz_aload_n C dX4_test_19 rfl 0 rfl ?_
      refine zz_iload_n C dX4_test_20 rfl 1 rfl ?_
      obtain ⟨a9, t9, b9, fs9, hro, hL, rfl, hw⟩ := ztyS hw
      refine zz_callV (r := (zR_16, zT_16, 24)) (As := [.int v1]) (rest := []) (mc := 0) (ms := 0) C hR hro dX4_test_21 (Or.inl q2607) q2609 (Or.inl qs44) zl_DebateHallModel zk_X4_both (Or.inl rfl) zy_X4_both rfl hfrr (by decide) hL (h_X4_both hw) (Nat.zero_le _) (Nat.zero_le _) (zz_cat10 _ (Nat.le_of_ble_eq_true rfl)) (fun r11 M12 hw => zz_kI hw (fun x15 hw => ?_)) (fun _ _ _ h9 => h9.elim) rfl
      refine zz_if_ne (tgt := 10) C dX4_test_24 (by decide) hw (fun hw => ?_) (fun hw => ?_)
      · refine zz_subP [0, 1] rfl ?_
        exact ih _ _ _ _ _ hw
      · refine zz_iconst (v := (0 : Int32)) C dX4_test_27 (by decide) ?_
        exact zz_zret C E dX4_test_28 hw
theorem okb_X4_test {Z : zzG} {l : Launch} (hl : l.stackTraces = false) {fr frr : Nat} (hF : 8 ≤ fr) (hfrr : frr + 1 ≤ fr) {r_X4_both : Option Nat → Int32 → zzM → (Option Value → zzM → Prop) → Prop} (h_X4_both : ∀ {u0 : Option Nat}{u1 : Int32}{M : zzM} {mc ms : Nat} {K : Option Value → zzM → Prop}, r_X4_both u0 u1 M K → zz_Met Z l yX4_both (zz_ws yX4_both cX4_both 2 (some .boolean) none) frr [va_rf u0, .int u1] M mc ms K (fun _ _ _ => False)) {r_X4_single : Option Nat → Int32 → zzM → (Option Value → zzM → Prop) → Prop} (h_X4_single : ∀ {u0 : Option Nat}{u1 : Int32}{M : zzM} {mc ms : Nat} {K : Option Value → zzM → Prop}, r_X4_single u0 u1 M K → zz_Met Z l yX4_single (zz_ws yX4_single cX4_single 3 (some .boolean) none) frr [va_rf u0, .int u1] M mc ms K (fun _ _ _ => False)) {r_X4_test : Option Nat → Int32 → zzM → (Option Value → zzM → Prop) → Prop} (h_X4_test : ∀ {u0 : Option Nat}{u1 : Int32}{M : zzM} {mc ms : Nat} {K : Option Value → zzM → Prop}, r_X4_test u0 u1 M K → zz_Met Z l yX4_test (zz_ws yX4_test cX4_test 2 (some .boolean) none) frr [va_rf u0, .int u1] M mc ms K (fun _ _ _ => False)) {this : Option Nat} {p0 : Int32} {M : zzM} {mc ms : Nat} {K : Option Value → zzM → Prop} (hw : wpb_X4_test Z r_X4_both r_X4_single r_X4_test this p0 M K) : zz_Met Z l yX4_test (zz_ws yX4_test cX4_test 2 (some .boolean) none) fr [va_rf this, .int p0] M mc ms K (fun _ _ _ => False) := by
  refine zz_ofW hl (plainFor_of_name (by decide)) (by simp only [zz_sl0, zz_slI, zz_slJ, zz_slA] <;> decide) (fun G hZ hll C E hH hR hin => ?_)
  subst hZ
  subst hll
  rw [show lv_args 0 [va_rf this, .int p0] = [(0, va_rf this), (1, .int p0)] by simp only [zz_la0, zz_laI, zz_laJ, zz_laA]]
  unfold wpb_X4_test at hw
  refine zz_aload_n C dX4_test_0 rfl 0 rfl ?_
  refine zz_iload_n C dX4_test_1 rfl 1 rfl ?_
  obtain ⟨a9, t9, b9, fs9, hro, hL, rfl, hw⟩ := ztyS hw
  refine zz_callV (r := (zR_16, zT_16, 24)) (As := [.int p0]) (rest := []) (mc := 0) (ms := 0) C hR hro dX4_test_2 (Or.inl q2607) q2609 (Or.inl qs44) zl_DebateHallModel zk_X4_both (Or.inl rfl) zy_X4_both rfl hfrr (by decide) hL (h_X4_both hw) (Nat.zero_le _) (Nat.zero_le _) (zz_cat10 _ (Nat.le_of_ble_eq_true rfl)) (fun r1 M2 hw => zz_kI hw (fun x5 hw => ?_)) (fun _ _ _ h9 => h9.elim) rfl
  refine zz_if_ne (tgt := 10) C dX4_test_5 (by decide) hw (fun hw => ?_) (fun hw => ?_)
  · refine zz_subP [0, 1] rfl ?_
    obtain ⟨n10, hw⟩ := hw
    exact ok_X4_test_L10 C E hH hR hF hfrr h_X4_both h_X4_single h_X4_test n10 _ _ _ _ _ hw
  · refine zz_iconst (v := (0 : Int32)) C dX4_test_8 (by decide) ?_
    exact zz_zret C E dX4_test_9 hw
def wpR_X4_both_X4_single_X4_test (Z : zzG) : Nat → (Option Nat → Int32 → zzM → (Option Value → zzM → Prop) → Prop) × (Option Nat → Int32 → zzM → (Option Value → zzM → Prop) → Prop) × (Option Nat → Int32 → zzM → (Option Value → zzM → Prop) → Prop)
  | 0 => (fun _ _ _ _ => False, fun _ _ _ _ => False, fun _ _ _ _ => False)
  | n + 1 => (wpb_X4_both Z ((wpR_X4_both_X4_single_X4_test Z n).1) ((wpR_X4_both_X4_single_X4_test Z n).2.1) ((wpR_X4_both_X4_single_X4_test Z n).2.2), wpb_X4_single Z ((wpR_X4_both_X4_single_X4_test Z n).1) ((wpR_X4_both_X4_single_X4_test Z n).2.1) ((wpR_X4_both_X4_single_X4_test Z n).2.2), wpb_X4_test Z ((wpR_X4_both_X4_single_X4_test Z n).1) ((wpR_X4_both_X4_single_X4_test Z n).2.1) ((wpR_X4_both_X4_single_X4_test Z n).2.2))
def wp_X4_both (Z : zzG) : Option Nat → Int32 → zzM → (Option Value → zzM → Prop) → Prop := (wpR_X4_both_X4_single_X4_test Z 60).1
def wp_X4_single (Z : zzG) : Option Nat → Int32 → zzM → (Option Value → zzM → Prop) → Prop := (wpR_X4_both_X4_single_X4_test Z 60).2.1
def wp_X4_test (Z : zzG) : Option Nat → Int32 → zzM → (Option Value → zzM → Prop) → Prop := (wpR_X4_both_X4_single_X4_test Z 60).2.2
theorem okR_X4_both_X4_single_X4_test {Z : zzG} {l : Launch} (hl : l.stackTraces = false) : ∀ n : Nat, (∀ {u0 : Option Nat}{u1 : Int32}{M : zzM} {mc ms : Nat} {K : Option Value → zzM → Prop}, (wpR_X4_both_X4_single_X4_test Z n).1 u0 u1 M K → zz_Met Z l yX4_both (zz_ws yX4_both cX4_both 2 (some .boolean) none) (8 + n) [va_rf u0, .int u1] M mc ms K (fun _ _ _ => False)) ∧ (∀ {u0 : Option Nat}{u1 : Int32}{M : zzM} {mc ms : Nat} {K : Option Value → zzM → Prop}, (wpR_X4_both_X4_single_X4_test Z n).2.1 u0 u1 M K → zz_Met Z l yX4_single (zz_ws yX4_single cX4_single 3 (some .boolean) none) (8 + n) [va_rf u0, .int u1] M mc ms K (fun _ _ _ => False)) ∧ (∀ {u0 : Option Nat}{u1 : Int32}{M : zzM} {mc ms : Nat} {K : Option Value → zzM → Prop}, (wpR_X4_both_X4_single_X4_test Z n).2.2 u0 u1 M K → zz_Met Z l yX4_test (zz_ws yX4_test cX4_test 2 (some .boolean) none) (8 + n) [va_rf u0, .int u1] M mc ms K (fun _ _ _ => False)) := by
  intro n
  induction n with
  | zero =>
    exact ⟨fun h => h.elim, fun h => h.elim, fun h => h.elim⟩
  | succ n ih =>
    exact ⟨fun h => okb_X4_both hl (fr := 8 + (n + 1)) (frr := 8 + n) (Nat.le_add_right _ _) (Nat.le_refl _) ih.1 ih.2.1 ih.2.2 h, fun h => okb_X4_single hl (fr := 8 + (n + 1)) (frr := 8 + n) (Nat.le_add_right _ _) (Nat.le_refl _) ih.1 ih.2.1 ih.2.2 h, fun h => okb_X4_test hl (fr := 8 + (n + 1)) (frr := 8 + n) (Nat.le_add_right _ _) (Nat.le_refl _) ih.1 ih.2.1 ih.2.2 h⟩
theorem ok_X4_both {Z : zzG} {l : Launch} (hl : l.stackTraces = false) {u0 : Option Nat} {u1 : Int32} {M : zzM} {mc ms : Nat} {K : Option Value → zzM → Prop} (hw : wp_X4_both Z u0 u1 M K) : zz_Met Z l yX4_both (zz_ws yX4_both cX4_both 2 (some .boolean) none) 68 [va_rf u0, .int u1] M mc ms K (fun _ _ _ => False) :=
  (okR_X4_both_X4_single_X4_test hl 60).1 hw
theorem ok_X4_single {Z : zzG} {l : Launch} (hl : l.stackTraces = false) {u0 : Option Nat} {u1 : Int32} {M : zzM} {mc ms : Nat} {K : Option Value → zzM → Prop} (hw : wp_X4_single Z u0 u1 M K) : zz_Met Z l yX4_single (zz_ws yX4_single cX4_single 3 (some .boolean) none) 68 [va_rf u0, .int u1] M mc ms K (fun _ _ _ => False) :=
  (okR_X4_both_X4_single_X4_test hl 60).2.1 hw
theorem ok_X4_test {Z : zzG} {l : Launch} (hl : l.stackTraces = false) {u0 : Option Nat} {u1 : Int32} {M : zzM} {mc ms : Nat} {K : Option Value → zzM → Prop} (hw : wp_X4_test Z u0 u1 M K) : zz_Met Z l yX4_test (zz_ws yX4_test cX4_test 2 (some .boolean) none) 68 [va_rf u0, .int u1] M mc ms K (fun _ _ _ => False) :=
  (okR_X4_both_X4_single_X4_test hl 60).2.2 hw
abbrev cX4_rest : ByteArray := prog_25_method_25_code
def yX4_rest : MethodName := ⟨"DebateHallModel", "rest", "()Z"⟩
def dkwX4_rest_1 : List UInt8 := [153, 0, 11, 42, 3, 182, 0, 226, 153, 0, 7, 4, 167, 0, 4, 3, 172]
abbrev dktX4_rest_1 : List UInt8 := dkwX4_rest_1 ++ []
def dkwX4_rest_0 : List UInt8 := [42, 18, 222, 182, 0, 189, 153, 0, 10, 42, 182, 0, 197, 153, 0, 24, 42, 18, 224, 182, 0, 189]
abbrev dktX4_rest_0 : List UInt8 := dkwX4_rest_0 ++ dktX4_rest_1
theorem dksX4_rest_0 : cX4_rest.data.toList.drop 0 = dktX4_rest_0 := by decide +kernel
theorem dksX4_rest_1 : cX4_rest.data.toList.drop 22 = dktX4_rest_1 := dk_seg dksX4_rest_0 22 rfl rfl
theorem dX4_rest_0 : decode cX4_rest 0 = .ok (.aload_n 0, 1) := dk_42 (dk_at dksX4_rest_0 0 rfl rfl)
theorem dX4_rest_1 : decode cX4_rest 1 = .ok (.ldc 222, 2) := dk_18 222 (dk_at dksX4_rest_0 1 rfl rfl)
theorem dX4_rest_3 : decode cX4_rest 3 = .ok (.invokevirtual 189, 3) := dk_182 0 189 (dk_at dksX4_rest_0 3 rfl rfl)
theorem dX4_rest_6 : decode cX4_rest 6 = .ok (.ifCond .eq 10, 3) := dk_153 0 10 (dk_at dksX4_rest_0 6 rfl rfl)
theorem dX4_rest_9 : decode cX4_rest 9 = .ok (.aload_n 0, 1) := dk_42 (dk_at dksX4_rest_0 9 rfl rfl)
theorem dX4_rest_10 : decode cX4_rest 10 = .ok (.invokevirtual 197, 3) := dk_182 0 197 (dk_at dksX4_rest_0 10 rfl rfl)
theorem dX4_rest_13 : decode cX4_rest 13 = .ok (.ifCond .eq 24, 3) := dk_153 0 24 (dk_at dksX4_rest_0 13 rfl rfl)
theorem dX4_rest_16 : decode cX4_rest 16 = .ok (.aload_n 0, 1) := dk_42 (dk_at dksX4_rest_0 16 rfl rfl)
theorem dX4_rest_17 : decode cX4_rest 17 = .ok (.ldc 224, 2) := dk_18 224 (dk_at dksX4_rest_0 17 rfl rfl)
theorem dX4_rest_19 : decode cX4_rest 19 = .ok (.invokevirtual 189, 3) := dk_182 0 189 (dk_at dksX4_rest_0 19 rfl rfl)
theorem dX4_rest_22 : decode cX4_rest 22 = .ok (.ifCond .eq 11, 3) := dk_153 0 11 (dk_at dksX4_rest_1 0 rfl rfl)
theorem dX4_rest_25 : decode cX4_rest 25 = .ok (.aload_n 0, 1) := dk_42 (dk_at dksX4_rest_1 3 rfl rfl)
theorem dX4_rest_26 : decode cX4_rest 26 = .ok (.iconst 0, 1) := dk_3 (dk_at dksX4_rest_1 4 rfl rfl)
theorem dX4_rest_27 : decode cX4_rest 27 = .ok (.invokevirtual 226, 3) := dk_182 0 226 (dk_at dksX4_rest_1 5 rfl rfl)
theorem dX4_rest_30 : decode cX4_rest 30 = .ok (.ifCond .eq 7, 3) := dk_153 0 7 (dk_at dksX4_rest_1 8 rfl rfl)
theorem dX4_rest_33 : decode cX4_rest 33 = .ok (.iconst 1, 1) := dk_4 (dk_at dksX4_rest_1 11 rfl rfl)
theorem dX4_rest_34 : decode cX4_rest 34 = .ok (.goto 4, 3) := dk_167 0 4 (dk_at dksX4_rest_1 12 rfl rfl)
theorem dX4_rest_37 : decode cX4_rest 37 = .ok (.iconst 0, 1) := dk_3 (dk_at dksX4_rest_1 15 rfl rfl)
theorem dX4_rest_38 : decode cX4_rest 38 = .ok (.ireturn, 1) := dk_172 (dk_at dksX4_rest_1 16 rfl rfl)
theorem q2590 : (Jvm.Cond.code ({ cls := "DebateHallModel", name := "number", desc := "()Z" } : Jvm.MethodName) prog_25_method_23_code (1 : Nat) (Option.some Jvm.ClassFile.FieldType.boolean)) ∈ lw_all := lw_g (lw_at lw_m11 110 rfl) rfl
theorem zk_X4_number : zz_cd yX4_number cX4_number 1 (some .boolean) none ∈ lw_all := q2590
theorem zy_X4_number : zz_yok yX4_number 0 = true := by decide +kernel
theorem q2587 : (Jvm.Cond.methodLink "DebateHallModel" (197 : Nat) ({ cls := "DebateHallModel", name := "number", desc := "()Z" } : Jvm.MethodName)) ∈ lw_all := lw_g (lw_at lw_m11 107 rfl) rfl
theorem q2589 : (Jvm.Cond.instanceMethod ({ cls := "DebateHallModel", name := "number", desc := "()Z" } : Jvm.MethodName)) ∈ lw_all := lw_g (lw_at lw_m11 109 rfl) rfl
def wp_X4_rest_B38 (Z : zzG) (K : Option Value → zzM → Prop) (s0 : Int32) (M : zzM) : Prop := narrow .boolean (.int s0) = .int s0 ∧ K (some (.int s0)) M
def wp_X4_rest_B33 (Z : zzG) (K : Option Value → zzM → Prop) (M : zzM) : Prop := wp_X4_rest_B38 Z K (1 : Int32) M
def wp_X4_rest_B37 (Z : zzG) (K : Option Value → zzM → Prop) (M : zzM) : Prop := wp_X4_rest_B38 Z K (0 : Int32) M
def wp_X4_rest_B16 (Z : zzG) (K : Option Value → zzM → Prop) (v0 : Option Nat) (M : zzM) : Prop := zty Z M v0 fun t => t = 16 ∧ wp_X4_word Z v0 (some (zz_ad Z 141)) M (fun r11 M12 => zrI r11 fun x15 => if x15 = 0 then (wp_X4_rest_B33 Z K M12) else (zty Z M12 v0 fun t => t = 16 ∧ wp_X4_test Z v0 (0 : Int32) M12 (fun r16 M17 => zrI r16 fun x20 => if x20 = 0 then (wp_X4_rest_B37 Z K M17) else (wp_X4_rest_B33 Z K M17))))
def wp_X4_rest (Z : zzG) (this : Option Nat) (M : zzM) (K : Option Value → zzM → Prop) : Prop := zty Z M this fun t => t = 16 ∧ wp_X4_word Z this (some (zz_ad Z 134)) M (fun r1 M2 => zrI r1 fun x5 => if x5 = 0 then (wp_X4_rest_B16 Z K this M2) else (zty Z M2 this fun t => t = 16 ∧ wp_X4_number Z this M2 (fun r6 M7 => zrI r6 fun x10 => if x10 = 0 then (wp_X4_rest_B37 Z K M7) else (wp_X4_rest_B16 Z K this M7))))
theorem ok_X4_rest_B38 {G : zzX} (C : zz_C G cX4_rest "DebateHallModel" 1) {K : Option Value → zzM → Prop} (E : zz_E G (some .boolean) K (fun _ _ _ => False)) (hH : zz_H G []) (hR : zz_Rm G 69) {s0 : Int32} {M : zzM} {bc bs : Nat} (hw : wp_X4_rest_B38 (zz_Zof G) K s0 M) : zz_T G 1 M bc bs 38 [] [.int s0] := by
  unfold wp_X4_rest_B38 at hw
  exact zz_zret C E dX4_rest_38 hw
theorem ok_X4_rest_B33 {G : zzX} (C : zz_C G cX4_rest "DebateHallModel" 1) {K : Option Value → zzM → Prop} (E : zz_E G (some .boolean) K (fun _ _ _ => False)) (hH : zz_H G []) (hR : zz_Rm G 69) {M : zzM} {bc bs : Nat} (hw : wp_X4_rest_B33 (zz_Zof G) K M) : zz_T G 1 M bc bs 33 [] [] := by
  unfold wp_X4_rest_B33 at hw
  refine zz_iconst (v := (1 : Int32)) C dX4_rest_33 (by decide) ?_
  refine zz_goto (tgt := 38) C dX4_rest_34 (by decide) ?_
  refine zz_subP [] rfl ?_
  exact ok_X4_rest_B38 C E hH hR hw
theorem ok_X4_rest_B37 {G : zzX} (C : zz_C G cX4_rest "DebateHallModel" 1) {K : Option Value → zzM → Prop} (E : zz_E G (some .boolean) K (fun _ _ _ => False)) (hH : zz_H G []) (hR : zz_Rm G 69) {M : zzM} {bc bs : Nat} (hw : wp_X4_rest_B37 (zz_Zof G) K M) : zz_T G 1 M bc bs 37 [] [] := by
  unfold wp_X4_rest_B37 at hw
  refine zz_iconst (v := (0 : Int32)) C dX4_rest_37 (by decide) ?_
  refine zz_subP [] rfl ?_
  exact ok_X4_rest_B38 C E hH hR hw
theorem ok_X4_rest_B16 {G : zzX} (C : zz_C G cX4_rest "DebateHallModel" 1) {K : Option Value → zzM → Prop} (E : zz_E G (some .boolean) K (fun _ _ _ => False)) (hH : zz_H G []) (hR : zz_Rm G 69) {v0 : Option Nat} {M : zzM} {bc bs : Nat} (hw : wp_X4_rest_B16 (zz_Zof G) K v0 M) : zz_T G 1 M bc bs 16 [(0, va_rf v0)] [] := by
  unfold wp_X4_rest_B16 at hw
  refine zz_aload_n C dX4_rest_16 rfl 0 rfl ?_
  refine zz_ldcS (j := 41) C dX4_rest_17 rfl ?_
  obtain ⟨a9, t9, b9, fs9, hro, hL, rfl, hw⟩ := ztyS hw
  refine zz_callV (r := (zR_16, zT_16, 24)) (As := [va_rf (some (zz_ad (zz_Zof G) 141))]) (rest := []) (mc := 0) (ms := 0) C hR hro dX4_rest_19 (Or.inl q2560) q2562 (Or.inl qs37) zl_DebateHallModel zk_X4_word (Or.inl rfl) zy_X4_word rfl (by decide) (by decide) hL (ok_X4_word (zz_hl C) hw) (Nat.zero_le _) (Nat.zero_le _) (zz_cat10 _ (Nat.le_of_ble_eq_true rfl)) (fun r11 M12 hw => zz_kI hw (fun x15 hw => ?_)) (fun _ _ _ h9 => h9.elim) rfl
  refine zz_if_eq (tgt := 33) C dX4_rest_22 (by decide) hw (fun hw => ?_) (fun hw => ?_)
  · refine zz_subP [] rfl ?_
    exact ok_X4_rest_B33 C E hH hR hw
  · refine zz_aload_n C dX4_rest_25 rfl 0 rfl ?_
    refine zz_iconst (v := (0 : Int32)) C dX4_rest_26 (by decide) ?_
    obtain ⟨a9, t9, b9, fs9, hro, hL, rfl, hw⟩ := ztyS hw
    refine zz_callV (r := (zR_16, zT_16, 24)) (As := [.int (0 : Int32)]) (rest := []) (mc := 0) (ms := 0) C hR hro dX4_rest_27 (Or.inl q2603) q2605 (Or.inl qs43) zl_DebateHallModel zk_X4_test (Or.inl rfl) zy_X4_test rfl (by decide) (by decide) hL (ok_X4_test (zz_hl C) hw) (Nat.zero_le _) (Nat.zero_le _) (zz_cat10 _ (Nat.le_of_ble_eq_true rfl)) (fun r16 M17 hw => zz_kI hw (fun x20 hw => ?_)) (fun _ _ _ h9 => h9.elim) rfl
    refine zz_if_eq (tgt := 37) C dX4_rest_30 (by decide) hw (fun hw => ?_) (fun hw => ?_)
    · refine zz_subP [] rfl ?_
      exact ok_X4_rest_B37 C E hH hR hw
    · refine zz_subP [] rfl ?_
      exact ok_X4_rest_B33 C E hH hR hw
theorem ok_X4_rest {Z : zzG} {l : Launch} (hl : l.stackTraces = false) {this : Option Nat} {M : zzM} {mc ms : Nat} {K : Option Value → zzM → Prop} (hw : wp_X4_rest Z this M K) : zz_Met Z l yX4_rest (zz_ws yX4_rest cX4_rest 1 (some .boolean) none) 69 [va_rf this] M mc ms K (fun _ _ _ => False) := by
  refine zz_ofW hl (plainFor_of_name (by decide)) (by simp only [zz_sl0, zz_slI, zz_slJ, zz_slA] <;> decide) (fun G hZ hll C E hH hR hin => ?_)
  subst hZ
  subst hll
  rw [show lv_args 0 [va_rf this] = [(0, va_rf this)] by simp only [zz_la0, zz_laI, zz_laJ, zz_laA]]
  unfold wp_X4_rest at hw
  refine zz_aload_n C dX4_rest_0 rfl 0 rfl ?_
  refine zz_ldcS (j := 34) C dX4_rest_1 rfl ?_
  obtain ⟨a9, t9, b9, fs9, hro, hL, rfl, hw⟩ := ztyS hw
  refine zz_callV (r := (zR_16, zT_16, 24)) (As := [va_rf (some (zz_ad (zz_Zof G) 134))]) (rest := []) (mc := 0) (ms := 0) C hR hro dX4_rest_3 (Or.inl q2560) q2562 (Or.inl qs37) zl_DebateHallModel zk_X4_word (Or.inl rfl) zy_X4_word rfl (by decide) (by decide) hL (ok_X4_word (zz_hl C) hw) (Nat.zero_le _) (Nat.zero_le _) (zz_cat10 _ (Nat.le_of_ble_eq_true rfl)) (fun r1 M2 hw => zz_kI hw (fun x5 hw => ?_)) (fun _ _ _ h9 => h9.elim) rfl
  refine zz_if_eq (tgt := 16) C dX4_rest_6 (by decide) hw (fun hw => ?_) (fun hw => ?_)
  · refine zz_subP [0] rfl ?_
    exact ok_X4_rest_B16 C E hH hR hw
  · refine zz_aload_n C dX4_rest_9 rfl 0 rfl ?_
    obtain ⟨a9, t9, b9, fs9, hro, hL, rfl, hw⟩ := ztyS hw
    refine zz_callV (r := (zR_16, zT_16, 24)) (As := []) (rest := []) (mc := 0) (ms := 0) C hR hro dX4_rest_10 (Or.inl q2587) q2589 (Or.inl qs41) zl_DebateHallModel zk_X4_number (Or.inl rfl) zy_X4_number rfl (by decide) (by decide) hL (ok_X4_number (zz_hl C) hw) (Nat.zero_le _) (Nat.zero_le _) (zz_cat10 _ (Nat.le_of_ble_eq_true rfl)) (fun r6 M7 hw => zz_kI hw (fun x10 hw => ?_)) (fun _ _ _ h9 => h9.elim) rfl
    refine zz_if_eq (tgt := 37) C dX4_rest_13 (by decide) hw (fun hw => ?_) (fun hw => ?_)
    · refine zz_subP [] rfl ?_
      exact ok_X4_rest_B37 C E hH hR hw
    · refine zz_subP [0] rfl ?_
      exact ok_X4_rest_B16 C E hH hR hw
abbrev cX4_line : ByteArray := prog_25_method_24_code
def yX4_line : MethodName := ⟨"DebateHallModel", "line", "()Z"⟩
def dkwX4_line_10 : List UInt8 := [153, 0, 14, 42, 182, 0, 192, 153, 0, 7, 4, 167, 0, 4, 3, 172]
abbrev dktX4_line_10 : List UInt8 := dkwX4_line_10 ++ []
def dkwX4_line_9 : List UInt8 := [153, 0, 7, 4, 167, 0, 4, 3, 172, 42, 18, 218, 182, 0, 189, 154, 0, 12, 42, 18, 220, 182, 0, 189]
abbrev dktX4_line_9 : List UInt8 := dkwX4_line_9 ++ dktX4_line_10
def dkwX4_line_8 : List UInt8 := [153, 0, 30, 42, 18, 216, 182, 0, 189, 153, 0, 21, 42, 182, 0, 192, 153, 0, 14, 42, 182, 0, 211]
abbrev dktX4_line_8 : List UInt8 := dkwX4_line_8 ++ dktX4_line_9
def dkwX4_line_7 : List UInt8 := [153, 0, 55, 42, 182, 0, 192, 153, 0, 46, 42, 18, 207, 182, 0, 189, 153, 0, 37, 42, 182, 0, 192]
abbrev dktX4_line_7 : List UInt8 := dkwX4_line_7 ++ dktX4_line_8
def dkwX4_line_6 : List UInt8 := [153, 0, 14, 42, 182, 0, 211, 153, 0, 7, 4, 167, 0, 4, 3, 172, 42, 18, 214, 182, 0, 189]
abbrev dktX4_line_6 : List UInt8 := dkwX4_line_6 ++ dktX4_line_7
def dkwX4_line_5 : List UInt8 := [153, 0, 37, 42, 182, 0, 192, 153, 0, 30, 42, 18, 209, 182, 0, 189, 153, 0, 21, 42, 182, 0, 192]
abbrev dktX4_line_5 : List UInt8 := dkwX4_line_5 ++ dktX4_line_6
def dkwX4_line_4 : List UInt8 := [172, 42, 18, 205, 182, 0, 189, 153, 0, 55, 42, 182, 0, 192, 153, 0, 46, 42, 18, 207, 182, 0, 189]
abbrev dktX4_line_4 : List UInt8 := dkwX4_line_4 ++ dktX4_line_5
def dkwX4_line_3 : List UInt8 := [153, 0, 23, 42, 18, 203, 182, 0, 189, 153, 0, 10, 42, 182, 0, 197, 153, 0, 7, 4, 167, 0, 4, 3]
abbrev dktX4_line_3 : List UInt8 := dkwX4_line_3 ++ dktX4_line_4
def dkwX4_line_2 : List UInt8 := [153, 0, 48, 42, 182, 0, 192, 153, 0, 39, 42, 18, 202, 182, 0, 189, 153, 0, 30, 42, 182, 0, 192]
abbrev dktX4_line_2 : List UInt8 := dkwX4_line_2 ++ dktX4_line_3
def dkwX4_line_1 : List UInt8 := [153, 0, 10, 42, 182, 0, 197, 153, 0, 7, 4, 167, 0, 4, 3, 172, 42, 18, 200, 182, 0, 189]
abbrev dktX4_line_1 : List UInt8 := dkwX4_line_1 ++ dktX4_line_2
def dkwX4_line_0 : List UInt8 := [42, 18, 187, 182, 0, 189, 153, 0, 32, 42, 182, 0, 192, 153, 0, 23, 42, 18, 196, 182, 0, 189]
abbrev dktX4_line_0 : List UInt8 := dkwX4_line_0 ++ dktX4_line_1
theorem dksX4_line_0 : cX4_line.data.toList.drop 0 = dktX4_line_0 := by decide +kernel
theorem dksX4_line_1 : cX4_line.data.toList.drop 22 = dktX4_line_1 := dk_seg dksX4_line_0 22 rfl rfl
theorem dksX4_line_2 : cX4_line.data.toList.drop 44 = dktX4_line_2 := dk_seg dksX4_line_1 22 rfl rfl
theorem dksX4_line_3 : cX4_line.data.toList.drop 67 = dktX4_line_3 := dk_seg dksX4_line_2 23 rfl rfl
theorem dksX4_line_4 : cX4_line.data.toList.drop 91 = dktX4_line_4 := dk_seg dksX4_line_3 24 rfl rfl
theorem dksX4_line_5 : cX4_line.data.toList.drop 114 = dktX4_line_5 := dk_seg dksX4_line_4 23 rfl rfl
theorem dksX4_line_6 : cX4_line.data.toList.drop 137 = dktX4_line_6 := dk_seg dksX4_line_5 23 rfl rfl
theorem dksX4_line_7 : cX4_line.data.toList.drop 159 = dktX4_line_7 := dk_seg dksX4_line_6 22 rfl rfl
theorem dksX4_line_8 : cX4_line.data.toList.drop 182 = dktX4_line_8 := dk_seg dksX4_line_7 23 rfl rfl
theorem dksX4_line_9 : cX4_line.data.toList.drop 205 = dktX4_line_9 := dk_seg dksX4_line_8 23 rfl rfl
theorem dksX4_line_10 : cX4_line.data.toList.drop 229 = dktX4_line_10 := dk_seg dksX4_line_9 24 rfl rfl
theorem dX4_line_0 : decode cX4_line 0 = .ok (.aload_n 0, 1) := dk_42 (dk_at dksX4_line_0 0 rfl rfl)
theorem dX4_line_1 : decode cX4_line 1 = .ok (.ldc 187, 2) := dk_18 187 (dk_at dksX4_line_0 1 rfl rfl)
theorem dX4_line_3 : decode cX4_line 3 = .ok (.invokevirtual 189, 3) := dk_182 0 189 (dk_at dksX4_line_0 3 rfl rfl)
theorem dX4_line_6 : decode cX4_line 6 = .ok (.ifCond .eq 32, 3) := dk_153 0 32 (dk_at dksX4_line_0 6 rfl rfl)
theorem dX4_line_9 : decode cX4_line 9 = .ok (.aload_n 0, 1) := dk_42 (dk_at dksX4_line_0 9 rfl rfl)
theorem dX4_line_10 : decode cX4_line 10 = .ok (.invokevirtual 192, 3) := dk_182 0 192 (dk_at dksX4_line_0 10 rfl rfl)
theorem dX4_line_13 : decode cX4_line 13 = .ok (.ifCond .eq 23, 3) := dk_153 0 23 (dk_at dksX4_line_0 13 rfl rfl)
theorem dX4_line_16 : decode cX4_line 16 = .ok (.aload_n 0, 1) := dk_42 (dk_at dksX4_line_0 16 rfl rfl)
theorem dX4_line_17 : decode cX4_line 17 = .ok (.ldc 196, 2) := dk_18 196 (dk_at dksX4_line_0 17 rfl rfl)
theorem dX4_line_19 : decode cX4_line 19 = .ok (.invokevirtual 189, 3) := dk_182 0 189 (dk_at dksX4_line_0 19 rfl rfl)
theorem dX4_line_22 : decode cX4_line 22 = .ok (.ifCond .eq 10, 3) := dk_153 0 10 (dk_at dksX4_line_1 0 rfl rfl)
theorem dX4_line_25 : decode cX4_line 25 = .ok (.aload_n 0, 1) := dk_42 (dk_at dksX4_line_1 3 rfl rfl)
theorem dX4_line_26 : decode cX4_line 26 = .ok (.invokevirtual 197, 3) := dk_182 0 197 (dk_at dksX4_line_1 4 rfl rfl)
theorem dX4_line_29 : decode cX4_line 29 = .ok (.ifCond .eq 7, 3) := dk_153 0 7 (dk_at dksX4_line_1 7 rfl rfl)
theorem dX4_line_32 : decode cX4_line 32 = .ok (.iconst 1, 1) := dk_4 (dk_at dksX4_line_1 10 rfl rfl)
theorem dX4_line_33 : decode cX4_line 33 = .ok (.goto 4, 3) := dk_167 0 4 (dk_at dksX4_line_1 11 rfl rfl)
theorem dX4_line_36 : decode cX4_line 36 = .ok (.iconst 0, 1) := dk_3 (dk_at dksX4_line_1 14 rfl rfl)
theorem dX4_line_37 : decode cX4_line 37 = .ok (.ireturn, 1) := dk_172 (dk_at dksX4_line_1 15 rfl rfl)
theorem dX4_line_38 : decode cX4_line 38 = .ok (.aload_n 0, 1) := dk_42 (dk_at dksX4_line_1 16 rfl rfl)
theorem dX4_line_39 : decode cX4_line 39 = .ok (.ldc 200, 2) := dk_18 200 (dk_at dksX4_line_1 17 rfl rfl)
theorem dX4_line_41 : decode cX4_line 41 = .ok (.invokevirtual 189, 3) := dk_182 0 189 (dk_at dksX4_line_1 19 rfl rfl)
theorem dX4_line_44 : decode cX4_line 44 = .ok (.ifCond .eq 48, 3) := dk_153 0 48 (dk_at dksX4_line_2 0 rfl rfl)
theorem dX4_line_47 : decode cX4_line 47 = .ok (.aload_n 0, 1) := dk_42 (dk_at dksX4_line_2 3 rfl rfl)
theorem dX4_line_48 : decode cX4_line 48 = .ok (.invokevirtual 192, 3) := dk_182 0 192 (dk_at dksX4_line_2 4 rfl rfl)
theorem dX4_line_51 : decode cX4_line 51 = .ok (.ifCond .eq 39, 3) := dk_153 0 39 (dk_at dksX4_line_2 7 rfl rfl)
theorem dX4_line_54 : decode cX4_line 54 = .ok (.aload_n 0, 1) := dk_42 (dk_at dksX4_line_2 10 rfl rfl)
theorem dX4_line_55 : decode cX4_line 55 = .ok (.ldc 202, 2) := dk_18 202 (dk_at dksX4_line_2 11 rfl rfl)
theorem dX4_line_57 : decode cX4_line 57 = .ok (.invokevirtual 189, 3) := dk_182 0 189 (dk_at dksX4_line_2 13 rfl rfl)
theorem dX4_line_60 : decode cX4_line 60 = .ok (.ifCond .eq 30, 3) := dk_153 0 30 (dk_at dksX4_line_2 16 rfl rfl)
theorem dX4_line_63 : decode cX4_line 63 = .ok (.aload_n 0, 1) := dk_42 (dk_at dksX4_line_2 19 rfl rfl)
theorem dX4_line_64 : decode cX4_line 64 = .ok (.invokevirtual 192, 3) := dk_182 0 192 (dk_at dksX4_line_2 20 rfl rfl)
theorem dX4_line_67 : decode cX4_line 67 = .ok (.ifCond .eq 23, 3) := dk_153 0 23 (dk_at dksX4_line_3 0 rfl rfl)
theorem dX4_line_70 : decode cX4_line 70 = .ok (.aload_n 0, 1) := dk_42 (dk_at dksX4_line_3 3 rfl rfl)
theorem dX4_line_71 : decode cX4_line 71 = .ok (.ldc 203, 2) := dk_18 203 (dk_at dksX4_line_3 4 rfl rfl)
theorem dX4_line_73 : decode cX4_line 73 = .ok (.invokevirtual 189, 3) := dk_182 0 189 (dk_at dksX4_line_3 6 rfl rfl)
theorem dX4_line_76 : decode cX4_line 76 = .ok (.ifCond .eq 10, 3) := dk_153 0 10 (dk_at dksX4_line_3 9 rfl rfl)
theorem dX4_line_79 : decode cX4_line 79 = .ok (.aload_n 0, 1) := dk_42 (dk_at dksX4_line_3 12 rfl rfl)
theorem dX4_line_80 : decode cX4_line 80 = .ok (.invokevirtual 197, 3) := dk_182 0 197 (dk_at dksX4_line_3 13 rfl rfl)
theorem dX4_line_83 : decode cX4_line 83 = .ok (.ifCond .eq 7, 3) := dk_153 0 7 (dk_at dksX4_line_3 16 rfl rfl)
theorem dX4_line_86 : decode cX4_line 86 = .ok (.iconst 1, 1) := dk_4 (dk_at dksX4_line_3 19 rfl rfl)
theorem dX4_line_87 : decode cX4_line 87 = .ok (.goto 4, 3) := dk_167 0 4 (dk_at dksX4_line_3 20 rfl rfl)
theorem dX4_line_90 : decode cX4_line 90 = .ok (.iconst 0, 1) := dk_3 (dk_at dksX4_line_3 23 rfl rfl)
theorem dX4_line_91 : decode cX4_line 91 = .ok (.ireturn, 1) := dk_172 (dk_at dksX4_line_4 0 rfl rfl)
theorem dX4_line_92 : decode cX4_line 92 = .ok (.aload_n 0, 1) := dk_42 (dk_at dksX4_line_4 1 rfl rfl)
theorem dX4_line_93 : decode cX4_line 93 = .ok (.ldc 205, 2) := dk_18 205 (dk_at dksX4_line_4 2 rfl rfl)
theorem dX4_line_95 : decode cX4_line 95 = .ok (.invokevirtual 189, 3) := dk_182 0 189 (dk_at dksX4_line_4 4 rfl rfl)
theorem dX4_line_98 : decode cX4_line 98 = .ok (.ifCond .eq 55, 3) := dk_153 0 55 (dk_at dksX4_line_4 7 rfl rfl)
theorem dX4_line_101 : decode cX4_line 101 = .ok (.aload_n 0, 1) := dk_42 (dk_at dksX4_line_4 10 rfl rfl)
theorem dX4_line_102 : decode cX4_line 102 = .ok (.invokevirtual 192, 3) := dk_182 0 192 (dk_at dksX4_line_4 11 rfl rfl)
theorem dX4_line_105 : decode cX4_line 105 = .ok (.ifCond .eq 46, 3) := dk_153 0 46 (dk_at dksX4_line_4 14 rfl rfl)
theorem dX4_line_108 : decode cX4_line 108 = .ok (.aload_n 0, 1) := dk_42 (dk_at dksX4_line_4 17 rfl rfl)
theorem dX4_line_109 : decode cX4_line 109 = .ok (.ldc 207, 2) := dk_18 207 (dk_at dksX4_line_4 18 rfl rfl)
theorem dX4_line_111 : decode cX4_line 111 = .ok (.invokevirtual 189, 3) := dk_182 0 189 (dk_at dksX4_line_4 20 rfl rfl)
theorem dX4_line_114 : decode cX4_line 114 = .ok (.ifCond .eq 37, 3) := dk_153 0 37 (dk_at dksX4_line_5 0 rfl rfl)
theorem dX4_line_117 : decode cX4_line 117 = .ok (.aload_n 0, 1) := dk_42 (dk_at dksX4_line_5 3 rfl rfl)
theorem dX4_line_118 : decode cX4_line 118 = .ok (.invokevirtual 192, 3) := dk_182 0 192 (dk_at dksX4_line_5 4 rfl rfl)
theorem dX4_line_121 : decode cX4_line 121 = .ok (.ifCond .eq 30, 3) := dk_153 0 30 (dk_at dksX4_line_5 7 rfl rfl)
theorem dX4_line_124 : decode cX4_line 124 = .ok (.aload_n 0, 1) := dk_42 (dk_at dksX4_line_5 10 rfl rfl)
theorem dX4_line_125 : decode cX4_line 125 = .ok (.ldc 209, 2) := dk_18 209 (dk_at dksX4_line_5 11 rfl rfl)
theorem dX4_line_127 : decode cX4_line 127 = .ok (.invokevirtual 189, 3) := dk_182 0 189 (dk_at dksX4_line_5 13 rfl rfl)
theorem dX4_line_130 : decode cX4_line 130 = .ok (.ifCond .eq 21, 3) := dk_153 0 21 (dk_at dksX4_line_5 16 rfl rfl)
theorem dX4_line_133 : decode cX4_line 133 = .ok (.aload_n 0, 1) := dk_42 (dk_at dksX4_line_5 19 rfl rfl)
theorem dX4_line_134 : decode cX4_line 134 = .ok (.invokevirtual 192, 3) := dk_182 0 192 (dk_at dksX4_line_5 20 rfl rfl)
theorem dX4_line_137 : decode cX4_line 137 = .ok (.ifCond .eq 14, 3) := dk_153 0 14 (dk_at dksX4_line_6 0 rfl rfl)
theorem dX4_line_140 : decode cX4_line 140 = .ok (.aload_n 0, 1) := dk_42 (dk_at dksX4_line_6 3 rfl rfl)
theorem dX4_line_141 : decode cX4_line 141 = .ok (.invokevirtual 211, 3) := dk_182 0 211 (dk_at dksX4_line_6 4 rfl rfl)
theorem dX4_line_144 : decode cX4_line 144 = .ok (.ifCond .eq 7, 3) := dk_153 0 7 (dk_at dksX4_line_6 7 rfl rfl)
theorem dX4_line_147 : decode cX4_line 147 = .ok (.iconst 1, 1) := dk_4 (dk_at dksX4_line_6 10 rfl rfl)
theorem dX4_line_148 : decode cX4_line 148 = .ok (.goto 4, 3) := dk_167 0 4 (dk_at dksX4_line_6 11 rfl rfl)
theorem dX4_line_151 : decode cX4_line 151 = .ok (.iconst 0, 1) := dk_3 (dk_at dksX4_line_6 14 rfl rfl)
theorem dX4_line_152 : decode cX4_line 152 = .ok (.ireturn, 1) := dk_172 (dk_at dksX4_line_6 15 rfl rfl)
theorem dX4_line_153 : decode cX4_line 153 = .ok (.aload_n 0, 1) := dk_42 (dk_at dksX4_line_6 16 rfl rfl)
theorem dX4_line_154 : decode cX4_line 154 = .ok (.ldc 214, 2) := dk_18 214 (dk_at dksX4_line_6 17 rfl rfl)
theorem dX4_line_156 : decode cX4_line 156 = .ok (.invokevirtual 189, 3) := dk_182 0 189 (dk_at dksX4_line_6 19 rfl rfl)
theorem dX4_line_159 : decode cX4_line 159 = .ok (.ifCond .eq 55, 3) := dk_153 0 55 (dk_at dksX4_line_7 0 rfl rfl)
theorem dX4_line_162 : decode cX4_line 162 = .ok (.aload_n 0, 1) := dk_42 (dk_at dksX4_line_7 3 rfl rfl)
theorem dX4_line_163 : decode cX4_line 163 = .ok (.invokevirtual 192, 3) := dk_182 0 192 (dk_at dksX4_line_7 4 rfl rfl)
theorem dX4_line_166 : decode cX4_line 166 = .ok (.ifCond .eq 46, 3) := dk_153 0 46 (dk_at dksX4_line_7 7 rfl rfl)
theorem dX4_line_169 : decode cX4_line 169 = .ok (.aload_n 0, 1) := dk_42 (dk_at dksX4_line_7 10 rfl rfl)
theorem dX4_line_170 : decode cX4_line 170 = .ok (.ldc 207, 2) := dk_18 207 (dk_at dksX4_line_7 11 rfl rfl)
theorem dX4_line_172 : decode cX4_line 172 = .ok (.invokevirtual 189, 3) := dk_182 0 189 (dk_at dksX4_line_7 13 rfl rfl)
theorem dX4_line_175 : decode cX4_line 175 = .ok (.ifCond .eq 37, 3) := dk_153 0 37 (dk_at dksX4_line_7 16 rfl rfl)
theorem dX4_line_178 : decode cX4_line 178 = .ok (.aload_n 0, 1) := dk_42 (dk_at dksX4_line_7 19 rfl rfl)
theorem dX4_line_179 : decode cX4_line 179 = .ok (.invokevirtual 192, 3) := dk_182 0 192 (dk_at dksX4_line_7 20 rfl rfl)
theorem dX4_line_182 : decode cX4_line 182 = .ok (.ifCond .eq 30, 3) := dk_153 0 30 (dk_at dksX4_line_8 0 rfl rfl)
theorem dX4_line_185 : decode cX4_line 185 = .ok (.aload_n 0, 1) := dk_42 (dk_at dksX4_line_8 3 rfl rfl)
theorem dX4_line_186 : decode cX4_line 186 = .ok (.ldc 216, 2) := dk_18 216 (dk_at dksX4_line_8 4 rfl rfl)
theorem dX4_line_188 : decode cX4_line 188 = .ok (.invokevirtual 189, 3) := dk_182 0 189 (dk_at dksX4_line_8 6 rfl rfl)
theorem dX4_line_191 : decode cX4_line 191 = .ok (.ifCond .eq 21, 3) := dk_153 0 21 (dk_at dksX4_line_8 9 rfl rfl)
theorem dX4_line_194 : decode cX4_line 194 = .ok (.aload_n 0, 1) := dk_42 (dk_at dksX4_line_8 12 rfl rfl)
theorem dX4_line_195 : decode cX4_line 195 = .ok (.invokevirtual 192, 3) := dk_182 0 192 (dk_at dksX4_line_8 13 rfl rfl)
theorem dX4_line_198 : decode cX4_line 198 = .ok (.ifCond .eq 14, 3) := dk_153 0 14 (dk_at dksX4_line_8 16 rfl rfl)
theorem dX4_line_201 : decode cX4_line 201 = .ok (.aload_n 0, 1) := dk_42 (dk_at dksX4_line_8 19 rfl rfl)
theorem dX4_line_202 : decode cX4_line 202 = .ok (.invokevirtual 211, 3) := dk_182 0 211 (dk_at dksX4_line_8 20 rfl rfl)
theorem dX4_line_205 : decode cX4_line 205 = .ok (.ifCond .eq 7, 3) := dk_153 0 7 (dk_at dksX4_line_9 0 rfl rfl)
theorem dX4_line_208 : decode cX4_line 208 = .ok (.iconst 1, 1) := dk_4 (dk_at dksX4_line_9 3 rfl rfl)
theorem dX4_line_209 : decode cX4_line 209 = .ok (.goto 4, 3) := dk_167 0 4 (dk_at dksX4_line_9 4 rfl rfl)
theorem dX4_line_212 : decode cX4_line 212 = .ok (.iconst 0, 1) := dk_3 (dk_at dksX4_line_9 7 rfl rfl)
theorem dX4_line_213 : decode cX4_line 213 = .ok (.ireturn, 1) := dk_172 (dk_at dksX4_line_9 8 rfl rfl)
theorem dX4_line_214 : decode cX4_line 214 = .ok (.aload_n 0, 1) := dk_42 (dk_at dksX4_line_9 9 rfl rfl)
theorem dX4_line_215 : decode cX4_line 215 = .ok (.ldc 218, 2) := dk_18 218 (dk_at dksX4_line_9 10 rfl rfl)
theorem dX4_line_217 : decode cX4_line 217 = .ok (.invokevirtual 189, 3) := dk_182 0 189 (dk_at dksX4_line_9 12 rfl rfl)
theorem dX4_line_220 : decode cX4_line 220 = .ok (.ifCond .ne 12, 3) := dk_154 0 12 (dk_at dksX4_line_9 15 rfl rfl)
theorem dX4_line_223 : decode cX4_line 223 = .ok (.aload_n 0, 1) := dk_42 (dk_at dksX4_line_9 18 rfl rfl)
theorem dX4_line_224 : decode cX4_line 224 = .ok (.ldc 220, 2) := dk_18 220 (dk_at dksX4_line_9 19 rfl rfl)
theorem dX4_line_226 : decode cX4_line 226 = .ok (.invokevirtual 189, 3) := dk_182 0 189 (dk_at dksX4_line_9 21 rfl rfl)
theorem dX4_line_229 : decode cX4_line 229 = .ok (.ifCond .eq 14, 3) := dk_153 0 14 (dk_at dksX4_line_10 0 rfl rfl)
theorem dX4_line_232 : decode cX4_line 232 = .ok (.aload_n 0, 1) := dk_42 (dk_at dksX4_line_10 3 rfl rfl)
theorem dX4_line_233 : decode cX4_line 233 = .ok (.invokevirtual 192, 3) := dk_182 0 192 (dk_at dksX4_line_10 4 rfl rfl)
theorem dX4_line_236 : decode cX4_line 236 = .ok (.ifCond .eq 7, 3) := dk_153 0 7 (dk_at dksX4_line_10 7 rfl rfl)
theorem dX4_line_239 : decode cX4_line 239 = .ok (.iconst 1, 1) := dk_4 (dk_at dksX4_line_10 10 rfl rfl)
theorem dX4_line_240 : decode cX4_line 240 = .ok (.goto 4, 3) := dk_167 0 4 (dk_at dksX4_line_10 11 rfl rfl)
theorem dX4_line_243 : decode cX4_line 243 = .ok (.iconst 0, 1) := dk_3 (dk_at dksX4_line_10 14 rfl rfl)
theorem dX4_line_244 : decode cX4_line 244 = .ok (.ireturn, 1) := dk_172 (dk_at dksX4_line_10 15 rfl rfl)
theorem q2600 : (Jvm.Cond.code ({ cls := "DebateHallModel", name := "rest", desc := "()Z" } : Jvm.MethodName) prog_25_method_25_code (1 : Nat) (Option.some Jvm.ClassFile.FieldType.boolean)) ∈ lw_all := lw_g (lw_at lw_m11 120 rfl) rfl
theorem zk_X4_rest : zz_cd yX4_rest cX4_rest 1 (some .boolean) none ∈ lw_all := q2600
theorem zy_X4_rest : zz_yok yX4_rest 0 = true := by decide +kernel
theorem q2597 : (Jvm.Cond.methodLink "DebateHallModel" (211 : Nat) ({ cls := "DebateHallModel", name := "rest", desc := "()Z" } : Jvm.MethodName)) ∈ lw_all := lw_g (lw_at lw_m11 117 rfl) rfl
theorem q2599 : (Jvm.Cond.instanceMethod ({ cls := "DebateHallModel", name := "rest", desc := "()Z" } : Jvm.MethodName)) ∈ lw_all := lw_g (lw_at lw_m11 119 rfl) rfl
def wp_X4_line_B37 (Z : zzG) (K : Option Value → zzM → Prop) (s0 : Int32) (M : zzM) : Prop := narrow .boolean (.int s0) = .int s0 ∧ K (some (.int s0)) M
def wp_X4_line_B32 (Z : zzG) (K : Option Value → zzM → Prop) (M : zzM) : Prop := wp_X4_line_B37 Z K (1 : Int32) M
def wp_X4_line_B36 (Z : zzG) (K : Option Value → zzM → Prop) (M : zzM) : Prop := wp_X4_line_B37 Z K (0 : Int32) M
def wp_X4_line_B91 (Z : zzG) (K : Option Value → zzM → Prop) (s0 : Int32) (M : zzM) : Prop := narrow .boolean (.int s0) = .int s0 ∧ K (some (.int s0)) M
def wp_X4_line_B86 (Z : zzG) (K : Option Value → zzM → Prop) (M : zzM) : Prop := wp_X4_line_B91 Z K (1 : Int32) M
def wp_X4_line_B90 (Z : zzG) (K : Option Value → zzM → Prop) (M : zzM) : Prop := wp_X4_line_B91 Z K (0 : Int32) M
def wp_X4_line_B152 (Z : zzG) (K : Option Value → zzM → Prop) (s0 : Int32) (M : zzM) : Prop := narrow .boolean (.int s0) = .int s0 ∧ K (some (.int s0)) M
def wp_X4_line_B151 (Z : zzG) (K : Option Value → zzM → Prop) (M : zzM) : Prop := wp_X4_line_B152 Z K (0 : Int32) M
def wp_X4_line_B213 (Z : zzG) (K : Option Value → zzM → Prop) (s0 : Int32) (M : zzM) : Prop := narrow .boolean (.int s0) = .int s0 ∧ K (some (.int s0)) M
def wp_X4_line_B212 (Z : zzG) (K : Option Value → zzM → Prop) (M : zzM) : Prop := wp_X4_line_B213 Z K (0 : Int32) M
def wp_X4_line_B244 (Z : zzG) (K : Option Value → zzM → Prop) (s0 : Int32) (M : zzM) : Prop := narrow .boolean (.int s0) = .int s0 ∧ K (some (.int s0)) M
def wp_X4_line_B243 (Z : zzG) (K : Option Value → zzM → Prop) (M : zzM) : Prop := wp_X4_line_B244 Z K (0 : Int32) M
def wp_X4_line_B232 (Z : zzG) (K : Option Value → zzM → Prop) (v0 : Option Nat) (M : zzM) : Prop := zty Z M v0 fun t => t = 16 ∧ wp_X4_name Z v0 M (fun r131 M132 => zrI r131 fun x135 => if x135 = 0 then (wp_X4_line_B243 Z K M132) else (wp_X4_line_B244 Z K (1 : Int32) M132))
def wp_X4_line (Z : zzG) (this : Option Nat) (M : zzM) (K : Option Value → zzM → Prop) : Prop := zty Z M this fun t => t = 16 ∧ wp_X4_word Z this (some (zz_ad Z 168)) M (fun r1 M2 => zrI r1 fun x5 => if x5 = 0 then (zty Z M2 this fun t => t = 16 ∧ wp_X4_word Z this (some (zz_ad Z 121)) M2 (fun r6 M7 => zrI r6 fun x10 => if x10 = 0 then (zty Z M7 this fun t => t = 16 ∧ wp_X4_word Z this (some (zz_ad Z 115)) M7 (fun r11 M12 => zrI r11 fun x15 => if x15 = 0 then (zty Z M12 this fun t => t = 16 ∧ wp_X4_word Z this (some (zz_ad Z 171)) M12 (fun r16 M17 => zrI r16 fun x20 => if x20 = 0 then (zty Z M17 this fun t => t = 16 ∧ wp_X4_word Z this (some (zz_ad Z 124)) M17 (fun r21 M22 => zrI r21 fun x25 => if x25 = 0 then (zty Z M22 this fun t => t = 16 ∧ wp_X4_word Z this (some (zz_ad Z 165)) M22 (fun r26 M27 => zrI r26 fun x30 => if x30 = 0 then (wp_X4_line_B243 Z K M27) else (wp_X4_line_B232 Z K this M27))) else (wp_X4_line_B232 Z K this M22))) else (zty Z M17 this fun t => t = 16 ∧ wp_X4_name Z this M17 (fun r31 M32 => zrI r31 fun x35 => if x35 = 0 then (wp_X4_line_B212 Z K M32) else (zty Z M32 this fun t => t = 16 ∧ wp_X4_word Z this (some (zz_ad Z 137)) M32 (fun r36 M37 => zrI r36 fun x40 => if x40 = 0 then (wp_X4_line_B212 Z K M37) else (zty Z M37 this fun t => t = 16 ∧ wp_X4_name Z this M37 (fun r41 M42 => zrI r41 fun x45 => if x45 = 0 then (wp_X4_line_B212 Z K M42) else (zty Z M42 this fun t => t = 16 ∧ wp_X4_word Z this (some (zz_ad Z 131)) M42 (fun r46 M47 => zrI r46 fun x50 => if x50 = 0 then (wp_X4_line_B212 Z K M47) else (zty Z M47 this fun t => t = 16 ∧ wp_X4_name Z this M47 (fun r51 M52 => zrI r51 fun x55 => if x55 = 0 then (wp_X4_line_B212 Z K M52) else (zty Z M52 this fun t => t = 16 ∧ wp_X4_rest Z this M52 (fun r56 M57 => zrI r56 fun x60 => if x60 = 0 then (wp_X4_line_B212 Z K M57) else (wp_X4_line_B213 Z K (1 : Int32) M57))))))))))))))) else (zty Z M12 this fun t => t = 16 ∧ wp_X4_name Z this M12 (fun r61 M62 => zrI r61 fun x65 => if x65 = 0 then (wp_X4_line_B151 Z K M62) else (zty Z M62 this fun t => t = 16 ∧ wp_X4_word Z this (some (zz_ad Z 137)) M62 (fun r66 M67 => zrI r66 fun x70 => if x70 = 0 then (wp_X4_line_B151 Z K M67) else (zty Z M67 this fun t => t = 16 ∧ wp_X4_name Z this M67 (fun r71 M72 => zrI r71 fun x75 => if x75 = 0 then (wp_X4_line_B151 Z K M72) else (zty Z M72 this fun t => t = 16 ∧ wp_X4_word Z this (some (zz_ad Z 151)) M72 (fun r76 M77 => zrI r76 fun x80 => if x80 = 0 then (wp_X4_line_B151 Z K M77) else (zty Z M77 this fun t => t = 16 ∧ wp_X4_name Z this M77 (fun r81 M82 => zrI r81 fun x85 => if x85 = 0 then (wp_X4_line_B151 Z K M82) else (zty Z M82 this fun t => t = 16 ∧ wp_X4_rest Z this M82 (fun r86 M87 => zrI r86 fun x90 => if x90 = 0 then (wp_X4_line_B151 Z K M87) else (wp_X4_line_B152 Z K (1 : Int32) M87))))))))))))))) else (zty Z M7 this fun t => t = 16 ∧ wp_X4_name Z this M7 (fun r91 M92 => zrI r91 fun x95 => if x95 = 0 then (wp_X4_line_B90 Z K M92) else (zty Z M92 this fun t => t = 16 ∧ wp_X4_word Z this (some (zz_ad Z 118)) M92 (fun r96 M97 => zrI r96 fun x100 => if x100 = 0 then (wp_X4_line_B90 Z K M97) else (zty Z M97 this fun t => t = 16 ∧ wp_X4_name Z this M97 (fun r101 M102 => zrI r101 fun x105 => if x105 = 0 then (wp_X4_line_B90 Z K M102) else (zty Z M102 this fun t => t = 16 ∧ wp_X4_word Z this (some (zz_ad Z 178)) M102 (fun r106 M107 => zrI r106 fun x110 => if x110 = 0 then (wp_X4_line_B86 Z K M107) else (zty Z M107 this fun t => t = 16 ∧ wp_X4_number Z this M107 (fun r111 M112 => zrI r111 fun x115 => if x115 = 0 then (wp_X4_line_B90 Z K M112) else (wp_X4_line_B86 Z K M112))))))))))))) else (zty Z M2 this fun t => t = 16 ∧ wp_X4_name Z this M2 (fun r116 M117 => zrI r116 fun x120 => if x120 = 0 then (wp_X4_line_B36 Z K M117) else (zty Z M117 this fun t => t = 16 ∧ wp_X4_word Z this (some (zz_ad Z 174)) M117 (fun r121 M122 => zrI r121 fun x125 => if x125 = 0 then (wp_X4_line_B32 Z K M122) else (zty Z M122 this fun t => t = 16 ∧ wp_X4_number Z this M122 (fun r126 M127 => zrI r126 fun x130 => if x130 = 0 then (wp_X4_line_B36 Z K M127) else (wp_X4_line_B32 Z K M127))))))))
theorem ok_X4_line_B37 {G : zzX} (C : zz_C G cX4_line "DebateHallModel" 1) {K : Option Value → zzM → Prop} (E : zz_E G (some .boolean) K (fun _ _ _ => False)) (hH : zz_H G []) (hR : zz_Rm G 70) {s0 : Int32} {M : zzM} {bc bs : Nat} (hw : wp_X4_line_B37 (zz_Zof G) K s0 M) : zz_T G 1 M bc bs 37 [] [.int s0] := by
  unfold wp_X4_line_B37 at hw
  exact zz_zret C E dX4_line_37 hw
theorem ok_X4_line_B32 {G : zzX} (C : zz_C G cX4_line "DebateHallModel" 1) {K : Option Value → zzM → Prop} (E : zz_E G (some .boolean) K (fun _ _ _ => False)) (hH : zz_H G []) (hR : zz_Rm G 70) {M : zzM} {bc bs : Nat} (hw : wp_X4_line_B32 (zz_Zof G) K M) : zz_T G 1 M bc bs 32 [] [] := by
  unfold wp_X4_line_B32 at hw
  refine zz_iconst (v := (1 : Int32)) C dX4_line_32 (by decide) ?_
  refine zz_goto (tgt := 37) C dX4_line_33 (by decide) ?_
  refine zz_subP [] rfl ?_
  exact ok_X4_line_B37 C E hH hR hw
theorem ok_X4_line_B36 {G : zzX} (C : zz_C G cX4_line "DebateHallModel" 1) {K : Option Value → zzM → Prop} (E : zz_E G (some .boolean) K (fun _ _ _ => False)) (hH : zz_H G []) (hR : zz_Rm G 70) {M : zzM} {bc bs : Nat} (hw : wp_X4_line_B36 (zz_Zof G) K M) : zz_T G 1 M bc bs 36 [] [] := by
  unfold wp_X4_line_B36 at hw
  refine zz_iconst (v := (0 : Int32)) C dX4_line_36 (by decide) ?_
  refine zz_subP [] rfl ?_
  exact ok_X4_line_B37 C E hH hR hw
theorem ok_X4_line_B91 {G : zzX} (C : zz_C G cX4_line "DebateHallModel" 1) {K : Option Value → zzM → Prop} (E : zz_E G (some .boolean) K (fun _ _ _ => False)) (hH : zz_H G []) (hR : zz_Rm G 70) {s0 : Int32} {M : zzM} {bc bs : Nat} (hw : wp_X4_line_B91 (zz_Zof G) K s0 M) : zz_T G 1 M bc bs 91 [] [.int s0] := by
  unfold wp_X4_line_B91 at hw
  exact zz_zret C E dX4_line_91 hw
theorem ok_X4_line_B86 {G : zzX} (C : zz_C G cX4_line "DebateHallModel" 1) {K : Option Value → zzM → Prop} (E : zz_E G (some .boolean) K (fun _ _ _ => False)) (hH : zz_H G []) (hR : zz_Rm G 70) {M : zzM} {bc bs : Nat} (hw : wp_X4_line_B86 (zz_Zof G) K M) : zz_T G 1 M bc bs 86 [] [] := by
  unfold wp_X4_line_B86 at hw
  refine zz_iconst (v := (1 : Int32)) C dX4_line_86 (by decide) ?_
  refine zz_goto (tgt := 91) C dX4_line_87 (by decide) ?_
  refine zz_subP [] rfl ?_
  exact ok_X4_line_B91 C E hH hR hw
theorem ok_X4_line_B90 {G : zzX} (C : zz_C G cX4_line "DebateHallModel" 1) {K : Option Value → zzM → Prop} (E : zz_E G (some .boolean) K (fun _ _ _ => False)) (hH : zz_H G []) (hR : zz_Rm G 70) {M : zzM} {bc bs : Nat} (hw : wp_X4_line_B90 (zz_Zof G) K M) : zz_T G 1 M bc bs 90 [] [] := by
  unfold wp_X4_line_B90 at hw
  refine zz_iconst (v := (0 : Int32)) C dX4_line_90 (by decide) ?_
  refine zz_subP [] rfl ?_
  exact ok_X4_line_B91 C E hH hR hw
theorem ok_X4_line_B152 {G : zzX} (C : zz_C G cX4_line "DebateHallModel" 1) {K : Option Value → zzM → Prop} (E : zz_E G (some .boolean) K (fun _ _ _ => False)) (hH : zz_H G []) (hR : zz_Rm G 70) {s0 : Int32} {M : zzM} {bc bs : Nat} (hw : wp_X4_line_B152 (zz_Zof G) K s0 M) : zz_T G 1 M bc bs 152 [] [.int s0] := by
  unfold wp_X4_line_B152 at hw
  exact zz_zret C E dX4_line_152 hw
theorem ok_X4_line_B151 {G : zzX} (C : zz_C G cX4_line "DebateHallModel" 1) {K : Option Value → zzM → Prop} (E : zz_E G (some .boolean) K (fun _ _ _ => False)) (hH : zz_H G []) (hR : zz_Rm G 70) {M : zzM} {bc bs : Nat} (hw : wp_X4_line_B151 (zz_Zof G) K M) : zz_T G 1 M bc bs 151 [] [] := by
  unfold wp_X4_line_B151 at hw
  refine zz_iconst (v := (0 : Int32)) C dX4_line_151 (by decide) ?_
  refine zz_subP [] rfl ?_
  exact ok_X4_line_B152 C E hH hR hw
theorem ok_X4_line_B213 {G : zzX} (C : zz_C G cX4_line "DebateHallModel" 1) {K : Option Value → zzM → Prop} (E : zz_E G (some .boolean) K (fun _ _ _ => False)) (hH : zz_H G []) (hR : zz_Rm G 70) {s0 : Int32} {M : zzM} {bc bs : Nat} (hw : wp_X4_line_B213 (zz_Zof G) K s0 M) : zz_T G 1 M bc bs 213 [] [.int s0] := by
  unfold wp_X4_line_B213 at hw
  exact zz_zret C E dX4_line_213 hw
theorem ok_X4_line_B212 {G : zzX} (C : zz_C G cX4_line "DebateHallModel" 1) {K : Option Value → zzM → Prop} (E : zz_E G (some .boolean) K (fun _ _ _ => False)) (hH : zz_H G []) (hR : zz_Rm G 70) {M : zzM} {bc bs : Nat} (hw : wp_X4_line_B212 (zz_Zof G) K M) : zz_T G 1 M bc bs 212 [] [] := by
  unfold wp_X4_line_B212 at hw
  refine zz_iconst (v := (0 : Int32)) C dX4_line_212 (by decide) ?_
  refine zz_subP [] rfl ?_
  exact ok_X4_line_B213 C E hH hR hw
theorem ok_X4_line_B244 {G : zzX} (C : zz_C G cX4_line "DebateHallModel" 1) {K : Option Value → zzM → Prop} (E : zz_E G (some .boolean) K (fun _ _ _ => False)) (hH : zz_H G []) (hR : zz_Rm G 70) {s0 : Int32} {M : zzM} {bc bs : Nat} (hw : wp_X4_line_B244 (zz_Zof G) K s0 M) : zz_T G 1 M bc bs 244 [] [.int s0] := by
  unfold wp_X4_line_B244 at hw
  exact zz_zret C E dX4_line_244 hw
theorem ok_X4_line_B243 {G : zzX} (C : zz_C G cX4_line "DebateHallModel" 1) {K : Option Value → zzM → Prop} (E : zz_E G (some .boolean) K (fun _ _ _ => False)) (hH : zz_H G []) (hR : zz_Rm G 70) {M : zzM} {bc bs : Nat} (hw : wp_X4_line_B243 (zz_Zof G) K M) : zz_T G 1 M bc bs 243 [] [] := by
  unfold wp_X4_line_B243 at hw
  refine zz_iconst (v := (0 : Int32)) C dX4_line_243 (by decide) ?_
  refine zz_subP [] rfl ?_
  exact ok_X4_line_B244 C E hH hR hw
theorem ok_X4_line_B232 {G : zzX} (C : zz_C G cX4_line "DebateHallModel" 1) {K : Option Value → zzM → Prop} (E : zz_E G (some .boolean) K (fun _ _ _ => False)) (hH : zz_H G []) (hR : zz_Rm G 70) {v0 : Option Nat} {M : zzM} {bc bs : Nat} (hw : wp_X4_line_B232 (zz_Zof G) K v0 M) : zz_T G 1 M bc bs 232 [(0, va_rf v0)] [] := by
  unfold wp_X4_line_B232 at hw
  refine zz_aload_n C dX4_line_232 rfl 0 rfl ?_
  obtain ⟨a9, t9, b9, fs9, hro, hL, rfl, hw⟩ := ztyS hw
  refine zz_callV (r := (zR_16, zT_16, 24)) (As := []) (rest := []) (mc := 0) (ms := 0) C hR hro dX4_line_233 (Or.inl q2577) q2579 (Or.inl qs40) zl_DebateHallModel zk_X4_name (Or.inl rfl) zy_X4_name rfl (by decide) (by decide) hL (ok_X4_name (zz_hl C) hw) (Nat.zero_le _) (Nat.zero_le _) (zz_cat10 _ (Nat.le_of_ble_eq_true rfl)) (fun r131 M132 hw => zz_kI hw (fun x135 hw => ?_)) (fun _ _ _ h9 => h9.elim) rfl
  refine zz_if_eq (tgt := 243) C dX4_line_236 (by decide) hw (fun hw => ?_) (fun hw => ?_)
  · refine zz_subP [] rfl ?_
    exact ok_X4_line_B243 C E hH hR hw
  · refine zz_iconst (v := (1 : Int32)) C dX4_line_239 (by decide) ?_
    refine zz_goto (tgt := 244) C dX4_line_240 (by decide) ?_
    refine zz_subP [] rfl ?_
    exact ok_X4_line_B244 C E hH hR hw
theorem ok_X4_line {Z : zzG} {l : Launch} (hl : l.stackTraces = false) {this : Option Nat} {M : zzM} {mc ms : Nat} {K : Option Value → zzM → Prop} (hw : wp_X4_line Z this M K) : zz_Met Z l yX4_line (zz_ws yX4_line cX4_line 1 (some .boolean) none) 70 [va_rf this] M mc ms K (fun _ _ _ => False) := by
  refine zz_ofW hl (plainFor_of_name (by decide)) (by simp only [zz_sl0, zz_slI, zz_slJ, zz_slA] <;> decide) (fun G hZ hll C E hH hR hin => ?_)
  subst hZ
  subst hll
  rw [show lv_args 0 [va_rf this] = [(0, va_rf this)] by simp only [zz_la0, zz_laI, zz_laJ, zz_laA]]
  unfold wp_X4_line at hw
  refine zz_aload_n C dX4_line_0 rfl 0 rfl ?_
  refine zz_ldcS (j := 68) C dX4_line_1 rfl ?_
  obtain ⟨a9, t9, b9, fs9, hro, hL, rfl, hw⟩ := ztyS hw
  refine zz_callV (r := (zR_16, zT_16, 24)) (As := [va_rf (some (zz_ad (zz_Zof G) 168))]) (rest := []) (mc := 0) (ms := 0) C hR hro dX4_line_3 (Or.inl q2560) q2562 (Or.inl qs37) zl_DebateHallModel zk_X4_word (Or.inl rfl) zy_X4_word rfl (by decide) (by decide) hL (ok_X4_word (zz_hl C) hw) (Nat.zero_le _) (Nat.zero_le _) (zz_cat10 _ (Nat.le_of_ble_eq_true rfl)) (fun r1 M2 hw => zz_kI hw (fun x5 hw => ?_)) (fun _ _ _ h9 => h9.elim) rfl
  refine zz_if_eq (tgt := 38) C dX4_line_6 (by decide) hw (fun hw => ?_) (fun hw => ?_)
  · refine zz_aload_n C dX4_line_38 rfl 0 rfl ?_
    refine zz_ldcS (j := 21) C dX4_line_39 rfl ?_
    obtain ⟨a9, t9, b9, fs9, hro, hL, rfl, hw⟩ := ztyS hw
    refine zz_callV (r := (zR_16, zT_16, 24)) (As := [va_rf (some (zz_ad (zz_Zof G) 121))]) (rest := []) (mc := 0) (ms := 0) C hR hro dX4_line_41 (Or.inl q2560) q2562 (Or.inl qs37) zl_DebateHallModel zk_X4_word (Or.inl rfl) zy_X4_word rfl (by decide) (by decide) hL (ok_X4_word (zz_hl C) hw) (Nat.zero_le _) (Nat.zero_le _) (zz_cat10 _ (Nat.le_of_ble_eq_true rfl)) (fun r6 M7 hw => zz_kI hw (fun x10 hw => ?_)) (fun _ _ _ h9 => h9.elim) rfl
    refine zz_if_eq (tgt := 92) C dX4_line_44 (by decide) hw (fun hw => ?_) (fun hw => ?_)
    · refine zz_aload_n C dX4_line_92 rfl 0 rfl ?_
      refine zz_ldcS (j := 15) C dX4_line_93 rfl ?_
      obtain ⟨a9, t9, b9, fs9, hro, hL, rfl, hw⟩ := ztyS hw
      refine zz_callV (r := (zR_16, zT_16, 24)) (As := [va_rf (some (zz_ad (zz_Zof G) 115))]) (rest := []) (mc := 0) (ms := 0) C hR hro dX4_line_95 (Or.inl q2560) q2562 (Or.inl qs37) zl_DebateHallModel zk_X4_word (Or.inl rfl) zy_X4_word rfl (by decide) (by decide) hL (ok_X4_word (zz_hl C) hw) (Nat.zero_le _) (Nat.zero_le _) (zz_cat10 _ (Nat.le_of_ble_eq_true rfl)) (fun r11 M12 hw => zz_kI hw (fun x15 hw => ?_)) (fun _ _ _ h9 => h9.elim) rfl
      refine zz_if_eq (tgt := 153) C dX4_line_98 (by decide) hw (fun hw => ?_) (fun hw => ?_)
      · refine zz_aload_n C dX4_line_153 rfl 0 rfl ?_
        refine zz_ldcS (j := 71) C dX4_line_154 rfl ?_
        obtain ⟨a9, t9, b9, fs9, hro, hL, rfl, hw⟩ := ztyS hw
        refine zz_callV (r := (zR_16, zT_16, 24)) (As := [va_rf (some (zz_ad (zz_Zof G) 171))]) (rest := []) (mc := 0) (ms := 0) C hR hro dX4_line_156 (Or.inl q2560) q2562 (Or.inl qs37) zl_DebateHallModel zk_X4_word (Or.inl rfl) zy_X4_word rfl (by decide) (by decide) hL (ok_X4_word (zz_hl C) hw) (Nat.zero_le _) (Nat.zero_le _) (zz_cat10 _ (Nat.le_of_ble_eq_true rfl)) (fun r16 M17 hw => zz_kI hw (fun x20 hw => ?_)) (fun _ _ _ h9 => h9.elim) rfl
        refine zz_if_eq (tgt := 214) C dX4_line_159 (by decide) hw (fun hw => ?_) (fun hw => ?_)
        · refine zz_aload_n C dX4_line_214 rfl 0 rfl ?_
          refine zz_ldcS (j := 24) C dX4_line_215 rfl ?_
          obtain ⟨a9, t9, b9, fs9, hro, hL, rfl, hw⟩ := ztyS hw
          refine zz_callV (r := (zR_16, zT_16, 24)) (As := [va_rf (some (zz_ad (zz_Zof G) 124))]) (rest := []) (mc := 0) (ms := 0) C hR hro dX4_line_217 (Or.inl q2560) q2562 (Or.inl qs37) zl_DebateHallModel zk_X4_word (Or.inl rfl) zy_X4_word rfl (by decide) (by decide) hL (ok_X4_word (zz_hl C) hw) (Nat.zero_le _) (Nat.zero_le _) (zz_cat10 _ (Nat.le_of_ble_eq_true rfl)) (fun r21 M22 hw => zz_kI hw (fun x25 hw => ?_)) (fun _ _ _ h9 => h9.elim) rfl
          refine zz_if_ne (tgt := 232) C dX4_line_220 (by decide) hw (fun hw => ?_) (fun hw => ?_)
          · refine zz_subP [0] rfl ?_
            exact ok_X4_line_B232 C E hH hR hw
          · refine zz_aload_n C dX4_line_223 rfl 0 rfl ?_
            refine zz_ldcS (j := 65) C dX4_line_224 rfl ?_
            obtain ⟨a9, t9, b9, fs9, hro, hL, rfl, hw⟩ := ztyS hw
            refine zz_callV (r := (zR_16, zT_16, 24)) (As := [va_rf (some (zz_ad (zz_Zof G) 165))]) (rest := []) (mc := 0) (ms := 0) C hR hro dX4_line_226 (Or.inl q2560) q2562 (Or.inl qs37) zl_DebateHallModel zk_X4_word (Or.inl rfl) zy_X4_word rfl (by decide) (by decide) hL (ok_X4_word (zz_hl C) hw) (Nat.zero_le _) (Nat.zero_le _) (zz_cat10 _ (Nat.le_of_ble_eq_true rfl)) (fun r26 M27 hw => zz_kI hw (fun x30 hw => ?_)) (fun _ _ _ h9 => h9.elim) rfl
            refine zz_if_eq (tgt := 243) C dX4_line_229 (by decide) hw (fun hw => ?_) (fun hw => ?_)
            · refine zz_subP [] rfl ?_
              exact ok_X4_line_B243 C E hH hR hw
            · refine zz_subP [0] rfl ?_
              exact ok_X4_line_B232 C E hH hR hw
        · refine zz_aload_n C dX4_line_162 rfl 0 rfl ?_
          obtain ⟨a9, t9, b9, fs9, hro, hL, rfl, hw⟩ := ztyS hw
          refine zz_callV (r := (zR_16, zT_16, 24)) (As := []) (rest := []) (mc := 0) (ms := 0) C hR hro dX4_line_163 (Or.inl q2577) q2579 (Or.inl qs40) zl_DebateHallModel zk_X4_name (Or.inl rfl) zy_X4_name rfl (by decide) (by decide) hL (ok_X4_name (zz_hl C) hw) (Nat.zero_le _) (Nat.zero_le _) (zz_cat10 _ (Nat.le_of_ble_eq_true rfl)) (fun r31 M32 hw => zz_kI hw (fun x35 hw => ?_)) (fun _ _ _ h9 => h9.elim) rfl
          refine zz_if_eq (tgt := 212) C dX4_line_166 (by decide) hw (fun hw => ?_) (fun hw => ?_)
          · refine zz_subP [] rfl ?_
            exact ok_X4_line_B212 C E hH hR hw
          · refine zz_aload_n C dX4_line_169 rfl 0 rfl ?_
            refine zz_ldcS (j := 37) C dX4_line_170 rfl ?_
            obtain ⟨a9, t9, b9, fs9, hro, hL, rfl, hw⟩ := ztyS hw
            refine zz_callV (r := (zR_16, zT_16, 24)) (As := [va_rf (some (zz_ad (zz_Zof G) 137))]) (rest := []) (mc := 0) (ms := 0) C hR hro dX4_line_172 (Or.inl q2560) q2562 (Or.inl qs37) zl_DebateHallModel zk_X4_word (Or.inl rfl) zy_X4_word rfl (by decide) (by decide) hL (ok_X4_word (zz_hl C) hw) (Nat.zero_le _) (Nat.zero_le _) (zz_cat10 _ (Nat.le_of_ble_eq_true rfl)) (fun r36 M37 hw => zz_kI hw (fun x40 hw => ?_)) (fun _ _ _ h9 => h9.elim) rfl
            refine zz_if_eq (tgt := 212) C dX4_line_175 (by decide) hw (fun hw => ?_) (fun hw => ?_)
            · refine zz_subP [] rfl ?_
              exact ok_X4_line_B212 C E hH hR hw
            · refine zz_aload_n C dX4_line_178 rfl 0 rfl ?_
              obtain ⟨a9, t9, b9, fs9, hro, hL, rfl, hw⟩ := ztyS hw
              refine zz_callV (r := (zR_16, zT_16, 24)) (As := []) (rest := []) (mc := 0) (ms := 0) C hR hro dX4_line_179 (Or.inl q2577) q2579 (Or.inl qs40) zl_DebateHallModel zk_X4_name (Or.inl rfl) zy_X4_name rfl (by decide) (by decide) hL (ok_X4_name (zz_hl C) hw) (Nat.zero_le _) (Nat.zero_le _) (zz_cat10 _ (Nat.le_of_ble_eq_true rfl)) (fun r41 M42 hw => zz_kI hw (fun x45 hw => ?_)) (fun _ _ _ h9 => h9.elim) rfl
              refine zz_if_eq (tgt := 212) C dX4_line_182 (by decide) hw (fun hw => ?_) (fun hw => ?_)
              · refine zz_subP [] rfl ?_
                exact ok_X4_line_B212 C E hH hR hw
              · refine zz_aload_n C dX4_line_185 rfl 0 rfl ?_
                refine zz_ldcS (j := 31) C dX4_line_186 rfl ?_
                obtain ⟨a9, t9, b9, fs9, hro, hL, rfl, hw⟩ := ztyS hw
                refine zz_callV (r := (zR_16, zT_16, 24)) (As := [va_rf (some (zz_ad (zz_Zof G) 131))]) (rest := []) (mc := 0) (ms := 0) C hR hro dX4_line_188 (Or.inl q2560) q2562 (Or.inl qs37) zl_DebateHallModel zk_X4_word (Or.inl rfl) zy_X4_word rfl (by decide) (by decide) hL (ok_X4_word (zz_hl C) hw) (Nat.zero_le _) (Nat.zero_le _) (zz_cat10 _ (Nat.le_of_ble_eq_true rfl)) (fun r46 M47 hw => zz_kI hw (fun x50 hw => ?_)) (fun _ _ _ h9 => h9.elim) rfl
                refine zz_if_eq (tgt := 212) C dX4_line_191 (by decide) hw (fun hw => ?_) (fun hw => ?_)
                · refine zz_subP [] rfl ?_
                  exact ok_X4_line_B212 C E hH hR hw
                · refine zz_aload_n C dX4_line_194 rfl 0 rfl ?_
                  obtain ⟨a9, t9, b9, fs9, hro, hL, rfl, hw⟩ := ztyS hw
                  refine zz_callV (r := (zR_16, zT_16, 24)) (As := []) (rest := []) (mc := 0) (ms := 0) C hR hro dX4_line_195 (Or.inl q2577) q2579 (Or.inl qs40) zl_DebateHallModel zk_X4_name (Or.inl rfl) zy_X4_name rfl (by decide) (by decide) hL (ok_X4_name (zz_hl C) hw) (Nat.zero_le _) (Nat.zero_le _) (zz_cat10 _ (Nat.le_of_ble_eq_true rfl)) (fun r51 M52 hw => zz_kI hw (fun x55 hw => ?_)) (fun _ _ _ h9 => h9.elim) rfl
                  refine zz_if_eq (tgt := 212) C dX4_line_198 (by decide) hw (fun hw => ?_) (fun hw => ?_)
                  · refine zz_subP [] rfl ?_
                    exact ok_X4_line_B212 C E hH hR hw
                  · refine zz_aload_n C dX4_line_201 rfl 0 rfl ?_
                    obtain ⟨a9, t9, b9, fs9, hro, hL, rfl, hw⟩ := ztyS hw
                    refine zz_callV (r := (zR_16, zT_16, 24)) (As := []) (rest := []) (mc := 0) (ms := 0) C hR hro dX4_line_202 (Or.inl q2597) q2599 (Or.inl qs42) zl_DebateHallModel zk_X4_rest (Or.inl rfl) zy_X4_rest rfl (by decide) (by decide) hL (ok_X4_rest (zz_hl C) hw) (Nat.zero_le _) (Nat.zero_le _) (zz_cat10 _ (Nat.le_of_ble_eq_true rfl)) (fun r56 M57 hw => zz_kI hw (fun x60 hw => ?_)) (fun _ _ _ h9 => h9.elim) rfl
                    refine zz_if_eq (tgt := 212) C dX4_line_205 (by decide) hw (fun hw => ?_) (fun hw => ?_)
                    · refine zz_subP [] rfl ?_
                      exact ok_X4_line_B212 C E hH hR hw
                    · refine zz_iconst (v := (1 : Int32)) C dX4_line_208 (by decide) ?_
                      refine zz_goto (tgt := 213) C dX4_line_209 (by decide) ?_
                      refine zz_subP [] rfl ?_
                      exact ok_X4_line_B213 C E hH hR hw
      · refine zz_aload_n C dX4_line_101 rfl 0 rfl ?_
        obtain ⟨a9, t9, b9, fs9, hro, hL, rfl, hw⟩ := ztyS hw
        refine zz_callV (r := (zR_16, zT_16, 24)) (As := []) (rest := []) (mc := 0) (ms := 0) C hR hro dX4_line_102 (Or.inl q2577) q2579 (Or.inl qs40) zl_DebateHallModel zk_X4_name (Or.inl rfl) zy_X4_name rfl (by decide) (by decide) hL (ok_X4_name (zz_hl C) hw) (Nat.zero_le _) (Nat.zero_le _) (zz_cat10 _ (Nat.le_of_ble_eq_true rfl)) (fun r61 M62 hw => zz_kI hw (fun x65 hw => ?_)) (fun _ _ _ h9 => h9.elim) rfl
        refine zz_if_eq (tgt := 151) C dX4_line_105 (by decide) hw (fun hw => ?_) (fun hw => ?_)
        · refine zz_subP [] rfl ?_
          exact ok_X4_line_B151 C E hH hR hw
        · refine zz_aload_n C dX4_line_108 rfl 0 rfl ?_
          refine zz_ldcS (j := 37) C dX4_line_109 rfl ?_
          obtain ⟨a9, t9, b9, fs9, hro, hL, rfl, hw⟩ := ztyS hw
          refine zz_callV (r := (zR_16, zT_16, 24)) (As := [va_rf (some (zz_ad (zz_Zof G) 137))]) (rest := []) (mc := 0) (ms := 0) C hR hro dX4_line_111 (Or.inl q2560) q2562 (Or.inl qs37) zl_DebateHallModel zk_X4_word (Or.inl rfl) zy_X4_word rfl (by decide) (by decide) hL (ok_X4_word (zz_hl C) hw) (Nat.zero_le _) (Nat.zero_le _) (zz_cat10 _ (Nat.le_of_ble_eq_true rfl)) (fun r66 M67 hw => zz_kI hw (fun x70 hw => ?_)) (fun _ _ _ h9 => h9.elim) rfl
          refine zz_if_eq (tgt := 151) C dX4_line_114 (by decide) hw (fun hw => ?_) (fun hw => ?_)
          · refine zz_subP [] rfl ?_
            exact ok_X4_line_B151 C E hH hR hw
          · refine zz_aload_n C dX4_line_117 rfl 0 rfl ?_
            obtain ⟨a9, t9, b9, fs9, hro, hL, rfl, hw⟩ := ztyS hw
            refine zz_callV (r := (zR_16, zT_16, 24)) (As := []) (rest := []) (mc := 0) (ms := 0) C hR hro dX4_line_118 (Or.inl q2577) q2579 (Or.inl qs40) zl_DebateHallModel zk_X4_name (Or.inl rfl) zy_X4_name rfl (by decide) (by decide) hL (ok_X4_name (zz_hl C) hw) (Nat.zero_le _) (Nat.zero_le _) (zz_cat10 _ (Nat.le_of_ble_eq_true rfl)) (fun r71 M72 hw => zz_kI hw (fun x75 hw => ?_)) (fun _ _ _ h9 => h9.elim) rfl
            refine zz_if_eq (tgt := 151) C dX4_line_121 (by decide) hw (fun hw => ?_) (fun hw => ?_)
            · refine zz_subP [] rfl ?_
              exact ok_X4_line_B151 C E hH hR hw
            · refine zz_aload_n C dX4_line_124 rfl 0 rfl ?_
              refine zz_ldcS (j := 51) C dX4_line_125 rfl ?_
              obtain ⟨a9, t9, b9, fs9, hro, hL, rfl, hw⟩ := ztyS hw
              refine zz_callV (r := (zR_16, zT_16, 24)) (As := [va_rf (some (zz_ad (zz_Zof G) 151))]) (rest := []) (mc := 0) (ms := 0) C hR hro dX4_line_127 (Or.inl q2560) q2562 (Or.inl qs37) zl_DebateHallModel zk_X4_word (Or.inl rfl) zy_X4_word rfl (by decide) (by decide) hL (ok_X4_word (zz_hl C) hw) (Nat.zero_le _) (Nat.zero_le _) (zz_cat10 _ (Nat.le_of_ble_eq_true rfl)) (fun r76 M77 hw => zz_kI hw (fun x80 hw => ?_)) (fun _ _ _ h9 => h9.elim) rfl
              refine zz_if_eq (tgt := 151) C dX4_line_130 (by decide) hw (fun hw => ?_) (fun hw => ?_)
              · refine zz_subP [] rfl ?_
                exact ok_X4_line_B151 C E hH hR hw
              · refine zz_aload_n C dX4_line_133 rfl 0 rfl ?_
                obtain ⟨a9, t9, b9, fs9, hro, hL, rfl, hw⟩ := ztyS hw
                refine zz_callV (r := (zR_16, zT_16, 24)) (As := []) (rest := []) (mc := 0) (ms := 0) C hR hro dX4_line_134 (Or.inl q2577) q2579 (Or.inl qs40) zl_DebateHallModel zk_X4_name (Or.inl rfl) zy_X4_name rfl (by decide) (by decide) hL (ok_X4_name (zz_hl C) hw) (Nat.zero_le _) (Nat.zero_le _) (zz_cat10 _ (Nat.le_of_ble_eq_true rfl)) (fun r81 M82 hw => zz_kI hw (fun x85 hw => ?_)) (fun _ _ _ h9 => h9.elim) rfl
                refine zz_if_eq (tgt := 151) C dX4_line_137 (by decide) hw (fun hw => ?_) (fun hw => ?_)
                · refine zz_subP [] rfl ?_
                  exact ok_X4_line_B151 C E hH hR hw
                · refine zz_aload_n C dX4_line_140 rfl 0 rfl ?_
                  obtain ⟨a9, t9, b9, fs9, hro, hL, rfl, hw⟩ := ztyS hw
                  refine zz_callV (r := (zR_16, zT_16, 24)) (As := []) (rest := []) (mc := 0) (ms := 0) C hR hro dX4_line_141 (Or.inl q2597) q2599 (Or.inl qs42) zl_DebateHallModel zk_X4_rest (Or.inl rfl) zy_X4_rest rfl (by decide) (by decide) hL (ok_X4_rest (zz_hl C) hw) (Nat.zero_le _) (Nat.zero_le _) (zz_cat10 _ (Nat.le_of_ble_eq_true rfl)) (fun r86 M87 hw => zz_kI hw (fun x90 hw => ?_)) (fun _ _ _ h9 => h9.elim) rfl
                  refine zz_if_eq (tgt := 151) C dX4_line_144 (by decide) hw (fun hw => ?_) (fun hw => ?_)
                  · refine zz_subP [] rfl ?_
                    exact ok_X4_line_B151 C E hH hR hw
                  · refine zz_iconst (v := (1 : Int32)) C dX4_line_147 (by decide) ?_
                    refine zz_goto (tgt := 152) C dX4_line_148 (by decide) ?_
                    refine zz_subP [] rfl ?_
                    exact ok_X4_line_B152 C E hH hR hw
    · refine zz_aload_n C dX4_line_47 rfl 0 rfl ?_
      obtain ⟨a9, t9, b9, fs9, hro, hL, rfl, hw⟩ := ztyS hw
      refine zz_callV (r := (zR_16, zT_16, 24)) (As := []) (rest := []) (mc := 0) (ms := 0) C hR hro dX4_line_48 (Or.inl q2577) q2579 (Or.inl qs40) zl_DebateHallModel zk_X4_name (Or.inl rfl) zy_X4_name rfl (by decide) (by decide) hL (ok_X4_name (zz_hl C) hw) (Nat.zero_le _) (Nat.zero_le _) (zz_cat10 _ (Nat.le_of_ble_eq_true rfl)) (fun r91 M92 hw => zz_kI hw (fun x95 hw => ?_)) (fun _ _ _ h9 => h9.elim) rfl
      refine zz_if_eq (tgt := 90) C dX4_line_51 (by decide) hw (fun hw => ?_) (fun hw => ?_)
      · refine zz_subP [] rfl ?_
        exact ok_X4_line_B90 C E hH hR hw
      · refine zz_aload_n C dX4_line_54 rfl 0 rfl ?_
        refine zz_ldcS (j := 18) C dX4_line_55 rfl ?_
        obtain ⟨a9, t9, b9, fs9, hro, hL, rfl, hw⟩ := ztyS hw
        refine zz_callV (r := (zR_16, zT_16, 24)) (As := [va_rf (some (zz_ad (zz_Zof G) 118))]) (rest := []) (mc := 0) (ms := 0) C hR hro dX4_line_57 (Or.inl q2560) q2562 (Or.inl qs37) zl_DebateHallModel zk_X4_word (Or.inl rfl) zy_X4_word rfl (by decide) (by decide) hL (ok_X4_word (zz_hl C) hw) (Nat.zero_le _) (Nat.zero_le _) (zz_cat10 _ (Nat.le_of_ble_eq_true rfl)) (fun r96 M97 hw => zz_kI hw (fun x100 hw => ?_)) (fun _ _ _ h9 => h9.elim) rfl
        refine zz_if_eq (tgt := 90) C dX4_line_60 (by decide) hw (fun hw => ?_) (fun hw => ?_)
        · refine zz_subP [] rfl ?_
          exact ok_X4_line_B90 C E hH hR hw
        · refine zz_aload_n C dX4_line_63 rfl 0 rfl ?_
          obtain ⟨a9, t9, b9, fs9, hro, hL, rfl, hw⟩ := ztyS hw
          refine zz_callV (r := (zR_16, zT_16, 24)) (As := []) (rest := []) (mc := 0) (ms := 0) C hR hro dX4_line_64 (Or.inl q2577) q2579 (Or.inl qs40) zl_DebateHallModel zk_X4_name (Or.inl rfl) zy_X4_name rfl (by decide) (by decide) hL (ok_X4_name (zz_hl C) hw) (Nat.zero_le _) (Nat.zero_le _) (zz_cat10 _ (Nat.le_of_ble_eq_true rfl)) (fun r101 M102 hw => zz_kI hw (fun x105 hw => ?_)) (fun _ _ _ h9 => h9.elim) rfl
          refine zz_if_eq (tgt := 90) C dX4_line_67 (by decide) hw (fun hw => ?_) (fun hw => ?_)
          · refine zz_subP [] rfl ?_
            exact ok_X4_line_B90 C E hH hR hw
          · refine zz_aload_n C dX4_line_70 rfl 0 rfl ?_
            refine zz_ldcS (j := 78) C dX4_line_71 rfl ?_
            obtain ⟨a9, t9, b9, fs9, hro, hL, rfl, hw⟩ := ztyS hw
            refine zz_callV (r := (zR_16, zT_16, 24)) (As := [va_rf (some (zz_ad (zz_Zof G) 178))]) (rest := []) (mc := 0) (ms := 0) C hR hro dX4_line_73 (Or.inl q2560) q2562 (Or.inl qs37) zl_DebateHallModel zk_X4_word (Or.inl rfl) zy_X4_word rfl (by decide) (by decide) hL (ok_X4_word (zz_hl C) hw) (Nat.zero_le _) (Nat.zero_le _) (zz_cat10 _ (Nat.le_of_ble_eq_true rfl)) (fun r106 M107 hw => zz_kI hw (fun x110 hw => ?_)) (fun _ _ _ h9 => h9.elim) rfl
            refine zz_if_eq (tgt := 86) C dX4_line_76 (by decide) hw (fun hw => ?_) (fun hw => ?_)
            · refine zz_subP [] rfl ?_
              exact ok_X4_line_B86 C E hH hR hw
            · refine zz_aload_n C dX4_line_79 rfl 0 rfl ?_
              obtain ⟨a9, t9, b9, fs9, hro, hL, rfl, hw⟩ := ztyS hw
              refine zz_callV (r := (zR_16, zT_16, 24)) (As := []) (rest := []) (mc := 0) (ms := 0) C hR hro dX4_line_80 (Or.inl q2587) q2589 (Or.inl qs41) zl_DebateHallModel zk_X4_number (Or.inl rfl) zy_X4_number rfl (by decide) (by decide) hL (ok_X4_number (zz_hl C) hw) (Nat.zero_le _) (Nat.zero_le _) (zz_cat10 _ (Nat.le_of_ble_eq_true rfl)) (fun r111 M112 hw => zz_kI hw (fun x115 hw => ?_)) (fun _ _ _ h9 => h9.elim) rfl
              refine zz_if_eq (tgt := 90) C dX4_line_83 (by decide) hw (fun hw => ?_) (fun hw => ?_)
              · refine zz_subP [] rfl ?_
                exact ok_X4_line_B90 C E hH hR hw
              · refine zz_subP [] rfl ?_
                exact ok_X4_line_B86 C E hH hR hw
  · refine zz_aload_n C dX4_line_9 rfl 0 rfl ?_
    obtain ⟨a9, t9, b9, fs9, hro, hL, rfl, hw⟩ := ztyS hw
    refine zz_callV (r := (zR_16, zT_16, 24)) (As := []) (rest := []) (mc := 0) (ms := 0) C hR hro dX4_line_10 (Or.inl q2577) q2579 (Or.inl qs40) zl_DebateHallModel zk_X4_name (Or.inl rfl) zy_X4_name rfl (by decide) (by decide) hL (ok_X4_name (zz_hl C) hw) (Nat.zero_le _) (Nat.zero_le _) (zz_cat10 _ (Nat.le_of_ble_eq_true rfl)) (fun r116 M117 hw => zz_kI hw (fun x120 hw => ?_)) (fun _ _ _ h9 => h9.elim) rfl
    refine zz_if_eq (tgt := 36) C dX4_line_13 (by decide) hw (fun hw => ?_) (fun hw => ?_)
    · refine zz_subP [] rfl ?_
      exact ok_X4_line_B36 C E hH hR hw
    · refine zz_aload_n C dX4_line_16 rfl 0 rfl ?_
      refine zz_ldcS (j := 74) C dX4_line_17 rfl ?_
      obtain ⟨a9, t9, b9, fs9, hro, hL, rfl, hw⟩ := ztyS hw
      refine zz_callV (r := (zR_16, zT_16, 24)) (As := [va_rf (some (zz_ad (zz_Zof G) 174))]) (rest := []) (mc := 0) (ms := 0) C hR hro dX4_line_19 (Or.inl q2560) q2562 (Or.inl qs37) zl_DebateHallModel zk_X4_word (Or.inl rfl) zy_X4_word rfl (by decide) (by decide) hL (ok_X4_word (zz_hl C) hw) (Nat.zero_le _) (Nat.zero_le _) (zz_cat10 _ (Nat.le_of_ble_eq_true rfl)) (fun r121 M122 hw => zz_kI hw (fun x125 hw => ?_)) (fun _ _ _ h9 => h9.elim) rfl
      refine zz_if_eq (tgt := 32) C dX4_line_22 (by decide) hw (fun hw => ?_) (fun hw => ?_)
      · refine zz_subP [] rfl ?_
        exact ok_X4_line_B32 C E hH hR hw
      · refine zz_aload_n C dX4_line_25 rfl 0 rfl ?_
        obtain ⟨a9, t9, b9, fs9, hro, hL, rfl, hw⟩ := ztyS hw
        refine zz_callV (r := (zR_16, zT_16, 24)) (As := []) (rest := []) (mc := 0) (ms := 0) C hR hro dX4_line_26 (Or.inl q2587) q2589 (Or.inl qs41) zl_DebateHallModel zk_X4_number (Or.inl rfl) zy_X4_number rfl (by decide) (by decide) hL (ok_X4_number (zz_hl C) hw) (Nat.zero_le _) (Nat.zero_le _) (zz_cat10 _ (Nat.le_of_ble_eq_true rfl)) (fun r126 M127 hw => zz_kI hw (fun x130 hw => ?_)) (fun _ _ _ h9 => h9.elim) rfl
        refine zz_if_eq (tgt := 36) C dX4_line_29 (by decide) hw (fun hw => ?_) (fun hw => ?_)
        · refine zz_subP [] rfl ?_
          exact ok_X4_line_B36 C E hH hR hw
        · refine zz_subP [] rfl ?_
          exact ok_X4_line_B32 C E hH hR hw
abbrev cX4_isText : ByteArray := prog_25_method_29_code
def yX4_isText : MethodName := ⟨"DebateHallModel", "isText", "()Z"⟩
def dkwX4_isText_1 : List UInt8 := [42, 42, 16, 59, 182, 0, 241, 182, 0, 179, 154, 255, 227, 3, 172, 4, 172]
abbrev dktX4_isText_1 : List UInt8 := dkwX4_isText_1 ++ []
def dkwX4_isText_0 : List UInt8 := [42, 3, 181, 0, 168, 42, 180, 0, 34, 42, 180, 0, 168, 46, 153, 0, 25, 42, 182, 0, 252, 153, 0, 16]
abbrev dktX4_isText_0 : List UInt8 := dkwX4_isText_0 ++ dktX4_isText_1
theorem dksX4_isText_0 : cX4_isText.data.toList.drop 0 = dktX4_isText_0 := by decide +kernel
theorem dksX4_isText_1 : cX4_isText.data.toList.drop 24 = dktX4_isText_1 := dk_seg dksX4_isText_0 24 rfl rfl
theorem dX4_isText_0 : decode cX4_isText 0 = .ok (.aload_n 0, 1) := dk_42 (dk_at dksX4_isText_0 0 rfl rfl)
theorem dX4_isText_1 : decode cX4_isText 1 = .ok (.iconst 0, 1) := dk_3 (dk_at dksX4_isText_0 1 rfl rfl)
theorem dX4_isText_2 : decode cX4_isText 2 = .ok (.putfield 168, 3) := dk_181 0 168 (dk_at dksX4_isText_0 2 rfl rfl)
theorem dX4_isText_5 : decode cX4_isText 5 = .ok (.aload_n 0, 1) := dk_42 (dk_at dksX4_isText_0 5 rfl rfl)
theorem dX4_isText_6 : decode cX4_isText 6 = .ok (.getfield 34, 3) := dk_180 0 34 (dk_at dksX4_isText_0 6 rfl rfl)
theorem dX4_isText_9 : decode cX4_isText 9 = .ok (.aload_n 0, 1) := dk_42 (dk_at dksX4_isText_0 9 rfl rfl)
theorem dX4_isText_10 : decode cX4_isText 10 = .ok (.getfield 168, 3) := dk_180 0 168 (dk_at dksX4_isText_0 10 rfl rfl)
theorem dX4_isText_13 : decode cX4_isText 13 = .ok (.iaload, 1) := dk_46 (dk_at dksX4_isText_0 13 rfl rfl)
theorem dX4_isText_14 : decode cX4_isText 14 = .ok (.ifCond .eq 25, 3) := dk_153 0 25 (dk_at dksX4_isText_0 14 rfl rfl)
theorem dX4_isText_17 : decode cX4_isText 17 = .ok (.aload_n 0, 1) := dk_42 (dk_at dksX4_isText_0 17 rfl rfl)
theorem dX4_isText_18 : decode cX4_isText 18 = .ok (.invokevirtual 252, 3) := dk_182 0 252 (dk_at dksX4_isText_0 18 rfl rfl)
theorem dX4_isText_21 : decode cX4_isText 21 = .ok (.ifCond .eq 16, 3) := dk_153 0 16 (dk_at dksX4_isText_0 21 rfl rfl)
theorem dX4_isText_24 : decode cX4_isText 24 = .ok (.aload_n 0, 1) := dk_42 (dk_at dksX4_isText_1 0 rfl rfl)
theorem dX4_isText_25 : decode cX4_isText 25 = .ok (.aload_n 0, 1) := dk_42 (dk_at dksX4_isText_1 1 rfl rfl)
theorem dX4_isText_26 : decode cX4_isText 26 = .ok (.bipush 59, 2) := dk_16 59 (dk_at dksX4_isText_1 2 rfl rfl)
theorem dX4_isText_28 : decode cX4_isText 28 = .ok (.invokevirtual 241, 3) := dk_182 0 241 (dk_at dksX4_isText_1 4 rfl rfl)
theorem dX4_isText_31 : decode cX4_isText 31 = .ok (.invokevirtual 179, 3) := dk_182 0 179 (dk_at dksX4_isText_1 7 rfl rfl)
theorem dX4_isText_34 : decode cX4_isText 34 = .ok (.ifCond .ne (-29), 3) := dk_154 255 227 (dk_at dksX4_isText_1 10 rfl rfl)
theorem dX4_isText_37 : decode cX4_isText 37 = .ok (.iconst 0, 1) := dk_3 (dk_at dksX4_isText_1 13 rfl rfl)
theorem dX4_isText_38 : decode cX4_isText 38 = .ok (.ireturn, 1) := dk_172 (dk_at dksX4_isText_1 14 rfl rfl)
theorem dX4_isText_39 : decode cX4_isText 39 = .ok (.iconst 1, 1) := dk_4 (dk_at dksX4_isText_1 15 rfl rfl)
theorem dX4_isText_40 : decode cX4_isText 40 = .ok (.ireturn, 1) := dk_172 (dk_at dksX4_isText_1 16 rfl rfl)
theorem q2558 : (Jvm.Cond.code ({ cls := "DebateHallModel", name := "line", desc := "()Z" } : Jvm.MethodName) prog_25_method_24_code (1 : Nat) (Option.some Jvm.ClassFile.FieldType.boolean)) ∈ lw_all := lw_g (lw_at lw_m11 78 rfl) rfl
theorem zk_X4_line : zz_cd yX4_line cX4_line 1 (some .boolean) none ∈ lw_all := q2558
theorem zy_X4_line : zz_yok yX4_line 0 = true := by decide +kernel
theorem q2555 : (Jvm.Cond.methodLink "DebateHallModel" (252 : Nat) ({ cls := "DebateHallModel", name := "line", desc := "()Z" } : Jvm.MethodName)) ∈ lw_all := lw_g (lw_at lw_m11 75 rfl) rfl
theorem q2557 : (Jvm.Cond.instanceMethod ({ cls := "DebateHallModel", name := "line", desc := "()Z" } : Jvm.MethodName)) ∈ lw_all := lw_g (lw_at lw_m11 77 rfl) rfl
def wp_X4_isText_B37 (Z : zzG) (K : Option Value → zzM → Prop) (M : zzM) : Prop := narrow .boolean (.int (0 : Int32)) = .int (0 : Int32) ∧ K (some (.int (0 : Int32))) M
def wp_X4_isText_L5 (Z : zzG) (K : Option Value → zzM → Prop) : Nat → Option Nat → zzM → Prop
  | 0, _, _ => False
  | n + 1, v0, M => zgA Z M v0 [16] 7 fun x2 => zgI Z M v0 [16] 10 fun x3 => zaI Z M x2 [100] x3 fun x4 => if x4 = 0 then (narrow .boolean (.int (1 : Int32)) = .int (1 : Int32) ∧ K (some (.int (1 : Int32))) M) else (zty Z M v0 fun t => t = 16 ∧ wp_X4_line Z v0 M (fun r5 M6 => zrI r5 fun x9 => if x9 = 0 then (wp_X4_isText_B37 Z K M6) else (zty Z M6 v0 fun t => t = 16 ∧ wp_X4_isSymbol Z v0 (59 : Int32) M6 (fun r10 M11 => zrI r10 fun x14 => zty Z M11 v0 fun t => t = 16 ∧ wp_X4_past Z v0 x14 M11 (fun r15 M16 => zrI r15 fun x19 => if x19 = 0 then (wp_X4_isText_B37 Z K M16) else (wp_X4_isText_L5 Z K n v0 M16))))))
def wp_X4_isText (Z : zzG) (this : Option Nat) (M : zzM) (K : Option Value → zzM → Prop) : Prop := zput Z M this [16] 10 (.int (0 : Int32)) fun M1 => ∃ n5 : Nat, wp_X4_isText_L5 Z K n5 this M1
theorem ok_X4_isText_B37 {G : zzX} (C : zz_C G cX4_isText "DebateHallModel" 1) {K : Option Value → zzM → Prop} (E : zz_E G (some .boolean) K (fun _ _ _ => False)) (hH : zz_H G []) (hR : zz_Rm G 71) {M : zzM} {bc bs : Nat} (hw : wp_X4_isText_B37 (zz_Zof G) K M) : zz_T G 1 M bc bs 37 [] [] := by
  unfold wp_X4_isText_B37 at hw
  refine zz_iconst (v := (0 : Int32)) C dX4_isText_37 (by decide) ?_
  exact zz_zret C E dX4_isText_38 hw
theorem ok_X4_isText_L5 {G : zzX} (C : zz_C G cX4_isText "DebateHallModel" 1) {K : Option Value → zzM → Prop} (E : zz_E G (some .boolean) K (fun _ _ _ => False)) (hH : zz_H G []) (hR : zz_Rm G 71) : ∀ (n : Nat) (v0 : Option Nat) (M : zzM) (bc bs : Nat), wp_X4_isText_L5 (zz_Zof G) K n v0 M → zz_T G 1 M bc bs 5 [(0, va_rf v0)] [] := by
  intro n
  induction n with
  | zero =>
    intro v0 M bc bs hw
    exact False.elim hw
  | succ n ih =>
    intro v0 M bc bs hw
    refine zz_aload_n C dX4_isText_5 rfl 0 rfl ?_
    refine zz_getA C dX4_isText_6 (Or.inl q2443) zf_16_7_ebateHallModel hw (fun x2 hw => ?_)
    refine zz_aload_n C dX4_isText_9 rfl 0 rfl ?_
    refine zz_getI C dX4_isText_10 (Or.inl q2446) zf_16_10_ebateHallModel hw (fun x3 hw => ?_)
    refine zz_iald C dX4_isText_13 hw (fun x4 hw => ?_)
    refine zz_if_eq (tgt := 39) C dX4_isText_14 (by decide) hw (fun hw => ?_) (fun hw => ?_)
    · refine zz_iconst (v := (1 : Int32)) C dX4_isText_39 (by decide) ?_
      exact zz_zret C E dX4_isText_40 hw
    · refine zz_aload_n C dX4_isText_17 rfl 0 rfl ?_
      obtain ⟨a9, t9, b9, fs9, hro, hL, rfl, hw⟩ := ztyS hw
      refine zz_callV (r := (zR_16, zT_16, 24)) (As := []) (rest := []) (mc := 0) (ms := 0) C hR hro dX4_isText_18 (Or.inl q2555) q2557 (Or.inl qs36) zl_DebateHallModel zk_X4_line (Or.inl rfl) zy_X4_line rfl (by decide) (by decide) hL (ok_X4_line (zz_hl C) hw) (Nat.zero_le _) (Nat.zero_le _) (zz_cat10 _ (Nat.le_of_ble_eq_true rfl)) (fun r5 M6 hw => zz_kI hw (fun x9 hw => ?_)) (fun _ _ _ h9 => h9.elim) rfl
      refine zz_if_eq (tgt := 37) C dX4_isText_21 (by decide) hw (fun hw => ?_) (fun hw => ?_)
      · refine zz_subP [] rfl ?_
        exact ok_X4_isText_B37 C E hH hR hw
      · refine zz_aload_n C dX4_isText_24 rfl 0 rfl ?_
        refine zz_aload_n C dX4_isText_25 rfl 0 rfl ?_
        refine zz_bipush (v := (59 : Int32)) C dX4_isText_26 (by decide) ?_
        obtain ⟨a9, t9, b9, fs9, hro, hL, rfl, hw⟩ := ztyS hw
        refine zz_callV (r := (zR_16, zT_16, 24)) (As := [.int (59 : Int32)]) (rest := [va_rf v0]) (mc := 0) (ms := 0) C hR hro dX4_isText_28 (Or.inl q2616) q2618 (Or.inl qs46) zl_DebateHallModel zk_X4_isSymbol (Or.inl rfl) zy_X4_isSymbol rfl (by decide) (by decide) hL (ok_X4_isSymbol (zz_hl C) hw) (Nat.zero_le _) (Nat.zero_le _) (zz_cat10 _ (Nat.le_of_ble_eq_true rfl)) (fun r10 M11 hw => zz_kI hw (fun x14 hw => ?_)) (fun _ _ _ h9 => h9.elim) rfl
        obtain ⟨a9, t9, b9, fs9, hro, hL, rfl, hw⟩ := ztyS hw
        refine zz_callV (r := (zR_16, zT_16, 24)) (As := [.int x14]) (rest := []) (mc := 0) (ms := 0) C hR hro dX4_isText_31 (Or.inl q2573) q2575 (Or.inl qs39) zl_DebateHallModel zk_X4_past (Or.inl rfl) zy_X4_past rfl (by decide) (by decide) hL (ok_X4_past (zz_hl C) hw) (Nat.zero_le _) (Nat.zero_le _) (zz_cat10 _ (Nat.le_of_ble_eq_true rfl)) (fun r15 M16 hw => zz_kI hw (fun x19 hw => ?_)) (fun _ _ _ h9 => h9.elim) rfl
        refine zz_if_ne (tgt := 5) C dX4_isText_34 (by decide) hw (fun hw => ?_) (fun hw => ?_)
        · refine zz_subP [0] rfl ?_
          exact ih _ _ _ _ hw
        · refine zz_subP [] rfl ?_
          exact ok_X4_isText_B37 C E hH hR hw
theorem ok_X4_isText {Z : zzG} {l : Launch} (hl : l.stackTraces = false) {this : Option Nat} {M : zzM} {mc ms : Nat} {K : Option Value → zzM → Prop} (hw : wp_X4_isText Z this M K) : zz_Met Z l yX4_isText (zz_ws yX4_isText cX4_isText 1 (some .boolean) none) 71 [va_rf this] M mc ms K (fun _ _ _ => False) := by
  refine zz_ofW hl (plainFor_of_name (by decide)) (by simp only [zz_sl0, zz_slI, zz_slJ, zz_slA] <;> decide) (fun G hZ hll C E hH hR hin => ?_)
  subst hZ
  subst hll
  rw [show lv_args 0 [va_rf this] = [(0, va_rf this)] by simp only [zz_la0, zz_laI, zz_laJ, zz_laA]]
  unfold wp_X4_isText at hw
  refine zz_aload_n C dX4_isText_0 rfl 0 rfl ?_
  refine zz_iconst (v := (0 : Int32)) C dX4_isText_1 (by decide) ?_
  refine zz_put C dX4_isText_2 (Or.inl q2446) zf_16_10_ebateHallModel zp_16_10 (zz_hn1 ⟨rfl, rfl⟩) hw (fun M1 hw => ?_)
  refine zz_subP [0] rfl ?_
  obtain ⟨n5, hw⟩ := hw
  exact ok_X4_isText_L5 C E hH hR n5 _ _ _ _ hw
abbrev cX4_fail : ByteArray := prog_25_method_30_code
def yX4_fail : MethodName := ⟨"DebateHallModel", "fail", "(II)I"⟩
def dkwX4_fail_0 : List UInt8 := [42, 42, 180, 0, 37, 28, 46, 181, 0, 23, 27, 172]
abbrev dktX4_fail_0 : List UInt8 := dkwX4_fail_0 ++ []
theorem dksX4_fail_0 : cX4_fail.data.toList.drop 0 = dktX4_fail_0 := by decide +kernel
theorem dX4_fail_0 : decode cX4_fail 0 = .ok (.aload_n 0, 1) := dk_42 (dk_at dksX4_fail_0 0 rfl rfl)
theorem dX4_fail_1 : decode cX4_fail 1 = .ok (.aload_n 0, 1) := dk_42 (dk_at dksX4_fail_0 1 rfl rfl)
theorem dX4_fail_2 : decode cX4_fail 2 = .ok (.getfield 37, 3) := dk_180 0 37 (dk_at dksX4_fail_0 2 rfl rfl)
theorem dX4_fail_5 : decode cX4_fail 5 = .ok (.iload_n 2, 1) := dk_28 (dk_at dksX4_fail_0 5 rfl rfl)
theorem dX4_fail_6 : decode cX4_fail 6 = .ok (.iaload, 1) := dk_46 (dk_at dksX4_fail_0 6 rfl rfl)
theorem dX4_fail_7 : decode cX4_fail 7 = .ok (.putfield 23, 3) := dk_181 0 23 (dk_at dksX4_fail_0 7 rfl rfl)
theorem dX4_fail_10 : decode cX4_fail 10 = .ok (.iload_n 1, 1) := dk_27 (dk_at dksX4_fail_0 10 rfl rfl)
theorem dX4_fail_11 : decode cX4_fail 11 = .ok (.ireturn, 1) := dk_172 (dk_at dksX4_fail_0 11 rfl rfl)
def wp_X4_fail (Z : zzG) (this : Option Nat) (p0 : Int32) (p1 : Int32) (M : zzM) (K : Option Value → zzM → Prop) : Prop := zgA Z M this [16] 8 fun x1 => zaI Z M x1 [100] p1 fun x2 => zput Z M this [16] 1 (.int x2) fun M3 => K (some (.int p0)) M3
theorem ok_X4_fail {Z : zzG} {l : Launch} (hl : l.stackTraces = false) {this : Option Nat} {p0 : Int32} {p1 : Int32} {M : zzM} {mc ms : Nat} {K : Option Value → zzM → Prop} (hw : wp_X4_fail Z this p0 p1 M K) : zz_Met Z l yX4_fail (zz_ws yX4_fail cX4_fail 3 (some .int) none) 1 [va_rf this, .int p0, .int p1] M mc ms K (fun _ _ _ => False) := by
  refine zz_ofW hl (plainFor_of_name (by decide)) (by simp only [zz_sl0, zz_slI, zz_slJ, zz_slA] <;> decide) (fun G hZ hll C E hH hR hin => ?_)
  subst hZ
  subst hll
  rw [show lv_args 0 [va_rf this, .int p0, .int p1] = [(0, va_rf this), (1, .int p0), (2, .int p1)] by simp only [zz_la0, zz_laI, zz_laJ, zz_laA]]
  unfold wp_X4_fail at hw
  refine zz_aload_n C dX4_fail_0 rfl 0 rfl ?_
  refine zz_aload_n C dX4_fail_1 rfl 0 rfl ?_
  refine zz_getA C dX4_fail_2 (Or.inl q2444) zf_16_8_ebateHallModel hw (fun x1 hw => ?_)
  refine zz_iload_n C dX4_fail_5 rfl 2 rfl ?_
  refine zz_iald C dX4_fail_6 hw (fun x2 hw => ?_)
  refine zz_put C dX4_fail_7 (Or.inl q2437) zf_16_1_ebateHallModel zp_16_1 (zz_hn1 ⟨rfl, rfl⟩) hw (fun M3 hw => ?_)
  refine zz_iload_n C dX4_fail_10 rfl 1 rfl ?_
  exact zz_iret C E dX4_fail_11 hw
abbrev cX5_copy : ByteArray := prog_26_method_2_code
def yX5_copy : MethodName := ⟨"DebateHallModel$State", "copy", "([I[I)V"⟩
def dkwX5_copy_0 : List UInt8 := [43, 3, 44, 3, 43, 190, 184, 0, 44, 177]
abbrev dktX5_copy_0 : List UInt8 := dkwX5_copy_0 ++ []
theorem dksX5_copy_0 : cX5_copy.data.toList.drop 0 = dktX5_copy_0 := by decide +kernel
theorem dX5_copy_0 : decode cX5_copy 0 = .ok (.aload_n 1, 1) := dk_43 (dk_at dksX5_copy_0 0 rfl rfl)
theorem dX5_copy_1 : decode cX5_copy 1 = .ok (.iconst 0, 1) := dk_3 (dk_at dksX5_copy_0 1 rfl rfl)
theorem dX5_copy_2 : decode cX5_copy 2 = .ok (.aload_n 2, 1) := dk_44 (dk_at dksX5_copy_0 2 rfl rfl)
theorem dX5_copy_3 : decode cX5_copy 3 = .ok (.iconst 0, 1) := dk_3 (dk_at dksX5_copy_0 3 rfl rfl)
theorem dX5_copy_4 : decode cX5_copy 4 = .ok (.aload_n 1, 1) := dk_43 (dk_at dksX5_copy_0 4 rfl rfl)
theorem dX5_copy_5 : decode cX5_copy 5 = .ok (.arraylength, 1) := dk_190 (dk_at dksX5_copy_0 5 rfl rfl)
theorem dX5_copy_6 : decode cX5_copy 6 = .ok (.invokestatic 44, 3) := dk_184 0 44 (dk_at dksX5_copy_0 6 rfl rfl)
theorem dX5_copy_9 : decode cX5_copy 9 = .ok (.return_, 1) := dk_177 (dk_at dksX5_copy_0 9 rfl rfl)
theorem q2638 : (Jvm.Cond.methodLink "DebateHallModel$State" (44 : Nat) ({ cls := "java/lang/System", name := "arraycopy", desc := "(Ljava/lang/Object;ILjava/lang/Object;II)V" } : Jvm.MethodName)) ∈ lw_all := lw_g (lw_at lw_m11 158 rfl) rfl
def wp_X5_copy (Z : zzG) (this : Option Nat) (p0 : Option Nat) (p1 : Option Nat) (M : zzM) (K : Option Value → zzM → Prop) : Prop := zlen Z M p0 fun x1 => zcopy Z M p0 p1 (0 : Int32) (0 : Int32) x1 fun M2 => K none M2
theorem ok_X5_copy {Z : zzG} {l : Launch} (hl : l.stackTraces = false) {this : Option Nat} {p0 : Option Nat} {p1 : Option Nat} {M : zzM} {mc ms : Nat} {K : Option Value → zzM → Prop} (hw : wp_X5_copy Z this p0 p1 M K) : zz_Met Z l yX5_copy (zz_ws yX5_copy cX5_copy 3 none none) 2 [va_rf this, va_rf p0, va_rf p1] M mc ms K (fun _ _ _ => False) := by
  refine zz_ofW hl (plainFor_of_name (by decide)) (by simp only [zz_sl0, zz_slI, zz_slJ, zz_slA] <;> decide) (fun G hZ hll C E hH hR hin => ?_)
  subst hZ
  subst hll
  rw [show lv_args 0 [va_rf this, va_rf p0, va_rf p1] = [(0, va_rf this), (1, va_rf p0), (2, va_rf p1)] by simp only [zz_la0, zz_laI, zz_laJ, zz_laA]]
  unfold wp_X5_copy at hw
  refine zz_aload_n C dX5_copy_0 rfl 1 rfl ?_
  refine zz_iconst (v := (0 : Int32)) C dX5_copy_1 (by decide) ?_
  refine zz_aload_n C dX5_copy_2 rfl 2 rfl ?_
  refine zz_iconst (v := (0 : Int32)) C dX5_copy_3 (by decide) ?_
  refine zz_aload_n C dX5_copy_4 rfl 1 rfl ?_
  refine zz_alen C dX5_copy_5 hw (fun x1 hw => ?_)
  refine zz_copy C hR (by decide) dX5_copy_6 q2638 q441 q440 zl_java_lang_System (zz_cat10 _ (Nat.le_of_ble_eq_true rfl)) hw (fun M2 hw => ?_)
  exact zz_vret C E dX5_copy_9 hw
abbrev cX5_become : ByteArray := prog_26_method_3_code
def yX5_become : MethodName := ⟨"DebateHallModel$State", "become", "(LDebateHallModel$State;)V"⟩
def dkwX5_become_5 : List UInt8 := [42, 43, 180, 0, 41, 42, 180, 0, 41, 182, 0, 57, 177]
abbrev dktX5_become_5 : List UInt8 := dkwX5_become_5 ++ []
def dkwX5_become_4 : List UInt8 := [42, 43, 180, 0, 35, 42, 180, 0, 35, 182, 0, 57, 42, 43, 180, 0, 38, 42, 180, 0, 38, 182, 0, 57]
abbrev dktX5_become_4 : List UInt8 := dkwX5_become_4 ++ dktX5_become_5
def dkwX5_become_3 : List UInt8 := [42, 43, 180, 0, 29, 42, 180, 0, 29, 182, 0, 57, 42, 43, 180, 0, 32, 42, 180, 0, 32, 182, 0, 57]
abbrev dktX5_become_3 : List UInt8 := dkwX5_become_3 ++ dktX5_become_4
def dkwX5_become_2 : List UInt8 := [42, 43, 180, 0, 19, 42, 180, 0, 19, 182, 0, 57, 42, 43, 180, 0, 26, 42, 180, 0, 26, 182, 0, 57]
abbrev dktX5_become_2 : List UInt8 := dkwX5_become_2 ++ dktX5_become_3
def dkwX5_become_1 : List UInt8 := [180, 0, 15, 3, 16, 6, 184, 0, 44, 43, 180, 0, 23, 3, 42, 180, 0, 23, 3, 16, 40, 184, 0, 44]
abbrev dktX5_become_1 : List UInt8 := dkwX5_become_1 ++ dktX5_become_2
def dkwX5_become_0 : List UInt8 := [42, 43, 180, 0, 50, 181, 0, 50, 42, 43, 180, 0, 54, 181, 0, 54, 43, 180, 0, 15, 3, 42]
abbrev dktX5_become_0 : List UInt8 := dkwX5_become_0 ++ dktX5_become_1
theorem dksX5_become_0 : cX5_become.data.toList.drop 0 = dktX5_become_0 := by decide +kernel
theorem dksX5_become_1 : cX5_become.data.toList.drop 22 = dktX5_become_1 := dk_seg dksX5_become_0 22 rfl rfl
theorem dksX5_become_2 : cX5_become.data.toList.drop 46 = dktX5_become_2 := dk_seg dksX5_become_1 24 rfl rfl
theorem dksX5_become_3 : cX5_become.data.toList.drop 70 = dktX5_become_3 := dk_seg dksX5_become_2 24 rfl rfl
theorem dksX5_become_4 : cX5_become.data.toList.drop 94 = dktX5_become_4 := dk_seg dksX5_become_3 24 rfl rfl
theorem dksX5_become_5 : cX5_become.data.toList.drop 118 = dktX5_become_5 := dk_seg dksX5_become_4 24 rfl rfl
theorem dX5_become_0 : decode cX5_become 0 = .ok (.aload_n 0, 1) := dk_42 (dk_at dksX5_become_0 0 rfl rfl)
theorem dX5_become_1 : decode cX5_become 1 = .ok (.aload_n 1, 1) := dk_43 (dk_at dksX5_become_0 1 rfl rfl)
theorem dX5_become_2 : decode cX5_become 2 = .ok (.getfield 50, 3) := dk_180 0 50 (dk_at dksX5_become_0 2 rfl rfl)
theorem dX5_become_5 : decode cX5_become 5 = .ok (.putfield 50, 3) := dk_181 0 50 (dk_at dksX5_become_0 5 rfl rfl)
theorem dX5_become_8 : decode cX5_become 8 = .ok (.aload_n 0, 1) := dk_42 (dk_at dksX5_become_0 8 rfl rfl)
theorem dX5_become_9 : decode cX5_become 9 = .ok (.aload_n 1, 1) := dk_43 (dk_at dksX5_become_0 9 rfl rfl)
theorem dX5_become_10 : decode cX5_become 10 = .ok (.getfield 54, 3) := dk_180 0 54 (dk_at dksX5_become_0 10 rfl rfl)
theorem dX5_become_13 : decode cX5_become 13 = .ok (.putfield 54, 3) := dk_181 0 54 (dk_at dksX5_become_0 13 rfl rfl)
theorem dX5_become_16 : decode cX5_become 16 = .ok (.aload_n 1, 1) := dk_43 (dk_at dksX5_become_0 16 rfl rfl)
theorem dX5_become_17 : decode cX5_become 17 = .ok (.getfield 15, 3) := dk_180 0 15 (dk_at dksX5_become_0 17 rfl rfl)
theorem dX5_become_20 : decode cX5_become 20 = .ok (.iconst 0, 1) := dk_3 (dk_at dksX5_become_0 20 rfl rfl)
theorem dX5_become_21 : decode cX5_become 21 = .ok (.aload_n 0, 1) := dk_42 (dk_at dksX5_become_0 21 rfl rfl)
theorem dX5_become_22 : decode cX5_become 22 = .ok (.getfield 15, 3) := dk_180 0 15 (dk_at dksX5_become_1 0 rfl rfl)
theorem dX5_become_25 : decode cX5_become 25 = .ok (.iconst 0, 1) := dk_3 (dk_at dksX5_become_1 3 rfl rfl)
theorem dX5_become_26 : decode cX5_become 26 = .ok (.bipush 6, 2) := dk_16 6 (dk_at dksX5_become_1 4 rfl rfl)
theorem dX5_become_28 : decode cX5_become 28 = .ok (.invokestatic 44, 3) := dk_184 0 44 (dk_at dksX5_become_1 6 rfl rfl)
theorem dX5_become_31 : decode cX5_become 31 = .ok (.aload_n 1, 1) := dk_43 (dk_at dksX5_become_1 9 rfl rfl)
theorem dX5_become_32 : decode cX5_become 32 = .ok (.getfield 23, 3) := dk_180 0 23 (dk_at dksX5_become_1 10 rfl rfl)
theorem dX5_become_35 : decode cX5_become 35 = .ok (.iconst 0, 1) := dk_3 (dk_at dksX5_become_1 13 rfl rfl)
theorem dX5_become_36 : decode cX5_become 36 = .ok (.aload_n 0, 1) := dk_42 (dk_at dksX5_become_1 14 rfl rfl)
theorem dX5_become_37 : decode cX5_become 37 = .ok (.getfield 23, 3) := dk_180 0 23 (dk_at dksX5_become_1 15 rfl rfl)
theorem dX5_become_40 : decode cX5_become 40 = .ok (.iconst 0, 1) := dk_3 (dk_at dksX5_become_1 18 rfl rfl)
theorem dX5_become_41 : decode cX5_become 41 = .ok (.bipush 40, 2) := dk_16 40 (dk_at dksX5_become_1 19 rfl rfl)
theorem dX5_become_43 : decode cX5_become 43 = .ok (.invokestatic 44, 3) := dk_184 0 44 (dk_at dksX5_become_1 21 rfl rfl)
theorem dX5_become_46 : decode cX5_become 46 = .ok (.aload_n 0, 1) := dk_42 (dk_at dksX5_become_2 0 rfl rfl)
theorem dX5_become_47 : decode cX5_become 47 = .ok (.aload_n 1, 1) := dk_43 (dk_at dksX5_become_2 1 rfl rfl)
theorem dX5_become_48 : decode cX5_become 48 = .ok (.getfield 19, 3) := dk_180 0 19 (dk_at dksX5_become_2 2 rfl rfl)
theorem dX5_become_51 : decode cX5_become 51 = .ok (.aload_n 0, 1) := dk_42 (dk_at dksX5_become_2 5 rfl rfl)
theorem dX5_become_52 : decode cX5_become 52 = .ok (.getfield 19, 3) := dk_180 0 19 (dk_at dksX5_become_2 6 rfl rfl)
theorem dX5_become_55 : decode cX5_become 55 = .ok (.invokevirtual 57, 3) := dk_182 0 57 (dk_at dksX5_become_2 9 rfl rfl)
theorem dX5_become_58 : decode cX5_become 58 = .ok (.aload_n 0, 1) := dk_42 (dk_at dksX5_become_2 12 rfl rfl)
theorem dX5_become_59 : decode cX5_become 59 = .ok (.aload_n 1, 1) := dk_43 (dk_at dksX5_become_2 13 rfl rfl)
theorem dX5_become_60 : decode cX5_become 60 = .ok (.getfield 26, 3) := dk_180 0 26 (dk_at dksX5_become_2 14 rfl rfl)
theorem dX5_become_63 : decode cX5_become 63 = .ok (.aload_n 0, 1) := dk_42 (dk_at dksX5_become_2 17 rfl rfl)
theorem dX5_become_64 : decode cX5_become 64 = .ok (.getfield 26, 3) := dk_180 0 26 (dk_at dksX5_become_2 18 rfl rfl)
theorem dX5_become_67 : decode cX5_become 67 = .ok (.invokevirtual 57, 3) := dk_182 0 57 (dk_at dksX5_become_2 21 rfl rfl)
theorem dX5_become_70 : decode cX5_become 70 = .ok (.aload_n 0, 1) := dk_42 (dk_at dksX5_become_3 0 rfl rfl)
theorem dX5_become_71 : decode cX5_become 71 = .ok (.aload_n 1, 1) := dk_43 (dk_at dksX5_become_3 1 rfl rfl)
theorem dX5_become_72 : decode cX5_become 72 = .ok (.getfield 29, 3) := dk_180 0 29 (dk_at dksX5_become_3 2 rfl rfl)
theorem dX5_become_75 : decode cX5_become 75 = .ok (.aload_n 0, 1) := dk_42 (dk_at dksX5_become_3 5 rfl rfl)
theorem dX5_become_76 : decode cX5_become 76 = .ok (.getfield 29, 3) := dk_180 0 29 (dk_at dksX5_become_3 6 rfl rfl)
theorem dX5_become_79 : decode cX5_become 79 = .ok (.invokevirtual 57, 3) := dk_182 0 57 (dk_at dksX5_become_3 9 rfl rfl)
theorem dX5_become_82 : decode cX5_become 82 = .ok (.aload_n 0, 1) := dk_42 (dk_at dksX5_become_3 12 rfl rfl)
theorem dX5_become_83 : decode cX5_become 83 = .ok (.aload_n 1, 1) := dk_43 (dk_at dksX5_become_3 13 rfl rfl)
theorem dX5_become_84 : decode cX5_become 84 = .ok (.getfield 32, 3) := dk_180 0 32 (dk_at dksX5_become_3 14 rfl rfl)
theorem dX5_become_87 : decode cX5_become 87 = .ok (.aload_n 0, 1) := dk_42 (dk_at dksX5_become_3 17 rfl rfl)
theorem dX5_become_88 : decode cX5_become 88 = .ok (.getfield 32, 3) := dk_180 0 32 (dk_at dksX5_become_3 18 rfl rfl)
theorem dX5_become_91 : decode cX5_become 91 = .ok (.invokevirtual 57, 3) := dk_182 0 57 (dk_at dksX5_become_3 21 rfl rfl)
theorem dX5_become_94 : decode cX5_become 94 = .ok (.aload_n 0, 1) := dk_42 (dk_at dksX5_become_4 0 rfl rfl)
theorem dX5_become_95 : decode cX5_become 95 = .ok (.aload_n 1, 1) := dk_43 (dk_at dksX5_become_4 1 rfl rfl)
theorem dX5_become_96 : decode cX5_become 96 = .ok (.getfield 35, 3) := dk_180 0 35 (dk_at dksX5_become_4 2 rfl rfl)
theorem dX5_become_99 : decode cX5_become 99 = .ok (.aload_n 0, 1) := dk_42 (dk_at dksX5_become_4 5 rfl rfl)
theorem dX5_become_100 : decode cX5_become 100 = .ok (.getfield 35, 3) := dk_180 0 35 (dk_at dksX5_become_4 6 rfl rfl)
theorem dX5_become_103 : decode cX5_become 103 = .ok (.invokevirtual 57, 3) := dk_182 0 57 (dk_at dksX5_become_4 9 rfl rfl)
theorem dX5_become_106 : decode cX5_become 106 = .ok (.aload_n 0, 1) := dk_42 (dk_at dksX5_become_4 12 rfl rfl)
theorem dX5_become_107 : decode cX5_become 107 = .ok (.aload_n 1, 1) := dk_43 (dk_at dksX5_become_4 13 rfl rfl)
theorem dX5_become_108 : decode cX5_become 108 = .ok (.getfield 38, 3) := dk_180 0 38 (dk_at dksX5_become_4 14 rfl rfl)
theorem dX5_become_111 : decode cX5_become 111 = .ok (.aload_n 0, 1) := dk_42 (dk_at dksX5_become_4 17 rfl rfl)
theorem dX5_become_112 : decode cX5_become 112 = .ok (.getfield 38, 3) := dk_180 0 38 (dk_at dksX5_become_4 18 rfl rfl)
theorem dX5_become_115 : decode cX5_become 115 = .ok (.invokevirtual 57, 3) := dk_182 0 57 (dk_at dksX5_become_4 21 rfl rfl)
theorem dX5_become_118 : decode cX5_become 118 = .ok (.aload_n 0, 1) := dk_42 (dk_at dksX5_become_5 0 rfl rfl)
theorem dX5_become_119 : decode cX5_become 119 = .ok (.aload_n 1, 1) := dk_43 (dk_at dksX5_become_5 1 rfl rfl)
theorem dX5_become_120 : decode cX5_become 120 = .ok (.getfield 41, 3) := dk_180 0 41 (dk_at dksX5_become_5 2 rfl rfl)
theorem dX5_become_123 : decode cX5_become 123 = .ok (.aload_n 0, 1) := dk_42 (dk_at dksX5_become_5 5 rfl rfl)
theorem dX5_become_124 : decode cX5_become 124 = .ok (.getfield 41, 3) := dk_180 0 41 (dk_at dksX5_become_5 6 rfl rfl)
theorem dX5_become_127 : decode cX5_become 127 = .ok (.invokevirtual 57, 3) := dk_182 0 57 (dk_at dksX5_become_5 9 rfl rfl)
theorem dX5_become_130 : decode cX5_become 130 = .ok (.return_, 1) := dk_177 (dk_at dksX5_become_5 12 rfl rfl)
theorem q2387 : (Jvm.Cond.fieldLink "DebateHallModel$State" (50 : Nat) "DebateHallModel$State" "speakers" "I") ∈ lw_all := lw_g (lw_at lw_m10 147 rfl) rfl
theorem zp_17_0 : zz_pok [17] 0 := zz_pok1 (zR_17, zT_17, 12) (by decide) rfl rfl
theorem q2393 : (Jvm.Cond.fieldLink "DebateHallModel$State" (54 : Nat) "DebateHallModel$State" "items" "I") ∈ lw_all := lw_g (lw_at lw_m10 153 rfl) rfl
theorem zp_17_3 : zz_pok [17] 3 := zz_pok1 (zR_17, zT_17, 12) (by decide) rfl rfl
theorem q2642 : (Jvm.Cond.code ({ cls := "DebateHallModel$State", name := "copy", desc := "([I[I)V" } : Jvm.MethodName) prog_26_method_2_code (3 : Nat) (Option.none : Option Jvm.ClassFile.FieldType)) ∈ lw_all := lw_g (lw_at lw_m11 162 rfl) rfl
theorem zk_X5_copy : zz_cd yX5_copy cX5_copy 3 none none ∈ lw_all := q2642
theorem zy_X5_copy : zz_yok yX5_copy 2 = true := by decide +kernel
theorem q2639 : (Jvm.Cond.methodLink "DebateHallModel$State" (57 : Nat) ({ cls := "DebateHallModel$State", name := "copy", desc := "([I[I)V" } : Jvm.MethodName)) ∈ lw_all := lw_g (lw_at lw_m11 159 rfl) rfl
theorem q2641 : (Jvm.Cond.instanceMethod ({ cls := "DebateHallModel$State", name := "copy", desc := "([I[I)V" } : Jvm.MethodName)) ∈ lw_all := lw_g (lw_at lw_m11 161 rfl) rfl
def wp_X5_become (Z : zzG) (this : Option Nat) (p0 : Option Nat) (M : zzM) (K : Option Value → zzM → Prop) : Prop := zgI Z M p0 [17] 0 fun x1 => zput Z M this [17] 0 (.int x1) fun M2 => zgI Z M2 p0 [17] 3 fun x3 => zput Z M2 this [17] 3 (.int x3) fun M4 => zgA Z M4 p0 [17] 1 fun x5 => zgA Z M4 this [17] 1 fun x6 => zcopy Z M4 x5 x6 (0 : Int32) (0 : Int32) (6 : Int32) fun M7 => zgA Z M7 p0 [17] 4 fun x8 => zgA Z M7 this [17] 4 fun x9 => zcopy Z M7 x8 x9 (0 : Int32) (0 : Int32) (40 : Int32) fun M10 => zgA Z M10 p0 [17] 2 fun x11 => zgA Z M10 this [17] 2 fun x12 => zty Z M10 this fun t => t = 17 ∧ wp_X5_copy Z this x11 x12 M10 (fun r13 M14 => zrV r13 (zgA Z M14 p0 [17] 5 fun x17 => zgA Z M14 this [17] 5 fun x18 => zty Z M14 this fun t => t = 17 ∧ wp_X5_copy Z this x17 x18 M14 (fun r19 M20 => zrV r19 (zgA Z M20 p0 [17] 6 fun x23 => zgA Z M20 this [17] 6 fun x24 => zty Z M20 this fun t => t = 17 ∧ wp_X5_copy Z this x23 x24 M20 (fun r25 M26 => zrV r25 (zgA Z M26 p0 [17] 7 fun x29 => zgA Z M26 this [17] 7 fun x30 => zty Z M26 this fun t => t = 17 ∧ wp_X5_copy Z this x29 x30 M26 (fun r31 M32 => zrV r31 (zgA Z M32 p0 [17] 8 fun x35 => zgA Z M32 this [17] 8 fun x36 => zty Z M32 this fun t => t = 17 ∧ wp_X5_copy Z this x35 x36 M32 (fun r37 M38 => zrV r37 (zgA Z M38 p0 [17] 9 fun x41 => zgA Z M38 this [17] 9 fun x42 => zty Z M38 this fun t => t = 17 ∧ wp_X5_copy Z this x41 x42 M38 (fun r43 M44 => zrV r43 (zgA Z M44 p0 [17] 10 fun x47 => zgA Z M44 this [17] 10 fun x48 => zty Z M44 this fun t => t = 17 ∧ wp_X5_copy Z this x47 x48 M44 (fun r49 M50 => zrV r49 (K none M50))))))))))))))
theorem ok_X5_become {Z : zzG} {l : Launch} (hl : l.stackTraces = false) {this : Option Nat} {p0 : Option Nat} {M : zzM} {mc ms : Nat} {K : Option Value → zzM → Prop} (hw : wp_X5_become Z this p0 M K) : zz_Met Z l yX5_become (zz_ws yX5_become cX5_become 2 none none) 3 [va_rf this, va_rf p0] M mc ms K (fun _ _ _ => False) := by
  refine zz_ofW hl (plainFor_of_name (by decide)) (by simp only [zz_sl0, zz_slI, zz_slJ, zz_slA] <;> decide) (fun G hZ hll C E hH hR hin => ?_)
  subst hZ
  subst hll
  rw [show lv_args 0 [va_rf this, va_rf p0] = [(0, va_rf this), (1, va_rf p0)] by simp only [zz_la0, zz_laI, zz_laJ, zz_laA]]
  unfold wp_X5_become at hw
  refine zz_aload_n C dX5_become_0 rfl 0 rfl ?_
  refine zz_aload_n C dX5_become_1 rfl 1 rfl ?_
  refine zz_getI C dX5_become_2 (Or.inl q2387) zf_17_0_allModel_State hw (fun x1 hw => ?_)
  refine zz_put C dX5_become_5 (Or.inl q2387) zf_17_0_allModel_State zp_17_0 (zz_hn1 ⟨rfl, rfl⟩) hw (fun M2 hw => ?_)
  refine zz_aload_n C dX5_become_8 rfl 0 rfl ?_
  refine zz_aload_n C dX5_become_9 rfl 1 rfl ?_
  refine zz_getI C dX5_become_10 (Or.inl q2393) zf_17_3_allModel_State hw (fun x3 hw => ?_)
  refine zz_put C dX5_become_13 (Or.inl q2393) zf_17_3_allModel_State zp_17_3 (zz_hn1 ⟨rfl, rfl⟩) hw (fun M4 hw => ?_)
  refine zz_aload_n C dX5_become_16 rfl 1 rfl ?_
  refine zz_getA C dX5_become_17 (Or.inl q2389) zf_17_1_allModel_State hw (fun x5 hw => ?_)
  refine zz_iconst (v := (0 : Int32)) C dX5_become_20 (by decide) ?_
  refine zz_aload_n C dX5_become_21 rfl 0 rfl ?_
  refine zz_getA C dX5_become_22 (Or.inl q2389) zf_17_1_allModel_State hw (fun x6 hw => ?_)
  refine zz_iconst (v := (0 : Int32)) C dX5_become_25 (by decide) ?_
  refine zz_bipush (v := (6 : Int32)) C dX5_become_26 (by decide) ?_
  refine zz_copy C hR (by decide) dX5_become_28 q2638 q441 q440 zl_java_lang_System (zz_cat10 _ (Nat.le_of_ble_eq_true rfl)) hw (fun M7 hw => ?_)
  refine zz_aload_n C dX5_become_31 rfl 1 rfl ?_
  refine zz_getA C dX5_become_32 (Or.inl q2395) zf_17_4_allModel_State hw (fun x8 hw => ?_)
  refine zz_iconst (v := (0 : Int32)) C dX5_become_35 (by decide) ?_
  refine zz_aload_n C dX5_become_36 rfl 0 rfl ?_
  refine zz_getA C dX5_become_37 (Or.inl q2395) zf_17_4_allModel_State hw (fun x9 hw => ?_)
  refine zz_iconst (v := (0 : Int32)) C dX5_become_40 (by decide) ?_
  refine zz_bipush (v := (40 : Int32)) C dX5_become_41 (by decide) ?_
  refine zz_copy C hR (by decide) dX5_become_43 q2638 q441 q440 zl_java_lang_System (zz_cat10 _ (Nat.le_of_ble_eq_true rfl)) hw (fun M10 hw => ?_)
  refine zz_aload_n C dX5_become_46 rfl 0 rfl ?_
  refine zz_aload_n C dX5_become_47 rfl 1 rfl ?_
  refine zz_getA C dX5_become_48 (Or.inl q2391) zf_17_2_allModel_State hw (fun x11 hw => ?_)
  refine zz_aload_n C dX5_become_51 rfl 0 rfl ?_
  refine zz_getA C dX5_become_52 (Or.inl q2391) zf_17_2_allModel_State hw (fun x12 hw => ?_)
  obtain ⟨a9, t9, b9, fs9, hro, hL, rfl, hw⟩ := ztyS hw
  refine zz_callV (r := (zR_17, zT_17, 12)) (As := [va_rf x11, va_rf x12]) (rest := []) (mc := 0) (ms := 0) C hR hro dX5_become_55 (Or.inl q2639) q2641 (Or.inl qs48) zl_DebateHallModel_State zk_X5_copy (Or.inl rfl) zy_X5_copy rfl (by decide) (by decide) hL (ok_X5_copy (zz_hl C) hw) (Nat.zero_le _) (Nat.zero_le _) (zz_cat10 _ (Nat.le_of_ble_eq_true rfl)) (fun r13 M14 hw => zz_kV hw (fun hw => ?_)) (fun _ _ _ h9 => h9.elim) rfl
  refine zz_aload_n C dX5_become_58 rfl 0 rfl ?_
  refine zz_aload_n C dX5_become_59 rfl 1 rfl ?_
  refine zz_getA C dX5_become_60 (Or.inl q2397) zf_17_5_allModel_State hw (fun x17 hw => ?_)
  refine zz_aload_n C dX5_become_63 rfl 0 rfl ?_
  refine zz_getA C dX5_become_64 (Or.inl q2397) zf_17_5_allModel_State hw (fun x18 hw => ?_)
  obtain ⟨a9, t9, b9, fs9, hro, hL, rfl, hw⟩ := ztyS hw
  refine zz_callV (r := (zR_17, zT_17, 12)) (As := [va_rf x17, va_rf x18]) (rest := []) (mc := 0) (ms := 0) C hR hro dX5_become_67 (Or.inl q2639) q2641 (Or.inl qs48) zl_DebateHallModel_State zk_X5_copy (Or.inl rfl) zy_X5_copy rfl (by decide) (by decide) hL (ok_X5_copy (zz_hl C) hw) (Nat.zero_le _) (Nat.zero_le _) (zz_cat10 _ (Nat.le_of_ble_eq_true rfl)) (fun r19 M20 hw => zz_kV hw (fun hw => ?_)) (fun _ _ _ h9 => h9.elim) rfl
  refine zz_aload_n C dX5_become_70 rfl 0 rfl ?_
  refine zz_aload_n C dX5_become_71 rfl 1 rfl ?_
  refine zz_getA C dX5_become_72 (Or.inl q2399) zf_17_6_allModel_State hw (fun x23 hw => ?_)
  refine zz_aload_n C dX5_become_75 rfl 0 rfl ?_
  refine zz_getA C dX5_become_76 (Or.inl q2399) zf_17_6_allModel_State hw (fun x24 hw => ?_)
  obtain ⟨a9, t9, b9, fs9, hro, hL, rfl, hw⟩ := ztyS hw
  refine zz_callV (r := (zR_17, zT_17, 12)) (As := [va_rf x23, va_rf x24]) (rest := []) (mc := 0) (ms := 0) C hR hro dX5_become_79 (Or.inl q2639) q2641 (Or.inl qs48) zl_DebateHallModel_State zk_X5_copy (Or.inl rfl) zy_X5_copy rfl (by decide) (by decide) hL (ok_X5_copy (zz_hl C) hw) (Nat.zero_le _) (Nat.zero_le _) (zz_cat10 _ (Nat.le_of_ble_eq_true rfl)) (fun r25 M26 hw => zz_kV hw (fun hw => ?_)) (fun _ _ _ h9 => h9.elim) rfl
  refine zz_aload_n C dX5_become_82 rfl 0 rfl ?_
  refine zz_aload_n C dX5_become_83 rfl 1 rfl ?_
  refine zz_getA C dX5_become_84 (Or.inl q2401) zf_17_7_allModel_State hw (fun x29 hw => ?_)
  refine zz_aload_n C dX5_become_87 rfl 0 rfl ?_
  refine zz_getA C dX5_become_88 (Or.inl q2401) zf_17_7_allModel_State hw (fun x30 hw => ?_)
  obtain ⟨a9, t9, b9, fs9, hro, hL, rfl, hw⟩ := ztyS hw
  refine zz_callV (r := (zR_17, zT_17, 12)) (As := [va_rf x29, va_rf x30]) (rest := []) (mc := 0) (ms := 0) C hR hro dX5_become_91 (Or.inl q2639) q2641 (Or.inl qs48) zl_DebateHallModel_State zk_X5_copy (Or.inl rfl) zy_X5_copy rfl (by decide) (by decide) hL (ok_X5_copy (zz_hl C) hw) (Nat.zero_le _) (Nat.zero_le _) (zz_cat10 _ (Nat.le_of_ble_eq_true rfl)) (fun r31 M32 hw => zz_kV hw (fun hw => ?_)) (fun _ _ _ h9 => h9.elim) rfl
  refine zz_aload_n C dX5_become_94 rfl 0 rfl ?_
  refine zz_aload_n C dX5_become_95 rfl 1 rfl ?_
  refine zz_getA C dX5_become_96 (Or.inl q2403) zf_17_8_allModel_State hw (fun x35 hw => ?_)
  refine zz_aload_n C dX5_become_99 rfl 0 rfl ?_
  refine zz_getA C dX5_become_100 (Or.inl q2403) zf_17_8_allModel_State hw (fun x36 hw => ?_)
  obtain ⟨a9, t9, b9, fs9, hro, hL, rfl, hw⟩ := ztyS hw
  refine zz_callV (r := (zR_17, zT_17, 12)) (As := [va_rf x35, va_rf x36]) (rest := []) (mc := 0) (ms := 0) C hR hro dX5_become_103 (Or.inl q2639) q2641 (Or.inl qs48) zl_DebateHallModel_State zk_X5_copy (Or.inl rfl) zy_X5_copy rfl (by decide) (by decide) hL (ok_X5_copy (zz_hl C) hw) (Nat.zero_le _) (Nat.zero_le _) (zz_cat10 _ (Nat.le_of_ble_eq_true rfl)) (fun r37 M38 hw => zz_kV hw (fun hw => ?_)) (fun _ _ _ h9 => h9.elim) rfl
  refine zz_aload_n C dX5_become_106 rfl 0 rfl ?_
  refine zz_aload_n C dX5_become_107 rfl 1 rfl ?_
  refine zz_getA C dX5_become_108 (Or.inl q2405) zf_17_9_allModel_State hw (fun x41 hw => ?_)
  refine zz_aload_n C dX5_become_111 rfl 0 rfl ?_
  refine zz_getA C dX5_become_112 (Or.inl q2405) zf_17_9_allModel_State hw (fun x42 hw => ?_)
  obtain ⟨a9, t9, b9, fs9, hro, hL, rfl, hw⟩ := ztyS hw
  refine zz_callV (r := (zR_17, zT_17, 12)) (As := [va_rf x41, va_rf x42]) (rest := []) (mc := 0) (ms := 0) C hR hro dX5_become_115 (Or.inl q2639) q2641 (Or.inl qs48) zl_DebateHallModel_State zk_X5_copy (Or.inl rfl) zy_X5_copy rfl (by decide) (by decide) hL (ok_X5_copy (zz_hl C) hw) (Nat.zero_le _) (Nat.zero_le _) (zz_cat10 _ (Nat.le_of_ble_eq_true rfl)) (fun r43 M44 hw => zz_kV hw (fun hw => ?_)) (fun _ _ _ h9 => h9.elim) rfl
  refine zz_aload_n C dX5_become_118 rfl 0 rfl ?_
  refine zz_aload_n C dX5_become_119 rfl 1 rfl ?_
  refine zz_getA C dX5_become_120 (Or.inl q2407) zf_17_10_allModel_State hw (fun x47 hw => ?_)
  refine zz_aload_n C dX5_become_123 rfl 0 rfl ?_
  refine zz_getA C dX5_become_124 (Or.inl q2407) zf_17_10_allModel_State hw (fun x48 hw => ?_)
  obtain ⟨a9, t9, b9, fs9, hro, hL, rfl, hw⟩ := ztyS hw
  refine zz_callV (r := (zR_17, zT_17, 12)) (As := [va_rf x47, va_rf x48]) (rest := []) (mc := 0) (ms := 0) C hR hro dX5_become_127 (Or.inl q2639) q2641 (Or.inl qs48) zl_DebateHallModel_State zk_X5_copy (Or.inl rfl) zy_X5_copy rfl (by decide) (by decide) hL (ok_X5_copy (zz_hl C) hw) (Nat.zero_le _) (Nat.zero_le _) (zz_cat10 _ (Nat.le_of_ble_eq_true rfl)) (fun r49 M50 hw => zz_kV hw (fun hw => ?_)) (fun _ _ _ h9 => h9.elim) rfl
  exact zz_vret C E dX5_become_130 hw
abbrev cX5_speakerOf : ByteArray := prog_26_method_4_code
def yX5_speakerOf : MethodName := ⟨"DebateHallModel$State", "speakerOf", "(J)I"⟩
def dkwX5_speakerOf_1 : List UInt8 := [132, 3, 1, 167, 255, 232, 2, 172]
abbrev dktX5_speakerOf_1 : List UInt8 := dkwX5_speakerOf_1 ++ []
def dkwX5_speakerOf_0 : List UInt8 := [3, 62, 29, 42, 180, 0, 50, 162, 0, 22, 42, 180, 0, 15, 29, 47, 31, 148, 154, 0, 5, 29, 172]
abbrev dktX5_speakerOf_0 : List UInt8 := dkwX5_speakerOf_0 ++ dktX5_speakerOf_1
theorem dksX5_speakerOf_0 : cX5_speakerOf.data.toList.drop 0 = dktX5_speakerOf_0 := by decide +kernel
theorem dksX5_speakerOf_1 : cX5_speakerOf.data.toList.drop 23 = dktX5_speakerOf_1 := dk_seg dksX5_speakerOf_0 23 rfl rfl
theorem dX5_speakerOf_0 : decode cX5_speakerOf 0 = .ok (.iconst 0, 1) := dk_3 (dk_at dksX5_speakerOf_0 0 rfl rfl)
theorem dX5_speakerOf_1 : decode cX5_speakerOf 1 = .ok (.istore_n 3, 1) := dk_62 (dk_at dksX5_speakerOf_0 1 rfl rfl)
theorem dX5_speakerOf_2 : decode cX5_speakerOf 2 = .ok (.iload_n 3, 1) := dk_29 (dk_at dksX5_speakerOf_0 2 rfl rfl)
theorem dX5_speakerOf_3 : decode cX5_speakerOf 3 = .ok (.aload_n 0, 1) := dk_42 (dk_at dksX5_speakerOf_0 3 rfl rfl)
theorem dX5_speakerOf_4 : decode cX5_speakerOf 4 = .ok (.getfield 50, 3) := dk_180 0 50 (dk_at dksX5_speakerOf_0 4 rfl rfl)
theorem dX5_speakerOf_7 : decode cX5_speakerOf 7 = .ok (.if_icmp .ge 22, 3) := dk_162 0 22 (dk_at dksX5_speakerOf_0 7 rfl rfl)
theorem dX5_speakerOf_10 : decode cX5_speakerOf 10 = .ok (.aload_n 0, 1) := dk_42 (dk_at dksX5_speakerOf_0 10 rfl rfl)
theorem dX5_speakerOf_11 : decode cX5_speakerOf 11 = .ok (.getfield 15, 3) := dk_180 0 15 (dk_at dksX5_speakerOf_0 11 rfl rfl)
theorem dX5_speakerOf_14 : decode cX5_speakerOf 14 = .ok (.iload_n 3, 1) := dk_29 (dk_at dksX5_speakerOf_0 14 rfl rfl)
theorem dX5_speakerOf_15 : decode cX5_speakerOf 15 = .ok (.laload, 1) := dk_47 (dk_at dksX5_speakerOf_0 15 rfl rfl)
theorem dX5_speakerOf_16 : decode cX5_speakerOf 16 = .ok (.lload_n 1, 1) := dk_31 (dk_at dksX5_speakerOf_0 16 rfl rfl)
theorem dX5_speakerOf_17 : decode cX5_speakerOf 17 = .ok (.lcmp, 1) := dk_148 (dk_at dksX5_speakerOf_0 17 rfl rfl)
theorem dX5_speakerOf_18 : decode cX5_speakerOf 18 = .ok (.ifCond .ne 5, 3) := dk_154 0 5 (dk_at dksX5_speakerOf_0 18 rfl rfl)
theorem dX5_speakerOf_21 : decode cX5_speakerOf 21 = .ok (.iload_n 3, 1) := dk_29 (dk_at dksX5_speakerOf_0 21 rfl rfl)
theorem dX5_speakerOf_22 : decode cX5_speakerOf 22 = .ok (.ireturn, 1) := dk_172 (dk_at dksX5_speakerOf_0 22 rfl rfl)
theorem dX5_speakerOf_23 : decode cX5_speakerOf 23 = .ok (.iinc 3 1, 3) := dk_132 3 1 (dk_at dksX5_speakerOf_1 0 rfl rfl)
theorem dX5_speakerOf_26 : decode cX5_speakerOf 26 = .ok (.goto (-24), 3) := dk_167 255 232 (dk_at dksX5_speakerOf_1 3 rfl rfl)
theorem dX5_speakerOf_29 : decode cX5_speakerOf 29 = .ok (.iconst (-1), 1) := dk_2 (dk_at dksX5_speakerOf_1 6 rfl rfl)
theorem dX5_speakerOf_30 : decode cX5_speakerOf 30 = .ok (.ireturn, 1) := dk_172 (dk_at dksX5_speakerOf_1 7 rfl rfl)
def wp_X5_speakerOf_L2 (Z : zzG) (K : Option Value → zzM → Prop) : Nat → Option Nat → Int64 → Int32 → zzM → Prop
  | 0, _, _, _, _ => False
  | n + 1, v0, v1, v3, M => zgI Z M v0 [17] 0 fun x1 => if x1 ≤ v3 then (K (some (.int (-1 : Int32))) M) else (zgA Z M v0 [17] 1 fun x2 => zaJ Z M x2 [102] v3 fun x3 => if (lg_cmp x3 v1) = 0 then (K (some (.int v3)) M) else (wp_X5_speakerOf_L2 Z K n v0 v1 (v3 + 1) M))
def wp_X5_speakerOf (Z : zzG) (this : Option Nat) (p0 : Int64) (M : zzM) (K : Option Value → zzM → Prop) : Prop := ∃ n2 : Nat, wp_X5_speakerOf_L2 Z K n2 this p0 (0 : Int32) M
theorem ok_X5_speakerOf_L2 {G : zzX} (C : zz_C G cX5_speakerOf "DebateHallModel$State" 4) {K : Option Value → zzM → Prop} (E : zz_E G (some .int) K (fun _ _ _ => False)) (hH : zz_H G []) (hR : zz_Rm G 1) : ∀ (n : Nat) (v0 : Option Nat) (v1 : Int64) (v3 : Int32) (M : zzM) (bc bs : Nat), wp_X5_speakerOf_L2 (zz_Zof G) K n v0 v1 v3 M → zz_T G 4 M bc bs 2 [(0, va_rf v0), (1, .long v1), (3, .int v3)] [] := by
  intro n
  induction n with
  | zero =>
    intro v0 v1 v3 M bc bs hw
    exact False.elim hw
  | succ n ih =>
    intro v0 v1 v3 M bc bs hw
    refine zz_iload_n C dX5_speakerOf_2 rfl 2 rfl ?_
    refine zz_aload_n C dX5_speakerOf_3 rfl 0 rfl ?_
    refine zz_getI C dX5_speakerOf_4 (Or.inl q2387) zf_17_0_allModel_State hw (fun x1 hw => ?_)
    refine zz_icmp_ge (tgt := 29) C dX5_speakerOf_7 (by decide) hw (fun hw => ?_) (fun hw => ?_)
    · refine zz_iconst (v := (-1 : Int32)) C dX5_speakerOf_29 (by decide) ?_
      exact zz_iret C E dX5_speakerOf_30 hw
    · refine zz_aload_n C dX5_speakerOf_10 rfl 0 rfl ?_
      refine zz_getA C dX5_speakerOf_11 (Or.inl q2389) zf_17_1_allModel_State hw (fun x2 hw => ?_)
      refine zz_iload_n C dX5_speakerOf_14 rfl 2 rfl ?_
      refine zz_lald C dX5_speakerOf_15 hw (fun x3 hw => ?_)
      refine zz_lload_n C dX5_speakerOf_16 rfl 1 rfl ?_
      refine zz_lcmp C dX5_speakerOf_17 ?_
      refine zz_if_ne (tgt := 23) C dX5_speakerOf_18 (by decide) hw (fun hw => ?_) (fun hw => ?_)
      · refine zz_iinc (lv' := [(3, .int (v3 + 1)), (0, va_rf v0), (1, .long v1)]) C dX5_speakerOf_23 2 rfl (by rfl) (by decide) rfl ?_
        refine zz_goto (tgt := 2) C dX5_speakerOf_26 (by decide) ?_
        refine zz_subP [1, 2, 0] rfl ?_
        exact ih _ _ _ _ _ _ hw
      · refine zz_iload_n C dX5_speakerOf_21 rfl 2 rfl ?_
        exact zz_iret C E dX5_speakerOf_22 hw
theorem ok_X5_speakerOf {Z : zzG} {l : Launch} (hl : l.stackTraces = false) {this : Option Nat} {p0 : Int64} {M : zzM} {mc ms : Nat} {K : Option Value → zzM → Prop} (hw : wp_X5_speakerOf Z this p0 M K) : zz_Met Z l yX5_speakerOf (zz_ws yX5_speakerOf cX5_speakerOf 4 (some .int) none) 1 [va_rf this, .long p0] M mc ms K (fun _ _ _ => False) := by
  refine zz_ofW hl (plainFor_of_name (by decide)) (by simp only [zz_sl0, zz_slI, zz_slJ, zz_slA] <;> decide) (fun G hZ hll C E hH hR hin => ?_)
  subst hZ
  subst hll
  rw [show lv_args 0 [va_rf this, .long p0] = [(0, va_rf this), (1, .long p0)] by simp only [zz_la0, zz_laI, zz_laJ, zz_laA]]
  unfold wp_X5_speakerOf at hw
  refine zz_iconst (v := (0 : Int32)) C dX5_speakerOf_0 (by decide) ?_
  refine zz_istore_n (i := 3) (lv' := [(3, .int (0 : Int32)), (0, va_rf this), (1, .long p0)]) C dX5_speakerOf_1 rfl (by decide) rfl ?_
  refine zz_subP [1, 2, 0] rfl ?_
  obtain ⟨n2, hw⟩ := hw
  exact ok_X5_speakerOf_L2 C E hH hR n2 _ _ _ _ _ _ hw
abbrev cX4_speakerLine : ByteArray := prog_25_method_32_code
def yX4_speakerLine : MethodName := ⟨"DebateHallModel", "speakerLine", "()I"⟩
def dkwX4_speakerLine_7 : List UInt8 := [180, 0, 88, 4, 96, 181, 0, 88, 3, 172]
abbrev dktX4_speakerLine_7 : List UInt8 := dkwX4_speakerLine_7 ++ []
def dkwX4_speakerLine_6 : List UInt8 := [47, 80, 42, 180, 0, 48, 180, 0, 118, 42, 180, 0, 48, 180, 0, 88, 28, 79, 42, 180, 0, 48, 89]
abbrev dktX4_speakerLine_6 : List UInt8 := dkwX4_speakerLine_6 ++ dktX4_speakerLine_7
def dkwX4_speakerLine_5 : List UInt8 := [4, 96, 181, 0, 168, 42, 180, 0, 48, 180, 1, 8, 42, 180, 0, 48, 180, 0, 88, 42, 180, 0, 40, 27]
abbrev dktX4_speakerLine_5 : List UInt8 := dkwX4_speakerLine_5 ++ dktX4_speakerLine_6
def dkwX4_speakerLine_4 : List UInt8 := [42, 180, 0, 168, 182, 0, 255, 172, 42, 180, 0, 40, 42, 180, 0, 168, 47, 136, 61, 42, 89, 180, 0, 168]
abbrev dktX4_speakerLine_4 : List UInt8 := dkwX4_speakerLine_4 ++ dktX4_speakerLine_5
def dkwX4_speakerLine_3 : List UInt8 := [182, 0, 189, 153, 0, 50, 42, 180, 0, 40, 42, 180, 0, 168, 47, 20, 1, 6, 148, 158, 0, 13, 42, 8]
abbrev dktX4_speakerLine_3 : List UInt8 := dkwX4_speakerLine_3 ++ dktX4_speakerLine_4
def dkwX4_speakerLine_2 : List UInt8 := [180, 0, 88, 16, 6, 160, 0, 10, 42, 7, 27, 182, 0, 255, 172, 17, 1, 44, 61, 42, 18, 196]
abbrev dktX4_speakerLine_2 : List UInt8 := dkwX4_speakerLine_2 ++ dktX4_speakerLine_3
def dkwX4_speakerLine_1 : List UInt8 := [180, 0, 40, 27, 47, 182, 1, 2, 2, 159, 0, 10, 42, 5, 27, 182, 0, 255, 172, 42, 180, 0, 48]
abbrev dktX4_speakerLine_1 : List UInt8 := dkwX4_speakerLine_1 ++ dktX4_speakerLine_2
def dkwX4_speakerLine_0 : List UInt8 := [42, 180, 0, 168, 4, 96, 60, 42, 89, 180, 0, 168, 5, 96, 181, 0, 168, 42, 180, 0, 48, 42]
abbrev dktX4_speakerLine_0 : List UInt8 := dkwX4_speakerLine_0 ++ dktX4_speakerLine_1
theorem dksX4_speakerLine_0 : cX4_speakerLine.data.toList.drop 0 = dktX4_speakerLine_0 := by decide +kernel
theorem dksX4_speakerLine_1 : cX4_speakerLine.data.toList.drop 22 = dktX4_speakerLine_1 := dk_seg dksX4_speakerLine_0 22 rfl rfl
theorem dksX4_speakerLine_2 : cX4_speakerLine.data.toList.drop 45 = dktX4_speakerLine_2 := dk_seg dksX4_speakerLine_1 23 rfl rfl
theorem dksX4_speakerLine_3 : cX4_speakerLine.data.toList.drop 67 = dktX4_speakerLine_3 := dk_seg dksX4_speakerLine_2 22 rfl rfl
theorem dksX4_speakerLine_4 : cX4_speakerLine.data.toList.drop 91 = dktX4_speakerLine_4 := dk_seg dksX4_speakerLine_3 24 rfl rfl
theorem dksX4_speakerLine_5 : cX4_speakerLine.data.toList.drop 115 = dktX4_speakerLine_5 := dk_seg dksX4_speakerLine_4 24 rfl rfl
theorem dksX4_speakerLine_6 : cX4_speakerLine.data.toList.drop 139 = dktX4_speakerLine_6 := dk_seg dksX4_speakerLine_5 24 rfl rfl
theorem dksX4_speakerLine_7 : cX4_speakerLine.data.toList.drop 162 = dktX4_speakerLine_7 := dk_seg dksX4_speakerLine_6 23 rfl rfl
theorem dX4_speakerLine_0 : decode cX4_speakerLine 0 = .ok (.aload_n 0, 1) := dk_42 (dk_at dksX4_speakerLine_0 0 rfl rfl)
theorem dX4_speakerLine_1 : decode cX4_speakerLine 1 = .ok (.getfield 168, 3) := dk_180 0 168 (dk_at dksX4_speakerLine_0 1 rfl rfl)
theorem dX4_speakerLine_4 : decode cX4_speakerLine 4 = .ok (.iconst 1, 1) := dk_4 (dk_at dksX4_speakerLine_0 4 rfl rfl)
theorem dX4_speakerLine_5 : decode cX4_speakerLine 5 = .ok (.iadd, 1) := dk_96 (dk_at dksX4_speakerLine_0 5 rfl rfl)
theorem dX4_speakerLine_6 : decode cX4_speakerLine 6 = .ok (.istore_n 1, 1) := dk_60 (dk_at dksX4_speakerLine_0 6 rfl rfl)
theorem dX4_speakerLine_7 : decode cX4_speakerLine 7 = .ok (.aload_n 0, 1) := dk_42 (dk_at dksX4_speakerLine_0 7 rfl rfl)
theorem dX4_speakerLine_8 : decode cX4_speakerLine 8 = .ok (.dup, 1) := dk_89 (dk_at dksX4_speakerLine_0 8 rfl rfl)
theorem dX4_speakerLine_9 : decode cX4_speakerLine 9 = .ok (.getfield 168, 3) := dk_180 0 168 (dk_at dksX4_speakerLine_0 9 rfl rfl)
theorem dX4_speakerLine_12 : decode cX4_speakerLine 12 = .ok (.iconst 2, 1) := dk_5 (dk_at dksX4_speakerLine_0 12 rfl rfl)
theorem dX4_speakerLine_13 : decode cX4_speakerLine 13 = .ok (.iadd, 1) := dk_96 (dk_at dksX4_speakerLine_0 13 rfl rfl)
theorem dX4_speakerLine_14 : decode cX4_speakerLine 14 = .ok (.putfield 168, 3) := dk_181 0 168 (dk_at dksX4_speakerLine_0 14 rfl rfl)
theorem dX4_speakerLine_17 : decode cX4_speakerLine 17 = .ok (.aload_n 0, 1) := dk_42 (dk_at dksX4_speakerLine_0 17 rfl rfl)
theorem dX4_speakerLine_18 : decode cX4_speakerLine 18 = .ok (.getfield 48, 3) := dk_180 0 48 (dk_at dksX4_speakerLine_0 18 rfl rfl)
theorem dX4_speakerLine_21 : decode cX4_speakerLine 21 = .ok (.aload_n 0, 1) := dk_42 (dk_at dksX4_speakerLine_0 21 rfl rfl)
theorem dX4_speakerLine_22 : decode cX4_speakerLine 22 = .ok (.getfield 40, 3) := dk_180 0 40 (dk_at dksX4_speakerLine_1 0 rfl rfl)
theorem dX4_speakerLine_25 : decode cX4_speakerLine 25 = .ok (.iload_n 1, 1) := dk_27 (dk_at dksX4_speakerLine_1 3 rfl rfl)
theorem dX4_speakerLine_26 : decode cX4_speakerLine 26 = .ok (.laload, 1) := dk_47 (dk_at dksX4_speakerLine_1 4 rfl rfl)
theorem dX4_speakerLine_27 : decode cX4_speakerLine 27 = .ok (.invokevirtual 258, 3) := dk_182 1 2 (dk_at dksX4_speakerLine_1 5 rfl rfl)
theorem dX4_speakerLine_30 : decode cX4_speakerLine 30 = .ok (.iconst (-1), 1) := dk_2 (dk_at dksX4_speakerLine_1 8 rfl rfl)
theorem dX4_speakerLine_31 : decode cX4_speakerLine 31 = .ok (.if_icmp .eq 10, 3) := dk_159 0 10 (dk_at dksX4_speakerLine_1 9 rfl rfl)
theorem dX4_speakerLine_34 : decode cX4_speakerLine 34 = .ok (.aload_n 0, 1) := dk_42 (dk_at dksX4_speakerLine_1 12 rfl rfl)
theorem dX4_speakerLine_35 : decode cX4_speakerLine 35 = .ok (.iconst 2, 1) := dk_5 (dk_at dksX4_speakerLine_1 13 rfl rfl)
theorem dX4_speakerLine_36 : decode cX4_speakerLine 36 = .ok (.iload_n 1, 1) := dk_27 (dk_at dksX4_speakerLine_1 14 rfl rfl)
theorem dX4_speakerLine_37 : decode cX4_speakerLine 37 = .ok (.invokevirtual 255, 3) := dk_182 0 255 (dk_at dksX4_speakerLine_1 15 rfl rfl)
theorem dX4_speakerLine_40 : decode cX4_speakerLine 40 = .ok (.ireturn, 1) := dk_172 (dk_at dksX4_speakerLine_1 18 rfl rfl)
theorem dX4_speakerLine_41 : decode cX4_speakerLine 41 = .ok (.aload_n 0, 1) := dk_42 (dk_at dksX4_speakerLine_1 19 rfl rfl)
theorem dX4_speakerLine_42 : decode cX4_speakerLine 42 = .ok (.getfield 48, 3) := dk_180 0 48 (dk_at dksX4_speakerLine_1 20 rfl rfl)
theorem dX4_speakerLine_45 : decode cX4_speakerLine 45 = .ok (.getfield 88, 3) := dk_180 0 88 (dk_at dksX4_speakerLine_2 0 rfl rfl)
theorem dX4_speakerLine_48 : decode cX4_speakerLine 48 = .ok (.bipush 6, 2) := dk_16 6 (dk_at dksX4_speakerLine_2 3 rfl rfl)
theorem dX4_speakerLine_50 : decode cX4_speakerLine 50 = .ok (.if_icmp .ne 10, 3) := dk_160 0 10 (dk_at dksX4_speakerLine_2 5 rfl rfl)
theorem dX4_speakerLine_53 : decode cX4_speakerLine 53 = .ok (.aload_n 0, 1) := dk_42 (dk_at dksX4_speakerLine_2 8 rfl rfl)
theorem dX4_speakerLine_54 : decode cX4_speakerLine 54 = .ok (.iconst 4, 1) := dk_7 (dk_at dksX4_speakerLine_2 9 rfl rfl)
theorem dX4_speakerLine_55 : decode cX4_speakerLine 55 = .ok (.iload_n 1, 1) := dk_27 (dk_at dksX4_speakerLine_2 10 rfl rfl)
theorem dX4_speakerLine_56 : decode cX4_speakerLine 56 = .ok (.invokevirtual 255, 3) := dk_182 0 255 (dk_at dksX4_speakerLine_2 11 rfl rfl)
theorem dX4_speakerLine_59 : decode cX4_speakerLine 59 = .ok (.ireturn, 1) := dk_172 (dk_at dksX4_speakerLine_2 14 rfl rfl)
theorem dX4_speakerLine_60 : decode cX4_speakerLine 60 = .ok (.sipush 300, 3) := dk_17 1 44 (dk_at dksX4_speakerLine_2 15 rfl rfl)
theorem dX4_speakerLine_63 : decode cX4_speakerLine 63 = .ok (.istore_n 2, 1) := dk_61 (dk_at dksX4_speakerLine_2 18 rfl rfl)
theorem dX4_speakerLine_64 : decode cX4_speakerLine 64 = .ok (.aload_n 0, 1) := dk_42 (dk_at dksX4_speakerLine_2 19 rfl rfl)
theorem dX4_speakerLine_65 : decode cX4_speakerLine 65 = .ok (.ldc 196, 2) := dk_18 196 (dk_at dksX4_speakerLine_2 20 rfl rfl)
theorem dX4_speakerLine_67 : decode cX4_speakerLine 67 = .ok (.invokevirtual 189, 3) := dk_182 0 189 (dk_at dksX4_speakerLine_3 0 rfl rfl)
theorem dX4_speakerLine_70 : decode cX4_speakerLine 70 = .ok (.ifCond .eq 50, 3) := dk_153 0 50 (dk_at dksX4_speakerLine_3 3 rfl rfl)
theorem dX4_speakerLine_73 : decode cX4_speakerLine 73 = .ok (.aload_n 0, 1) := dk_42 (dk_at dksX4_speakerLine_3 6 rfl rfl)
theorem dX4_speakerLine_74 : decode cX4_speakerLine 74 = .ok (.getfield 40, 3) := dk_180 0 40 (dk_at dksX4_speakerLine_3 7 rfl rfl)
theorem dX4_speakerLine_77 : decode cX4_speakerLine 77 = .ok (.aload_n 0, 1) := dk_42 (dk_at dksX4_speakerLine_3 10 rfl rfl)
theorem dX4_speakerLine_78 : decode cX4_speakerLine 78 = .ok (.getfield 168, 3) := dk_180 0 168 (dk_at dksX4_speakerLine_3 11 rfl rfl)
theorem dX4_speakerLine_81 : decode cX4_speakerLine 81 = .ok (.laload, 1) := dk_47 (dk_at dksX4_speakerLine_3 14 rfl rfl)
theorem dX4_speakerLine_82 : decode cX4_speakerLine 82 = .ok (.ldc2_w 262, 3) := dk_20 1 6 (dk_at dksX4_speakerLine_3 15 rfl rfl)
theorem dX4_speakerLine_85 : decode cX4_speakerLine 85 = .ok (.lcmp, 1) := dk_148 (dk_at dksX4_speakerLine_3 18 rfl rfl)
theorem dX4_speakerLine_86 : decode cX4_speakerLine 86 = .ok (.ifCond .le 13, 3) := dk_158 0 13 (dk_at dksX4_speakerLine_3 19 rfl rfl)
theorem dX4_speakerLine_89 : decode cX4_speakerLine 89 = .ok (.aload_n 0, 1) := dk_42 (dk_at dksX4_speakerLine_3 22 rfl rfl)
theorem dX4_speakerLine_90 : decode cX4_speakerLine 90 = .ok (.iconst 5, 1) := dk_8 (dk_at dksX4_speakerLine_3 23 rfl rfl)
theorem dX4_speakerLine_91 : decode cX4_speakerLine 91 = .ok (.aload_n 0, 1) := dk_42 (dk_at dksX4_speakerLine_4 0 rfl rfl)
theorem dX4_speakerLine_92 : decode cX4_speakerLine 92 = .ok (.getfield 168, 3) := dk_180 0 168 (dk_at dksX4_speakerLine_4 1 rfl rfl)
theorem dX4_speakerLine_95 : decode cX4_speakerLine 95 = .ok (.invokevirtual 255, 3) := dk_182 0 255 (dk_at dksX4_speakerLine_4 4 rfl rfl)
theorem dX4_speakerLine_98 : decode cX4_speakerLine 98 = .ok (.ireturn, 1) := dk_172 (dk_at dksX4_speakerLine_4 7 rfl rfl)
theorem dX4_speakerLine_99 : decode cX4_speakerLine 99 = .ok (.aload_n 0, 1) := dk_42 (dk_at dksX4_speakerLine_4 8 rfl rfl)
theorem dX4_speakerLine_100 : decode cX4_speakerLine 100 = .ok (.getfield 40, 3) := dk_180 0 40 (dk_at dksX4_speakerLine_4 9 rfl rfl)
theorem dX4_speakerLine_103 : decode cX4_speakerLine 103 = .ok (.aload_n 0, 1) := dk_42 (dk_at dksX4_speakerLine_4 12 rfl rfl)
theorem dX4_speakerLine_104 : decode cX4_speakerLine 104 = .ok (.getfield 168, 3) := dk_180 0 168 (dk_at dksX4_speakerLine_4 13 rfl rfl)
theorem dX4_speakerLine_107 : decode cX4_speakerLine 107 = .ok (.laload, 1) := dk_47 (dk_at dksX4_speakerLine_4 16 rfl rfl)
theorem dX4_speakerLine_108 : decode cX4_speakerLine 108 = .ok (.l2i, 1) := dk_136 (dk_at dksX4_speakerLine_4 17 rfl rfl)
theorem dX4_speakerLine_109 : decode cX4_speakerLine 109 = .ok (.istore_n 2, 1) := dk_61 (dk_at dksX4_speakerLine_4 18 rfl rfl)
theorem dX4_speakerLine_110 : decode cX4_speakerLine 110 = .ok (.aload_n 0, 1) := dk_42 (dk_at dksX4_speakerLine_4 19 rfl rfl)
theorem dX4_speakerLine_111 : decode cX4_speakerLine 111 = .ok (.dup, 1) := dk_89 (dk_at dksX4_speakerLine_4 20 rfl rfl)
theorem dX4_speakerLine_112 : decode cX4_speakerLine 112 = .ok (.getfield 168, 3) := dk_180 0 168 (dk_at dksX4_speakerLine_4 21 rfl rfl)
theorem dX4_speakerLine_115 : decode cX4_speakerLine 115 = .ok (.iconst 1, 1) := dk_4 (dk_at dksX4_speakerLine_5 0 rfl rfl)
theorem dX4_speakerLine_116 : decode cX4_speakerLine 116 = .ok (.iadd, 1) := dk_96 (dk_at dksX4_speakerLine_5 1 rfl rfl)
theorem dX4_speakerLine_117 : decode cX4_speakerLine 117 = .ok (.putfield 168, 3) := dk_181 0 168 (dk_at dksX4_speakerLine_5 2 rfl rfl)
theorem dX4_speakerLine_120 : decode cX4_speakerLine 120 = .ok (.aload_n 0, 1) := dk_42 (dk_at dksX4_speakerLine_5 5 rfl rfl)
theorem dX4_speakerLine_121 : decode cX4_speakerLine 121 = .ok (.getfield 48, 3) := dk_180 0 48 (dk_at dksX4_speakerLine_5 6 rfl rfl)
theorem dX4_speakerLine_124 : decode cX4_speakerLine 124 = .ok (.getfield 264, 3) := dk_180 1 8 (dk_at dksX4_speakerLine_5 9 rfl rfl)
theorem dX4_speakerLine_127 : decode cX4_speakerLine 127 = .ok (.aload_n 0, 1) := dk_42 (dk_at dksX4_speakerLine_5 12 rfl rfl)
theorem dX4_speakerLine_128 : decode cX4_speakerLine 128 = .ok (.getfield 48, 3) := dk_180 0 48 (dk_at dksX4_speakerLine_5 13 rfl rfl)
theorem dX4_speakerLine_131 : decode cX4_speakerLine 131 = .ok (.getfield 88, 3) := dk_180 0 88 (dk_at dksX4_speakerLine_5 16 rfl rfl)
theorem dX4_speakerLine_134 : decode cX4_speakerLine 134 = .ok (.aload_n 0, 1) := dk_42 (dk_at dksX4_speakerLine_5 19 rfl rfl)
theorem dX4_speakerLine_135 : decode cX4_speakerLine 135 = .ok (.getfield 40, 3) := dk_180 0 40 (dk_at dksX4_speakerLine_5 20 rfl rfl)
theorem dX4_speakerLine_138 : decode cX4_speakerLine 138 = .ok (.iload_n 1, 1) := dk_27 (dk_at dksX4_speakerLine_5 23 rfl rfl)
theorem dX4_speakerLine_139 : decode cX4_speakerLine 139 = .ok (.laload, 1) := dk_47 (dk_at dksX4_speakerLine_6 0 rfl rfl)
theorem dX4_speakerLine_140 : decode cX4_speakerLine 140 = .ok (.lastore, 1) := dk_80 (dk_at dksX4_speakerLine_6 1 rfl rfl)
theorem dX4_speakerLine_141 : decode cX4_speakerLine 141 = .ok (.aload_n 0, 1) := dk_42 (dk_at dksX4_speakerLine_6 2 rfl rfl)
theorem dX4_speakerLine_142 : decode cX4_speakerLine 142 = .ok (.getfield 48, 3) := dk_180 0 48 (dk_at dksX4_speakerLine_6 3 rfl rfl)
theorem dX4_speakerLine_145 : decode cX4_speakerLine 145 = .ok (.getfield 118, 3) := dk_180 0 118 (dk_at dksX4_speakerLine_6 6 rfl rfl)
theorem dX4_speakerLine_148 : decode cX4_speakerLine 148 = .ok (.aload_n 0, 1) := dk_42 (dk_at dksX4_speakerLine_6 9 rfl rfl)
theorem dX4_speakerLine_149 : decode cX4_speakerLine 149 = .ok (.getfield 48, 3) := dk_180 0 48 (dk_at dksX4_speakerLine_6 10 rfl rfl)
theorem dX4_speakerLine_152 : decode cX4_speakerLine 152 = .ok (.getfield 88, 3) := dk_180 0 88 (dk_at dksX4_speakerLine_6 13 rfl rfl)
theorem dX4_speakerLine_155 : decode cX4_speakerLine 155 = .ok (.iload_n 2, 1) := dk_28 (dk_at dksX4_speakerLine_6 16 rfl rfl)
theorem dX4_speakerLine_156 : decode cX4_speakerLine 156 = .ok (.iastore, 1) := dk_79 (dk_at dksX4_speakerLine_6 17 rfl rfl)
theorem dX4_speakerLine_157 : decode cX4_speakerLine 157 = .ok (.aload_n 0, 1) := dk_42 (dk_at dksX4_speakerLine_6 18 rfl rfl)
theorem dX4_speakerLine_158 : decode cX4_speakerLine 158 = .ok (.getfield 48, 3) := dk_180 0 48 (dk_at dksX4_speakerLine_6 19 rfl rfl)
theorem dX4_speakerLine_161 : decode cX4_speakerLine 161 = .ok (.dup, 1) := dk_89 (dk_at dksX4_speakerLine_6 22 rfl rfl)
theorem dX4_speakerLine_162 : decode cX4_speakerLine 162 = .ok (.getfield 88, 3) := dk_180 0 88 (dk_at dksX4_speakerLine_7 0 rfl rfl)
theorem dX4_speakerLine_165 : decode cX4_speakerLine 165 = .ok (.iconst 1, 1) := dk_4 (dk_at dksX4_speakerLine_7 3 rfl rfl)
theorem dX4_speakerLine_166 : decode cX4_speakerLine 166 = .ok (.iadd, 1) := dk_96 (dk_at dksX4_speakerLine_7 4 rfl rfl)
theorem dX4_speakerLine_167 : decode cX4_speakerLine 167 = .ok (.putfield 88, 3) := dk_181 0 88 (dk_at dksX4_speakerLine_7 5 rfl rfl)
theorem dX4_speakerLine_170 : decode cX4_speakerLine 170 = .ok (.iconst 0, 1) := dk_3 (dk_at dksX4_speakerLine_7 8 rfl rfl)
theorem dX4_speakerLine_171 : decode cX4_speakerLine 171 = .ok (.ireturn, 1) := dk_172 (dk_at dksX4_speakerLine_7 9 rfl rfl)
theorem q2654 : (Jvm.Cond.code ({ cls := "DebateHallModel$State", name := "speakerOf", desc := "(J)I" } : Jvm.MethodName) prog_26_method_4_code (4 : Nat) (Option.some Jvm.ClassFile.FieldType.int)) ∈ lw_all := lw_g (lw_at lw_m11 174 rfl) rfl
theorem zk_X5_speakerOf : zz_cd yX5_speakerOf cX5_speakerOf 4 (some .int) none ∈ lw_all := q2654
theorem zy_X5_speakerOf : zz_yok yX5_speakerOf 1 = true := by decide +kernel
theorem q2655 : (Jvm.Cond.constantLong "DebateHallModel" (262 : Nat) (3600 : Int64)) ∈ lw_all := lw_g (lw_at lw_m11 175 rfl) rfl
theorem q2633 : (Jvm.Cond.code ({ cls := "DebateHallModel", name := "fail", desc := "(II)I" } : Jvm.MethodName) prog_25_method_30_code (3 : Nat) (Option.some Jvm.ClassFile.FieldType.int)) ∈ lw_all := lw_g (lw_at lw_m11 153 rfl) rfl
theorem zk_X4_fail : zz_cd yX4_fail cX4_fail 3 (some .int) none ∈ lw_all := q2633
theorem zy_X4_fail : zz_yok yX4_fail 2 = true := by decide +kernel
theorem q2630 : (Jvm.Cond.methodLink "DebateHallModel" (255 : Nat) ({ cls := "DebateHallModel", name := "fail", desc := "(II)I" } : Jvm.MethodName)) ∈ lw_all := lw_g (lw_at lw_m11 150 rfl) rfl
theorem q2632 : (Jvm.Cond.instanceMethod ({ cls := "DebateHallModel", name := "fail", desc := "(II)I" } : Jvm.MethodName)) ∈ lw_all := lw_g (lw_at lw_m11 152 rfl) rfl
theorem q2651 : (Jvm.Cond.methodLink "DebateHallModel" (258 : Nat) ({ cls := "DebateHallModel$State", name := "speakerOf", desc := "(J)I" } : Jvm.MethodName)) ∈ lw_all := lw_g (lw_at lw_m11 171 rfl) rfl
theorem q2652 : (Jvm.Cond.instanceMethod ({ cls := "DebateHallModel$State", name := "speakerOf", desc := "(J)I" } : Jvm.MethodName)) ∈ lw_all := lw_g (lw_at lw_m11 172 rfl) rfl
theorem q2653 : (Jvm.Cond.selects "DebateHallModel$State" ({ cls := "DebateHallModel$State", name := "speakerOf", desc := "(J)I" } : Jvm.MethodName) ({ cls := "DebateHallModel$State", name := "speakerOf", desc := "(J)I" } : Jvm.MethodName)) ∈ lw_all := lw_g (lw_at lw_m11 173 rfl) rfl
def wp_X4_speakerLine_B120 (Z : zzG) (K : Option Value → zzM → Prop) (v0 : Option Nat) (v1 : Int32) (v2 : Int32) (M : zzM) : Prop := zgA Z M v0 [16] 11 fun x43 => zgA Z M x43 [17] 1 fun x44 => zgA Z M v0 [16] 11 fun x45 => zgI Z M x45 [17] 0 fun x46 => zgA Z M v0 [16] 9 fun x47 => zaJ Z M x47 [102] v1 fun x48 => zast Z M x44 [102] x46 (.long x48) fun M49 => zgA Z M49 v0 [16] 11 fun x50 => zgA Z M49 x50 [17] 2 fun x51 => zgA Z M49 v0 [16] 11 fun x52 => zgI Z M49 x52 [17] 0 fun x53 => zast Z M49 x51 [100] x53 (.int v2) fun M54 => zgA Z M54 v0 [16] 11 fun x55 => zgI Z M54 x55 [17] 0 fun x56 => zput Z M54 x55 [17] 0 (.int (x56 + (1 : Int32))) fun M57 => K (some (.int (0 : Int32))) M57
def wp_X4_speakerLine (Z : zzG) (this : Option Nat) (M : zzM) (K : Option Value → zzM → Prop) : Prop := zgI Z M this [16] 10 fun x1 => zgI Z M this [16] 10 fun x2 => zput Z M this [16] 10 (.int (x2 + (2 : Int32))) fun M3 => zgA Z M3 this [16] 11 fun x4 => zgA Z M3 this [16] 9 fun x5 => zaJ Z M3 x5 [102] (x1 + (1 : Int32)) fun x6 => zty Z M3 x4 fun t => t = 17 ∧ wp_X5_speakerOf Z x4 x6 M3 (fun r7 M8 => zrI r7 fun x11 => if x11 = (-1 : Int32) then (zgA Z M8 this [16] 11 fun x12 => zgI Z M8 x12 [17] 0 fun x13 => if x13 = (6 : Int32) then (zty Z M8 this fun t => t = 16 ∧ wp_X4_fail Z this (4 : Int32) (x1 + (1 : Int32)) M8 (fun r33 M34 => zrI r33 fun x37 => K (some (.int x37)) M34)) else (zty Z M8 this fun t => t = 16 ∧ wp_X4_word Z this (some (zz_ad Z 174)) M8 (fun r14 M15 => zrI r14 fun x18 => if x18 = 0 then (wp_X4_speakerLine_B120 Z K this (x1 + (1 : Int32)) (300 : Int32) M15) else (zgA Z M15 this [16] 9 fun x19 => zgI Z M15 this [16] 10 fun x20 => zaJ Z M15 x19 [102] x20 fun x21 => if (lg_cmp x21 (3600 : Int64)) ≤ 0 then (zgA Z M15 this [16] 9 fun x22 => zgI Z M15 this [16] 10 fun x23 => zaJ Z M15 x22 [102] x23 fun x24 => zgI Z M15 this [16] 10 fun x25 => zput Z M15 this [16] 10 (.int (x25 + (1 : Int32))) fun M26 => wp_X4_speakerLine_B120 Z K this (x1 + (1 : Int32)) x24.toInt32 M26) else (zgI Z M15 this [16] 10 fun x27 => zty Z M15 this fun t => t = 16 ∧ wp_X4_fail Z this (5 : Int32) x27 M15 (fun r28 M29 => zrI r28 fun x32 => K (some (.int x32)) M29)))))) else (zty Z M8 this fun t => t = 16 ∧ wp_X4_fail Z this (2 : Int32) (x1 + (1 : Int32)) M8 (fun r38 M39 => zrI r38 fun x42 => K (some (.int x42)) M39)))
theorem ok_X4_speakerLine_B120 {G : zzX} (C : zz_C G cX4_speakerLine "DebateHallModel" 3) {K : Option Value → zzM → Prop} (E : zz_E G (some .int) K (fun _ _ _ => False)) (hH : zz_H G []) (hR : zz_Rm G 8) {v0 : Option Nat} {v1 : Int32} {v2 : Int32} {M : zzM} {bc bs : Nat} (hw : wp_X4_speakerLine_B120 (zz_Zof G) K v0 v1 v2 M) : zz_T G 3 M bc bs 120 [(0, va_rf v0), (1, .int v1), (2, .int v2)] [] := by
  unfold wp_X4_speakerLine_B120 at hw
  refine zz_aload_n C dX4_speakerLine_120 rfl 0 rfl ?_
  refine zz_getA C dX4_speakerLine_121 (Or.inl q2447) zf_16_11_ebateHallModel hw (fun x43 hw => ?_)
  refine zz_getA C dX4_speakerLine_124 (Or.inr ⟨_, q2390⟩) zf_17_1_allModel_State hw (fun x44 hw => ?_)
  refine zz_aload_n C dX4_speakerLine_127 rfl 0 rfl ?_
  refine zz_getA C dX4_speakerLine_128 (Or.inl q2447) zf_16_11_ebateHallModel hw (fun x45 hw => ?_)
  refine zz_getI C dX4_speakerLine_131 (Or.inr ⟨_, q2388⟩) zf_17_0_allModel_State hw (fun x46 hw => ?_)
  refine zz_aload_n C dX4_speakerLine_134 rfl 0 rfl ?_
  refine zz_getA C dX4_speakerLine_135 (Or.inl q2445) zf_16_9_ebateHallModel hw (fun x47 hw => ?_)
  refine zz_iload_n C dX4_speakerLine_138 rfl 1 rfl ?_
  refine zz_lald C dX4_speakerLine_139 hw (fun x48 hw => ?_)
  refine zz_last C dX4_speakerLine_140 hw (fun M49 hw => ?_)
  refine zz_aload_n C dX4_speakerLine_141 rfl 0 rfl ?_
  refine zz_getA C dX4_speakerLine_142 (Or.inl q2447) zf_16_11_ebateHallModel hw (fun x50 hw => ?_)
  refine zz_getA C dX4_speakerLine_145 (Or.inr ⟨_, q2392⟩) zf_17_2_allModel_State hw (fun x51 hw => ?_)
  refine zz_aload_n C dX4_speakerLine_148 rfl 0 rfl ?_
  refine zz_getA C dX4_speakerLine_149 (Or.inl q2447) zf_16_11_ebateHallModel hw (fun x52 hw => ?_)
  refine zz_getI C dX4_speakerLine_152 (Or.inr ⟨_, q2388⟩) zf_17_0_allModel_State hw (fun x53 hw => ?_)
  refine zz_iload_n C dX4_speakerLine_155 rfl 2 rfl ?_
  refine zz_iast C dX4_speakerLine_156 hw (fun M54 hw => ?_)
  refine zz_aload_n C dX4_speakerLine_157 rfl 0 rfl ?_
  refine zz_getA C dX4_speakerLine_158 (Or.inl q2447) zf_16_11_ebateHallModel hw (fun x55 hw => ?_)
  refine zz_dup C dX4_speakerLine_161 (zz_cat _) ?_
  refine zz_getI C dX4_speakerLine_162 (Or.inr ⟨_, q2388⟩) zf_17_0_allModel_State hw (fun x56 hw => ?_)
  refine zz_iconst (v := (1 : Int32)) C dX4_speakerLine_165 (by decide) ?_
  refine zz_iadd C dX4_speakerLine_166 ?_
  refine zz_put C dX4_speakerLine_167 (Or.inr ⟨_, q2388⟩) zf_17_0_allModel_State zp_17_0 (zz_hn1 ⟨rfl, rfl⟩) hw (fun M57 hw => ?_)
  refine zz_iconst (v := (0 : Int32)) C dX4_speakerLine_170 (by decide) ?_
  exact zz_iret C E dX4_speakerLine_171 hw
theorem ok_X4_speakerLine {Z : zzG} {l : Launch} (hl : l.stackTraces = false) {this : Option Nat} {M : zzM} {mc ms : Nat} {K : Option Value → zzM → Prop} (hw : wp_X4_speakerLine Z this M K) : zz_Met Z l yX4_speakerLine (zz_ws yX4_speakerLine cX4_speakerLine 3 (some .int) none) 8 [va_rf this] M mc ms K (fun _ _ _ => False) := by
  refine zz_ofW hl (plainFor_of_name (by decide)) (by simp only [zz_sl0, zz_slI, zz_slJ, zz_slA] <;> decide) (fun G hZ hll C E hH hR hin => ?_)
  subst hZ
  subst hll
  rw [show lv_args 0 [va_rf this] = [(0, va_rf this)] by simp only [zz_la0, zz_laI, zz_laJ, zz_laA]]
  unfold wp_X4_speakerLine at hw
  refine zz_aload_n C dX4_speakerLine_0 rfl 0 rfl ?_
  refine zz_getI C dX4_speakerLine_1 (Or.inl q2446) zf_16_10_ebateHallModel hw (fun x1 hw => ?_)
  refine zz_iconst (v := (1 : Int32)) C dX4_speakerLine_4 (by decide) ?_
  refine zz_iadd C dX4_speakerLine_5 ?_
  refine zz_istore_n (i := 1) (lv' := [(1, .int (x1 + (1 : Int32))), (0, va_rf this)]) C dX4_speakerLine_6 rfl (by decide) (by simp [zz_cat, zz_catI, zz_catJ, zz_catD]) ?_
  refine zz_aload_n C dX4_speakerLine_7 rfl 1 rfl ?_
  refine zz_dup C dX4_speakerLine_8 (zz_cat _) ?_
  refine zz_getI C dX4_speakerLine_9 (Or.inl q2446) zf_16_10_ebateHallModel hw (fun x2 hw => ?_)
  refine zz_iconst (v := (2 : Int32)) C dX4_speakerLine_12 (by decide) ?_
  refine zz_iadd C dX4_speakerLine_13 ?_
  refine zz_put C dX4_speakerLine_14 (Or.inl q2446) zf_16_10_ebateHallModel zp_16_10 (zz_hn1 ⟨rfl, rfl⟩) hw (fun M3 hw => ?_)
  refine zz_aload_n C dX4_speakerLine_17 rfl 1 rfl ?_
  refine zz_getA C dX4_speakerLine_18 (Or.inl q2447) zf_16_11_ebateHallModel hw (fun x4 hw => ?_)
  refine zz_aload_n C dX4_speakerLine_21 rfl 1 rfl ?_
  refine zz_getA C dX4_speakerLine_22 (Or.inl q2445) zf_16_9_ebateHallModel hw (fun x5 hw => ?_)
  refine zz_iload_n C dX4_speakerLine_25 rfl 0 rfl ?_
  refine zz_lald C dX4_speakerLine_26 hw (fun x6 hw => ?_)
  obtain ⟨a9, t9, b9, fs9, hro, hL, rfl, hw⟩ := ztyS hw
  refine zz_callV (r := (zR_17, zT_17, 12)) (As := [.long x6]) (rest := []) (mc := 0) (ms := 0) C hR hro dX4_speakerLine_27 (Or.inl q2651) q2652 (Or.inl q2653) zl_DebateHallModel_State zk_X5_speakerOf (Or.inl rfl) zy_X5_speakerOf rfl (by decide) (by decide) hL (ok_X5_speakerOf (zz_hl C) hw) (Nat.zero_le _) (Nat.zero_le _) (zz_cat10 _ (Nat.le_of_ble_eq_true rfl)) (fun r7 M8 hw => zz_kI hw (fun x11 hw => ?_)) (fun _ _ _ h9 => h9.elim) rfl
  refine zz_iconst (v := (-1 : Int32)) C dX4_speakerLine_30 (by decide) ?_
  refine zz_icmp_eq (tgt := 41) C dX4_speakerLine_31 (by decide) hw (fun hw => ?_) (fun hw => ?_)
  · refine zz_aload_n C dX4_speakerLine_41 rfl 1 rfl ?_
    refine zz_getA C dX4_speakerLine_42 (Or.inl q2447) zf_16_11_ebateHallModel hw (fun x12 hw => ?_)
    refine zz_getI C dX4_speakerLine_45 (Or.inr ⟨_, q2388⟩) zf_17_0_allModel_State hw (fun x13 hw => ?_)
    refine zz_bipush (v := (6 : Int32)) C dX4_speakerLine_48 (by decide) ?_
    refine zz_icmp_ne (tgt := 60) C dX4_speakerLine_50 (by decide) hw (fun hw => ?_) (fun hw => ?_)
    · refine zz_sipush (v := (300 : Int32)) C dX4_speakerLine_60 (by decide) ?_
      refine zz_istore_n (i := 2) (lv' := [(2, .int (300 : Int32)), (1, .int (x1 + (1 : Int32))), (0, va_rf this)]) C dX4_speakerLine_63 rfl (by decide) rfl ?_
      refine zz_aload_n C dX4_speakerLine_64 rfl 2 rfl ?_
      refine zz_ldcS (j := 74) C dX4_speakerLine_65 rfl ?_
      obtain ⟨a9, t9, b9, fs9, hro, hL, rfl, hw⟩ := ztyS hw
      refine zz_callV (r := (zR_16, zT_16, 24)) (As := [va_rf (some (zz_ad (zz_Zof G) 174))]) (rest := []) (mc := 0) (ms := 0) C hR hro dX4_speakerLine_67 (Or.inl q2560) q2562 (Or.inl qs37) zl_DebateHallModel zk_X4_word (Or.inl rfl) zy_X4_word rfl (by decide) (by decide) hL (ok_X4_word (zz_hl C) hw) (Nat.zero_le _) (Nat.zero_le _) (zz_cat10 _ (Nat.le_of_ble_eq_true rfl)) (fun r14 M15 hw => zz_kI hw (fun x18 hw => ?_)) (fun _ _ _ h9 => h9.elim) rfl
      refine zz_if_eq (tgt := 120) C dX4_speakerLine_70 (by decide) hw (fun hw => ?_) (fun hw => ?_)
      · refine zz_subP [2, 1, 0] rfl ?_
        exact ok_X4_speakerLine_B120 C E hH hR hw
      · refine zz_aload_n C dX4_speakerLine_73 rfl 2 rfl ?_
        refine zz_getA C dX4_speakerLine_74 (Or.inl q2445) zf_16_9_ebateHallModel hw (fun x19 hw => ?_)
        refine zz_aload_n C dX4_speakerLine_77 rfl 2 rfl ?_
        refine zz_getI C dX4_speakerLine_78 (Or.inl q2446) zf_16_10_ebateHallModel hw (fun x20 hw => ?_)
        refine zz_lald C dX4_speakerLine_81 hw (fun x21 hw => ?_)
        refine zz_ldc2 C dX4_speakerLine_82 q2655 ?_
        refine zz_lcmp C dX4_speakerLine_85 ?_
        refine zz_if_le (tgt := 99) C dX4_speakerLine_86 (by decide) hw (fun hw => ?_) (fun hw => ?_)
        · refine zz_aload_n C dX4_speakerLine_99 rfl 2 rfl ?_
          refine zz_getA C dX4_speakerLine_100 (Or.inl q2445) zf_16_9_ebateHallModel hw (fun x22 hw => ?_)
          refine zz_aload_n C dX4_speakerLine_103 rfl 2 rfl ?_
          refine zz_getI C dX4_speakerLine_104 (Or.inl q2446) zf_16_10_ebateHallModel hw (fun x23 hw => ?_)
          refine zz_lald C dX4_speakerLine_107 hw (fun x24 hw => ?_)
          refine zz_l2i C dX4_speakerLine_108 ?_
          refine zz_istore_n (i := 2) (lv' := [(2, .int x24.toInt32), (1, .int (x1 + (1 : Int32))), (0, va_rf this)]) C dX4_speakerLine_109 rfl (by decide) rfl ?_
          refine zz_aload_n C dX4_speakerLine_110 rfl 2 rfl ?_
          refine zz_dup C dX4_speakerLine_111 (zz_cat _) ?_
          refine zz_getI C dX4_speakerLine_112 (Or.inl q2446) zf_16_10_ebateHallModel hw (fun x25 hw => ?_)
          refine zz_iconst (v := (1 : Int32)) C dX4_speakerLine_115 (by decide) ?_
          refine zz_iadd C dX4_speakerLine_116 ?_
          refine zz_put C dX4_speakerLine_117 (Or.inl q2446) zf_16_10_ebateHallModel zp_16_10 (zz_hn1 ⟨rfl, rfl⟩) hw (fun M26 hw => ?_)
          refine zz_subP [2, 1, 0] rfl ?_
          exact ok_X4_speakerLine_B120 C E hH hR hw
        · refine zz_aload_n C dX4_speakerLine_89 rfl 2 rfl ?_
          refine zz_iconst (v := (5 : Int32)) C dX4_speakerLine_90 (by decide) ?_
          refine zz_aload_n C dX4_speakerLine_91 rfl 2 rfl ?_
          refine zz_getI C dX4_speakerLine_92 (Or.inl q2446) zf_16_10_ebateHallModel hw (fun x27 hw => ?_)
          obtain ⟨a9, t9, b9, fs9, hro, hL, rfl, hw⟩ := ztyS hw
          refine zz_callV (r := (zR_16, zT_16, 24)) (As := [.int (5 : Int32), .int x27]) (rest := []) (mc := 0) (ms := 0) C hR hro dX4_speakerLine_95 (Or.inl q2630) q2632 (Or.inl qs47) zl_DebateHallModel zk_X4_fail (Or.inl rfl) zy_X4_fail rfl (by decide) (by decide) hL (ok_X4_fail (zz_hl C) hw) (Nat.zero_le _) (Nat.zero_le _) (zz_cat10 _ (Nat.le_of_ble_eq_true rfl)) (fun r28 M29 hw => zz_kI hw (fun x32 hw => ?_)) (fun _ _ _ h9 => h9.elim) rfl
          exact zz_iret C E dX4_speakerLine_98 hw
    · refine zz_aload_n C dX4_speakerLine_53 rfl 1 rfl ?_
      refine zz_iconst (v := (4 : Int32)) C dX4_speakerLine_54 (by decide) ?_
      refine zz_iload_n C dX4_speakerLine_55 rfl 0 rfl ?_
      obtain ⟨a9, t9, b9, fs9, hro, hL, rfl, hw⟩ := ztyS hw
      refine zz_callV (r := (zR_16, zT_16, 24)) (As := [.int (4 : Int32), .int (x1 + (1 : Int32))]) (rest := []) (mc := 0) (ms := 0) C hR hro dX4_speakerLine_56 (Or.inl q2630) q2632 (Or.inl qs47) zl_DebateHallModel zk_X4_fail (Or.inl rfl) zy_X4_fail rfl (by decide) (by decide) hL (ok_X4_fail (zz_hl C) hw) (Nat.zero_le _) (Nat.zero_le _) (zz_cat10 _ (Nat.le_of_ble_eq_true rfl)) (fun r33 M34 hw => zz_kI hw (fun x37 hw => ?_)) (fun _ _ _ h9 => h9.elim) rfl
      exact zz_iret C E dX4_speakerLine_59 hw
  · refine zz_aload_n C dX4_speakerLine_34 rfl 1 rfl ?_
    refine zz_iconst (v := (2 : Int32)) C dX4_speakerLine_35 (by decide) ?_
    refine zz_iload_n C dX4_speakerLine_36 rfl 0 rfl ?_
    obtain ⟨a9, t9, b9, fs9, hro, hL, rfl, hw⟩ := ztyS hw
    refine zz_callV (r := (zR_16, zT_16, 24)) (As := [.int (2 : Int32), .int (x1 + (1 : Int32))]) (rest := []) (mc := 0) (ms := 0) C hR hro dX4_speakerLine_37 (Or.inl q2630) q2632 (Or.inl qs47) zl_DebateHallModel zk_X4_fail (Or.inl rfl) zy_X4_fail rfl (by decide) (by decide) hL (ok_X4_fail (zz_hl C) hw) (Nat.zero_le _) (Nat.zero_le _) (zz_cat10 _ (Nat.le_of_ble_eq_true rfl)) (fun r38 M39 hw => zz_kI hw (fun x42 hw => ?_)) (fun _ _ _ h9 => h9.elim) rfl
    exact zz_iret C E dX4_speakerLine_40 hw
abbrev cX5_itemOf : ByteArray := prog_26_method_5_code
def yX5_itemOf : MethodName := ⟨"DebateHallModel$State", "itemOf", "(J)I"⟩
def dkwX5_itemOf_1 : List UInt8 := [132, 3, 1, 167, 255, 232, 2, 172]
abbrev dktX5_itemOf_1 : List UInt8 := dkwX5_itemOf_1 ++ []
def dkwX5_itemOf_0 : List UInt8 := [3, 62, 29, 42, 180, 0, 54, 162, 0, 22, 42, 180, 0, 23, 29, 47, 31, 148, 154, 0, 5, 29, 172]
abbrev dktX5_itemOf_0 : List UInt8 := dkwX5_itemOf_0 ++ dktX5_itemOf_1
theorem dksX5_itemOf_0 : cX5_itemOf.data.toList.drop 0 = dktX5_itemOf_0 := by decide +kernel
theorem dksX5_itemOf_1 : cX5_itemOf.data.toList.drop 23 = dktX5_itemOf_1 := dk_seg dksX5_itemOf_0 23 rfl rfl
theorem dX5_itemOf_0 : decode cX5_itemOf 0 = .ok (.iconst 0, 1) := dk_3 (dk_at dksX5_itemOf_0 0 rfl rfl)
theorem dX5_itemOf_1 : decode cX5_itemOf 1 = .ok (.istore_n 3, 1) := dk_62 (dk_at dksX5_itemOf_0 1 rfl rfl)
theorem dX5_itemOf_2 : decode cX5_itemOf 2 = .ok (.iload_n 3, 1) := dk_29 (dk_at dksX5_itemOf_0 2 rfl rfl)
theorem dX5_itemOf_3 : decode cX5_itemOf 3 = .ok (.aload_n 0, 1) := dk_42 (dk_at dksX5_itemOf_0 3 rfl rfl)
theorem dX5_itemOf_4 : decode cX5_itemOf 4 = .ok (.getfield 54, 3) := dk_180 0 54 (dk_at dksX5_itemOf_0 4 rfl rfl)
theorem dX5_itemOf_7 : decode cX5_itemOf 7 = .ok (.if_icmp .ge 22, 3) := dk_162 0 22 (dk_at dksX5_itemOf_0 7 rfl rfl)
theorem dX5_itemOf_10 : decode cX5_itemOf 10 = .ok (.aload_n 0, 1) := dk_42 (dk_at dksX5_itemOf_0 10 rfl rfl)
theorem dX5_itemOf_11 : decode cX5_itemOf 11 = .ok (.getfield 23, 3) := dk_180 0 23 (dk_at dksX5_itemOf_0 11 rfl rfl)
theorem dX5_itemOf_14 : decode cX5_itemOf 14 = .ok (.iload_n 3, 1) := dk_29 (dk_at dksX5_itemOf_0 14 rfl rfl)
theorem dX5_itemOf_15 : decode cX5_itemOf 15 = .ok (.laload, 1) := dk_47 (dk_at dksX5_itemOf_0 15 rfl rfl)
theorem dX5_itemOf_16 : decode cX5_itemOf 16 = .ok (.lload_n 1, 1) := dk_31 (dk_at dksX5_itemOf_0 16 rfl rfl)
theorem dX5_itemOf_17 : decode cX5_itemOf 17 = .ok (.lcmp, 1) := dk_148 (dk_at dksX5_itemOf_0 17 rfl rfl)
theorem dX5_itemOf_18 : decode cX5_itemOf 18 = .ok (.ifCond .ne 5, 3) := dk_154 0 5 (dk_at dksX5_itemOf_0 18 rfl rfl)
theorem dX5_itemOf_21 : decode cX5_itemOf 21 = .ok (.iload_n 3, 1) := dk_29 (dk_at dksX5_itemOf_0 21 rfl rfl)
theorem dX5_itemOf_22 : decode cX5_itemOf 22 = .ok (.ireturn, 1) := dk_172 (dk_at dksX5_itemOf_0 22 rfl rfl)
theorem dX5_itemOf_23 : decode cX5_itemOf 23 = .ok (.iinc 3 1, 3) := dk_132 3 1 (dk_at dksX5_itemOf_1 0 rfl rfl)
theorem dX5_itemOf_26 : decode cX5_itemOf 26 = .ok (.goto (-24), 3) := dk_167 255 232 (dk_at dksX5_itemOf_1 3 rfl rfl)
theorem dX5_itemOf_29 : decode cX5_itemOf 29 = .ok (.iconst (-1), 1) := dk_2 (dk_at dksX5_itemOf_1 6 rfl rfl)
theorem dX5_itemOf_30 : decode cX5_itemOf 30 = .ok (.ireturn, 1) := dk_172 (dk_at dksX5_itemOf_1 7 rfl rfl)
def wp_X5_itemOf_L2 (Z : zzG) (K : Option Value → zzM → Prop) : Nat → Option Nat → Int64 → Int32 → zzM → Prop
  | 0, _, _, _, _ => False
  | n + 1, v0, v1, v3, M => zgI Z M v0 [17] 3 fun x1 => if x1 ≤ v3 then (K (some (.int (-1 : Int32))) M) else (zgA Z M v0 [17] 4 fun x2 => zaJ Z M x2 [102] v3 fun x3 => if (lg_cmp x3 v1) = 0 then (K (some (.int v3)) M) else (wp_X5_itemOf_L2 Z K n v0 v1 (v3 + 1) M))
def wp_X5_itemOf (Z : zzG) (this : Option Nat) (p0 : Int64) (M : zzM) (K : Option Value → zzM → Prop) : Prop := ∃ n2 : Nat, wp_X5_itemOf_L2 Z K n2 this p0 (0 : Int32) M
theorem ok_X5_itemOf_L2 {G : zzX} (C : zz_C G cX5_itemOf "DebateHallModel$State" 4) {K : Option Value → zzM → Prop} (E : zz_E G (some .int) K (fun _ _ _ => False)) (hH : zz_H G []) (hR : zz_Rm G 1) : ∀ (n : Nat) (v0 : Option Nat) (v1 : Int64) (v3 : Int32) (M : zzM) (bc bs : Nat), wp_X5_itemOf_L2 (zz_Zof G) K n v0 v1 v3 M → zz_T G 4 M bc bs 2 [(0, va_rf v0), (1, .long v1), (3, .int v3)] [] := by
  intro n
  induction n with
  | zero =>
    intro v0 v1 v3 M bc bs hw
    exact False.elim hw
  | succ n ih =>
    intro v0 v1 v3 M bc bs hw
    refine zz_iload_n C dX5_itemOf_2 rfl 2 rfl ?_
    refine zz_aload_n C dX5_itemOf_3 rfl 0 rfl ?_
    refine zz_getI C dX5_itemOf_4 (Or.inl q2393) zf_17_3_allModel_State hw (fun x1 hw => ?_)
    refine zz_icmp_ge (tgt := 29) C dX5_itemOf_7 (by decide) hw (fun hw => ?_) (fun hw => ?_)
    · refine zz_iconst (v := (-1 : Int32)) C dX5_itemOf_29 (by decide) ?_
      exact zz_iret C E dX5_itemOf_30 hw
    · refine zz_aload_n C dX5_itemOf_10 rfl 0 rfl ?_
      refine zz_getA C dX5_itemOf_11 (Or.inl q2395) zf_17_4_allModel_State hw (fun x2 hw => ?_)
      refine zz_iload_n C dX5_itemOf_14 rfl 2 rfl ?_
      refine zz_lald C dX5_itemOf_15 hw (fun x3 hw => ?_)
      refine zz_lload_n C dX5_itemOf_16 rfl 1 rfl ?_
      refine zz_lcmp C dX5_itemOf_17 ?_
      refine zz_if_ne (tgt := 23) C dX5_itemOf_18 (by decide) hw (fun hw => ?_) (fun hw => ?_)
      · refine zz_iinc (lv' := [(3, .int (v3 + 1)), (0, va_rf v0), (1, .long v1)]) C dX5_itemOf_23 2 rfl (by rfl) (by decide) rfl ?_
        refine zz_goto (tgt := 2) C dX5_itemOf_26 (by decide) ?_
        refine zz_subP [1, 2, 0] rfl ?_
        exact ih _ _ _ _ _ _ hw
      · refine zz_iload_n C dX5_itemOf_21 rfl 2 rfl ?_
        exact zz_iret C E dX5_itemOf_22 hw
theorem ok_X5_itemOf {Z : zzG} {l : Launch} (hl : l.stackTraces = false) {this : Option Nat} {p0 : Int64} {M : zzM} {mc ms : Nat} {K : Option Value → zzM → Prop} (hw : wp_X5_itemOf Z this p0 M K) : zz_Met Z l yX5_itemOf (zz_ws yX5_itemOf cX5_itemOf 4 (some .int) none) 1 [va_rf this, .long p0] M mc ms K (fun _ _ _ => False) := by
  refine zz_ofW hl (plainFor_of_name (by decide)) (by simp only [zz_sl0, zz_slI, zz_slJ, zz_slA] <;> decide) (fun G hZ hll C E hH hR hin => ?_)
  subst hZ
  subst hll
  rw [show lv_args 0 [va_rf this, .long p0] = [(0, va_rf this), (1, .long p0)] by simp only [zz_la0, zz_laI, zz_laJ, zz_laA]]
  unfold wp_X5_itemOf at hw
  refine zz_iconst (v := (0 : Int32)) C dX5_itemOf_0 (by decide) ?_
  refine zz_istore_n (i := 3) (lv' := [(3, .int (0 : Int32)), (0, va_rf this), (1, .long p0)]) C dX5_itemOf_1 rfl (by decide) rfl ?_
  refine zz_subP [1, 2, 0] rfl ?_
  obtain ⟨n2, hw⟩ := hw
  exact ok_X5_itemOf_L2 C E hH hR n2 _ _ _ _ _ _ hw
abbrev cX4_newName : ByteArray := prog_25_method_33_code
def yX4_newName : MethodName := ⟨"DebateHallModel", "newName", "(I)I"⟩
def dkwX4_newName_1 : List UInt8 := [42, 180, 0, 48, 180, 0, 95, 16, 40, 160, 0, 12, 42, 7, 27, 182, 0, 255, 167, 0, 4, 3, 172]
abbrev dktX4_newName_1 : List UInt8 := dkwX4_newName_1 ++ []
def dkwX4_newName_0 : List UInt8 := [42, 180, 0, 48, 42, 180, 0, 40, 27, 47, 182, 1, 10, 2, 159, 0, 10, 42, 5, 27, 182, 0, 255, 172]
abbrev dktX4_newName_0 : List UInt8 := dkwX4_newName_0 ++ dktX4_newName_1
theorem dksX4_newName_0 : cX4_newName.data.toList.drop 0 = dktX4_newName_0 := by decide +kernel
theorem dksX4_newName_1 : cX4_newName.data.toList.drop 24 = dktX4_newName_1 := dk_seg dksX4_newName_0 24 rfl rfl
theorem dX4_newName_0 : decode cX4_newName 0 = .ok (.aload_n 0, 1) := dk_42 (dk_at dksX4_newName_0 0 rfl rfl)
theorem dX4_newName_1 : decode cX4_newName 1 = .ok (.getfield 48, 3) := dk_180 0 48 (dk_at dksX4_newName_0 1 rfl rfl)
theorem dX4_newName_4 : decode cX4_newName 4 = .ok (.aload_n 0, 1) := dk_42 (dk_at dksX4_newName_0 4 rfl rfl)
theorem dX4_newName_5 : decode cX4_newName 5 = .ok (.getfield 40, 3) := dk_180 0 40 (dk_at dksX4_newName_0 5 rfl rfl)
theorem dX4_newName_8 : decode cX4_newName 8 = .ok (.iload_n 1, 1) := dk_27 (dk_at dksX4_newName_0 8 rfl rfl)
theorem dX4_newName_9 : decode cX4_newName 9 = .ok (.laload, 1) := dk_47 (dk_at dksX4_newName_0 9 rfl rfl)
theorem dX4_newName_10 : decode cX4_newName 10 = .ok (.invokevirtual 266, 3) := dk_182 1 10 (dk_at dksX4_newName_0 10 rfl rfl)
theorem dX4_newName_13 : decode cX4_newName 13 = .ok (.iconst (-1), 1) := dk_2 (dk_at dksX4_newName_0 13 rfl rfl)
theorem dX4_newName_14 : decode cX4_newName 14 = .ok (.if_icmp .eq 10, 3) := dk_159 0 10 (dk_at dksX4_newName_0 14 rfl rfl)
theorem dX4_newName_17 : decode cX4_newName 17 = .ok (.aload_n 0, 1) := dk_42 (dk_at dksX4_newName_0 17 rfl rfl)
theorem dX4_newName_18 : decode cX4_newName 18 = .ok (.iconst 2, 1) := dk_5 (dk_at dksX4_newName_0 18 rfl rfl)
theorem dX4_newName_19 : decode cX4_newName 19 = .ok (.iload_n 1, 1) := dk_27 (dk_at dksX4_newName_0 19 rfl rfl)
theorem dX4_newName_20 : decode cX4_newName 20 = .ok (.invokevirtual 255, 3) := dk_182 0 255 (dk_at dksX4_newName_0 20 rfl rfl)
theorem dX4_newName_23 : decode cX4_newName 23 = .ok (.ireturn, 1) := dk_172 (dk_at dksX4_newName_0 23 rfl rfl)
theorem dX4_newName_24 : decode cX4_newName 24 = .ok (.aload_n 0, 1) := dk_42 (dk_at dksX4_newName_1 0 rfl rfl)
theorem dX4_newName_25 : decode cX4_newName 25 = .ok (.getfield 48, 3) := dk_180 0 48 (dk_at dksX4_newName_1 1 rfl rfl)
theorem dX4_newName_28 : decode cX4_newName 28 = .ok (.getfield 95, 3) := dk_180 0 95 (dk_at dksX4_newName_1 4 rfl rfl)
theorem dX4_newName_31 : decode cX4_newName 31 = .ok (.bipush 40, 2) := dk_16 40 (dk_at dksX4_newName_1 7 rfl rfl)
theorem dX4_newName_33 : decode cX4_newName 33 = .ok (.if_icmp .ne 12, 3) := dk_160 0 12 (dk_at dksX4_newName_1 9 rfl rfl)
theorem dX4_newName_36 : decode cX4_newName 36 = .ok (.aload_n 0, 1) := dk_42 (dk_at dksX4_newName_1 12 rfl rfl)
theorem dX4_newName_37 : decode cX4_newName 37 = .ok (.iconst 4, 1) := dk_7 (dk_at dksX4_newName_1 13 rfl rfl)
theorem dX4_newName_38 : decode cX4_newName 38 = .ok (.iload_n 1, 1) := dk_27 (dk_at dksX4_newName_1 14 rfl rfl)
theorem dX4_newName_39 : decode cX4_newName 39 = .ok (.invokevirtual 255, 3) := dk_182 0 255 (dk_at dksX4_newName_1 15 rfl rfl)
theorem dX4_newName_42 : decode cX4_newName 42 = .ok (.goto 4, 3) := dk_167 0 4 (dk_at dksX4_newName_1 18 rfl rfl)
theorem dX4_newName_45 : decode cX4_newName 45 = .ok (.iconst 0, 1) := dk_3 (dk_at dksX4_newName_1 21 rfl rfl)
theorem dX4_newName_46 : decode cX4_newName 46 = .ok (.ireturn, 1) := dk_172 (dk_at dksX4_newName_1 22 rfl rfl)
theorem q2667 : (Jvm.Cond.code ({ cls := "DebateHallModel$State", name := "itemOf", desc := "(J)I" } : Jvm.MethodName) prog_26_method_5_code (4 : Nat) (Option.some Jvm.ClassFile.FieldType.int)) ∈ lw_all := lw_g (lw_at lw_m11 187 rfl) rfl
theorem zk_X5_itemOf : zz_cd yX5_itemOf cX5_itemOf 4 (some .int) none ∈ lw_all := q2667
theorem zy_X5_itemOf : zz_yok yX5_itemOf 1 = true := by decide +kernel
theorem q2664 : (Jvm.Cond.methodLink "DebateHallModel" (266 : Nat) ({ cls := "DebateHallModel$State", name := "itemOf", desc := "(J)I" } : Jvm.MethodName)) ∈ lw_all := lw_g (lw_at lw_m11 184 rfl) rfl
theorem q2665 : (Jvm.Cond.instanceMethod ({ cls := "DebateHallModel$State", name := "itemOf", desc := "(J)I" } : Jvm.MethodName)) ∈ lw_all := lw_g (lw_at lw_m11 185 rfl) rfl
theorem q2666 : (Jvm.Cond.selects "DebateHallModel$State" ({ cls := "DebateHallModel$State", name := "itemOf", desc := "(J)I" } : Jvm.MethodName) ({ cls := "DebateHallModel$State", name := "itemOf", desc := "(J)I" } : Jvm.MethodName)) ∈ lw_all := lw_g (lw_at lw_m11 186 rfl) rfl
def wp_X4_newName_B46 (Z : zzG) (K : Option Value → zzM → Prop) (s0 : Int32) (M : zzM) : Prop := K (some (.int s0)) M
def wp_X4_newName (Z : zzG) (this : Option Nat) (p0 : Int32) (M : zzM) (K : Option Value → zzM → Prop) : Prop := zgA Z M this [16] 11 fun x1 => zgA Z M this [16] 9 fun x2 => zaJ Z M x2 [102] p0 fun x3 => zty Z M x1 fun t => t = 17 ∧ wp_X5_itemOf Z x1 x3 M (fun r4 M5 => zrI r4 fun x8 => if x8 = (-1 : Int32) then (zgA Z M5 this [16] 11 fun x9 => zgI Z M5 x9 [17] 3 fun x10 => if x10 = (40 : Int32) then (zty Z M5 this fun t => t = 16 ∧ wp_X4_fail Z this (4 : Int32) p0 M5 (fun r11 M12 => zrI r11 fun x15 => wp_X4_newName_B46 Z K x15 M12)) else (wp_X4_newName_B46 Z K (0 : Int32) M5)) else (zty Z M5 this fun t => t = 16 ∧ wp_X4_fail Z this (2 : Int32) p0 M5 (fun r16 M17 => zrI r16 fun x20 => K (some (.int x20)) M17)))
theorem ok_X4_newName_B46 {G : zzX} (C : zz_C G cX4_newName "DebateHallModel" 2) {K : Option Value → zzM → Prop} (E : zz_E G (some .int) K (fun _ _ _ => False)) (hH : zz_H G []) (hR : zz_Rm G 2) {s0 : Int32} {M : zzM} {bc bs : Nat} (hw : wp_X4_newName_B46 (zz_Zof G) K s0 M) : zz_T G 2 M bc bs 46 [] [.int s0] := by
  unfold wp_X4_newName_B46 at hw
  exact zz_iret C E dX4_newName_46 hw
theorem ok_X4_newName {Z : zzG} {l : Launch} (hl : l.stackTraces = false) {this : Option Nat} {p0 : Int32} {M : zzM} {mc ms : Nat} {K : Option Value → zzM → Prop} (hw : wp_X4_newName Z this p0 M K) : zz_Met Z l yX4_newName (zz_ws yX4_newName cX4_newName 2 (some .int) none) 2 [va_rf this, .int p0] M mc ms K (fun _ _ _ => False) := by
  refine zz_ofW hl (plainFor_of_name (by decide)) (by simp only [zz_sl0, zz_slI, zz_slJ, zz_slA] <;> decide) (fun G hZ hll C E hH hR hin => ?_)
  subst hZ
  subst hll
  rw [show lv_args 0 [va_rf this, .int p0] = [(0, va_rf this), (1, .int p0)] by simp only [zz_la0, zz_laI, zz_laJ, zz_laA]]
  unfold wp_X4_newName at hw
  refine zz_aload_n C dX4_newName_0 rfl 0 rfl ?_
  refine zz_getA C dX4_newName_1 (Or.inl q2447) zf_16_11_ebateHallModel hw (fun x1 hw => ?_)
  refine zz_aload_n C dX4_newName_4 rfl 0 rfl ?_
  refine zz_getA C dX4_newName_5 (Or.inl q2445) zf_16_9_ebateHallModel hw (fun x2 hw => ?_)
  refine zz_iload_n C dX4_newName_8 rfl 1 rfl ?_
  refine zz_lald C dX4_newName_9 hw (fun x3 hw => ?_)
  obtain ⟨a9, t9, b9, fs9, hro, hL, rfl, hw⟩ := ztyS hw
  refine zz_callV (r := (zR_17, zT_17, 12)) (As := [.long x3]) (rest := []) (mc := 0) (ms := 0) C hR hro dX4_newName_10 (Or.inl q2664) q2665 (Or.inl q2666) zl_DebateHallModel_State zk_X5_itemOf (Or.inl rfl) zy_X5_itemOf rfl (by decide) (by decide) hL (ok_X5_itemOf (zz_hl C) hw) (Nat.zero_le _) (Nat.zero_le _) (zz_cat10 _ (Nat.le_of_ble_eq_true rfl)) (fun r4 M5 hw => zz_kI hw (fun x8 hw => ?_)) (fun _ _ _ h9 => h9.elim) rfl
  refine zz_iconst (v := (-1 : Int32)) C dX4_newName_13 (by decide) ?_
  refine zz_icmp_eq (tgt := 24) C dX4_newName_14 (by decide) hw (fun hw => ?_) (fun hw => ?_)
  · refine zz_aload_n C dX4_newName_24 rfl 0 rfl ?_
    refine zz_getA C dX4_newName_25 (Or.inl q2447) zf_16_11_ebateHallModel hw (fun x9 hw => ?_)
    refine zz_getI C dX4_newName_28 (Or.inr ⟨_, q2394⟩) zf_17_3_allModel_State hw (fun x10 hw => ?_)
    refine zz_bipush (v := (40 : Int32)) C dX4_newName_31 (by decide) ?_
    refine zz_icmp_ne (tgt := 45) C dX4_newName_33 (by decide) hw (fun hw => ?_) (fun hw => ?_)
    · refine zz_iconst (v := (0 : Int32)) C dX4_newName_45 (by decide) ?_
      refine zz_subP [] rfl ?_
      exact ok_X4_newName_B46 C E hH hR hw
    · refine zz_aload_n C dX4_newName_36 rfl 0 rfl ?_
      refine zz_iconst (v := (4 : Int32)) C dX4_newName_37 (by decide) ?_
      refine zz_iload_n C dX4_newName_38 rfl 1 rfl ?_
      obtain ⟨a9, t9, b9, fs9, hro, hL, rfl, hw⟩ := ztyS hw
      refine zz_callV (r := (zR_16, zT_16, 24)) (As := [.int (4 : Int32), .int p0]) (rest := []) (mc := 0) (ms := 0) C hR hro dX4_newName_39 (Or.inl q2630) q2632 (Or.inl qs47) zl_DebateHallModel zk_X4_fail (Or.inl rfl) zy_X4_fail rfl (by decide) (by decide) hL (ok_X4_fail (zz_hl C) hw) (Nat.zero_le _) (Nat.zero_le _) (zz_cat10 _ (Nat.le_of_ble_eq_true rfl)) (fun r11 M12 hw => zz_kI hw (fun x15 hw => ?_)) (fun _ _ _ h9 => h9.elim) rfl
      refine zz_goto (tgt := 46) C dX4_newName_42 (by decide) ?_
      refine zz_subP [] rfl ?_
      exact ok_X4_newName_B46 C E hH hR hw
  · refine zz_aload_n C dX4_newName_17 rfl 0 rfl ?_
    refine zz_iconst (v := (2 : Int32)) C dX4_newName_18 (by decide) ?_
    refine zz_iload_n C dX4_newName_19 rfl 1 rfl ?_
    obtain ⟨a9, t9, b9, fs9, hro, hL, rfl, hw⟩ := ztyS hw
    refine zz_callV (r := (zR_16, zT_16, 24)) (As := [.int (2 : Int32), .int p0]) (rest := []) (mc := 0) (ms := 0) C hR hro dX4_newName_20 (Or.inl q2630) q2632 (Or.inl qs47) zl_DebateHallModel zk_X4_fail (Or.inl rfl) zy_X4_fail rfl (by decide) (by decide) hL (ok_X4_fail (zz_hl C) hw) (Nat.zero_le _) (Nat.zero_le _) (zz_cat10 _ (Nat.le_of_ble_eq_true rfl)) (fun r16 M17 hw => zz_kI hw (fun x20 hw => ?_)) (fun _ _ _ h9 => h9.elim) rfl
    exact zz_iret C E dX4_newName_23 hw
abbrev cX4_sized : ByteArray := prog_25_method_34_code
def yX4_sized : MethodName := ⟨"DebateHallModel", "sized", "(Ljava/lang/String;I)I"⟩
def dkwX4_sized_2 : List UInt8 := [180, 0, 168, 4, 100, 47, 136, 172]
abbrev dktX4_sized_2 : List UInt8 := dkwX4_sized_2 ++ []
def dkwX4_sized_1 : List UInt8 := [184, 0, 91, 154, 0, 5, 3, 172, 42, 89, 180, 0, 168, 4, 96, 181, 0, 168, 42, 180, 0, 40, 42]
abbrev dktX4_sized_1 : List UInt8 := dkwX4_sized_1 ++ dktX4_sized_2
def dkwX4_sized_0 : List UInt8 := [42, 43, 182, 0, 189, 154, 0, 5, 28, 172, 42, 180, 0, 40, 42, 180, 0, 168, 47, 136, 4, 16, 50]
abbrev dktX4_sized_0 : List UInt8 := dkwX4_sized_0 ++ dktX4_sized_1
theorem dksX4_sized_0 : cX4_sized.data.toList.drop 0 = dktX4_sized_0 := by decide +kernel
theorem dksX4_sized_1 : cX4_sized.data.toList.drop 23 = dktX4_sized_1 := dk_seg dksX4_sized_0 23 rfl rfl
theorem dksX4_sized_2 : cX4_sized.data.toList.drop 46 = dktX4_sized_2 := dk_seg dksX4_sized_1 23 rfl rfl
theorem dX4_sized_0 : decode cX4_sized 0 = .ok (.aload_n 0, 1) := dk_42 (dk_at dksX4_sized_0 0 rfl rfl)
theorem dX4_sized_1 : decode cX4_sized 1 = .ok (.aload_n 1, 1) := dk_43 (dk_at dksX4_sized_0 1 rfl rfl)
theorem dX4_sized_2 : decode cX4_sized 2 = .ok (.invokevirtual 189, 3) := dk_182 0 189 (dk_at dksX4_sized_0 2 rfl rfl)
theorem dX4_sized_5 : decode cX4_sized 5 = .ok (.ifCond .ne 5, 3) := dk_154 0 5 (dk_at dksX4_sized_0 5 rfl rfl)
theorem dX4_sized_8 : decode cX4_sized 8 = .ok (.iload_n 2, 1) := dk_28 (dk_at dksX4_sized_0 8 rfl rfl)
theorem dX4_sized_9 : decode cX4_sized 9 = .ok (.ireturn, 1) := dk_172 (dk_at dksX4_sized_0 9 rfl rfl)
theorem dX4_sized_10 : decode cX4_sized 10 = .ok (.aload_n 0, 1) := dk_42 (dk_at dksX4_sized_0 10 rfl rfl)
theorem dX4_sized_11 : decode cX4_sized 11 = .ok (.getfield 40, 3) := dk_180 0 40 (dk_at dksX4_sized_0 11 rfl rfl)
theorem dX4_sized_14 : decode cX4_sized 14 = .ok (.aload_n 0, 1) := dk_42 (dk_at dksX4_sized_0 14 rfl rfl)
theorem dX4_sized_15 : decode cX4_sized 15 = .ok (.getfield 168, 3) := dk_180 0 168 (dk_at dksX4_sized_0 15 rfl rfl)
theorem dX4_sized_18 : decode cX4_sized 18 = .ok (.laload, 1) := dk_47 (dk_at dksX4_sized_0 18 rfl rfl)
theorem dX4_sized_19 : decode cX4_sized 19 = .ok (.l2i, 1) := dk_136 (dk_at dksX4_sized_0 19 rfl rfl)
theorem dX4_sized_20 : decode cX4_sized 20 = .ok (.iconst 1, 1) := dk_4 (dk_at dksX4_sized_0 20 rfl rfl)
theorem dX4_sized_21 : decode cX4_sized 21 = .ok (.bipush 50, 2) := dk_16 50 (dk_at dksX4_sized_0 21 rfl rfl)
theorem dX4_sized_23 : decode cX4_sized 23 = .ok (.invokestatic 91, 3) := dk_184 0 91 (dk_at dksX4_sized_1 0 rfl rfl)
theorem dX4_sized_26 : decode cX4_sized 26 = .ok (.ifCond .ne 5, 3) := dk_154 0 5 (dk_at dksX4_sized_1 3 rfl rfl)
theorem dX4_sized_29 : decode cX4_sized 29 = .ok (.iconst 0, 1) := dk_3 (dk_at dksX4_sized_1 6 rfl rfl)
theorem dX4_sized_30 : decode cX4_sized 30 = .ok (.ireturn, 1) := dk_172 (dk_at dksX4_sized_1 7 rfl rfl)
theorem dX4_sized_31 : decode cX4_sized 31 = .ok (.aload_n 0, 1) := dk_42 (dk_at dksX4_sized_1 8 rfl rfl)
theorem dX4_sized_32 : decode cX4_sized 32 = .ok (.dup, 1) := dk_89 (dk_at dksX4_sized_1 9 rfl rfl)
theorem dX4_sized_33 : decode cX4_sized 33 = .ok (.getfield 168, 3) := dk_180 0 168 (dk_at dksX4_sized_1 10 rfl rfl)
theorem dX4_sized_36 : decode cX4_sized 36 = .ok (.iconst 1, 1) := dk_4 (dk_at dksX4_sized_1 13 rfl rfl)
theorem dX4_sized_37 : decode cX4_sized 37 = .ok (.iadd, 1) := dk_96 (dk_at dksX4_sized_1 14 rfl rfl)
theorem dX4_sized_38 : decode cX4_sized 38 = .ok (.putfield 168, 3) := dk_181 0 168 (dk_at dksX4_sized_1 15 rfl rfl)
theorem dX4_sized_41 : decode cX4_sized 41 = .ok (.aload_n 0, 1) := dk_42 (dk_at dksX4_sized_1 18 rfl rfl)
theorem dX4_sized_42 : decode cX4_sized 42 = .ok (.getfield 40, 3) := dk_180 0 40 (dk_at dksX4_sized_1 19 rfl rfl)
theorem dX4_sized_45 : decode cX4_sized 45 = .ok (.aload_n 0, 1) := dk_42 (dk_at dksX4_sized_1 22 rfl rfl)
theorem dX4_sized_46 : decode cX4_sized 46 = .ok (.getfield 168, 3) := dk_180 0 168 (dk_at dksX4_sized_2 0 rfl rfl)
theorem dX4_sized_49 : decode cX4_sized 49 = .ok (.iconst 1, 1) := dk_4 (dk_at dksX4_sized_2 3 rfl rfl)
theorem dX4_sized_50 : decode cX4_sized 50 = .ok (.isub, 1) := dk_100 (dk_at dksX4_sized_2 4 rfl rfl)
theorem dX4_sized_51 : decode cX4_sized 51 = .ok (.laload, 1) := dk_47 (dk_at dksX4_sized_2 5 rfl rfl)
theorem dX4_sized_52 : decode cX4_sized 52 = .ok (.l2i, 1) := dk_136 (dk_at dksX4_sized_2 6 rfl rfl)
theorem dX4_sized_53 : decode cX4_sized 53 = .ok (.ireturn, 1) := dk_172 (dk_at dksX4_sized_2 7 rfl rfl)
def wp_X4_sized (Z : zzG) (this : Option Nat) (p0 : Option Nat) (p1 : Int32) (M : zzM) (K : Option Value → zzM → Prop) : Prop := zty Z M this fun t => t = 16 ∧ wp_X4_word Z this p0 M (fun r1 M2 => zrI r1 fun x5 => if x5 = 0 then (K (some (.int p1)) M2) else (zgA Z M2 this [16] 9 fun x6 => zgI Z M2 this [16] 10 fun x7 => zaJ Z M2 x6 [102] x7 fun x8 => wp_X4_isIn Z x8.toInt32 (1 : Int32) (50 : Int32) M2 (fun r9 M10 => zrI r9 fun x13 => if x13 = 0 then (K (some (.int (0 : Int32))) M10) else (zgI Z M10 this [16] 10 fun x14 => zput Z M10 this [16] 10 (.int (x14 + (1 : Int32))) fun M15 => zgA Z M15 this [16] 9 fun x16 => zgI Z M15 this [16] 10 fun x17 => zaJ Z M15 x16 [102] (x17 - (1 : Int32)) fun x18 => K (some (.int x18.toInt32)) M15))))
theorem ok_X4_sized {Z : zzG} {l : Launch} (hl : l.stackTraces = false) {this : Option Nat} {p0 : Option Nat} {p1 : Int32} {M : zzM} {mc ms : Nat} {K : Option Value → zzM → Prop} (hw : wp_X4_sized Z this p0 p1 M K) : zz_Met Z l yX4_sized (zz_ws yX4_sized cX4_sized 3 (some .int) none) 8 [va_rf this, va_rf p0, .int p1] M mc ms K (fun _ _ _ => False) := by
  refine zz_ofW hl (plainFor_of_name (by decide)) (by simp only [zz_sl0, zz_slI, zz_slJ, zz_slA] <;> decide) (fun G hZ hll C E hH hR hin => ?_)
  subst hZ
  subst hll
  rw [show lv_args 0 [va_rf this, va_rf p0, .int p1] = [(0, va_rf this), (1, va_rf p0), (2, .int p1)] by simp only [zz_la0, zz_laI, zz_laJ, zz_laA]]
  unfold wp_X4_sized at hw
  refine zz_aload_n C dX4_sized_0 rfl 0 rfl ?_
  refine zz_aload_n C dX4_sized_1 rfl 1 rfl ?_
  obtain ⟨a9, t9, b9, fs9, hro, hL, rfl, hw⟩ := ztyS hw
  refine zz_callV (r := (zR_16, zT_16, 24)) (As := [va_rf p0]) (rest := []) (mc := 0) (ms := 0) C hR hro dX4_sized_2 (Or.inl q2560) q2562 (Or.inl qs37) zl_DebateHallModel zk_X4_word (Or.inl rfl) zy_X4_word rfl (by decide) (by decide) hL (ok_X4_word (zz_hl C) hw) (Nat.zero_le _) (Nat.zero_le _) (zz_cat10 _ (Nat.le_of_ble_eq_true rfl)) (fun r1 M2 hw => zz_kI hw (fun x5 hw => ?_)) (fun _ _ _ h9 => h9.elim) rfl
  refine zz_if_ne (tgt := 10) C dX4_sized_5 (by decide) hw (fun hw => ?_) (fun hw => ?_)
  · refine zz_aload_n C dX4_sized_10 rfl 0 rfl ?_
    refine zz_getA C dX4_sized_11 (Or.inl q2445) zf_16_9_ebateHallModel hw (fun x6 hw => ?_)
    refine zz_aload_n C dX4_sized_14 rfl 0 rfl ?_
    refine zz_getI C dX4_sized_15 (Or.inl q2446) zf_16_10_ebateHallModel hw (fun x7 hw => ?_)
    refine zz_lald C dX4_sized_18 hw (fun x8 hw => ?_)
    refine zz_l2i C dX4_sized_19 ?_
    refine zz_iconst (v := (1 : Int32)) C dX4_sized_20 (by decide) ?_
    refine zz_bipush (v := (50 : Int32)) C dX4_sized_21 (by decide) ?_
    refine zz_callS (As := [.int x8.toInt32, .int (1 : Int32), .int (50 : Int32)]) (rest := []) (mc := 0) (ms := 0) C hR dX4_sized_23 (Or.inl q2525) q2526 zl_DebateHallModel zk_X4_isIn (Or.inl rfl) zy_X4_isIn (by decide) (by decide) (ok_X4_isIn (zz_hl C) hw) (Nat.zero_le _) (Nat.zero_le _) (zz_cat10 _ (Nat.le_of_ble_eq_true rfl)) (fun r9 M10 hw => zz_kI hw (fun x13 hw => ?_)) (fun _ _ _ h9 => h9.elim) rfl
    refine zz_if_ne (tgt := 31) C dX4_sized_26 (by decide) hw (fun hw => ?_) (fun hw => ?_)
    · refine zz_aload_n C dX4_sized_31 rfl 0 rfl ?_
      refine zz_dup C dX4_sized_32 (zz_cat _) ?_
      refine zz_getI C dX4_sized_33 (Or.inl q2446) zf_16_10_ebateHallModel hw (fun x14 hw => ?_)
      refine zz_iconst (v := (1 : Int32)) C dX4_sized_36 (by decide) ?_
      refine zz_iadd C dX4_sized_37 ?_
      refine zz_put C dX4_sized_38 (Or.inl q2446) zf_16_10_ebateHallModel zp_16_10 (zz_hn1 ⟨rfl, rfl⟩) hw (fun M15 hw => ?_)
      refine zz_aload_n C dX4_sized_41 rfl 0 rfl ?_
      refine zz_getA C dX4_sized_42 (Or.inl q2445) zf_16_9_ebateHallModel hw (fun x16 hw => ?_)
      refine zz_aload_n C dX4_sized_45 rfl 0 rfl ?_
      refine zz_getI C dX4_sized_46 (Or.inl q2446) zf_16_10_ebateHallModel hw (fun x17 hw => ?_)
      refine zz_iconst (v := (1 : Int32)) C dX4_sized_49 (by decide) ?_
      refine zz_isub C dX4_sized_50 ?_
      refine zz_lald C dX4_sized_51 hw (fun x18 hw => ?_)
      refine zz_l2i C dX4_sized_52 ?_
      exact zz_iret C E dX4_sized_53 hw
    · refine zz_iconst (v := (0 : Int32)) C dX4_sized_29 (by decide) ?_
      exact zz_iret C E dX4_sized_30 hw
  · refine zz_iload_n C dX4_sized_8 rfl 2 rfl ?_
    exact zz_iret C E dX4_sized_9 hw
abbrev cX4_take : ByteArray := prog_25_method_31_code
def yX4_take : MethodName := ⟨"DebateHallModel", "take", "(II)I"⟩
def dkwX4_take_1 : List UInt8 := [42, 180, 0, 48, 180, 0, 118, 27, 92, 46, 28, 100, 79, 3, 172]
abbrev dktX4_take_1 : List UInt8 := dkwX4_take_1 ++ []
def dkwX4_take_0 : List UInt8 := [42, 180, 0, 48, 180, 0, 118, 27, 46, 28, 162, 0, 14, 42, 16, 7, 42, 180, 0, 168, 182, 0, 255, 172]
abbrev dktX4_take_0 : List UInt8 := dkwX4_take_0 ++ dktX4_take_1
theorem dksX4_take_0 : cX4_take.data.toList.drop 0 = dktX4_take_0 := by decide +kernel
theorem dksX4_take_1 : cX4_take.data.toList.drop 24 = dktX4_take_1 := dk_seg dksX4_take_0 24 rfl rfl
theorem dX4_take_0 : decode cX4_take 0 = .ok (.aload_n 0, 1) := dk_42 (dk_at dksX4_take_0 0 rfl rfl)
theorem dX4_take_1 : decode cX4_take 1 = .ok (.getfield 48, 3) := dk_180 0 48 (dk_at dksX4_take_0 1 rfl rfl)
theorem dX4_take_4 : decode cX4_take 4 = .ok (.getfield 118, 3) := dk_180 0 118 (dk_at dksX4_take_0 4 rfl rfl)
theorem dX4_take_7 : decode cX4_take 7 = .ok (.iload_n 1, 1) := dk_27 (dk_at dksX4_take_0 7 rfl rfl)
theorem dX4_take_8 : decode cX4_take 8 = .ok (.iaload, 1) := dk_46 (dk_at dksX4_take_0 8 rfl rfl)
theorem dX4_take_9 : decode cX4_take 9 = .ok (.iload_n 2, 1) := dk_28 (dk_at dksX4_take_0 9 rfl rfl)
theorem dX4_take_10 : decode cX4_take 10 = .ok (.if_icmp .ge 14, 3) := dk_162 0 14 (dk_at dksX4_take_0 10 rfl rfl)
theorem dX4_take_13 : decode cX4_take 13 = .ok (.aload_n 0, 1) := dk_42 (dk_at dksX4_take_0 13 rfl rfl)
theorem dX4_take_14 : decode cX4_take 14 = .ok (.bipush 7, 2) := dk_16 7 (dk_at dksX4_take_0 14 rfl rfl)
theorem dX4_take_16 : decode cX4_take 16 = .ok (.aload_n 0, 1) := dk_42 (dk_at dksX4_take_0 16 rfl rfl)
theorem dX4_take_17 : decode cX4_take 17 = .ok (.getfield 168, 3) := dk_180 0 168 (dk_at dksX4_take_0 17 rfl rfl)
theorem dX4_take_20 : decode cX4_take 20 = .ok (.invokevirtual 255, 3) := dk_182 0 255 (dk_at dksX4_take_0 20 rfl rfl)
theorem dX4_take_23 : decode cX4_take 23 = .ok (.ireturn, 1) := dk_172 (dk_at dksX4_take_0 23 rfl rfl)
theorem dX4_take_24 : decode cX4_take 24 = .ok (.aload_n 0, 1) := dk_42 (dk_at dksX4_take_1 0 rfl rfl)
theorem dX4_take_25 : decode cX4_take 25 = .ok (.getfield 48, 3) := dk_180 0 48 (dk_at dksX4_take_1 1 rfl rfl)
theorem dX4_take_28 : decode cX4_take 28 = .ok (.getfield 118, 3) := dk_180 0 118 (dk_at dksX4_take_1 4 rfl rfl)
theorem dX4_take_31 : decode cX4_take 31 = .ok (.iload_n 1, 1) := dk_27 (dk_at dksX4_take_1 7 rfl rfl)
theorem dX4_take_32 : decode cX4_take 32 = .ok (.dup2, 1) := dk_92 (dk_at dksX4_take_1 8 rfl rfl)
theorem dX4_take_33 : decode cX4_take 33 = .ok (.iaload, 1) := dk_46 (dk_at dksX4_take_1 9 rfl rfl)
theorem dX4_take_34 : decode cX4_take 34 = .ok (.iload_n 2, 1) := dk_28 (dk_at dksX4_take_1 10 rfl rfl)
theorem dX4_take_35 : decode cX4_take 35 = .ok (.isub, 1) := dk_100 (dk_at dksX4_take_1 11 rfl rfl)
theorem dX4_take_36 : decode cX4_take 36 = .ok (.iastore, 1) := dk_79 (dk_at dksX4_take_1 12 rfl rfl)
theorem dX4_take_37 : decode cX4_take 37 = .ok (.iconst 0, 1) := dk_3 (dk_at dksX4_take_1 13 rfl rfl)
theorem dX4_take_38 : decode cX4_take 38 = .ok (.ireturn, 1) := dk_172 (dk_at dksX4_take_1 14 rfl rfl)
def wp_X4_take (Z : zzG) (this : Option Nat) (p0 : Int32) (p1 : Int32) (M : zzM) (K : Option Value → zzM → Prop) : Prop := zgA Z M this [16] 11 fun x1 => zgA Z M x1 [17] 2 fun x2 => zaI Z M x2 [100] p0 fun x3 => if p1 ≤ x3 then (zgA Z M this [16] 11 fun x4 => zgA Z M x4 [17] 2 fun x5 => zaI Z M x5 [100] p0 fun x6 => zast Z M x5 [100] p0 (.int (x6 - p1)) fun M7 => K (some (.int (0 : Int32))) M7) else (zgI Z M this [16] 10 fun x8 => zty Z M this fun t => t = 16 ∧ wp_X4_fail Z this (7 : Int32) x8 M (fun r9 M10 => zrI r9 fun x13 => K (some (.int x13)) M10))
theorem ok_X4_take {Z : zzG} {l : Launch} (hl : l.stackTraces = false) {this : Option Nat} {p0 : Int32} {p1 : Int32} {M : zzM} {mc ms : Nat} {K : Option Value → zzM → Prop} (hw : wp_X4_take Z this p0 p1 M K) : zz_Met Z l yX4_take (zz_ws yX4_take cX4_take 3 (some .int) none) 2 [va_rf this, .int p0, .int p1] M mc ms K (fun _ _ _ => False) := by
  refine zz_ofW hl (plainFor_of_name (by decide)) (by simp only [zz_sl0, zz_slI, zz_slJ, zz_slA] <;> decide) (fun G hZ hll C E hH hR hin => ?_)
  subst hZ
  subst hll
  rw [show lv_args 0 [va_rf this, .int p0, .int p1] = [(0, va_rf this), (1, .int p0), (2, .int p1)] by simp only [zz_la0, zz_laI, zz_laJ, zz_laA]]
  unfold wp_X4_take at hw
  refine zz_aload_n C dX4_take_0 rfl 0 rfl ?_
  refine zz_getA C dX4_take_1 (Or.inl q2447) zf_16_11_ebateHallModel hw (fun x1 hw => ?_)
  refine zz_getA C dX4_take_4 (Or.inr ⟨_, q2392⟩) zf_17_2_allModel_State hw (fun x2 hw => ?_)
  refine zz_iload_n C dX4_take_7 rfl 1 rfl ?_
  refine zz_iald C dX4_take_8 hw (fun x3 hw => ?_)
  refine zz_iload_n C dX4_take_9 rfl 2 rfl ?_
  refine zz_icmp_ge (tgt := 24) C dX4_take_10 (by decide) hw (fun hw => ?_) (fun hw => ?_)
  · refine zz_aload_n C dX4_take_24 rfl 0 rfl ?_
    refine zz_getA C dX4_take_25 (Or.inl q2447) zf_16_11_ebateHallModel hw (fun x4 hw => ?_)
    refine zz_getA C dX4_take_28 (Or.inr ⟨_, q2392⟩) zf_17_2_allModel_State hw (fun x5 hw => ?_)
    refine zz_iload_n C dX4_take_31 rfl 1 rfl ?_
    refine zz_dup2 C dX4_take_32 rfl (zz_cat _) ?_
    refine zz_iald C dX4_take_33 hw (fun x6 hw => ?_)
    refine zz_iload_n C dX4_take_34 rfl 2 rfl ?_
    refine zz_isub C dX4_take_35 ?_
    refine zz_iast C dX4_take_36 hw (fun M7 hw => ?_)
    refine zz_iconst (v := (0 : Int32)) C dX4_take_37 (by decide) ?_
    exact zz_iret C E dX4_take_38 hw
  · refine zz_aload_n C dX4_take_13 rfl 0 rfl ?_
    refine zz_bipush (v := (7 : Int32)) C dX4_take_14 (by decide) ?_
    refine zz_aload_n C dX4_take_16 rfl 0 rfl ?_
    refine zz_getI C dX4_take_17 (Or.inl q2446) zf_16_10_ebateHallModel hw (fun x8 hw => ?_)
    obtain ⟨a9, t9, b9, fs9, hro, hL, rfl, hw⟩ := ztyS hw
    refine zz_callV (r := (zR_16, zT_16, 24)) (As := [.int (7 : Int32), .int x8]) (rest := []) (mc := 0) (ms := 0) C hR hro dX4_take_20 (Or.inl q2630) q2632 (Or.inl qs47) zl_DebateHallModel zk_X4_fail (Or.inl rfl) zy_X4_fail rfl (by decide) (by decide) hL (ok_X4_fail (zz_hl C) hw) (Nat.zero_le _) (Nat.zero_le _) (zz_cat10 _ (Nat.le_of_ble_eq_true rfl)) (fun r9 M10 hw => zz_kI hw (fun x13 hw => ?_)) (fun _ _ _ h9 => h9.elim) rfl
    exact zz_iret C E dX4_take_23 hw
abbrev cX5_add : ByteArray := prog_26_method_6_code
def yX5_add : MethodName := ⟨"DebateHallModel$State", "add", "(JIIIII)V"⟩
def dkwX5_add_3 : List UInt8 := [180, 0, 54, 3, 79, 42, 89, 180, 0, 54, 4, 96, 181, 0, 54, 177]
abbrev dktX5_add_3 : List UInt8 := dkwX5_add_3 ++ []
def dkwX5_add_2 : List UInt8 := [180, 0, 54, 21, 6, 79, 42, 180, 0, 38, 42, 180, 0, 54, 21, 7, 79, 42, 180, 0, 41, 42]
abbrev dktX5_add_2 : List UInt8 := dkwX5_add_2 ++ dktX5_add_3
def dkwX5_add_1 : List UInt8 := [42, 180, 0, 54, 21, 4, 79, 42, 180, 0, 32, 42, 180, 0, 54, 21, 5, 79, 42, 180, 0, 35, 42]
abbrev dktX5_add_1 : List UInt8 := dkwX5_add_1 ++ dktX5_add_2
def dkwX5_add_0 : List UInt8 := [42, 180, 0, 23, 42, 180, 0, 54, 31, 80, 42, 180, 0, 26, 42, 180, 0, 54, 29, 79, 42, 180, 0, 29]
abbrev dktX5_add_0 : List UInt8 := dkwX5_add_0 ++ dktX5_add_1
theorem dksX5_add_0 : cX5_add.data.toList.drop 0 = dktX5_add_0 := by decide +kernel
theorem dksX5_add_1 : cX5_add.data.toList.drop 24 = dktX5_add_1 := dk_seg dksX5_add_0 24 rfl rfl
theorem dksX5_add_2 : cX5_add.data.toList.drop 47 = dktX5_add_2 := dk_seg dksX5_add_1 23 rfl rfl
theorem dksX5_add_3 : cX5_add.data.toList.drop 69 = dktX5_add_3 := dk_seg dksX5_add_2 22 rfl rfl
theorem dX5_add_0 : decode cX5_add 0 = .ok (.aload_n 0, 1) := dk_42 (dk_at dksX5_add_0 0 rfl rfl)
theorem dX5_add_1 : decode cX5_add 1 = .ok (.getfield 23, 3) := dk_180 0 23 (dk_at dksX5_add_0 1 rfl rfl)
theorem dX5_add_4 : decode cX5_add 4 = .ok (.aload_n 0, 1) := dk_42 (dk_at dksX5_add_0 4 rfl rfl)
theorem dX5_add_5 : decode cX5_add 5 = .ok (.getfield 54, 3) := dk_180 0 54 (dk_at dksX5_add_0 5 rfl rfl)
theorem dX5_add_8 : decode cX5_add 8 = .ok (.lload_n 1, 1) := dk_31 (dk_at dksX5_add_0 8 rfl rfl)
theorem dX5_add_9 : decode cX5_add 9 = .ok (.lastore, 1) := dk_80 (dk_at dksX5_add_0 9 rfl rfl)
theorem dX5_add_10 : decode cX5_add 10 = .ok (.aload_n 0, 1) := dk_42 (dk_at dksX5_add_0 10 rfl rfl)
theorem dX5_add_11 : decode cX5_add 11 = .ok (.getfield 26, 3) := dk_180 0 26 (dk_at dksX5_add_0 11 rfl rfl)
theorem dX5_add_14 : decode cX5_add 14 = .ok (.aload_n 0, 1) := dk_42 (dk_at dksX5_add_0 14 rfl rfl)
theorem dX5_add_15 : decode cX5_add 15 = .ok (.getfield 54, 3) := dk_180 0 54 (dk_at dksX5_add_0 15 rfl rfl)
theorem dX5_add_18 : decode cX5_add 18 = .ok (.iload_n 3, 1) := dk_29 (dk_at dksX5_add_0 18 rfl rfl)
theorem dX5_add_19 : decode cX5_add 19 = .ok (.iastore, 1) := dk_79 (dk_at dksX5_add_0 19 rfl rfl)
theorem dX5_add_20 : decode cX5_add 20 = .ok (.aload_n 0, 1) := dk_42 (dk_at dksX5_add_0 20 rfl rfl)
theorem dX5_add_21 : decode cX5_add 21 = .ok (.getfield 29, 3) := dk_180 0 29 (dk_at dksX5_add_0 21 rfl rfl)
theorem dX5_add_24 : decode cX5_add 24 = .ok (.aload_n 0, 1) := dk_42 (dk_at dksX5_add_1 0 rfl rfl)
theorem dX5_add_25 : decode cX5_add 25 = .ok (.getfield 54, 3) := dk_180 0 54 (dk_at dksX5_add_1 1 rfl rfl)
theorem dX5_add_28 : decode cX5_add 28 = .ok (.iload 4, 2) := dk_21 4 (dk_at dksX5_add_1 4 rfl rfl)
theorem dX5_add_30 : decode cX5_add 30 = .ok (.iastore, 1) := dk_79 (dk_at dksX5_add_1 6 rfl rfl)
theorem dX5_add_31 : decode cX5_add 31 = .ok (.aload_n 0, 1) := dk_42 (dk_at dksX5_add_1 7 rfl rfl)
theorem dX5_add_32 : decode cX5_add 32 = .ok (.getfield 32, 3) := dk_180 0 32 (dk_at dksX5_add_1 8 rfl rfl)
theorem dX5_add_35 : decode cX5_add 35 = .ok (.aload_n 0, 1) := dk_42 (dk_at dksX5_add_1 11 rfl rfl)
theorem dX5_add_36 : decode cX5_add 36 = .ok (.getfield 54, 3) := dk_180 0 54 (dk_at dksX5_add_1 12 rfl rfl)
theorem dX5_add_39 : decode cX5_add 39 = .ok (.iload 5, 2) := dk_21 5 (dk_at dksX5_add_1 15 rfl rfl)
theorem dX5_add_41 : decode cX5_add 41 = .ok (.iastore, 1) := dk_79 (dk_at dksX5_add_1 17 rfl rfl)
theorem dX5_add_42 : decode cX5_add 42 = .ok (.aload_n 0, 1) := dk_42 (dk_at dksX5_add_1 18 rfl rfl)
theorem dX5_add_43 : decode cX5_add 43 = .ok (.getfield 35, 3) := dk_180 0 35 (dk_at dksX5_add_1 19 rfl rfl)
theorem dX5_add_46 : decode cX5_add 46 = .ok (.aload_n 0, 1) := dk_42 (dk_at dksX5_add_1 22 rfl rfl)
theorem dX5_add_47 : decode cX5_add 47 = .ok (.getfield 54, 3) := dk_180 0 54 (dk_at dksX5_add_2 0 rfl rfl)
theorem dX5_add_50 : decode cX5_add 50 = .ok (.iload 6, 2) := dk_21 6 (dk_at dksX5_add_2 3 rfl rfl)
theorem dX5_add_52 : decode cX5_add 52 = .ok (.iastore, 1) := dk_79 (dk_at dksX5_add_2 5 rfl rfl)
theorem dX5_add_53 : decode cX5_add 53 = .ok (.aload_n 0, 1) := dk_42 (dk_at dksX5_add_2 6 rfl rfl)
theorem dX5_add_54 : decode cX5_add 54 = .ok (.getfield 38, 3) := dk_180 0 38 (dk_at dksX5_add_2 7 rfl rfl)
theorem dX5_add_57 : decode cX5_add 57 = .ok (.aload_n 0, 1) := dk_42 (dk_at dksX5_add_2 10 rfl rfl)
theorem dX5_add_58 : decode cX5_add 58 = .ok (.getfield 54, 3) := dk_180 0 54 (dk_at dksX5_add_2 11 rfl rfl)
theorem dX5_add_61 : decode cX5_add 61 = .ok (.iload 7, 2) := dk_21 7 (dk_at dksX5_add_2 14 rfl rfl)
theorem dX5_add_63 : decode cX5_add 63 = .ok (.iastore, 1) := dk_79 (dk_at dksX5_add_2 16 rfl rfl)
theorem dX5_add_64 : decode cX5_add 64 = .ok (.aload_n 0, 1) := dk_42 (dk_at dksX5_add_2 17 rfl rfl)
theorem dX5_add_65 : decode cX5_add 65 = .ok (.getfield 41, 3) := dk_180 0 41 (dk_at dksX5_add_2 18 rfl rfl)
theorem dX5_add_68 : decode cX5_add 68 = .ok (.aload_n 0, 1) := dk_42 (dk_at dksX5_add_2 21 rfl rfl)
theorem dX5_add_69 : decode cX5_add 69 = .ok (.getfield 54, 3) := dk_180 0 54 (dk_at dksX5_add_3 0 rfl rfl)
theorem dX5_add_72 : decode cX5_add 72 = .ok (.iconst 0, 1) := dk_3 (dk_at dksX5_add_3 3 rfl rfl)
theorem dX5_add_73 : decode cX5_add 73 = .ok (.iastore, 1) := dk_79 (dk_at dksX5_add_3 4 rfl rfl)
theorem dX5_add_74 : decode cX5_add 74 = .ok (.aload_n 0, 1) := dk_42 (dk_at dksX5_add_3 5 rfl rfl)
theorem dX5_add_75 : decode cX5_add 75 = .ok (.dup, 1) := dk_89 (dk_at dksX5_add_3 6 rfl rfl)
theorem dX5_add_76 : decode cX5_add 76 = .ok (.getfield 54, 3) := dk_180 0 54 (dk_at dksX5_add_3 7 rfl rfl)
theorem dX5_add_79 : decode cX5_add 79 = .ok (.iconst 1, 1) := dk_4 (dk_at dksX5_add_3 10 rfl rfl)
theorem dX5_add_80 : decode cX5_add 80 = .ok (.iadd, 1) := dk_96 (dk_at dksX5_add_3 11 rfl rfl)
theorem dX5_add_81 : decode cX5_add 81 = .ok (.putfield 54, 3) := dk_181 0 54 (dk_at dksX5_add_3 12 rfl rfl)
theorem dX5_add_84 : decode cX5_add 84 = .ok (.return_, 1) := dk_177 (dk_at dksX5_add_3 15 rfl rfl)
def wp_X5_add (Z : zzG) (this : Option Nat) (p0 : Int64) (p1 : Int32) (p2 : Int32) (p3 : Int32) (p4 : Int32) (p5 : Int32) (M : zzM) (K : Option Value → zzM → Prop) : Prop := zgA Z M this [17] 4 fun x1 => zgI Z M this [17] 3 fun x2 => zast Z M x1 [102] x2 (.long p0) fun M3 => zgA Z M3 this [17] 5 fun x4 => zgI Z M3 this [17] 3 fun x5 => zast Z M3 x4 [100] x5 (.int p1) fun M6 => zgA Z M6 this [17] 6 fun x7 => zgI Z M6 this [17] 3 fun x8 => zast Z M6 x7 [100] x8 (.int p2) fun M9 => zgA Z M9 this [17] 7 fun x10 => zgI Z M9 this [17] 3 fun x11 => zast Z M9 x10 [100] x11 (.int p3) fun M12 => zgA Z M12 this [17] 8 fun x13 => zgI Z M12 this [17] 3 fun x14 => zast Z M12 x13 [100] x14 (.int p4) fun M15 => zgA Z M15 this [17] 9 fun x16 => zgI Z M15 this [17] 3 fun x17 => zast Z M15 x16 [100] x17 (.int p5) fun M18 => zgA Z M18 this [17] 10 fun x19 => zgI Z M18 this [17] 3 fun x20 => zast Z M18 x19 [100] x20 (.int (0 : Int32)) fun M21 => zgI Z M21 this [17] 3 fun x22 => zput Z M21 this [17] 3 (.int (x22 + (1 : Int32))) fun M23 => K none M23
theorem ok_X5_add {Z : zzG} {l : Launch} (hl : l.stackTraces = false) {this : Option Nat} {p0 : Int64} {p1 : Int32} {p2 : Int32} {p3 : Int32} {p4 : Int32} {p5 : Int32} {M : zzM} {mc ms : Nat} {K : Option Value → zzM → Prop} (hw : wp_X5_add Z this p0 p1 p2 p3 p4 p5 M K) : zz_Met Z l yX5_add (zz_ws yX5_add cX5_add 8 none none) 1 [va_rf this, .long p0, .int p1, .int p2, .int p3, .int p4, .int p5] M mc ms K (fun _ _ _ => False) := by
  refine zz_ofW hl (plainFor_of_name (by decide)) (by simp only [zz_sl0, zz_slI, zz_slJ, zz_slA] <;> decide) (fun G hZ hll C E hH hR hin => ?_)
  subst hZ
  subst hll
  rw [show lv_args 0 [va_rf this, .long p0, .int p1, .int p2, .int p3, .int p4, .int p5] = [(0, va_rf this), (1, .long p0), (3, .int p1), (4, .int p2), (5, .int p3), (6, .int p4), (7, .int p5)] by simp only [zz_la0, zz_laI, zz_laJ, zz_laA]]
  unfold wp_X5_add at hw
  refine zz_aload_n C dX5_add_0 rfl 0 rfl ?_
  refine zz_getA C dX5_add_1 (Or.inl q2395) zf_17_4_allModel_State hw (fun x1 hw => ?_)
  refine zz_aload_n C dX5_add_4 rfl 0 rfl ?_
  refine zz_getI C dX5_add_5 (Or.inl q2393) zf_17_3_allModel_State hw (fun x2 hw => ?_)
  refine zz_lload_n C dX5_add_8 rfl 1 rfl ?_
  refine zz_last C dX5_add_9 hw (fun M3 hw => ?_)
  refine zz_aload_n C dX5_add_10 rfl 0 rfl ?_
  refine zz_getA C dX5_add_11 (Or.inl q2397) zf_17_5_allModel_State hw (fun x4 hw => ?_)
  refine zz_aload_n C dX5_add_14 rfl 0 rfl ?_
  refine zz_getI C dX5_add_15 (Or.inl q2393) zf_17_3_allModel_State hw (fun x5 hw => ?_)
  refine zz_iload_n C dX5_add_18 rfl 2 rfl ?_
  refine zz_iast C dX5_add_19 hw (fun M6 hw => ?_)
  refine zz_aload_n C dX5_add_20 rfl 0 rfl ?_
  refine zz_getA C dX5_add_21 (Or.inl q2399) zf_17_6_allModel_State hw (fun x7 hw => ?_)
  refine zz_aload_n C dX5_add_24 rfl 0 rfl ?_
  refine zz_getI C dX5_add_25 (Or.inl q2393) zf_17_3_allModel_State hw (fun x8 hw => ?_)
  refine zz_iload C dX5_add_28 3 rfl ?_
  refine zz_iast C dX5_add_30 hw (fun M9 hw => ?_)
  refine zz_aload_n C dX5_add_31 rfl 0 rfl ?_
  refine zz_getA C dX5_add_32 (Or.inl q2401) zf_17_7_allModel_State hw (fun x10 hw => ?_)
  refine zz_aload_n C dX5_add_35 rfl 0 rfl ?_
  refine zz_getI C dX5_add_36 (Or.inl q2393) zf_17_3_allModel_State hw (fun x11 hw => ?_)
  refine zz_iload C dX5_add_39 4 rfl ?_
  refine zz_iast C dX5_add_41 hw (fun M12 hw => ?_)
  refine zz_aload_n C dX5_add_42 rfl 0 rfl ?_
  refine zz_getA C dX5_add_43 (Or.inl q2403) zf_17_8_allModel_State hw (fun x13 hw => ?_)
  refine zz_aload_n C dX5_add_46 rfl 0 rfl ?_
  refine zz_getI C dX5_add_47 (Or.inl q2393) zf_17_3_allModel_State hw (fun x14 hw => ?_)
  refine zz_iload C dX5_add_50 5 rfl ?_
  refine zz_iast C dX5_add_52 hw (fun M15 hw => ?_)
  refine zz_aload_n C dX5_add_53 rfl 0 rfl ?_
  refine zz_getA C dX5_add_54 (Or.inl q2405) zf_17_9_allModel_State hw (fun x16 hw => ?_)
  refine zz_aload_n C dX5_add_57 rfl 0 rfl ?_
  refine zz_getI C dX5_add_58 (Or.inl q2393) zf_17_3_allModel_State hw (fun x17 hw => ?_)
  refine zz_iload C dX5_add_61 6 rfl ?_
  refine zz_iast C dX5_add_63 hw (fun M18 hw => ?_)
  refine zz_aload_n C dX5_add_64 rfl 0 rfl ?_
  refine zz_getA C dX5_add_65 (Or.inl q2407) zf_17_10_allModel_State hw (fun x19 hw => ?_)
  refine zz_aload_n C dX5_add_68 rfl 0 rfl ?_
  refine zz_getI C dX5_add_69 (Or.inl q2393) zf_17_3_allModel_State hw (fun x20 hw => ?_)
  refine zz_iconst (v := (0 : Int32)) C dX5_add_72 (by decide) ?_
  refine zz_iast C dX5_add_73 hw (fun M21 hw => ?_)
  refine zz_aload_n C dX5_add_74 rfl 0 rfl ?_
  refine zz_dup C dX5_add_75 (zz_cat _) ?_
  refine zz_getI C dX5_add_76 (Or.inl q2393) zf_17_3_allModel_State hw (fun x22 hw => ?_)
  refine zz_iconst (v := (1 : Int32)) C dX5_add_79 (by decide) ?_
  refine zz_iadd C dX5_add_80 ?_
  refine zz_put C dX5_add_81 (Or.inl q2393) zf_17_3_allModel_State zp_17_3 (zz_hn1 ⟨rfl, rfl⟩) hw (fun M23 hw => ?_)
  exact zz_vret C E dX5_add_84 hw
abbrev cX4_claimLine : ByteArray := prog_25_method_35_code
def yX4_claimLine : MethodName := ⟨"DebateHallModel", "claimLine", "()I"⟩
def dkwX4_claimLine_5 : List UInt8 := [21, 4, 2, 2, 182, 1, 24, 28, 172]
abbrev dktX4_claimLine_5 : List UInt8 := dkwX4_claimLine_5 ++ []
def dkwX4_claimLine_4 : List UInt8 := [21, 4, 96, 182, 1, 21, 61, 28, 154, 0, 22, 42, 180, 0, 48, 42, 180, 0, 40, 27, 47, 3, 29]
abbrev dktX4_claimLine_4 : List UInt8 := dkwX4_claimLine_4 ++ dktX4_claimLine_5
def dkwX4_claimLine_3 : List UInt8 := [182, 1, 17, 54, 4, 21, 4, 154, 0, 13, 42, 8, 42, 180, 0, 168, 182, 0, 255, 172, 42, 29, 16, 10]
abbrev dktX4_claimLine_3 : List UInt8 := dkwX4_claimLine_3 ++ dktX4_claimLine_4
def dkwX4_claimLine_2 : List UInt8 := [180, 0, 168, 6, 96, 182, 0, 255, 172, 42, 89, 180, 0, 168, 7, 96, 181, 0, 168, 42, 18, 203, 16, 10]
abbrev dktX4_claimLine_2 : List UInt8 := dkwX4_claimLine_2 ++ dktX4_claimLine_3
def dkwX4_claimLine_1 : List UInt8 := [180, 0, 40, 42, 180, 0, 168, 6, 96, 47, 182, 1, 2, 62, 29, 2, 160, 0, 15, 42, 6, 42]
abbrev dktX4_claimLine_1 : List UInt8 := dkwX4_claimLine_1 ++ dktX4_claimLine_2
def dkwX4_claimLine_0 : List UInt8 := [42, 180, 0, 168, 4, 96, 60, 42, 27, 182, 1, 13, 61, 28, 158, 0, 5, 28, 172, 42, 180, 0, 48, 42]
abbrev dktX4_claimLine_0 : List UInt8 := dkwX4_claimLine_0 ++ dktX4_claimLine_1
theorem dksX4_claimLine_0 : cX4_claimLine.data.toList.drop 0 = dktX4_claimLine_0 := by decide +kernel
theorem dksX4_claimLine_1 : cX4_claimLine.data.toList.drop 24 = dktX4_claimLine_1 := dk_seg dksX4_claimLine_0 24 rfl rfl
theorem dksX4_claimLine_2 : cX4_claimLine.data.toList.drop 46 = dktX4_claimLine_2 := dk_seg dksX4_claimLine_1 22 rfl rfl
theorem dksX4_claimLine_3 : cX4_claimLine.data.toList.drop 70 = dktX4_claimLine_3 := dk_seg dksX4_claimLine_2 24 rfl rfl
theorem dksX4_claimLine_4 : cX4_claimLine.data.toList.drop 94 = dktX4_claimLine_4 := dk_seg dksX4_claimLine_3 24 rfl rfl
theorem dksX4_claimLine_5 : cX4_claimLine.data.toList.drop 117 = dktX4_claimLine_5 := dk_seg dksX4_claimLine_4 23 rfl rfl
theorem dX4_claimLine_0 : decode cX4_claimLine 0 = .ok (.aload_n 0, 1) := dk_42 (dk_at dksX4_claimLine_0 0 rfl rfl)
theorem dX4_claimLine_1 : decode cX4_claimLine 1 = .ok (.getfield 168, 3) := dk_180 0 168 (dk_at dksX4_claimLine_0 1 rfl rfl)
theorem dX4_claimLine_4 : decode cX4_claimLine 4 = .ok (.iconst 1, 1) := dk_4 (dk_at dksX4_claimLine_0 4 rfl rfl)
theorem dX4_claimLine_5 : decode cX4_claimLine 5 = .ok (.iadd, 1) := dk_96 (dk_at dksX4_claimLine_0 5 rfl rfl)
theorem dX4_claimLine_6 : decode cX4_claimLine 6 = .ok (.istore_n 1, 1) := dk_60 (dk_at dksX4_claimLine_0 6 rfl rfl)
theorem dX4_claimLine_7 : decode cX4_claimLine 7 = .ok (.aload_n 0, 1) := dk_42 (dk_at dksX4_claimLine_0 7 rfl rfl)
theorem dX4_claimLine_8 : decode cX4_claimLine 8 = .ok (.iload_n 1, 1) := dk_27 (dk_at dksX4_claimLine_0 8 rfl rfl)
theorem dX4_claimLine_9 : decode cX4_claimLine 9 = .ok (.invokevirtual 269, 3) := dk_182 1 13 (dk_at dksX4_claimLine_0 9 rfl rfl)
theorem dX4_claimLine_12 : decode cX4_claimLine 12 = .ok (.istore_n 2, 1) := dk_61 (dk_at dksX4_claimLine_0 12 rfl rfl)
theorem dX4_claimLine_13 : decode cX4_claimLine 13 = .ok (.iload_n 2, 1) := dk_28 (dk_at dksX4_claimLine_0 13 rfl rfl)
theorem dX4_claimLine_14 : decode cX4_claimLine 14 = .ok (.ifCond .le 5, 3) := dk_158 0 5 (dk_at dksX4_claimLine_0 14 rfl rfl)
theorem dX4_claimLine_17 : decode cX4_claimLine 17 = .ok (.iload_n 2, 1) := dk_28 (dk_at dksX4_claimLine_0 17 rfl rfl)
theorem dX4_claimLine_18 : decode cX4_claimLine 18 = .ok (.ireturn, 1) := dk_172 (dk_at dksX4_claimLine_0 18 rfl rfl)
theorem dX4_claimLine_19 : decode cX4_claimLine 19 = .ok (.aload_n 0, 1) := dk_42 (dk_at dksX4_claimLine_0 19 rfl rfl)
theorem dX4_claimLine_20 : decode cX4_claimLine 20 = .ok (.getfield 48, 3) := dk_180 0 48 (dk_at dksX4_claimLine_0 20 rfl rfl)
theorem dX4_claimLine_23 : decode cX4_claimLine 23 = .ok (.aload_n 0, 1) := dk_42 (dk_at dksX4_claimLine_0 23 rfl rfl)
theorem dX4_claimLine_24 : decode cX4_claimLine 24 = .ok (.getfield 40, 3) := dk_180 0 40 (dk_at dksX4_claimLine_1 0 rfl rfl)
theorem dX4_claimLine_27 : decode cX4_claimLine 27 = .ok (.aload_n 0, 1) := dk_42 (dk_at dksX4_claimLine_1 3 rfl rfl)
theorem dX4_claimLine_28 : decode cX4_claimLine 28 = .ok (.getfield 168, 3) := dk_180 0 168 (dk_at dksX4_claimLine_1 4 rfl rfl)
theorem dX4_claimLine_31 : decode cX4_claimLine 31 = .ok (.iconst 3, 1) := dk_6 (dk_at dksX4_claimLine_1 7 rfl rfl)
theorem dX4_claimLine_32 : decode cX4_claimLine 32 = .ok (.iadd, 1) := dk_96 (dk_at dksX4_claimLine_1 8 rfl rfl)
theorem dX4_claimLine_33 : decode cX4_claimLine 33 = .ok (.laload, 1) := dk_47 (dk_at dksX4_claimLine_1 9 rfl rfl)
theorem dX4_claimLine_34 : decode cX4_claimLine 34 = .ok (.invokevirtual 258, 3) := dk_182 1 2 (dk_at dksX4_claimLine_1 10 rfl rfl)
theorem dX4_claimLine_37 : decode cX4_claimLine 37 = .ok (.istore_n 3, 1) := dk_62 (dk_at dksX4_claimLine_1 13 rfl rfl)
theorem dX4_claimLine_38 : decode cX4_claimLine 38 = .ok (.iload_n 3, 1) := dk_29 (dk_at dksX4_claimLine_1 14 rfl rfl)
theorem dX4_claimLine_39 : decode cX4_claimLine 39 = .ok (.iconst (-1), 1) := dk_2 (dk_at dksX4_claimLine_1 15 rfl rfl)
theorem dX4_claimLine_40 : decode cX4_claimLine 40 = .ok (.if_icmp .ne 15, 3) := dk_160 0 15 (dk_at dksX4_claimLine_1 16 rfl rfl)
theorem dX4_claimLine_43 : decode cX4_claimLine 43 = .ok (.aload_n 0, 1) := dk_42 (dk_at dksX4_claimLine_1 19 rfl rfl)
theorem dX4_claimLine_44 : decode cX4_claimLine 44 = .ok (.iconst 3, 1) := dk_6 (dk_at dksX4_claimLine_1 20 rfl rfl)
theorem dX4_claimLine_45 : decode cX4_claimLine 45 = .ok (.aload_n 0, 1) := dk_42 (dk_at dksX4_claimLine_1 21 rfl rfl)
theorem dX4_claimLine_46 : decode cX4_claimLine 46 = .ok (.getfield 168, 3) := dk_180 0 168 (dk_at dksX4_claimLine_2 0 rfl rfl)
theorem dX4_claimLine_49 : decode cX4_claimLine 49 = .ok (.iconst 3, 1) := dk_6 (dk_at dksX4_claimLine_2 3 rfl rfl)
theorem dX4_claimLine_50 : decode cX4_claimLine 50 = .ok (.iadd, 1) := dk_96 (dk_at dksX4_claimLine_2 4 rfl rfl)
theorem dX4_claimLine_51 : decode cX4_claimLine 51 = .ok (.invokevirtual 255, 3) := dk_182 0 255 (dk_at dksX4_claimLine_2 5 rfl rfl)
theorem dX4_claimLine_54 : decode cX4_claimLine 54 = .ok (.ireturn, 1) := dk_172 (dk_at dksX4_claimLine_2 8 rfl rfl)
theorem dX4_claimLine_55 : decode cX4_claimLine 55 = .ok (.aload_n 0, 1) := dk_42 (dk_at dksX4_claimLine_2 9 rfl rfl)
theorem dX4_claimLine_56 : decode cX4_claimLine 56 = .ok (.dup, 1) := dk_89 (dk_at dksX4_claimLine_2 10 rfl rfl)
theorem dX4_claimLine_57 : decode cX4_claimLine 57 = .ok (.getfield 168, 3) := dk_180 0 168 (dk_at dksX4_claimLine_2 11 rfl rfl)
theorem dX4_claimLine_60 : decode cX4_claimLine 60 = .ok (.iconst 4, 1) := dk_7 (dk_at dksX4_claimLine_2 14 rfl rfl)
theorem dX4_claimLine_61 : decode cX4_claimLine 61 = .ok (.iadd, 1) := dk_96 (dk_at dksX4_claimLine_2 15 rfl rfl)
theorem dX4_claimLine_62 : decode cX4_claimLine 62 = .ok (.putfield 168, 3) := dk_181 0 168 (dk_at dksX4_claimLine_2 16 rfl rfl)
theorem dX4_claimLine_65 : decode cX4_claimLine 65 = .ok (.aload_n 0, 1) := dk_42 (dk_at dksX4_claimLine_2 19 rfl rfl)
theorem dX4_claimLine_66 : decode cX4_claimLine 66 = .ok (.ldc 203, 2) := dk_18 203 (dk_at dksX4_claimLine_2 20 rfl rfl)
theorem dX4_claimLine_68 : decode cX4_claimLine 68 = .ok (.bipush 10, 2) := dk_16 10 (dk_at dksX4_claimLine_2 22 rfl rfl)
theorem dX4_claimLine_70 : decode cX4_claimLine 70 = .ok (.invokevirtual 273, 3) := dk_182 1 17 (dk_at dksX4_claimLine_3 0 rfl rfl)
theorem dX4_claimLine_73 : decode cX4_claimLine 73 = .ok (.istore 4, 2) := dk_54 4 (dk_at dksX4_claimLine_3 3 rfl rfl)
theorem dX4_claimLine_75 : decode cX4_claimLine 75 = .ok (.iload 4, 2) := dk_21 4 (dk_at dksX4_claimLine_3 5 rfl rfl)
theorem dX4_claimLine_77 : decode cX4_claimLine 77 = .ok (.ifCond .ne 13, 3) := dk_154 0 13 (dk_at dksX4_claimLine_3 7 rfl rfl)
theorem dX4_claimLine_80 : decode cX4_claimLine 80 = .ok (.aload_n 0, 1) := dk_42 (dk_at dksX4_claimLine_3 10 rfl rfl)
theorem dX4_claimLine_81 : decode cX4_claimLine 81 = .ok (.iconst 5, 1) := dk_8 (dk_at dksX4_claimLine_3 11 rfl rfl)
theorem dX4_claimLine_82 : decode cX4_claimLine 82 = .ok (.aload_n 0, 1) := dk_42 (dk_at dksX4_claimLine_3 12 rfl rfl)
theorem dX4_claimLine_83 : decode cX4_claimLine 83 = .ok (.getfield 168, 3) := dk_180 0 168 (dk_at dksX4_claimLine_3 13 rfl rfl)
theorem dX4_claimLine_86 : decode cX4_claimLine 86 = .ok (.invokevirtual 255, 3) := dk_182 0 255 (dk_at dksX4_claimLine_3 16 rfl rfl)
theorem dX4_claimLine_89 : decode cX4_claimLine 89 = .ok (.ireturn, 1) := dk_172 (dk_at dksX4_claimLine_3 19 rfl rfl)
theorem dX4_claimLine_90 : decode cX4_claimLine 90 = .ok (.aload_n 0, 1) := dk_42 (dk_at dksX4_claimLine_3 20 rfl rfl)
theorem dX4_claimLine_91 : decode cX4_claimLine 91 = .ok (.iload_n 3, 1) := dk_29 (dk_at dksX4_claimLine_3 21 rfl rfl)
theorem dX4_claimLine_92 : decode cX4_claimLine 92 = .ok (.bipush 10, 2) := dk_16 10 (dk_at dksX4_claimLine_3 22 rfl rfl)
theorem dX4_claimLine_94 : decode cX4_claimLine 94 = .ok (.iload 4, 2) := dk_21 4 (dk_at dksX4_claimLine_4 0 rfl rfl)
theorem dX4_claimLine_96 : decode cX4_claimLine 96 = .ok (.iadd, 1) := dk_96 (dk_at dksX4_claimLine_4 2 rfl rfl)
theorem dX4_claimLine_97 : decode cX4_claimLine 97 = .ok (.invokevirtual 277, 3) := dk_182 1 21 (dk_at dksX4_claimLine_4 3 rfl rfl)
theorem dX4_claimLine_100 : decode cX4_claimLine 100 = .ok (.istore_n 2, 1) := dk_61 (dk_at dksX4_claimLine_4 6 rfl rfl)
theorem dX4_claimLine_101 : decode cX4_claimLine 101 = .ok (.iload_n 2, 1) := dk_28 (dk_at dksX4_claimLine_4 7 rfl rfl)
theorem dX4_claimLine_102 : decode cX4_claimLine 102 = .ok (.ifCond .ne 22, 3) := dk_154 0 22 (dk_at dksX4_claimLine_4 8 rfl rfl)
theorem dX4_claimLine_105 : decode cX4_claimLine 105 = .ok (.aload_n 0, 1) := dk_42 (dk_at dksX4_claimLine_4 11 rfl rfl)
theorem dX4_claimLine_106 : decode cX4_claimLine 106 = .ok (.getfield 48, 3) := dk_180 0 48 (dk_at dksX4_claimLine_4 12 rfl rfl)
theorem dX4_claimLine_109 : decode cX4_claimLine 109 = .ok (.aload_n 0, 1) := dk_42 (dk_at dksX4_claimLine_4 15 rfl rfl)
theorem dX4_claimLine_110 : decode cX4_claimLine 110 = .ok (.getfield 40, 3) := dk_180 0 40 (dk_at dksX4_claimLine_4 16 rfl rfl)
theorem dX4_claimLine_113 : decode cX4_claimLine 113 = .ok (.iload_n 1, 1) := dk_27 (dk_at dksX4_claimLine_4 19 rfl rfl)
theorem dX4_claimLine_114 : decode cX4_claimLine 114 = .ok (.laload, 1) := dk_47 (dk_at dksX4_claimLine_4 20 rfl rfl)
theorem dX4_claimLine_115 : decode cX4_claimLine 115 = .ok (.iconst 0, 1) := dk_3 (dk_at dksX4_claimLine_4 21 rfl rfl)
theorem dX4_claimLine_116 : decode cX4_claimLine 116 = .ok (.iload_n 3, 1) := dk_29 (dk_at dksX4_claimLine_4 22 rfl rfl)
theorem dX4_claimLine_117 : decode cX4_claimLine 117 = .ok (.iload 4, 2) := dk_21 4 (dk_at dksX4_claimLine_5 0 rfl rfl)
theorem dX4_claimLine_119 : decode cX4_claimLine 119 = .ok (.iconst (-1), 1) := dk_2 (dk_at dksX4_claimLine_5 2 rfl rfl)
theorem dX4_claimLine_120 : decode cX4_claimLine 120 = .ok (.iconst (-1), 1) := dk_2 (dk_at dksX4_claimLine_5 3 rfl rfl)
theorem dX4_claimLine_121 : decode cX4_claimLine 121 = .ok (.invokevirtual 280, 3) := dk_182 1 24 (dk_at dksX4_claimLine_5 4 rfl rfl)
theorem dX4_claimLine_124 : decode cX4_claimLine 124 = .ok (.iload_n 2, 1) := dk_28 (dk_at dksX4_claimLine_5 7 rfl rfl)
theorem dX4_claimLine_125 : decode cX4_claimLine 125 = .ok (.ireturn, 1) := dk_172 (dk_at dksX4_claimLine_5 8 rfl rfl)
theorem q2663 : (Jvm.Cond.code ({ cls := "DebateHallModel", name := "newName", desc := "(I)I" } : Jvm.MethodName) prog_25_method_33_code (2 : Nat) (Option.some Jvm.ClassFile.FieldType.int)) ∈ lw_all := lw_g (lw_at lw_m11 183 rfl) rfl
theorem zk_X4_newName : zz_cd yX4_newName cX4_newName 2 (some .int) none ∈ lw_all := q2663
theorem zy_X4_newName : zz_yok yX4_newName 1 = true := by decide +kernel
theorem q2671 : (Jvm.Cond.code ({ cls := "DebateHallModel", name := "sized", desc := "(Ljava/lang/String;I)I" } : Jvm.MethodName) prog_25_method_34_code (3 : Nat) (Option.some Jvm.ClassFile.FieldType.int)) ∈ lw_all := lw_g (lw_at lw_m11 191 rfl) rfl
theorem zk_X4_sized : zz_cd yX4_sized cX4_sized 3 (some .int) none ∈ lw_all := q2671
theorem zy_X4_sized : zz_yok yX4_sized 2 = true := by decide +kernel
theorem q2675 : (Jvm.Cond.code ({ cls := "DebateHallModel", name := "take", desc := "(II)I" } : Jvm.MethodName) prog_25_method_31_code (3 : Nat) (Option.some Jvm.ClassFile.FieldType.int)) ∈ lw_all := lw_g (lw_at lw_m11 195 rfl) rfl
theorem zk_X4_take : zz_cd yX4_take cX4_take 3 (some .int) none ∈ lw_all := q2675
theorem zy_X4_take : zz_yok yX4_take 2 = true := by decide +kernel
theorem q2679 : (Jvm.Cond.code ({ cls := "DebateHallModel$State", name := "add", desc := "(JIIIII)V" } : Jvm.MethodName) prog_26_method_6_code (8 : Nat) (Option.none : Option Jvm.ClassFile.FieldType)) ∈ lw_all := lw_g (lw_at lw_m11 199 rfl) rfl
theorem zk_X5_add : zz_cd yX5_add cX5_add 8 none none ∈ lw_all := q2679
theorem zy_X5_add : zz_yok yX5_add 6 = true := by decide +kernel
theorem q2676 : (Jvm.Cond.methodLink "DebateHallModel" (280 : Nat) ({ cls := "DebateHallModel$State", name := "add", desc := "(JIIIII)V" } : Jvm.MethodName)) ∈ lw_all := lw_g (lw_at lw_m11 196 rfl) rfl
theorem q2677 : (Jvm.Cond.instanceMethod ({ cls := "DebateHallModel$State", name := "add", desc := "(JIIIII)V" } : Jvm.MethodName)) ∈ lw_all := lw_g (lw_at lw_m11 197 rfl) rfl
theorem q2678 : (Jvm.Cond.selects "DebateHallModel$State" ({ cls := "DebateHallModel$State", name := "add", desc := "(JIIIII)V" } : Jvm.MethodName) ({ cls := "DebateHallModel$State", name := "add", desc := "(JIIIII)V" } : Jvm.MethodName)) ∈ lw_all := lw_g (lw_at lw_m11 198 rfl) rfl
theorem q2672 : (Jvm.Cond.methodLink "DebateHallModel" (277 : Nat) ({ cls := "DebateHallModel", name := "take", desc := "(II)I" } : Jvm.MethodName)) ∈ lw_all := lw_g (lw_at lw_m11 192 rfl) rfl
theorem q2674 : (Jvm.Cond.instanceMethod ({ cls := "DebateHallModel", name := "take", desc := "(II)I" } : Jvm.MethodName)) ∈ lw_all := lw_g (lw_at lw_m11 194 rfl) rfl
theorem q2668 : (Jvm.Cond.methodLink "DebateHallModel" (273 : Nat) ({ cls := "DebateHallModel", name := "sized", desc := "(Ljava/lang/String;I)I" } : Jvm.MethodName)) ∈ lw_all := lw_g (lw_at lw_m11 188 rfl) rfl
theorem q2670 : (Jvm.Cond.instanceMethod ({ cls := "DebateHallModel", name := "sized", desc := "(Ljava/lang/String;I)I" } : Jvm.MethodName)) ∈ lw_all := lw_g (lw_at lw_m11 190 rfl) rfl
theorem q2660 : (Jvm.Cond.methodLink "DebateHallModel" (269 : Nat) ({ cls := "DebateHallModel", name := "newName", desc := "(I)I" } : Jvm.MethodName)) ∈ lw_all := lw_g (lw_at lw_m11 180 rfl) rfl
theorem q2662 : (Jvm.Cond.instanceMethod ({ cls := "DebateHallModel", name := "newName", desc := "(I)I" } : Jvm.MethodName)) ∈ lw_all := lw_g (lw_at lw_m11 182 rfl) rfl
def wp_X4_claimLine_B124 (Z : zzG) (K : Option Value → zzM → Prop) (v2 : Int32) (M : zzM) : Prop := K (some (.int v2)) M
def wp_X4_claimLine (Z : zzG) (this : Option Nat) (M : zzM) (K : Option Value → zzM → Prop) : Prop := zgI Z M this [16] 10 fun x1 => zty Z M this fun t => t = 16 ∧ wp_X4_newName Z this (x1 + (1 : Int32)) M (fun r2 M3 => zrI r2 fun x6 => if x6 ≤ 0 then (zgA Z M3 this [16] 11 fun x7 => zgA Z M3 this [16] 9 fun x8 => zgI Z M3 this [16] 10 fun x9 => zaJ Z M3 x8 [102] (x9 + (3 : Int32)) fun x10 => zty Z M3 x7 fun t => t = 17 ∧ wp_X5_speakerOf Z x7 x10 M3 (fun r11 M12 => zrI r11 fun x15 => if x15 = (-1 : Int32) then (zgI Z M12 this [16] 10 fun x41 => zty Z M12 this fun t => t = 16 ∧ wp_X4_fail Z this (3 : Int32) (x41 + (3 : Int32)) M12 (fun r42 M43 => zrI r42 fun x46 => K (some (.int x46)) M43)) else (zgI Z M12 this [16] 10 fun x16 => zput Z M12 this [16] 10 (.int (x16 + (4 : Int32))) fun M17 => zty Z M17 this fun t => t = 16 ∧ wp_X4_sized Z this (some (zz_ad Z 178)) (10 : Int32) M17 (fun r18 M19 => zrI r18 fun x22 => if x22 = 0 then (zgI Z M19 this [16] 10 fun x35 => zty Z M19 this fun t => t = 16 ∧ wp_X4_fail Z this (5 : Int32) x35 M19 (fun r36 M37 => zrI r36 fun x40 => K (some (.int x40)) M37)) else (zty Z M19 this fun t => t = 16 ∧ wp_X4_take Z this x15 ((10 : Int32) + x22) M19 (fun r23 M24 => zrI r23 fun x27 => if x27 = 0 then (zgA Z M24 this [16] 11 fun x28 => zgA Z M24 this [16] 9 fun x29 => zaJ Z M24 x29 [102] (x1 + (1 : Int32)) fun x30 => zty Z M24 x28 fun t => t = 17 ∧ wp_X5_add Z x28 x30 (0 : Int32) x15 x22 (-1 : Int32) (-1 : Int32) M24 (fun r31 M32 => zrV r31 (wp_X4_claimLine_B124 Z K x27 M32))) else (wp_X4_claimLine_B124 Z K x27 M24))))))) else (K (some (.int x6)) M3))
theorem ok_X4_claimLine_B124 {G : zzX} (C : zz_C G cX4_claimLine "DebateHallModel" 5) {K : Option Value → zzM → Prop} (E : zz_E G (some .int) K (fun _ _ _ => False)) (hH : zz_H G []) (hR : zz_Rm G 9) {v2 : Int32} {M : zzM} {bc bs : Nat} (hw : wp_X4_claimLine_B124 (zz_Zof G) K v2 M) : zz_T G 5 M bc bs 124 [(2, .int v2)] [] := by
  unfold wp_X4_claimLine_B124 at hw
  refine zz_iload_n C dX4_claimLine_124 rfl 0 rfl ?_
  exact zz_iret C E dX4_claimLine_125 hw
theorem ok_X4_claimLine {Z : zzG} {l : Launch} (hl : l.stackTraces = false) {this : Option Nat} {M : zzM} {mc ms : Nat} {K : Option Value → zzM → Prop} (hw : wp_X4_claimLine Z this M K) : zz_Met Z l yX4_claimLine (zz_ws yX4_claimLine cX4_claimLine 5 (some .int) none) 9 [va_rf this] M mc ms K (fun _ _ _ => False) := by
  refine zz_ofW hl (plainFor_of_name (by decide)) (by simp only [zz_sl0, zz_slI, zz_slJ, zz_slA] <;> decide) (fun G hZ hll C E hH hR hin => ?_)
  subst hZ
  subst hll
  rw [show lv_args 0 [va_rf this] = [(0, va_rf this)] by simp only [zz_la0, zz_laI, zz_laJ, zz_laA]]
  unfold wp_X4_claimLine at hw
  refine zz_aload_n C dX4_claimLine_0 rfl 0 rfl ?_
  refine zz_getI C dX4_claimLine_1 (Or.inl q2446) zf_16_10_ebateHallModel hw (fun x1 hw => ?_)
  refine zz_iconst (v := (1 : Int32)) C dX4_claimLine_4 (by decide) ?_
  refine zz_iadd C dX4_claimLine_5 ?_
  refine zz_istore_n (i := 1) (lv' := [(1, .int (x1 + (1 : Int32))), (0, va_rf this)]) C dX4_claimLine_6 rfl (by decide) (by simp [zz_cat, zz_catI, zz_catJ, zz_catD]) ?_
  refine zz_aload_n C dX4_claimLine_7 rfl 1 rfl ?_
  refine zz_iload_n C dX4_claimLine_8 rfl 0 rfl ?_
  obtain ⟨a9, t9, b9, fs9, hro, hL, rfl, hw⟩ := ztyS hw
  refine zz_callV (r := (zR_16, zT_16, 24)) (As := [.int (x1 + (1 : Int32))]) (rest := []) (mc := 0) (ms := 0) C hR hro dX4_claimLine_9 (Or.inl q2660) q2662 (Or.inl qs52) zl_DebateHallModel zk_X4_newName (Or.inl rfl) zy_X4_newName rfl (by decide) (by decide) hL (ok_X4_newName (zz_hl C) hw) (Nat.zero_le _) (Nat.zero_le _) (zz_cat10 _ (Nat.le_of_ble_eq_true rfl)) (fun r2 M3 hw => zz_kI hw (fun x6 hw => ?_)) (fun _ _ _ h9 => h9.elim) rfl
  refine zz_istore_n (i := 2) (lv' := [(2, .int x6), (1, .int (x1 + (1 : Int32))), (0, va_rf this)]) C dX4_claimLine_12 rfl (by decide) rfl ?_
  refine zz_iload_n C dX4_claimLine_13 rfl 0 rfl ?_
  refine zz_if_le (tgt := 19) C dX4_claimLine_14 (by decide) hw (fun hw => ?_) (fun hw => ?_)
  · refine zz_aload_n C dX4_claimLine_19 rfl 2 rfl ?_
    refine zz_getA C dX4_claimLine_20 (Or.inl q2447) zf_16_11_ebateHallModel hw (fun x7 hw => ?_)
    refine zz_aload_n C dX4_claimLine_23 rfl 2 rfl ?_
    refine zz_getA C dX4_claimLine_24 (Or.inl q2445) zf_16_9_ebateHallModel hw (fun x8 hw => ?_)
    refine zz_aload_n C dX4_claimLine_27 rfl 2 rfl ?_
    refine zz_getI C dX4_claimLine_28 (Or.inl q2446) zf_16_10_ebateHallModel hw (fun x9 hw => ?_)
    refine zz_iconst (v := (3 : Int32)) C dX4_claimLine_31 (by decide) ?_
    refine zz_iadd C dX4_claimLine_32 ?_
    refine zz_lald C dX4_claimLine_33 hw (fun x10 hw => ?_)
    obtain ⟨a9, t9, b9, fs9, hro, hL, rfl, hw⟩ := ztyS hw
    refine zz_callV (r := (zR_17, zT_17, 12)) (As := [.long x10]) (rest := []) (mc := 0) (ms := 0) C hR hro dX4_claimLine_34 (Or.inl q2651) q2652 (Or.inl q2653) zl_DebateHallModel_State zk_X5_speakerOf (Or.inl rfl) zy_X5_speakerOf rfl (by decide) (by decide) hL (ok_X5_speakerOf (zz_hl C) hw) (Nat.zero_le _) (Nat.zero_le _) (zz_cat10 _ (Nat.le_of_ble_eq_true rfl)) (fun r11 M12 hw => zz_kI hw (fun x15 hw => ?_)) (fun _ _ _ h9 => h9.elim) rfl
    refine zz_istore_n (i := 3) (lv' := [(3, .int x15), (2, .int x6), (1, .int (x1 + (1 : Int32))), (0, va_rf this)]) C dX4_claimLine_37 rfl (by decide) rfl ?_
    refine zz_iload_n C dX4_claimLine_38 rfl 0 rfl ?_
    refine zz_iconst (v := (-1 : Int32)) C dX4_claimLine_39 (by decide) ?_
    refine zz_icmp_ne (tgt := 55) C dX4_claimLine_40 (by decide) hw (fun hw => ?_) (fun hw => ?_)
    · refine zz_aload_n C dX4_claimLine_55 rfl 3 rfl ?_
      refine zz_dup C dX4_claimLine_56 (zz_cat _) ?_
      refine zz_getI C dX4_claimLine_57 (Or.inl q2446) zf_16_10_ebateHallModel hw (fun x16 hw => ?_)
      refine zz_iconst (v := (4 : Int32)) C dX4_claimLine_60 (by decide) ?_
      refine zz_iadd C dX4_claimLine_61 ?_
      refine zz_put C dX4_claimLine_62 (Or.inl q2446) zf_16_10_ebateHallModel zp_16_10 (zz_hn1 ⟨rfl, rfl⟩) hw (fun M17 hw => ?_)
      refine zz_aload_n C dX4_claimLine_65 rfl 3 rfl ?_
      refine zz_ldcS (j := 78) C dX4_claimLine_66 rfl ?_
      refine zz_bipush (v := (10 : Int32)) C dX4_claimLine_68 (by decide) ?_
      obtain ⟨a9, t9, b9, fs9, hro, hL, rfl, hw⟩ := ztyS hw
      refine zz_callV (r := (zR_16, zT_16, 24)) (As := [va_rf (some (zz_ad (zz_Zof G) 178)), .int (10 : Int32)]) (rest := []) (mc := 0) (ms := 0) C hR hro dX4_claimLine_70 (Or.inl q2668) q2670 (Or.inl qs53) zl_DebateHallModel zk_X4_sized (Or.inl rfl) zy_X4_sized rfl (by decide) (by decide) hL (ok_X4_sized (zz_hl C) hw) (Nat.zero_le _) (Nat.zero_le _) (zz_cat10 _ (Nat.le_of_ble_eq_true rfl)) (fun r18 M19 hw => zz_kI hw (fun x22 hw => ?_)) (fun _ _ _ h9 => h9.elim) rfl
      refine zz_istore (lv' := [(4, .int x22), (3, .int x15), (2, .int x6), (1, .int (x1 + (1 : Int32))), (0, va_rf this)]) C dX4_claimLine_73 (by decide) rfl ?_
      refine zz_iload C dX4_claimLine_75 0 rfl ?_
      refine zz_if_ne (tgt := 90) C dX4_claimLine_77 (by decide) hw (fun hw => ?_) (fun hw => ?_)
      · refine zz_aload_n C dX4_claimLine_90 rfl 4 rfl ?_
        refine zz_iload_n C dX4_claimLine_91 rfl 1 rfl ?_
        refine zz_bipush (v := (10 : Int32)) C dX4_claimLine_92 (by decide) ?_
        refine zz_iload C dX4_claimLine_94 0 rfl ?_
        refine zz_iadd C dX4_claimLine_96 ?_
        obtain ⟨a9, t9, b9, fs9, hro, hL, rfl, hw⟩ := ztyS hw
        refine zz_callV (r := (zR_16, zT_16, 24)) (As := [.int x15, .int ((10 : Int32) + x22)]) (rest := []) (mc := 0) (ms := 0) C hR hro dX4_claimLine_97 (Or.inl q2672) q2674 (Or.inl qs54) zl_DebateHallModel zk_X4_take (Or.inl rfl) zy_X4_take rfl (by decide) (by decide) hL (ok_X4_take (zz_hl C) hw) (Nat.zero_le _) (Nat.zero_le _) (zz_cat10 _ (Nat.le_of_ble_eq_true rfl)) (fun r23 M24 hw => zz_kI hw (fun x27 hw => ?_)) (fun _ _ _ h9 => h9.elim) rfl
        refine zz_istore_n (i := 2) (lv' := [(2, .int x27), (4, .int x22), (3, .int x15), (1, .int (x1 + (1 : Int32))), (0, va_rf this)]) C dX4_claimLine_100 rfl (by decide) rfl ?_
        refine zz_iload_n C dX4_claimLine_101 rfl 0 rfl ?_
        refine zz_if_ne (tgt := 124) C dX4_claimLine_102 (by decide) hw (fun hw => ?_) (fun hw => ?_)
        · refine zz_subP [0] rfl ?_
          exact ok_X4_claimLine_B124 C E hH hR hw
        · refine zz_aload_n C dX4_claimLine_105 rfl 4 rfl ?_
          refine zz_getA C dX4_claimLine_106 (Or.inl q2447) zf_16_11_ebateHallModel hw (fun x28 hw => ?_)
          refine zz_aload_n C dX4_claimLine_109 rfl 4 rfl ?_
          refine zz_getA C dX4_claimLine_110 (Or.inl q2445) zf_16_9_ebateHallModel hw (fun x29 hw => ?_)
          refine zz_iload_n C dX4_claimLine_113 rfl 3 rfl ?_
          refine zz_lald C dX4_claimLine_114 hw (fun x30 hw => ?_)
          refine zz_iconst (v := (0 : Int32)) C dX4_claimLine_115 (by decide) ?_
          refine zz_iload_n C dX4_claimLine_116 rfl 2 rfl ?_
          refine zz_iload C dX4_claimLine_117 1 rfl ?_
          refine zz_iconst (v := (-1 : Int32)) C dX4_claimLine_119 (by decide) ?_
          refine zz_iconst (v := (-1 : Int32)) C dX4_claimLine_120 (by decide) ?_
          obtain ⟨a9, t9, b9, fs9, hro, hL, rfl, hw⟩ := ztyS hw
          refine zz_callV (r := (zR_17, zT_17, 12)) (As := [.long x30, .int (0 : Int32), .int x15, .int x22, .int (-1 : Int32), .int (-1 : Int32)]) (rest := []) (mc := 0) (ms := 0) C hR hro dX4_claimLine_121 (Or.inl q2676) q2677 (Or.inl q2678) zl_DebateHallModel_State zk_X5_add (Or.inl rfl) zy_X5_add rfl (by decide) (by decide) hL (ok_X5_add (zz_hl C) hw) (Nat.zero_le _) (Nat.zero_le _) (zz_cat10 _ (Nat.le_of_ble_eq_true rfl)) (fun r31 M32 hw => zz_kV hw (fun hw => ?_)) (fun _ _ _ h9 => h9.elim) rfl
          refine zz_subP [0] rfl ?_
          exact ok_X4_claimLine_B124 C E hH hR hw
      · refine zz_aload_n C dX4_claimLine_80 rfl 4 rfl ?_
        refine zz_iconst (v := (5 : Int32)) C dX4_claimLine_81 (by decide) ?_
        refine zz_aload_n C dX4_claimLine_82 rfl 4 rfl ?_
        refine zz_getI C dX4_claimLine_83 (Or.inl q2446) zf_16_10_ebateHallModel hw (fun x35 hw => ?_)
        obtain ⟨a9, t9, b9, fs9, hro, hL, rfl, hw⟩ := ztyS hw
        refine zz_callV (r := (zR_16, zT_16, 24)) (As := [.int (5 : Int32), .int x35]) (rest := []) (mc := 0) (ms := 0) C hR hro dX4_claimLine_86 (Or.inl q2630) q2632 (Or.inl qs47) zl_DebateHallModel zk_X4_fail (Or.inl rfl) zy_X4_fail rfl (by decide) (by decide) hL (ok_X4_fail (zz_hl C) hw) (Nat.zero_le _) (Nat.zero_le _) (zz_cat10 _ (Nat.le_of_ble_eq_true rfl)) (fun r36 M37 hw => zz_kI hw (fun x40 hw => ?_)) (fun _ _ _ h9 => h9.elim) rfl
        exact zz_iret C E dX4_claimLine_89 hw
    · refine zz_aload_n C dX4_claimLine_43 rfl 3 rfl ?_
      refine zz_iconst (v := (3 : Int32)) C dX4_claimLine_44 (by decide) ?_
      refine zz_aload_n C dX4_claimLine_45 rfl 3 rfl ?_
      refine zz_getI C dX4_claimLine_46 (Or.inl q2446) zf_16_10_ebateHallModel hw (fun x41 hw => ?_)
      refine zz_iconst (v := (3 : Int32)) C dX4_claimLine_49 (by decide) ?_
      refine zz_iadd C dX4_claimLine_50 ?_
      obtain ⟨a9, t9, b9, fs9, hro, hL, rfl, hw⟩ := ztyS hw
      refine zz_callV (r := (zR_16, zT_16, 24)) (As := [.int (3 : Int32), .int (x41 + (3 : Int32))]) (rest := []) (mc := 0) (ms := 0) C hR hro dX4_claimLine_51 (Or.inl q2630) q2632 (Or.inl qs47) zl_DebateHallModel zk_X4_fail (Or.inl rfl) zy_X4_fail rfl (by decide) (by decide) hL (ok_X4_fail (zz_hl C) hw) (Nat.zero_le _) (Nat.zero_le _) (zz_cat10 _ (Nat.le_of_ble_eq_true rfl)) (fun r42 M43 hw => zz_kI hw (fun x46 hw => ?_)) (fun _ _ _ h9 => h9.elim) rfl
      exact zz_iret C E dX4_claimLine_54 hw
  · refine zz_iload_n C dX4_claimLine_17 rfl 0 rfl ?_
    exact zz_iret C E dX4_claimLine_18 hw
abbrev cX4_unknown : ByteArray := prog_25_method_37_code
def yX4_unknown : MethodName := ⟨"DebateHallModel", "unknown", "()I"⟩
def dkwX4_unknown_3 : List UInt8 := [132, 1, 1, 167, 255, 189, 2, 172]
abbrev dktX4_unknown_3 : List UInt8 := dkwX4_unknown_3 ++ []
def dkwX4_unknown_2 : List UInt8 := [154, 0, 22, 42, 180, 0, 48, 42, 180, 0, 40, 27, 47, 182, 1, 10, 2, 160, 0, 5, 27, 172]
abbrev dktX4_unknown_2 : List UInt8 := dkwX4_unknown_2 ++ dktX4_unknown_3
def dkwX4_unknown_1 : List UInt8 := [7, 159, 0, 50, 42, 180, 0, 34, 27, 46, 5, 160, 0, 34, 42, 180, 0, 40, 27, 47, 184, 0, 183]
abbrev dktX4_unknown_1 : List UInt8 := dkwX4_unknown_1 ++ dktX4_unknown_2
def dkwX4_unknown_0 : List UInt8 := [42, 180, 0, 168, 60, 42, 180, 0, 40, 27, 47, 20, 0, 166, 148, 154, 0, 13, 42, 180, 0, 34, 27, 46]
abbrev dktX4_unknown_0 : List UInt8 := dkwX4_unknown_0 ++ dktX4_unknown_1
theorem dksX4_unknown_0 : cX4_unknown.data.toList.drop 0 = dktX4_unknown_0 := by decide +kernel
theorem dksX4_unknown_1 : cX4_unknown.data.toList.drop 24 = dktX4_unknown_1 := dk_seg dksX4_unknown_0 24 rfl rfl
theorem dksX4_unknown_2 : cX4_unknown.data.toList.drop 47 = dktX4_unknown_2 := dk_seg dksX4_unknown_1 23 rfl rfl
theorem dksX4_unknown_3 : cX4_unknown.data.toList.drop 69 = dktX4_unknown_3 := dk_seg dksX4_unknown_2 22 rfl rfl
theorem dX4_unknown_0 : decode cX4_unknown 0 = .ok (.aload_n 0, 1) := dk_42 (dk_at dksX4_unknown_0 0 rfl rfl)
theorem dX4_unknown_1 : decode cX4_unknown 1 = .ok (.getfield 168, 3) := dk_180 0 168 (dk_at dksX4_unknown_0 1 rfl rfl)
theorem dX4_unknown_4 : decode cX4_unknown 4 = .ok (.istore_n 1, 1) := dk_60 (dk_at dksX4_unknown_0 4 rfl rfl)
theorem dX4_unknown_5 : decode cX4_unknown 5 = .ok (.aload_n 0, 1) := dk_42 (dk_at dksX4_unknown_0 5 rfl rfl)
theorem dX4_unknown_6 : decode cX4_unknown 6 = .ok (.getfield 40, 3) := dk_180 0 40 (dk_at dksX4_unknown_0 6 rfl rfl)
theorem dX4_unknown_9 : decode cX4_unknown 9 = .ok (.iload_n 1, 1) := dk_27 (dk_at dksX4_unknown_0 9 rfl rfl)
theorem dX4_unknown_10 : decode cX4_unknown 10 = .ok (.laload, 1) := dk_47 (dk_at dksX4_unknown_0 10 rfl rfl)
theorem dX4_unknown_11 : decode cX4_unknown 11 = .ok (.ldc2_w 166, 3) := dk_20 0 166 (dk_at dksX4_unknown_0 11 rfl rfl)
theorem dX4_unknown_14 : decode cX4_unknown 14 = .ok (.lcmp, 1) := dk_148 (dk_at dksX4_unknown_0 14 rfl rfl)
theorem dX4_unknown_15 : decode cX4_unknown 15 = .ok (.ifCond .ne 13, 3) := dk_154 0 13 (dk_at dksX4_unknown_0 15 rfl rfl)
theorem dX4_unknown_18 : decode cX4_unknown 18 = .ok (.aload_n 0, 1) := dk_42 (dk_at dksX4_unknown_0 18 rfl rfl)
theorem dX4_unknown_19 : decode cX4_unknown 19 = .ok (.getfield 34, 3) := dk_180 0 34 (dk_at dksX4_unknown_0 19 rfl rfl)
theorem dX4_unknown_22 : decode cX4_unknown 22 = .ok (.iload_n 1, 1) := dk_27 (dk_at dksX4_unknown_0 22 rfl rfl)
theorem dX4_unknown_23 : decode cX4_unknown 23 = .ok (.iaload, 1) := dk_46 (dk_at dksX4_unknown_0 23 rfl rfl)
theorem dX4_unknown_24 : decode cX4_unknown 24 = .ok (.iconst 4, 1) := dk_7 (dk_at dksX4_unknown_1 0 rfl rfl)
theorem dX4_unknown_25 : decode cX4_unknown 25 = .ok (.if_icmp .eq 50, 3) := dk_159 0 50 (dk_at dksX4_unknown_1 1 rfl rfl)
theorem dX4_unknown_28 : decode cX4_unknown 28 = .ok (.aload_n 0, 1) := dk_42 (dk_at dksX4_unknown_1 4 rfl rfl)
theorem dX4_unknown_29 : decode cX4_unknown 29 = .ok (.getfield 34, 3) := dk_180 0 34 (dk_at dksX4_unknown_1 5 rfl rfl)
theorem dX4_unknown_32 : decode cX4_unknown 32 = .ok (.iload_n 1, 1) := dk_27 (dk_at dksX4_unknown_1 8 rfl rfl)
theorem dX4_unknown_33 : decode cX4_unknown 33 = .ok (.iaload, 1) := dk_46 (dk_at dksX4_unknown_1 9 rfl rfl)
theorem dX4_unknown_34 : decode cX4_unknown 34 = .ok (.iconst 2, 1) := dk_5 (dk_at dksX4_unknown_1 10 rfl rfl)
theorem dX4_unknown_35 : decode cX4_unknown 35 = .ok (.if_icmp .ne 34, 3) := dk_160 0 34 (dk_at dksX4_unknown_1 11 rfl rfl)
theorem dX4_unknown_38 : decode cX4_unknown 38 = .ok (.aload_n 0, 1) := dk_42 (dk_at dksX4_unknown_1 14 rfl rfl)
theorem dX4_unknown_39 : decode cX4_unknown 39 = .ok (.getfield 40, 3) := dk_180 0 40 (dk_at dksX4_unknown_1 15 rfl rfl)
theorem dX4_unknown_42 : decode cX4_unknown 42 = .ok (.iload_n 1, 1) := dk_27 (dk_at dksX4_unknown_1 18 rfl rfl)
theorem dX4_unknown_43 : decode cX4_unknown 43 = .ok (.laload, 1) := dk_47 (dk_at dksX4_unknown_1 19 rfl rfl)
theorem dX4_unknown_44 : decode cX4_unknown 44 = .ok (.invokestatic 183, 3) := dk_184 0 183 (dk_at dksX4_unknown_1 20 rfl rfl)
theorem dX4_unknown_47 : decode cX4_unknown 47 = .ok (.ifCond .ne 22, 3) := dk_154 0 22 (dk_at dksX4_unknown_2 0 rfl rfl)
theorem dX4_unknown_50 : decode cX4_unknown 50 = .ok (.aload_n 0, 1) := dk_42 (dk_at dksX4_unknown_2 3 rfl rfl)
theorem dX4_unknown_51 : decode cX4_unknown 51 = .ok (.getfield 48, 3) := dk_180 0 48 (dk_at dksX4_unknown_2 4 rfl rfl)
theorem dX4_unknown_54 : decode cX4_unknown 54 = .ok (.aload_n 0, 1) := dk_42 (dk_at dksX4_unknown_2 7 rfl rfl)
theorem dX4_unknown_55 : decode cX4_unknown 55 = .ok (.getfield 40, 3) := dk_180 0 40 (dk_at dksX4_unknown_2 8 rfl rfl)
theorem dX4_unknown_58 : decode cX4_unknown 58 = .ok (.iload_n 1, 1) := dk_27 (dk_at dksX4_unknown_2 11 rfl rfl)
theorem dX4_unknown_59 : decode cX4_unknown 59 = .ok (.laload, 1) := dk_47 (dk_at dksX4_unknown_2 12 rfl rfl)
theorem dX4_unknown_60 : decode cX4_unknown 60 = .ok (.invokevirtual 266, 3) := dk_182 1 10 (dk_at dksX4_unknown_2 13 rfl rfl)
theorem dX4_unknown_63 : decode cX4_unknown 63 = .ok (.iconst (-1), 1) := dk_2 (dk_at dksX4_unknown_2 16 rfl rfl)
theorem dX4_unknown_64 : decode cX4_unknown 64 = .ok (.if_icmp .ne 5, 3) := dk_160 0 5 (dk_at dksX4_unknown_2 17 rfl rfl)
theorem dX4_unknown_67 : decode cX4_unknown 67 = .ok (.iload_n 1, 1) := dk_27 (dk_at dksX4_unknown_2 20 rfl rfl)
theorem dX4_unknown_68 : decode cX4_unknown 68 = .ok (.ireturn, 1) := dk_172 (dk_at dksX4_unknown_2 21 rfl rfl)
theorem dX4_unknown_69 : decode cX4_unknown 69 = .ok (.iinc 1 1, 3) := dk_132 1 1 (dk_at dksX4_unknown_3 0 rfl rfl)
theorem dX4_unknown_72 : decode cX4_unknown 72 = .ok (.goto (-67), 3) := dk_167 255 189 (dk_at dksX4_unknown_3 3 rfl rfl)
theorem dX4_unknown_75 : decode cX4_unknown 75 = .ok (.iconst (-1), 1) := dk_2 (dk_at dksX4_unknown_3 6 rfl rfl)
theorem dX4_unknown_76 : decode cX4_unknown 76 = .ok (.ireturn, 1) := dk_172 (dk_at dksX4_unknown_3 7 rfl rfl)
def wp_X4_unknown_B69 (Z : zzG) (k5 : Option Nat → Int32 → zzM → Prop) (K : Option Value → zzM → Prop) (v0 : Option Nat) (v1 : Int32) (M : zzM) : Prop := k5 v0 (v1 + 1) M
def wp_X4_unknown_B28 (Z : zzG) (k5 : Option Nat → Int32 → zzM → Prop) (K : Option Value → zzM → Prop) (v0 : Option Nat) (v1 : Int32) (M : zzM) : Prop := zgA Z M v0 [16] 7 fun x6 => zaI Z M x6 [100] v1 fun x7 => if x7 = (2 : Int32) then (zgA Z M v0 [16] 9 fun x8 => zaJ Z M x8 [102] v1 fun x9 => wp_X4_isKeyword Z x9 M (fun r10 M11 => zrI r10 fun x14 => if x14 = 0 then (zgA Z M11 v0 [16] 11 fun x15 => zgA Z M11 v0 [16] 9 fun x16 => zaJ Z M11 x16 [102] v1 fun x17 => zty Z M11 x15 fun t => t = 17 ∧ wp_X5_itemOf Z x15 x17 M11 (fun r18 M19 => zrI r18 fun x22 => if x22 = (-1 : Int32) then (K (some (.int v1)) M19) else (wp_X4_unknown_B69 Z k5 K v0 v1 M19))) else (wp_X4_unknown_B69 Z k5 K v0 v1 M11))) else (wp_X4_unknown_B69 Z k5 K v0 v1 M)
def wp_X4_unknown_L5 (Z : zzG) (K : Option Value → zzM → Prop) : Nat → Option Nat → Int32 → zzM → Prop
  | 0, _, _, _ => False
  | n + 1, v0, v1, M => zgA Z M v0 [16] 9 fun x2 => zaJ Z M x2 [102] v1 fun x3 => if (lg_cmp x3 (59 : Int64)) = 0 then (zgA Z M v0 [16] 7 fun x4 => zaI Z M x4 [100] v1 fun x5 => if x5 = (4 : Int32) then (K (some (.int (-1 : Int32))) M) else (wp_X4_unknown_B28 Z (wp_X4_unknown_L5 Z K n) K v0 v1 M)) else (wp_X4_unknown_B28 Z (wp_X4_unknown_L5 Z K n) K v0 v1 M)
def wp_X4_unknown (Z : zzG) (this : Option Nat) (M : zzM) (K : Option Value → zzM → Prop) : Prop := zgI Z M this [16] 10 fun x1 => ∃ n5 : Nat, wp_X4_unknown_L5 Z K n5 this x1 M
theorem ok_X4_unknown_B69 {G : zzX} (C : zz_C G cX4_unknown "DebateHallModel" 2) {K : Option Value → zzM → Prop} (E : zz_E G (some .int) K (fun _ _ _ => False)) (hH : zz_H G []) (hR : zz_Rm G 2) {k5 : Option Nat → Int32 → zzM → Prop} (hk5 : ∀ (z0 : Option Nat) (z1 : Int32) (M : zzM) (bc bs : Nat), k5 z0 z1 M → zz_T G 2 M bc bs 5 [(0, va_rf z0), (1, .int z1)] []) {v0 : Option Nat} {v1 : Int32} {M : zzM} {bc bs : Nat} (hw : wp_X4_unknown_B69 (zz_Zof G) k5 K v0 v1 M) : zz_T G 2 M bc bs 69 [(0, va_rf v0), (1, .int v1)] [] := by
  unfold wp_X4_unknown_B69 at hw
  refine zz_iinc (lv' := [(1, .int (v1 + 1)), (0, va_rf v0)]) C dX4_unknown_69 1 rfl (by rfl) (by decide) (by simp [zz_cat, zz_catI, zz_catJ, zz_catD]) ?_
  refine zz_goto (tgt := 5) C dX4_unknown_72 (by decide) ?_
  refine zz_subP [1, 0] rfl ?_
  exact hk5 _ _ _ _ _ hw
theorem ok_X4_unknown_B28 {G : zzX} (C : zz_C G cX4_unknown "DebateHallModel" 2) {K : Option Value → zzM → Prop} (E : zz_E G (some .int) K (fun _ _ _ => False)) (hH : zz_H G []) (hR : zz_Rm G 2) {k5 : Option Nat → Int32 → zzM → Prop} (hk5 : ∀ (z0 : Option Nat) (z1 : Int32) (M : zzM) (bc bs : Nat), k5 z0 z1 M → zz_T G 2 M bc bs 5 [(0, va_rf z0), (1, .int z1)] []) {v0 : Option Nat} {v1 : Int32} {M : zzM} {bc bs : Nat} (hw : wp_X4_unknown_B28 (zz_Zof G) k5 K v0 v1 M) : zz_T G 2 M bc bs 28 [(0, va_rf v0), (1, .int v1)] [] := by
  unfold wp_X4_unknown_B28 at hw
  refine zz_aload_n C dX4_unknown_28 rfl 0 rfl ?_
  refine zz_getA C dX4_unknown_29 (Or.inl q2443) zf_16_7_ebateHallModel hw (fun x6 hw => ?_)
  refine zz_iload_n C dX4_unknown_32 rfl 1 rfl ?_
  refine zz_iald C dX4_unknown_33 hw (fun x7 hw => ?_)
  refine zz_iconst (v := (2 : Int32)) C dX4_unknown_34 (by decide) ?_
  refine zz_icmp_ne (tgt := 69) C dX4_unknown_35 (by decide) hw (fun hw => ?_) (fun hw => ?_)
  · refine zz_subP [0, 1] rfl ?_
    exact ok_X4_unknown_B69 C E hH hR hk5 hw
  · refine zz_aload_n C dX4_unknown_38 rfl 0 rfl ?_
    refine zz_getA C dX4_unknown_39 (Or.inl q2445) zf_16_9_ebateHallModel hw (fun x8 hw => ?_)
    refine zz_iload_n C dX4_unknown_42 rfl 1 rfl ?_
    refine zz_lald C dX4_unknown_43 hw (fun x9 hw => ?_)
    refine zz_callS (As := [.long x9]) (rest := []) (mc := 0) (ms := 0) C hR dX4_unknown_44 (Or.inl q2581) q2582 zl_DebateHallModel zk_X4_isKeyword (Or.inl rfl) zy_X4_isKeyword (by decide) (by decide) (ok_X4_isKeyword (zz_hl C) hw) (Nat.zero_le _) (Nat.zero_le _) (zz_cat10 _ (Nat.le_of_ble_eq_true rfl)) (fun r10 M11 hw => zz_kI hw (fun x14 hw => ?_)) (fun _ _ _ h9 => h9.elim) rfl
    refine zz_if_ne (tgt := 69) C dX4_unknown_47 (by decide) hw (fun hw => ?_) (fun hw => ?_)
    · refine zz_subP [0, 1] rfl ?_
      exact ok_X4_unknown_B69 C E hH hR hk5 hw
    · refine zz_aload_n C dX4_unknown_50 rfl 0 rfl ?_
      refine zz_getA C dX4_unknown_51 (Or.inl q2447) zf_16_11_ebateHallModel hw (fun x15 hw => ?_)
      refine zz_aload_n C dX4_unknown_54 rfl 0 rfl ?_
      refine zz_getA C dX4_unknown_55 (Or.inl q2445) zf_16_9_ebateHallModel hw (fun x16 hw => ?_)
      refine zz_iload_n C dX4_unknown_58 rfl 1 rfl ?_
      refine zz_lald C dX4_unknown_59 hw (fun x17 hw => ?_)
      obtain ⟨a9, t9, b9, fs9, hro, hL, rfl, hw⟩ := ztyS hw
      refine zz_callV (r := (zR_17, zT_17, 12)) (As := [.long x17]) (rest := []) (mc := 0) (ms := 0) C hR hro dX4_unknown_60 (Or.inl q2664) q2665 (Or.inl q2666) zl_DebateHallModel_State zk_X5_itemOf (Or.inl rfl) zy_X5_itemOf rfl (by decide) (by decide) hL (ok_X5_itemOf (zz_hl C) hw) (Nat.zero_le _) (Nat.zero_le _) (zz_cat10 _ (Nat.le_of_ble_eq_true rfl)) (fun r18 M19 hw => zz_kI hw (fun x22 hw => ?_)) (fun _ _ _ h9 => h9.elim) rfl
      refine zz_iconst (v := (-1 : Int32)) C dX4_unknown_63 (by decide) ?_
      refine zz_icmp_ne (tgt := 69) C dX4_unknown_64 (by decide) hw (fun hw => ?_) (fun hw => ?_)
      · refine zz_subP [0, 1] rfl ?_
        exact ok_X4_unknown_B69 C E hH hR hk5 hw
      · refine zz_iload_n C dX4_unknown_67 rfl 1 rfl ?_
        exact zz_iret C E dX4_unknown_68 hw
theorem ok_X4_unknown_L5 {G : zzX} (C : zz_C G cX4_unknown "DebateHallModel" 2) {K : Option Value → zzM → Prop} (E : zz_E G (some .int) K (fun _ _ _ => False)) (hH : zz_H G []) (hR : zz_Rm G 2) : ∀ (n : Nat) (v0 : Option Nat) (v1 : Int32) (M : zzM) (bc bs : Nat), wp_X4_unknown_L5 (zz_Zof G) K n v0 v1 M → zz_T G 2 M bc bs 5 [(0, va_rf v0), (1, .int v1)] [] := by
  intro n
  induction n with
  | zero =>
    intro v0 v1 M bc bs hw
    exact False.elim hw
  | succ n ih =>
    intro v0 v1 M bc bs hw
    refine zz_aload_n C dX4_unknown_5 rfl 0 rfl ?_
    refine zz_getA C dX4_unknown_6 (Or.inl q2445) zf_16_9_ebateHallModel hw (fun x2 hw => ?_)
    refine zz_iload_n C dX4_unknown_9 rfl 1 rfl ?_
    refine zz_lald C dX4_unknown_10 hw (fun x3 hw => ?_)
    refine zz_ldc2 C dX4_unknown_11 q2550 ?_
    refine zz_lcmp C dX4_unknown_14 ?_
    refine zz_if_ne (tgt := 28) C dX4_unknown_15 (by decide) hw (fun hw => ?_) (fun hw => ?_)
    · refine zz_subP [0, 1] rfl ?_
      exact ok_X4_unknown_B28 C E hH hR (fun z0 z1 z2 z3 z4 hw => ih z0 z1 z2 z3 z4 hw) hw
    · refine zz_aload_n C dX4_unknown_18 rfl 0 rfl ?_
      refine zz_getA C dX4_unknown_19 (Or.inl q2443) zf_16_7_ebateHallModel hw (fun x4 hw => ?_)
      refine zz_iload_n C dX4_unknown_22 rfl 1 rfl ?_
      refine zz_iald C dX4_unknown_23 hw (fun x5 hw => ?_)
      refine zz_iconst (v := (4 : Int32)) C dX4_unknown_24 (by decide) ?_
      refine zz_icmp_eq (tgt := 75) C dX4_unknown_25 (by decide) hw (fun hw => ?_) (fun hw => ?_)
      · refine zz_iconst (v := (-1 : Int32)) C dX4_unknown_75 (by decide) ?_
        exact zz_iret C E dX4_unknown_76 hw
      · refine zz_subP [0, 1] rfl ?_
        exact ok_X4_unknown_B28 C E hH hR (fun z0 z1 z2 z3 z4 hw => ih z0 z1 z2 z3 z4 hw) hw
theorem ok_X4_unknown {Z : zzG} {l : Launch} (hl : l.stackTraces = false) {this : Option Nat} {M : zzM} {mc ms : Nat} {K : Option Value → zzM → Prop} (hw : wp_X4_unknown Z this M K) : zz_Met Z l yX4_unknown (zz_ws yX4_unknown cX4_unknown 2 (some .int) none) 2 [va_rf this] M mc ms K (fun _ _ _ => False) := by
  refine zz_ofW hl (plainFor_of_name (by decide)) (by simp only [zz_sl0, zz_slI, zz_slJ, zz_slA] <;> decide) (fun G hZ hll C E hH hR hin => ?_)
  subst hZ
  subst hll
  rw [show lv_args 0 [va_rf this] = [(0, va_rf this)] by simp only [zz_la0, zz_laI, zz_laJ, zz_laA]]
  unfold wp_X4_unknown at hw
  refine zz_aload_n C dX4_unknown_0 rfl 0 rfl ?_
  refine zz_getI C dX4_unknown_1 (Or.inl q2446) zf_16_10_ebateHallModel hw (fun x1 hw => ?_)
  refine zz_istore_n (i := 1) (lv' := [(1, .int x1), (0, va_rf this)]) C dX4_unknown_4 rfl (by decide) (by simp [zz_cat, zz_catI, zz_catJ, zz_catD]) ?_
  refine zz_subP [1, 0] rfl ?_
  obtain ⟨n5, hw⟩ := hw
  exact ok_X4_unknown_L5 C E hH hR n5 _ _ _ _ _ hw
abbrev cX4_bothHold : ByteArray := prog_25_method_39_code
def yX4_bothHold : MethodName := ⟨"DebateHallModel", "bothHold", "()Z"⟩
def dkwX4_bothHold_1 : List UInt8 := [27, 172]
abbrev dktX4_bothHold_1 : List UInt8 := dkwX4_bothHold_1 ++ []
def dkwX4_bothHold_0 : List UInt8 := [42, 182, 1, 41, 60, 42, 18, 237, 182, 0, 189, 153, 0, 13, 27, 42, 182, 1, 41, 126, 60, 167, 255, 240]
abbrev dktX4_bothHold_0 : List UInt8 := dkwX4_bothHold_0 ++ dktX4_bothHold_1
theorem dksX4_bothHold_0 : cX4_bothHold.data.toList.drop 0 = dktX4_bothHold_0 := by decide +kernel
theorem dksX4_bothHold_1 : cX4_bothHold.data.toList.drop 24 = dktX4_bothHold_1 := dk_seg dksX4_bothHold_0 24 rfl rfl
theorem dX4_bothHold_0 : decode cX4_bothHold 0 = .ok (.aload_n 0, 1) := dk_42 (dk_at dksX4_bothHold_0 0 rfl rfl)
theorem dX4_bothHold_1 : decode cX4_bothHold 1 = .ok (.invokevirtual 297, 3) := dk_182 1 41 (dk_at dksX4_bothHold_0 1 rfl rfl)
theorem dX4_bothHold_4 : decode cX4_bothHold 4 = .ok (.istore_n 1, 1) := dk_60 (dk_at dksX4_bothHold_0 4 rfl rfl)
theorem dX4_bothHold_5 : decode cX4_bothHold 5 = .ok (.aload_n 0, 1) := dk_42 (dk_at dksX4_bothHold_0 5 rfl rfl)
theorem dX4_bothHold_6 : decode cX4_bothHold 6 = .ok (.ldc 237, 2) := dk_18 237 (dk_at dksX4_bothHold_0 6 rfl rfl)
theorem dX4_bothHold_8 : decode cX4_bothHold 8 = .ok (.invokevirtual 189, 3) := dk_182 0 189 (dk_at dksX4_bothHold_0 8 rfl rfl)
theorem dX4_bothHold_11 : decode cX4_bothHold 11 = .ok (.ifCond .eq 13, 3) := dk_153 0 13 (dk_at dksX4_bothHold_0 11 rfl rfl)
theorem dX4_bothHold_14 : decode cX4_bothHold 14 = .ok (.iload_n 1, 1) := dk_27 (dk_at dksX4_bothHold_0 14 rfl rfl)
theorem dX4_bothHold_15 : decode cX4_bothHold 15 = .ok (.aload_n 0, 1) := dk_42 (dk_at dksX4_bothHold_0 15 rfl rfl)
theorem dX4_bothHold_16 : decode cX4_bothHold 16 = .ok (.invokevirtual 297, 3) := dk_182 1 41 (dk_at dksX4_bothHold_0 16 rfl rfl)
theorem dX4_bothHold_19 : decode cX4_bothHold 19 = .ok (.iand, 1) := dk_126 (dk_at dksX4_bothHold_0 19 rfl rfl)
theorem dX4_bothHold_20 : decode cX4_bothHold 20 = .ok (.istore_n 1, 1) := dk_60 (dk_at dksX4_bothHold_0 20 rfl rfl)
theorem dX4_bothHold_21 : decode cX4_bothHold 21 = .ok (.goto (-16), 3) := dk_167 255 240 (dk_at dksX4_bothHold_0 21 rfl rfl)
theorem dX4_bothHold_24 : decode cX4_bothHold 24 = .ok (.iload_n 1, 1) := dk_27 (dk_at dksX4_bothHold_1 0 rfl rfl)
theorem dX4_bothHold_25 : decode cX4_bothHold 25 = .ok (.ireturn, 1) := dk_172 (dk_at dksX4_bothHold_1 1 rfl rfl)
abbrev cX4_singleHolds : ByteArray := prog_25_method_40_code
def yX4_singleHolds : MethodName := ⟨"DebateHallModel", "singleHolds", "()Z"⟩
def dkwX4_singleHolds_6 : List UInt8 := [167, 0, 18, 42, 180, 0, 61, 29, 46, 28, 160, 0, 7, 4, 167, 0, 4, 3, 172]
abbrev dktX4_singleHolds_6 : List UInt8 := dkwX4_singleHolds_6 ++ []
def dkwX4_singleHolds_5 : List UInt8 := [27, 153, 0, 24, 42, 180, 0, 48, 180, 0, 98, 29, 46, 4, 160, 0, 7, 4, 167, 0, 22, 3]
abbrev dktX4_singleHolds_5 : List UInt8 := dkwX4_singleHolds_5 ++ dktX4_singleHolds_6
def dkwX4_singleHolds_4 : List UInt8 := [180, 0, 40, 42, 180, 0, 168, 4, 96, 47, 182, 1, 10, 62, 42, 89, 180, 0, 168, 5, 96, 181, 0, 168]
abbrev dktX4_singleHolds_4 : List UInt8 := dkwX4_singleHolds_4 ++ dktX4_singleHolds_5
def dkwX4_singleHolds_3 : List UInt8 := [167, 0, 17, 42, 18, 247, 182, 0, 175, 153, 0, 7, 5, 167, 0, 4, 3, 61, 42, 180, 0, 48, 42]
abbrev dktX4_singleHolds_3 : List UInt8 := dkwX4_singleHolds_3 ++ dktX4_singleHolds_4
def dkwX4_singleHolds_2 : List UInt8 := [181, 0, 168, 27, 172, 42, 18, 251, 182, 0, 175, 60, 42, 18, 245, 182, 0, 175, 153, 0, 7, 4]
abbrev dktX4_singleHolds_2 : List UInt8 := dkwX4_singleHolds_2 ++ dktX4_singleHolds_3
def dkwX4_singleHolds_1 : List UInt8 := [16, 91, 182, 0, 241, 182, 0, 179, 153, 0, 20, 42, 182, 1, 35, 60, 42, 89, 180, 0, 168, 4, 96]
abbrev dktX4_singleHolds_1 : List UInt8 := dkwX4_singleHolds_1 ++ dktX4_singleHolds_2
def dkwX4_singleHolds_0 : List UInt8 := [42, 18, 239, 182, 0, 189, 153, 0, 16, 42, 182, 1, 41, 154, 0, 7, 4, 167, 0, 4, 3, 172, 42, 42]
abbrev dktX4_singleHolds_0 : List UInt8 := dkwX4_singleHolds_0 ++ dktX4_singleHolds_1
theorem dksX4_singleHolds_0 : cX4_singleHolds.data.toList.drop 0 = dktX4_singleHolds_0 := by decide +kernel
theorem dksX4_singleHolds_1 : cX4_singleHolds.data.toList.drop 24 = dktX4_singleHolds_1 := dk_seg dksX4_singleHolds_0 24 rfl rfl
theorem dksX4_singleHolds_2 : cX4_singleHolds.data.toList.drop 47 = dktX4_singleHolds_2 := dk_seg dksX4_singleHolds_1 23 rfl rfl
theorem dksX4_singleHolds_3 : cX4_singleHolds.data.toList.drop 69 = dktX4_singleHolds_3 := dk_seg dksX4_singleHolds_2 22 rfl rfl
theorem dksX4_singleHolds_4 : cX4_singleHolds.data.toList.drop 92 = dktX4_singleHolds_4 := dk_seg dksX4_singleHolds_3 23 rfl rfl
theorem dksX4_singleHolds_5 : cX4_singleHolds.data.toList.drop 116 = dktX4_singleHolds_5 := dk_seg dksX4_singleHolds_4 24 rfl rfl
theorem dksX4_singleHolds_6 : cX4_singleHolds.data.toList.drop 138 = dktX4_singleHolds_6 := dk_seg dksX4_singleHolds_5 22 rfl rfl
theorem dX4_singleHolds_0 : decode cX4_singleHolds 0 = .ok (.aload_n 0, 1) := dk_42 (dk_at dksX4_singleHolds_0 0 rfl rfl)
theorem dX4_singleHolds_1 : decode cX4_singleHolds 1 = .ok (.ldc 239, 2) := dk_18 239 (dk_at dksX4_singleHolds_0 1 rfl rfl)
theorem dX4_singleHolds_3 : decode cX4_singleHolds 3 = .ok (.invokevirtual 189, 3) := dk_182 0 189 (dk_at dksX4_singleHolds_0 3 rfl rfl)
theorem dX4_singleHolds_6 : decode cX4_singleHolds 6 = .ok (.ifCond .eq 16, 3) := dk_153 0 16 (dk_at dksX4_singleHolds_0 6 rfl rfl)
theorem dX4_singleHolds_9 : decode cX4_singleHolds 9 = .ok (.aload_n 0, 1) := dk_42 (dk_at dksX4_singleHolds_0 9 rfl rfl)
theorem dX4_singleHolds_10 : decode cX4_singleHolds 10 = .ok (.invokevirtual 297, 3) := dk_182 1 41 (dk_at dksX4_singleHolds_0 10 rfl rfl)
theorem dX4_singleHolds_13 : decode cX4_singleHolds 13 = .ok (.ifCond .ne 7, 3) := dk_154 0 7 (dk_at dksX4_singleHolds_0 13 rfl rfl)
theorem dX4_singleHolds_16 : decode cX4_singleHolds 16 = .ok (.iconst 1, 1) := dk_4 (dk_at dksX4_singleHolds_0 16 rfl rfl)
theorem dX4_singleHolds_17 : decode cX4_singleHolds 17 = .ok (.goto 4, 3) := dk_167 0 4 (dk_at dksX4_singleHolds_0 17 rfl rfl)
theorem dX4_singleHolds_20 : decode cX4_singleHolds 20 = .ok (.iconst 0, 1) := dk_3 (dk_at dksX4_singleHolds_0 20 rfl rfl)
theorem dX4_singleHolds_21 : decode cX4_singleHolds 21 = .ok (.ireturn, 1) := dk_172 (dk_at dksX4_singleHolds_0 21 rfl rfl)
theorem dX4_singleHolds_22 : decode cX4_singleHolds 22 = .ok (.aload_n 0, 1) := dk_42 (dk_at dksX4_singleHolds_0 22 rfl rfl)
theorem dX4_singleHolds_23 : decode cX4_singleHolds 23 = .ok (.aload_n 0, 1) := dk_42 (dk_at dksX4_singleHolds_0 23 rfl rfl)
theorem dX4_singleHolds_24 : decode cX4_singleHolds 24 = .ok (.bipush 91, 2) := dk_16 91 (dk_at dksX4_singleHolds_1 0 rfl rfl)
theorem dX4_singleHolds_26 : decode cX4_singleHolds 26 = .ok (.invokevirtual 241, 3) := dk_182 0 241 (dk_at dksX4_singleHolds_1 2 rfl rfl)
theorem dX4_singleHolds_29 : decode cX4_singleHolds 29 = .ok (.invokevirtual 179, 3) := dk_182 0 179 (dk_at dksX4_singleHolds_1 5 rfl rfl)
theorem dX4_singleHolds_32 : decode cX4_singleHolds 32 = .ok (.ifCond .eq 20, 3) := dk_153 0 20 (dk_at dksX4_singleHolds_1 8 rfl rfl)
theorem dX4_singleHolds_35 : decode cX4_singleHolds 35 = .ok (.aload_n 0, 1) := dk_42 (dk_at dksX4_singleHolds_1 11 rfl rfl)
theorem dX4_singleHolds_36 : decode cX4_singleHolds 36 = .ok (.invokevirtual 291, 3) := dk_182 1 35 (dk_at dksX4_singleHolds_1 12 rfl rfl)
theorem dX4_singleHolds_39 : decode cX4_singleHolds 39 = .ok (.istore_n 1, 1) := dk_60 (dk_at dksX4_singleHolds_1 15 rfl rfl)
theorem dX4_singleHolds_40 : decode cX4_singleHolds 40 = .ok (.aload_n 0, 1) := dk_42 (dk_at dksX4_singleHolds_1 16 rfl rfl)
theorem dX4_singleHolds_41 : decode cX4_singleHolds 41 = .ok (.dup, 1) := dk_89 (dk_at dksX4_singleHolds_1 17 rfl rfl)
theorem dX4_singleHolds_42 : decode cX4_singleHolds 42 = .ok (.getfield 168, 3) := dk_180 0 168 (dk_at dksX4_singleHolds_1 18 rfl rfl)
theorem dX4_singleHolds_45 : decode cX4_singleHolds 45 = .ok (.iconst 1, 1) := dk_4 (dk_at dksX4_singleHolds_1 21 rfl rfl)
theorem dX4_singleHolds_46 : decode cX4_singleHolds 46 = .ok (.iadd, 1) := dk_96 (dk_at dksX4_singleHolds_1 22 rfl rfl)
theorem dX4_singleHolds_47 : decode cX4_singleHolds 47 = .ok (.putfield 168, 3) := dk_181 0 168 (dk_at dksX4_singleHolds_2 0 rfl rfl)
theorem dX4_singleHolds_50 : decode cX4_singleHolds 50 = .ok (.iload_n 1, 1) := dk_27 (dk_at dksX4_singleHolds_2 3 rfl rfl)
theorem dX4_singleHolds_51 : decode cX4_singleHolds 51 = .ok (.ireturn, 1) := dk_172 (dk_at dksX4_singleHolds_2 4 rfl rfl)
theorem dX4_singleHolds_52 : decode cX4_singleHolds 52 = .ok (.aload_n 0, 1) := dk_42 (dk_at dksX4_singleHolds_2 5 rfl rfl)
theorem dX4_singleHolds_53 : decode cX4_singleHolds 53 = .ok (.ldc 251, 2) := dk_18 251 (dk_at dksX4_singleHolds_2 6 rfl rfl)
theorem dX4_singleHolds_55 : decode cX4_singleHolds 55 = .ok (.invokevirtual 175, 3) := dk_182 0 175 (dk_at dksX4_singleHolds_2 8 rfl rfl)
theorem dX4_singleHolds_58 : decode cX4_singleHolds 58 = .ok (.istore_n 1, 1) := dk_60 (dk_at dksX4_singleHolds_2 11 rfl rfl)
theorem dX4_singleHolds_59 : decode cX4_singleHolds 59 = .ok (.aload_n 0, 1) := dk_42 (dk_at dksX4_singleHolds_2 12 rfl rfl)
theorem dX4_singleHolds_60 : decode cX4_singleHolds 60 = .ok (.ldc 245, 2) := dk_18 245 (dk_at dksX4_singleHolds_2 13 rfl rfl)
theorem dX4_singleHolds_62 : decode cX4_singleHolds 62 = .ok (.invokevirtual 175, 3) := dk_182 0 175 (dk_at dksX4_singleHolds_2 15 rfl rfl)
theorem dX4_singleHolds_65 : decode cX4_singleHolds 65 = .ok (.ifCond .eq 7, 3) := dk_153 0 7 (dk_at dksX4_singleHolds_2 18 rfl rfl)
theorem dX4_singleHolds_68 : decode cX4_singleHolds 68 = .ok (.iconst 1, 1) := dk_4 (dk_at dksX4_singleHolds_2 21 rfl rfl)
theorem dX4_singleHolds_69 : decode cX4_singleHolds 69 = .ok (.goto 17, 3) := dk_167 0 17 (dk_at dksX4_singleHolds_3 0 rfl rfl)
theorem dX4_singleHolds_72 : decode cX4_singleHolds 72 = .ok (.aload_n 0, 1) := dk_42 (dk_at dksX4_singleHolds_3 3 rfl rfl)
theorem dX4_singleHolds_73 : decode cX4_singleHolds 73 = .ok (.ldc 247, 2) := dk_18 247 (dk_at dksX4_singleHolds_3 4 rfl rfl)
theorem dX4_singleHolds_75 : decode cX4_singleHolds 75 = .ok (.invokevirtual 175, 3) := dk_182 0 175 (dk_at dksX4_singleHolds_3 6 rfl rfl)
theorem dX4_singleHolds_78 : decode cX4_singleHolds 78 = .ok (.ifCond .eq 7, 3) := dk_153 0 7 (dk_at dksX4_singleHolds_3 9 rfl rfl)
theorem dX4_singleHolds_81 : decode cX4_singleHolds 81 = .ok (.iconst 2, 1) := dk_5 (dk_at dksX4_singleHolds_3 12 rfl rfl)
theorem dX4_singleHolds_82 : decode cX4_singleHolds 82 = .ok (.goto 4, 3) := dk_167 0 4 (dk_at dksX4_singleHolds_3 13 rfl rfl)
theorem dX4_singleHolds_85 : decode cX4_singleHolds 85 = .ok (.iconst 0, 1) := dk_3 (dk_at dksX4_singleHolds_3 16 rfl rfl)
theorem dX4_singleHolds_86 : decode cX4_singleHolds 86 = .ok (.istore_n 2, 1) := dk_61 (dk_at dksX4_singleHolds_3 17 rfl rfl)
theorem dX4_singleHolds_87 : decode cX4_singleHolds 87 = .ok (.aload_n 0, 1) := dk_42 (dk_at dksX4_singleHolds_3 18 rfl rfl)
theorem dX4_singleHolds_88 : decode cX4_singleHolds 88 = .ok (.getfield 48, 3) := dk_180 0 48 (dk_at dksX4_singleHolds_3 19 rfl rfl)
theorem dX4_singleHolds_91 : decode cX4_singleHolds 91 = .ok (.aload_n 0, 1) := dk_42 (dk_at dksX4_singleHolds_3 22 rfl rfl)
theorem dX4_singleHolds_92 : decode cX4_singleHolds 92 = .ok (.getfield 40, 3) := dk_180 0 40 (dk_at dksX4_singleHolds_4 0 rfl rfl)
theorem dX4_singleHolds_95 : decode cX4_singleHolds 95 = .ok (.aload_n 0, 1) := dk_42 (dk_at dksX4_singleHolds_4 3 rfl rfl)
theorem dX4_singleHolds_96 : decode cX4_singleHolds 96 = .ok (.getfield 168, 3) := dk_180 0 168 (dk_at dksX4_singleHolds_4 4 rfl rfl)
theorem dX4_singleHolds_99 : decode cX4_singleHolds 99 = .ok (.iconst 1, 1) := dk_4 (dk_at dksX4_singleHolds_4 7 rfl rfl)
theorem dX4_singleHolds_100 : decode cX4_singleHolds 100 = .ok (.iadd, 1) := dk_96 (dk_at dksX4_singleHolds_4 8 rfl rfl)
theorem dX4_singleHolds_101 : decode cX4_singleHolds 101 = .ok (.laload, 1) := dk_47 (dk_at dksX4_singleHolds_4 9 rfl rfl)
theorem dX4_singleHolds_102 : decode cX4_singleHolds 102 = .ok (.invokevirtual 266, 3) := dk_182 1 10 (dk_at dksX4_singleHolds_4 10 rfl rfl)
theorem dX4_singleHolds_105 : decode cX4_singleHolds 105 = .ok (.istore_n 3, 1) := dk_62 (dk_at dksX4_singleHolds_4 13 rfl rfl)
theorem dX4_singleHolds_106 : decode cX4_singleHolds 106 = .ok (.aload_n 0, 1) := dk_42 (dk_at dksX4_singleHolds_4 14 rfl rfl)
theorem dX4_singleHolds_107 : decode cX4_singleHolds 107 = .ok (.dup, 1) := dk_89 (dk_at dksX4_singleHolds_4 15 rfl rfl)
theorem dX4_singleHolds_108 : decode cX4_singleHolds 108 = .ok (.getfield 168, 3) := dk_180 0 168 (dk_at dksX4_singleHolds_4 16 rfl rfl)
theorem dX4_singleHolds_111 : decode cX4_singleHolds 111 = .ok (.iconst 2, 1) := dk_5 (dk_at dksX4_singleHolds_4 19 rfl rfl)
theorem dX4_singleHolds_112 : decode cX4_singleHolds 112 = .ok (.iadd, 1) := dk_96 (dk_at dksX4_singleHolds_4 20 rfl rfl)
theorem dX4_singleHolds_113 : decode cX4_singleHolds 113 = .ok (.putfield 168, 3) := dk_181 0 168 (dk_at dksX4_singleHolds_4 21 rfl rfl)
theorem dX4_singleHolds_116 : decode cX4_singleHolds 116 = .ok (.iload_n 1, 1) := dk_27 (dk_at dksX4_singleHolds_5 0 rfl rfl)
theorem dX4_singleHolds_117 : decode cX4_singleHolds 117 = .ok (.ifCond .eq 24, 3) := dk_153 0 24 (dk_at dksX4_singleHolds_5 1 rfl rfl)
theorem dX4_singleHolds_120 : decode cX4_singleHolds 120 = .ok (.aload_n 0, 1) := dk_42 (dk_at dksX4_singleHolds_5 4 rfl rfl)
theorem dX4_singleHolds_121 : decode cX4_singleHolds 121 = .ok (.getfield 48, 3) := dk_180 0 48 (dk_at dksX4_singleHolds_5 5 rfl rfl)
theorem dX4_singleHolds_124 : decode cX4_singleHolds 124 = .ok (.getfield 98, 3) := dk_180 0 98 (dk_at dksX4_singleHolds_5 8 rfl rfl)
theorem dX4_singleHolds_127 : decode cX4_singleHolds 127 = .ok (.iload_n 3, 1) := dk_29 (dk_at dksX4_singleHolds_5 11 rfl rfl)
theorem dX4_singleHolds_128 : decode cX4_singleHolds 128 = .ok (.iaload, 1) := dk_46 (dk_at dksX4_singleHolds_5 12 rfl rfl)
theorem dX4_singleHolds_129 : decode cX4_singleHolds 129 = .ok (.iconst 1, 1) := dk_4 (dk_at dksX4_singleHolds_5 13 rfl rfl)
theorem dX4_singleHolds_130 : decode cX4_singleHolds 130 = .ok (.if_icmp .ne 7, 3) := dk_160 0 7 (dk_at dksX4_singleHolds_5 14 rfl rfl)
theorem dX4_singleHolds_133 : decode cX4_singleHolds 133 = .ok (.iconst 1, 1) := dk_4 (dk_at dksX4_singleHolds_5 17 rfl rfl)
theorem dX4_singleHolds_134 : decode cX4_singleHolds 134 = .ok (.goto 22, 3) := dk_167 0 22 (dk_at dksX4_singleHolds_5 18 rfl rfl)
theorem dX4_singleHolds_137 : decode cX4_singleHolds 137 = .ok (.iconst 0, 1) := dk_3 (dk_at dksX4_singleHolds_5 21 rfl rfl)
theorem dX4_singleHolds_138 : decode cX4_singleHolds 138 = .ok (.goto 18, 3) := dk_167 0 18 (dk_at dksX4_singleHolds_6 0 rfl rfl)
theorem dX4_singleHolds_141 : decode cX4_singleHolds 141 = .ok (.aload_n 0, 1) := dk_42 (dk_at dksX4_singleHolds_6 3 rfl rfl)
theorem dX4_singleHolds_142 : decode cX4_singleHolds 142 = .ok (.getfield 61, 3) := dk_180 0 61 (dk_at dksX4_singleHolds_6 4 rfl rfl)
theorem dX4_singleHolds_145 : decode cX4_singleHolds 145 = .ok (.iload_n 3, 1) := dk_29 (dk_at dksX4_singleHolds_6 7 rfl rfl)
theorem dX4_singleHolds_146 : decode cX4_singleHolds 146 = .ok (.iaload, 1) := dk_46 (dk_at dksX4_singleHolds_6 8 rfl rfl)
theorem dX4_singleHolds_147 : decode cX4_singleHolds 147 = .ok (.iload_n 2, 1) := dk_28 (dk_at dksX4_singleHolds_6 9 rfl rfl)
theorem dX4_singleHolds_148 : decode cX4_singleHolds 148 = .ok (.if_icmp .ne 7, 3) := dk_160 0 7 (dk_at dksX4_singleHolds_6 10 rfl rfl)
theorem dX4_singleHolds_151 : decode cX4_singleHolds 151 = .ok (.iconst 1, 1) := dk_4 (dk_at dksX4_singleHolds_6 13 rfl rfl)
theorem dX4_singleHolds_152 : decode cX4_singleHolds 152 = .ok (.goto 4, 3) := dk_167 0 4 (dk_at dksX4_singleHolds_6 14 rfl rfl)
theorem dX4_singleHolds_155 : decode cX4_singleHolds 155 = .ok (.iconst 0, 1) := dk_3 (dk_at dksX4_singleHolds_6 17 rfl rfl)
theorem dX4_singleHolds_156 : decode cX4_singleHolds 156 = .ok (.ireturn, 1) := dk_172 (dk_at dksX4_singleHolds_6 18 rfl rfl)
abbrev cX4_testHolds : ByteArray := prog_25_method_38_code
def yX4_testHolds : MethodName := ⟨"DebateHallModel", "testHolds", "()Z"⟩
def dkwX4_testHolds_1 : List UInt8 := [27, 172]
abbrev dktX4_testHolds_1 : List UInt8 := dkwX4_testHolds_1 ++ []
def dkwX4_testHolds_0 : List UInt8 := [42, 182, 1, 38, 60, 42, 18, 232, 182, 0, 189, 153, 0, 13, 27, 42, 182, 1, 38, 128, 60, 167, 255, 240]
abbrev dktX4_testHolds_0 : List UInt8 := dkwX4_testHolds_0 ++ dktX4_testHolds_1
theorem dksX4_testHolds_0 : cX4_testHolds.data.toList.drop 0 = dktX4_testHolds_0 := by decide +kernel
theorem dksX4_testHolds_1 : cX4_testHolds.data.toList.drop 24 = dktX4_testHolds_1 := dk_seg dksX4_testHolds_0 24 rfl rfl
theorem dX4_testHolds_0 : decode cX4_testHolds 0 = .ok (.aload_n 0, 1) := dk_42 (dk_at dksX4_testHolds_0 0 rfl rfl)
theorem dX4_testHolds_1 : decode cX4_testHolds 1 = .ok (.invokevirtual 294, 3) := dk_182 1 38 (dk_at dksX4_testHolds_0 1 rfl rfl)
theorem dX4_testHolds_4 : decode cX4_testHolds 4 = .ok (.istore_n 1, 1) := dk_60 (dk_at dksX4_testHolds_0 4 rfl rfl)
theorem dX4_testHolds_5 : decode cX4_testHolds 5 = .ok (.aload_n 0, 1) := dk_42 (dk_at dksX4_testHolds_0 5 rfl rfl)
theorem dX4_testHolds_6 : decode cX4_testHolds 6 = .ok (.ldc 232, 2) := dk_18 232 (dk_at dksX4_testHolds_0 6 rfl rfl)
theorem dX4_testHolds_8 : decode cX4_testHolds 8 = .ok (.invokevirtual 189, 3) := dk_182 0 189 (dk_at dksX4_testHolds_0 8 rfl rfl)
theorem dX4_testHolds_11 : decode cX4_testHolds 11 = .ok (.ifCond .eq 13, 3) := dk_153 0 13 (dk_at dksX4_testHolds_0 11 rfl rfl)
theorem dX4_testHolds_14 : decode cX4_testHolds 14 = .ok (.iload_n 1, 1) := dk_27 (dk_at dksX4_testHolds_0 14 rfl rfl)
theorem dX4_testHolds_15 : decode cX4_testHolds 15 = .ok (.aload_n 0, 1) := dk_42 (dk_at dksX4_testHolds_0 15 rfl rfl)
theorem dX4_testHolds_16 : decode cX4_testHolds 16 = .ok (.invokevirtual 294, 3) := dk_182 1 38 (dk_at dksX4_testHolds_0 16 rfl rfl)
theorem dX4_testHolds_19 : decode cX4_testHolds 19 = .ok (.ior, 1) := dk_128 (dk_at dksX4_testHolds_0 19 rfl rfl)
theorem dX4_testHolds_20 : decode cX4_testHolds 20 = .ok (.istore_n 1, 1) := dk_60 (dk_at dksX4_testHolds_0 20 rfl rfl)
theorem dX4_testHolds_21 : decode cX4_testHolds 21 = .ok (.goto (-16), 3) := dk_167 255 240 (dk_at dksX4_testHolds_0 21 rfl rfl)
theorem dX4_testHolds_24 : decode cX4_testHolds 24 = .ok (.iload_n 1, 1) := dk_27 (dk_at dksX4_testHolds_1 0 rfl rfl)
theorem dX4_testHolds_25 : decode cX4_testHolds 25 = .ok (.ireturn, 1) := dk_172 (dk_at dksX4_testHolds_1 1 rfl rfl)
theorem q2715 : (Jvm.Cond.code ({ cls := "DebateHallModel", name := "singleHolds", desc := "()Z" } : Jvm.MethodName) prog_25_method_40_code (4 : Nat) (Option.some Jvm.ClassFile.FieldType.boolean)) ∈ lw_all := lw_g (lw_at lw_m11 235 rfl) rfl
theorem zk_X4_singleHolds : zz_cd yX4_singleHolds cX4_singleHolds 4 (some .boolean) none ∈ lw_all := q2715
theorem zy_X4_singleHolds : zz_yok yX4_singleHolds 0 = true := by decide +kernel
theorem q2712 : (Jvm.Cond.methodLink "DebateHallModel" (297 : Nat) ({ cls := "DebateHallModel", name := "singleHolds", desc := "()Z" } : Jvm.MethodName)) ∈ lw_all := lw_g (lw_at lw_m11 232 rfl) rfl
theorem q2714 : (Jvm.Cond.instanceMethod ({ cls := "DebateHallModel", name := "singleHolds", desc := "()Z" } : Jvm.MethodName)) ∈ lw_all := lw_g (lw_at lw_m11 234 rfl) rfl
theorem q2707 : (Jvm.Cond.code ({ cls := "DebateHallModel", name := "testHolds", desc := "()Z" } : Jvm.MethodName) prog_25_method_38_code (2 : Nat) (Option.some Jvm.ClassFile.FieldType.boolean)) ∈ lw_all := lw_g (lw_at lw_m11 227 rfl) rfl
theorem zk_X4_testHolds : zz_cd yX4_testHolds cX4_testHolds 2 (some .boolean) none ∈ lw_all := q2707
theorem zy_X4_testHolds : zz_yok yX4_testHolds 0 = true := by decide +kernel
theorem q2704 : (Jvm.Cond.methodLink "DebateHallModel" (291 : Nat) ({ cls := "DebateHallModel", name := "testHolds", desc := "()Z" } : Jvm.MethodName)) ∈ lw_all := lw_g (lw_at lw_m11 224 rfl) rfl
theorem q2706 : (Jvm.Cond.instanceMethod ({ cls := "DebateHallModel", name := "testHolds", desc := "()Z" } : Jvm.MethodName)) ∈ lw_all := lw_g (lw_at lw_m11 226 rfl) rfl
theorem q2711 : (Jvm.Cond.code ({ cls := "DebateHallModel", name := "bothHold", desc := "()Z" } : Jvm.MethodName) prog_25_method_39_code (2 : Nat) (Option.some Jvm.ClassFile.FieldType.boolean)) ∈ lw_all := lw_g (lw_at lw_m11 231 rfl) rfl
theorem zk_X4_bothHold : zz_cd yX4_bothHold cX4_bothHold 2 (some .boolean) none ∈ lw_all := q2711
theorem zy_X4_bothHold : zz_yok yX4_bothHold 0 = true := by decide +kernel
theorem q2708 : (Jvm.Cond.methodLink "DebateHallModel" (294 : Nat) ({ cls := "DebateHallModel", name := "bothHold", desc := "()Z" } : Jvm.MethodName)) ∈ lw_all := lw_g (lw_at lw_m11 228 rfl) rfl
theorem q2710 : (Jvm.Cond.instanceMethod ({ cls := "DebateHallModel", name := "bothHold", desc := "()Z" } : Jvm.MethodName)) ∈ lw_all := lw_g (lw_at lw_m11 230 rfl) rfl
def wp_X4_bothHold_L5 (Z : zzG) (r_X4_bothHold : Option Nat → zzM → (Option Value → zzM → Prop) → Prop) (r_X4_singleHolds : Option Nat → zzM → (Option Value → zzM → Prop) → Prop) (r_X4_testHolds : Option Nat → zzM → (Option Value → zzM → Prop) → Prop) (K : Option Value → zzM → Prop) : Nat → Option Nat → Int32 → zzM → Prop
  | 0, _, _, _ => False
  | n + 1, v0, v1, M => zty Z M v0 fun t => t = 16 ∧ wp_X4_word Z v0 (some (zz_ad Z 112)) M (fun r6 M7 => zrI r6 fun x10 => if x10 = 0 then (narrow .boolean (.int v1) = .int v1 ∧ K (some (.int v1)) M7) else (zty Z M7 v0 fun t => t = 16 ∧ r_X4_singleHolds v0 M7 (fun r11 M12 => zrI r11 fun x15 => wp_X4_bothHold_L5 Z r_X4_bothHold r_X4_singleHolds r_X4_testHolds K n v0 (v1 &&& x15) M12)))
def wpb_X4_bothHold (Z : zzG) (r_X4_bothHold : Option Nat → zzM → (Option Value → zzM → Prop) → Prop) (r_X4_singleHolds : Option Nat → zzM → (Option Value → zzM → Prop) → Prop) (r_X4_testHolds : Option Nat → zzM → (Option Value → zzM → Prop) → Prop) (this : Option Nat) (M : zzM) (K : Option Value → zzM → Prop) : Prop := zty Z M this fun t => t = 16 ∧ r_X4_singleHolds this M (fun r1 M2 => zrI r1 fun x5 => ∃ n5 : Nat, wp_X4_bothHold_L5 Z r_X4_bothHold r_X4_singleHolds r_X4_testHolds K n5 this x5 M2)
def wp_X4_singleHolds_B21 (Z : zzG) (r_X4_bothHold : Option Nat → zzM → (Option Value → zzM → Prop) → Prop) (r_X4_singleHolds : Option Nat → zzM → (Option Value → zzM → Prop) → Prop) (r_X4_testHolds : Option Nat → zzM → (Option Value → zzM → Prop) → Prop) (K : Option Value → zzM → Prop) (s0 : Int32) (M : zzM) : Prop := narrow .boolean (.int s0) = .int s0 ∧ K (some (.int s0)) M
def wp_X4_singleHolds_B156 (Z : zzG) (r_X4_bothHold : Option Nat → zzM → (Option Value → zzM → Prop) → Prop) (r_X4_singleHolds : Option Nat → zzM → (Option Value → zzM → Prop) → Prop) (r_X4_testHolds : Option Nat → zzM → (Option Value → zzM → Prop) → Prop) (K : Option Value → zzM → Prop) (s0 : Int32) (M : zzM) : Prop := narrow .boolean (.int s0) = .int s0 ∧ K (some (.int s0)) M
def wp_X4_singleHolds_B86 (Z : zzG) (r_X4_bothHold : Option Nat → zzM → (Option Value → zzM → Prop) → Prop) (r_X4_singleHolds : Option Nat → zzM → (Option Value → zzM → Prop) → Prop) (r_X4_testHolds : Option Nat → zzM → (Option Value → zzM → Prop) → Prop) (K : Option Value → zzM → Prop) (v0 : Option Nat) (v1 : Int32) (s0 : Int32) (M : zzM) : Prop := zgA Z M v0 [16] 11 fun x43 => zgA Z M v0 [16] 9 fun x44 => zgI Z M v0 [16] 10 fun x45 => zaJ Z M x44 [102] (x45 + (1 : Int32)) fun x46 => zty Z M x43 fun t => t = 17 ∧ wp_X5_itemOf Z x43 x46 M (fun r47 M48 => zrI r47 fun x51 => zgI Z M48 v0 [16] 10 fun x52 => zput Z M48 v0 [16] 10 (.int (x52 + (2 : Int32))) fun M53 => if v1 = 0 then (zgA Z M53 v0 [16] 16 fun x54 => zaI Z M53 x54 [100] x51 fun x55 => if x55 = s0 then (wp_X4_singleHolds_B156 Z r_X4_bothHold r_X4_singleHolds r_X4_testHolds K (1 : Int32) M53) else (wp_X4_singleHolds_B156 Z r_X4_bothHold r_X4_singleHolds r_X4_testHolds K (0 : Int32) M53)) else (zgA Z M53 v0 [16] 11 fun x56 => zgA Z M53 x56 [17] 10 fun x57 => zaI Z M53 x57 [100] x51 fun x58 => if x58 = (1 : Int32) then (wp_X4_singleHolds_B156 Z r_X4_bothHold r_X4_singleHolds r_X4_testHolds K (1 : Int32) M53) else (wp_X4_singleHolds_B156 Z r_X4_bothHold r_X4_singleHolds r_X4_testHolds K (0 : Int32) M53)))
def wpb_X4_singleHolds (Z : zzG) (r_X4_bothHold : Option Nat → zzM → (Option Value → zzM → Prop) → Prop) (r_X4_singleHolds : Option Nat → zzM → (Option Value → zzM → Prop) → Prop) (r_X4_testHolds : Option Nat → zzM → (Option Value → zzM → Prop) → Prop) (this : Option Nat) (M : zzM) (K : Option Value → zzM → Prop) : Prop := zty Z M this fun t => t = 16 ∧ wp_X4_word Z this (some (zz_ad Z 148)) M (fun r1 M2 => zrI r1 fun x5 => if x5 = 0 then (zty Z M2 this fun t => t = 16 ∧ wp_X4_isSymbol Z this (91 : Int32) M2 (fun r6 M7 => zrI r6 fun x10 => zty Z M7 this fun t => t = 16 ∧ wp_X4_past Z this x10 M7 (fun r11 M12 => zrI r11 fun x15 => if x15 = 0 then (zty Z M12 this fun t => t = 16 ∧ wp_X4_is Z this (some (zz_ad Z 128)) M12 (fun r16 M17 => zrI r16 fun x20 => zty Z M17 this fun t => t = 16 ∧ wp_X4_is Z this (some (zz_ad Z 145)) M17 (fun r21 M22 => zrI r21 fun x25 => if x25 = 0 then (zty Z M22 this fun t => t = 16 ∧ wp_X4_is Z this (some (zz_ad Z 162)) M22 (fun r26 M27 => zrI r26 fun x30 => if x30 = 0 then (wp_X4_singleHolds_B86 Z r_X4_bothHold r_X4_singleHolds r_X4_testHolds K this x20 (0 : Int32) M27) else (wp_X4_singleHolds_B86 Z r_X4_bothHold r_X4_singleHolds r_X4_testHolds K this x20 (2 : Int32) M27))) else (wp_X4_singleHolds_B86 Z r_X4_bothHold r_X4_singleHolds r_X4_testHolds K this x20 (1 : Int32) M22)))) else (zty Z M12 this fun t => t = 16 ∧ r_X4_testHolds this M12 (fun r31 M32 => zrI r31 fun x35 => zgI Z M32 this [16] 10 fun x36 => zput Z M32 this [16] 10 (.int (x36 + (1 : Int32))) fun M37 => narrow .boolean (.int x35) = .int x35 ∧ K (some (.int x35)) M37))))) else (zty Z M2 this fun t => t = 16 ∧ r_X4_singleHolds this M2 (fun r38 M39 => zrI r38 fun x42 => if x42 = 0 then (wp_X4_singleHolds_B21 Z r_X4_bothHold r_X4_singleHolds r_X4_testHolds K (1 : Int32) M39) else (wp_X4_singleHolds_B21 Z r_X4_bothHold r_X4_singleHolds r_X4_testHolds K (0 : Int32) M39))))
def wp_X4_testHolds_L5 (Z : zzG) (r_X4_bothHold : Option Nat → zzM → (Option Value → zzM → Prop) → Prop) (r_X4_singleHolds : Option Nat → zzM → (Option Value → zzM → Prop) → Prop) (r_X4_testHolds : Option Nat → zzM → (Option Value → zzM → Prop) → Prop) (K : Option Value → zzM → Prop) : Nat → Option Nat → Int32 → zzM → Prop
  | 0, _, _, _ => False
  | n + 1, v0, v1, M => zty Z M v0 fun t => t = 16 ∧ wp_X4_word Z v0 (some (zz_ad Z 158)) M (fun r6 M7 => zrI r6 fun x10 => if x10 = 0 then (narrow .boolean (.int v1) = .int v1 ∧ K (some (.int v1)) M7) else (zty Z M7 v0 fun t => t = 16 ∧ r_X4_bothHold v0 M7 (fun r11 M12 => zrI r11 fun x15 => wp_X4_testHolds_L5 Z r_X4_bothHold r_X4_singleHolds r_X4_testHolds K n v0 (v1 ||| x15) M12)))
def wpb_X4_testHolds (Z : zzG) (r_X4_bothHold : Option Nat → zzM → (Option Value → zzM → Prop) → Prop) (r_X4_singleHolds : Option Nat → zzM → (Option Value → zzM → Prop) → Prop) (r_X4_testHolds : Option Nat → zzM → (Option Value → zzM → Prop) → Prop) (this : Option Nat) (M : zzM) (K : Option Value → zzM → Prop) : Prop := zty Z M this fun t => t = 16 ∧ r_X4_bothHold this M (fun r1 M2 => zrI r1 fun x5 => ∃ n5 : Nat, wp_X4_testHolds_L5 Z r_X4_bothHold r_X4_singleHolds r_X4_testHolds K n5 this x5 M2)
theorem ok_X4_bothHold_L5 {G : zzX} (C : zz_C G cX4_bothHold "DebateHallModel" 2) {K : Option Value → zzM → Prop} (E : zz_E G (some .boolean) K (fun _ _ _ => False)) (hH : zz_H G []) {fr frr : Nat} (hR : zz_Rm G fr) (hF : 8 ≤ fr) (hfrr : frr + 1 ≤ fr) {r_X4_bothHold : Option Nat → zzM → (Option Value → zzM → Prop) → Prop} (h_X4_bothHold : ∀ {u0 : Option Nat}{M : zzM} {mc ms : Nat} {K : Option Value → zzM → Prop}, r_X4_bothHold u0 M K → zz_Met (zz_Zof G) (zz_l G) yX4_bothHold (zz_ws yX4_bothHold cX4_bothHold 2 (some .boolean) none) frr [va_rf u0] M mc ms K (fun _ _ _ => False)) {r_X4_singleHolds : Option Nat → zzM → (Option Value → zzM → Prop) → Prop} (h_X4_singleHolds : ∀ {u0 : Option Nat}{M : zzM} {mc ms : Nat} {K : Option Value → zzM → Prop}, r_X4_singleHolds u0 M K → zz_Met (zz_Zof G) (zz_l G) yX4_singleHolds (zz_ws yX4_singleHolds cX4_singleHolds 4 (some .boolean) none) frr [va_rf u0] M mc ms K (fun _ _ _ => False)) {r_X4_testHolds : Option Nat → zzM → (Option Value → zzM → Prop) → Prop} (h_X4_testHolds : ∀ {u0 : Option Nat}{M : zzM} {mc ms : Nat} {K : Option Value → zzM → Prop}, r_X4_testHolds u0 M K → zz_Met (zz_Zof G) (zz_l G) yX4_testHolds (zz_ws yX4_testHolds cX4_testHolds 2 (some .boolean) none) frr [va_rf u0] M mc ms K (fun _ _ _ => False)) : ∀ (n : Nat) (v0 : Option Nat) (v1 : Int32) (M : zzM) (bc bs : Nat), wp_X4_bothHold_L5 (zz_Zof G) r_X4_bothHold r_X4_singleHolds r_X4_testHolds K n v0 v1 M → zz_T G 2 M bc bs 5 [(0, va_rf v0), (1, .int v1)] [] := by
  intro n
  induction n with
  | zero =>
    intro v0 v1 M bc bs hw
    exact False.elim hw
  | succ n ih =>
    intro v0 v1 M bc bs hw
    refine zz_aload_n C dX4_bothHold_5 rfl 0 rfl ?_
    refine zz_ldcS (j := 12) C dX4_bothHold_6 rfl ?_
    obtain ⟨a9, t9, b9, fs9, hro, hL, rfl, hw⟩ := ztyS hw
    refine zz_callV (r := (zR_16, zT_16, 24)) (As := [va_rf (some (zz_ad (zz_Zof G) 112))]) (rest := []) (mc := 0) (ms := 0) C hR hro dX4_bothHold_8 (Or.inl q2560) q2562 (Or.inl qs37) zl_DebateHallModel zk_X4_word (Or.inl rfl) zy_X4_word rfl (Nat.le_trans (by decide : 8 ≤ 8) hF) (by decide) hL (ok_X4_word (zz_hl C) hw) (Nat.zero_le _) (Nat.zero_le _) (zz_cat10 _ (Nat.le_of_ble_eq_true rfl)) (fun r6 M7 hw => zz_kI hw (fun x10 hw => ?_)) (fun _ _ _ h9 => h9.elim) rfl
    refine zz_if_eq (tgt := 24) C dX4_bothHold_11 (by decide) hw (fun hw => ?_) (fun hw => ?_)
    · refine zz_iload_n C dX4_bothHold_24 rfl 1 rfl ?_
      exact zz_zret C E dX4_bothHold_25 hw
    · refine zz_iload_n C dX4_bothHold_14 rfl 1 rfl ?_
      refine zz_aload_n C dX4_bothHold_15 rfl 0 rfl ?_
      obtain ⟨a9, t9, b9, fs9, hro, hL, rfl, hw⟩ := ztyS hw
      refine zz_callV (r := (zR_16, zT_16, 24)) (As := []) (rest := [.int v1]) (mc := 0) (ms := 0) C hR hro dX4_bothHold_16 (Or.inl q2712) q2714 (Or.inl qs62) zl_DebateHallModel zk_X4_singleHolds (Or.inl rfl) zy_X4_singleHolds rfl hfrr (by decide) hL (h_X4_singleHolds hw) (Nat.zero_le _) (Nat.zero_le _) (zz_cat10 _ (Nat.le_of_ble_eq_true rfl)) (fun r11 M12 hw => zz_kI hw (fun x15 hw => ?_)) (fun _ _ _ h9 => h9.elim) rfl
      refine zz_iand C dX4_bothHold_19 ?_
      refine zz_istore_n (i := 1) (lv' := [(1, .int (v1 &&& x15)), (0, va_rf v0)]) C dX4_bothHold_20 rfl (by decide) (by simp [zz_cat, zz_catI, zz_catJ, zz_catD]) ?_
      refine zz_goto (tgt := 5) C dX4_bothHold_21 (by decide) ?_
      refine zz_subP [1, 0] rfl ?_
      exact ih _ _ _ _ _ hw
theorem okb_X4_bothHold {Z : zzG} {l : Launch} (hl : l.stackTraces = false) {fr frr : Nat} (hF : 8 ≤ fr) (hfrr : frr + 1 ≤ fr) {r_X4_bothHold : Option Nat → zzM → (Option Value → zzM → Prop) → Prop} (h_X4_bothHold : ∀ {u0 : Option Nat}{M : zzM} {mc ms : Nat} {K : Option Value → zzM → Prop}, r_X4_bothHold u0 M K → zz_Met Z l yX4_bothHold (zz_ws yX4_bothHold cX4_bothHold 2 (some .boolean) none) frr [va_rf u0] M mc ms K (fun _ _ _ => False)) {r_X4_singleHolds : Option Nat → zzM → (Option Value → zzM → Prop) → Prop} (h_X4_singleHolds : ∀ {u0 : Option Nat}{M : zzM} {mc ms : Nat} {K : Option Value → zzM → Prop}, r_X4_singleHolds u0 M K → zz_Met Z l yX4_singleHolds (zz_ws yX4_singleHolds cX4_singleHolds 4 (some .boolean) none) frr [va_rf u0] M mc ms K (fun _ _ _ => False)) {r_X4_testHolds : Option Nat → zzM → (Option Value → zzM → Prop) → Prop} (h_X4_testHolds : ∀ {u0 : Option Nat}{M : zzM} {mc ms : Nat} {K : Option Value → zzM → Prop}, r_X4_testHolds u0 M K → zz_Met Z l yX4_testHolds (zz_ws yX4_testHolds cX4_testHolds 2 (some .boolean) none) frr [va_rf u0] M mc ms K (fun _ _ _ => False)) {this : Option Nat} {M : zzM} {mc ms : Nat} {K : Option Value → zzM → Prop} (hw : wpb_X4_bothHold Z r_X4_bothHold r_X4_singleHolds r_X4_testHolds this M K) : zz_Met Z l yX4_bothHold (zz_ws yX4_bothHold cX4_bothHold 2 (some .boolean) none) fr [va_rf this] M mc ms K (fun _ _ _ => False) := by
  refine zz_ofW hl (plainFor_of_name (by decide)) (by simp only [zz_sl0, zz_slI, zz_slJ, zz_slA] <;> decide) (fun G hZ hll C E hH hR hin => ?_)
  subst hZ
  subst hll
  rw [show lv_args 0 [va_rf this] = [(0, va_rf this)] by simp only [zz_la0, zz_laI, zz_laJ, zz_laA]]
  unfold wpb_X4_bothHold at hw
  refine zz_aload_n C dX4_bothHold_0 rfl 0 rfl ?_
  obtain ⟨a9, t9, b9, fs9, hro, hL, rfl, hw⟩ := ztyS hw
  refine zz_callV (r := (zR_16, zT_16, 24)) (As := []) (rest := []) (mc := 0) (ms := 0) C hR hro dX4_bothHold_1 (Or.inl q2712) q2714 (Or.inl qs62) zl_DebateHallModel zk_X4_singleHolds (Or.inl rfl) zy_X4_singleHolds rfl hfrr (by decide) hL (h_X4_singleHolds hw) (Nat.zero_le _) (Nat.zero_le _) (zz_cat10 _ (Nat.le_of_ble_eq_true rfl)) (fun r1 M2 hw => zz_kI hw (fun x5 hw => ?_)) (fun _ _ _ h9 => h9.elim) rfl
  refine zz_istore_n (i := 1) (lv' := [(1, .int x5), (0, va_rf this)]) C dX4_bothHold_4 rfl (by decide) (by simp [zz_cat, zz_catI, zz_catJ, zz_catD]) ?_
  refine zz_subP [1, 0] rfl ?_
  obtain ⟨n5, hw⟩ := hw
  exact ok_X4_bothHold_L5 C E hH hR hF hfrr h_X4_bothHold h_X4_singleHolds h_X4_testHolds n5 _ _ _ _ _ hw
theorem ok_X4_singleHolds_B21 {G : zzX} (C : zz_C G cX4_singleHolds "DebateHallModel" 4) {K : Option Value → zzM → Prop} (E : zz_E G (some .boolean) K (fun _ _ _ => False)) (hH : zz_H G []) {fr frr : Nat} (hR : zz_Rm G fr) (hF : 8 ≤ fr) (hfrr : frr + 1 ≤ fr) {r_X4_bothHold : Option Nat → zzM → (Option Value → zzM → Prop) → Prop} (h_X4_bothHold : ∀ {u0 : Option Nat}{M : zzM} {mc ms : Nat} {K : Option Value → zzM → Prop}, r_X4_bothHold u0 M K → zz_Met (zz_Zof G) (zz_l G) yX4_bothHold (zz_ws yX4_bothHold cX4_bothHold 2 (some .boolean) none) frr [va_rf u0] M mc ms K (fun _ _ _ => False)) {r_X4_singleHolds : Option Nat → zzM → (Option Value → zzM → Prop) → Prop} (h_X4_singleHolds : ∀ {u0 : Option Nat}{M : zzM} {mc ms : Nat} {K : Option Value → zzM → Prop}, r_X4_singleHolds u0 M K → zz_Met (zz_Zof G) (zz_l G) yX4_singleHolds (zz_ws yX4_singleHolds cX4_singleHolds 4 (some .boolean) none) frr [va_rf u0] M mc ms K (fun _ _ _ => False)) {r_X4_testHolds : Option Nat → zzM → (Option Value → zzM → Prop) → Prop} (h_X4_testHolds : ∀ {u0 : Option Nat}{M : zzM} {mc ms : Nat} {K : Option Value → zzM → Prop}, r_X4_testHolds u0 M K → zz_Met (zz_Zof G) (zz_l G) yX4_testHolds (zz_ws yX4_testHolds cX4_testHolds 2 (some .boolean) none) frr [va_rf u0] M mc ms K (fun _ _ _ => False)) {s0 : Int32} {M : zzM} {bc bs : Nat} (hw : wp_X4_singleHolds_B21 (zz_Zof G) r_X4_bothHold r_X4_singleHolds r_X4_testHolds K s0 M) : zz_T G 4 M bc bs 21 [] [.int s0] := by
  unfold wp_X4_singleHolds_B21 at hw
  exact zz_zret C E dX4_singleHolds_21 hw
theorem ok_X4_singleHolds_B156 {G : zzX} (C : zz_C G cX4_singleHolds "DebateHallModel" 4) {K : Option Value → zzM → Prop} (E : zz_E G (some .boolean) K (fun _ _ _ => False)) (hH : zz_H G []) {fr frr : Nat} (hR : zz_Rm G fr) (hF : 8 ≤ fr) (hfrr : frr + 1 ≤ fr) {r_X4_bothHold : Option Nat → zzM → (Option Value → zzM → Prop) → Prop} (h_X4_bothHold : ∀ {u0 : Option Nat}{M : zzM} {mc ms : Nat} {K : Option Value → zzM → Prop}, r_X4_bothHold u0 M K → zz_Met (zz_Zof G) (zz_l G) yX4_bothHold (zz_ws yX4_bothHold cX4_bothHold 2 (some .boolean) none) frr [va_rf u0] M mc ms K (fun _ _ _ => False)) {r_X4_singleHolds : Option Nat → zzM → (Option Value → zzM → Prop) → Prop} (h_X4_singleHolds : ∀ {u0 : Option Nat}{M : zzM} {mc ms : Nat} {K : Option Value → zzM → Prop}, r_X4_singleHolds u0 M K → zz_Met (zz_Zof G) (zz_l G) yX4_singleHolds (zz_ws yX4_singleHolds cX4_singleHolds 4 (some .boolean) none) frr [va_rf u0] M mc ms K (fun _ _ _ => False)) {r_X4_testHolds : Option Nat → zzM → (Option Value → zzM → Prop) → Prop} (h_X4_testHolds : ∀ {u0 : Option Nat}{M : zzM} {mc ms : Nat} {K : Option Value → zzM → Prop}, r_X4_testHolds u0 M K → zz_Met (zz_Zof G) (zz_l G) yX4_testHolds (zz_ws yX4_testHolds cX4_testHolds 2 (some .boolean) none) frr [va_rf u0] M mc ms K (fun _ _ _ => False)) {s0 : Int32} {M : zzM} {bc bs : Nat} (hw : wp_X4_singleHolds_B156 (zz_Zof G) r_X4_bothHold r_X4_singleHolds r_X4_testHolds K s0 M) : zz_T G 4 M bc bs 156 [] [.int s0] := by
  unfold wp_X4_singleHolds_B156 at hw
  exact zz_zret C E dX4_singleHolds_156 hw
theorem ok_X4_singleHolds_B86 {G : zzX} (C : zz_C G cX4_singleHolds "DebateHallModel" 4) {K : Option Value → zzM → Prop} (E : zz_E G (some .boolean) K (fun _ _ _ => False)) (hH : zz_H G []) {fr frr : Nat} (hR : zz_Rm G fr) (hF : 8 ≤ fr) (hfrr : frr + 1 ≤ fr) {r_X4_bothHold : Option Nat → zzM → (Option Value → zzM → Prop) → Prop} (h_X4_bothHold : ∀ {u0 : Option Nat}{M : zzM} {mc ms : Nat} {K : Option Value → zzM → Prop}, r_X4_bothHold u0 M K → zz_Met (zz_Zof G) (zz_l G) yX4_bothHold (zz_ws yX4_bothHold cX4_bothHold 2 (some .boolean) none) frr [va_rf u0] M mc ms K (fun _ _ _ => False)) {r_X4_singleHolds : Option Nat → zzM → (Option Value → zzM → Prop) → Prop} (h_X4_singleHolds : ∀ {u0 : Option Nat}{M : zzM} {mc ms : Nat} {K : Option Value → zzM → Prop}, r_X4_singleHolds u0 M K → zz_Met (zz_Zof G) (zz_l G) yX4_singleHolds (zz_ws yX4_singleHolds cX4_singleHolds 4 (some .boolean) none) frr [va_rf u0] M mc ms K (fun _ _ _ => False)) {r_X4_testHolds : Option Nat → zzM → (Option Value → zzM → Prop) → Prop} (h_X4_testHolds : ∀ {u0 : Option Nat}{M : zzM} {mc ms : Nat} {K : Option Value → zzM → Prop}, r_X4_testHolds u0 M K → zz_Met (zz_Zof G) (zz_l G) yX4_testHolds (zz_ws yX4_testHolds cX4_testHolds 2 (some .boolean) none) frr [va_rf u0] M mc ms K (fun _ _ _ => False)) {v0 : Option Nat} {v1 : Int32} {s0 : Int32} {M : zzM} {bc bs : Nat} (hw : wp_X4_singleHolds_B86 (zz_Zof G) r_X4_bothHold r_X4_singleHolds r_X4_testHolds K v0 v1 s0 M) : zz_T G 4 M bc bs 86 [(0, va_rf v0), (1, .int v1)] [.int s0] := by
  unfold wp_X4_singleHolds_B86 at hw
  refine zz_istore_n (i := 2) (lv' := [(2, .int s0), (0, va_rf v0), (1, .int v1)]) C dX4_singleHolds_86 rfl (by decide) rfl ?_
  refine zz_aload_n C dX4_singleHolds_87 rfl 1 rfl ?_
  refine zz_getA C dX4_singleHolds_88 (Or.inl q2447) zf_16_11_ebateHallModel hw (fun x43 hw => ?_)
  refine zz_aload_n C dX4_singleHolds_91 rfl 1 rfl ?_
  refine zz_getA C dX4_singleHolds_92 (Or.inl q2445) zf_16_9_ebateHallModel hw (fun x44 hw => ?_)
  refine zz_aload_n C dX4_singleHolds_95 rfl 1 rfl ?_
  refine zz_getI C dX4_singleHolds_96 (Or.inl q2446) zf_16_10_ebateHallModel hw (fun x45 hw => ?_)
  refine zz_iconst (v := (1 : Int32)) C dX4_singleHolds_99 (by decide) ?_
  refine zz_iadd C dX4_singleHolds_100 ?_
  refine zz_lald C dX4_singleHolds_101 hw (fun x46 hw => ?_)
  obtain ⟨a9, t9, b9, fs9, hro, hL, rfl, hw⟩ := ztyS hw
  refine zz_callV (r := (zR_17, zT_17, 12)) (As := [.long x46]) (rest := []) (mc := 0) (ms := 0) C hR hro dX4_singleHolds_102 (Or.inl q2664) q2665 (Or.inl q2666) zl_DebateHallModel_State zk_X5_itemOf (Or.inl rfl) zy_X5_itemOf rfl (Nat.le_trans (by decide : 2 ≤ 8) hF) (by decide) hL (ok_X5_itemOf (zz_hl C) hw) (Nat.zero_le _) (Nat.zero_le _) (zz_cat10 _ (Nat.le_of_ble_eq_true rfl)) (fun r47 M48 hw => zz_kI hw (fun x51 hw => ?_)) (fun _ _ _ h9 => h9.elim) rfl
  refine zz_istore_n (i := 3) (lv' := [(3, .int x51), (2, .int s0), (0, va_rf v0), (1, .int v1)]) C dX4_singleHolds_105 rfl (by decide) rfl ?_
  refine zz_aload_n C dX4_singleHolds_106 rfl 2 rfl ?_
  refine zz_dup C dX4_singleHolds_107 (zz_cat _) ?_
  refine zz_getI C dX4_singleHolds_108 (Or.inl q2446) zf_16_10_ebateHallModel hw (fun x52 hw => ?_)
  refine zz_iconst (v := (2 : Int32)) C dX4_singleHolds_111 (by decide) ?_
  refine zz_iadd C dX4_singleHolds_112 ?_
  refine zz_put C dX4_singleHolds_113 (Or.inl q2446) zf_16_10_ebateHallModel zp_16_10 (zz_hn1 ⟨rfl, rfl⟩) hw (fun M53 hw => ?_)
  refine zz_iload_n C dX4_singleHolds_116 rfl 3 rfl ?_
  refine zz_if_eq (tgt := 141) C dX4_singleHolds_117 (by decide) hw (fun hw => ?_) (fun hw => ?_)
  · refine zz_aload_n C dX4_singleHolds_141 rfl 2 rfl ?_
    refine zz_getA C dX4_singleHolds_142 (Or.inl q2452) zf_16_16_ebateHallModel hw (fun x54 hw => ?_)
    refine zz_iload_n C dX4_singleHolds_145 rfl 0 rfl ?_
    refine zz_iald C dX4_singleHolds_146 hw (fun x55 hw => ?_)
    refine zz_iload_n C dX4_singleHolds_147 rfl 1 rfl ?_
    refine zz_icmp_ne (tgt := 155) C dX4_singleHolds_148 (by decide) hw (fun hw => ?_) (fun hw => ?_)
    · refine zz_iconst (v := (0 : Int32)) C dX4_singleHolds_155 (by decide) ?_
      refine zz_subP [] rfl ?_
      exact ok_X4_singleHolds_B156 C E hH hR hF hfrr h_X4_bothHold h_X4_singleHolds h_X4_testHolds hw
    · refine zz_iconst (v := (1 : Int32)) C dX4_singleHolds_151 (by decide) ?_
      refine zz_goto (tgt := 156) C dX4_singleHolds_152 (by decide) ?_
      refine zz_subP [] rfl ?_
      exact ok_X4_singleHolds_B156 C E hH hR hF hfrr h_X4_bothHold h_X4_singleHolds h_X4_testHolds hw
  · refine zz_aload_n C dX4_singleHolds_120 rfl 2 rfl ?_
    refine zz_getA C dX4_singleHolds_121 (Or.inl q2447) zf_16_11_ebateHallModel hw (fun x56 hw => ?_)
    refine zz_getA C dX4_singleHolds_124 (Or.inr ⟨_, q2408⟩) zf_17_10_allModel_State hw (fun x57 hw => ?_)
    refine zz_iload_n C dX4_singleHolds_127 rfl 0 rfl ?_
    refine zz_iald C dX4_singleHolds_128 hw (fun x58 hw => ?_)
    refine zz_iconst (v := (1 : Int32)) C dX4_singleHolds_129 (by decide) ?_
    refine zz_icmp_ne (tgt := 137) C dX4_singleHolds_130 (by decide) hw (fun hw => ?_) (fun hw => ?_)
    · refine zz_iconst (v := (0 : Int32)) C dX4_singleHolds_137 (by decide) ?_
      refine zz_goto (tgt := 156) C dX4_singleHolds_138 (by decide) ?_
      refine zz_subP [] rfl ?_
      exact ok_X4_singleHolds_B156 C E hH hR hF hfrr h_X4_bothHold h_X4_singleHolds h_X4_testHolds hw
    · refine zz_iconst (v := (1 : Int32)) C dX4_singleHolds_133 (by decide) ?_
      refine zz_goto (tgt := 156) C dX4_singleHolds_134 (by decide) ?_
      refine zz_subP [] rfl ?_
      exact ok_X4_singleHolds_B156 C E hH hR hF hfrr h_X4_bothHold h_X4_singleHolds h_X4_testHolds hw
theorem okb_X4_singleHolds {Z : zzG} {l : Launch} (hl : l.stackTraces = false) {fr frr : Nat} (hF : 8 ≤ fr) (hfrr : frr + 1 ≤ fr) {r_X4_bothHold : Option Nat → zzM → (Option Value → zzM → Prop) → Prop} (h_X4_bothHold : ∀ {u0 : Option Nat}{M : zzM} {mc ms : Nat} {K : Option Value → zzM → Prop}, r_X4_bothHold u0 M K → zz_Met Z l yX4_bothHold (zz_ws yX4_bothHold cX4_bothHold 2 (some .boolean) none) frr [va_rf u0] M mc ms K (fun _ _ _ => False)) {r_X4_singleHolds : Option Nat → zzM → (Option Value → zzM → Prop) → Prop} (h_X4_singleHolds : ∀ {u0 : Option Nat}{M : zzM} {mc ms : Nat} {K : Option Value → zzM → Prop}, r_X4_singleHolds u0 M K → zz_Met Z l yX4_singleHolds (zz_ws yX4_singleHolds cX4_singleHolds 4 (some .boolean) none) frr [va_rf u0] M mc ms K (fun _ _ _ => False)) {r_X4_testHolds : Option Nat → zzM → (Option Value → zzM → Prop) → Prop} (h_X4_testHolds : ∀ {u0 : Option Nat}{M : zzM} {mc ms : Nat} {K : Option Value → zzM → Prop}, r_X4_testHolds u0 M K → zz_Met Z l yX4_testHolds (zz_ws yX4_testHolds cX4_testHolds 2 (some .boolean) none) frr [va_rf u0] M mc ms K (fun _ _ _ => False)) {this : Option Nat} {M : zzM} {mc ms : Nat} {K : Option Value → zzM → Prop} (hw : wpb_X4_singleHolds Z r_X4_bothHold r_X4_singleHolds r_X4_testHolds this M K) : zz_Met Z l yX4_singleHolds (zz_ws yX4_singleHolds cX4_singleHolds 4 (some .boolean) none) fr [va_rf this] M mc ms K (fun _ _ _ => False) := by
  refine zz_ofW hl (plainFor_of_name (by decide)) (by simp only [zz_sl0, zz_slI, zz_slJ, zz_slA] <;> decide) (fun G hZ hll C E hH hR hin => ?_)
  subst hZ
  subst hll
  rw [show lv_args 0 [va_rf this] = [(0, va_rf this)] by simp only [zz_la0, zz_laI, zz_laJ, zz_laA]]
  unfold wpb_X4_singleHolds at hw
  refine zz_aload_n C dX4_singleHolds_0 rfl 0 rfl ?_
  refine zz_ldcS (j := 48) C dX4_singleHolds_1 rfl ?_
  obtain ⟨a9, t9, b9, fs9, hro, hL, rfl, hw⟩ := ztyS hw
  refine zz_callV (r := (zR_16, zT_16, 24)) (As := [va_rf (some (zz_ad (zz_Zof G) 148))]) (rest := []) (mc := 0) (ms := 0) C hR hro dX4_singleHolds_3 (Or.inl q2560) q2562 (Or.inl qs37) zl_DebateHallModel zk_X4_word (Or.inl rfl) zy_X4_word rfl (Nat.le_trans (by decide : 8 ≤ 8) hF) (by decide) hL (ok_X4_word (zz_hl C) hw) (Nat.zero_le _) (Nat.zero_le _) (zz_cat10 _ (Nat.le_of_ble_eq_true rfl)) (fun r1 M2 hw => zz_kI hw (fun x5 hw => ?_)) (fun _ _ _ h9 => h9.elim) rfl
  refine zz_if_eq (tgt := 22) C dX4_singleHolds_6 (by decide) hw (fun hw => ?_) (fun hw => ?_)
  · refine zz_aload_n C dX4_singleHolds_22 rfl 0 rfl ?_
    refine zz_aload_n C dX4_singleHolds_23 rfl 0 rfl ?_
    refine zz_bipush (v := (91 : Int32)) C dX4_singleHolds_24 (by decide) ?_
    obtain ⟨a9, t9, b9, fs9, hro, hL, rfl, hw⟩ := ztyS hw
    refine zz_callV (r := (zR_16, zT_16, 24)) (As := [.int (91 : Int32)]) (rest := [va_rf this]) (mc := 0) (ms := 0) C hR hro dX4_singleHolds_26 (Or.inl q2616) q2618 (Or.inl qs46) zl_DebateHallModel zk_X4_isSymbol (Or.inl rfl) zy_X4_isSymbol rfl (Nat.le_trans (by decide : 2 ≤ 8) hF) (by decide) hL (ok_X4_isSymbol (zz_hl C) hw) (Nat.zero_le _) (Nat.zero_le _) (zz_cat10 _ (Nat.le_of_ble_eq_true rfl)) (fun r6 M7 hw => zz_kI hw (fun x10 hw => ?_)) (fun _ _ _ h9 => h9.elim) rfl
    obtain ⟨a9, t9, b9, fs9, hro, hL, rfl, hw⟩ := ztyS hw
    refine zz_callV (r := (zR_16, zT_16, 24)) (As := [.int x10]) (rest := []) (mc := 0) (ms := 0) C hR hro dX4_singleHolds_29 (Or.inl q2573) q2575 (Or.inl qs39) zl_DebateHallModel zk_X4_past (Or.inl rfl) zy_X4_past rfl (Nat.le_trans (by decide : 2 ≤ 8) hF) (by decide) hL (ok_X4_past (zz_hl C) hw) (Nat.zero_le _) (Nat.zero_le _) (zz_cat10 _ (Nat.le_of_ble_eq_true rfl)) (fun r11 M12 hw => zz_kI hw (fun x15 hw => ?_)) (fun _ _ _ h9 => h9.elim) rfl
    refine zz_if_eq (tgt := 52) C dX4_singleHolds_32 (by decide) hw (fun hw => ?_) (fun hw => ?_)
    · refine zz_aload_n C dX4_singleHolds_52 rfl 0 rfl ?_
      refine zz_ldcS (j := 28) C dX4_singleHolds_53 rfl ?_
      obtain ⟨a9, t9, b9, fs9, hro, hL, rfl, hw⟩ := ztyS hw
      refine zz_callV (r := (zR_16, zT_16, 24)) (As := [va_rf (some (zz_ad (zz_Zof G) 128))]) (rest := []) (mc := 0) (ms := 0) C hR hro dX4_singleHolds_55 (Or.inl q2564) q2566 (Or.inl qs38) zl_DebateHallModel zk_X4_is (Or.inl rfl) zy_X4_is rfl (Nat.le_trans (by decide : 7 ≤ 8) hF) (by decide) hL (ok_X4_is (zz_hl C) hw) (Nat.zero_le _) (Nat.zero_le _) (zz_cat10 _ (Nat.le_of_ble_eq_true rfl)) (fun r16 M17 hw => zz_kI hw (fun x20 hw => ?_)) (fun _ _ _ h9 => h9.elim) rfl
      refine zz_istore_n (i := 1) (lv' := [(1, .int x20), (0, va_rf this)]) C dX4_singleHolds_58 rfl (by decide) (by simp [zz_cat, zz_catI, zz_catJ, zz_catD]) ?_
      refine zz_aload_n C dX4_singleHolds_59 rfl 1 rfl ?_
      refine zz_ldcS (j := 45) C dX4_singleHolds_60 rfl ?_
      obtain ⟨a9, t9, b9, fs9, hro, hL, rfl, hw⟩ := ztyS hw
      refine zz_callV (r := (zR_16, zT_16, 24)) (As := [va_rf (some (zz_ad (zz_Zof G) 145))]) (rest := []) (mc := 0) (ms := 0) C hR hro dX4_singleHolds_62 (Or.inl q2564) q2566 (Or.inl qs38) zl_DebateHallModel zk_X4_is (Or.inl rfl) zy_X4_is rfl (Nat.le_trans (by decide : 7 ≤ 8) hF) (by decide) hL (ok_X4_is (zz_hl C) hw) (Nat.zero_le _) (Nat.zero_le _) (zz_cat10 _ (Nat.le_of_ble_eq_true rfl)) (fun r21 M22 hw => zz_kI hw (fun x25 hw => ?_)) (fun _ _ _ h9 => h9.elim) rfl
      refine zz_if_eq (tgt := 72) C dX4_singleHolds_65 (by decide) hw (fun hw => ?_) (fun hw => ?_)
      · refine zz_aload_n C dX4_singleHolds_72 rfl 1 rfl ?_
        refine zz_ldcS (j := 62) C dX4_singleHolds_73 rfl ?_
        obtain ⟨a9, t9, b9, fs9, hro, hL, rfl, hw⟩ := ztyS hw
        refine zz_callV (r := (zR_16, zT_16, 24)) (As := [va_rf (some (zz_ad (zz_Zof G) 162))]) (rest := []) (mc := 0) (ms := 0) C hR hro dX4_singleHolds_75 (Or.inl q2564) q2566 (Or.inl qs38) zl_DebateHallModel zk_X4_is (Or.inl rfl) zy_X4_is rfl (Nat.le_trans (by decide : 7 ≤ 8) hF) (by decide) hL (ok_X4_is (zz_hl C) hw) (Nat.zero_le _) (Nat.zero_le _) (zz_cat10 _ (Nat.le_of_ble_eq_true rfl)) (fun r26 M27 hw => zz_kI hw (fun x30 hw => ?_)) (fun _ _ _ h9 => h9.elim) rfl
        refine zz_if_eq (tgt := 85) C dX4_singleHolds_78 (by decide) hw (fun hw => ?_) (fun hw => ?_)
        · refine zz_iconst (v := (0 : Int32)) C dX4_singleHolds_85 (by decide) ?_
          refine zz_subP [1, 0] rfl ?_
          exact ok_X4_singleHolds_B86 C E hH hR hF hfrr h_X4_bothHold h_X4_singleHolds h_X4_testHolds hw
        · refine zz_iconst (v := (2 : Int32)) C dX4_singleHolds_81 (by decide) ?_
          refine zz_goto (tgt := 86) C dX4_singleHolds_82 (by decide) ?_
          refine zz_subP [1, 0] rfl ?_
          exact ok_X4_singleHolds_B86 C E hH hR hF hfrr h_X4_bothHold h_X4_singleHolds h_X4_testHolds hw
      · refine zz_iconst (v := (1 : Int32)) C dX4_singleHolds_68 (by decide) ?_
        refine zz_goto (tgt := 86) C dX4_singleHolds_69 (by decide) ?_
        refine zz_subP [1, 0] rfl ?_
        exact ok_X4_singleHolds_B86 C E hH hR hF hfrr h_X4_bothHold h_X4_singleHolds h_X4_testHolds hw
    · refine zz_aload_n C dX4_singleHolds_35 rfl 0 rfl ?_
      obtain ⟨a9, t9, b9, fs9, hro, hL, rfl, hw⟩ := ztyS hw
      refine zz_callV (r := (zR_16, zT_16, 24)) (As := []) (rest := []) (mc := 0) (ms := 0) C hR hro dX4_singleHolds_36 (Or.inl q2704) q2706 (Or.inl qs60) zl_DebateHallModel zk_X4_testHolds (Or.inl rfl) zy_X4_testHolds rfl hfrr (by decide) hL (h_X4_testHolds hw) (Nat.zero_le _) (Nat.zero_le _) (zz_cat10 _ (Nat.le_of_ble_eq_true rfl)) (fun r31 M32 hw => zz_kI hw (fun x35 hw => ?_)) (fun _ _ _ h9 => h9.elim) rfl
      refine zz_istore_n (i := 1) (lv' := [(1, .int x35), (0, va_rf this)]) C dX4_singleHolds_39 rfl (by decide) (by simp [zz_cat, zz_catI, zz_catJ, zz_catD]) ?_
      refine zz_aload_n C dX4_singleHolds_40 rfl 1 rfl ?_
      refine zz_dup C dX4_singleHolds_41 (zz_cat _) ?_
      refine zz_getI C dX4_singleHolds_42 (Or.inl q2446) zf_16_10_ebateHallModel hw (fun x36 hw => ?_)
      refine zz_iconst (v := (1 : Int32)) C dX4_singleHolds_45 (by decide) ?_
      refine zz_iadd C dX4_singleHolds_46 ?_
      refine zz_put C dX4_singleHolds_47 (Or.inl q2446) zf_16_10_ebateHallModel zp_16_10 (zz_hn1 ⟨rfl, rfl⟩) hw (fun M37 hw => ?_)
      refine zz_iload_n C dX4_singleHolds_50 rfl 0 rfl ?_
      exact zz_zret C E dX4_singleHolds_51 hw
  · refine zz_aload_n C dX4_singleHolds_9 rfl 0 rfl ?_
    obtain ⟨a9, t9, b9, fs9, hro, hL, rfl, hw⟩ := ztyS hw
    refine zz_callV (r := (zR_16, zT_16, 24)) (As := []) (rest := []) (mc := 0) (ms := 0) C hR hro dX4_singleHolds_10 (Or.inl q2712) q2714 (Or.inl qs62) zl_DebateHallModel zk_X4_singleHolds (Or.inl rfl) zy_X4_singleHolds rfl hfrr (by decide) hL (h_X4_singleHolds hw) (Nat.zero_le _) (Nat.zero_le _) (zz_cat10 _ (Nat.le_of_ble_eq_true rfl)) (fun r38 M39 hw => zz_kI hw (fun x42 hw => ?_)) (fun _ _ _ h9 => h9.elim) rfl
    refine zz_if_ne (tgt := 20) C dX4_singleHolds_13 (by decide) hw (fun hw => ?_) (fun hw => ?_)
    · refine zz_iconst (v := (0 : Int32)) C dX4_singleHolds_20 (by decide) ?_
      refine zz_subP [] rfl ?_
      exact ok_X4_singleHolds_B21 C E hH hR hF hfrr h_X4_bothHold h_X4_singleHolds h_X4_testHolds hw
    · refine zz_iconst (v := (1 : Int32)) C dX4_singleHolds_16 (by decide) ?_
      refine zz_goto (tgt := 21) C dX4_singleHolds_17 (by decide) ?_
      refine zz_subP [] rfl ?_
      exact ok_X4_singleHolds_B21 C E hH hR hF hfrr h_X4_bothHold h_X4_singleHolds h_X4_testHolds hw
theorem ok_X4_testHolds_L5 {G : zzX} (C : zz_C G cX4_testHolds "DebateHallModel" 2) {K : Option Value → zzM → Prop} (E : zz_E G (some .boolean) K (fun _ _ _ => False)) (hH : zz_H G []) {fr frr : Nat} (hR : zz_Rm G fr) (hF : 8 ≤ fr) (hfrr : frr + 1 ≤ fr) {r_X4_bothHold : Option Nat → zzM → (Option Value → zzM → Prop) → Prop} (h_X4_bothHold : ∀ {u0 : Option Nat}{M : zzM} {mc ms : Nat} {K : Option Value → zzM → Prop}, r_X4_bothHold u0 M K → zz_Met (zz_Zof G) (zz_l G) yX4_bothHold (zz_ws yX4_bothHold cX4_bothHold 2 (some .boolean) none) frr [va_rf u0] M mc ms K (fun _ _ _ => False)) {r_X4_singleHolds : Option Nat → zzM → (Option Value → zzM → Prop) → Prop} (h_X4_singleHolds : ∀ {u0 : Option Nat}{M : zzM} {mc ms : Nat} {K : Option Value → zzM → Prop}, r_X4_singleHolds u0 M K → zz_Met (zz_Zof G) (zz_l G) yX4_singleHolds (zz_ws yX4_singleHolds cX4_singleHolds 4 (some .boolean) none) frr [va_rf u0] M mc ms K (fun _ _ _ => False)) {r_X4_testHolds : Option Nat → zzM → (Option Value → zzM → Prop) → Prop} (h_X4_testHolds : ∀ {u0 : Option Nat}{M : zzM} {mc ms : Nat} {K : Option Value → zzM → Prop}, r_X4_testHolds u0 M K → zz_Met (zz_Zof G) (zz_l G) yX4_testHolds (zz_ws yX4_testHolds cX4_testHolds 2 (some .boolean) none) frr [va_rf u0] M mc ms K (fun _ _ _ => False)) : ∀ (n : Nat) (v0 : Option Nat) (v1 : Int32) (M : zzM) (bc bs : Nat), wp_X4_testHolds_L5 (zz_Zof G) r_X4_bothHold r_X4_singleHolds r_X4_testHolds K n v0 v1 M → zz_T G 2 M bc bs 5 [(0, va_rf v0), (1, .int v1)] [] := by
  intro n
  induction n with
  | zero =>
    intro v0 v1 M bc bs hw
    exact False.elim hw
  | succ n ih =>
    intro v0 v1 M bc bs hw
    refine zz_aload_n C dX4_testHolds_5 rfl 0 rfl ?_
    refine zz_ldcS (j := 58) C dX4_testHolds_6 rfl ?_
    obtain ⟨a9, t9, b9, fs9, hro, hL, rfl, hw⟩ := ztyS hw
    refine zz_callV (r := (zR_16, zT_16, 24)) (As := [va_rf (some (zz_ad (zz_Zof G) 158))]) (rest := []) (mc := 0) (ms := 0) C hR hro dX4_testHolds_8 (Or.inl q2560) q2562 (Or.inl qs37) zl_DebateHallModel zk_X4_word (Or.inl rfl) zy_X4_word rfl (Nat.le_trans (by decide : 8 ≤ 8) hF) (by decide) hL (ok_X4_word (zz_hl C) hw) (Nat.zero_le _) (Nat.zero_le _) (zz_cat10 _ (Nat.le_of_ble_eq_true rfl)) (fun r6 M7 hw => zz_kI hw (fun x10 hw => ?_)) (fun _ _ _ h9 => h9.elim) rfl
    refine zz_if_eq (tgt := 24) C dX4_testHolds_11 (by decide) hw (fun hw => ?_) (fun hw => ?_)
    · refine zz_iload_n C dX4_testHolds_24 rfl 1 rfl ?_
      exact zz_zret C E dX4_testHolds_25 hw
    · refine zz_iload_n C dX4_testHolds_14 rfl 1 rfl ?_
      refine zz_aload_n C dX4_testHolds_15 rfl 0 rfl ?_
      obtain ⟨a9, t9, b9, fs9, hro, hL, rfl, hw⟩ := ztyS hw
      refine zz_callV (r := (zR_16, zT_16, 24)) (As := []) (rest := [.int v1]) (mc := 0) (ms := 0) C hR hro dX4_testHolds_16 (Or.inl q2708) q2710 (Or.inl qs61) zl_DebateHallModel zk_X4_bothHold (Or.inl rfl) zy_X4_bothHold rfl hfrr (by decide) hL (h_X4_bothHold hw) (Nat.zero_le _) (Nat.zero_le _) (zz_cat10 _ (Nat.le_of_ble_eq_true rfl)) (fun r11 M12 hw => zz_kI hw (fun x15 hw => ?_)) (fun _ _ _ h9 => h9.elim) rfl
      refine zz_ior C dX4_testHolds_19 ?_
      refine zz_istore_n (i := 1) (lv' := [(1, .int (v1 ||| x15)), (0, va_rf v0)]) C dX4_testHolds_20 rfl (by decide) (by simp [zz_cat, zz_catI, zz_catJ, zz_catD]) ?_
      refine zz_goto (tgt := 5) C dX4_testHolds_21 (by decide) ?_
      refine zz_subP [1, 0] rfl ?_
      exact ih _ _ _ _ _ hw
theorem okb_X4_testHolds {Z : zzG} {l : Launch} (hl : l.stackTraces = false) {fr frr : Nat} (hF : 8 ≤ fr) (hfrr : frr + 1 ≤ fr) {r_X4_bothHold : Option Nat → zzM → (Option Value → zzM → Prop) → Prop} (h_X4_bothHold : ∀ {u0 : Option Nat}{M : zzM} {mc ms : Nat} {K : Option Value → zzM → Prop}, r_X4_bothHold u0 M K → zz_Met Z l yX4_bothHold (zz_ws yX4_bothHold cX4_bothHold 2 (some .boolean) none) frr [va_rf u0] M mc ms K (fun _ _ _ => False)) {r_X4_singleHolds : Option Nat → zzM → (Option Value → zzM → Prop) → Prop} (h_X4_singleHolds : ∀ {u0 : Option Nat}{M : zzM} {mc ms : Nat} {K : Option Value → zzM → Prop}, r_X4_singleHolds u0 M K → zz_Met Z l yX4_singleHolds (zz_ws yX4_singleHolds cX4_singleHolds 4 (some .boolean) none) frr [va_rf u0] M mc ms K (fun _ _ _ => False)) {r_X4_testHolds : Option Nat → zzM → (Option Value → zzM → Prop) → Prop} (h_X4_testHolds : ∀ {u0 : Option Nat}{M : zzM} {mc ms : Nat} {K : Option Value → zzM → Prop}, r_X4_testHolds u0 M K → zz_Met Z l yX4_testHolds (zz_ws yX4_testHolds cX4_testHolds 2 (some .boolean) none) frr [va_rf u0] M mc ms K (fun _ _ _ => False)) {this : Option Nat} {M : zzM} {mc ms : Nat} {K : Option Value → zzM → Prop} (hw : wpb_X4_testHolds Z r_X4_bothHold r_X4_singleHolds r_X4_testHolds this M K) : zz_Met Z l yX4_testHolds (zz_ws yX4_testHolds cX4_testHolds 2 (some .boolean) none) fr [va_rf this] M mc ms K (fun _ _ _ => False) := by
  refine zz_ofW hl (plainFor_of_name (by decide)) (by simp only [zz_sl0, zz_slI, zz_slJ, zz_slA] <;> decide) (fun G hZ hll C E hH hR hin => ?_)
  subst hZ
  subst hll
  rw [show lv_args 0 [va_rf this] = [(0, va_rf this)] by simp only [zz_la0, zz_laI, zz_laJ, zz_laA]]
  unfold wpb_X4_testHolds at hw
  refine zz_aload_n C dX4_testHolds_0 rfl 0 rfl ?_
  obtain ⟨a9, t9, b9, fs9, hro, hL, rfl, hw⟩ := ztyS hw
  refine zz_callV (r := (zR_16, zT_16, 24)) (As := []) (rest := []) (mc := 0) (ms := 0) C hR hro dX4_testHolds_1 (Or.inl q2708) q2710 (Or.inl qs61) zl_DebateHallModel zk_X4_bothHold (Or.inl rfl) zy_X4_bothHold rfl hfrr (by decide) hL (h_X4_bothHold hw) (Nat.zero_le _) (Nat.zero_le _) (zz_cat10 _ (Nat.le_of_ble_eq_true rfl)) (fun r1 M2 hw => zz_kI hw (fun x5 hw => ?_)) (fun _ _ _ h9 => h9.elim) rfl
  refine zz_istore_n (i := 1) (lv' := [(1, .int x5), (0, va_rf this)]) C dX4_testHolds_4 rfl (by decide) (by simp [zz_cat, zz_catI, zz_catJ, zz_catD]) ?_
  refine zz_subP [1, 0] rfl ?_
  obtain ⟨n5, hw⟩ := hw
  exact ok_X4_testHolds_L5 C E hH hR hF hfrr h_X4_bothHold h_X4_singleHolds h_X4_testHolds n5 _ _ _ _ _ hw
def wpR_X4_bothHold_X4_singleHolds_X4_testHolds (Z : zzG) : Nat → (Option Nat → zzM → (Option Value → zzM → Prop) → Prop) × (Option Nat → zzM → (Option Value → zzM → Prop) → Prop) × (Option Nat → zzM → (Option Value → zzM → Prop) → Prop)
  | 0 => (fun _ _ _ => False, fun _ _ _ => False, fun _ _ _ => False)
  | n + 1 => (wpb_X4_bothHold Z ((wpR_X4_bothHold_X4_singleHolds_X4_testHolds Z n).1) ((wpR_X4_bothHold_X4_singleHolds_X4_testHolds Z n).2.1) ((wpR_X4_bothHold_X4_singleHolds_X4_testHolds Z n).2.2), wpb_X4_singleHolds Z ((wpR_X4_bothHold_X4_singleHolds_X4_testHolds Z n).1) ((wpR_X4_bothHold_X4_singleHolds_X4_testHolds Z n).2.1) ((wpR_X4_bothHold_X4_singleHolds_X4_testHolds Z n).2.2), wpb_X4_testHolds Z ((wpR_X4_bothHold_X4_singleHolds_X4_testHolds Z n).1) ((wpR_X4_bothHold_X4_singleHolds_X4_testHolds Z n).2.1) ((wpR_X4_bothHold_X4_singleHolds_X4_testHolds Z n).2.2))
def wp_X4_bothHold (Z : zzG) : Option Nat → zzM → (Option Value → zzM → Prop) → Prop := (wpR_X4_bothHold_X4_singleHolds_X4_testHolds Z 60).1
def wp_X4_singleHolds (Z : zzG) : Option Nat → zzM → (Option Value → zzM → Prop) → Prop := (wpR_X4_bothHold_X4_singleHolds_X4_testHolds Z 60).2.1
def wp_X4_testHolds (Z : zzG) : Option Nat → zzM → (Option Value → zzM → Prop) → Prop := (wpR_X4_bothHold_X4_singleHolds_X4_testHolds Z 60).2.2
theorem okR_X4_bothHold_X4_singleHolds_X4_testHolds {Z : zzG} {l : Launch} (hl : l.stackTraces = false) : ∀ n : Nat, (∀ {u0 : Option Nat}{M : zzM} {mc ms : Nat} {K : Option Value → zzM → Prop}, (wpR_X4_bothHold_X4_singleHolds_X4_testHolds Z n).1 u0 M K → zz_Met Z l yX4_bothHold (zz_ws yX4_bothHold cX4_bothHold 2 (some .boolean) none) (8 + n) [va_rf u0] M mc ms K (fun _ _ _ => False)) ∧ (∀ {u0 : Option Nat}{M : zzM} {mc ms : Nat} {K : Option Value → zzM → Prop}, (wpR_X4_bothHold_X4_singleHolds_X4_testHolds Z n).2.1 u0 M K → zz_Met Z l yX4_singleHolds (zz_ws yX4_singleHolds cX4_singleHolds 4 (some .boolean) none) (8 + n) [va_rf u0] M mc ms K (fun _ _ _ => False)) ∧ (∀ {u0 : Option Nat}{M : zzM} {mc ms : Nat} {K : Option Value → zzM → Prop}, (wpR_X4_bothHold_X4_singleHolds_X4_testHolds Z n).2.2 u0 M K → zz_Met Z l yX4_testHolds (zz_ws yX4_testHolds cX4_testHolds 2 (some .boolean) none) (8 + n) [va_rf u0] M mc ms K (fun _ _ _ => False)) := by
  intro n
  induction n with
  | zero =>
    exact ⟨fun h => h.elim, fun h => h.elim, fun h => h.elim⟩
  | succ n ih =>
    exact ⟨fun h => okb_X4_bothHold hl (fr := 8 + (n + 1)) (frr := 8 + n) (Nat.le_add_right _ _) (Nat.le_refl _) ih.1 ih.2.1 ih.2.2 h, fun h => okb_X4_singleHolds hl (fr := 8 + (n + 1)) (frr := 8 + n) (Nat.le_add_right _ _) (Nat.le_refl _) ih.1 ih.2.1 ih.2.2 h, fun h => okb_X4_testHolds hl (fr := 8 + (n + 1)) (frr := 8 + n) (Nat.le_add_right _ _) (Nat.le_refl _) ih.1 ih.2.1 ih.2.2 h⟩
theorem ok_X4_bothHold {Z : zzG} {l : Launch} (hl : l.stackTraces = false) {u0 : Option Nat} {M : zzM} {mc ms : Nat} {K : Option Value → zzM → Prop} (hw : wp_X4_bothHold Z u0 M K) : zz_Met Z l yX4_bothHold (zz_ws yX4_bothHold cX4_bothHold 2 (some .boolean) none) 68 [va_rf u0] M mc ms K (fun _ _ _ => False) :=
  (okR_X4_bothHold_X4_singleHolds_X4_testHolds hl 60).1 hw
theorem ok_X4_singleHolds {Z : zzG} {l : Launch} (hl : l.stackTraces = false) {u0 : Option Nat} {M : zzM} {mc ms : Nat} {K : Option Value → zzM → Prop} (hw : wp_X4_singleHolds Z u0 M K) : zz_Met Z l yX4_singleHolds (zz_ws yX4_singleHolds cX4_singleHolds 4 (some .boolean) none) 68 [va_rf u0] M mc ms K (fun _ _ _ => False) :=
  (okR_X4_bothHold_X4_singleHolds_X4_testHolds hl 60).2.1 hw
theorem ok_X4_testHolds {Z : zzG} {l : Launch} (hl : l.stackTraces = false) {u0 : Option Nat} {M : zzM} {mc ms : Nat} {K : Option Value → zzM → Prop} (hw : wp_X4_testHolds Z u0 M K) : zz_Met Z l yX4_testHolds (zz_ws yX4_testHolds cX4_testHolds 2 (some .boolean) none) 68 [va_rf u0] M mc ms K (fun _ _ _ => False) :=
  (okR_X4_bothHold_X4_singleHolds_X4_testHolds hl 60).2.2 hw
abbrev cX4_actLine : ByteArray := prog_25_method_36_code
def yX4_actLine : MethodName := ⟨"DebateHallModel", "actLine", "(I)I"⟩
def dkwX4_actLine_12 : List UInt8 := [21, 6, 21, 4, 21, 5, 182, 1, 24, 29, 172]
abbrev dktX4_actLine_12 : List UInt8 := dkwX4_actLine_12 ++ []
def dkwX4_actLine_11 : List UInt8 := [153, 0, 33, 42, 180, 0, 48, 42, 180, 0, 40, 28, 47, 27, 42, 180, 0, 48, 180, 0, 121, 21, 4, 46]
abbrev dktX4_actLine_11 : List UInt8 := dkwX4_actLine_11 ++ dktX4_actLine_12
def dkwX4_actLine_10 : List UInt8 := [42, 180, 0, 48, 180, 0, 121, 21, 4, 46, 8, 21, 6, 96, 182, 1, 21, 62, 29, 154, 0, 38, 21, 7]
abbrev dktX4_actLine_10 : List UInt8 := dkwX4_actLine_10 ++ dktX4_actLine_11
def dkwX4_actLine_9 : List UInt8 := [182, 0, 255, 172, 42, 42, 180, 0, 61, 42, 180, 0, 64, 182, 1, 31, 87, 42, 182, 1, 35, 54, 7, 42]
abbrev dktX4_actLine_9 : List UInt8 := dkwX4_actLine_9 ++ dktX4_actLine_10
def dkwX4_actLine_8 : List UInt8 := [18, 224, 182, 0, 189, 153, 0, 42, 42, 182, 1, 28, 54, 8, 21, 8, 2, 159, 0, 11, 42, 6, 21, 8]
abbrev dktX4_actLine_8 : List UInt8 := dkwX4_actLine_8 ++ dktX4_actLine_9
def dkwX4_actLine_7 : List UInt8 := [182, 1, 17, 54, 6, 21, 6, 154, 0, 13, 42, 8, 42, 180, 0, 168, 182, 0, 255, 172, 4, 54, 7, 42]
abbrev dktX4_actLine_7 : List UInt8 := dkwX4_actLine_7 ++ dktX4_actLine_8
def dkwX4_actLine_6 : List UInt8 := [180, 0, 168, 8, 96, 182, 0, 255, 172, 42, 89, 180, 0, 168, 16, 6, 96, 181, 0, 168, 42, 18, 222, 8]
abbrev dktX4_actLine_6 : List UInt8 := dkwX4_actLine_6 ++ dktX4_actLine_7
def dkwX4_actLine_5 : List UInt8 := [180, 0, 121, 21, 5, 46, 42, 180, 0, 48, 180, 0, 121, 21, 4, 46, 160, 0, 16, 42, 16, 6, 42]
abbrev dktX4_actLine_5 : List UInt8 := dkwX4_actLine_5 ++ dktX4_actLine_6
def dkwX4_actLine_4 : List UInt8 := [160, 0, 15, 42, 6, 42, 180, 0, 168, 8, 96, 182, 0, 255, 172, 27, 4, 160, 0, 39, 42, 180, 0, 48]
abbrev dktX4_actLine_4 : List UInt8 := dkwX4_actLine_4 ++ dktX4_actLine_5
def dkwX4_actLine_3 : List UInt8 := [42, 180, 0, 48, 42, 180, 0, 40, 42, 180, 0, 168, 8, 96, 47, 182, 1, 10, 54, 5, 21, 5, 2]
abbrev dktX4_actLine_3 : List UInt8 := dkwX4_actLine_3 ++ dktX4_actLine_4
def dkwX4_actLine_2 : List UInt8 := [180, 0, 48, 180, 0, 124, 21, 4, 46, 153, 0, 15, 42, 6, 42, 180, 0, 168, 6, 96, 182, 0, 255, 172]
abbrev dktX4_actLine_2 : List UInt8 := dkwX4_actLine_2 ++ dktX4_actLine_3
def dkwX4_actLine_1 : List UInt8 := [180, 0, 40, 42, 180, 0, 168, 6, 96, 47, 182, 1, 10, 54, 4, 21, 4, 2, 159, 0, 16, 42]
abbrev dktX4_actLine_1 : List UInt8 := dkwX4_actLine_1 ++ dktX4_actLine_2
def dkwX4_actLine_0 : List UInt8 := [42, 180, 0, 168, 4, 96, 61, 42, 28, 182, 1, 13, 62, 29, 158, 0, 5, 29, 172, 42, 180, 0, 48, 42]
abbrev dktX4_actLine_0 : List UInt8 := dkwX4_actLine_0 ++ dktX4_actLine_1
theorem dksX4_actLine_0 : cX4_actLine.data.toList.drop 0 = dktX4_actLine_0 := by decide +kernel
theorem dksX4_actLine_1 : cX4_actLine.data.toList.drop 24 = dktX4_actLine_1 := dk_seg dksX4_actLine_0 24 rfl rfl
theorem dksX4_actLine_2 : cX4_actLine.data.toList.drop 46 = dktX4_actLine_2 := dk_seg dksX4_actLine_1 22 rfl rfl
theorem dksX4_actLine_3 : cX4_actLine.data.toList.drop 70 = dktX4_actLine_3 := dk_seg dksX4_actLine_2 24 rfl rfl
theorem dksX4_actLine_4 : cX4_actLine.data.toList.drop 93 = dktX4_actLine_4 := dk_seg dksX4_actLine_3 23 rfl rfl
theorem dksX4_actLine_5 : cX4_actLine.data.toList.drop 117 = dktX4_actLine_5 := dk_seg dksX4_actLine_4 24 rfl rfl
theorem dksX4_actLine_6 : cX4_actLine.data.toList.drop 140 = dktX4_actLine_6 := dk_seg dksX4_actLine_5 23 rfl rfl
theorem dksX4_actLine_7 : cX4_actLine.data.toList.drop 164 = dktX4_actLine_7 := dk_seg dksX4_actLine_6 24 rfl rfl
theorem dksX4_actLine_8 : cX4_actLine.data.toList.drop 188 = dktX4_actLine_8 := dk_seg dksX4_actLine_7 24 rfl rfl
theorem dksX4_actLine_9 : cX4_actLine.data.toList.drop 212 = dktX4_actLine_9 := dk_seg dksX4_actLine_8 24 rfl rfl
theorem dksX4_actLine_10 : cX4_actLine.data.toList.drop 236 = dktX4_actLine_10 := dk_seg dksX4_actLine_9 24 rfl rfl
theorem dksX4_actLine_11 : cX4_actLine.data.toList.drop 260 = dktX4_actLine_11 := dk_seg dksX4_actLine_10 24 rfl rfl
theorem dksX4_actLine_12 : cX4_actLine.data.toList.drop 284 = dktX4_actLine_12 := dk_seg dksX4_actLine_11 24 rfl rfl
theorem dX4_actLine_0 : decode cX4_actLine 0 = .ok (.aload_n 0, 1) := dk_42 (dk_at dksX4_actLine_0 0 rfl rfl)
theorem dX4_actLine_1 : decode cX4_actLine 1 = .ok (.getfield 168, 3) := dk_180 0 168 (dk_at dksX4_actLine_0 1 rfl rfl)
theorem dX4_actLine_4 : decode cX4_actLine 4 = .ok (.iconst 1, 1) := dk_4 (dk_at dksX4_actLine_0 4 rfl rfl)
theorem dX4_actLine_5 : decode cX4_actLine 5 = .ok (.iadd, 1) := dk_96 (dk_at dksX4_actLine_0 5 rfl rfl)
theorem dX4_actLine_6 : decode cX4_actLine 6 = .ok (.istore_n 2, 1) := dk_61 (dk_at dksX4_actLine_0 6 rfl rfl)
theorem dX4_actLine_7 : decode cX4_actLine 7 = .ok (.aload_n 0, 1) := dk_42 (dk_at dksX4_actLine_0 7 rfl rfl)
theorem dX4_actLine_8 : decode cX4_actLine 8 = .ok (.iload_n 2, 1) := dk_28 (dk_at dksX4_actLine_0 8 rfl rfl)
theorem dX4_actLine_9 : decode cX4_actLine 9 = .ok (.invokevirtual 269, 3) := dk_182 1 13 (dk_at dksX4_actLine_0 9 rfl rfl)
theorem dX4_actLine_12 : decode cX4_actLine 12 = .ok (.istore_n 3, 1) := dk_62 (dk_at dksX4_actLine_0 12 rfl rfl)
theorem dX4_actLine_13 : decode cX4_actLine 13 = .ok (.iload_n 3, 1) := dk_29 (dk_at dksX4_actLine_0 13 rfl rfl)
theorem dX4_actLine_14 : decode cX4_actLine 14 = .ok (.ifCond .le 5, 3) := dk_158 0 5 (dk_at dksX4_actLine_0 14 rfl rfl)
theorem dX4_actLine_17 : decode cX4_actLine 17 = .ok (.iload_n 3, 1) := dk_29 (dk_at dksX4_actLine_0 17 rfl rfl)
theorem dX4_actLine_18 : decode cX4_actLine 18 = .ok (.ireturn, 1) := dk_172 (dk_at dksX4_actLine_0 18 rfl rfl)
theorem dX4_actLine_19 : decode cX4_actLine 19 = .ok (.aload_n 0, 1) := dk_42 (dk_at dksX4_actLine_0 19 rfl rfl)
theorem dX4_actLine_20 : decode cX4_actLine 20 = .ok (.getfield 48, 3) := dk_180 0 48 (dk_at dksX4_actLine_0 20 rfl rfl)
theorem dX4_actLine_23 : decode cX4_actLine 23 = .ok (.aload_n 0, 1) := dk_42 (dk_at dksX4_actLine_0 23 rfl rfl)
theorem dX4_actLine_24 : decode cX4_actLine 24 = .ok (.getfield 40, 3) := dk_180 0 40 (dk_at dksX4_actLine_1 0 rfl rfl)
theorem dX4_actLine_27 : decode cX4_actLine 27 = .ok (.aload_n 0, 1) := dk_42 (dk_at dksX4_actLine_1 3 rfl rfl)
theorem dX4_actLine_28 : decode cX4_actLine 28 = .ok (.getfield 168, 3) := dk_180 0 168 (dk_at dksX4_actLine_1 4 rfl rfl)
theorem dX4_actLine_31 : decode cX4_actLine 31 = .ok (.iconst 3, 1) := dk_6 (dk_at dksX4_actLine_1 7 rfl rfl)
theorem dX4_actLine_32 : decode cX4_actLine 32 = .ok (.iadd, 1) := dk_96 (dk_at dksX4_actLine_1 8 rfl rfl)
theorem dX4_actLine_33 : decode cX4_actLine 33 = .ok (.laload, 1) := dk_47 (dk_at dksX4_actLine_1 9 rfl rfl)
theorem dX4_actLine_34 : decode cX4_actLine 34 = .ok (.invokevirtual 266, 3) := dk_182 1 10 (dk_at dksX4_actLine_1 10 rfl rfl)
theorem dX4_actLine_37 : decode cX4_actLine 37 = .ok (.istore 4, 2) := dk_54 4 (dk_at dksX4_actLine_1 13 rfl rfl)
theorem dX4_actLine_39 : decode cX4_actLine 39 = .ok (.iload 4, 2) := dk_21 4 (dk_at dksX4_actLine_1 15 rfl rfl)
theorem dX4_actLine_41 : decode cX4_actLine 41 = .ok (.iconst (-1), 1) := dk_2 (dk_at dksX4_actLine_1 17 rfl rfl)
theorem dX4_actLine_42 : decode cX4_actLine 42 = .ok (.if_icmp .eq 16, 3) := dk_159 0 16 (dk_at dksX4_actLine_1 18 rfl rfl)
theorem dX4_actLine_45 : decode cX4_actLine 45 = .ok (.aload_n 0, 1) := dk_42 (dk_at dksX4_actLine_1 21 rfl rfl)
theorem dX4_actLine_46 : decode cX4_actLine 46 = .ok (.getfield 48, 3) := dk_180 0 48 (dk_at dksX4_actLine_2 0 rfl rfl)
theorem dX4_actLine_49 : decode cX4_actLine 49 = .ok (.getfield 124, 3) := dk_180 0 124 (dk_at dksX4_actLine_2 3 rfl rfl)
theorem dX4_actLine_52 : decode cX4_actLine 52 = .ok (.iload 4, 2) := dk_21 4 (dk_at dksX4_actLine_2 6 rfl rfl)
theorem dX4_actLine_54 : decode cX4_actLine 54 = .ok (.iaload, 1) := dk_46 (dk_at dksX4_actLine_2 8 rfl rfl)
theorem dX4_actLine_55 : decode cX4_actLine 55 = .ok (.ifCond .eq 15, 3) := dk_153 0 15 (dk_at dksX4_actLine_2 9 rfl rfl)
theorem dX4_actLine_58 : decode cX4_actLine 58 = .ok (.aload_n 0, 1) := dk_42 (dk_at dksX4_actLine_2 12 rfl rfl)
theorem dX4_actLine_59 : decode cX4_actLine 59 = .ok (.iconst 3, 1) := dk_6 (dk_at dksX4_actLine_2 13 rfl rfl)
theorem dX4_actLine_60 : decode cX4_actLine 60 = .ok (.aload_n 0, 1) := dk_42 (dk_at dksX4_actLine_2 14 rfl rfl)
theorem dX4_actLine_61 : decode cX4_actLine 61 = .ok (.getfield 168, 3) := dk_180 0 168 (dk_at dksX4_actLine_2 15 rfl rfl)
theorem dX4_actLine_64 : decode cX4_actLine 64 = .ok (.iconst 3, 1) := dk_6 (dk_at dksX4_actLine_2 18 rfl rfl)
theorem dX4_actLine_65 : decode cX4_actLine 65 = .ok (.iadd, 1) := dk_96 (dk_at dksX4_actLine_2 19 rfl rfl)
theorem dX4_actLine_66 : decode cX4_actLine 66 = .ok (.invokevirtual 255, 3) := dk_182 0 255 (dk_at dksX4_actLine_2 20 rfl rfl)
theorem dX4_actLine_69 : decode cX4_actLine 69 = .ok (.ireturn, 1) := dk_172 (dk_at dksX4_actLine_2 23 rfl rfl)
theorem dX4_actLine_70 : decode cX4_actLine 70 = .ok (.aload_n 0, 1) := dk_42 (dk_at dksX4_actLine_3 0 rfl rfl)
theorem dX4_actLine_71 : decode cX4_actLine 71 = .ok (.getfield 48, 3) := dk_180 0 48 (dk_at dksX4_actLine_3 1 rfl rfl)
theorem dX4_actLine_74 : decode cX4_actLine 74 = .ok (.aload_n 0, 1) := dk_42 (dk_at dksX4_actLine_3 4 rfl rfl)
theorem dX4_actLine_75 : decode cX4_actLine 75 = .ok (.getfield 40, 3) := dk_180 0 40 (dk_at dksX4_actLine_3 5 rfl rfl)
theorem dX4_actLine_78 : decode cX4_actLine 78 = .ok (.aload_n 0, 1) := dk_42 (dk_at dksX4_actLine_3 8 rfl rfl)
theorem dX4_actLine_79 : decode cX4_actLine 79 = .ok (.getfield 168, 3) := dk_180 0 168 (dk_at dksX4_actLine_3 9 rfl rfl)
theorem dX4_actLine_82 : decode cX4_actLine 82 = .ok (.iconst 5, 1) := dk_8 (dk_at dksX4_actLine_3 12 rfl rfl)
theorem dX4_actLine_83 : decode cX4_actLine 83 = .ok (.iadd, 1) := dk_96 (dk_at dksX4_actLine_3 13 rfl rfl)
theorem dX4_actLine_84 : decode cX4_actLine 84 = .ok (.laload, 1) := dk_47 (dk_at dksX4_actLine_3 14 rfl rfl)
theorem dX4_actLine_85 : decode cX4_actLine 85 = .ok (.invokevirtual 266, 3) := dk_182 1 10 (dk_at dksX4_actLine_3 15 rfl rfl)
theorem dX4_actLine_88 : decode cX4_actLine 88 = .ok (.istore 5, 2) := dk_54 5 (dk_at dksX4_actLine_3 18 rfl rfl)
theorem dX4_actLine_90 : decode cX4_actLine 90 = .ok (.iload 5, 2) := dk_21 5 (dk_at dksX4_actLine_3 20 rfl rfl)
theorem dX4_actLine_92 : decode cX4_actLine 92 = .ok (.iconst (-1), 1) := dk_2 (dk_at dksX4_actLine_3 22 rfl rfl)
theorem dX4_actLine_93 : decode cX4_actLine 93 = .ok (.if_icmp .ne 15, 3) := dk_160 0 15 (dk_at dksX4_actLine_4 0 rfl rfl)
theorem dX4_actLine_96 : decode cX4_actLine 96 = .ok (.aload_n 0, 1) := dk_42 (dk_at dksX4_actLine_4 3 rfl rfl)
theorem dX4_actLine_97 : decode cX4_actLine 97 = .ok (.iconst 3, 1) := dk_6 (dk_at dksX4_actLine_4 4 rfl rfl)
theorem dX4_actLine_98 : decode cX4_actLine 98 = .ok (.aload_n 0, 1) := dk_42 (dk_at dksX4_actLine_4 5 rfl rfl)
theorem dX4_actLine_99 : decode cX4_actLine 99 = .ok (.getfield 168, 3) := dk_180 0 168 (dk_at dksX4_actLine_4 6 rfl rfl)
theorem dX4_actLine_102 : decode cX4_actLine 102 = .ok (.iconst 5, 1) := dk_8 (dk_at dksX4_actLine_4 9 rfl rfl)
theorem dX4_actLine_103 : decode cX4_actLine 103 = .ok (.iadd, 1) := dk_96 (dk_at dksX4_actLine_4 10 rfl rfl)
theorem dX4_actLine_104 : decode cX4_actLine 104 = .ok (.invokevirtual 255, 3) := dk_182 0 255 (dk_at dksX4_actLine_4 11 rfl rfl)
theorem dX4_actLine_107 : decode cX4_actLine 107 = .ok (.ireturn, 1) := dk_172 (dk_at dksX4_actLine_4 14 rfl rfl)
theorem dX4_actLine_108 : decode cX4_actLine 108 = .ok (.iload_n 1, 1) := dk_27 (dk_at dksX4_actLine_4 15 rfl rfl)
theorem dX4_actLine_109 : decode cX4_actLine 109 = .ok (.iconst 1, 1) := dk_4 (dk_at dksX4_actLine_4 16 rfl rfl)
theorem dX4_actLine_110 : decode cX4_actLine 110 = .ok (.if_icmp .ne 39, 3) := dk_160 0 39 (dk_at dksX4_actLine_4 17 rfl rfl)
theorem dX4_actLine_113 : decode cX4_actLine 113 = .ok (.aload_n 0, 1) := dk_42 (dk_at dksX4_actLine_4 20 rfl rfl)
theorem dX4_actLine_114 : decode cX4_actLine 114 = .ok (.getfield 48, 3) := dk_180 0 48 (dk_at dksX4_actLine_4 21 rfl rfl)
theorem dX4_actLine_117 : decode cX4_actLine 117 = .ok (.getfield 121, 3) := dk_180 0 121 (dk_at dksX4_actLine_5 0 rfl rfl)
theorem dX4_actLine_120 : decode cX4_actLine 120 = .ok (.iload 5, 2) := dk_21 5 (dk_at dksX4_actLine_5 3 rfl rfl)
theorem dX4_actLine_122 : decode cX4_actLine 122 = .ok (.iaload, 1) := dk_46 (dk_at dksX4_actLine_5 5 rfl rfl)
theorem dX4_actLine_123 : decode cX4_actLine 123 = .ok (.aload_n 0, 1) := dk_42 (dk_at dksX4_actLine_5 6 rfl rfl)
theorem dX4_actLine_124 : decode cX4_actLine 124 = .ok (.getfield 48, 3) := dk_180 0 48 (dk_at dksX4_actLine_5 7 rfl rfl)
theorem dX4_actLine_127 : decode cX4_actLine 127 = .ok (.getfield 121, 3) := dk_180 0 121 (dk_at dksX4_actLine_5 10 rfl rfl)
theorem dX4_actLine_130 : decode cX4_actLine 130 = .ok (.iload 4, 2) := dk_21 4 (dk_at dksX4_actLine_5 13 rfl rfl)
theorem dX4_actLine_132 : decode cX4_actLine 132 = .ok (.iaload, 1) := dk_46 (dk_at dksX4_actLine_5 15 rfl rfl)
theorem dX4_actLine_133 : decode cX4_actLine 133 = .ok (.if_icmp .ne 16, 3) := dk_160 0 16 (dk_at dksX4_actLine_5 16 rfl rfl)
theorem dX4_actLine_136 : decode cX4_actLine 136 = .ok (.aload_n 0, 1) := dk_42 (dk_at dksX4_actLine_5 19 rfl rfl)
theorem dX4_actLine_137 : decode cX4_actLine 137 = .ok (.bipush 6, 2) := dk_16 6 (dk_at dksX4_actLine_5 20 rfl rfl)
theorem dX4_actLine_139 : decode cX4_actLine 139 = .ok (.aload_n 0, 1) := dk_42 (dk_at dksX4_actLine_5 22 rfl rfl)
theorem dX4_actLine_140 : decode cX4_actLine 140 = .ok (.getfield 168, 3) := dk_180 0 168 (dk_at dksX4_actLine_6 0 rfl rfl)
theorem dX4_actLine_143 : decode cX4_actLine 143 = .ok (.iconst 5, 1) := dk_8 (dk_at dksX4_actLine_6 3 rfl rfl)
theorem dX4_actLine_144 : decode cX4_actLine 144 = .ok (.iadd, 1) := dk_96 (dk_at dksX4_actLine_6 4 rfl rfl)
theorem dX4_actLine_145 : decode cX4_actLine 145 = .ok (.invokevirtual 255, 3) := dk_182 0 255 (dk_at dksX4_actLine_6 5 rfl rfl)
theorem dX4_actLine_148 : decode cX4_actLine 148 = .ok (.ireturn, 1) := dk_172 (dk_at dksX4_actLine_6 8 rfl rfl)
theorem dX4_actLine_149 : decode cX4_actLine 149 = .ok (.aload_n 0, 1) := dk_42 (dk_at dksX4_actLine_6 9 rfl rfl)
theorem dX4_actLine_150 : decode cX4_actLine 150 = .ok (.dup, 1) := dk_89 (dk_at dksX4_actLine_6 10 rfl rfl)
theorem dX4_actLine_151 : decode cX4_actLine 151 = .ok (.getfield 168, 3) := dk_180 0 168 (dk_at dksX4_actLine_6 11 rfl rfl)
theorem dX4_actLine_154 : decode cX4_actLine 154 = .ok (.bipush 6, 2) := dk_16 6 (dk_at dksX4_actLine_6 14 rfl rfl)
theorem dX4_actLine_156 : decode cX4_actLine 156 = .ok (.iadd, 1) := dk_96 (dk_at dksX4_actLine_6 16 rfl rfl)
theorem dX4_actLine_157 : decode cX4_actLine 157 = .ok (.putfield 168, 3) := dk_181 0 168 (dk_at dksX4_actLine_6 17 rfl rfl)
theorem dX4_actLine_160 : decode cX4_actLine 160 = .ok (.aload_n 0, 1) := dk_42 (dk_at dksX4_actLine_6 20 rfl rfl)
theorem dX4_actLine_161 : decode cX4_actLine 161 = .ok (.ldc 222, 2) := dk_18 222 (dk_at dksX4_actLine_6 21 rfl rfl)
theorem dX4_actLine_163 : decode cX4_actLine 163 = .ok (.iconst 5, 1) := dk_8 (dk_at dksX4_actLine_6 23 rfl rfl)
theorem dX4_actLine_164 : decode cX4_actLine 164 = .ok (.invokevirtual 273, 3) := dk_182 1 17 (dk_at dksX4_actLine_7 0 rfl rfl)
theorem dX4_actLine_167 : decode cX4_actLine 167 = .ok (.istore 6, 2) := dk_54 6 (dk_at dksX4_actLine_7 3 rfl rfl)
theorem dX4_actLine_169 : decode cX4_actLine 169 = .ok (.iload 6, 2) := dk_21 6 (dk_at dksX4_actLine_7 5 rfl rfl)
theorem dX4_actLine_171 : decode cX4_actLine 171 = .ok (.ifCond .ne 13, 3) := dk_154 0 13 (dk_at dksX4_actLine_7 7 rfl rfl)
theorem dX4_actLine_174 : decode cX4_actLine 174 = .ok (.aload_n 0, 1) := dk_42 (dk_at dksX4_actLine_7 10 rfl rfl)
theorem dX4_actLine_175 : decode cX4_actLine 175 = .ok (.iconst 5, 1) := dk_8 (dk_at dksX4_actLine_7 11 rfl rfl)
theorem dX4_actLine_176 : decode cX4_actLine 176 = .ok (.aload_n 0, 1) := dk_42 (dk_at dksX4_actLine_7 12 rfl rfl)
theorem dX4_actLine_177 : decode cX4_actLine 177 = .ok (.getfield 168, 3) := dk_180 0 168 (dk_at dksX4_actLine_7 13 rfl rfl)
theorem dX4_actLine_180 : decode cX4_actLine 180 = .ok (.invokevirtual 255, 3) := dk_182 0 255 (dk_at dksX4_actLine_7 16 rfl rfl)
theorem dX4_actLine_183 : decode cX4_actLine 183 = .ok (.ireturn, 1) := dk_172 (dk_at dksX4_actLine_7 19 rfl rfl)
theorem dX4_actLine_184 : decode cX4_actLine 184 = .ok (.iconst 1, 1) := dk_4 (dk_at dksX4_actLine_7 20 rfl rfl)
theorem dX4_actLine_185 : decode cX4_actLine 185 = .ok (.istore 7, 2) := dk_54 7 (dk_at dksX4_actLine_7 21 rfl rfl)
theorem dX4_actLine_187 : decode cX4_actLine 187 = .ok (.aload_n 0, 1) := dk_42 (dk_at dksX4_actLine_7 23 rfl rfl)
theorem dX4_actLine_188 : decode cX4_actLine 188 = .ok (.ldc 224, 2) := dk_18 224 (dk_at dksX4_actLine_8 0 rfl rfl)
theorem dX4_actLine_190 : decode cX4_actLine 190 = .ok (.invokevirtual 189, 3) := dk_182 0 189 (dk_at dksX4_actLine_8 2 rfl rfl)
theorem dX4_actLine_193 : decode cX4_actLine 193 = .ok (.ifCond .eq 42, 3) := dk_153 0 42 (dk_at dksX4_actLine_8 5 rfl rfl)
theorem dX4_actLine_196 : decode cX4_actLine 196 = .ok (.aload_n 0, 1) := dk_42 (dk_at dksX4_actLine_8 8 rfl rfl)
theorem dX4_actLine_197 : decode cX4_actLine 197 = .ok (.invokevirtual 284, 3) := dk_182 1 28 (dk_at dksX4_actLine_8 9 rfl rfl)
theorem dX4_actLine_200 : decode cX4_actLine 200 = .ok (.istore 8, 2) := dk_54 8 (dk_at dksX4_actLine_8 12 rfl rfl)
theorem dX4_actLine_202 : decode cX4_actLine 202 = .ok (.iload 8, 2) := dk_21 8 (dk_at dksX4_actLine_8 14 rfl rfl)
theorem dX4_actLine_204 : decode cX4_actLine 204 = .ok (.iconst (-1), 1) := dk_2 (dk_at dksX4_actLine_8 16 rfl rfl)
theorem dX4_actLine_205 : decode cX4_actLine 205 = .ok (.if_icmp .eq 11, 3) := dk_159 0 11 (dk_at dksX4_actLine_8 17 rfl rfl)
theorem dX4_actLine_208 : decode cX4_actLine 208 = .ok (.aload_n 0, 1) := dk_42 (dk_at dksX4_actLine_8 20 rfl rfl)
theorem dX4_actLine_209 : decode cX4_actLine 209 = .ok (.iconst 3, 1) := dk_6 (dk_at dksX4_actLine_8 21 rfl rfl)
theorem dX4_actLine_210 : decode cX4_actLine 210 = .ok (.iload 8, 2) := dk_21 8 (dk_at dksX4_actLine_8 22 rfl rfl)
theorem dX4_actLine_212 : decode cX4_actLine 212 = .ok (.invokevirtual 255, 3) := dk_182 0 255 (dk_at dksX4_actLine_9 0 rfl rfl)
theorem dX4_actLine_215 : decode cX4_actLine 215 = .ok (.ireturn, 1) := dk_172 (dk_at dksX4_actLine_9 3 rfl rfl)
theorem dX4_actLine_216 : decode cX4_actLine 216 = .ok (.aload_n 0, 1) := dk_42 (dk_at dksX4_actLine_9 4 rfl rfl)
theorem dX4_actLine_217 : decode cX4_actLine 217 = .ok (.aload_n 0, 1) := dk_42 (dk_at dksX4_actLine_9 5 rfl rfl)
theorem dX4_actLine_218 : decode cX4_actLine 218 = .ok (.getfield 61, 3) := dk_180 0 61 (dk_at dksX4_actLine_9 6 rfl rfl)
theorem dX4_actLine_221 : decode cX4_actLine 221 = .ok (.aload_n 0, 1) := dk_42 (dk_at dksX4_actLine_9 9 rfl rfl)
theorem dX4_actLine_222 : decode cX4_actLine 222 = .ok (.getfield 64, 3) := dk_180 0 64 (dk_at dksX4_actLine_9 10 rfl rfl)
theorem dX4_actLine_225 : decode cX4_actLine 225 = .ok (.invokevirtual 287, 3) := dk_182 1 31 (dk_at dksX4_actLine_9 13 rfl rfl)
theorem dX4_actLine_228 : decode cX4_actLine 228 = .ok (.pop, 1) := dk_87 (dk_at dksX4_actLine_9 16 rfl rfl)
theorem dX4_actLine_229 : decode cX4_actLine 229 = .ok (.aload_n 0, 1) := dk_42 (dk_at dksX4_actLine_9 17 rfl rfl)
theorem dX4_actLine_230 : decode cX4_actLine 230 = .ok (.invokevirtual 291, 3) := dk_182 1 35 (dk_at dksX4_actLine_9 18 rfl rfl)
theorem dX4_actLine_233 : decode cX4_actLine 233 = .ok (.istore 7, 2) := dk_54 7 (dk_at dksX4_actLine_9 21 rfl rfl)
theorem dX4_actLine_235 : decode cX4_actLine 235 = .ok (.aload_n 0, 1) := dk_42 (dk_at dksX4_actLine_9 23 rfl rfl)
theorem dX4_actLine_236 : decode cX4_actLine 236 = .ok (.aload_n 0, 1) := dk_42 (dk_at dksX4_actLine_10 0 rfl rfl)
theorem dX4_actLine_237 : decode cX4_actLine 237 = .ok (.getfield 48, 3) := dk_180 0 48 (dk_at dksX4_actLine_10 1 rfl rfl)
theorem dX4_actLine_240 : decode cX4_actLine 240 = .ok (.getfield 121, 3) := dk_180 0 121 (dk_at dksX4_actLine_10 4 rfl rfl)
theorem dX4_actLine_243 : decode cX4_actLine 243 = .ok (.iload 4, 2) := dk_21 4 (dk_at dksX4_actLine_10 7 rfl rfl)
theorem dX4_actLine_245 : decode cX4_actLine 245 = .ok (.iaload, 1) := dk_46 (dk_at dksX4_actLine_10 9 rfl rfl)
theorem dX4_actLine_246 : decode cX4_actLine 246 = .ok (.iconst 5, 1) := dk_8 (dk_at dksX4_actLine_10 10 rfl rfl)
theorem dX4_actLine_247 : decode cX4_actLine 247 = .ok (.iload 6, 2) := dk_21 6 (dk_at dksX4_actLine_10 11 rfl rfl)
theorem dX4_actLine_249 : decode cX4_actLine 249 = .ok (.iadd, 1) := dk_96 (dk_at dksX4_actLine_10 13 rfl rfl)
theorem dX4_actLine_250 : decode cX4_actLine 250 = .ok (.invokevirtual 277, 3) := dk_182 1 21 (dk_at dksX4_actLine_10 14 rfl rfl)
theorem dX4_actLine_253 : decode cX4_actLine 253 = .ok (.istore_n 3, 1) := dk_62 (dk_at dksX4_actLine_10 17 rfl rfl)
theorem dX4_actLine_254 : decode cX4_actLine 254 = .ok (.iload_n 3, 1) := dk_29 (dk_at dksX4_actLine_10 18 rfl rfl)
theorem dX4_actLine_255 : decode cX4_actLine 255 = .ok (.ifCond .ne 38, 3) := dk_154 0 38 (dk_at dksX4_actLine_10 19 rfl rfl)
theorem dX4_actLine_258 : decode cX4_actLine 258 = .ok (.iload 7, 2) := dk_21 7 (dk_at dksX4_actLine_10 22 rfl rfl)
theorem dX4_actLine_260 : decode cX4_actLine 260 = .ok (.ifCond .eq 33, 3) := dk_153 0 33 (dk_at dksX4_actLine_11 0 rfl rfl)
theorem dX4_actLine_263 : decode cX4_actLine 263 = .ok (.aload_n 0, 1) := dk_42 (dk_at dksX4_actLine_11 3 rfl rfl)
theorem dX4_actLine_264 : decode cX4_actLine 264 = .ok (.getfield 48, 3) := dk_180 0 48 (dk_at dksX4_actLine_11 4 rfl rfl)
theorem dX4_actLine_267 : decode cX4_actLine 267 = .ok (.aload_n 0, 1) := dk_42 (dk_at dksX4_actLine_11 7 rfl rfl)
theorem dX4_actLine_268 : decode cX4_actLine 268 = .ok (.getfield 40, 3) := dk_180 0 40 (dk_at dksX4_actLine_11 8 rfl rfl)
theorem dX4_actLine_271 : decode cX4_actLine 271 = .ok (.iload_n 2, 1) := dk_28 (dk_at dksX4_actLine_11 11 rfl rfl)
theorem dX4_actLine_272 : decode cX4_actLine 272 = .ok (.laload, 1) := dk_47 (dk_at dksX4_actLine_11 12 rfl rfl)
theorem dX4_actLine_273 : decode cX4_actLine 273 = .ok (.iload_n 1, 1) := dk_27 (dk_at dksX4_actLine_11 13 rfl rfl)
theorem dX4_actLine_274 : decode cX4_actLine 274 = .ok (.aload_n 0, 1) := dk_42 (dk_at dksX4_actLine_11 14 rfl rfl)
theorem dX4_actLine_275 : decode cX4_actLine 275 = .ok (.getfield 48, 3) := dk_180 0 48 (dk_at dksX4_actLine_11 15 rfl rfl)
theorem dX4_actLine_278 : decode cX4_actLine 278 = .ok (.getfield 121, 3) := dk_180 0 121 (dk_at dksX4_actLine_11 18 rfl rfl)
theorem dX4_actLine_281 : decode cX4_actLine 281 = .ok (.iload 4, 2) := dk_21 4 (dk_at dksX4_actLine_11 21 rfl rfl)
theorem dX4_actLine_283 : decode cX4_actLine 283 = .ok (.iaload, 1) := dk_46 (dk_at dksX4_actLine_11 23 rfl rfl)
theorem dX4_actLine_284 : decode cX4_actLine 284 = .ok (.iload 6, 2) := dk_21 6 (dk_at dksX4_actLine_12 0 rfl rfl)
theorem dX4_actLine_286 : decode cX4_actLine 286 = .ok (.iload 4, 2) := dk_21 4 (dk_at dksX4_actLine_12 2 rfl rfl)
theorem dX4_actLine_288 : decode cX4_actLine 288 = .ok (.iload 5, 2) := dk_21 5 (dk_at dksX4_actLine_12 4 rfl rfl)
theorem dX4_actLine_290 : decode cX4_actLine 290 = .ok (.invokevirtual 280, 3) := dk_182 1 24 (dk_at dksX4_actLine_12 6 rfl rfl)
theorem dX4_actLine_293 : decode cX4_actLine 293 = .ok (.iload_n 3, 1) := dk_29 (dk_at dksX4_actLine_12 9 rfl rfl)
theorem dX4_actLine_294 : decode cX4_actLine 294 = .ok (.ireturn, 1) := dk_172 (dk_at dksX4_actLine_12 10 rfl rfl)
theorem q2687 : (Jvm.Cond.code ({ cls := "DebateHallModel", name := "unknown", desc := "()I" } : Jvm.MethodName) prog_25_method_37_code (2 : Nat) (Option.some Jvm.ClassFile.FieldType.int)) ∈ lw_all := lw_g (lw_at lw_m11 207 rfl) rfl
theorem zk_X4_unknown : zz_cd yX4_unknown cX4_unknown 2 (some .int) none ∈ lw_all := q2687
theorem zy_X4_unknown : zz_yok yX4_unknown 0 = true := by decide +kernel
theorem q2684 : (Jvm.Cond.methodLink "DebateHallModel" (284 : Nat) ({ cls := "DebateHallModel", name := "unknown", desc := "()I" } : Jvm.MethodName)) ∈ lw_all := lw_g (lw_at lw_m11 204 rfl) rfl
theorem q2686 : (Jvm.Cond.instanceMethod ({ cls := "DebateHallModel", name := "unknown", desc := "()I" } : Jvm.MethodName)) ∈ lw_all := lw_g (lw_at lw_m11 206 rfl) rfl
def wp_X4_actLine_B58 (Z : zzG) (K : Option Value → zzM → Prop) (v0 : Option Nat) (M : zzM) : Prop := zgI Z M v0 [16] 10 fun x104 => zty Z M v0 fun t => t = 16 ∧ wp_X4_fail Z v0 (3 : Int32) (x104 + (3 : Int32)) M (fun r105 M106 => zrI r105 fun x109 => K (some (.int x109)) M106)
def wp_X4_actLine_B293 (Z : zzG) (K : Option Value → zzM → Prop) (v3 : Int32) (M : zzM) : Prop := K (some (.int v3)) M
def wp_X4_actLine_B235 (Z : zzG) (K : Option Value → zzM → Prop) (v0 : Option Nat) (v1 : Int32) (v2 : Int32) (v4 : Int32) (v5 : Int32) (v6 : Int32) (v7 : Int32) (M : zzM) : Prop := zgA Z M v0 [16] 11 fun x86 => zgA Z M x86 [17] 6 fun x87 => zaI Z M x87 [100] v4 fun x88 => zty Z M v0 fun t => t = 16 ∧ wp_X4_take Z v0 x88 ((5 : Int32) + v6) M (fun r89 M90 => zrI r89 fun x93 => if x93 = 0 then (if v7 = 0 then (wp_X4_actLine_B293 Z K x93 M90) else (zgA Z M90 v0 [16] 11 fun x94 => zgA Z M90 v0 [16] 9 fun x95 => zaJ Z M90 x95 [102] v2 fun x96 => zgA Z M90 v0 [16] 11 fun x97 => zgA Z M90 x97 [17] 6 fun x98 => zaI Z M90 x98 [100] v4 fun x99 => zty Z M90 x94 fun t => t = 17 ∧ wp_X5_add Z x94 x96 v1 x99 v6 v4 v5 M90 (fun r100 M101 => zrV r100 (wp_X4_actLine_B293 Z K x93 M101)))) else (wp_X4_actLine_B293 Z K x93 M90))
def wp_X4_actLine_B149 (Z : zzG) (K : Option Value → zzM → Prop) (v0 : Option Nat) (v1 : Int32) (v2 : Int32) (v4 : Int32) (v5 : Int32) (M : zzM) : Prop := zgI Z M v0 [16] 10 fun x46 => zput Z M v0 [16] 10 (.int (x46 + (6 : Int32))) fun M47 => zty Z M47 v0 fun t => t = 16 ∧ wp_X4_sized Z v0 (some (zz_ad Z 134)) (5 : Int32) M47 (fun r48 M49 => zrI r48 fun x52 => if x52 = 0 then (zgI Z M49 v0 [16] 10 fun x80 => zty Z M49 v0 fun t => t = 16 ∧ wp_X4_fail Z v0 (5 : Int32) x80 M49 (fun r81 M82 => zrI r81 fun x85 => K (some (.int x85)) M82)) else (zty Z M49 v0 fun t => t = 16 ∧ wp_X4_word Z v0 (some (zz_ad Z 141)) M49 (fun r53 M54 => zrI r53 fun x57 => if x57 = 0 then (wp_X4_actLine_B235 Z K v0 v1 v2 v4 v5 x52 (1 : Int32) M54) else (zty Z M54 v0 fun t => t = 16 ∧ wp_X4_unknown Z v0 M54 (fun r58 M59 => zrI r58 fun x62 => if x62 = (-1 : Int32) then (zgA Z M59 v0 [16] 16 fun x63 => zgA Z M59 v0 [16] 17 fun x64 => zty Z M59 v0 fun t => t = 16 ∧ wp_X4_stand Z v0 x63 x64 M59 (fun r65 M66 => zrI r65 fun x69 => zty Z M66 v0 fun t => t = 16 ∧ wp_X4_testHolds Z v0 M66 (fun r70 M71 => zrI r70 fun x74 => wp_X4_actLine_B235 Z K v0 v1 v2 v4 v5 x52 x74 M71))) else (zty Z M59 v0 fun t => t = 16 ∧ wp_X4_fail Z v0 (3 : Int32) x62 M59 (fun r75 M76 => zrI r75 fun x79 => K (some (.int x79)) M76)))))))
def wp_X4_actLine (Z : zzG) (this : Option Nat) (p0 : Int32) (M : zzM) (K : Option Value → zzM → Prop) : Prop := zgI Z M this [16] 10 fun x1 => zty Z M this fun t => t = 16 ∧ wp_X4_newName Z this (x1 + (1 : Int32)) M (fun r2 M3 => zrI r2 fun x6 => if x6 ≤ 0 then (zgA Z M3 this [16] 11 fun x7 => zgA Z M3 this [16] 9 fun x8 => zgI Z M3 this [16] 10 fun x9 => zaJ Z M3 x8 [102] (x9 + (3 : Int32)) fun x10 => zty Z M3 x7 fun t => t = 17 ∧ wp_X5_itemOf Z x7 x10 M3 (fun r11 M12 => zrI r11 fun x15 => if x15 = (-1 : Int32) then (wp_X4_actLine_B58 Z K this M12) else (zgA Z M12 this [16] 11 fun x16 => zgA Z M12 x16 [17] 5 fun x17 => zaI Z M12 x17 [100] x15 fun x18 => if x18 = 0 then (zgA Z M12 this [16] 11 fun x19 => zgA Z M12 this [16] 9 fun x20 => zgI Z M12 this [16] 10 fun x21 => zaJ Z M12 x20 [102] (x21 + (5 : Int32)) fun x22 => zty Z M12 x19 fun t => t = 17 ∧ wp_X5_itemOf Z x19 x22 M12 (fun r23 M24 => zrI r23 fun x27 => if x27 = (-1 : Int32) then (zgI Z M24 this [16] 10 fun x40 => zty Z M24 this fun t => t = 16 ∧ wp_X4_fail Z this (3 : Int32) (x40 + (5 : Int32)) M24 (fun r41 M42 => zrI r41 fun x45 => K (some (.int x45)) M42)) else (if p0 = (1 : Int32) then (zgA Z M24 this [16] 11 fun x28 => zgA Z M24 x28 [17] 6 fun x29 => zaI Z M24 x29 [100] x27 fun x30 => zgA Z M24 this [16] 11 fun x31 => zgA Z M24 x31 [17] 6 fun x32 => zaI Z M24 x32 [100] x15 fun x33 => if x30 = x33 then (zgI Z M24 this [16] 10 fun x34 => zty Z M24 this fun t => t = 16 ∧ wp_X4_fail Z this (6 : Int32) (x34 + (5 : Int32)) M24 (fun r35 M36 => zrI r35 fun x39 => K (some (.int x39)) M36)) else (wp_X4_actLine_B149 Z K this p0 (x1 + (1 : Int32)) x15 x27 M24)) else (wp_X4_actLine_B149 Z K this p0 (x1 + (1 : Int32)) x15 x27 M24)))) else (wp_X4_actLine_B58 Z K this M12)))) else (K (some (.int x6)) M3))
theorem ok_X4_actLine_B58 {G : zzX} (C : zz_C G cX4_actLine "DebateHallModel" 9) {K : Option Value → zzM → Prop} (E : zz_E G (some .int) K (fun _ _ _ => False)) (hH : zz_H G []) (hR : zz_Rm G 69) {v0 : Option Nat} {M : zzM} {bc bs : Nat} (hw : wp_X4_actLine_B58 (zz_Zof G) K v0 M) : zz_T G 9 M bc bs 58 [(0, va_rf v0)] [] := by
  unfold wp_X4_actLine_B58 at hw
  refine zz_aload_n C dX4_actLine_58 rfl 0 rfl ?_
  refine zz_iconst (v := (3 : Int32)) C dX4_actLine_59 (by decide) ?_
  refine zz_aload_n C dX4_actLine_60 rfl 0 rfl ?_
  refine zz_getI C dX4_actLine_61 (Or.inl q2446) zf_16_10_ebateHallModel hw (fun x104 hw => ?_)
  refine zz_iconst (v := (3 : Int32)) C dX4_actLine_64 (by decide) ?_
  refine zz_iadd C dX4_actLine_65 ?_
  obtain ⟨a9, t9, b9, fs9, hro, hL, rfl, hw⟩ := ztyS hw
  refine zz_callV (r := (zR_16, zT_16, 24)) (As := [.int (3 : Int32), .int (x104 + (3 : Int32))]) (rest := []) (mc := 0) (ms := 0) C hR hro dX4_actLine_66 (Or.inl q2630) q2632 (Or.inl qs47) zl_DebateHallModel zk_X4_fail (Or.inl rfl) zy_X4_fail rfl (by decide) (by decide) hL (ok_X4_fail (zz_hl C) hw) (Nat.zero_le _) (Nat.zero_le _) (zz_cat10 _ (Nat.le_of_ble_eq_true rfl)) (fun r105 M106 hw => zz_kI hw (fun x109 hw => ?_)) (fun _ _ _ h9 => h9.elim) rfl
  exact zz_iret C E dX4_actLine_69 hw
theorem ok_X4_actLine_B293 {G : zzX} (C : zz_C G cX4_actLine "DebateHallModel" 9) {K : Option Value → zzM → Prop} (E : zz_E G (some .int) K (fun _ _ _ => False)) (hH : zz_H G []) (hR : zz_Rm G 69) {v3 : Int32} {M : zzM} {bc bs : Nat} (hw : wp_X4_actLine_B293 (zz_Zof G) K v3 M) : zz_T G 9 M bc bs 293 [(3, .int v3)] [] := by
  unfold wp_X4_actLine_B293 at hw
  refine zz_iload_n C dX4_actLine_293 rfl 0 rfl ?_
  exact zz_iret C E dX4_actLine_294 hw
theorem ok_X4_actLine_B235 {G : zzX} (C : zz_C G cX4_actLine "DebateHallModel" 9) {K : Option Value → zzM → Prop} (E : zz_E G (some .int) K (fun _ _ _ => False)) (hH : zz_H G []) (hR : zz_Rm G 69) {v0 : Option Nat} {v1 : Int32} {v2 : Int32} {v4 : Int32} {v5 : Int32} {v6 : Int32} {v7 : Int32} {M : zzM} {bc bs : Nat} (hw : wp_X4_actLine_B235 (zz_Zof G) K v0 v1 v2 v4 v5 v6 v7 M) : zz_T G 9 M bc bs 235 [(0, va_rf v0), (1, .int v1), (2, .int v2), (4, .int v4), (5, .int v5), (6, .int v6), (7, .int v7)] [] := by
  unfold wp_X4_actLine_B235 at hw
  refine zz_aload_n C dX4_actLine_235 rfl 0 rfl ?_
  refine zz_aload_n C dX4_actLine_236 rfl 0 rfl ?_
  refine zz_getA C dX4_actLine_237 (Or.inl q2447) zf_16_11_ebateHallModel hw (fun x86 hw => ?_)
  refine zz_getA C dX4_actLine_240 (Or.inr ⟨_, q2400⟩) zf_17_6_allModel_State hw (fun x87 hw => ?_)
  refine zz_iload C dX4_actLine_243 3 rfl ?_
  refine zz_iald C dX4_actLine_245 hw (fun x88 hw => ?_)
  refine zz_iconst (v := (5 : Int32)) C dX4_actLine_246 (by decide) ?_
  refine zz_iload C dX4_actLine_247 5 rfl ?_
  refine zz_iadd C dX4_actLine_249 ?_
  obtain ⟨a9, t9, b9, fs9, hro, hL, rfl, hw⟩ := ztyS hw
  refine zz_callV (r := (zR_16, zT_16, 24)) (As := [.int x88, .int ((5 : Int32) + v6)]) (rest := []) (mc := 0) (ms := 0) C hR hro dX4_actLine_250 (Or.inl q2672) q2674 (Or.inl qs54) zl_DebateHallModel zk_X4_take (Or.inl rfl) zy_X4_take rfl (by decide) (by decide) hL (ok_X4_take (zz_hl C) hw) (Nat.zero_le _) (Nat.zero_le _) (zz_cat10 _ (Nat.le_of_ble_eq_true rfl)) (fun r89 M90 hw => zz_kI hw (fun x93 hw => ?_)) (fun _ _ _ h9 => h9.elim) rfl
  refine zz_istore_n (i := 3) (lv' := [(3, .int x93), (0, va_rf v0), (1, .int v1), (2, .int v2), (4, .int v4), (5, .int v5), (6, .int v6), (7, .int v7)]) C dX4_actLine_253 rfl (by decide) rfl ?_
  refine zz_iload_n C dX4_actLine_254 rfl 0 rfl ?_
  refine zz_if_ne (tgt := 293) C dX4_actLine_255 (by decide) hw (fun hw => ?_) (fun hw => ?_)
  · refine zz_subP [0] rfl ?_
    exact ok_X4_actLine_B293 C E hH hR hw
  · refine zz_iload C dX4_actLine_258 7 rfl ?_
    refine zz_if_eq (tgt := 293) C dX4_actLine_260 (by decide) hw (fun hw => ?_) (fun hw => ?_)
    · refine zz_subP [0] rfl ?_
      exact ok_X4_actLine_B293 C E hH hR hw
    · refine zz_aload_n C dX4_actLine_263 rfl 1 rfl ?_
      refine zz_getA C dX4_actLine_264 (Or.inl q2447) zf_16_11_ebateHallModel hw (fun x94 hw => ?_)
      refine zz_aload_n C dX4_actLine_267 rfl 1 rfl ?_
      refine zz_getA C dX4_actLine_268 (Or.inl q2445) zf_16_9_ebateHallModel hw (fun x95 hw => ?_)
      refine zz_iload_n C dX4_actLine_271 rfl 3 rfl ?_
      refine zz_lald C dX4_actLine_272 hw (fun x96 hw => ?_)
      refine zz_iload_n C dX4_actLine_273 rfl 2 rfl ?_
      refine zz_aload_n C dX4_actLine_274 rfl 1 rfl ?_
      refine zz_getA C dX4_actLine_275 (Or.inl q2447) zf_16_11_ebateHallModel hw (fun x97 hw => ?_)
      refine zz_getA C dX4_actLine_278 (Or.inr ⟨_, q2400⟩) zf_17_6_allModel_State hw (fun x98 hw => ?_)
      refine zz_iload C dX4_actLine_281 4 rfl ?_
      refine zz_iald C dX4_actLine_283 hw (fun x99 hw => ?_)
      refine zz_iload C dX4_actLine_284 6 rfl ?_
      refine zz_iload C dX4_actLine_286 4 rfl ?_
      refine zz_iload C dX4_actLine_288 5 rfl ?_
      obtain ⟨a9, t9, b9, fs9, hro, hL, rfl, hw⟩ := ztyS hw
      refine zz_callV (r := (zR_17, zT_17, 12)) (As := [.long x96, .int v1, .int x99, .int v6, .int v4, .int v5]) (rest := []) (mc := 0) (ms := 0) C hR hro dX4_actLine_290 (Or.inl q2676) q2677 (Or.inl q2678) zl_DebateHallModel_State zk_X5_add (Or.inl rfl) zy_X5_add rfl (by decide) (by decide) hL (ok_X5_add (zz_hl C) hw) (Nat.zero_le _) (Nat.zero_le _) (zz_cat10 _ (Nat.le_of_ble_eq_true rfl)) (fun r100 M101 hw => zz_kV hw (fun hw => ?_)) (fun _ _ _ h9 => h9.elim) rfl
      refine zz_subP [0] rfl ?_
      exact ok_X4_actLine_B293 C E hH hR hw
theorem ok_X4_actLine_B149 {G : zzX} (C : zz_C G cX4_actLine "DebateHallModel" 9) {K : Option Value → zzM → Prop} (E : zz_E G (some .int) K (fun _ _ _ => False)) (hH : zz_H G []) (hR : zz_Rm G 69) {v0 : Option Nat} {v1 : Int32} {v2 : Int32} {v4 : Int32} {v5 : Int32} {M : zzM} {bc bs : Nat} (hw : wp_X4_actLine_B149 (zz_Zof G) K v0 v1 v2 v4 v5 M) : zz_T G 9 M bc bs 149 [(0, va_rf v0), (1, .int v1), (2, .int v2), (4, .int v4), (5, .int v5)] [] := by
  unfold wp_X4_actLine_B149 at hw
  refine zz_aload_n C dX4_actLine_149 rfl 0 rfl ?_
  refine zz_dup C dX4_actLine_150 (zz_cat _) ?_
  refine zz_getI C dX4_actLine_151 (Or.inl q2446) zf_16_10_ebateHallModel hw (fun x46 hw => ?_)
  refine zz_bipush (v := (6 : Int32)) C dX4_actLine_154 (by decide) ?_
  refine zz_iadd C dX4_actLine_156 ?_
  refine zz_put C dX4_actLine_157 (Or.inl q2446) zf_16_10_ebateHallModel zp_16_10 (zz_hn1 ⟨rfl, rfl⟩) hw (fun M47 hw => ?_)
  refine zz_aload_n C dX4_actLine_160 rfl 0 rfl ?_
  refine zz_ldcS (j := 34) C dX4_actLine_161 rfl ?_
  refine zz_iconst (v := (5 : Int32)) C dX4_actLine_163 (by decide) ?_
  obtain ⟨a9, t9, b9, fs9, hro, hL, rfl, hw⟩ := ztyS hw
  refine zz_callV (r := (zR_16, zT_16, 24)) (As := [va_rf (some (zz_ad (zz_Zof G) 134)), .int (5 : Int32)]) (rest := []) (mc := 0) (ms := 0) C hR hro dX4_actLine_164 (Or.inl q2668) q2670 (Or.inl qs53) zl_DebateHallModel zk_X4_sized (Or.inl rfl) zy_X4_sized rfl (by decide) (by decide) hL (ok_X4_sized (zz_hl C) hw) (Nat.zero_le _) (Nat.zero_le _) (zz_cat10 _ (Nat.le_of_ble_eq_true rfl)) (fun r48 M49 hw => zz_kI hw (fun x52 hw => ?_)) (fun _ _ _ h9 => h9.elim) rfl
  refine zz_istore (lv' := [(6, .int x52), (0, va_rf v0), (1, .int v1), (2, .int v2), (4, .int v4), (5, .int v5)]) C dX4_actLine_167 (by decide) rfl ?_
  refine zz_iload C dX4_actLine_169 0 rfl ?_
  refine zz_if_ne (tgt := 184) C dX4_actLine_171 (by decide) hw (fun hw => ?_) (fun hw => ?_)
  · refine zz_iconst (v := (1 : Int32)) C dX4_actLine_184 (by decide) ?_
    refine zz_istore (lv' := [(7, .int (1 : Int32)), (6, .int x52), (0, va_rf v0), (1, .int v1), (2, .int v2), (4, .int v4), (5, .int v5)]) C dX4_actLine_185 (by decide) rfl ?_
    refine zz_aload_n C dX4_actLine_187 rfl 2 rfl ?_
    refine zz_ldcS (j := 41) C dX4_actLine_188 rfl ?_
    obtain ⟨a9, t9, b9, fs9, hro, hL, rfl, hw⟩ := ztyS hw
    refine zz_callV (r := (zR_16, zT_16, 24)) (As := [va_rf (some (zz_ad (zz_Zof G) 141))]) (rest := []) (mc := 0) (ms := 0) C hR hro dX4_actLine_190 (Or.inl q2560) q2562 (Or.inl qs37) zl_DebateHallModel zk_X4_word (Or.inl rfl) zy_X4_word rfl (by decide) (by decide) hL (ok_X4_word (zz_hl C) hw) (Nat.zero_le _) (Nat.zero_le _) (zz_cat10 _ (Nat.le_of_ble_eq_true rfl)) (fun r53 M54 hw => zz_kI hw (fun x57 hw => ?_)) (fun _ _ _ h9 => h9.elim) rfl
    refine zz_if_eq (tgt := 235) C dX4_actLine_193 (by decide) hw (fun hw => ?_) (fun hw => ?_)
    · refine zz_subP [2, 3, 4, 5, 6, 1, 0] rfl ?_
      exact ok_X4_actLine_B235 C E hH hR hw
    · refine zz_aload_n C dX4_actLine_196 rfl 2 rfl ?_
      obtain ⟨a9, t9, b9, fs9, hro, hL, rfl, hw⟩ := ztyS hw
      refine zz_callV (r := (zR_16, zT_16, 24)) (As := []) (rest := []) (mc := 0) (ms := 0) C hR hro dX4_actLine_197 (Or.inl q2684) q2686 (Or.inl qs56) zl_DebateHallModel zk_X4_unknown (Or.inl rfl) zy_X4_unknown rfl (by decide) (by decide) hL (ok_X4_unknown (zz_hl C) hw) (Nat.zero_le _) (Nat.zero_le _) (zz_cat10 _ (Nat.le_of_ble_eq_true rfl)) (fun r58 M59 hw => zz_kI hw (fun x62 hw => ?_)) (fun _ _ _ h9 => h9.elim) rfl
      refine zz_istore (lv' := [(8, .int x62), (7, .int (1 : Int32)), (6, .int x52), (0, va_rf v0), (1, .int v1), (2, .int v2), (4, .int v4), (5, .int v5)]) C dX4_actLine_200 (by decide) rfl ?_
      refine zz_iload C dX4_actLine_202 0 rfl ?_
      refine zz_iconst (v := (-1 : Int32)) C dX4_actLine_204 (by decide) ?_
      refine zz_icmp_eq (tgt := 216) C dX4_actLine_205 (by decide) hw (fun hw => ?_) (fun hw => ?_)
      · refine zz_aload_n C dX4_actLine_216 rfl 3 rfl ?_
        refine zz_aload_n C dX4_actLine_217 rfl 3 rfl ?_
        refine zz_getA C dX4_actLine_218 (Or.inl q2452) zf_16_16_ebateHallModel hw (fun x63 hw => ?_)
        refine zz_aload_n C dX4_actLine_221 rfl 3 rfl ?_
        refine zz_getA C dX4_actLine_222 (Or.inl q2453) zf_16_17_ebateHallModel hw (fun x64 hw => ?_)
        obtain ⟨a9, t9, b9, fs9, hro, hL, rfl, hw⟩ := ztyS hw
        refine zz_callV (r := (zR_16, zT_16, 24)) (As := [va_rf x63, va_rf x64]) (rest := []) (mc := 0) (ms := 0) C hR hro dX4_actLine_225 (Or.inl q2688) q2690 (Or.inl qs57) zl_DebateHallModel zk_X4_stand (Or.inl rfl) zy_X4_stand rfl (by decide) (by decide) hL (ok_X4_stand (zz_hl C) hw) (Nat.zero_le _) (Nat.zero_le _) (zz_cat10 _ (Nat.le_of_ble_eq_true rfl)) (fun r65 M66 hw => zz_kI hw (fun x69 hw => ?_)) (fun _ _ _ h9 => h9.elim) rfl
        refine zz_pop C dX4_actLine_228 rfl ?_
        refine zz_aload_n C dX4_actLine_229 rfl 3 rfl ?_
        obtain ⟨a9, t9, b9, fs9, hro, hL, rfl, hw⟩ := ztyS hw
        refine zz_callV (r := (zR_16, zT_16, 24)) (As := []) (rest := []) (mc := 0) (ms := 0) C hR hro dX4_actLine_230 (Or.inl q2704) q2706 (Or.inl qs60) zl_DebateHallModel zk_X4_testHolds (Or.inl rfl) zy_X4_testHolds rfl (by decide) (by decide) hL (ok_X4_testHolds (zz_hl C) hw) (Nat.zero_le _) (Nat.zero_le _) (zz_cat10 _ (Nat.le_of_ble_eq_true rfl)) (fun r70 M71 hw => zz_kI hw (fun x74 hw => ?_)) (fun _ _ _ h9 => h9.elim) rfl
        refine zz_istore (lv' := [(7, .int x74), (8, .int x62), (6, .int x52), (0, va_rf v0), (1, .int v1), (2, .int v2), (4, .int v4), (5, .int v5)]) C dX4_actLine_233 (by decide) rfl ?_
        refine zz_subP [3, 4, 5, 6, 7, 2, 0] rfl ?_
        exact ok_X4_actLine_B235 C E hH hR hw
      · refine zz_aload_n C dX4_actLine_208 rfl 3 rfl ?_
        refine zz_iconst (v := (3 : Int32)) C dX4_actLine_209 (by decide) ?_
        refine zz_iload C dX4_actLine_210 0 rfl ?_
        obtain ⟨a9, t9, b9, fs9, hro, hL, rfl, hw⟩ := ztyS hw
        refine zz_callV (r := (zR_16, zT_16, 24)) (As := [.int (3 : Int32), .int x62]) (rest := []) (mc := 0) (ms := 0) C hR hro dX4_actLine_212 (Or.inl q2630) q2632 (Or.inl qs47) zl_DebateHallModel zk_X4_fail (Or.inl rfl) zy_X4_fail rfl (by decide) (by decide) hL (ok_X4_fail (zz_hl C) hw) (Nat.zero_le _) (Nat.zero_le _) (zz_cat10 _ (Nat.le_of_ble_eq_true rfl)) (fun r75 M76 hw => zz_kI hw (fun x79 hw => ?_)) (fun _ _ _ h9 => h9.elim) rfl
        exact zz_iret C E dX4_actLine_215 hw
  · refine zz_aload_n C dX4_actLine_174 rfl 1 rfl ?_
    refine zz_iconst (v := (5 : Int32)) C dX4_actLine_175 (by decide) ?_
    refine zz_aload_n C dX4_actLine_176 rfl 1 rfl ?_
    refine zz_getI C dX4_actLine_177 (Or.inl q2446) zf_16_10_ebateHallModel hw (fun x80 hw => ?_)
    obtain ⟨a9, t9, b9, fs9, hro, hL, rfl, hw⟩ := ztyS hw
    refine zz_callV (r := (zR_16, zT_16, 24)) (As := [.int (5 : Int32), .int x80]) (rest := []) (mc := 0) (ms := 0) C hR hro dX4_actLine_180 (Or.inl q2630) q2632 (Or.inl qs47) zl_DebateHallModel zk_X4_fail (Or.inl rfl) zy_X4_fail rfl (by decide) (by decide) hL (ok_X4_fail (zz_hl C) hw) (Nat.zero_le _) (Nat.zero_le _) (zz_cat10 _ (Nat.le_of_ble_eq_true rfl)) (fun r81 M82 hw => zz_kI hw (fun x85 hw => ?_)) (fun _ _ _ h9 => h9.elim) rfl
    exact zz_iret C E dX4_actLine_183 hw
theorem ok_X4_actLine {Z : zzG} {l : Launch} (hl : l.stackTraces = false) {this : Option Nat} {p0 : Int32} {M : zzM} {mc ms : Nat} {K : Option Value → zzM → Prop} (hw : wp_X4_actLine Z this p0 M K) : zz_Met Z l yX4_actLine (zz_ws yX4_actLine cX4_actLine 9 (some .int) none) 69 [va_rf this, .int p0] M mc ms K (fun _ _ _ => False) := by
  refine zz_ofW hl (plainFor_of_name (by decide)) (by simp only [zz_sl0, zz_slI, zz_slJ, zz_slA] <;> decide) (fun G hZ hll C E hH hR hin => ?_)
  subst hZ
  subst hll
  rw [show lv_args 0 [va_rf this, .int p0] = [(0, va_rf this), (1, .int p0)] by simp only [zz_la0, zz_laI, zz_laJ, zz_laA]]
  unfold wp_X4_actLine at hw
  refine zz_aload_n C dX4_actLine_0 rfl 0 rfl ?_
  refine zz_getI C dX4_actLine_1 (Or.inl q2446) zf_16_10_ebateHallModel hw (fun x1 hw => ?_)
  refine zz_iconst (v := (1 : Int32)) C dX4_actLine_4 (by decide) ?_
  refine zz_iadd C dX4_actLine_5 ?_
  refine zz_istore_n (i := 2) (lv' := [(2, .int (x1 + (1 : Int32))), (0, va_rf this), (1, .int p0)]) C dX4_actLine_6 rfl (by decide) rfl ?_
  refine zz_aload_n C dX4_actLine_7 rfl 1 rfl ?_
  refine zz_iload_n C dX4_actLine_8 rfl 0 rfl ?_
  obtain ⟨a9, t9, b9, fs9, hro, hL, rfl, hw⟩ := ztyS hw
  refine zz_callV (r := (zR_16, zT_16, 24)) (As := [.int (x1 + (1 : Int32))]) (rest := []) (mc := 0) (ms := 0) C hR hro dX4_actLine_9 (Or.inl q2660) q2662 (Or.inl qs52) zl_DebateHallModel zk_X4_newName (Or.inl rfl) zy_X4_newName rfl (by decide) (by decide) hL (ok_X4_newName (zz_hl C) hw) (Nat.zero_le _) (Nat.zero_le _) (zz_cat10 _ (Nat.le_of_ble_eq_true rfl)) (fun r2 M3 hw => zz_kI hw (fun x6 hw => ?_)) (fun _ _ _ h9 => h9.elim) rfl
  refine zz_istore_n (i := 3) (lv' := [(3, .int x6), (2, .int (x1 + (1 : Int32))), (0, va_rf this), (1, .int p0)]) C dX4_actLine_12 rfl (by decide) rfl ?_
  refine zz_iload_n C dX4_actLine_13 rfl 0 rfl ?_
  refine zz_if_le (tgt := 19) C dX4_actLine_14 (by decide) hw (fun hw => ?_) (fun hw => ?_)
  · refine zz_aload_n C dX4_actLine_19 rfl 2 rfl ?_
    refine zz_getA C dX4_actLine_20 (Or.inl q2447) zf_16_11_ebateHallModel hw (fun x7 hw => ?_)
    refine zz_aload_n C dX4_actLine_23 rfl 2 rfl ?_
    refine zz_getA C dX4_actLine_24 (Or.inl q2445) zf_16_9_ebateHallModel hw (fun x8 hw => ?_)
    refine zz_aload_n C dX4_actLine_27 rfl 2 rfl ?_
    refine zz_getI C dX4_actLine_28 (Or.inl q2446) zf_16_10_ebateHallModel hw (fun x9 hw => ?_)
    refine zz_iconst (v := (3 : Int32)) C dX4_actLine_31 (by decide) ?_
    refine zz_iadd C dX4_actLine_32 ?_
    refine zz_lald C dX4_actLine_33 hw (fun x10 hw => ?_)
    obtain ⟨a9, t9, b9, fs9, hro, hL, rfl, hw⟩ := ztyS hw
    refine zz_callV (r := (zR_17, zT_17, 12)) (As := [.long x10]) (rest := []) (mc := 0) (ms := 0) C hR hro dX4_actLine_34 (Or.inl q2664) q2665 (Or.inl q2666) zl_DebateHallModel_State zk_X5_itemOf (Or.inl rfl) zy_X5_itemOf rfl (by decide) (by decide) hL (ok_X5_itemOf (zz_hl C) hw) (Nat.zero_le _) (Nat.zero_le _) (zz_cat10 _ (Nat.le_of_ble_eq_true rfl)) (fun r11 M12 hw => zz_kI hw (fun x15 hw => ?_)) (fun _ _ _ h9 => h9.elim) rfl
    refine zz_istore (lv' := [(4, .int x15), (3, .int x6), (2, .int (x1 + (1 : Int32))), (0, va_rf this), (1, .int p0)]) C dX4_actLine_37 (by decide) rfl ?_
    refine zz_iload C dX4_actLine_39 0 rfl ?_
    refine zz_iconst (v := (-1 : Int32)) C dX4_actLine_41 (by decide) ?_
    refine zz_icmp_eq (tgt := 58) C dX4_actLine_42 (by decide) hw (fun hw => ?_) (fun hw => ?_)
    · refine zz_subP [3] rfl ?_
      exact ok_X4_actLine_B58 C E hH hR hw
    · refine zz_aload_n C dX4_actLine_45 rfl 3 rfl ?_
      refine zz_getA C dX4_actLine_46 (Or.inl q2447) zf_16_11_ebateHallModel hw (fun x16 hw => ?_)
      refine zz_getA C dX4_actLine_49 (Or.inr ⟨_, q2398⟩) zf_17_5_allModel_State hw (fun x17 hw => ?_)
      refine zz_iload C dX4_actLine_52 0 rfl ?_
      refine zz_iald C dX4_actLine_54 hw (fun x18 hw => ?_)
      refine zz_if_eq (tgt := 70) C dX4_actLine_55 (by decide) hw (fun hw => ?_) (fun hw => ?_)
      · refine zz_aload_n C dX4_actLine_70 rfl 3 rfl ?_
        refine zz_getA C dX4_actLine_71 (Or.inl q2447) zf_16_11_ebateHallModel hw (fun x19 hw => ?_)
        refine zz_aload_n C dX4_actLine_74 rfl 3 rfl ?_
        refine zz_getA C dX4_actLine_75 (Or.inl q2445) zf_16_9_ebateHallModel hw (fun x20 hw => ?_)
        refine zz_aload_n C dX4_actLine_78 rfl 3 rfl ?_
        refine zz_getI C dX4_actLine_79 (Or.inl q2446) zf_16_10_ebateHallModel hw (fun x21 hw => ?_)
        refine zz_iconst (v := (5 : Int32)) C dX4_actLine_82 (by decide) ?_
        refine zz_iadd C dX4_actLine_83 ?_
        refine zz_lald C dX4_actLine_84 hw (fun x22 hw => ?_)
        obtain ⟨a9, t9, b9, fs9, hro, hL, rfl, hw⟩ := ztyS hw
        refine zz_callV (r := (zR_17, zT_17, 12)) (As := [.long x22]) (rest := []) (mc := 0) (ms := 0) C hR hro dX4_actLine_85 (Or.inl q2664) q2665 (Or.inl q2666) zl_DebateHallModel_State zk_X5_itemOf (Or.inl rfl) zy_X5_itemOf rfl (by decide) (by decide) hL (ok_X5_itemOf (zz_hl C) hw) (Nat.zero_le _) (Nat.zero_le _) (zz_cat10 _ (Nat.le_of_ble_eq_true rfl)) (fun r23 M24 hw => zz_kI hw (fun x27 hw => ?_)) (fun _ _ _ h9 => h9.elim) rfl
        refine zz_istore (lv' := [(5, .int x27), (4, .int x15), (3, .int x6), (2, .int (x1 + (1 : Int32))), (0, va_rf this), (1, .int p0)]) C dX4_actLine_88 (by decide) rfl ?_
        refine zz_iload C dX4_actLine_90 0 rfl ?_
        refine zz_iconst (v := (-1 : Int32)) C dX4_actLine_92 (by decide) ?_
        refine zz_icmp_ne (tgt := 108) C dX4_actLine_93 (by decide) hw (fun hw => ?_) (fun hw => ?_)
        · refine zz_iload_n C dX4_actLine_108 rfl 5 rfl ?_
          refine zz_iconst (v := (1 : Int32)) C dX4_actLine_109 (by decide) ?_
          refine zz_icmp_ne (tgt := 149) C dX4_actLine_110 (by decide) hw (fun hw => ?_) (fun hw => ?_)
          · refine zz_subP [4, 5, 3, 1, 0] rfl ?_
            exact ok_X4_actLine_B149 C E hH hR hw
          · refine zz_aload_n C dX4_actLine_113 rfl 4 rfl ?_
            refine zz_getA C dX4_actLine_114 (Or.inl q2447) zf_16_11_ebateHallModel hw (fun x28 hw => ?_)
            refine zz_getA C dX4_actLine_117 (Or.inr ⟨_, q2400⟩) zf_17_6_allModel_State hw (fun x29 hw => ?_)
            refine zz_iload C dX4_actLine_120 0 rfl ?_
            refine zz_iald C dX4_actLine_122 hw (fun x30 hw => ?_)
            refine zz_aload_n C dX4_actLine_123 rfl 4 rfl ?_
            refine zz_getA C dX4_actLine_124 (Or.inl q2447) zf_16_11_ebateHallModel hw (fun x31 hw => ?_)
            refine zz_getA C dX4_actLine_127 (Or.inr ⟨_, q2400⟩) zf_17_6_allModel_State hw (fun x32 hw => ?_)
            refine zz_iload C dX4_actLine_130 1 rfl ?_
            refine zz_iald C dX4_actLine_132 hw (fun x33 hw => ?_)
            refine zz_icmp_ne (tgt := 149) C dX4_actLine_133 (by decide) hw (fun hw => ?_) (fun hw => ?_)
            · refine zz_subP [4, 5, 3, 1, 0] rfl ?_
              exact ok_X4_actLine_B149 C E hH hR hw
            · refine zz_aload_n C dX4_actLine_136 rfl 4 rfl ?_
              refine zz_bipush (v := (6 : Int32)) C dX4_actLine_137 (by decide) ?_
              refine zz_aload_n C dX4_actLine_139 rfl 4 rfl ?_
              refine zz_getI C dX4_actLine_140 (Or.inl q2446) zf_16_10_ebateHallModel hw (fun x34 hw => ?_)
              refine zz_iconst (v := (5 : Int32)) C dX4_actLine_143 (by decide) ?_
              refine zz_iadd C dX4_actLine_144 ?_
              obtain ⟨a9, t9, b9, fs9, hro, hL, rfl, hw⟩ := ztyS hw
              refine zz_callV (r := (zR_16, zT_16, 24)) (As := [.int (6 : Int32), .int (x34 + (5 : Int32))]) (rest := []) (mc := 0) (ms := 0) C hR hro dX4_actLine_145 (Or.inl q2630) q2632 (Or.inl qs47) zl_DebateHallModel zk_X4_fail (Or.inl rfl) zy_X4_fail rfl (by decide) (by decide) hL (ok_X4_fail (zz_hl C) hw) (Nat.zero_le _) (Nat.zero_le _) (zz_cat10 _ (Nat.le_of_ble_eq_true rfl)) (fun r35 M36 hw => zz_kI hw (fun x39 hw => ?_)) (fun _ _ _ h9 => h9.elim) rfl
              exact zz_iret C E dX4_actLine_148 hw
        · refine zz_aload_n C dX4_actLine_96 rfl 4 rfl ?_
          refine zz_iconst (v := (3 : Int32)) C dX4_actLine_97 (by decide) ?_
          refine zz_aload_n C dX4_actLine_98 rfl 4 rfl ?_
          refine zz_getI C dX4_actLine_99 (Or.inl q2446) zf_16_10_ebateHallModel hw (fun x40 hw => ?_)
          refine zz_iconst (v := (5 : Int32)) C dX4_actLine_102 (by decide) ?_
          refine zz_iadd C dX4_actLine_103 ?_
          obtain ⟨a9, t9, b9, fs9, hro, hL, rfl, hw⟩ := ztyS hw
          refine zz_callV (r := (zR_16, zT_16, 24)) (As := [.int (3 : Int32), .int (x40 + (5 : Int32))]) (rest := []) (mc := 0) (ms := 0) C hR hro dX4_actLine_104 (Or.inl q2630) q2632 (Or.inl qs47) zl_DebateHallModel zk_X4_fail (Or.inl rfl) zy_X4_fail rfl (by decide) (by decide) hL (ok_X4_fail (zz_hl C) hw) (Nat.zero_le _) (Nat.zero_le _) (zz_cat10 _ (Nat.le_of_ble_eq_true rfl)) (fun r41 M42 hw => zz_kI hw (fun x45 hw => ?_)) (fun _ _ _ h9 => h9.elim) rfl
          exact zz_iret C E dX4_actLine_107 hw
      · refine zz_subP [3] rfl ?_
        exact ok_X4_actLine_B58 C E hH hR hw
  · refine zz_iload_n C dX4_actLine_17 rfl 0 rfl ?_
    exact zz_iret C E dX4_actLine_18 hw
abbrev cX4_concedeLine : ByteArray := prog_25_method_41_code
def yX4_concedeLine : MethodName := ⟨"DebateHallModel", "concedeLine", "(I)I"⟩
def dkwX4_concedeLine_4 : List UInt8 := [27, 79, 21, 4, 172]
abbrev dktX4_concedeLine_4 : List UInt8 := dkwX4_concedeLine_4 ++ []
def dkwX4_concedeLine_3 : List UInt8 := [180, 0, 121, 29, 46, 5, 182, 1, 21, 54, 4, 21, 4, 154, 0, 13, 42, 180, 0, 48, 180, 0, 98, 29]
abbrev dktX4_concedeLine_3 : List UInt8 := dkwX4_concedeLine_3 ++ dktX4_concedeLine_4
def dkwX4_concedeLine_2 : List UInt8 := [16, 6, 28, 182, 0, 255, 172, 42, 89, 180, 0, 168, 5, 96, 181, 0, 168, 42, 42, 180, 0, 48]
abbrev dktX4_concedeLine_2 : List UInt8 := dkwX4_concedeLine_2 ++ dktX4_concedeLine_3
def dkwX4_concedeLine_1 : List UInt8 := [160, 0, 10, 42, 6, 28, 182, 0, 255, 172, 42, 180, 0, 48, 180, 0, 98, 29, 46, 27, 160, 0, 11, 42]
abbrev dktX4_concedeLine_1 : List UInt8 := dkwX4_concedeLine_1 ++ dktX4_concedeLine_2
def dkwX4_concedeLine_0 : List UInt8 := [42, 180, 0, 168, 4, 96, 61, 42, 180, 0, 48, 42, 180, 0, 40, 28, 47, 182, 1, 10, 62, 29, 2]
abbrev dktX4_concedeLine_0 : List UInt8 := dkwX4_concedeLine_0 ++ dktX4_concedeLine_1
theorem dksX4_concedeLine_0 : cX4_concedeLine.data.toList.drop 0 = dktX4_concedeLine_0 := by decide +kernel
theorem dksX4_concedeLine_1 : cX4_concedeLine.data.toList.drop 23 = dktX4_concedeLine_1 := dk_seg dksX4_concedeLine_0 23 rfl rfl
theorem dksX4_concedeLine_2 : cX4_concedeLine.data.toList.drop 47 = dktX4_concedeLine_2 := dk_seg dksX4_concedeLine_1 24 rfl rfl
theorem dksX4_concedeLine_3 : cX4_concedeLine.data.toList.drop 69 = dktX4_concedeLine_3 := dk_seg dksX4_concedeLine_2 22 rfl rfl
theorem dksX4_concedeLine_4 : cX4_concedeLine.data.toList.drop 93 = dktX4_concedeLine_4 := dk_seg dksX4_concedeLine_3 24 rfl rfl
theorem dX4_concedeLine_0 : decode cX4_concedeLine 0 = .ok (.aload_n 0, 1) := dk_42 (dk_at dksX4_concedeLine_0 0 rfl rfl)
theorem dX4_concedeLine_1 : decode cX4_concedeLine 1 = .ok (.getfield 168, 3) := dk_180 0 168 (dk_at dksX4_concedeLine_0 1 rfl rfl)
theorem dX4_concedeLine_4 : decode cX4_concedeLine 4 = .ok (.iconst 1, 1) := dk_4 (dk_at dksX4_concedeLine_0 4 rfl rfl)
theorem dX4_concedeLine_5 : decode cX4_concedeLine 5 = .ok (.iadd, 1) := dk_96 (dk_at dksX4_concedeLine_0 5 rfl rfl)
theorem dX4_concedeLine_6 : decode cX4_concedeLine 6 = .ok (.istore_n 2, 1) := dk_61 (dk_at dksX4_concedeLine_0 6 rfl rfl)
theorem dX4_concedeLine_7 : decode cX4_concedeLine 7 = .ok (.aload_n 0, 1) := dk_42 (dk_at dksX4_concedeLine_0 7 rfl rfl)
theorem dX4_concedeLine_8 : decode cX4_concedeLine 8 = .ok (.getfield 48, 3) := dk_180 0 48 (dk_at dksX4_concedeLine_0 8 rfl rfl)
theorem dX4_concedeLine_11 : decode cX4_concedeLine 11 = .ok (.aload_n 0, 1) := dk_42 (dk_at dksX4_concedeLine_0 11 rfl rfl)
theorem dX4_concedeLine_12 : decode cX4_concedeLine 12 = .ok (.getfield 40, 3) := dk_180 0 40 (dk_at dksX4_concedeLine_0 12 rfl rfl)
theorem dX4_concedeLine_15 : decode cX4_concedeLine 15 = .ok (.iload_n 2, 1) := dk_28 (dk_at dksX4_concedeLine_0 15 rfl rfl)
theorem dX4_concedeLine_16 : decode cX4_concedeLine 16 = .ok (.laload, 1) := dk_47 (dk_at dksX4_concedeLine_0 16 rfl rfl)
theorem dX4_concedeLine_17 : decode cX4_concedeLine 17 = .ok (.invokevirtual 266, 3) := dk_182 1 10 (dk_at dksX4_concedeLine_0 17 rfl rfl)
theorem dX4_concedeLine_20 : decode cX4_concedeLine 20 = .ok (.istore_n 3, 1) := dk_62 (dk_at dksX4_concedeLine_0 20 rfl rfl)
theorem dX4_concedeLine_21 : decode cX4_concedeLine 21 = .ok (.iload_n 3, 1) := dk_29 (dk_at dksX4_concedeLine_0 21 rfl rfl)
theorem dX4_concedeLine_22 : decode cX4_concedeLine 22 = .ok (.iconst (-1), 1) := dk_2 (dk_at dksX4_concedeLine_0 22 rfl rfl)
theorem dX4_concedeLine_23 : decode cX4_concedeLine 23 = .ok (.if_icmp .ne 10, 3) := dk_160 0 10 (dk_at dksX4_concedeLine_1 0 rfl rfl)
theorem dX4_concedeLine_26 : decode cX4_concedeLine 26 = .ok (.aload_n 0, 1) := dk_42 (dk_at dksX4_concedeLine_1 3 rfl rfl)
theorem dX4_concedeLine_27 : decode cX4_concedeLine 27 = .ok (.iconst 3, 1) := dk_6 (dk_at dksX4_concedeLine_1 4 rfl rfl)
theorem dX4_concedeLine_28 : decode cX4_concedeLine 28 = .ok (.iload_n 2, 1) := dk_28 (dk_at dksX4_concedeLine_1 5 rfl rfl)
theorem dX4_concedeLine_29 : decode cX4_concedeLine 29 = .ok (.invokevirtual 255, 3) := dk_182 0 255 (dk_at dksX4_concedeLine_1 6 rfl rfl)
theorem dX4_concedeLine_32 : decode cX4_concedeLine 32 = .ok (.ireturn, 1) := dk_172 (dk_at dksX4_concedeLine_1 9 rfl rfl)
theorem dX4_concedeLine_33 : decode cX4_concedeLine 33 = .ok (.aload_n 0, 1) := dk_42 (dk_at dksX4_concedeLine_1 10 rfl rfl)
theorem dX4_concedeLine_34 : decode cX4_concedeLine 34 = .ok (.getfield 48, 3) := dk_180 0 48 (dk_at dksX4_concedeLine_1 11 rfl rfl)
theorem dX4_concedeLine_37 : decode cX4_concedeLine 37 = .ok (.getfield 98, 3) := dk_180 0 98 (dk_at dksX4_concedeLine_1 14 rfl rfl)
theorem dX4_concedeLine_40 : decode cX4_concedeLine 40 = .ok (.iload_n 3, 1) := dk_29 (dk_at dksX4_concedeLine_1 17 rfl rfl)
theorem dX4_concedeLine_41 : decode cX4_concedeLine 41 = .ok (.iaload, 1) := dk_46 (dk_at dksX4_concedeLine_1 18 rfl rfl)
theorem dX4_concedeLine_42 : decode cX4_concedeLine 42 = .ok (.iload_n 1, 1) := dk_27 (dk_at dksX4_concedeLine_1 19 rfl rfl)
theorem dX4_concedeLine_43 : decode cX4_concedeLine 43 = .ok (.if_icmp .ne 11, 3) := dk_160 0 11 (dk_at dksX4_concedeLine_1 20 rfl rfl)
theorem dX4_concedeLine_46 : decode cX4_concedeLine 46 = .ok (.aload_n 0, 1) := dk_42 (dk_at dksX4_concedeLine_1 23 rfl rfl)
theorem dX4_concedeLine_47 : decode cX4_concedeLine 47 = .ok (.bipush 6, 2) := dk_16 6 (dk_at dksX4_concedeLine_2 0 rfl rfl)
theorem dX4_concedeLine_49 : decode cX4_concedeLine 49 = .ok (.iload_n 2, 1) := dk_28 (dk_at dksX4_concedeLine_2 2 rfl rfl)
theorem dX4_concedeLine_50 : decode cX4_concedeLine 50 = .ok (.invokevirtual 255, 3) := dk_182 0 255 (dk_at dksX4_concedeLine_2 3 rfl rfl)
theorem dX4_concedeLine_53 : decode cX4_concedeLine 53 = .ok (.ireturn, 1) := dk_172 (dk_at dksX4_concedeLine_2 6 rfl rfl)
theorem dX4_concedeLine_54 : decode cX4_concedeLine 54 = .ok (.aload_n 0, 1) := dk_42 (dk_at dksX4_concedeLine_2 7 rfl rfl)
theorem dX4_concedeLine_55 : decode cX4_concedeLine 55 = .ok (.dup, 1) := dk_89 (dk_at dksX4_concedeLine_2 8 rfl rfl)
theorem dX4_concedeLine_56 : decode cX4_concedeLine 56 = .ok (.getfield 168, 3) := dk_180 0 168 (dk_at dksX4_concedeLine_2 9 rfl rfl)
theorem dX4_concedeLine_59 : decode cX4_concedeLine 59 = .ok (.iconst 2, 1) := dk_5 (dk_at dksX4_concedeLine_2 12 rfl rfl)
theorem dX4_concedeLine_60 : decode cX4_concedeLine 60 = .ok (.iadd, 1) := dk_96 (dk_at dksX4_concedeLine_2 13 rfl rfl)
theorem dX4_concedeLine_61 : decode cX4_concedeLine 61 = .ok (.putfield 168, 3) := dk_181 0 168 (dk_at dksX4_concedeLine_2 14 rfl rfl)
theorem dX4_concedeLine_64 : decode cX4_concedeLine 64 = .ok (.aload_n 0, 1) := dk_42 (dk_at dksX4_concedeLine_2 17 rfl rfl)
theorem dX4_concedeLine_65 : decode cX4_concedeLine 65 = .ok (.aload_n 0, 1) := dk_42 (dk_at dksX4_concedeLine_2 18 rfl rfl)
theorem dX4_concedeLine_66 : decode cX4_concedeLine 66 = .ok (.getfield 48, 3) := dk_180 0 48 (dk_at dksX4_concedeLine_2 19 rfl rfl)
theorem dX4_concedeLine_69 : decode cX4_concedeLine 69 = .ok (.getfield 121, 3) := dk_180 0 121 (dk_at dksX4_concedeLine_3 0 rfl rfl)
theorem dX4_concedeLine_72 : decode cX4_concedeLine 72 = .ok (.iload_n 3, 1) := dk_29 (dk_at dksX4_concedeLine_3 3 rfl rfl)
theorem dX4_concedeLine_73 : decode cX4_concedeLine 73 = .ok (.iaload, 1) := dk_46 (dk_at dksX4_concedeLine_3 4 rfl rfl)
theorem dX4_concedeLine_74 : decode cX4_concedeLine 74 = .ok (.iconst 2, 1) := dk_5 (dk_at dksX4_concedeLine_3 5 rfl rfl)
theorem dX4_concedeLine_75 : decode cX4_concedeLine 75 = .ok (.invokevirtual 277, 3) := dk_182 1 21 (dk_at dksX4_concedeLine_3 6 rfl rfl)
theorem dX4_concedeLine_78 : decode cX4_concedeLine 78 = .ok (.istore 4, 2) := dk_54 4 (dk_at dksX4_concedeLine_3 9 rfl rfl)
theorem dX4_concedeLine_80 : decode cX4_concedeLine 80 = .ok (.iload 4, 2) := dk_21 4 (dk_at dksX4_concedeLine_3 11 rfl rfl)
theorem dX4_concedeLine_82 : decode cX4_concedeLine 82 = .ok (.ifCond .ne 13, 3) := dk_154 0 13 (dk_at dksX4_concedeLine_3 13 rfl rfl)
theorem dX4_concedeLine_85 : decode cX4_concedeLine 85 = .ok (.aload_n 0, 1) := dk_42 (dk_at dksX4_concedeLine_3 16 rfl rfl)
theorem dX4_concedeLine_86 : decode cX4_concedeLine 86 = .ok (.getfield 48, 3) := dk_180 0 48 (dk_at dksX4_concedeLine_3 17 rfl rfl)
theorem dX4_concedeLine_89 : decode cX4_concedeLine 89 = .ok (.getfield 98, 3) := dk_180 0 98 (dk_at dksX4_concedeLine_3 20 rfl rfl)
theorem dX4_concedeLine_92 : decode cX4_concedeLine 92 = .ok (.iload_n 3, 1) := dk_29 (dk_at dksX4_concedeLine_3 23 rfl rfl)
theorem dX4_concedeLine_93 : decode cX4_concedeLine 93 = .ok (.iload_n 1, 1) := dk_27 (dk_at dksX4_concedeLine_4 0 rfl rfl)
theorem dX4_concedeLine_94 : decode cX4_concedeLine 94 = .ok (.iastore, 1) := dk_79 (dk_at dksX4_concedeLine_4 1 rfl rfl)
theorem dX4_concedeLine_95 : decode cX4_concedeLine 95 = .ok (.iload 4, 2) := dk_21 4 (dk_at dksX4_concedeLine_4 2 rfl rfl)
theorem dX4_concedeLine_97 : decode cX4_concedeLine 97 = .ok (.ireturn, 1) := dk_172 (dk_at dksX4_concedeLine_4 4 rfl rfl)
def wp_X4_concedeLine_B95 (Z : zzG) (K : Option Value → zzM → Prop) (v4 : Int32) (M : zzM) : Prop := K (some (.int v4)) M
def wp_X4_concedeLine (Z : zzG) (this : Option Nat) (p0 : Int32) (M : zzM) (K : Option Value → zzM → Prop) : Prop := zgI Z M this [16] 10 fun x1 => zgA Z M this [16] 11 fun x2 => zgA Z M this [16] 9 fun x3 => zaJ Z M x3 [102] (x1 + (1 : Int32)) fun x4 => zty Z M x2 fun t => t = 17 ∧ wp_X5_itemOf Z x2 x4 M (fun r5 M6 => zrI r5 fun x9 => if x9 = (-1 : Int32) then (zty Z M6 this fun t => t = 16 ∧ wp_X4_fail Z this (3 : Int32) (x1 + (1 : Int32)) M6 (fun r31 M32 => zrI r31 fun x35 => K (some (.int x35)) M32)) else (zgA Z M6 this [16] 11 fun x10 => zgA Z M6 x10 [17] 10 fun x11 => zaI Z M6 x11 [100] x9 fun x12 => if x12 = p0 then (zty Z M6 this fun t => t = 16 ∧ wp_X4_fail Z this (6 : Int32) (x1 + (1 : Int32)) M6 (fun r26 M27 => zrI r26 fun x30 => K (some (.int x30)) M27)) else (zgI Z M6 this [16] 10 fun x13 => zput Z M6 this [16] 10 (.int (x13 + (2 : Int32))) fun M14 => zgA Z M14 this [16] 11 fun x15 => zgA Z M14 x15 [17] 6 fun x16 => zaI Z M14 x16 [100] x9 fun x17 => zty Z M14 this fun t => t = 16 ∧ wp_X4_take Z this x17 (2 : Int32) M14 (fun r18 M19 => zrI r18 fun x22 => if x22 = 0 then (zgA Z M19 this [16] 11 fun x23 => zgA Z M19 x23 [17] 10 fun x24 => zast Z M19 x24 [100] x9 (.int p0) fun M25 => wp_X4_concedeLine_B95 Z K x22 M25) else (wp_X4_concedeLine_B95 Z K x22 M19)))))
theorem ok_X4_concedeLine_B95 {G : zzX} (C : zz_C G cX4_concedeLine "DebateHallModel" 5) {K : Option Value → zzM → Prop} (E : zz_E G (some .int) K (fun _ _ _ => False)) (hH : zz_H G []) (hR : zz_Rm G 3) {v4 : Int32} {M : zzM} {bc bs : Nat} (hw : wp_X4_concedeLine_B95 (zz_Zof G) K v4 M) : zz_T G 5 M bc bs 95 [(4, .int v4)] [] := by
  unfold wp_X4_concedeLine_B95 at hw
  refine zz_iload C dX4_concedeLine_95 0 rfl ?_
  exact zz_iret C E dX4_concedeLine_97 hw
theorem ok_X4_concedeLine {Z : zzG} {l : Launch} (hl : l.stackTraces = false) {this : Option Nat} {p0 : Int32} {M : zzM} {mc ms : Nat} {K : Option Value → zzM → Prop} (hw : wp_X4_concedeLine Z this p0 M K) : zz_Met Z l yX4_concedeLine (zz_ws yX4_concedeLine cX4_concedeLine 5 (some .int) none) 3 [va_rf this, .int p0] M mc ms K (fun _ _ _ => False) := by
  refine zz_ofW hl (plainFor_of_name (by decide)) (by simp only [zz_sl0, zz_slI, zz_slJ, zz_slA] <;> decide) (fun G hZ hll C E hH hR hin => ?_)
  subst hZ
  subst hll
  rw [show lv_args 0 [va_rf this, .int p0] = [(0, va_rf this), (1, .int p0)] by simp only [zz_la0, zz_laI, zz_laJ, zz_laA]]
  unfold wp_X4_concedeLine at hw
  refine zz_aload_n C dX4_concedeLine_0 rfl 0 rfl ?_
  refine zz_getI C dX4_concedeLine_1 (Or.inl q2446) zf_16_10_ebateHallModel hw (fun x1 hw => ?_)
  refine zz_iconst (v := (1 : Int32)) C dX4_concedeLine_4 (by decide) ?_
  refine zz_iadd C dX4_concedeLine_5 ?_
  refine zz_istore_n (i := 2) (lv' := [(2, .int (x1 + (1 : Int32))), (0, va_rf this), (1, .int p0)]) C dX4_concedeLine_6 rfl (by decide) rfl ?_
  refine zz_aload_n C dX4_concedeLine_7 rfl 1 rfl ?_
  refine zz_getA C dX4_concedeLine_8 (Or.inl q2447) zf_16_11_ebateHallModel hw (fun x2 hw => ?_)
  refine zz_aload_n C dX4_concedeLine_11 rfl 1 rfl ?_
  refine zz_getA C dX4_concedeLine_12 (Or.inl q2445) zf_16_9_ebateHallModel hw (fun x3 hw => ?_)
  refine zz_iload_n C dX4_concedeLine_15 rfl 0 rfl ?_
  refine zz_lald C dX4_concedeLine_16 hw (fun x4 hw => ?_)
  obtain ⟨a9, t9, b9, fs9, hro, hL, rfl, hw⟩ := ztyS hw
  refine zz_callV (r := (zR_17, zT_17, 12)) (As := [.long x4]) (rest := []) (mc := 0) (ms := 0) C hR hro dX4_concedeLine_17 (Or.inl q2664) q2665 (Or.inl q2666) zl_DebateHallModel_State zk_X5_itemOf (Or.inl rfl) zy_X5_itemOf rfl (by decide) (by decide) hL (ok_X5_itemOf (zz_hl C) hw) (Nat.zero_le _) (Nat.zero_le _) (zz_cat10 _ (Nat.le_of_ble_eq_true rfl)) (fun r5 M6 hw => zz_kI hw (fun x9 hw => ?_)) (fun _ _ _ h9 => h9.elim) rfl
  refine zz_istore_n (i := 3) (lv' := [(3, .int x9), (2, .int (x1 + (1 : Int32))), (0, va_rf this), (1, .int p0)]) C dX4_concedeLine_20 rfl (by decide) rfl ?_
  refine zz_iload_n C dX4_concedeLine_21 rfl 0 rfl ?_
  refine zz_iconst (v := (-1 : Int32)) C dX4_concedeLine_22 (by decide) ?_
  refine zz_icmp_ne (tgt := 33) C dX4_concedeLine_23 (by decide) hw (fun hw => ?_) (fun hw => ?_)
  · refine zz_aload_n C dX4_concedeLine_33 rfl 2 rfl ?_
    refine zz_getA C dX4_concedeLine_34 (Or.inl q2447) zf_16_11_ebateHallModel hw (fun x10 hw => ?_)
    refine zz_getA C dX4_concedeLine_37 (Or.inr ⟨_, q2408⟩) zf_17_10_allModel_State hw (fun x11 hw => ?_)
    refine zz_iload_n C dX4_concedeLine_40 rfl 0 rfl ?_
    refine zz_iald C dX4_concedeLine_41 hw (fun x12 hw => ?_)
    refine zz_iload_n C dX4_concedeLine_42 rfl 3 rfl ?_
    refine zz_icmp_ne (tgt := 54) C dX4_concedeLine_43 (by decide) hw (fun hw => ?_) (fun hw => ?_)
    · refine zz_aload_n C dX4_concedeLine_54 rfl 2 rfl ?_
      refine zz_dup C dX4_concedeLine_55 (zz_cat _) ?_
      refine zz_getI C dX4_concedeLine_56 (Or.inl q2446) zf_16_10_ebateHallModel hw (fun x13 hw => ?_)
      refine zz_iconst (v := (2 : Int32)) C dX4_concedeLine_59 (by decide) ?_
      refine zz_iadd C dX4_concedeLine_60 ?_
      refine zz_put C dX4_concedeLine_61 (Or.inl q2446) zf_16_10_ebateHallModel zp_16_10 (zz_hn1 ⟨rfl, rfl⟩) hw (fun M14 hw => ?_)
      refine zz_aload_n C dX4_concedeLine_64 rfl 2 rfl ?_
      refine zz_aload_n C dX4_concedeLine_65 rfl 2 rfl ?_
      refine zz_getA C dX4_concedeLine_66 (Or.inl q2447) zf_16_11_ebateHallModel hw (fun x15 hw => ?_)
      refine zz_getA C dX4_concedeLine_69 (Or.inr ⟨_, q2400⟩) zf_17_6_allModel_State hw (fun x16 hw => ?_)
      refine zz_iload_n C dX4_concedeLine_72 rfl 0 rfl ?_
      refine zz_iald C dX4_concedeLine_73 hw (fun x17 hw => ?_)
      refine zz_iconst (v := (2 : Int32)) C dX4_concedeLine_74 (by decide) ?_
      obtain ⟨a9, t9, b9, fs9, hro, hL, rfl, hw⟩ := ztyS hw
      refine zz_callV (r := (zR_16, zT_16, 24)) (As := [.int x17, .int (2 : Int32)]) (rest := []) (mc := 0) (ms := 0) C hR hro dX4_concedeLine_75 (Or.inl q2672) q2674 (Or.inl qs54) zl_DebateHallModel zk_X4_take (Or.inl rfl) zy_X4_take rfl (by decide) (by decide) hL (ok_X4_take (zz_hl C) hw) (Nat.zero_le _) (Nat.zero_le _) (zz_cat10 _ (Nat.le_of_ble_eq_true rfl)) (fun r18 M19 hw => zz_kI hw (fun x22 hw => ?_)) (fun _ _ _ h9 => h9.elim) rfl
      refine zz_istore (lv' := [(4, .int x22), (3, .int x9), (2, .int (x1 + (1 : Int32))), (0, va_rf this), (1, .int p0)]) C dX4_concedeLine_78 (by decide) rfl ?_
      refine zz_iload C dX4_concedeLine_80 0 rfl ?_
      refine zz_if_ne (tgt := 95) C dX4_concedeLine_82 (by decide) hw (fun hw => ?_) (fun hw => ?_)
      · refine zz_subP [0] rfl ?_
        exact ok_X4_concedeLine_B95 C E hH hR hw
      · refine zz_aload_n C dX4_concedeLine_85 rfl 3 rfl ?_
        refine zz_getA C dX4_concedeLine_86 (Or.inl q2447) zf_16_11_ebateHallModel hw (fun x23 hw => ?_)
        refine zz_getA C dX4_concedeLine_89 (Or.inr ⟨_, q2408⟩) zf_17_10_allModel_State hw (fun x24 hw => ?_)
        refine zz_iload_n C dX4_concedeLine_92 rfl 1 rfl ?_
        refine zz_iload_n C dX4_concedeLine_93 rfl 4 rfl ?_
        refine zz_iast C dX4_concedeLine_94 hw (fun M25 hw => ?_)
        refine zz_subP [0] rfl ?_
        exact ok_X4_concedeLine_B95 C E hH hR hw
    · refine zz_aload_n C dX4_concedeLine_46 rfl 2 rfl ?_
      refine zz_bipush (v := (6 : Int32)) C dX4_concedeLine_47 (by decide) ?_
      refine zz_iload_n C dX4_concedeLine_49 rfl 1 rfl ?_
      obtain ⟨a9, t9, b9, fs9, hro, hL, rfl, hw⟩ := ztyS hw
      refine zz_callV (r := (zR_16, zT_16, 24)) (As := [.int (6 : Int32), .int (x1 + (1 : Int32))]) (rest := []) (mc := 0) (ms := 0) C hR hro dX4_concedeLine_50 (Or.inl q2630) q2632 (Or.inl qs47) zl_DebateHallModel zk_X4_fail (Or.inl rfl) zy_X4_fail rfl (by decide) (by decide) hL (ok_X4_fail (zz_hl C) hw) (Nat.zero_le _) (Nat.zero_le _) (zz_cat10 _ (Nat.le_of_ble_eq_true rfl)) (fun r26 M27 hw => zz_kI hw (fun x30 hw => ?_)) (fun _ _ _ h9 => h9.elim) rfl
      exact zz_iret C E dX4_concedeLine_53 hw
  · refine zz_aload_n C dX4_concedeLine_26 rfl 2 rfl ?_
    refine zz_iconst (v := (3 : Int32)) C dX4_concedeLine_27 (by decide) ?_
    refine zz_iload_n C dX4_concedeLine_28 rfl 1 rfl ?_
    obtain ⟨a9, t9, b9, fs9, hro, hL, rfl, hw⟩ := ztyS hw
    refine zz_callV (r := (zR_16, zT_16, 24)) (As := [.int (3 : Int32), .int (x1 + (1 : Int32))]) (rest := []) (mc := 0) (ms := 0) C hR hro dX4_concedeLine_29 (Or.inl q2630) q2632 (Or.inl qs47) zl_DebateHallModel zk_X4_fail (Or.inl rfl) zy_X4_fail rfl (by decide) (by decide) hL (ok_X4_fail (zz_hl C) hw) (Nat.zero_le _) (Nat.zero_le _) (zz_cat10 _ (Nat.le_of_ble_eq_true rfl)) (fun r31 M32 hw => zz_kI hw (fun x35 hw => ?_)) (fun _ _ _ h9 => h9.elim) rfl
    exact zz_iret C E dX4_concedeLine_32 hw
