set_option maxRecDepth 100000
abbrev cJ4_comparableClassFor : ByteArray := prog_63_method_2_code
def yJ4_comparableClassFor : MethodName := ⟨"java/util/HashMap", "comparableClassFor", "(Ljava/lang/Object;)Ljava/lang/Class;"⟩
def dkwJ4_comparableClassFor_4 : List UInt8 := [4, 160, 0, 12, 45, 3, 50, 43, 166, 0, 5, 43, 176, 132, 7, 1, 167, 255, 186, 1, 176]
abbrev dktJ4_comparableClassFor_4 : List UInt8 := dkwJ4_comparableClassFor_4 ++ []
def dkwJ4_comparableClassFor_3 : List UInt8 := [185, 0, 23, 1, 0, 18, 7, 166, 0, 30, 25, 4, 185, 0, 27, 1, 0, 89, 78, 198, 0, 18, 45, 190]
abbrev dktJ4_comparableClassFor_3 : List UInt8 := dkwJ4_comparableClassFor_3 ++ dktJ4_comparableClassFor_4
def dkwJ4_comparableClassFor_2 : List UInt8 := [25, 5, 21, 7, 50, 58, 8, 25, 8, 193, 0, 21, 153, 0, 48, 25, 8, 192, 0, 21, 89, 58, 4]
abbrev dktJ4_comparableClassFor_2 : List UInt8 := dkwJ4_comparableClassFor_2 ++ dktJ4_comparableClassFor_3
def dkwJ4_comparableClassFor_1 : List UInt8 := [89, 77, 198, 0, 87, 44, 58, 5, 25, 5, 190, 54, 6, 3, 54, 7, 21, 7, 21, 6, 162, 0, 69]
abbrev dktJ4_comparableClassFor_1 : List UInt8 := dkwJ4_comparableClassFor_1 ++ dktJ4_comparableClassFor_2
def dkwJ4_comparableClassFor_0 : List UInt8 := [42, 193, 0, 7, 153, 0, 109, 42, 182, 0, 9, 89, 76, 18, 13, 166, 0, 5, 43, 176, 43, 182, 0, 15]
abbrev dktJ4_comparableClassFor_0 : List UInt8 := dkwJ4_comparableClassFor_0 ++ dktJ4_comparableClassFor_1
theorem dksJ4_comparableClassFor_0 : cJ4_comparableClassFor.data.toList.drop 0 = dktJ4_comparableClassFor_0 := by decide +kernel
theorem dksJ4_comparableClassFor_1 : cJ4_comparableClassFor.data.toList.drop 24 = dktJ4_comparableClassFor_1 := dk_seg dksJ4_comparableClassFor_0 24 rfl rfl
theorem dksJ4_comparableClassFor_2 : cJ4_comparableClassFor.data.toList.drop 47 = dktJ4_comparableClassFor_2 := dk_seg dksJ4_comparableClassFor_1 23 rfl rfl
theorem dksJ4_comparableClassFor_3 : cJ4_comparableClassFor.data.toList.drop 70 = dktJ4_comparableClassFor_3 := dk_seg dksJ4_comparableClassFor_2 23 rfl rfl
theorem dksJ4_comparableClassFor_4 : cJ4_comparableClassFor.data.toList.drop 94 = dktJ4_comparableClassFor_4 := dk_seg dksJ4_comparableClassFor_3 24 rfl rfl
theorem dJ4_comparableClassFor_0 : decode cJ4_comparableClassFor 0 = .ok (.aload_n 0, 1) := dk_42 (dk_at dksJ4_comparableClassFor_0 0 rfl rfl)
theorem dJ4_comparableClassFor_1 : decode cJ4_comparableClassFor 1 = .ok (.instanceof 7, 3) := dk_193 0 7 (dk_at dksJ4_comparableClassFor_0 1 rfl rfl)
theorem dJ4_comparableClassFor_4 : decode cJ4_comparableClassFor 4 = .ok (.ifCond .eq 109, 3) := dk_153 0 109 (dk_at dksJ4_comparableClassFor_0 4 rfl rfl)
theorem dJ4_comparableClassFor_7 : decode cJ4_comparableClassFor 7 = .ok (.aload_n 0, 1) := dk_42 (dk_at dksJ4_comparableClassFor_0 7 rfl rfl)
theorem dJ4_comparableClassFor_8 : decode cJ4_comparableClassFor 8 = .ok (.invokevirtual 9, 3) := dk_182 0 9 (dk_at dksJ4_comparableClassFor_0 8 rfl rfl)
theorem dJ4_comparableClassFor_11 : decode cJ4_comparableClassFor 11 = .ok (.dup, 1) := dk_89 (dk_at dksJ4_comparableClassFor_0 11 rfl rfl)
theorem dJ4_comparableClassFor_12 : decode cJ4_comparableClassFor 12 = .ok (.astore_n 1, 1) := dk_76 (dk_at dksJ4_comparableClassFor_0 12 rfl rfl)
theorem dJ4_comparableClassFor_13 : decode cJ4_comparableClassFor 13 = .ok (.ldc 13, 2) := dk_18 13 (dk_at dksJ4_comparableClassFor_0 13 rfl rfl)
theorem dJ4_comparableClassFor_15 : decode cJ4_comparableClassFor 15 = .ok (.if_acmp .ne 5, 3) := dk_166 0 5 (dk_at dksJ4_comparableClassFor_0 15 rfl rfl)
theorem dJ4_comparableClassFor_18 : decode cJ4_comparableClassFor 18 = .ok (.aload_n 1, 1) := dk_43 (dk_at dksJ4_comparableClassFor_0 18 rfl rfl)
theorem dJ4_comparableClassFor_19 : decode cJ4_comparableClassFor 19 = .ok (.areturn, 1) := dk_176 (dk_at dksJ4_comparableClassFor_0 19 rfl rfl)
theorem dJ4_comparableClassFor_20 : decode cJ4_comparableClassFor 20 = .ok (.aload_n 1, 1) := dk_43 (dk_at dksJ4_comparableClassFor_0 20 rfl rfl)
theorem dJ4_comparableClassFor_21 : decode cJ4_comparableClassFor 21 = .ok (.invokevirtual 15, 3) := dk_182 0 15 (dk_at dksJ4_comparableClassFor_0 21 rfl rfl)
theorem dJ4_comparableClassFor_113 : decode cJ4_comparableClassFor 113 = .ok (.aconst_null, 1) := dk_1 (dk_at dksJ4_comparableClassFor_4 19 rfl rfl)
theorem dJ4_comparableClassFor_114 : decode cJ4_comparableClassFor 114 = .ok (.areturn, 1) := dk_176 (dk_at dksJ4_comparableClassFor_4 20 rfl rfl)
theorem q1385 : (Jvm.Cond.classLink "java/util/HashMap" (7 : Nat) "java/lang/Comparable") ∈ lw_all := lw_g (lw_at lw_m6 105 rfl) rfl
theorem zc_20_21_30_31_32_33_ang_Comparable : zz_cok [20, 21, 30, 31, 32, 33] "java/lang/Comparable" := by
  intro t ht
  simp only [List.mem_cons, List.not_mem_nil, or_false] at ht
  rcases ht with rfl | rfl | rfl | rfl | rfl | rfl
  · exact ⟨(zR_20, zT_20, 4), rfl, Or.inr q1572⟩
  · exact ⟨(zR_21, zT_21, 4), rfl, Or.inr q1428⟩
  · exact ⟨(zR_30, zT_30, 3), rfl, Or.inr q1395⟩
  · exact ⟨(zR_31, zT_31, 3), rfl, Or.inr q1419⟩
  · exact ⟨(zR_32, zT_32, 3), rfl, Or.inr q1422⟩
  · exact ⟨(zR_33, zT_33, 1), rfl, Or.inr q1425⟩
theorem zn_24_25_ang_Comparable : zz_nok [24, 25] "java/lang/Comparable" := by
  intro t ht
  simp only [List.mem_cons, List.not_mem_nil, or_false] at ht
  rcases ht with rfl | rfl
  · exact ⟨(zR_24, zT_24, 4), rfl, by decide +kernel⟩
  · exact ⟨(zR_25, zT_25, 11), rfl, by decide +kernel⟩
theorem q1386 : (Jvm.Cond.methodLink "java/util/HashMap" (9 : Nat) ({ cls := "java/lang/Object", name := "getClass", desc := "()Ljava/lang/Class;" } : Jvm.MethodName)) ∈ lw_all := lw_g (lw_at lw_m6 106 rfl) rfl
theorem q824 : (Jvm.Cond.selects "java/lang/String" ({ cls := "java/lang/Object", name := "getClass", desc := "()Ljava/lang/Class;" } : Jvm.MethodName) ({ cls := "java/lang/Object", name := "getClass", desc := "()Ljava/lang/Class;" } : Jvm.MethodName)) ∈ lw_all := lw_g (lw_at lw_m4 24 rfl) rfl
theorem q1387 : (Jvm.Cond.classLink "java/util/HashMap" (13 : Nat) "java/lang/String") ∈ lw_all := lw_g (lw_at lw_m6 107 rfl) rfl
def wp_J4_comparableClassFor (Z : zzG) (p0 : Option Nat) (M : zzM) (K : Option Value → zzM → Prop) : Prop := zinst Z M p0 [20, 21, 30, 31, 32, 33] [24, 25] fun x1 => if x1 = 0 then (K (some (va_rf none)) M) else (zty Z M p0 fun t => t = 21 ∧ if (some (zz_ad Z 301)) = (some (zz_ad Z 301)) then (K (some (va_rf (some (zz_ad Z 301)))) M) else (False))
theorem ok_J4_comparableClassFor {Z : zzG} {l : Launch} (hl : l.stackTraces = false) {p0 : Option Nat} {M : zzM} {mc ms : Nat} {K : Option Value → zzM → Prop} (hw : wp_J4_comparableClassFor Z p0 M K) : zz_Met Z l yJ4_comparableClassFor (zz_ws yJ4_comparableClassFor cJ4_comparableClassFor 9 (some (.object "java/lang/Class")) none) 2 [va_rf p0] M mc ms K (fun _ _ _ => False) := by
  refine zz_ofW hl (plainFor_of_name (by decide)) (by simp only [zz_sl0, zz_slI, zz_slJ, zz_slA] <;> decide) (fun G hZ hll C E hH hR hin => ?_)
  subst hZ
  subst hll
  rw [show lv_args 0 [va_rf p0] = [(0, va_rf p0)] by simp only [zz_la0, zz_laI, zz_laJ, zz_laA]]
  unfold wp_J4_comparableClassFor at hw
  refine zz_aload_n C dJ4_comparableClassFor_0 rfl 0 rfl ?_
  refine zz_inst C dJ4_comparableClassFor_1 q1385 zc_20_21_30_31_32_33_ang_Comparable zn_24_25_ang_Comparable hw (fun x1 hw => ?_)
  refine zz_if_eq (tgt := 113) C dJ4_comparableClassFor_4 (by decide) hw (fun hw => ?_) (fun hw => ?_)
  · refine zz_null C dJ4_comparableClassFor_113 ?_
    exact zz_aret C E (Or.inl ⟨_, rfl⟩) dJ4_comparableClassFor_114 hw
  · refine zz_aload_n C dJ4_comparableClassFor_7 rfl 0 rfl ?_
    obtain ⟨a9, t9, b9, fs9, hro, hL, rfl, hw⟩ := ztyS hw
    refine zz_getC (j := 1) C hR (by decide) dJ4_comparableClassFor_8 hro hL rfl rfl q1386 q2931 q824 q796 q835 (zz_cat10 _ (Nat.le_of_ble_eq_true rfl)) ?_
    refine zz_dup C dJ4_comparableClassFor_11 (zz_cat _) ?_
    refine zz_astore_n (i := 1) (lv' := [(1, va_rf (some (zz_ad (zz_Zof G) 301))), (0, va_rf p0)]) C dJ4_comparableClassFor_12 rfl (by decide) (by simp [zz_cat, zz_catI, zz_catJ, zz_catD]) ?_
    refine zz_ldcM (j := 1) C dJ4_comparableClassFor_13 q1387 rfl ?_
    refine zz_acmp_ne (tgt := 20) C dJ4_comparableClassFor_15 (by decide) hw (fun hw => ?_) (fun hw => ?_)
    · refine zz_aload_n C dJ4_comparableClassFor_20 rfl 0 rfl ?_
      exact hw.elim
    · refine zz_aload_n C dJ4_comparableClassFor_18 rfl 0 rfl ?_
      exact zz_aret C E (Or.inl ⟨_, rfl⟩) dJ4_comparableClassFor_19 hw
abbrev cJ26_getLongUnaligned : ByteArray := prog_76_method_334_code
def yJ26_getLongUnaligned : MethodName := ⟨"jdk/internal/misc/Unsafe", "getLongUnaligned", "(Ljava/lang/Object;J)J"⟩
def dkwJ26_getLongUnaligned_7 : List UInt8 := [182, 0, 39, 184, 2, 197, 173]
abbrev dktJ26_getLongUnaligned_7 : List UInt8 := dkwJ26_getLongUnaligned_7 ++ []
def dkwJ26_getLongUnaligned_6 : List UInt8 := [20, 2, 195, 97, 182, 0, 39, 42, 43, 32, 20, 2, 190, 97, 182, 0, 39, 42, 43, 32, 20, 2, 184, 97]
abbrev dktJ26_getLongUnaligned_6 : List UInt8 := dkwJ26_getLongUnaligned_6 ++ dktJ26_getLongUnaligned_7
def dkwJ26_getLongUnaligned_5 : List UInt8 := [43, 32, 20, 1, 93, 97, 182, 0, 39, 42, 43, 32, 20, 0, 205, 97, 182, 0, 39, 42, 43, 32]
abbrev dktJ26_getLongUnaligned_5 : List UInt8 := dkwJ26_getLongUnaligned_5 ++ dktJ26_getLongUnaligned_6
def dkwJ26_getLongUnaligned_4 : List UInt8 := [43, 32, 182, 0, 39, 42, 43, 32, 10, 97, 182, 0, 39, 42, 43, 32, 20, 0, 203, 97, 182, 0, 39, 42]
abbrev dktJ26_getLongUnaligned_4 : List UInt8 := dkwJ26_getLongUnaligned_4 ++ dktJ26_getLongUnaligned_5
def dkwJ26_getLongUnaligned_3 : List UInt8 := [43, 32, 20, 0, 205, 97, 182, 0, 47, 42, 43, 32, 20, 2, 190, 97, 182, 0, 47, 184, 2, 192, 173, 42]
abbrev dktJ26_getLongUnaligned_3 : List UInt8 := dkwJ26_getLongUnaligned_3 ++ dktJ26_getLongUnaligned_4
def dkwJ26_getLongUnaligned_2 : List UInt8 := [10, 127, 9, 148, 154, 0, 43, 42, 43, 32, 182, 0, 47, 42, 43, 32, 20, 0, 203, 97, 182, 0, 47, 42]
abbrev dktJ26_getLongUnaligned_2 : List UInt8 := dkwJ26_getLongUnaligned_2 ++ dktJ26_getLongUnaligned_3
def dkwJ26_getLongUnaligned_1 : List UInt8 := [154, 0, 23, 42, 43, 32, 182, 0, 17, 42, 43, 32, 20, 0, 205, 97, 182, 0, 17, 184, 2, 186, 173, 32]
abbrev dktJ26_getLongUnaligned_1 : List UInt8 := dkwJ26_getLongUnaligned_1 ++ dktJ26_getLongUnaligned_2
def dkwJ26_getLongUnaligned_0 : List UInt8 := [32, 20, 2, 184, 127, 9, 148, 154, 0, 10, 42, 43, 32, 182, 0, 27, 173, 32, 20, 1, 93, 127, 9, 148]
abbrev dktJ26_getLongUnaligned_0 : List UInt8 := dkwJ26_getLongUnaligned_0 ++ dktJ26_getLongUnaligned_1
theorem dksJ26_getLongUnaligned_0 : cJ26_getLongUnaligned.data.toList.drop 0 = dktJ26_getLongUnaligned_0 := by decide +kernel
theorem dksJ26_getLongUnaligned_1 : cJ26_getLongUnaligned.data.toList.drop 24 = dktJ26_getLongUnaligned_1 := dk_seg dksJ26_getLongUnaligned_0 24 rfl rfl
theorem dksJ26_getLongUnaligned_2 : cJ26_getLongUnaligned.data.toList.drop 48 = dktJ26_getLongUnaligned_2 := dk_seg dksJ26_getLongUnaligned_1 24 rfl rfl
theorem dksJ26_getLongUnaligned_3 : cJ26_getLongUnaligned.data.toList.drop 72 = dktJ26_getLongUnaligned_3 := dk_seg dksJ26_getLongUnaligned_2 24 rfl rfl
theorem dksJ26_getLongUnaligned_4 : cJ26_getLongUnaligned.data.toList.drop 96 = dktJ26_getLongUnaligned_4 := dk_seg dksJ26_getLongUnaligned_3 24 rfl rfl
theorem dksJ26_getLongUnaligned_5 : cJ26_getLongUnaligned.data.toList.drop 120 = dktJ26_getLongUnaligned_5 := dk_seg dksJ26_getLongUnaligned_4 24 rfl rfl
theorem dksJ26_getLongUnaligned_6 : cJ26_getLongUnaligned.data.toList.drop 142 = dktJ26_getLongUnaligned_6 := dk_seg dksJ26_getLongUnaligned_5 22 rfl rfl
theorem dksJ26_getLongUnaligned_7 : cJ26_getLongUnaligned.data.toList.drop 166 = dktJ26_getLongUnaligned_7 := dk_seg dksJ26_getLongUnaligned_6 24 rfl rfl
theorem dJ26_getLongUnaligned_0 : decode cJ26_getLongUnaligned 0 = .ok (.lload_n 2, 1) := dk_32 (dk_at dksJ26_getLongUnaligned_0 0 rfl rfl)
theorem dJ26_getLongUnaligned_1 : decode cJ26_getLongUnaligned 1 = .ok (.ldc2_w 696, 3) := dk_20 2 184 (dk_at dksJ26_getLongUnaligned_0 1 rfl rfl)
theorem dJ26_getLongUnaligned_4 : decode cJ26_getLongUnaligned 4 = .ok (.land, 1) := dk_127 (dk_at dksJ26_getLongUnaligned_0 4 rfl rfl)
theorem dJ26_getLongUnaligned_5 : decode cJ26_getLongUnaligned 5 = .ok (.lconst 0, 1) := dk_9 (dk_at dksJ26_getLongUnaligned_0 5 rfl rfl)
theorem dJ26_getLongUnaligned_6 : decode cJ26_getLongUnaligned 6 = .ok (.lcmp, 1) := dk_148 (dk_at dksJ26_getLongUnaligned_0 6 rfl rfl)
theorem dJ26_getLongUnaligned_7 : decode cJ26_getLongUnaligned 7 = .ok (.ifCond .ne 10, 3) := dk_154 0 10 (dk_at dksJ26_getLongUnaligned_0 7 rfl rfl)
theorem dJ26_getLongUnaligned_10 : decode cJ26_getLongUnaligned 10 = .ok (.aload_n 0, 1) := dk_42 (dk_at dksJ26_getLongUnaligned_0 10 rfl rfl)
theorem dJ26_getLongUnaligned_11 : decode cJ26_getLongUnaligned 11 = .ok (.aload_n 1, 1) := dk_43 (dk_at dksJ26_getLongUnaligned_0 11 rfl rfl)
theorem dJ26_getLongUnaligned_12 : decode cJ26_getLongUnaligned 12 = .ok (.lload_n 2, 1) := dk_32 (dk_at dksJ26_getLongUnaligned_0 12 rfl rfl)
theorem dJ26_getLongUnaligned_13 : decode cJ26_getLongUnaligned 13 = .ok (.invokevirtual 27, 3) := dk_182 0 27 (dk_at dksJ26_getLongUnaligned_0 13 rfl rfl)
theorem dJ26_getLongUnaligned_16 : decode cJ26_getLongUnaligned 16 = .ok (.lreturn, 1) := dk_173 (dk_at dksJ26_getLongUnaligned_0 16 rfl rfl)
theorem dJ26_getLongUnaligned_17 : decode cJ26_getLongUnaligned 17 = .ok (.lload_n 2, 1) := dk_32 (dk_at dksJ26_getLongUnaligned_0 17 rfl rfl)
theorem dJ26_getLongUnaligned_18 : decode cJ26_getLongUnaligned 18 = .ok (.ldc2_w 349, 3) := dk_20 1 93 (dk_at dksJ26_getLongUnaligned_0 18 rfl rfl)
theorem dJ26_getLongUnaligned_21 : decode cJ26_getLongUnaligned 21 = .ok (.land, 1) := dk_127 (dk_at dksJ26_getLongUnaligned_0 21 rfl rfl)
theorem dJ26_getLongUnaligned_22 : decode cJ26_getLongUnaligned 22 = .ok (.lconst 0, 1) := dk_9 (dk_at dksJ26_getLongUnaligned_0 22 rfl rfl)
theorem dJ26_getLongUnaligned_23 : decode cJ26_getLongUnaligned 23 = .ok (.lcmp, 1) := dk_148 (dk_at dksJ26_getLongUnaligned_0 23 rfl rfl)
theorem dJ26_getLongUnaligned_24 : decode cJ26_getLongUnaligned 24 = .ok (.ifCond .ne 23, 3) := dk_154 0 23 (dk_at dksJ26_getLongUnaligned_1 0 rfl rfl)
theorem dJ26_getLongUnaligned_27 : decode cJ26_getLongUnaligned 27 = .ok (.aload_n 0, 1) := dk_42 (dk_at dksJ26_getLongUnaligned_1 3 rfl rfl)
theorem dJ26_getLongUnaligned_28 : decode cJ26_getLongUnaligned 28 = .ok (.aload_n 1, 1) := dk_43 (dk_at dksJ26_getLongUnaligned_1 4 rfl rfl)
theorem dJ26_getLongUnaligned_29 : decode cJ26_getLongUnaligned 29 = .ok (.lload_n 2, 1) := dk_32 (dk_at dksJ26_getLongUnaligned_1 5 rfl rfl)
theorem dJ26_getLongUnaligned_30 : decode cJ26_getLongUnaligned 30 = .ok (.invokevirtual 17, 3) := dk_182 0 17 (dk_at dksJ26_getLongUnaligned_1 6 rfl rfl)
theorem dJ26_getLongUnaligned_47 : decode cJ26_getLongUnaligned 47 = .ok (.lload_n 2, 1) := dk_32 (dk_at dksJ26_getLongUnaligned_1 23 rfl rfl)
theorem dJ26_getLongUnaligned_48 : decode cJ26_getLongUnaligned 48 = .ok (.lconst 1, 1) := dk_10 (dk_at dksJ26_getLongUnaligned_2 0 rfl rfl)
theorem dJ26_getLongUnaligned_49 : decode cJ26_getLongUnaligned 49 = .ok (.land, 1) := dk_127 (dk_at dksJ26_getLongUnaligned_2 1 rfl rfl)
theorem dJ26_getLongUnaligned_50 : decode cJ26_getLongUnaligned 50 = .ok (.lconst 0, 1) := dk_9 (dk_at dksJ26_getLongUnaligned_2 2 rfl rfl)
theorem dJ26_getLongUnaligned_51 : decode cJ26_getLongUnaligned 51 = .ok (.lcmp, 1) := dk_148 (dk_at dksJ26_getLongUnaligned_2 3 rfl rfl)
theorem dJ26_getLongUnaligned_52 : decode cJ26_getLongUnaligned 52 = .ok (.ifCond .ne 43, 3) := dk_154 0 43 (dk_at dksJ26_getLongUnaligned_2 4 rfl rfl)
theorem dJ26_getLongUnaligned_55 : decode cJ26_getLongUnaligned 55 = .ok (.aload_n 0, 1) := dk_42 (dk_at dksJ26_getLongUnaligned_2 7 rfl rfl)
theorem dJ26_getLongUnaligned_56 : decode cJ26_getLongUnaligned 56 = .ok (.aload_n 1, 1) := dk_43 (dk_at dksJ26_getLongUnaligned_2 8 rfl rfl)
theorem dJ26_getLongUnaligned_57 : decode cJ26_getLongUnaligned 57 = .ok (.lload_n 2, 1) := dk_32 (dk_at dksJ26_getLongUnaligned_2 9 rfl rfl)
theorem dJ26_getLongUnaligned_58 : decode cJ26_getLongUnaligned 58 = .ok (.invokevirtual 47, 3) := dk_182 0 47 (dk_at dksJ26_getLongUnaligned_2 10 rfl rfl)
theorem dJ26_getLongUnaligned_95 : decode cJ26_getLongUnaligned 95 = .ok (.aload_n 0, 1) := dk_42 (dk_at dksJ26_getLongUnaligned_3 23 rfl rfl)
theorem dJ26_getLongUnaligned_96 : decode cJ26_getLongUnaligned 96 = .ok (.aload_n 1, 1) := dk_43 (dk_at dksJ26_getLongUnaligned_4 0 rfl rfl)
theorem dJ26_getLongUnaligned_97 : decode cJ26_getLongUnaligned 97 = .ok (.lload_n 2, 1) := dk_32 (dk_at dksJ26_getLongUnaligned_4 1 rfl rfl)
theorem dJ26_getLongUnaligned_98 : decode cJ26_getLongUnaligned 98 = .ok (.invokevirtual 39, 3) := dk_182 0 39 (dk_at dksJ26_getLongUnaligned_4 2 rfl rfl)
theorem q1462 : (Jvm.Cond.constantLong "jdk/internal/misc/Unsafe" (696 : Nat) (7 : Int64)) ∈ lw_all := lw_g (lw_at lw_m6 182 rfl) rfl
theorem q1467 : (Jvm.Cond.constantLong "jdk/internal/misc/Unsafe" (349 : Nat) (3 : Int64)) ∈ lw_all := lw_g (lw_at lw_m6 187 rfl) rfl
theorem q1463 : (Jvm.Cond.methodLink "jdk/internal/misc/Unsafe" (27 : Nat) ({ cls := "jdk/internal/misc/Unsafe", name := "getLong", desc := "(Ljava/lang/Object;J)J" } : Jvm.MethodName)) ∈ lw_all := lw_g (lw_at lw_m6 183 rfl) rfl
theorem q1466 : (Jvm.Cond.native ({ cls := "jdk/internal/misc/Unsafe", name := "getLong", desc := "(Ljava/lang/Object;J)J" } : Jvm.MethodName)) ∈ lw_all := lw_g (lw_at lw_m6 186 rfl) rfl
theorem q1464 : (Jvm.Cond.instanceMethod ({ cls := "jdk/internal/misc/Unsafe", name := "getLong", desc := "(Ljava/lang/Object;J)J" } : Jvm.MethodName)) ∈ lw_all := lw_g (lw_at lw_m6 184 rfl) rfl
theorem q1465 : (Jvm.Cond.selects "jdk/internal/misc/Unsafe" ({ cls := "jdk/internal/misc/Unsafe", name := "getLong", desc := "(Ljava/lang/Object;J)J" } : Jvm.MethodName) ({ cls := "jdk/internal/misc/Unsafe", name := "getLong", desc := "(Ljava/lang/Object;J)J" } : Jvm.MethodName)) ∈ lw_all := lw_g (lw_at lw_m6 185 rfl) rfl
def wp_J26_getLongUnaligned (Z : zzG) (this : Option Nat) (p0 : Option Nat) (p1 : Int64) (M : zzM) (K : Option Value → zzM → Prop) : Prop := if (lg_cmp (p1 &&& (7 : Int64)) (0 : Int64)) = 0 then (zgetL Z M this p0 p1 fun x1 => K (some (.long x1)) M) else (if (lg_cmp (p1 &&& (3 : Int64)) (0 : Int64)) = 0 then (False) else (if (lg_cmp (p1 &&& (1 : Int64)) (0 : Int64)) = 0 then (False) else (False)))
theorem ok_J26_getLongUnaligned {Z : zzG} {l : Launch} (hl : l.stackTraces = false) {this : Option Nat} {p0 : Option Nat} {p1 : Int64} {M : zzM} {mc ms : Nat} {K : Option Value → zzM → Prop} (hw : wp_J26_getLongUnaligned Z this p0 p1 M K) : zz_Met Z l yJ26_getLongUnaligned (zz_ws yJ26_getLongUnaligned cJ26_getLongUnaligned 4 (some .long) none) 2 [va_rf this, va_rf p0, .long p1] M mc ms K (fun _ _ _ => False) := by
  refine zz_ofW hl (by decide +kernel) (by simp only [zz_sl0, zz_slI, zz_slJ, zz_slA] <;> decide) (fun G hZ hll C E hH hR hin => ?_)
  subst hZ
  subst hll
  rw [show lv_args 0 [va_rf this, va_rf p0, .long p1] = [(0, va_rf this), (1, va_rf p0), (2, .long p1)] by simp only [zz_la0, zz_laI, zz_laJ, zz_laA]]
  unfold wp_J26_getLongUnaligned at hw
  refine zz_lload_n C dJ26_getLongUnaligned_0 rfl 2 rfl ?_
  refine zz_ldc2 C dJ26_getLongUnaligned_1 q1462 ?_
  refine zz_land C dJ26_getLongUnaligned_4 ?_
  refine zz_lconst (v := (0 : Int64)) C dJ26_getLongUnaligned_5 (by decide) ?_
  refine zz_lcmp C dJ26_getLongUnaligned_6 ?_
  refine zz_if_ne (tgt := 17) C dJ26_getLongUnaligned_7 (by decide) hw (fun hw => ?_) (fun hw => ?_)
  · refine zz_lload_n C dJ26_getLongUnaligned_17 rfl 2 rfl ?_
    refine zz_ldc2 C dJ26_getLongUnaligned_18 q1467 ?_
    refine zz_land C dJ26_getLongUnaligned_21 ?_
    refine zz_lconst (v := (0 : Int64)) C dJ26_getLongUnaligned_22 (by decide) ?_
    refine zz_lcmp C dJ26_getLongUnaligned_23 ?_
    refine zz_if_ne (tgt := 47) C dJ26_getLongUnaligned_24 (by decide) hw (fun hw => ?_) (fun hw => ?_)
    · refine zz_lload_n C dJ26_getLongUnaligned_47 rfl 2 rfl ?_
      refine zz_lconst (v := (1 : Int64)) C dJ26_getLongUnaligned_48 (by decide) ?_
      refine zz_land C dJ26_getLongUnaligned_49 ?_
      refine zz_lconst (v := (0 : Int64)) C dJ26_getLongUnaligned_50 (by decide) ?_
      refine zz_lcmp C dJ26_getLongUnaligned_51 ?_
      refine zz_if_ne (tgt := 95) C dJ26_getLongUnaligned_52 (by decide) hw (fun hw => ?_) (fun hw => ?_)
      · refine zz_aload_n C dJ26_getLongUnaligned_95 rfl 0 rfl ?_
        refine zz_aload_n C dJ26_getLongUnaligned_96 rfl 1 rfl ?_
        refine zz_lload_n C dJ26_getLongUnaligned_97 rfl 2 rfl ?_
        exact hw.elim
      · refine zz_aload_n C dJ26_getLongUnaligned_55 rfl 0 rfl ?_
        refine zz_aload_n C dJ26_getLongUnaligned_56 rfl 1 rfl ?_
        refine zz_lload_n C dJ26_getLongUnaligned_57 rfl 2 rfl ?_
        exact hw.elim
    · refine zz_aload_n C dJ26_getLongUnaligned_27 rfl 0 rfl ?_
      refine zz_aload_n C dJ26_getLongUnaligned_28 rfl 1 rfl ?_
      refine zz_lload_n C dJ26_getLongUnaligned_29 rfl 2 rfl ?_
      exact hw.elim
  · refine zz_aload_n C dJ26_getLongUnaligned_10 rfl 0 rfl ?_
    refine zz_aload_n C dJ26_getLongUnaligned_11 rfl 1 rfl ?_
    refine zz_lload_n C dJ26_getLongUnaligned_12 rfl 2 rfl ?_
    refine zz_getL C hR (by decide) dJ26_getLongUnaligned_13 q1463 q1466 q1464 q1465 (zz_cat10 _ (Nat.le_of_ble_eq_true rfl)) hw (fun x1 hw => ?_)
    exact zz_lret C E dJ26_getLongUnaligned_16 hw
abbrev cJ20_numberOfTrailingZeros : ByteArray := prog_40_method_48_code
def yJ20_numberOfTrailingZeros : MethodName := ⟨"java/lang/Integer", "numberOfTrailingZeros", "(I)I"⟩
def dkwJ20_numberOfTrailingZeros_3 : List UInt8 := [5, 124, 59, 27, 26, 4, 124, 96, 172]
abbrev dktJ20_numberOfTrailingZeros_3 : List UInt8 := dkwJ20_numberOfTrailingZeros_3 ++ []
def dkwJ20_numberOfTrailingZeros_2 : List UInt8 := [124, 59, 26, 16, 16, 164, 0, 10, 132, 1, 4, 26, 7, 124, 59, 26, 7, 164, 0, 10, 132, 1, 2, 26]
abbrev dktJ20_numberOfTrailingZeros_2 : List UInt8 := dkwJ20_numberOfTrailingZeros_2 ++ dktJ20_numberOfTrailingZeros_3
def dkwJ20_numberOfTrailingZeros_1 : List UInt8 := [164, 0, 11, 132, 1, 16, 26, 16, 16, 124, 59, 26, 17, 1, 0, 164, 0, 11, 132, 1, 8, 26, 16, 8]
abbrev dktJ20_numberOfTrailingZeros_1 : List UInt8 := dkwJ20_numberOfTrailingZeros_1 ++ dktJ20_numberOfTrailingZeros_2
def dkwJ20_numberOfTrailingZeros_0 : List UInt8 := [26, 2, 130, 26, 4, 100, 126, 59, 26, 157, 0, 8, 26, 16, 32, 126, 172, 4, 60, 26, 19, 1, 8]
abbrev dktJ20_numberOfTrailingZeros_0 : List UInt8 := dkwJ20_numberOfTrailingZeros_0 ++ dktJ20_numberOfTrailingZeros_1
theorem dksJ20_numberOfTrailingZeros_0 : cJ20_numberOfTrailingZeros.data.toList.drop 0 = dktJ20_numberOfTrailingZeros_0 := by decide +kernel
theorem dksJ20_numberOfTrailingZeros_1 : cJ20_numberOfTrailingZeros.data.toList.drop 23 = dktJ20_numberOfTrailingZeros_1 := dk_seg dksJ20_numberOfTrailingZeros_0 23 rfl rfl
theorem dksJ20_numberOfTrailingZeros_2 : cJ20_numberOfTrailingZeros.data.toList.drop 47 = dktJ20_numberOfTrailingZeros_2 := dk_seg dksJ20_numberOfTrailingZeros_1 24 rfl rfl
theorem dksJ20_numberOfTrailingZeros_3 : cJ20_numberOfTrailingZeros.data.toList.drop 71 = dktJ20_numberOfTrailingZeros_3 := dk_seg dksJ20_numberOfTrailingZeros_2 24 rfl rfl
theorem dJ20_numberOfTrailingZeros_0 : decode cJ20_numberOfTrailingZeros 0 = .ok (.iload_n 0, 1) := dk_26 (dk_at dksJ20_numberOfTrailingZeros_0 0 rfl rfl)
theorem dJ20_numberOfTrailingZeros_1 : decode cJ20_numberOfTrailingZeros 1 = .ok (.iconst (-1), 1) := dk_2 (dk_at dksJ20_numberOfTrailingZeros_0 1 rfl rfl)
theorem dJ20_numberOfTrailingZeros_2 : decode cJ20_numberOfTrailingZeros 2 = .ok (.ixor, 1) := dk_130 (dk_at dksJ20_numberOfTrailingZeros_0 2 rfl rfl)
theorem dJ20_numberOfTrailingZeros_3 : decode cJ20_numberOfTrailingZeros 3 = .ok (.iload_n 0, 1) := dk_26 (dk_at dksJ20_numberOfTrailingZeros_0 3 rfl rfl)
theorem dJ20_numberOfTrailingZeros_4 : decode cJ20_numberOfTrailingZeros 4 = .ok (.iconst 1, 1) := dk_4 (dk_at dksJ20_numberOfTrailingZeros_0 4 rfl rfl)
theorem dJ20_numberOfTrailingZeros_5 : decode cJ20_numberOfTrailingZeros 5 = .ok (.isub, 1) := dk_100 (dk_at dksJ20_numberOfTrailingZeros_0 5 rfl rfl)
theorem dJ20_numberOfTrailingZeros_6 : decode cJ20_numberOfTrailingZeros 6 = .ok (.iand, 1) := dk_126 (dk_at dksJ20_numberOfTrailingZeros_0 6 rfl rfl)
theorem dJ20_numberOfTrailingZeros_7 : decode cJ20_numberOfTrailingZeros 7 = .ok (.istore_n 0, 1) := dk_59 (dk_at dksJ20_numberOfTrailingZeros_0 7 rfl rfl)
theorem dJ20_numberOfTrailingZeros_8 : decode cJ20_numberOfTrailingZeros 8 = .ok (.iload_n 0, 1) := dk_26 (dk_at dksJ20_numberOfTrailingZeros_0 8 rfl rfl)
theorem dJ20_numberOfTrailingZeros_9 : decode cJ20_numberOfTrailingZeros 9 = .ok (.ifCond .gt 8, 3) := dk_157 0 8 (dk_at dksJ20_numberOfTrailingZeros_0 9 rfl rfl)
theorem dJ20_numberOfTrailingZeros_12 : decode cJ20_numberOfTrailingZeros 12 = .ok (.iload_n 0, 1) := dk_26 (dk_at dksJ20_numberOfTrailingZeros_0 12 rfl rfl)
theorem dJ20_numberOfTrailingZeros_13 : decode cJ20_numberOfTrailingZeros 13 = .ok (.bipush 32, 2) := dk_16 32 (dk_at dksJ20_numberOfTrailingZeros_0 13 rfl rfl)
theorem dJ20_numberOfTrailingZeros_15 : decode cJ20_numberOfTrailingZeros 15 = .ok (.iand, 1) := dk_126 (dk_at dksJ20_numberOfTrailingZeros_0 15 rfl rfl)
theorem dJ20_numberOfTrailingZeros_16 : decode cJ20_numberOfTrailingZeros 16 = .ok (.ireturn, 1) := dk_172 (dk_at dksJ20_numberOfTrailingZeros_0 16 rfl rfl)
theorem dJ20_numberOfTrailingZeros_17 : decode cJ20_numberOfTrailingZeros 17 = .ok (.iconst 1, 1) := dk_4 (dk_at dksJ20_numberOfTrailingZeros_0 17 rfl rfl)
theorem dJ20_numberOfTrailingZeros_18 : decode cJ20_numberOfTrailingZeros 18 = .ok (.istore_n 1, 1) := dk_60 (dk_at dksJ20_numberOfTrailingZeros_0 18 rfl rfl)
theorem dJ20_numberOfTrailingZeros_19 : decode cJ20_numberOfTrailingZeros 19 = .ok (.iload_n 0, 1) := dk_26 (dk_at dksJ20_numberOfTrailingZeros_0 19 rfl rfl)
theorem dJ20_numberOfTrailingZeros_20 : decode cJ20_numberOfTrailingZeros 20 = .ok (.ldc_w 264, 3) := dk_19 1 8 (dk_at dksJ20_numberOfTrailingZeros_0 20 rfl rfl)
theorem dJ20_numberOfTrailingZeros_23 : decode cJ20_numberOfTrailingZeros 23 = .ok (.if_icmp .le 11, 3) := dk_164 0 11 (dk_at dksJ20_numberOfTrailingZeros_1 0 rfl rfl)
theorem dJ20_numberOfTrailingZeros_26 : decode cJ20_numberOfTrailingZeros 26 = .ok (.iinc 1 16, 3) := dk_132 1 16 (dk_at dksJ20_numberOfTrailingZeros_1 3 rfl rfl)
theorem dJ20_numberOfTrailingZeros_29 : decode cJ20_numberOfTrailingZeros 29 = .ok (.iload_n 0, 1) := dk_26 (dk_at dksJ20_numberOfTrailingZeros_1 6 rfl rfl)
theorem dJ20_numberOfTrailingZeros_30 : decode cJ20_numberOfTrailingZeros 30 = .ok (.bipush 16, 2) := dk_16 16 (dk_at dksJ20_numberOfTrailingZeros_1 7 rfl rfl)
theorem dJ20_numberOfTrailingZeros_32 : decode cJ20_numberOfTrailingZeros 32 = .ok (.iushr, 1) := dk_124 (dk_at dksJ20_numberOfTrailingZeros_1 9 rfl rfl)
theorem dJ20_numberOfTrailingZeros_33 : decode cJ20_numberOfTrailingZeros 33 = .ok (.istore_n 0, 1) := dk_59 (dk_at dksJ20_numberOfTrailingZeros_1 10 rfl rfl)
theorem dJ20_numberOfTrailingZeros_34 : decode cJ20_numberOfTrailingZeros 34 = .ok (.iload_n 0, 1) := dk_26 (dk_at dksJ20_numberOfTrailingZeros_1 11 rfl rfl)
theorem dJ20_numberOfTrailingZeros_35 : decode cJ20_numberOfTrailingZeros 35 = .ok (.sipush 256, 3) := dk_17 1 0 (dk_at dksJ20_numberOfTrailingZeros_1 12 rfl rfl)
theorem dJ20_numberOfTrailingZeros_38 : decode cJ20_numberOfTrailingZeros 38 = .ok (.if_icmp .le 11, 3) := dk_164 0 11 (dk_at dksJ20_numberOfTrailingZeros_1 15 rfl rfl)
theorem dJ20_numberOfTrailingZeros_41 : decode cJ20_numberOfTrailingZeros 41 = .ok (.iinc 1 8, 3) := dk_132 1 8 (dk_at dksJ20_numberOfTrailingZeros_1 18 rfl rfl)
theorem dJ20_numberOfTrailingZeros_44 : decode cJ20_numberOfTrailingZeros 44 = .ok (.iload_n 0, 1) := dk_26 (dk_at dksJ20_numberOfTrailingZeros_1 21 rfl rfl)
theorem dJ20_numberOfTrailingZeros_45 : decode cJ20_numberOfTrailingZeros 45 = .ok (.bipush 8, 2) := dk_16 8 (dk_at dksJ20_numberOfTrailingZeros_1 22 rfl rfl)
theorem dJ20_numberOfTrailingZeros_47 : decode cJ20_numberOfTrailingZeros 47 = .ok (.iushr, 1) := dk_124 (dk_at dksJ20_numberOfTrailingZeros_2 0 rfl rfl)
theorem dJ20_numberOfTrailingZeros_48 : decode cJ20_numberOfTrailingZeros 48 = .ok (.istore_n 0, 1) := dk_59 (dk_at dksJ20_numberOfTrailingZeros_2 1 rfl rfl)
theorem dJ20_numberOfTrailingZeros_49 : decode cJ20_numberOfTrailingZeros 49 = .ok (.iload_n 0, 1) := dk_26 (dk_at dksJ20_numberOfTrailingZeros_2 2 rfl rfl)
theorem dJ20_numberOfTrailingZeros_50 : decode cJ20_numberOfTrailingZeros 50 = .ok (.bipush 16, 2) := dk_16 16 (dk_at dksJ20_numberOfTrailingZeros_2 3 rfl rfl)
theorem dJ20_numberOfTrailingZeros_52 : decode cJ20_numberOfTrailingZeros 52 = .ok (.if_icmp .le 10, 3) := dk_164 0 10 (dk_at dksJ20_numberOfTrailingZeros_2 5 rfl rfl)
theorem dJ20_numberOfTrailingZeros_55 : decode cJ20_numberOfTrailingZeros 55 = .ok (.iinc 1 4, 3) := dk_132 1 4 (dk_at dksJ20_numberOfTrailingZeros_2 8 rfl rfl)
theorem dJ20_numberOfTrailingZeros_58 : decode cJ20_numberOfTrailingZeros 58 = .ok (.iload_n 0, 1) := dk_26 (dk_at dksJ20_numberOfTrailingZeros_2 11 rfl rfl)
theorem dJ20_numberOfTrailingZeros_59 : decode cJ20_numberOfTrailingZeros 59 = .ok (.iconst 4, 1) := dk_7 (dk_at dksJ20_numberOfTrailingZeros_2 12 rfl rfl)
theorem dJ20_numberOfTrailingZeros_60 : decode cJ20_numberOfTrailingZeros 60 = .ok (.iushr, 1) := dk_124 (dk_at dksJ20_numberOfTrailingZeros_2 13 rfl rfl)
theorem dJ20_numberOfTrailingZeros_61 : decode cJ20_numberOfTrailingZeros 61 = .ok (.istore_n 0, 1) := dk_59 (dk_at dksJ20_numberOfTrailingZeros_2 14 rfl rfl)
theorem dJ20_numberOfTrailingZeros_62 : decode cJ20_numberOfTrailingZeros 62 = .ok (.iload_n 0, 1) := dk_26 (dk_at dksJ20_numberOfTrailingZeros_2 15 rfl rfl)
theorem dJ20_numberOfTrailingZeros_63 : decode cJ20_numberOfTrailingZeros 63 = .ok (.iconst 4, 1) := dk_7 (dk_at dksJ20_numberOfTrailingZeros_2 16 rfl rfl)
theorem dJ20_numberOfTrailingZeros_64 : decode cJ20_numberOfTrailingZeros 64 = .ok (.if_icmp .le 10, 3) := dk_164 0 10 (dk_at dksJ20_numberOfTrailingZeros_2 17 rfl rfl)
theorem dJ20_numberOfTrailingZeros_67 : decode cJ20_numberOfTrailingZeros 67 = .ok (.iinc 1 2, 3) := dk_132 1 2 (dk_at dksJ20_numberOfTrailingZeros_2 20 rfl rfl)
theorem dJ20_numberOfTrailingZeros_70 : decode cJ20_numberOfTrailingZeros 70 = .ok (.iload_n 0, 1) := dk_26 (dk_at dksJ20_numberOfTrailingZeros_2 23 rfl rfl)
theorem dJ20_numberOfTrailingZeros_71 : decode cJ20_numberOfTrailingZeros 71 = .ok (.iconst 2, 1) := dk_5 (dk_at dksJ20_numberOfTrailingZeros_3 0 rfl rfl)
theorem dJ20_numberOfTrailingZeros_72 : decode cJ20_numberOfTrailingZeros 72 = .ok (.iushr, 1) := dk_124 (dk_at dksJ20_numberOfTrailingZeros_3 1 rfl rfl)
theorem dJ20_numberOfTrailingZeros_73 : decode cJ20_numberOfTrailingZeros 73 = .ok (.istore_n 0, 1) := dk_59 (dk_at dksJ20_numberOfTrailingZeros_3 2 rfl rfl)
theorem dJ20_numberOfTrailingZeros_74 : decode cJ20_numberOfTrailingZeros 74 = .ok (.iload_n 1, 1) := dk_27 (dk_at dksJ20_numberOfTrailingZeros_3 3 rfl rfl)
theorem dJ20_numberOfTrailingZeros_75 : decode cJ20_numberOfTrailingZeros 75 = .ok (.iload_n 0, 1) := dk_26 (dk_at dksJ20_numberOfTrailingZeros_3 4 rfl rfl)
theorem dJ20_numberOfTrailingZeros_76 : decode cJ20_numberOfTrailingZeros 76 = .ok (.iconst 1, 1) := dk_4 (dk_at dksJ20_numberOfTrailingZeros_3 5 rfl rfl)
theorem dJ20_numberOfTrailingZeros_77 : decode cJ20_numberOfTrailingZeros 77 = .ok (.iushr, 1) := dk_124 (dk_at dksJ20_numberOfTrailingZeros_3 6 rfl rfl)
theorem dJ20_numberOfTrailingZeros_78 : decode cJ20_numberOfTrailingZeros 78 = .ok (.iadd, 1) := dk_96 (dk_at dksJ20_numberOfTrailingZeros_3 7 rfl rfl)
theorem dJ20_numberOfTrailingZeros_79 : decode cJ20_numberOfTrailingZeros 79 = .ok (.ireturn, 1) := dk_172 (dk_at dksJ20_numberOfTrailingZeros_3 8 rfl rfl)
theorem q1518 : (Jvm.Cond.constant "java/lang/Integer" (264 : Nat) (65536 : Int32)) ∈ lw_all := lw_g (lw_at lw_m6 238 rfl) rfl
def wp_J20_numberOfTrailingZeros_B74 (Z : zzG) (K : Option Value → zzM → Prop) (v0 : Int32) (v1 : Int32) (M : zzM) : Prop := K (some (.int (v1 + ((v0.toUInt32 >>> ((1 : Int32).toUInt32 &&& Int32.toUInt32 31)).toInt32)))) M
def wp_J20_numberOfTrailingZeros_B62 (Z : zzG) (K : Option Value → zzM → Prop) (v0 : Int32) (v1 : Int32) (M : zzM) : Prop := if v0 ≤ (4 : Int32) then (wp_J20_numberOfTrailingZeros_B74 Z K v0 v1 M) else (wp_J20_numberOfTrailingZeros_B74 Z K ((v0.toUInt32 >>> ((2 : Int32).toUInt32 &&& Int32.toUInt32 31)).toInt32) (v1 + 2) M)
def wp_J20_numberOfTrailingZeros_B49 (Z : zzG) (K : Option Value → zzM → Prop) (v0 : Int32) (v1 : Int32) (M : zzM) : Prop := if v0 ≤ (16 : Int32) then (wp_J20_numberOfTrailingZeros_B62 Z K v0 v1 M) else (wp_J20_numberOfTrailingZeros_B62 Z K ((v0.toUInt32 >>> ((4 : Int32).toUInt32 &&& Int32.toUInt32 31)).toInt32) (v1 + 4) M)
def wp_J20_numberOfTrailingZeros_B34 (Z : zzG) (K : Option Value → zzM → Prop) (v0 : Int32) (v1 : Int32) (M : zzM) : Prop := if v0 ≤ (256 : Int32) then (wp_J20_numberOfTrailingZeros_B49 Z K v0 v1 M) else (wp_J20_numberOfTrailingZeros_B49 Z K ((v0.toUInt32 >>> ((8 : Int32).toUInt32 &&& Int32.toUInt32 31)).toInt32) (v1 + 8) M)
def wp_J20_numberOfTrailingZeros (Z : zzG) (p0 : Int32) (M : zzM) (K : Option Value → zzM → Prop) : Prop := if 0 < ((p0 ^^^ (-1 : Int32)) &&& (p0 - (1 : Int32))) then (if ((p0 ^^^ (-1 : Int32)) &&& (p0 - (1 : Int32))) ≤ (65536 : Int32) then (wp_J20_numberOfTrailingZeros_B34 Z K ((p0 ^^^ (-1 : Int32)) &&& (p0 - (1 : Int32))) (1 : Int32) M) else (wp_J20_numberOfTrailingZeros_B34 Z K ((((p0 ^^^ (-1 : Int32)) &&& (p0 - (1 : Int32))).toUInt32 >>> ((16 : Int32).toUInt32 &&& Int32.toUInt32 31)).toInt32) ((1 : Int32) + 16) M)) else (K (some (.int (((p0 ^^^ (-1 : Int32)) &&& (p0 - (1 : Int32))) &&& (32 : Int32)))) M)
theorem ok_J20_numberOfTrailingZeros_B74 {G : zzX} (C : zz_C G cJ20_numberOfTrailingZeros "java/lang/Integer" 2) {K : Option Value → zzM → Prop} (E : zz_E G (some .int) K (fun _ _ _ => False)) (hH : zz_H G []) (hR : zz_Rm G 1) {v0 : Int32} {v1 : Int32} {M : zzM} {bc bs : Nat} (hw : wp_J20_numberOfTrailingZeros_B74 (zz_Zof G) K v0 v1 M) : zz_T G 2 M bc bs 74 [(0, .int v0), (1, .int v1)] [] := by
  unfold wp_J20_numberOfTrailingZeros_B74 at hw
  refine zz_iload_n C dJ20_numberOfTrailingZeros_74 rfl 1 rfl ?_
  refine zz_iload_n C dJ20_numberOfTrailingZeros_75 rfl 0 rfl ?_
  refine zz_iconst (v := (1 : Int32)) C dJ20_numberOfTrailingZeros_76 (by decide) ?_
  refine zz_iushr C dJ20_numberOfTrailingZeros_77 rfl ?_
  refine zz_iadd C dJ20_numberOfTrailingZeros_78 ?_
  exact zz_iret C E dJ20_numberOfTrailingZeros_79 hw
theorem ok_J20_numberOfTrailingZeros_B62 {G : zzX} (C : zz_C G cJ20_numberOfTrailingZeros "java/lang/Integer" 2) {K : Option Value → zzM → Prop} (E : zz_E G (some .int) K (fun _ _ _ => False)) (hH : zz_H G []) (hR : zz_Rm G 1) {v0 : Int32} {v1 : Int32} {M : zzM} {bc bs : Nat} (hw : wp_J20_numberOfTrailingZeros_B62 (zz_Zof G) K v0 v1 M) : zz_T G 2 M bc bs 62 [(0, .int v0), (1, .int v1)] [] := by
  unfold wp_J20_numberOfTrailingZeros_B62 at hw
  refine zz_iload_n C dJ20_numberOfTrailingZeros_62 rfl 0 rfl ?_
  refine zz_iconst (v := (4 : Int32)) C dJ20_numberOfTrailingZeros_63 (by decide) ?_
  refine zz_icmp_le (tgt := 74) C dJ20_numberOfTrailingZeros_64 (by decide) hw (fun hw => ?_) (fun hw => ?_)
  · refine zz_subP [0, 1] rfl ?_
    exact ok_J20_numberOfTrailingZeros_B74 C E hH hR hw
  · refine zz_iinc (lv' := [(1, .int (v1 + 2)), (0, .int v0)]) C dJ20_numberOfTrailingZeros_67 1 rfl (by rfl) (by decide) rfl ?_
    refine zz_iload_n C dJ20_numberOfTrailingZeros_70 rfl 1 rfl ?_
    refine zz_iconst (v := (2 : Int32)) C dJ20_numberOfTrailingZeros_71 (by decide) ?_
    refine zz_iushr C dJ20_numberOfTrailingZeros_72 rfl ?_
    refine zz_istore_n (i := 0) (lv' := [(0, .int ((v0.toUInt32 >>> ((2 : Int32).toUInt32 &&& Int32.toUInt32 31)).toInt32)), (1, .int (v1 + 2))]) C dJ20_numberOfTrailingZeros_73 rfl (by decide) rfl ?_
    refine zz_subP [0, 1] rfl ?_
    exact ok_J20_numberOfTrailingZeros_B74 C E hH hR hw
theorem ok_J20_numberOfTrailingZeros_B49 {G : zzX} (C : zz_C G cJ20_numberOfTrailingZeros "java/lang/Integer" 2) {K : Option Value → zzM → Prop} (E : zz_E G (some .int) K (fun _ _ _ => False)) (hH : zz_H G []) (hR : zz_Rm G 1) {v0 : Int32} {v1 : Int32} {M : zzM} {bc bs : Nat} (hw : wp_J20_numberOfTrailingZeros_B49 (zz_Zof G) K v0 v1 M) : zz_T G 2 M bc bs 49 [(0, .int v0), (1, .int v1)] [] := by
  unfold wp_J20_numberOfTrailingZeros_B49 at hw
  refine zz_iload_n C dJ20_numberOfTrailingZeros_49 rfl 0 rfl ?_
  refine zz_bipush (v := (16 : Int32)) C dJ20_numberOfTrailingZeros_50 (by decide) ?_
  refine zz_icmp_le (tgt := 62) C dJ20_numberOfTrailingZeros_52 (by decide) hw (fun hw => ?_) (fun hw => ?_)
  · refine zz_subP [0, 1] rfl ?_
    exact ok_J20_numberOfTrailingZeros_B62 C E hH hR hw
  · refine zz_iinc (lv' := [(1, .int (v1 + 4)), (0, .int v0)]) C dJ20_numberOfTrailingZeros_55 1 rfl (by rfl) (by decide) rfl ?_
    refine zz_iload_n C dJ20_numberOfTrailingZeros_58 rfl 1 rfl ?_
    refine zz_iconst (v := (4 : Int32)) C dJ20_numberOfTrailingZeros_59 (by decide) ?_
    refine zz_iushr C dJ20_numberOfTrailingZeros_60 rfl ?_
    refine zz_istore_n (i := 0) (lv' := [(0, .int ((v0.toUInt32 >>> ((4 : Int32).toUInt32 &&& Int32.toUInt32 31)).toInt32)), (1, .int (v1 + 4))]) C dJ20_numberOfTrailingZeros_61 rfl (by decide) rfl ?_
    refine zz_subP [0, 1] rfl ?_
    exact ok_J20_numberOfTrailingZeros_B62 C E hH hR hw
theorem ok_J20_numberOfTrailingZeros_B34 {G : zzX} (C : zz_C G cJ20_numberOfTrailingZeros "java/lang/Integer" 2) {K : Option Value → zzM → Prop} (E : zz_E G (some .int) K (fun _ _ _ => False)) (hH : zz_H G []) (hR : zz_Rm G 1) {v0 : Int32} {v1 : Int32} {M : zzM} {bc bs : Nat} (hw : wp_J20_numberOfTrailingZeros_B34 (zz_Zof G) K v0 v1 M) : zz_T G 2 M bc bs 34 [(0, .int v0), (1, .int v1)] [] := by
  unfold wp_J20_numberOfTrailingZeros_B34 at hw
  refine zz_iload_n C dJ20_numberOfTrailingZeros_34 rfl 0 rfl ?_
  refine zz_sipush (v := (256 : Int32)) C dJ20_numberOfTrailingZeros_35 (by decide) ?_
  refine zz_icmp_le (tgt := 49) C dJ20_numberOfTrailingZeros_38 (by decide) hw (fun hw => ?_) (fun hw => ?_)
  · refine zz_subP [0, 1] rfl ?_
    exact ok_J20_numberOfTrailingZeros_B49 C E hH hR hw
  · refine zz_iinc (lv' := [(1, .int (v1 + 8)), (0, .int v0)]) C dJ20_numberOfTrailingZeros_41 1 rfl (by rfl) (by decide) rfl ?_
    refine zz_iload_n C dJ20_numberOfTrailingZeros_44 rfl 1 rfl ?_
    refine zz_bipush (v := (8 : Int32)) C dJ20_numberOfTrailingZeros_45 (by decide) ?_
    refine zz_iushr C dJ20_numberOfTrailingZeros_47 rfl ?_
    refine zz_istore_n (i := 0) (lv' := [(0, .int ((v0.toUInt32 >>> ((8 : Int32).toUInt32 &&& Int32.toUInt32 31)).toInt32)), (1, .int (v1 + 8))]) C dJ20_numberOfTrailingZeros_48 rfl (by decide) rfl ?_
    refine zz_subP [0, 1] rfl ?_
    exact ok_J20_numberOfTrailingZeros_B49 C E hH hR hw
theorem ok_J20_numberOfTrailingZeros {Z : zzG} {l : Launch} (hl : l.stackTraces = false) {p0 : Int32} {M : zzM} {mc ms : Nat} {K : Option Value → zzM → Prop} (hw : wp_J20_numberOfTrailingZeros Z p0 M K) : zz_Met Z l yJ20_numberOfTrailingZeros (zz_ws yJ20_numberOfTrailingZeros cJ20_numberOfTrailingZeros 2 (some .int) none) 1 [.int p0] M mc ms K (fun _ _ _ => False) := by
  refine zz_ofW hl (plainFor_of_name (by decide)) (by simp only [zz_sl0, zz_slI, zz_slJ, zz_slA] <;> decide) (fun G hZ hll C E hH hR hin => ?_)
  subst hZ
  subst hll
  rw [show lv_args 0 [.int p0] = [(0, .int p0)] by simp only [zz_la0, zz_laI, zz_laJ, zz_laA]]
  unfold wp_J20_numberOfTrailingZeros at hw
  refine zz_iload_n C dJ20_numberOfTrailingZeros_0 rfl 0 rfl ?_
  refine zz_iconst (v := (-1 : Int32)) C dJ20_numberOfTrailingZeros_1 (by decide) ?_
  refine zz_ixor C dJ20_numberOfTrailingZeros_2 ?_
  refine zz_iload_n C dJ20_numberOfTrailingZeros_3 rfl 0 rfl ?_
  refine zz_iconst (v := (1 : Int32)) C dJ20_numberOfTrailingZeros_4 (by decide) ?_
  refine zz_isub C dJ20_numberOfTrailingZeros_5 ?_
  refine zz_iand C dJ20_numberOfTrailingZeros_6 ?_
  refine zz_istore_n (i := 0) (lv' := [(0, .int ((p0 ^^^ (-1 : Int32)) &&& (p0 - (1 : Int32))))]) C dJ20_numberOfTrailingZeros_7 rfl (by decide) rfl ?_
  refine zz_iload_n C dJ20_numberOfTrailingZeros_8 rfl 0 rfl ?_
  refine zz_if_gt (tgt := 17) C dJ20_numberOfTrailingZeros_9 (by decide) hw (fun hw => ?_) (fun hw => ?_)
  · refine zz_iconst (v := (1 : Int32)) C dJ20_numberOfTrailingZeros_17 (by decide) ?_
    refine zz_istore_n (i := 1) (lv' := [(1, .int (1 : Int32)), (0, .int ((p0 ^^^ (-1 : Int32)) &&& (p0 - (1 : Int32))))]) C dJ20_numberOfTrailingZeros_18 rfl (by decide) rfl ?_
    refine zz_iload_n C dJ20_numberOfTrailingZeros_19 rfl 1 rfl ?_
    refine zz_ldcwi C dJ20_numberOfTrailingZeros_20 q1518 ?_
    refine zz_icmp_le (tgt := 34) C dJ20_numberOfTrailingZeros_23 (by decide) hw (fun hw => ?_) (fun hw => ?_)
    · refine zz_subP [1, 0] rfl ?_
      exact ok_J20_numberOfTrailingZeros_B34 C E hH hR hw
    · refine zz_iinc (lv' := [(1, .int ((1 : Int32) + 16)), (0, .int ((p0 ^^^ (-1 : Int32)) &&& (p0 - (1 : Int32))))]) C dJ20_numberOfTrailingZeros_26 0 rfl (by rfl) (by decide) rfl ?_
      refine zz_iload_n C dJ20_numberOfTrailingZeros_29 rfl 1 rfl ?_
      refine zz_bipush (v := (16 : Int32)) C dJ20_numberOfTrailingZeros_30 (by decide) ?_
      refine zz_iushr C dJ20_numberOfTrailingZeros_32 rfl ?_
      refine zz_istore_n (i := 0) (lv' := [(0, .int ((((p0 ^^^ (-1 : Int32)) &&& (p0 - (1 : Int32))).toUInt32 >>> ((16 : Int32).toUInt32 &&& Int32.toUInt32 31)).toInt32)), (1, .int ((1 : Int32) + 16))]) C dJ20_numberOfTrailingZeros_33 rfl (by decide) rfl ?_
      refine zz_subP [0, 1] rfl ?_
      exact ok_J20_numberOfTrailingZeros_B34 C E hH hR hw
  · refine zz_iload_n C dJ20_numberOfTrailingZeros_12 rfl 0 rfl ?_
    refine zz_bipush (v := (32 : Int32)) C dJ20_numberOfTrailingZeros_13 (by decide) ?_
    refine zz_iand C dJ20_numberOfTrailingZeros_15 ?_
    exact zz_iret C E dJ20_numberOfTrailingZeros_16 hw
abbrev cJ27_numberOfTrailingZeros : ByteArray := prog_42_method_49_code
def yJ27_numberOfTrailingZeros : MethodName := ⟨"java/lang/Long", "numberOfTrailingZeros", "(J)I"⟩
def dkwJ27_numberOfTrailingZeros_1 : List UInt8 := [184, 1, 55, 172]
abbrev dktJ27_numberOfTrailingZeros_1 : List UInt8 := dkwJ27_numberOfTrailingZeros_1 ++ []
def dkwJ27_numberOfTrailingZeros_0 : List UInt8 := [30, 136, 61, 28, 154, 0, 17, 16, 32, 30, 16, 32, 125, 136, 184, 1, 55, 96, 167, 0, 7, 28]
abbrev dktJ27_numberOfTrailingZeros_0 : List UInt8 := dkwJ27_numberOfTrailingZeros_0 ++ dktJ27_numberOfTrailingZeros_1
theorem dksJ27_numberOfTrailingZeros_0 : cJ27_numberOfTrailingZeros.data.toList.drop 0 = dktJ27_numberOfTrailingZeros_0 := by decide +kernel
theorem dksJ27_numberOfTrailingZeros_1 : cJ27_numberOfTrailingZeros.data.toList.drop 22 = dktJ27_numberOfTrailingZeros_1 := dk_seg dksJ27_numberOfTrailingZeros_0 22 rfl rfl
theorem dJ27_numberOfTrailingZeros_0 : decode cJ27_numberOfTrailingZeros 0 = .ok (.lload_n 0, 1) := dk_30 (dk_at dksJ27_numberOfTrailingZeros_0 0 rfl rfl)
theorem dJ27_numberOfTrailingZeros_1 : decode cJ27_numberOfTrailingZeros 1 = .ok (.l2i, 1) := dk_136 (dk_at dksJ27_numberOfTrailingZeros_0 1 rfl rfl)
theorem dJ27_numberOfTrailingZeros_2 : decode cJ27_numberOfTrailingZeros 2 = .ok (.istore_n 2, 1) := dk_61 (dk_at dksJ27_numberOfTrailingZeros_0 2 rfl rfl)
theorem dJ27_numberOfTrailingZeros_3 : decode cJ27_numberOfTrailingZeros 3 = .ok (.iload_n 2, 1) := dk_28 (dk_at dksJ27_numberOfTrailingZeros_0 3 rfl rfl)
theorem dJ27_numberOfTrailingZeros_4 : decode cJ27_numberOfTrailingZeros 4 = .ok (.ifCond .ne 17, 3) := dk_154 0 17 (dk_at dksJ27_numberOfTrailingZeros_0 4 rfl rfl)
theorem dJ27_numberOfTrailingZeros_7 : decode cJ27_numberOfTrailingZeros 7 = .ok (.bipush 32, 2) := dk_16 32 (dk_at dksJ27_numberOfTrailingZeros_0 7 rfl rfl)
theorem dJ27_numberOfTrailingZeros_9 : decode cJ27_numberOfTrailingZeros 9 = .ok (.lload_n 0, 1) := dk_30 (dk_at dksJ27_numberOfTrailingZeros_0 9 rfl rfl)
theorem dJ27_numberOfTrailingZeros_10 : decode cJ27_numberOfTrailingZeros 10 = .ok (.bipush 32, 2) := dk_16 32 (dk_at dksJ27_numberOfTrailingZeros_0 10 rfl rfl)
theorem dJ27_numberOfTrailingZeros_12 : decode cJ27_numberOfTrailingZeros 12 = .ok (.lushr, 1) := dk_125 (dk_at dksJ27_numberOfTrailingZeros_0 12 rfl rfl)
theorem dJ27_numberOfTrailingZeros_13 : decode cJ27_numberOfTrailingZeros 13 = .ok (.l2i, 1) := dk_136 (dk_at dksJ27_numberOfTrailingZeros_0 13 rfl rfl)
theorem dJ27_numberOfTrailingZeros_14 : decode cJ27_numberOfTrailingZeros 14 = .ok (.invokestatic 311, 3) := dk_184 1 55 (dk_at dksJ27_numberOfTrailingZeros_0 14 rfl rfl)
theorem dJ27_numberOfTrailingZeros_17 : decode cJ27_numberOfTrailingZeros 17 = .ok (.iadd, 1) := dk_96 (dk_at dksJ27_numberOfTrailingZeros_0 17 rfl rfl)
theorem dJ27_numberOfTrailingZeros_18 : decode cJ27_numberOfTrailingZeros 18 = .ok (.goto 7, 3) := dk_167 0 7 (dk_at dksJ27_numberOfTrailingZeros_0 18 rfl rfl)
theorem dJ27_numberOfTrailingZeros_21 : decode cJ27_numberOfTrailingZeros 21 = .ok (.iload_n 2, 1) := dk_28 (dk_at dksJ27_numberOfTrailingZeros_0 21 rfl rfl)
theorem dJ27_numberOfTrailingZeros_22 : decode cJ27_numberOfTrailingZeros 22 = .ok (.invokestatic 311, 3) := dk_184 1 55 (dk_at dksJ27_numberOfTrailingZeros_1 0 rfl rfl)
theorem dJ27_numberOfTrailingZeros_25 : decode cJ27_numberOfTrailingZeros 25 = .ok (.ireturn, 1) := dk_172 (dk_at dksJ27_numberOfTrailingZeros_1 3 rfl rfl)
theorem q1526 : (Jvm.Cond.code ({ cls := "java/lang/Integer", name := "numberOfTrailingZeros", desc := "(I)I" } : Jvm.MethodName) prog_40_method_48_code (2 : Nat) (Option.some Jvm.ClassFile.FieldType.int)) ∈ lw_all := lw_g (lw_at lw_m7 6 rfl) rfl
theorem zk_J20_numberOfTrailingZeros : zz_cd yJ20_numberOfTrailingZeros cJ20_numberOfTrailingZeros 2 (some .int) none ∈ lw_all := q1526
theorem zy_J20_numberOfTrailingZeros : zz_yok yJ20_numberOfTrailingZeros 1 = true := by decide +kernel
theorem q1524 : (Jvm.Cond.methodLink "java/lang/Long" (311 : Nat) ({ cls := "java/lang/Integer", name := "numberOfTrailingZeros", desc := "(I)I" } : Jvm.MethodName)) ∈ lw_all := lw_g (lw_at lw_m7 4 rfl) rfl
theorem q112 : (Jvm.Cond.initialized "java/lang/Integer") ∈ lw_all := lw_g (lw_at lw_m1 32 rfl) rfl
theorem zl_java_lang_Integer : Cond.initialized "java/lang/Integer" ∈ lw_all := q112
theorem q1525 : (Jvm.Cond.static ({ cls := "java/lang/Integer", name := "numberOfTrailingZeros", desc := "(I)I" } : Jvm.MethodName)) ∈ lw_all := lw_g (lw_at lw_m7 5 rfl) rfl
def wp_J27_numberOfTrailingZeros_B25 (Z : zzG) (K : Option Value → zzM → Prop) (s0 : Int32) (M : zzM) : Prop := K (some (.int s0)) M
def wp_J27_numberOfTrailingZeros (Z : zzG) (p0 : Int64) (M : zzM) (K : Option Value → zzM → Prop) : Prop := if p0.toInt32 = 0 then (wp_J20_numberOfTrailingZeros Z (((p0.toUInt64 >>> ((32 : Int32).toInt64.toUInt64 &&& Int64.toUInt64 63)).toInt64).toInt32) M (fun r6 M7 => zrI r6 fun x10 => wp_J27_numberOfTrailingZeros_B25 Z K ((32 : Int32) + x10) M7)) else (wp_J20_numberOfTrailingZeros Z p0.toInt32 M (fun r1 M2 => zrI r1 fun x5 => wp_J27_numberOfTrailingZeros_B25 Z K x5 M2))
theorem ok_J27_numberOfTrailingZeros_B25 {G : zzX} (C : zz_C G cJ27_numberOfTrailingZeros "java/lang/Long" 3) {K : Option Value → zzM → Prop} (E : zz_E G (some .int) K (fun _ _ _ => False)) (hH : zz_H G []) (hR : zz_Rm G 2) {s0 : Int32} {M : zzM} {bc bs : Nat} (hw : wp_J27_numberOfTrailingZeros_B25 (zz_Zof G) K s0 M) : zz_T G 3 M bc bs 25 [] [.int s0] := by
  unfold wp_J27_numberOfTrailingZeros_B25 at hw
  exact zz_iret C E dJ27_numberOfTrailingZeros_25 hw
theorem ok_J27_numberOfTrailingZeros {Z : zzG} {l : Launch} (hl : l.stackTraces = false) {p0 : Int64} {M : zzM} {mc ms : Nat} {K : Option Value → zzM → Prop} (hw : wp_J27_numberOfTrailingZeros Z p0 M K) : zz_Met Z l yJ27_numberOfTrailingZeros (zz_ws yJ27_numberOfTrailingZeros cJ27_numberOfTrailingZeros 3 (some .int) none) 2 [.long p0] M mc ms K (fun _ _ _ => False) := by
  refine zz_ofW hl (plainFor_of_name (by decide)) (by simp only [zz_sl0, zz_slI, zz_slJ, zz_slA] <;> decide) (fun G hZ hll C E hH hR hin => ?_)
  subst hZ
  subst hll
  rw [show lv_args 0 [.long p0] = [(0, .long p0)] by simp only [zz_la0, zz_laI, zz_laJ, zz_laA]]
  unfold wp_J27_numberOfTrailingZeros at hw
  refine zz_lload_n C dJ27_numberOfTrailingZeros_0 rfl 0 rfl ?_
  refine zz_l2i C dJ27_numberOfTrailingZeros_1 ?_
  refine zz_istore_n (i := 2) (lv' := [(2, .int p0.toInt32), (0, .long p0)]) C dJ27_numberOfTrailingZeros_2 rfl (by decide) rfl ?_
  refine zz_iload_n C dJ27_numberOfTrailingZeros_3 rfl 0 rfl ?_
  refine zz_if_ne (tgt := 21) C dJ27_numberOfTrailingZeros_4 (by decide) hw (fun hw => ?_) (fun hw => ?_)
  · refine zz_iload_n C dJ27_numberOfTrailingZeros_21 rfl 0 rfl ?_
    refine zz_callS (As := [.int p0.toInt32]) (rest := []) (mc := 0) (ms := 0) C hR dJ27_numberOfTrailingZeros_22 (Or.inl q1524) q1525 zl_java_lang_Integer zk_J20_numberOfTrailingZeros (Or.inl rfl) zy_J20_numberOfTrailingZeros (by decide) (by decide) (ok_J20_numberOfTrailingZeros (zz_hl C) hw) (Nat.zero_le _) (Nat.zero_le _) (zz_cat10 _ (Nat.le_of_ble_eq_true rfl)) (fun r1 M2 hw => zz_kI hw (fun x5 hw => ?_)) (fun _ _ _ h9 => h9.elim) rfl
    refine zz_subP [] rfl ?_
    exact ok_J27_numberOfTrailingZeros_B25 C E hH hR hw
  · refine zz_bipush (v := (32 : Int32)) C dJ27_numberOfTrailingZeros_7 (by decide) ?_
    refine zz_lload_n C dJ27_numberOfTrailingZeros_9 rfl 1 rfl ?_
    refine zz_bipush (v := (32 : Int32)) C dJ27_numberOfTrailingZeros_10 (by decide) ?_
    refine zz_lushr C dJ27_numberOfTrailingZeros_12 rfl ?_
    refine zz_l2i C dJ27_numberOfTrailingZeros_13 ?_
    refine zz_callS (As := [.int (((p0.toUInt64 >>> ((32 : Int32).toInt64.toUInt64 &&& Int64.toUInt64 63)).toInt64).toInt32)]) (rest := [.int (32 : Int32)]) (mc := 0) (ms := 0) C hR dJ27_numberOfTrailingZeros_14 (Or.inl q1524) q1525 zl_java_lang_Integer zk_J20_numberOfTrailingZeros (Or.inl rfl) zy_J20_numberOfTrailingZeros (by decide) (by decide) (ok_J20_numberOfTrailingZeros (zz_hl C) hw) (Nat.zero_le _) (Nat.zero_le _) (zz_cat10 _ (Nat.le_of_ble_eq_true rfl)) (fun r6 M7 hw => zz_kI hw (fun x10 hw => ?_)) (fun _ _ _ h9 => h9.elim) rfl
    refine zz_iadd C dJ27_numberOfTrailingZeros_17 ?_
    refine zz_goto (tgt := 25) C dJ27_numberOfTrailingZeros_18 (by decide) ?_
    refine zz_subP [] rfl ?_
    exact ok_J27_numberOfTrailingZeros_B25 C E hH hR hw
abbrev cJ15_vectorizedMismatch : ByteArray := prog_78_method_3_code
def yJ15_vectorizedMismatch : MethodName := ⟨"jdk/internal/util/ArraysSupport", "vectorizedMismatch", "(Ljava/lang/Object;JLjava/lang/Object;JII)I"⟩
def dkwJ15_vectorizedMismatch_11 : List UInt8 := [54, 10, 21, 10, 2, 130, 172, 21, 10, 2, 130, 172]
abbrev dktJ15_vectorizedMismatch_11 : List UInt8 := dkwJ15_vectorizedMismatch_11 ++ []
def dkwJ15_vectorizedMismatch_10 : List UInt8 := [178, 0, 46, 21, 7, 96, 122, 54, 17, 21, 9, 21, 8, 120, 21, 17, 96, 172, 21, 10, 21, 11, 100]
abbrev dktJ15_vectorizedMismatch_10 : List UInt8 := dkwJ15_vectorizedMismatch_10 ++ dktJ15_vectorizedMismatch_11
def dkwJ15_vectorizedMismatch_9 : List UInt8 := [153, 0, 18, 21, 16, 184, 0, 58, 178, 0, 46, 21, 7, 96, 122, 167, 0, 15, 21, 16, 184, 0, 11]
abbrev dktJ15_vectorizedMismatch_9 : List UInt8 := dkwJ15_vectorizedMismatch_9 ++ dktJ15_vectorizedMismatch_10
def dkwJ15_vectorizedMismatch_8 : List UInt8 := [182, 0, 54, 54, 15, 21, 14, 21, 15, 159, 0, 54, 21, 14, 21, 15, 130, 54, 16, 178, 0, 36]
abbrev dktJ15_vectorizedMismatch_8 : List UInt8 := dkwJ15_vectorizedMismatch_8 ++ dktJ15_vectorizedMismatch_9
def dkwJ15_vectorizedMismatch_7 : List UInt8 := [55, 12, 178, 0, 26, 42, 31, 22, 12, 97, 182, 0, 54, 54, 14, 178, 0, 26, 45, 22, 4, 22, 12, 97]
abbrev dktJ15_vectorizedMismatch_7 : List UInt8 := dkwJ15_vectorizedMismatch_7 ++ dktJ15_vectorizedMismatch_8
def dkwJ15_vectorizedMismatch_6 : List UInt8 := [4, 178, 0, 51, 21, 7, 100, 120, 54, 11, 21, 10, 21, 11, 161, 0, 104, 21, 9, 133, 178, 0, 20, 121]
abbrev dktJ15_vectorizedMismatch_6 : List UInt8 := dkwJ15_vectorizedMismatch_6 ++ dktJ15_vectorizedMismatch_7
def dkwJ15_vectorizedMismatch_5 : List UInt8 := [132, 9, 1, 167, 255, 148, 21, 6, 21, 9, 21, 8, 120, 100, 54, 10, 21, 7, 178, 0, 51, 162, 0, 126]
abbrev dktJ15_vectorizedMismatch_5 : List UInt8 := dkwJ15_vectorizedMismatch_5 ++ dktJ15_vectorizedMismatch_6
def dkwJ15_vectorizedMismatch_4 : List UInt8 := [22, 16, 184, 0, 49, 178, 0, 46, 21, 7, 96, 122, 54, 18, 21, 9, 21, 8, 120, 21, 18, 96, 172]
abbrev dktJ15_vectorizedMismatch_4 : List UInt8 := dkwJ15_vectorizedMismatch_4 ++ dktJ15_vectorizedMismatch_5
def dkwJ15_vectorizedMismatch_3 : List UInt8 := [55, 16, 178, 0, 36, 153, 0, 18, 22, 16, 184, 0, 40, 178, 0, 46, 21, 7, 96, 122, 167, 0, 15]
abbrev dktJ15_vectorizedMismatch_3 : List UInt8 := dkwJ15_vectorizedMismatch_3 ++ dktJ15_vectorizedMismatch_4
def dkwJ15_vectorizedMismatch_2 : List UInt8 := [22, 4, 22, 10, 97, 182, 0, 30, 55, 14, 22, 12, 22, 14, 148, 153, 0, 54, 22, 12, 22, 14, 131]
abbrev dktJ15_vectorizedMismatch_2 : List UInt8 := dkwJ15_vectorizedMismatch_2 ++ dktJ15_vectorizedMismatch_3
def dkwJ15_vectorizedMismatch_1 : List UInt8 := [178, 0, 20, 121, 55, 10, 178, 0, 26, 42, 31, 22, 10, 97, 182, 0, 30, 55, 12, 178, 0, 26, 45]
abbrev dktJ15_vectorizedMismatch_1 : List UInt8 := dkwJ15_vectorizedMismatch_1 ++ dktJ15_vectorizedMismatch_2
def dkwJ15_vectorizedMismatch_0 : List UInt8 := [178, 0, 20, 21, 7, 100, 54, 8, 3, 54, 9, 21, 9, 21, 6, 21, 8, 122, 162, 0, 104, 21, 9, 133]
abbrev dktJ15_vectorizedMismatch_0 : List UInt8 := dkwJ15_vectorizedMismatch_0 ++ dktJ15_vectorizedMismatch_1
theorem dksJ15_vectorizedMismatch_0 : cJ15_vectorizedMismatch.data.toList.drop 0 = dktJ15_vectorizedMismatch_0 := by decide +kernel
theorem dksJ15_vectorizedMismatch_1 : cJ15_vectorizedMismatch.data.toList.drop 24 = dktJ15_vectorizedMismatch_1 := dk_seg dksJ15_vectorizedMismatch_0 24 rfl rfl
theorem dksJ15_vectorizedMismatch_2 : cJ15_vectorizedMismatch.data.toList.drop 47 = dktJ15_vectorizedMismatch_2 := dk_seg dksJ15_vectorizedMismatch_1 23 rfl rfl
theorem dksJ15_vectorizedMismatch_3 : cJ15_vectorizedMismatch.data.toList.drop 70 = dktJ15_vectorizedMismatch_3 := dk_seg dksJ15_vectorizedMismatch_2 23 rfl rfl
theorem dksJ15_vectorizedMismatch_4 : cJ15_vectorizedMismatch.data.toList.drop 93 = dktJ15_vectorizedMismatch_4 := dk_seg dksJ15_vectorizedMismatch_3 23 rfl rfl
theorem dksJ15_vectorizedMismatch_5 : cJ15_vectorizedMismatch.data.toList.drop 116 = dktJ15_vectorizedMismatch_5 := dk_seg dksJ15_vectorizedMismatch_4 23 rfl rfl
theorem dksJ15_vectorizedMismatch_6 : cJ15_vectorizedMismatch.data.toList.drop 140 = dktJ15_vectorizedMismatch_6 := dk_seg dksJ15_vectorizedMismatch_5 24 rfl rfl
theorem dksJ15_vectorizedMismatch_7 : cJ15_vectorizedMismatch.data.toList.drop 164 = dktJ15_vectorizedMismatch_7 := dk_seg dksJ15_vectorizedMismatch_6 24 rfl rfl
theorem dksJ15_vectorizedMismatch_8 : cJ15_vectorizedMismatch.data.toList.drop 188 = dktJ15_vectorizedMismatch_8 := dk_seg dksJ15_vectorizedMismatch_7 24 rfl rfl
theorem dksJ15_vectorizedMismatch_9 : cJ15_vectorizedMismatch.data.toList.drop 210 = dktJ15_vectorizedMismatch_9 := dk_seg dksJ15_vectorizedMismatch_8 22 rfl rfl
theorem dksJ15_vectorizedMismatch_10 : cJ15_vectorizedMismatch.data.toList.drop 233 = dktJ15_vectorizedMismatch_10 := dk_seg dksJ15_vectorizedMismatch_9 23 rfl rfl
theorem dksJ15_vectorizedMismatch_11 : cJ15_vectorizedMismatch.data.toList.drop 256 = dktJ15_vectorizedMismatch_11 := dk_seg dksJ15_vectorizedMismatch_10 23 rfl rfl
theorem dJ15_vectorizedMismatch_0 : decode cJ15_vectorizedMismatch 0 = .ok (.getstatic 20, 3) := dk_178 0 20 (dk_at dksJ15_vectorizedMismatch_0 0 rfl rfl)
theorem dJ15_vectorizedMismatch_3 : decode cJ15_vectorizedMismatch 3 = .ok (.iload 7, 2) := dk_21 7 (dk_at dksJ15_vectorizedMismatch_0 3 rfl rfl)
theorem dJ15_vectorizedMismatch_5 : decode cJ15_vectorizedMismatch 5 = .ok (.isub, 1) := dk_100 (dk_at dksJ15_vectorizedMismatch_0 5 rfl rfl)
theorem dJ15_vectorizedMismatch_6 : decode cJ15_vectorizedMismatch 6 = .ok (.istore 8, 2) := dk_54 8 (dk_at dksJ15_vectorizedMismatch_0 6 rfl rfl)
theorem dJ15_vectorizedMismatch_8 : decode cJ15_vectorizedMismatch 8 = .ok (.iconst 0, 1) := dk_3 (dk_at dksJ15_vectorizedMismatch_0 8 rfl rfl)
theorem dJ15_vectorizedMismatch_9 : decode cJ15_vectorizedMismatch 9 = .ok (.istore 9, 2) := dk_54 9 (dk_at dksJ15_vectorizedMismatch_0 9 rfl rfl)
theorem dJ15_vectorizedMismatch_11 : decode cJ15_vectorizedMismatch 11 = .ok (.iload 9, 2) := dk_21 9 (dk_at dksJ15_vectorizedMismatch_0 11 rfl rfl)
theorem dJ15_vectorizedMismatch_13 : decode cJ15_vectorizedMismatch 13 = .ok (.iload 6, 2) := dk_21 6 (dk_at dksJ15_vectorizedMismatch_0 13 rfl rfl)
theorem dJ15_vectorizedMismatch_15 : decode cJ15_vectorizedMismatch 15 = .ok (.iload 8, 2) := dk_21 8 (dk_at dksJ15_vectorizedMismatch_0 15 rfl rfl)
theorem dJ15_vectorizedMismatch_17 : decode cJ15_vectorizedMismatch 17 = .ok (.ishr, 1) := dk_122 (dk_at dksJ15_vectorizedMismatch_0 17 rfl rfl)
theorem dJ15_vectorizedMismatch_18 : decode cJ15_vectorizedMismatch 18 = .ok (.if_icmp .ge 104, 3) := dk_162 0 104 (dk_at dksJ15_vectorizedMismatch_0 18 rfl rfl)
theorem dJ15_vectorizedMismatch_21 : decode cJ15_vectorizedMismatch 21 = .ok (.iload 9, 2) := dk_21 9 (dk_at dksJ15_vectorizedMismatch_0 21 rfl rfl)
theorem dJ15_vectorizedMismatch_23 : decode cJ15_vectorizedMismatch 23 = .ok (.i2l, 1) := dk_133 (dk_at dksJ15_vectorizedMismatch_0 23 rfl rfl)
theorem dJ15_vectorizedMismatch_24 : decode cJ15_vectorizedMismatch 24 = .ok (.getstatic 20, 3) := dk_178 0 20 (dk_at dksJ15_vectorizedMismatch_1 0 rfl rfl)
theorem dJ15_vectorizedMismatch_27 : decode cJ15_vectorizedMismatch 27 = .ok (.lshl, 1) := dk_121 (dk_at dksJ15_vectorizedMismatch_1 3 rfl rfl)
theorem dJ15_vectorizedMismatch_28 : decode cJ15_vectorizedMismatch 28 = .ok (.lstore 10, 2) := dk_55 10 (dk_at dksJ15_vectorizedMismatch_1 4 rfl rfl)
theorem dJ15_vectorizedMismatch_30 : decode cJ15_vectorizedMismatch 30 = .ok (.getstatic 26, 3) := dk_178 0 26 (dk_at dksJ15_vectorizedMismatch_1 6 rfl rfl)
theorem dJ15_vectorizedMismatch_33 : decode cJ15_vectorizedMismatch 33 = .ok (.aload_n 0, 1) := dk_42 (dk_at dksJ15_vectorizedMismatch_1 9 rfl rfl)
theorem dJ15_vectorizedMismatch_34 : decode cJ15_vectorizedMismatch 34 = .ok (.lload_n 1, 1) := dk_31 (dk_at dksJ15_vectorizedMismatch_1 10 rfl rfl)
theorem dJ15_vectorizedMismatch_35 : decode cJ15_vectorizedMismatch 35 = .ok (.lload 10, 2) := dk_22 10 (dk_at dksJ15_vectorizedMismatch_1 11 rfl rfl)
theorem dJ15_vectorizedMismatch_37 : decode cJ15_vectorizedMismatch 37 = .ok (.ladd, 1) := dk_97 (dk_at dksJ15_vectorizedMismatch_1 13 rfl rfl)
theorem dJ15_vectorizedMismatch_38 : decode cJ15_vectorizedMismatch 38 = .ok (.invokevirtual 30, 3) := dk_182 0 30 (dk_at dksJ15_vectorizedMismatch_1 14 rfl rfl)
theorem dJ15_vectorizedMismatch_41 : decode cJ15_vectorizedMismatch 41 = .ok (.lstore 12, 2) := dk_55 12 (dk_at dksJ15_vectorizedMismatch_1 17 rfl rfl)
theorem dJ15_vectorizedMismatch_43 : decode cJ15_vectorizedMismatch 43 = .ok (.getstatic 26, 3) := dk_178 0 26 (dk_at dksJ15_vectorizedMismatch_1 19 rfl rfl)
theorem dJ15_vectorizedMismatch_46 : decode cJ15_vectorizedMismatch 46 = .ok (.aload_n 3, 1) := dk_45 (dk_at dksJ15_vectorizedMismatch_1 22 rfl rfl)
theorem dJ15_vectorizedMismatch_47 : decode cJ15_vectorizedMismatch 47 = .ok (.lload 4, 2) := dk_22 4 (dk_at dksJ15_vectorizedMismatch_2 0 rfl rfl)
theorem dJ15_vectorizedMismatch_49 : decode cJ15_vectorizedMismatch 49 = .ok (.lload 10, 2) := dk_22 10 (dk_at dksJ15_vectorizedMismatch_2 2 rfl rfl)
theorem dJ15_vectorizedMismatch_51 : decode cJ15_vectorizedMismatch 51 = .ok (.ladd, 1) := dk_97 (dk_at dksJ15_vectorizedMismatch_2 4 rfl rfl)
theorem dJ15_vectorizedMismatch_52 : decode cJ15_vectorizedMismatch 52 = .ok (.invokevirtual 30, 3) := dk_182 0 30 (dk_at dksJ15_vectorizedMismatch_2 5 rfl rfl)
theorem dJ15_vectorizedMismatch_55 : decode cJ15_vectorizedMismatch 55 = .ok (.lstore 14, 2) := dk_55 14 (dk_at dksJ15_vectorizedMismatch_2 8 rfl rfl)
theorem dJ15_vectorizedMismatch_57 : decode cJ15_vectorizedMismatch 57 = .ok (.lload 12, 2) := dk_22 12 (dk_at dksJ15_vectorizedMismatch_2 10 rfl rfl)
theorem dJ15_vectorizedMismatch_59 : decode cJ15_vectorizedMismatch 59 = .ok (.lload 14, 2) := dk_22 14 (dk_at dksJ15_vectorizedMismatch_2 12 rfl rfl)
theorem dJ15_vectorizedMismatch_61 : decode cJ15_vectorizedMismatch 61 = .ok (.lcmp, 1) := dk_148 (dk_at dksJ15_vectorizedMismatch_2 14 rfl rfl)
theorem dJ15_vectorizedMismatch_62 : decode cJ15_vectorizedMismatch 62 = .ok (.ifCond .eq 54, 3) := dk_153 0 54 (dk_at dksJ15_vectorizedMismatch_2 15 rfl rfl)
theorem dJ15_vectorizedMismatch_65 : decode cJ15_vectorizedMismatch 65 = .ok (.lload 12, 2) := dk_22 12 (dk_at dksJ15_vectorizedMismatch_2 18 rfl rfl)
theorem dJ15_vectorizedMismatch_67 : decode cJ15_vectorizedMismatch 67 = .ok (.lload 14, 2) := dk_22 14 (dk_at dksJ15_vectorizedMismatch_2 20 rfl rfl)
theorem dJ15_vectorizedMismatch_69 : decode cJ15_vectorizedMismatch 69 = .ok (.lxor, 1) := dk_131 (dk_at dksJ15_vectorizedMismatch_2 22 rfl rfl)
theorem dJ15_vectorizedMismatch_70 : decode cJ15_vectorizedMismatch 70 = .ok (.lstore 16, 2) := dk_55 16 (dk_at dksJ15_vectorizedMismatch_3 0 rfl rfl)
theorem dJ15_vectorizedMismatch_72 : decode cJ15_vectorizedMismatch 72 = .ok (.getstatic 36, 3) := dk_178 0 36 (dk_at dksJ15_vectorizedMismatch_3 2 rfl rfl)
theorem dJ15_vectorizedMismatch_75 : decode cJ15_vectorizedMismatch 75 = .ok (.ifCond .eq 18, 3) := dk_153 0 18 (dk_at dksJ15_vectorizedMismatch_3 5 rfl rfl)
theorem dJ15_vectorizedMismatch_78 : decode cJ15_vectorizedMismatch 78 = .ok (.lload 16, 2) := dk_22 16 (dk_at dksJ15_vectorizedMismatch_3 8 rfl rfl)
theorem dJ15_vectorizedMismatch_80 : decode cJ15_vectorizedMismatch 80 = .ok (.invokestatic 40, 3) := dk_184 0 40 (dk_at dksJ15_vectorizedMismatch_3 10 rfl rfl)
theorem dJ15_vectorizedMismatch_93 : decode cJ15_vectorizedMismatch 93 = .ok (.lload 16, 2) := dk_22 16 (dk_at dksJ15_vectorizedMismatch_4 0 rfl rfl)
theorem dJ15_vectorizedMismatch_95 : decode cJ15_vectorizedMismatch 95 = .ok (.invokestatic 49, 3) := dk_184 0 49 (dk_at dksJ15_vectorizedMismatch_4 2 rfl rfl)
theorem dJ15_vectorizedMismatch_98 : decode cJ15_vectorizedMismatch 98 = .ok (.getstatic 46, 3) := dk_178 0 46 (dk_at dksJ15_vectorizedMismatch_4 5 rfl rfl)
theorem dJ15_vectorizedMismatch_101 : decode cJ15_vectorizedMismatch 101 = .ok (.iload 7, 2) := dk_21 7 (dk_at dksJ15_vectorizedMismatch_4 8 rfl rfl)
theorem dJ15_vectorizedMismatch_103 : decode cJ15_vectorizedMismatch 103 = .ok (.iadd, 1) := dk_96 (dk_at dksJ15_vectorizedMismatch_4 10 rfl rfl)
theorem dJ15_vectorizedMismatch_104 : decode cJ15_vectorizedMismatch 104 = .ok (.ishr, 1) := dk_122 (dk_at dksJ15_vectorizedMismatch_4 11 rfl rfl)
theorem dJ15_vectorizedMismatch_105 : decode cJ15_vectorizedMismatch 105 = .ok (.istore 18, 2) := dk_54 18 (dk_at dksJ15_vectorizedMismatch_4 12 rfl rfl)
theorem dJ15_vectorizedMismatch_107 : decode cJ15_vectorizedMismatch 107 = .ok (.iload 9, 2) := dk_21 9 (dk_at dksJ15_vectorizedMismatch_4 14 rfl rfl)
theorem dJ15_vectorizedMismatch_109 : decode cJ15_vectorizedMismatch 109 = .ok (.iload 8, 2) := dk_21 8 (dk_at dksJ15_vectorizedMismatch_4 16 rfl rfl)
theorem dJ15_vectorizedMismatch_111 : decode cJ15_vectorizedMismatch 111 = .ok (.ishl, 1) := dk_120 (dk_at dksJ15_vectorizedMismatch_4 18 rfl rfl)
theorem dJ15_vectorizedMismatch_112 : decode cJ15_vectorizedMismatch 112 = .ok (.iload 18, 2) := dk_21 18 (dk_at dksJ15_vectorizedMismatch_4 19 rfl rfl)
theorem dJ15_vectorizedMismatch_114 : decode cJ15_vectorizedMismatch 114 = .ok (.iadd, 1) := dk_96 (dk_at dksJ15_vectorizedMismatch_4 21 rfl rfl)
theorem dJ15_vectorizedMismatch_115 : decode cJ15_vectorizedMismatch 115 = .ok (.ireturn, 1) := dk_172 (dk_at dksJ15_vectorizedMismatch_4 22 rfl rfl)
theorem dJ15_vectorizedMismatch_116 : decode cJ15_vectorizedMismatch 116 = .ok (.iinc 9 1, 3) := dk_132 9 1 (dk_at dksJ15_vectorizedMismatch_5 0 rfl rfl)
theorem dJ15_vectorizedMismatch_119 : decode cJ15_vectorizedMismatch 119 = .ok (.goto (-108), 3) := dk_167 255 148 (dk_at dksJ15_vectorizedMismatch_5 3 rfl rfl)
theorem dJ15_vectorizedMismatch_122 : decode cJ15_vectorizedMismatch 122 = .ok (.iload 6, 2) := dk_21 6 (dk_at dksJ15_vectorizedMismatch_5 6 rfl rfl)
theorem dJ15_vectorizedMismatch_124 : decode cJ15_vectorizedMismatch 124 = .ok (.iload 9, 2) := dk_21 9 (dk_at dksJ15_vectorizedMismatch_5 8 rfl rfl)
theorem dJ15_vectorizedMismatch_126 : decode cJ15_vectorizedMismatch 126 = .ok (.iload 8, 2) := dk_21 8 (dk_at dksJ15_vectorizedMismatch_5 10 rfl rfl)
theorem dJ15_vectorizedMismatch_128 : decode cJ15_vectorizedMismatch 128 = .ok (.ishl, 1) := dk_120 (dk_at dksJ15_vectorizedMismatch_5 12 rfl rfl)
theorem dJ15_vectorizedMismatch_129 : decode cJ15_vectorizedMismatch 129 = .ok (.isub, 1) := dk_100 (dk_at dksJ15_vectorizedMismatch_5 13 rfl rfl)
theorem dJ15_vectorizedMismatch_130 : decode cJ15_vectorizedMismatch 130 = .ok (.istore 10, 2) := dk_54 10 (dk_at dksJ15_vectorizedMismatch_5 14 rfl rfl)
theorem dJ15_vectorizedMismatch_132 : decode cJ15_vectorizedMismatch 132 = .ok (.iload 7, 2) := dk_21 7 (dk_at dksJ15_vectorizedMismatch_5 16 rfl rfl)
theorem dJ15_vectorizedMismatch_134 : decode cJ15_vectorizedMismatch 134 = .ok (.getstatic 51, 3) := dk_178 0 51 (dk_at dksJ15_vectorizedMismatch_5 18 rfl rfl)
theorem dJ15_vectorizedMismatch_137 : decode cJ15_vectorizedMismatch 137 = .ok (.if_icmp .ge 126, 3) := dk_162 0 126 (dk_at dksJ15_vectorizedMismatch_5 21 rfl rfl)
theorem dJ15_vectorizedMismatch_140 : decode cJ15_vectorizedMismatch 140 = .ok (.iconst 1, 1) := dk_4 (dk_at dksJ15_vectorizedMismatch_6 0 rfl rfl)
theorem dJ15_vectorizedMismatch_141 : decode cJ15_vectorizedMismatch 141 = .ok (.getstatic 51, 3) := dk_178 0 51 (dk_at dksJ15_vectorizedMismatch_6 1 rfl rfl)
theorem dJ15_vectorizedMismatch_144 : decode cJ15_vectorizedMismatch 144 = .ok (.iload 7, 2) := dk_21 7 (dk_at dksJ15_vectorizedMismatch_6 4 rfl rfl)
theorem dJ15_vectorizedMismatch_146 : decode cJ15_vectorizedMismatch 146 = .ok (.isub, 1) := dk_100 (dk_at dksJ15_vectorizedMismatch_6 6 rfl rfl)
theorem dJ15_vectorizedMismatch_147 : decode cJ15_vectorizedMismatch 147 = .ok (.ishl, 1) := dk_120 (dk_at dksJ15_vectorizedMismatch_6 7 rfl rfl)
theorem dJ15_vectorizedMismatch_148 : decode cJ15_vectorizedMismatch 148 = .ok (.istore 11, 2) := dk_54 11 (dk_at dksJ15_vectorizedMismatch_6 8 rfl rfl)
theorem dJ15_vectorizedMismatch_150 : decode cJ15_vectorizedMismatch 150 = .ok (.iload 10, 2) := dk_21 10 (dk_at dksJ15_vectorizedMismatch_6 10 rfl rfl)
theorem dJ15_vectorizedMismatch_152 : decode cJ15_vectorizedMismatch 152 = .ok (.iload 11, 2) := dk_21 11 (dk_at dksJ15_vectorizedMismatch_6 12 rfl rfl)
theorem dJ15_vectorizedMismatch_154 : decode cJ15_vectorizedMismatch 154 = .ok (.if_icmp .lt 104, 3) := dk_161 0 104 (dk_at dksJ15_vectorizedMismatch_6 14 rfl rfl)
theorem dJ15_vectorizedMismatch_157 : decode cJ15_vectorizedMismatch 157 = .ok (.iload 9, 2) := dk_21 9 (dk_at dksJ15_vectorizedMismatch_6 17 rfl rfl)
theorem dJ15_vectorizedMismatch_159 : decode cJ15_vectorizedMismatch 159 = .ok (.i2l, 1) := dk_133 (dk_at dksJ15_vectorizedMismatch_6 19 rfl rfl)
theorem dJ15_vectorizedMismatch_160 : decode cJ15_vectorizedMismatch 160 = .ok (.getstatic 20, 3) := dk_178 0 20 (dk_at dksJ15_vectorizedMismatch_6 20 rfl rfl)
theorem dJ15_vectorizedMismatch_163 : decode cJ15_vectorizedMismatch 163 = .ok (.lshl, 1) := dk_121 (dk_at dksJ15_vectorizedMismatch_6 23 rfl rfl)
theorem dJ15_vectorizedMismatch_164 : decode cJ15_vectorizedMismatch 164 = .ok (.lstore 12, 2) := dk_55 12 (dk_at dksJ15_vectorizedMismatch_7 0 rfl rfl)
theorem dJ15_vectorizedMismatch_166 : decode cJ15_vectorizedMismatch 166 = .ok (.getstatic 26, 3) := dk_178 0 26 (dk_at dksJ15_vectorizedMismatch_7 2 rfl rfl)
theorem dJ15_vectorizedMismatch_169 : decode cJ15_vectorizedMismatch 169 = .ok (.aload_n 0, 1) := dk_42 (dk_at dksJ15_vectorizedMismatch_7 5 rfl rfl)
theorem dJ15_vectorizedMismatch_170 : decode cJ15_vectorizedMismatch 170 = .ok (.lload_n 1, 1) := dk_31 (dk_at dksJ15_vectorizedMismatch_7 6 rfl rfl)
theorem dJ15_vectorizedMismatch_171 : decode cJ15_vectorizedMismatch 171 = .ok (.lload 12, 2) := dk_22 12 (dk_at dksJ15_vectorizedMismatch_7 7 rfl rfl)
theorem dJ15_vectorizedMismatch_173 : decode cJ15_vectorizedMismatch 173 = .ok (.ladd, 1) := dk_97 (dk_at dksJ15_vectorizedMismatch_7 9 rfl rfl)
theorem dJ15_vectorizedMismatch_174 : decode cJ15_vectorizedMismatch 174 = .ok (.invokevirtual 54, 3) := dk_182 0 54 (dk_at dksJ15_vectorizedMismatch_7 10 rfl rfl)
theorem dJ15_vectorizedMismatch_258 : decode cJ15_vectorizedMismatch 258 = .ok (.iload 10, 2) := dk_21 10 (dk_at dksJ15_vectorizedMismatch_11 2 rfl rfl)
theorem dJ15_vectorizedMismatch_260 : decode cJ15_vectorizedMismatch 260 = .ok (.iconst (-1), 1) := dk_2 (dk_at dksJ15_vectorizedMismatch_11 4 rfl rfl)
theorem dJ15_vectorizedMismatch_261 : decode cJ15_vectorizedMismatch 261 = .ok (.ixor, 1) := dk_130 (dk_at dksJ15_vectorizedMismatch_11 5 rfl rfl)
theorem dJ15_vectorizedMismatch_262 : decode cJ15_vectorizedMismatch 262 = .ok (.ireturn, 1) := dk_172 (dk_at dksJ15_vectorizedMismatch_11 6 rfl rfl)
theorem dJ15_vectorizedMismatch_263 : decode cJ15_vectorizedMismatch 263 = .ok (.iload 10, 2) := dk_21 10 (dk_at dksJ15_vectorizedMismatch_11 7 rfl rfl)
theorem dJ15_vectorizedMismatch_265 : decode cJ15_vectorizedMismatch 265 = .ok (.iconst (-1), 1) := dk_2 (dk_at dksJ15_vectorizedMismatch_11 9 rfl rfl)
theorem dJ15_vectorizedMismatch_266 : decode cJ15_vectorizedMismatch 266 = .ok (.ixor, 1) := dk_130 (dk_at dksJ15_vectorizedMismatch_11 10 rfl rfl)
theorem dJ15_vectorizedMismatch_267 : decode cJ15_vectorizedMismatch 267 = .ok (.ireturn, 1) := dk_172 (dk_at dksJ15_vectorizedMismatch_11 11 rfl rfl)
theorem q1454 : (Jvm.Cond.fieldLink "jdk/internal/util/ArraysSupport" (20 : Nat) "jdk/internal/util/ArraysSupport" "LOG2_ARRAY_LONG_INDEX_SCALE" "I") ∈ lw_all := lw_g (lw_at lw_m6 174 rfl) rfl
theorem q1527 : (Jvm.Cond.fieldLink "jdk/internal/util/ArraysSupport" (51 : Nat) "jdk/internal/util/ArraysSupport" "LOG2_ARRAY_INT_INDEX_SCALE" "I") ∈ lw_all := lw_g (lw_at lw_m7 7 rfl) rfl
theorem q1456 : (Jvm.Cond.fieldLink "jdk/internal/util/ArraysSupport" (26 : Nat) "jdk/internal/util/ArraysSupport" "U" "Ljdk/internal/misc/Unsafe;") ∈ lw_all := lw_g (lw_at lw_m6 176 rfl) rfl
theorem q1461 : (Jvm.Cond.code ({ cls := "jdk/internal/misc/Unsafe", name := "getLongUnaligned", desc := "(Ljava/lang/Object;J)J" } : Jvm.MethodName) prog_76_method_334_code (4 : Nat) (Option.some Jvm.ClassFile.FieldType.long)) ∈ lw_all := lw_g (lw_at lw_m6 181 rfl) rfl
theorem zk_J26_getLongUnaligned : zz_cd yJ26_getLongUnaligned cJ26_getLongUnaligned 4 (some .long) none ∈ lw_all := q1461
theorem zy_J26_getLongUnaligned : zz_yok yJ26_getLongUnaligned 2 = true := by decide +kernel
theorem q1510 : (Jvm.Cond.fieldLink "jdk/internal/util/ArraysSupport" (36 : Nat) "jdk/internal/util/ArraysSupport" "BIG_ENDIAN" "Z") ∈ lw_all := lw_g (lw_at lw_m6 230 rfl) rfl
theorem q1523 : (Jvm.Cond.code ({ cls := "java/lang/Long", name := "numberOfTrailingZeros", desc := "(J)I" } : Jvm.MethodName) prog_42_method_49_code (3 : Nat) (Option.some Jvm.ClassFile.FieldType.int)) ∈ lw_all := lw_g (lw_at lw_m7 3 rfl) rfl
theorem zk_J27_numberOfTrailingZeros : zz_cd yJ27_numberOfTrailingZeros cJ27_numberOfTrailingZeros 3 (some .int) none ∈ lw_all := q1523
theorem zy_J27_numberOfTrailingZeros : zz_yok yJ27_numberOfTrailingZeros 1 = true := by decide +kernel
theorem q1519 : (Jvm.Cond.fieldLink "jdk/internal/util/ArraysSupport" (46 : Nat) "jdk/internal/util/ArraysSupport" "LOG2_BYTE_BIT_SIZE" "I") ∈ lw_all := lw_g (lw_at lw_m6 239 rfl) rfl
theorem q1521 : (Jvm.Cond.methodLink "jdk/internal/util/ArraysSupport" (49 : Nat) ({ cls := "java/lang/Long", name := "numberOfTrailingZeros", desc := "(J)I" } : Jvm.MethodName)) ∈ lw_all := lw_g (lw_at lw_m7 1 rfl) rfl
theorem q132 : (Jvm.Cond.initialized "java/lang/Long") ∈ lw_all := lw_g (lw_at lw_m1 52 rfl) rfl
theorem zl_java_lang_Long : Cond.initialized "java/lang/Long" ∈ lw_all := q132
theorem q1522 : (Jvm.Cond.static ({ cls := "java/lang/Long", name := "numberOfTrailingZeros", desc := "(J)I" } : Jvm.MethodName)) ∈ lw_all := lw_g (lw_at lw_m7 2 rfl) rfl
theorem q1458 : (Jvm.Cond.methodLink "jdk/internal/util/ArraysSupport" (30 : Nat) ({ cls := "jdk/internal/misc/Unsafe", name := "getLongUnaligned", desc := "(Ljava/lang/Object;J)J" } : Jvm.MethodName)) ∈ lw_all := lw_g (lw_at lw_m6 178 rfl) rfl
theorem zl_jdk_internal_misc_Unsafe : Cond.initialized "jdk/internal/misc/Unsafe" ∈ lw_all := q130
theorem q1459 : (Jvm.Cond.instanceMethod ({ cls := "jdk/internal/misc/Unsafe", name := "getLongUnaligned", desc := "(Ljava/lang/Object;J)J" } : Jvm.MethodName)) ∈ lw_all := lw_g (lw_at lw_m6 179 rfl) rfl
theorem q1460 : (Jvm.Cond.selects "jdk/internal/misc/Unsafe" ({ cls := "jdk/internal/misc/Unsafe", name := "getLongUnaligned", desc := "(Ljava/lang/Object;J)J" } : Jvm.MethodName) ({ cls := "jdk/internal/misc/Unsafe", name := "getLongUnaligned", desc := "(Ljava/lang/Object;J)J" } : Jvm.MethodName)) ∈ lw_all := lw_g (lw_at lw_m6 180 rfl) rfl
def wp_J15_vectorizedMismatch_L11 (Z : zzG) (K : Option Value → zzM → Prop) : Nat → Option Nat → Int64 → Option Nat → Int64 → Int32 → Int32 → Int32 → Int32 → zzM → Prop
  | 0, _, _, _, _, _, _, _, _, _ => False
  | n + 1, v0, v1, v3, v4, v6, v7, v8, v9, M => if (v6 >>> (v8 &&& 31)) ≤ v9 then (if (2 : Int32) ≤ v7 then (K (some (.int ((v6 - (v9 <<< (v8 &&& 31))) ^^^ (-1 : Int32)))) M) else (if (v6 - (v9 <<< (v8 &&& 31))) < ((1 : Int32) <<< (((2 : Int32) - v7) &&& 31)) then (K (some (.int ((v6 - (v9 <<< (v8 &&& 31))) ^^^ (-1 : Int32)))) M) else (False))) else (zty Z M (some (zz_ad Z 12)) fun t => t = 34 ∧ wp_J26_getLongUnaligned Z (some (zz_ad Z 12)) v0 (v1 + (v9.toInt64 <<< ((3 : Int32).toInt64 &&& 63))) M (fun r1 M2 => zrJ r1 fun x5 => zty Z M2 (some (zz_ad Z 12)) fun t => t = 34 ∧ wp_J26_getLongUnaligned Z (some (zz_ad Z 12)) v3 (v4 + (v9.toInt64 <<< ((3 : Int32).toInt64 &&& 63))) M2 (fun r6 M7 => zrJ r6 fun x10 => if (lg_cmp x5 x10) = 0 then (wp_J15_vectorizedMismatch_L11 Z K n v0 v1 v3 v4 v6 v7 v8 (v9 + 1) M7) else (if (0 : Int32) = 0 then (wp_J27_numberOfTrailingZeros Z (x5 ^^^ x10) M7 (fun r11 M12 => zrI r11 fun x15 => K (some (.int ((v9 <<< (v8 &&& 31)) + (x15 >>> (((3 : Int32) + v7) &&& 31))))) M12)) else (False)))))
def wp_J15_vectorizedMismatch (Z : zzG) (p0 : Option Nat) (p1 : Int64) (p2 : Option Nat) (p3 : Int64) (p4 : Int32) (p5 : Int32) (M : zzM) (K : Option Value → zzM → Prop) : Prop := ∃ n11 : Nat, wp_J15_vectorizedMismatch_L11 Z K n11 p0 p1 p2 p3 p4 p5 ((3 : Int32) - p5) (0 : Int32) M
theorem ok_J15_vectorizedMismatch_L11 {G : zzX} (C : zz_C G cJ15_vectorizedMismatch "jdk/internal/util/ArraysSupport" 19) {K : Option Value → zzM → Prop} (E : zz_E G (some .int) K (fun _ _ _ => False)) (hH : zz_H G []) (hR : zz_Rm G 3) : ∀ (n : Nat) (v0 : Option Nat) (v1 : Int64) (v3 : Option Nat) (v4 : Int64) (v6 : Int32) (v7 : Int32) (v8 : Int32) (v9 : Int32) (M : zzM) (bc bs : Nat), wp_J15_vectorizedMismatch_L11 (zz_Zof G) K n v0 v1 v3 v4 v6 v7 v8 v9 M → zz_T G 19 M bc bs 11 [(0, va_rf v0), (1, .long v1), (3, va_rf v3), (4, .long v4), (6, .int v6), (7, .int v7), (8, .int v8), (9, .int v9)] [] := by
  intro n
  induction n with
  | zero =>
    intro v0 v1 v3 v4 v6 v7 v8 v9 M bc bs hw
    exact False.elim hw
  | succ n ih =>
    intro v0 v1 v3 v4 v6 v7 v8 v9 M bc bs hw
    refine zz_iload C dJ15_vectorizedMismatch_11 7 rfl ?_
    refine zz_iload C dJ15_vectorizedMismatch_13 4 rfl ?_
    refine zz_iload C dJ15_vectorizedMismatch_15 6 rfl ?_
    refine zz_ishr C dJ15_vectorizedMismatch_17 ?_
    refine zz_icmp_ge (tgt := 122) C dJ15_vectorizedMismatch_18 (by decide) hw (fun hw => ?_) (fun hw => ?_)
    · refine zz_iload C dJ15_vectorizedMismatch_122 4 rfl ?_
      refine zz_iload C dJ15_vectorizedMismatch_124 7 rfl ?_
      refine zz_iload C dJ15_vectorizedMismatch_126 6 rfl ?_
      refine zz_ishl C dJ15_vectorizedMismatch_128 ?_
      refine zz_isub C dJ15_vectorizedMismatch_129 ?_
      refine zz_istore (lv' := [(10, .int (v6 - (v9 <<< (v8 &&& 31)))), (0, va_rf v0), (1, .long v1), (3, va_rf v3), (4, .long v4), (6, .int v6), (7, .int v7), (8, .int v8), (9, .int v9)]) C dJ15_vectorizedMismatch_130 (by decide) rfl ?_
      refine zz_iload C dJ15_vectorizedMismatch_132 6 rfl ?_
      refine zz_gets (j := 24) (v := .int (2 : Int32)) C dJ15_vectorizedMismatch_134 (Or.inl q1527) rfl (Or.inl rfl) rfl ?_
      refine zz_icmp_ge (tgt := 263) C dJ15_vectorizedMismatch_137 (by decide) hw (fun hw => ?_) (fun hw => ?_)
      · refine zz_iload C dJ15_vectorizedMismatch_263 0 rfl ?_
        refine zz_iconst (v := (-1 : Int32)) C dJ15_vectorizedMismatch_265 (by decide) ?_
        refine zz_ixor C dJ15_vectorizedMismatch_266 ?_
        exact zz_iret C E dJ15_vectorizedMismatch_267 hw
      · refine zz_iconst (v := (1 : Int32)) C dJ15_vectorizedMismatch_140 (by decide) ?_
        refine zz_gets (j := 24) (v := .int (2 : Int32)) C dJ15_vectorizedMismatch_141 (Or.inl q1527) rfl (Or.inl rfl) rfl ?_
        refine zz_iload C dJ15_vectorizedMismatch_144 6 rfl ?_
        refine zz_isub C dJ15_vectorizedMismatch_146 ?_
        refine zz_ishl C dJ15_vectorizedMismatch_147 ?_
        refine zz_istore (lv' := [(11, .int ((1 : Int32) <<< (((2 : Int32) - v7) &&& 31))), (10, .int (v6 - (v9 <<< (v8 &&& 31)))), (0, va_rf v0), (1, .long v1), (3, va_rf v3), (4, .long v4), (6, .int v6), (7, .int v7), (8, .int v8), (9, .int v9)]) C dJ15_vectorizedMismatch_148 (by decide) rfl ?_
        refine zz_iload C dJ15_vectorizedMismatch_150 1 rfl ?_
        refine zz_iload C dJ15_vectorizedMismatch_152 0 rfl ?_
        refine zz_icmp_lt (tgt := 258) C dJ15_vectorizedMismatch_154 (by decide) hw (fun hw => ?_) (fun hw => ?_)
        · refine zz_iload C dJ15_vectorizedMismatch_258 1 rfl ?_
          refine zz_iconst (v := (-1 : Int32)) C dJ15_vectorizedMismatch_260 (by decide) ?_
          refine zz_ixor C dJ15_vectorizedMismatch_261 ?_
          exact zz_iret C E dJ15_vectorizedMismatch_262 hw
        · refine zz_iload C dJ15_vectorizedMismatch_157 9 rfl ?_
          refine zz_i2l C dJ15_vectorizedMismatch_159 ?_
          refine zz_gets (j := 20) (v := .int (3 : Int32)) C dJ15_vectorizedMismatch_160 (Or.inl q1454) rfl (Or.inl rfl) rfl ?_
          refine zz_lshl C dJ15_vectorizedMismatch_163 rfl ?_
          refine zz_lstore (lv' := [(12, .long (v9.toInt64 <<< ((3 : Int32).toInt64 &&& 63))), (11, .int ((1 : Int32) <<< (((2 : Int32) - v7) &&& 31))), (10, .int (v6 - (v9 <<< (v8 &&& 31)))), (0, va_rf v0), (1, .long v1), (3, va_rf v3), (4, .long v4), (6, .int v6), (7, .int v7), (8, .int v8), (9, .int v9)]) C dJ15_vectorizedMismatch_164 (by decide) rfl ?_
          refine zz_gets (j := 12) (v := va_rf (some (zz_ad (zz_Zof G) 12))) C dJ15_vectorizedMismatch_166 (Or.inl q1456) rfl (Or.inl rfl) rfl ?_
          refine zz_aload_n C dJ15_vectorizedMismatch_169 rfl 3 rfl ?_
          refine zz_lload_n C dJ15_vectorizedMismatch_170 rfl 4 rfl ?_
          refine zz_lload C dJ15_vectorizedMismatch_171 0 rfl ?_
          refine zz_ladd C dJ15_vectorizedMismatch_173 ?_
          exact hw.elim
    · refine zz_iload C dJ15_vectorizedMismatch_21 7 rfl ?_
      refine zz_i2l C dJ15_vectorizedMismatch_23 ?_
      refine zz_gets (j := 20) (v := .int (3 : Int32)) C dJ15_vectorizedMismatch_24 (Or.inl q1454) rfl (Or.inl rfl) rfl ?_
      refine zz_lshl C dJ15_vectorizedMismatch_27 rfl ?_
      refine zz_lstore (lv' := [(10, .long (v9.toInt64 <<< ((3 : Int32).toInt64 &&& 63))), (0, va_rf v0), (1, .long v1), (3, va_rf v3), (4, .long v4), (6, .int v6), (7, .int v7), (8, .int v8), (9, .int v9)]) C dJ15_vectorizedMismatch_28 (by decide) rfl ?_
      refine zz_gets (j := 12) (v := va_rf (some (zz_ad (zz_Zof G) 12))) C dJ15_vectorizedMismatch_30 (Or.inl q1456) rfl (Or.inl rfl) rfl ?_
      refine zz_aload_n C dJ15_vectorizedMismatch_33 rfl 1 rfl ?_
      refine zz_lload_n C dJ15_vectorizedMismatch_34 rfl 2 rfl ?_
      refine zz_lload C dJ15_vectorizedMismatch_35 0 rfl ?_
      refine zz_ladd C dJ15_vectorizedMismatch_37 ?_
      obtain ⟨a9, t9, b9, fs9, hro, hL, rfl, hw⟩ := ztyS hw
      refine zz_callV (r := (zR_34, zT_34, 0)) (As := [va_rf v0, .long (v1 + (v9.toInt64 <<< ((3 : Int32).toInt64 &&& 63)))]) (rest := []) (mc := 0) (ms := 0) C hR hro dJ15_vectorizedMismatch_38 (Or.inl q1458) q1459 (Or.inl q1460) zl_jdk_internal_misc_Unsafe zk_J26_getLongUnaligned (Or.inl rfl) zy_J26_getLongUnaligned rfl (by decide) (by decide) hL (ok_J26_getLongUnaligned (zz_hl C) hw) (Nat.zero_le _) (Nat.zero_le _) (zz_cat10 _ (Nat.le_of_ble_eq_true rfl)) (fun r1 M2 hw => zz_kJ hw (fun x5 hw => ?_)) (fun _ _ _ h9 => h9.elim) rfl
      refine zz_lstore (lv' := [(12, .long x5), (10, .long (v9.toInt64 <<< ((3 : Int32).toInt64 &&& 63))), (0, va_rf v0), (1, .long v1), (3, va_rf v3), (4, .long v4), (6, .int v6), (7, .int v7), (8, .int v8), (9, .int v9)]) C dJ15_vectorizedMismatch_41 (by decide) rfl ?_
      refine zz_gets (j := 12) (v := va_rf (some (zz_ad (zz_Zof G) 12))) C dJ15_vectorizedMismatch_43 (Or.inl q1456) rfl (Or.inl rfl) rfl ?_
      refine zz_aload_n C dJ15_vectorizedMismatch_46 rfl 4 rfl ?_
      refine zz_lload C dJ15_vectorizedMismatch_47 5 rfl ?_
      refine zz_lload C dJ15_vectorizedMismatch_49 1 rfl ?_
      refine zz_ladd C dJ15_vectorizedMismatch_51 ?_
      obtain ⟨a9, t9, b9, fs9, hro, hL, rfl, hw⟩ := ztyS hw
      refine zz_callV (r := (zR_34, zT_34, 0)) (As := [va_rf v3, .long (v4 + (v9.toInt64 <<< ((3 : Int32).toInt64 &&& 63)))]) (rest := []) (mc := 0) (ms := 0) C hR hro dJ15_vectorizedMismatch_52 (Or.inl q1458) q1459 (Or.inl q1460) zl_jdk_internal_misc_Unsafe zk_J26_getLongUnaligned (Or.inl rfl) zy_J26_getLongUnaligned rfl (by decide) (by decide) hL (ok_J26_getLongUnaligned (zz_hl C) hw) (Nat.zero_le _) (Nat.zero_le _) (zz_cat10 _ (Nat.le_of_ble_eq_true rfl)) (fun r6 M7 hw => zz_kJ hw (fun x10 hw => ?_)) (fun _ _ _ h9 => h9.elim) rfl
      refine zz_lstore (lv' := [(14, .long x10), (12, .long x5), (10, .long (v9.toInt64 <<< ((3 : Int32).toInt64 &&& 63))), (0, va_rf v0), (1, .long v1), (3, va_rf v3), (4, .long v4), (6, .int v6), (7, .int v7), (8, .int v8), (9, .int v9)]) C dJ15_vectorizedMismatch_55 (by decide) rfl ?_
      refine zz_lload C dJ15_vectorizedMismatch_57 1 rfl ?_
      refine zz_lload C dJ15_vectorizedMismatch_59 0 rfl ?_
      refine zz_lcmp C dJ15_vectorizedMismatch_61 ?_
      refine zz_if_eq (tgt := 116) C dJ15_vectorizedMismatch_62 (by decide) hw (fun hw => ?_) (fun hw => ?_)
      · refine zz_iinc (lv' := [(9, .int (v9 + 1)), (14, .long x10), (12, .long x5), (10, .long (v9.toInt64 <<< ((3 : Int32).toInt64 &&& 63))), (0, va_rf v0), (1, .long v1), (3, va_rf v3), (4, .long v4), (6, .int v6), (7, .int v7), (8, .int v8)]) C dJ15_vectorizedMismatch_116 10 rfl (by rfl) (by decide) rfl ?_
        refine zz_goto (tgt := 11) C dJ15_vectorizedMismatch_119 (by decide) ?_
        refine zz_subP [4, 5, 6, 7, 8, 9, 10, 0] rfl ?_
        exact ih _ _ _ _ _ _ _ _ _ _ _ hw
      · refine zz_lload C dJ15_vectorizedMismatch_65 1 rfl ?_
        refine zz_lload C dJ15_vectorizedMismatch_67 0 rfl ?_
        refine zz_lxor C dJ15_vectorizedMismatch_69 ?_
        refine zz_lstore (lv' := [(16, .long (x5 ^^^ x10)), (14, .long x10), (12, .long x5), (10, .long (v9.toInt64 <<< ((3 : Int32).toInt64 &&& 63))), (0, va_rf v0), (1, .long v1), (3, va_rf v3), (4, .long v4), (6, .int v6), (7, .int v7), (8, .int v8), (9, .int v9)]) C dJ15_vectorizedMismatch_70 (by decide) rfl ?_
        refine zz_gets (j := 22) (v := .int (0 : Int32)) C dJ15_vectorizedMismatch_72 (Or.inl q1510) rfl (Or.inl rfl) rfl ?_
        refine zz_if_eq (tgt := 93) C dJ15_vectorizedMismatch_75 (by decide) hw (fun hw => ?_) (fun hw => ?_)
        · refine zz_lload C dJ15_vectorizedMismatch_93 0 rfl ?_
          refine zz_callS (As := [.long (x5 ^^^ x10)]) (rest := []) (mc := 0) (ms := 0) C hR dJ15_vectorizedMismatch_95 (Or.inl q1521) q1522 zl_java_lang_Long zk_J27_numberOfTrailingZeros (Or.inl rfl) zy_J27_numberOfTrailingZeros (by decide) (by decide) (ok_J27_numberOfTrailingZeros (zz_hl C) hw) (Nat.zero_le _) (Nat.zero_le _) (zz_cat10 _ (Nat.le_of_ble_eq_true rfl)) (fun r11 M12 hw => zz_kI hw (fun x15 hw => ?_)) (fun _ _ _ h9 => h9.elim) rfl
          refine zz_gets (j := 23) (v := .int (3 : Int32)) C dJ15_vectorizedMismatch_98 (Or.inl q1519) rfl (Or.inl rfl) rfl ?_
          refine zz_iload C dJ15_vectorizedMismatch_101 9 rfl ?_
          refine zz_iadd C dJ15_vectorizedMismatch_103 ?_
          refine zz_ishr C dJ15_vectorizedMismatch_104 ?_
          refine zz_istore (lv' := [(18, .int (x15 >>> (((3 : Int32) + v7) &&& 31))), (16, .long (x5 ^^^ x10)), (14, .long x10), (12, .long x5), (10, .long (v9.toInt64 <<< ((3 : Int32).toInt64 &&& 63))), (0, va_rf v0), (1, .long v1), (3, va_rf v3), (4, .long v4), (6, .int v6), (7, .int v7), (8, .int v8), (9, .int v9)]) C dJ15_vectorizedMismatch_105 (by decide) rfl ?_
          refine zz_iload C dJ15_vectorizedMismatch_107 12 rfl ?_
          refine zz_iload C dJ15_vectorizedMismatch_109 11 rfl ?_
          refine zz_ishl C dJ15_vectorizedMismatch_111 ?_
          refine zz_iload C dJ15_vectorizedMismatch_112 0 rfl ?_
          refine zz_iadd C dJ15_vectorizedMismatch_114 ?_
          exact zz_iret C E dJ15_vectorizedMismatch_115 hw
        · refine zz_lload C dJ15_vectorizedMismatch_78 0 rfl ?_
          exact hw.elim
theorem ok_J15_vectorizedMismatch {Z : zzG} {l : Launch} (hl : l.stackTraces = false) {p0 : Option Nat} {p1 : Int64} {p2 : Option Nat} {p3 : Int64} {p4 : Int32} {p5 : Int32} {M : zzM} {mc ms : Nat} {K : Option Value → zzM → Prop} (hw : wp_J15_vectorizedMismatch Z p0 p1 p2 p3 p4 p5 M K) : zz_Met Z l yJ15_vectorizedMismatch (zz_ws yJ15_vectorizedMismatch cJ15_vectorizedMismatch 19 (some .int) none) 3 [va_rf p0, .long p1, va_rf p2, .long p3, .int p4, .int p5] M mc ms K (fun _ _ _ => False) := by
  refine zz_ofW hl (plainFor_of_name (by decide)) (by simp only [zz_sl0, zz_slI, zz_slJ, zz_slA] <;> decide) (fun G hZ hll C E hH hR hin => ?_)
  subst hZ
  subst hll
  rw [show lv_args 0 [va_rf p0, .long p1, va_rf p2, .long p3, .int p4, .int p5] = [(0, va_rf p0), (1, .long p1), (3, va_rf p2), (4, .long p3), (6, .int p4), (7, .int p5)] by simp only [zz_la0, zz_laI, zz_laJ, zz_laA]]
  unfold wp_J15_vectorizedMismatch at hw
  refine zz_gets (j := 20) (v := .int (3 : Int32)) C dJ15_vectorizedMismatch_0 (Or.inl q1454) rfl (Or.inl rfl) rfl ?_
  refine zz_iload C dJ15_vectorizedMismatch_3 5 rfl ?_
  refine zz_isub C dJ15_vectorizedMismatch_5 ?_
  refine zz_istore (lv' := [(8, .int ((3 : Int32) - p5)), (0, va_rf p0), (1, .long p1), (3, va_rf p2), (4, .long p3), (6, .int p4), (7, .int p5)]) C dJ15_vectorizedMismatch_6 (by decide) rfl ?_
  refine zz_iconst (v := (0 : Int32)) C dJ15_vectorizedMismatch_8 (by decide) ?_
  refine zz_istore (lv' := [(9, .int (0 : Int32)), (8, .int ((3 : Int32) - p5)), (0, va_rf p0), (1, .long p1), (3, va_rf p2), (4, .long p3), (6, .int p4), (7, .int p5)]) C dJ15_vectorizedMismatch_9 (by decide) rfl ?_
  refine zz_subP [2, 3, 4, 5, 6, 7, 1, 0] rfl ?_
  obtain ⟨n11, hw⟩ := hw
  exact ok_J15_vectorizedMismatch_L11 C E hH hR n11 _ _ _ _ _ _ _ _ _ _ _ hw
abbrev cJ15_mismatch : ByteArray := prog_78_method_13_code
def yJ15_mismatch : MethodName := ⟨"jdk/internal/util/ArraysSupport", "mismatch", "([B[BI)I"⟩
def dkwJ15_mismatch_3 : List UInt8 := [172]
abbrev dktJ15_mismatch_3 : List UInt8 := dkwJ15_mismatch_3 ++ []
def dkwJ15_mismatch_2 : List UInt8 := [62, 29, 28, 162, 0, 20, 42, 29, 51, 43, 29, 51, 159, 0, 5, 29, 172, 132, 3, 1, 167, 255, 237, 2]
abbrev dktJ15_mismatch_2 : List UInt8 := dkwJ15_mismatch_2 ++ dktJ15_mismatch_3
def dkwJ15_mismatch_1 : List UInt8 := [43, 178, 0, 126, 133, 28, 178, 0, 129, 184, 0, 122, 62, 29, 155, 0, 5, 29, 172, 28, 29, 2, 130, 100]
abbrev dktJ15_mismatch_1 : List UInt8 := dkwJ15_mismatch_1 ++ dktJ15_mismatch_2
def dkwJ15_mismatch_0 : List UInt8 := [3, 62, 28, 16, 7, 164, 0, 44, 42, 3, 51, 43, 3, 51, 159, 0, 5, 3, 172, 42, 178, 0, 126, 133]
abbrev dktJ15_mismatch_0 : List UInt8 := dkwJ15_mismatch_0 ++ dktJ15_mismatch_1
theorem dksJ15_mismatch_0 : cJ15_mismatch.data.toList.drop 0 = dktJ15_mismatch_0 := by decide +kernel
theorem dksJ15_mismatch_1 : cJ15_mismatch.data.toList.drop 24 = dktJ15_mismatch_1 := dk_seg dksJ15_mismatch_0 24 rfl rfl
theorem dksJ15_mismatch_2 : cJ15_mismatch.data.toList.drop 48 = dktJ15_mismatch_2 := dk_seg dksJ15_mismatch_1 24 rfl rfl
theorem dksJ15_mismatch_3 : cJ15_mismatch.data.toList.drop 72 = dktJ15_mismatch_3 := dk_seg dksJ15_mismatch_2 24 rfl rfl
theorem dJ15_mismatch_0 : decode cJ15_mismatch 0 = .ok (.iconst 0, 1) := dk_3 (dk_at dksJ15_mismatch_0 0 rfl rfl)
theorem dJ15_mismatch_1 : decode cJ15_mismatch 1 = .ok (.istore_n 3, 1) := dk_62 (dk_at dksJ15_mismatch_0 1 rfl rfl)
theorem dJ15_mismatch_2 : decode cJ15_mismatch 2 = .ok (.iload_n 2, 1) := dk_28 (dk_at dksJ15_mismatch_0 2 rfl rfl)
theorem dJ15_mismatch_3 : decode cJ15_mismatch 3 = .ok (.bipush 7, 2) := dk_16 7 (dk_at dksJ15_mismatch_0 3 rfl rfl)
theorem dJ15_mismatch_5 : decode cJ15_mismatch 5 = .ok (.if_icmp .le 44, 3) := dk_164 0 44 (dk_at dksJ15_mismatch_0 5 rfl rfl)
theorem dJ15_mismatch_8 : decode cJ15_mismatch 8 = .ok (.aload_n 0, 1) := dk_42 (dk_at dksJ15_mismatch_0 8 rfl rfl)
theorem dJ15_mismatch_9 : decode cJ15_mismatch 9 = .ok (.iconst 0, 1) := dk_3 (dk_at dksJ15_mismatch_0 9 rfl rfl)
theorem dJ15_mismatch_10 : decode cJ15_mismatch 10 = .ok (.baload, 1) := dk_51 (dk_at dksJ15_mismatch_0 10 rfl rfl)
theorem dJ15_mismatch_11 : decode cJ15_mismatch 11 = .ok (.aload_n 1, 1) := dk_43 (dk_at dksJ15_mismatch_0 11 rfl rfl)
theorem dJ15_mismatch_12 : decode cJ15_mismatch 12 = .ok (.iconst 0, 1) := dk_3 (dk_at dksJ15_mismatch_0 12 rfl rfl)
theorem dJ15_mismatch_13 : decode cJ15_mismatch 13 = .ok (.baload, 1) := dk_51 (dk_at dksJ15_mismatch_0 13 rfl rfl)
theorem dJ15_mismatch_14 : decode cJ15_mismatch 14 = .ok (.if_icmp .eq 5, 3) := dk_159 0 5 (dk_at dksJ15_mismatch_0 14 rfl rfl)
theorem dJ15_mismatch_17 : decode cJ15_mismatch 17 = .ok (.iconst 0, 1) := dk_3 (dk_at dksJ15_mismatch_0 17 rfl rfl)
theorem dJ15_mismatch_18 : decode cJ15_mismatch 18 = .ok (.ireturn, 1) := dk_172 (dk_at dksJ15_mismatch_0 18 rfl rfl)
theorem dJ15_mismatch_19 : decode cJ15_mismatch 19 = .ok (.aload_n 0, 1) := dk_42 (dk_at dksJ15_mismatch_0 19 rfl rfl)
theorem dJ15_mismatch_20 : decode cJ15_mismatch 20 = .ok (.getstatic 126, 3) := dk_178 0 126 (dk_at dksJ15_mismatch_0 20 rfl rfl)
theorem dJ15_mismatch_23 : decode cJ15_mismatch 23 = .ok (.i2l, 1) := dk_133 (dk_at dksJ15_mismatch_0 23 rfl rfl)
theorem dJ15_mismatch_24 : decode cJ15_mismatch 24 = .ok (.aload_n 1, 1) := dk_43 (dk_at dksJ15_mismatch_1 0 rfl rfl)
theorem dJ15_mismatch_25 : decode cJ15_mismatch 25 = .ok (.getstatic 126, 3) := dk_178 0 126 (dk_at dksJ15_mismatch_1 1 rfl rfl)
theorem dJ15_mismatch_28 : decode cJ15_mismatch 28 = .ok (.i2l, 1) := dk_133 (dk_at dksJ15_mismatch_1 4 rfl rfl)
theorem dJ15_mismatch_29 : decode cJ15_mismatch 29 = .ok (.iload_n 2, 1) := dk_28 (dk_at dksJ15_mismatch_1 5 rfl rfl)
theorem dJ15_mismatch_30 : decode cJ15_mismatch 30 = .ok (.getstatic 129, 3) := dk_178 0 129 (dk_at dksJ15_mismatch_1 6 rfl rfl)
theorem dJ15_mismatch_33 : decode cJ15_mismatch 33 = .ok (.invokestatic 122, 3) := dk_184 0 122 (dk_at dksJ15_mismatch_1 9 rfl rfl)
theorem dJ15_mismatch_36 : decode cJ15_mismatch 36 = .ok (.istore_n 3, 1) := dk_62 (dk_at dksJ15_mismatch_1 12 rfl rfl)
theorem dJ15_mismatch_37 : decode cJ15_mismatch 37 = .ok (.iload_n 3, 1) := dk_29 (dk_at dksJ15_mismatch_1 13 rfl rfl)
theorem dJ15_mismatch_38 : decode cJ15_mismatch 38 = .ok (.ifCond .lt 5, 3) := dk_155 0 5 (dk_at dksJ15_mismatch_1 14 rfl rfl)
theorem dJ15_mismatch_41 : decode cJ15_mismatch 41 = .ok (.iload_n 3, 1) := dk_29 (dk_at dksJ15_mismatch_1 17 rfl rfl)
theorem dJ15_mismatch_42 : decode cJ15_mismatch 42 = .ok (.ireturn, 1) := dk_172 (dk_at dksJ15_mismatch_1 18 rfl rfl)
theorem dJ15_mismatch_43 : decode cJ15_mismatch 43 = .ok (.iload_n 2, 1) := dk_28 (dk_at dksJ15_mismatch_1 19 rfl rfl)
theorem dJ15_mismatch_44 : decode cJ15_mismatch 44 = .ok (.iload_n 3, 1) := dk_29 (dk_at dksJ15_mismatch_1 20 rfl rfl)
theorem dJ15_mismatch_45 : decode cJ15_mismatch 45 = .ok (.iconst (-1), 1) := dk_2 (dk_at dksJ15_mismatch_1 21 rfl rfl)
theorem dJ15_mismatch_46 : decode cJ15_mismatch 46 = .ok (.ixor, 1) := dk_130 (dk_at dksJ15_mismatch_1 22 rfl rfl)
theorem dJ15_mismatch_47 : decode cJ15_mismatch 47 = .ok (.isub, 1) := dk_100 (dk_at dksJ15_mismatch_1 23 rfl rfl)
theorem dJ15_mismatch_48 : decode cJ15_mismatch 48 = .ok (.istore_n 3, 1) := dk_62 (dk_at dksJ15_mismatch_2 0 rfl rfl)
theorem dJ15_mismatch_49 : decode cJ15_mismatch 49 = .ok (.iload_n 3, 1) := dk_29 (dk_at dksJ15_mismatch_2 1 rfl rfl)
theorem dJ15_mismatch_50 : decode cJ15_mismatch 50 = .ok (.iload_n 2, 1) := dk_28 (dk_at dksJ15_mismatch_2 2 rfl rfl)
theorem dJ15_mismatch_51 : decode cJ15_mismatch 51 = .ok (.if_icmp .ge 20, 3) := dk_162 0 20 (dk_at dksJ15_mismatch_2 3 rfl rfl)
theorem dJ15_mismatch_54 : decode cJ15_mismatch 54 = .ok (.aload_n 0, 1) := dk_42 (dk_at dksJ15_mismatch_2 6 rfl rfl)
theorem dJ15_mismatch_55 : decode cJ15_mismatch 55 = .ok (.iload_n 3, 1) := dk_29 (dk_at dksJ15_mismatch_2 7 rfl rfl)
theorem dJ15_mismatch_56 : decode cJ15_mismatch 56 = .ok (.baload, 1) := dk_51 (dk_at dksJ15_mismatch_2 8 rfl rfl)
theorem dJ15_mismatch_57 : decode cJ15_mismatch 57 = .ok (.aload_n 1, 1) := dk_43 (dk_at dksJ15_mismatch_2 9 rfl rfl)
theorem dJ15_mismatch_58 : decode cJ15_mismatch 58 = .ok (.iload_n 3, 1) := dk_29 (dk_at dksJ15_mismatch_2 10 rfl rfl)
theorem dJ15_mismatch_59 : decode cJ15_mismatch 59 = .ok (.baload, 1) := dk_51 (dk_at dksJ15_mismatch_2 11 rfl rfl)
theorem dJ15_mismatch_60 : decode cJ15_mismatch 60 = .ok (.if_icmp .eq 5, 3) := dk_159 0 5 (dk_at dksJ15_mismatch_2 12 rfl rfl)
theorem dJ15_mismatch_63 : decode cJ15_mismatch 63 = .ok (.iload_n 3, 1) := dk_29 (dk_at dksJ15_mismatch_2 15 rfl rfl)
theorem dJ15_mismatch_64 : decode cJ15_mismatch 64 = .ok (.ireturn, 1) := dk_172 (dk_at dksJ15_mismatch_2 16 rfl rfl)
theorem dJ15_mismatch_65 : decode cJ15_mismatch 65 = .ok (.iinc 3 1, 3) := dk_132 3 1 (dk_at dksJ15_mismatch_2 17 rfl rfl)
theorem dJ15_mismatch_68 : decode cJ15_mismatch 68 = .ok (.goto (-19), 3) := dk_167 255 237 (dk_at dksJ15_mismatch_2 20 rfl rfl)
theorem dJ15_mismatch_71 : decode cJ15_mismatch 71 = .ok (.iconst (-1), 1) := dk_2 (dk_at dksJ15_mismatch_2 23 rfl rfl)
theorem dJ15_mismatch_72 : decode cJ15_mismatch 72 = .ok (.ireturn, 1) := dk_172 (dk_at dksJ15_mismatch_3 0 rfl rfl)
theorem q1447 : (Jvm.Cond.fieldLink "jdk/internal/util/ArraysSupport" (126 : Nat) "jdk/internal/misc/Unsafe" "ARRAY_BYTE_BASE_OFFSET" "I") ∈ lw_all := lw_g (lw_at lw_m6 167 rfl) rfl
theorem q1449 : (Jvm.Cond.fieldLink "jdk/internal/util/ArraysSupport" (129 : Nat) "jdk/internal/util/ArraysSupport" "LOG2_ARRAY_BYTE_INDEX_SCALE" "I") ∈ lw_all := lw_g (lw_at lw_m6 169 rfl) rfl
theorem q1453 : (Jvm.Cond.code ({ cls := "jdk/internal/util/ArraysSupport", name := "vectorizedMismatch", desc := "(Ljava/lang/Object;JLjava/lang/Object;JII)I" } : Jvm.MethodName) prog_78_method_3_code (19 : Nat) (Option.some Jvm.ClassFile.FieldType.int)) ∈ lw_all := lw_g (lw_at lw_m6 173 rfl) rfl
theorem zk_J15_vectorizedMismatch : zz_cd yJ15_vectorizedMismatch cJ15_vectorizedMismatch 19 (some .int) none ∈ lw_all := q1453
theorem zy_J15_vectorizedMismatch : zz_yok yJ15_vectorizedMismatch 6 = true := by decide +kernel
theorem q1451 : (Jvm.Cond.methodLink "jdk/internal/util/ArraysSupport" (122 : Nat) ({ cls := "jdk/internal/util/ArraysSupport", name := "vectorizedMismatch", desc := "(Ljava/lang/Object;JLjava/lang/Object;JII)I" } : Jvm.MethodName)) ∈ lw_all := lw_g (lw_at lw_m6 171 rfl) rfl
theorem q1452 : (Jvm.Cond.static ({ cls := "jdk/internal/util/ArraysSupport", name := "vectorizedMismatch", desc := "(Ljava/lang/Object;JLjava/lang/Object;JII)I" } : Jvm.MethodName)) ∈ lw_all := lw_g (lw_at lw_m6 172 rfl) rfl
def wp_J15_mismatch_L49 (Z : zzG) (K : Option Value → zzM → Prop) : Nat → Option Nat → Option Nat → Int32 → Int32 → zzM → Prop
  | 0, _, _, _, _, _ => False
  | n + 1, v0, v1, v2, v3, M => if v2 ≤ v3 then (K (some (.int (-1 : Int32))) M) else (zaI Z M v0 [101] v3 fun x8 => zaI Z M v1 [101] v3 fun x9 => if x8 = x9 then (wp_J15_mismatch_L49 Z K n v0 v1 v2 (v3 + 1) M) else (K (some (.int v3)) M))
def wp_J15_mismatch (Z : zzG) (p0 : Option Nat) (p1 : Option Nat) (p2 : Int32) (M : zzM) (K : Option Value → zzM → Prop) : Prop := if p2 ≤ (7 : Int32) then (∃ n49 : Nat, wp_J15_mismatch_L49 Z K n49 p0 p1 p2 (0 : Int32) M) else (zaI Z M p0 [101] (0 : Int32) fun x1 => zaI Z M p1 [101] (0 : Int32) fun x2 => if x1 = x2 then (wp_J15_vectorizedMismatch Z p0 ((16 : Int32).toInt64) p1 ((16 : Int32).toInt64) p2 (0 : Int32) M (fun r3 M4 => zrI r3 fun x7 => if x7 < 0 then (∃ n49 : Nat, wp_J15_mismatch_L49 Z K n49 p0 p1 p2 (p2 - (x7 ^^^ (-1 : Int32))) M4) else (K (some (.int x7)) M4))) else (K (some (.int (0 : Int32))) M))
theorem ok_J15_mismatch_L49 {G : zzX} (C : zz_C G cJ15_mismatch "jdk/internal/util/ArraysSupport" 4) {K : Option Value → zzM → Prop} (E : zz_E G (some .int) K (fun _ _ _ => False)) (hH : zz_H G []) (hR : zz_Rm G 4) : ∀ (n : Nat) (v0 : Option Nat) (v1 : Option Nat) (v2 : Int32) (v3 : Int32) (M : zzM) (bc bs : Nat), wp_J15_mismatch_L49 (zz_Zof G) K n v0 v1 v2 v3 M → zz_T G 4 M bc bs 49 [(0, va_rf v0), (1, va_rf v1), (2, .int v2), (3, .int v3)] [] := by
  intro n
  induction n with
  | zero =>
    intro v0 v1 v2 v3 M bc bs hw
    exact False.elim hw
  | succ n ih =>
    intro v0 v1 v2 v3 M bc bs hw
    refine zz_iload_n C dJ15_mismatch_49 rfl 3 rfl ?_
    refine zz_iload_n C dJ15_mismatch_50 rfl 2 rfl ?_
    refine zz_icmp_ge (tgt := 71) C dJ15_mismatch_51 (by decide) hw (fun hw => ?_) (fun hw => ?_)
    · refine zz_iconst (v := (-1 : Int32)) C dJ15_mismatch_71 (by decide) ?_
      exact zz_iret C E dJ15_mismatch_72 hw
    · refine zz_aload_n C dJ15_mismatch_54 rfl 0 rfl ?_
      refine zz_iload_n C dJ15_mismatch_55 rfl 3 rfl ?_
      refine zz_bald C dJ15_mismatch_56 hw (fun x8 hw => ?_)
      refine zz_aload_n C dJ15_mismatch_57 rfl 1 rfl ?_
      refine zz_iload_n C dJ15_mismatch_58 rfl 3 rfl ?_
      refine zz_bald C dJ15_mismatch_59 hw (fun x9 hw => ?_)
      refine zz_icmp_eq (tgt := 65) C dJ15_mismatch_60 (by decide) hw (fun hw => ?_) (fun hw => ?_)
      · refine zz_iinc (lv' := [(3, .int (v3 + 1)), (0, va_rf v0), (1, va_rf v1), (2, .int v2)]) C dJ15_mismatch_65 3 rfl (by rfl) (by decide) rfl ?_
        refine zz_goto (tgt := 49) C dJ15_mismatch_68 (by decide) ?_
        refine zz_subP [1, 2, 3, 0] rfl ?_
        exact ih _ _ _ _ _ _ _ hw
      · refine zz_iload_n C dJ15_mismatch_63 rfl 3 rfl ?_
        exact zz_iret C E dJ15_mismatch_64 hw
theorem ok_J15_mismatch {Z : zzG} {l : Launch} (hl : l.stackTraces = false) {p0 : Option Nat} {p1 : Option Nat} {p2 : Int32} {M : zzM} {mc ms : Nat} {K : Option Value → zzM → Prop} (hw : wp_J15_mismatch Z p0 p1 p2 M K) : zz_Met Z l yJ15_mismatch (zz_ws yJ15_mismatch cJ15_mismatch 4 (some .int) none) 4 [va_rf p0, va_rf p1, .int p2] M mc ms K (fun _ _ _ => False) := by
  refine zz_ofW hl (plainFor_of_name (by decide)) (by simp only [zz_sl0, zz_slI, zz_slJ, zz_slA] <;> decide) (fun G hZ hll C E hH hR hin => ?_)
  subst hZ
  subst hll
  rw [show lv_args 0 [va_rf p0, va_rf p1, .int p2] = [(0, va_rf p0), (1, va_rf p1), (2, .int p2)] by simp only [zz_la0, zz_laI, zz_laJ, zz_laA]]
  unfold wp_J15_mismatch at hw
  refine zz_iconst (v := (0 : Int32)) C dJ15_mismatch_0 (by decide) ?_
  refine zz_istore_n (i := 3) (lv' := [(3, .int (0 : Int32)), (0, va_rf p0), (1, va_rf p1), (2, .int p2)]) C dJ15_mismatch_1 rfl (by decide) rfl ?_
  refine zz_iload_n C dJ15_mismatch_2 rfl 3 rfl ?_
  refine zz_bipush (v := (7 : Int32)) C dJ15_mismatch_3 (by decide) ?_
  refine zz_icmp_le (tgt := 49) C dJ15_mismatch_5 (by decide) hw (fun hw => ?_) (fun hw => ?_)
  · refine zz_subP [1, 2, 3, 0] rfl ?_
    obtain ⟨n49, hw⟩ := hw
    exact ok_J15_mismatch_L49 C E hH hR n49 _ _ _ _ _ _ _ hw
  · refine zz_aload_n C dJ15_mismatch_8 rfl 1 rfl ?_
    refine zz_iconst (v := (0 : Int32)) C dJ15_mismatch_9 (by decide) ?_
    refine zz_bald C dJ15_mismatch_10 hw (fun x1 hw => ?_)
    refine zz_aload_n C dJ15_mismatch_11 rfl 2 rfl ?_
    refine zz_iconst (v := (0 : Int32)) C dJ15_mismatch_12 (by decide) ?_
    refine zz_bald C dJ15_mismatch_13 hw (fun x2 hw => ?_)
    refine zz_icmp_eq (tgt := 19) C dJ15_mismatch_14 (by decide) hw (fun hw => ?_) (fun hw => ?_)
    · refine zz_aload_n C dJ15_mismatch_19 rfl 1 rfl ?_
      refine zz_gets (j := 18) (v := .int (16 : Int32)) C dJ15_mismatch_20 (Or.inl q1447) rfl (Or.inl rfl) rfl ?_
      refine zz_i2l C dJ15_mismatch_23 ?_
      refine zz_aload_n C dJ15_mismatch_24 rfl 2 rfl ?_
      refine zz_gets (j := 18) (v := .int (16 : Int32)) C dJ15_mismatch_25 (Or.inl q1447) rfl (Or.inl rfl) rfl ?_
      refine zz_i2l C dJ15_mismatch_28 ?_
      refine zz_iload_n C dJ15_mismatch_29 rfl 3 rfl ?_
      refine zz_gets (j := 19) (v := .int (0 : Int32)) C dJ15_mismatch_30 (Or.inl q1449) rfl (Or.inl rfl) rfl ?_
      refine zz_callS (As := [va_rf p0, .long ((16 : Int32).toInt64), va_rf p1, .long ((16 : Int32).toInt64), .int p2, .int (0 : Int32)]) (rest := []) (mc := 0) (ms := 0) C hR dJ15_mismatch_33 (Or.inl q1451) q1452 zl_jdk_internal_util_ArraysSupport zk_J15_vectorizedMismatch (Or.inl rfl) zy_J15_vectorizedMismatch (by decide) (by decide) (ok_J15_vectorizedMismatch (zz_hl C) hw) (Nat.zero_le _) (Nat.zero_le _) (zz_cat10 _ (Nat.le_of_ble_eq_true rfl)) (fun r3 M4 hw => zz_kI hw (fun x7 hw => ?_)) (fun _ _ _ h9 => h9.elim) rfl
      refine zz_istore_n (i := 3) (lv' := [(3, .int x7), (0, va_rf p0), (1, va_rf p1), (2, .int p2)]) C dJ15_mismatch_36 rfl (by decide) rfl ?_
      refine zz_iload_n C dJ15_mismatch_37 rfl 0 rfl ?_
      refine zz_if_lt (tgt := 43) C dJ15_mismatch_38 (by decide) hw (fun hw => ?_) (fun hw => ?_)
      · refine zz_iload_n C dJ15_mismatch_43 rfl 3 rfl ?_
        refine zz_iload_n C dJ15_mismatch_44 rfl 0 rfl ?_
        refine zz_iconst (v := (-1 : Int32)) C dJ15_mismatch_45 (by decide) ?_
        refine zz_ixor C dJ15_mismatch_46 ?_
        refine zz_isub C dJ15_mismatch_47 ?_
        refine zz_istore_n (i := 3) (lv' := [(3, .int (p2 - (x7 ^^^ (-1 : Int32)))), (0, va_rf p0), (1, va_rf p1), (2, .int p2)]) C dJ15_mismatch_48 rfl (by decide) rfl ?_
        refine zz_subP [1, 2, 3, 0] rfl ?_
        obtain ⟨n49, hw⟩ := hw
        exact ok_J15_mismatch_L49 C E hH hR n49 _ _ _ _ _ _ _ hw
      · refine zz_iload_n C dJ15_mismatch_41 rfl 0 rfl ?_
        exact zz_iret C E dJ15_mismatch_42 hw
    · refine zz_iconst (v := (0 : Int32)) C dJ15_mismatch_17 (by decide) ?_
      exact zz_iret C E dJ15_mismatch_18 hw
abbrev cJ18_getChar : ByteArray := prog_49_method_44_code
def yJ18_getChar : MethodName := ⟨"java/lang/StringLatin1", "getChar", "([BI)C"⟩
def dkwJ18_getChar_0 : List UInt8 := [42, 27, 51, 17, 0, 255, 126, 146, 172]
abbrev dktJ18_getChar_0 : List UInt8 := dkwJ18_getChar_0 ++ []
theorem dksJ18_getChar_0 : cJ18_getChar.data.toList.drop 0 = dktJ18_getChar_0 := by decide +kernel
theorem dJ18_getChar_0 : decode cJ18_getChar 0 = .ok (.aload_n 0, 1) := dk_42 (dk_at dksJ18_getChar_0 0 rfl rfl)
theorem dJ18_getChar_1 : decode cJ18_getChar 1 = .ok (.iload_n 1, 1) := dk_27 (dk_at dksJ18_getChar_0 1 rfl rfl)
theorem dJ18_getChar_2 : decode cJ18_getChar 2 = .ok (.baload, 1) := dk_51 (dk_at dksJ18_getChar_0 2 rfl rfl)
theorem dJ18_getChar_3 : decode cJ18_getChar 3 = .ok (.sipush 255, 3) := dk_17 0 255 (dk_at dksJ18_getChar_0 3 rfl rfl)
theorem dJ18_getChar_6 : decode cJ18_getChar 6 = .ok (.iand, 1) := dk_126 (dk_at dksJ18_getChar_0 6 rfl rfl)
theorem dJ18_getChar_7 : decode cJ18_getChar 7 = .ok (.i2c, 1) := dk_146 (dk_at dksJ18_getChar_0 7 rfl rfl)
theorem dJ18_getChar_8 : decode cJ18_getChar 8 = .ok (.ireturn, 1) := dk_172 (dk_at dksJ18_getChar_0 8 rfl rfl)
def wp_J18_getChar (Z : zzG) (p0 : Option Nat) (p1 : Int32) (M : zzM) (K : Option Value → zzM → Prop) : Prop := zaI Z M p0 [101] p1 fun x1 => narrow .char (.int (((x1 &&& (255 : Int32)).toUInt32 % 65536).toInt32)) = .int (((x1 &&& (255 : Int32)).toUInt32 % 65536).toInt32) ∧ K (some (.int (((x1 &&& (255 : Int32)).toUInt32 % 65536).toInt32))) M
theorem ok_J18_getChar {Z : zzG} {l : Launch} (hl : l.stackTraces = false) {p0 : Option Nat} {p1 : Int32} {M : zzM} {mc ms : Nat} {K : Option Value → zzM → Prop} (hw : wp_J18_getChar Z p0 p1 M K) : zz_Met Z l yJ18_getChar (zz_ws yJ18_getChar cJ18_getChar 2 (some .char) none) 1 [va_rf p0, .int p1] M mc ms K (fun _ _ _ => False) := by
  refine zz_ofW hl (plainFor_of_name (by decide)) (by simp only [zz_sl0, zz_slI, zz_slJ, zz_slA] <;> decide) (fun G hZ hll C E hH hR hin => ?_)
  subst hZ
  subst hll
  rw [show lv_args 0 [va_rf p0, .int p1] = [(0, va_rf p0), (1, .int p1)] by simp only [zz_la0, zz_laI, zz_laJ, zz_laA]]
  unfold wp_J18_getChar at hw
  refine zz_aload_n C dJ18_getChar_0 rfl 0 rfl ?_
  refine zz_iload_n C dJ18_getChar_1 rfl 1 rfl ?_
  refine zz_bald C dJ18_getChar_2 hw (fun x1 hw => ?_)
  refine zz_sipush (v := (255 : Int32)) C dJ18_getChar_3 (by decide) ?_
  refine zz_iand C dJ18_getChar_6 ?_
  refine zz_i2c C dJ18_getChar_7 ?_
  exact zz_zret C E dJ18_getChar_8 hw
abbrev cJ18_compareTo_2 : ByteArray := prog_49_method_15_code
def yJ18_compareTo_2 : MethodName := ⟨"java/lang/StringLatin1", "compareTo", "([B[BII)I"⟩
def dkwJ18_compareTo_2_1 : List UInt8 := [167, 0, 16, 42, 21, 5, 184, 0, 50, 43, 21, 5, 184, 0, 50, 100, 172]
abbrev dktJ18_compareTo_2_1 : List UInt8 := dkwJ18_compareTo_2_1 ++ []
def dkwJ18_compareTo_2_0 : List UInt8 := [28, 29, 184, 0, 38, 54, 4, 42, 43, 21, 4, 184, 0, 44, 54, 5, 21, 5, 156, 0, 9, 28, 29, 100]
abbrev dktJ18_compareTo_2_0 : List UInt8 := dkwJ18_compareTo_2_0 ++ dktJ18_compareTo_2_1
theorem dksJ18_compareTo_2_0 : cJ18_compareTo_2.data.toList.drop 0 = dktJ18_compareTo_2_0 := by decide +kernel
theorem dksJ18_compareTo_2_1 : cJ18_compareTo_2.data.toList.drop 24 = dktJ18_compareTo_2_1 := dk_seg dksJ18_compareTo_2_0 24 rfl rfl
theorem dJ18_compareTo_2_0 : decode cJ18_compareTo_2 0 = .ok (.iload_n 2, 1) := dk_28 (dk_at dksJ18_compareTo_2_0 0 rfl rfl)
theorem dJ18_compareTo_2_1 : decode cJ18_compareTo_2 1 = .ok (.iload_n 3, 1) := dk_29 (dk_at dksJ18_compareTo_2_0 1 rfl rfl)
theorem dJ18_compareTo_2_2 : decode cJ18_compareTo_2 2 = .ok (.invokestatic 38, 3) := dk_184 0 38 (dk_at dksJ18_compareTo_2_0 2 rfl rfl)
theorem dJ18_compareTo_2_5 : decode cJ18_compareTo_2 5 = .ok (.istore 4, 2) := dk_54 4 (dk_at dksJ18_compareTo_2_0 5 rfl rfl)
theorem dJ18_compareTo_2_7 : decode cJ18_compareTo_2 7 = .ok (.aload_n 0, 1) := dk_42 (dk_at dksJ18_compareTo_2_0 7 rfl rfl)
theorem dJ18_compareTo_2_8 : decode cJ18_compareTo_2 8 = .ok (.aload_n 1, 1) := dk_43 (dk_at dksJ18_compareTo_2_0 8 rfl rfl)
theorem dJ18_compareTo_2_9 : decode cJ18_compareTo_2 9 = .ok (.iload 4, 2) := dk_21 4 (dk_at dksJ18_compareTo_2_0 9 rfl rfl)
theorem dJ18_compareTo_2_11 : decode cJ18_compareTo_2 11 = .ok (.invokestatic 44, 3) := dk_184 0 44 (dk_at dksJ18_compareTo_2_0 11 rfl rfl)
theorem dJ18_compareTo_2_14 : decode cJ18_compareTo_2 14 = .ok (.istore 5, 2) := dk_54 5 (dk_at dksJ18_compareTo_2_0 14 rfl rfl)
theorem dJ18_compareTo_2_16 : decode cJ18_compareTo_2 16 = .ok (.iload 5, 2) := dk_21 5 (dk_at dksJ18_compareTo_2_0 16 rfl rfl)
theorem dJ18_compareTo_2_18 : decode cJ18_compareTo_2 18 = .ok (.ifCond .ge 9, 3) := dk_156 0 9 (dk_at dksJ18_compareTo_2_0 18 rfl rfl)
theorem dJ18_compareTo_2_21 : decode cJ18_compareTo_2 21 = .ok (.iload_n 2, 1) := dk_28 (dk_at dksJ18_compareTo_2_0 21 rfl rfl)
theorem dJ18_compareTo_2_22 : decode cJ18_compareTo_2 22 = .ok (.iload_n 3, 1) := dk_29 (dk_at dksJ18_compareTo_2_0 22 rfl rfl)
theorem dJ18_compareTo_2_23 : decode cJ18_compareTo_2 23 = .ok (.isub, 1) := dk_100 (dk_at dksJ18_compareTo_2_0 23 rfl rfl)
theorem dJ18_compareTo_2_24 : decode cJ18_compareTo_2 24 = .ok (.goto 16, 3) := dk_167 0 16 (dk_at dksJ18_compareTo_2_1 0 rfl rfl)
theorem dJ18_compareTo_2_27 : decode cJ18_compareTo_2 27 = .ok (.aload_n 0, 1) := dk_42 (dk_at dksJ18_compareTo_2_1 3 rfl rfl)
theorem dJ18_compareTo_2_28 : decode cJ18_compareTo_2 28 = .ok (.iload 5, 2) := dk_21 5 (dk_at dksJ18_compareTo_2_1 4 rfl rfl)
theorem dJ18_compareTo_2_30 : decode cJ18_compareTo_2 30 = .ok (.invokestatic 50, 3) := dk_184 0 50 (dk_at dksJ18_compareTo_2_1 6 rfl rfl)
theorem dJ18_compareTo_2_33 : decode cJ18_compareTo_2 33 = .ok (.aload_n 1, 1) := dk_43 (dk_at dksJ18_compareTo_2_1 9 rfl rfl)
theorem dJ18_compareTo_2_34 : decode cJ18_compareTo_2 34 = .ok (.iload 5, 2) := dk_21 5 (dk_at dksJ18_compareTo_2_1 10 rfl rfl)
theorem dJ18_compareTo_2_36 : decode cJ18_compareTo_2 36 = .ok (.invokestatic 50, 3) := dk_184 0 50 (dk_at dksJ18_compareTo_2_1 12 rfl rfl)
theorem dJ18_compareTo_2_39 : decode cJ18_compareTo_2 39 = .ok (.isub, 1) := dk_100 (dk_at dksJ18_compareTo_2_1 15 rfl rfl)
theorem dJ18_compareTo_2_40 : decode cJ18_compareTo_2 40 = .ok (.ireturn, 1) := dk_172 (dk_at dksJ18_compareTo_2_1 16 rfl rfl)
theorem q1446 : (Jvm.Cond.code ({ cls := "jdk/internal/util/ArraysSupport", name := "mismatch", desc := "([B[BI)I" } : Jvm.MethodName) prog_78_method_13_code (4 : Nat) (Option.some Jvm.ClassFile.FieldType.int)) ∈ lw_all := lw_g (lw_at lw_m6 166 rfl) rfl
theorem zk_J15_mismatch : zz_cd yJ15_mismatch cJ15_mismatch 4 (some .int) none ∈ lw_all := q1446
theorem zy_J15_mismatch : zz_yok yJ15_mismatch 3 = true := by decide +kernel
theorem q1550 : (Jvm.Cond.code ({ cls := "java/lang/StringLatin1", name := "getChar", desc := "([BI)C" } : Jvm.MethodName) prog_49_method_44_code (2 : Nat) (Option.some Jvm.ClassFile.FieldType.char)) ∈ lw_all := lw_g (lw_at lw_m7 30 rfl) rfl
theorem zk_J18_getChar : zz_cd yJ18_getChar cJ18_getChar 2 (some .char) none ∈ lw_all := q1550
theorem zy_J18_getChar : zz_yok yJ18_getChar 2 = true := by decide +kernel
theorem q1548 : (Jvm.Cond.methodLink "java/lang/StringLatin1" (50 : Nat) ({ cls := "java/lang/StringLatin1", name := "getChar", desc := "([BI)C" } : Jvm.MethodName)) ∈ lw_all := lw_g (lw_at lw_m7 28 rfl) rfl
theorem q1549 : (Jvm.Cond.static ({ cls := "java/lang/StringLatin1", name := "getChar", desc := "([BI)C" } : Jvm.MethodName)) ∈ lw_all := lw_g (lw_at lw_m7 29 rfl) rfl
theorem q1444 : (Jvm.Cond.methodLink "java/lang/StringLatin1" (44 : Nat) ({ cls := "jdk/internal/util/ArraysSupport", name := "mismatch", desc := "([B[BI)I" } : Jvm.MethodName)) ∈ lw_all := lw_g (lw_at lw_m6 164 rfl) rfl
theorem q1445 : (Jvm.Cond.static ({ cls := "jdk/internal/util/ArraysSupport", name := "mismatch", desc := "([B[BI)I" } : Jvm.MethodName)) ∈ lw_all := lw_g (lw_at lw_m6 165 rfl) rfl
def wp_J18_compareTo_2_B40 (Z : zzG) (K : Option Value → zzM → Prop) (s0 : Int32) (M : zzM) : Prop := K (some (.int s0)) M
def wp_J18_compareTo_2 (Z : zzG) (p0 : Option Nat) (p1 : Option Nat) (p2 : Int32) (p3 : Int32) (M : zzM) (K : Option Value → zzM → Prop) : Prop := wp_J16_min Z p2 p3 M (fun r1 M2 => zrI r1 fun x5 => wp_J15_mismatch Z p0 p1 x5 M2 (fun r6 M7 => zrI r6 fun x10 => if 0 ≤ x10 then (wp_J18_getChar Z p0 x10 M7 (fun r11 M12 => zrI r11 fun x15 => wp_J18_getChar Z p1 x10 M12 (fun r16 M17 => zrI r16 fun x20 => wp_J18_compareTo_2_B40 Z K (x15 - x20) M17))) else (wp_J18_compareTo_2_B40 Z K (p2 - p3) M7)))
theorem ok_J18_compareTo_2_B40 {G : zzX} (C : zz_C G cJ18_compareTo_2 "java/lang/StringLatin1" 6) {K : Option Value → zzM → Prop} (E : zz_E G (some .int) K (fun _ _ _ => False)) (hH : zz_H G []) (hR : zz_Rm G 5) {s0 : Int32} {M : zzM} {bc bs : Nat} (hw : wp_J18_compareTo_2_B40 (zz_Zof G) K s0 M) : zz_T G 6 M bc bs 40 [] [.int s0] := by
  unfold wp_J18_compareTo_2_B40 at hw
  exact zz_iret C E dJ18_compareTo_2_40 hw
theorem ok_J18_compareTo_2 {Z : zzG} {l : Launch} (hl : l.stackTraces = false) {p0 : Option Nat} {p1 : Option Nat} {p2 : Int32} {p3 : Int32} {M : zzM} {mc ms : Nat} {K : Option Value → zzM → Prop} (hw : wp_J18_compareTo_2 Z p0 p1 p2 p3 M K) : zz_Met Z l yJ18_compareTo_2 (zz_ws yJ18_compareTo_2 cJ18_compareTo_2 6 (some .int) none) 5 [va_rf p0, va_rf p1, .int p2, .int p3] M mc ms K (fun _ _ _ => False) := by
  refine zz_ofW hl (plainFor_of_name (by decide)) (by simp only [zz_sl0, zz_slI, zz_slJ, zz_slA] <;> decide) (fun G hZ hll C E hH hR hin => ?_)
  subst hZ
  subst hll
  rw [show lv_args 0 [va_rf p0, va_rf p1, .int p2, .int p3] = [(0, va_rf p0), (1, va_rf p1), (2, .int p2), (3, .int p3)] by simp only [zz_la0, zz_laI, zz_laJ, zz_laA]]
  unfold wp_J18_compareTo_2 at hw
  refine zz_iload_n C dJ18_compareTo_2_0 rfl 2 rfl ?_
  refine zz_iload_n C dJ18_compareTo_2_1 rfl 3 rfl ?_
  refine zz_callS (As := [.int p2, .int p3]) (rest := []) (mc := 0) (ms := 0) C hR dJ18_compareTo_2_2 (Or.inl q743) q437 zl_java_lang_Math zk_J16_min (Or.inl rfl) zy_J16_min (by decide) (by decide) (ok_J16_min (zz_hl C) hw) (Nat.zero_le _) (Nat.zero_le _) (zz_cat10 _ (Nat.le_of_ble_eq_true rfl)) (fun r1 M2 hw => zz_kI hw (fun x5 hw => ?_)) (fun _ _ _ h9 => h9.elim) rfl
  refine zz_istore (lv' := [(4, .int x5), (0, va_rf p0), (1, va_rf p1), (2, .int p2), (3, .int p3)]) C dJ18_compareTo_2_5 (by decide) rfl ?_
  refine zz_aload_n C dJ18_compareTo_2_7 rfl 1 rfl ?_
  refine zz_aload_n C dJ18_compareTo_2_8 rfl 2 rfl ?_
  refine zz_iload C dJ18_compareTo_2_9 0 rfl ?_
  refine zz_callS (As := [va_rf p0, va_rf p1, .int x5]) (rest := []) (mc := 0) (ms := 0) C hR dJ18_compareTo_2_11 (Or.inl q1444) q1445 zl_jdk_internal_util_ArraysSupport zk_J15_mismatch (Or.inl rfl) zy_J15_mismatch (by decide) (by decide) (ok_J15_mismatch (zz_hl C) hw) (Nat.zero_le _) (Nat.zero_le _) (zz_cat10 _ (Nat.le_of_ble_eq_true rfl)) (fun r6 M7 hw => zz_kI hw (fun x10 hw => ?_)) (fun _ _ _ h9 => h9.elim) rfl
  refine zz_istore (lv' := [(5, .int x10), (4, .int x5), (0, va_rf p0), (1, va_rf p1), (2, .int p2), (3, .int p3)]) C dJ18_compareTo_2_14 (by decide) rfl ?_
  refine zz_iload C dJ18_compareTo_2_16 0 rfl ?_
  refine zz_if_ge (tgt := 27) C dJ18_compareTo_2_18 (by decide) hw (fun hw => ?_) (fun hw => ?_)
  · refine zz_aload_n C dJ18_compareTo_2_27 rfl 2 rfl ?_
    refine zz_iload C dJ18_compareTo_2_28 0 rfl ?_
    refine zz_callS (As := [va_rf p0, .int x10]) (rest := []) (mc := 0) (ms := 0) C hR dJ18_compareTo_2_30 (Or.inl q1548) q1549 zl_java_lang_StringLatin1 zk_J18_getChar (Or.inl rfl) zy_J18_getChar (by decide) (by decide) (ok_J18_getChar (zz_hl C) hw) (Nat.zero_le _) (Nat.zero_le _) (zz_cat10 _ (Nat.le_of_ble_eq_true rfl)) (fun r11 M12 hw => zz_kI hw (fun x15 hw => ?_)) (fun _ _ _ h9 => h9.elim) rfl
    refine zz_aload_n C dJ18_compareTo_2_33 rfl 3 rfl ?_
    refine zz_iload C dJ18_compareTo_2_34 0 rfl ?_
    refine zz_callS (As := [va_rf p1, .int x10]) (rest := [.int x15]) (mc := 0) (ms := 0) C hR dJ18_compareTo_2_36 (Or.inl q1548) q1549 zl_java_lang_StringLatin1 zk_J18_getChar (Or.inl rfl) zy_J18_getChar (by decide) (by decide) (ok_J18_getChar (zz_hl C) hw) (Nat.zero_le _) (Nat.zero_le _) (zz_cat10 _ (Nat.le_of_ble_eq_true rfl)) (fun r16 M17 hw => zz_kI hw (fun x20 hw => ?_)) (fun _ _ _ h9 => h9.elim) rfl
    refine zz_isub C dJ18_compareTo_2_39 ?_
    refine zz_subP [] rfl ?_
    exact ok_J18_compareTo_2_B40 C E hH hR hw
  · refine zz_iload_n C dJ18_compareTo_2_21 rfl 4 rfl ?_
    refine zz_iload_n C dJ18_compareTo_2_22 rfl 5 rfl ?_
    refine zz_isub C dJ18_compareTo_2_23 ?_
    refine zz_goto (tgt := 40) C dJ18_compareTo_2_24 (by decide) ?_
    refine zz_subP [] rfl ?_
    exact ok_J18_compareTo_2_B40 C E hH hR hw
abbrev cJ18_compareTo : ByteArray := prog_49_method_14_code
def yJ18_compareTo : MethodName := ⟨"java/lang/StringLatin1", "compareTo", "([B[B)I"⟩
def dkwJ18_compareTo_0 : List UInt8 := [42, 190, 61, 43, 190, 62, 42, 43, 28, 29, 184, 0, 34, 172]
abbrev dktJ18_compareTo_0 : List UInt8 := dkwJ18_compareTo_0 ++ []
theorem dksJ18_compareTo_0 : cJ18_compareTo.data.toList.drop 0 = dktJ18_compareTo_0 := by decide +kernel
theorem dJ18_compareTo_0 : decode cJ18_compareTo 0 = .ok (.aload_n 0, 1) := dk_42 (dk_at dksJ18_compareTo_0 0 rfl rfl)
theorem dJ18_compareTo_1 : decode cJ18_compareTo 1 = .ok (.arraylength, 1) := dk_190 (dk_at dksJ18_compareTo_0 1 rfl rfl)
theorem dJ18_compareTo_2 : decode cJ18_compareTo 2 = .ok (.istore_n 2, 1) := dk_61 (dk_at dksJ18_compareTo_0 2 rfl rfl)
theorem dJ18_compareTo_3 : decode cJ18_compareTo 3 = .ok (.aload_n 1, 1) := dk_43 (dk_at dksJ18_compareTo_0 3 rfl rfl)
theorem dJ18_compareTo_4 : decode cJ18_compareTo 4 = .ok (.arraylength, 1) := dk_190 (dk_at dksJ18_compareTo_0 4 rfl rfl)
theorem dJ18_compareTo_5 : decode cJ18_compareTo 5 = .ok (.istore_n 3, 1) := dk_62 (dk_at dksJ18_compareTo_0 5 rfl rfl)
theorem dJ18_compareTo_6 : decode cJ18_compareTo 6 = .ok (.aload_n 0, 1) := dk_42 (dk_at dksJ18_compareTo_0 6 rfl rfl)
theorem dJ18_compareTo_7 : decode cJ18_compareTo 7 = .ok (.aload_n 1, 1) := dk_43 (dk_at dksJ18_compareTo_0 7 rfl rfl)
theorem dJ18_compareTo_8 : decode cJ18_compareTo 8 = .ok (.iload_n 2, 1) := dk_28 (dk_at dksJ18_compareTo_0 8 rfl rfl)
theorem dJ18_compareTo_9 : decode cJ18_compareTo 9 = .ok (.iload_n 3, 1) := dk_29 (dk_at dksJ18_compareTo_0 9 rfl rfl)
theorem dJ18_compareTo_10 : decode cJ18_compareTo 10 = .ok (.invokestatic 34, 3) := dk_184 0 34 (dk_at dksJ18_compareTo_0 10 rfl rfl)
theorem dJ18_compareTo_13 : decode cJ18_compareTo 13 = .ok (.ireturn, 1) := dk_172 (dk_at dksJ18_compareTo_0 13 rfl rfl)
theorem q1443 : (Jvm.Cond.code ({ cls := "java/lang/StringLatin1", name := "compareTo", desc := "([B[BII)I" } : Jvm.MethodName) prog_49_method_15_code (6 : Nat) (Option.some Jvm.ClassFile.FieldType.int)) ∈ lw_all := lw_g (lw_at lw_m6 163 rfl) rfl
theorem zk_J18_compareTo_2 : zz_cd yJ18_compareTo_2 cJ18_compareTo_2 6 (some .int) none ∈ lw_all := q1443
theorem zy_J18_compareTo_2 : zz_yok yJ18_compareTo_2 4 = true := by decide +kernel
theorem q1441 : (Jvm.Cond.methodLink "java/lang/StringLatin1" (34 : Nat) ({ cls := "java/lang/StringLatin1", name := "compareTo", desc := "([B[BII)I" } : Jvm.MethodName)) ∈ lw_all := lw_g (lw_at lw_m6 161 rfl) rfl
theorem q1442 : (Jvm.Cond.static ({ cls := "java/lang/StringLatin1", name := "compareTo", desc := "([B[BII)I" } : Jvm.MethodName)) ∈ lw_all := lw_g (lw_at lw_m6 162 rfl) rfl
def wp_J18_compareTo (Z : zzG) (p0 : Option Nat) (p1 : Option Nat) (M : zzM) (K : Option Value → zzM → Prop) : Prop := zlen Z M p0 fun x1 => zlen Z M p1 fun x2 => wp_J18_compareTo_2 Z p0 p1 x1 x2 M (fun r3 M4 => zrI r3 fun x7 => K (some (.int x7)) M4)
theorem ok_J18_compareTo {Z : zzG} {l : Launch} (hl : l.stackTraces = false) {p0 : Option Nat} {p1 : Option Nat} {M : zzM} {mc ms : Nat} {K : Option Value → zzM → Prop} (hw : wp_J18_compareTo Z p0 p1 M K) : zz_Met Z l yJ18_compareTo (zz_ws yJ18_compareTo cJ18_compareTo 4 (some .int) none) 6 [va_rf p0, va_rf p1] M mc ms K (fun _ _ _ => False) := by
  refine zz_ofW hl (plainFor_of_name (by decide)) (by simp only [zz_sl0, zz_slI, zz_slJ, zz_slA] <;> decide) (fun G hZ hll C E hH hR hin => ?_)
  subst hZ
  subst hll
  rw [show lv_args 0 [va_rf p0, va_rf p1] = [(0, va_rf p0), (1, va_rf p1)] by simp only [zz_la0, zz_laI, zz_laJ, zz_laA]]
  unfold wp_J18_compareTo at hw
  refine zz_aload_n C dJ18_compareTo_0 rfl 0 rfl ?_
  refine zz_alen C dJ18_compareTo_1 hw (fun x1 hw => ?_)
  refine zz_istore_n (i := 2) (lv' := [(2, .int x1), (0, va_rf p0), (1, va_rf p1)]) C dJ18_compareTo_2 rfl (by decide) (by simp [zz_cat, zz_catI, zz_catJ, zz_catD]) ?_
  refine zz_aload_n C dJ18_compareTo_3 rfl 2 rfl ?_
  refine zz_alen C dJ18_compareTo_4 hw (fun x2 hw => ?_)
  refine zz_istore_n (i := 3) (lv' := [(3, .int x2), (2, .int x1), (0, va_rf p0), (1, va_rf p1)]) C dJ18_compareTo_5 rfl (by decide) rfl ?_
  refine zz_aload_n C dJ18_compareTo_6 rfl 2 rfl ?_
  refine zz_aload_n C dJ18_compareTo_7 rfl 3 rfl ?_
  refine zz_iload_n C dJ18_compareTo_8 rfl 1 rfl ?_
  refine zz_iload_n C dJ18_compareTo_9 rfl 0 rfl ?_
  refine zz_callS (As := [va_rf p0, va_rf p1, .int x1, .int x2]) (rest := []) (mc := 0) (ms := 0) C hR dJ18_compareTo_10 (Or.inl q1441) q1442 zl_java_lang_StringLatin1 zk_J18_compareTo_2 (Or.inl rfl) zy_J18_compareTo_2 (by decide) (by decide) (ok_J18_compareTo_2 (zz_hl C) hw) (Nat.zero_le _) (Nat.zero_le _) (zz_cat10 _ (Nat.le_of_ble_eq_true rfl)) (fun r3 M4 hw => zz_kI hw (fun x7 hw => ?_)) (fun _ _ _ h9 => h9.elim) rfl
  exact zz_iret C E dJ18_compareTo_13 hw
abbrev cJ7_compareTo_2 : ByteArray := prog_46_method_71_code
def yJ7_compareTo_2 : MethodName := ⟨"java/lang/String", "compareTo", "(Ljava/lang/String;)I"⟩
def dkwJ7_compareTo_2_2 : List UInt8 := [154, 0, 11, 44, 45, 184, 2, 79, 167, 0, 8, 44, 45, 184, 2, 82, 172]
abbrev dktJ7_compareTo_2_2 : List UInt8 := dkwJ7_compareTo_2_2 ++ []
def dkwJ7_compareTo_2_1 : List UInt8 := [160, 0, 22, 21, 4, 154, 0, 11, 44, 45, 184, 2, 74, 167, 0, 8, 44, 45, 184, 2, 78, 172, 21, 4]
abbrev dktJ7_compareTo_2_1 : List UInt8 := dkwJ7_compareTo_2_1 ++ dktJ7_compareTo_2_2
def dkwJ7_compareTo_2_0 : List UInt8 := [42, 180, 0, 9, 77, 43, 180, 0, 9, 78, 42, 182, 1, 79, 54, 4, 21, 4, 43, 182, 1, 79]
abbrev dktJ7_compareTo_2_0 : List UInt8 := dkwJ7_compareTo_2_0 ++ dktJ7_compareTo_2_1
theorem dksJ7_compareTo_2_0 : cJ7_compareTo_2.data.toList.drop 0 = dktJ7_compareTo_2_0 := by decide +kernel
theorem dksJ7_compareTo_2_1 : cJ7_compareTo_2.data.toList.drop 22 = dktJ7_compareTo_2_1 := dk_seg dksJ7_compareTo_2_0 22 rfl rfl
theorem dksJ7_compareTo_2_2 : cJ7_compareTo_2.data.toList.drop 46 = dktJ7_compareTo_2_2 := dk_seg dksJ7_compareTo_2_1 24 rfl rfl
theorem dJ7_compareTo_2_0 : decode cJ7_compareTo_2 0 = .ok (.aload_n 0, 1) := dk_42 (dk_at dksJ7_compareTo_2_0 0 rfl rfl)
theorem dJ7_compareTo_2_1 : decode cJ7_compareTo_2 1 = .ok (.getfield 9, 3) := dk_180 0 9 (dk_at dksJ7_compareTo_2_0 1 rfl rfl)
theorem dJ7_compareTo_2_4 : decode cJ7_compareTo_2 4 = .ok (.astore_n 2, 1) := dk_77 (dk_at dksJ7_compareTo_2_0 4 rfl rfl)
theorem dJ7_compareTo_2_5 : decode cJ7_compareTo_2 5 = .ok (.aload_n 1, 1) := dk_43 (dk_at dksJ7_compareTo_2_0 5 rfl rfl)
theorem dJ7_compareTo_2_6 : decode cJ7_compareTo_2 6 = .ok (.getfield 9, 3) := dk_180 0 9 (dk_at dksJ7_compareTo_2_0 6 rfl rfl)
theorem dJ7_compareTo_2_9 : decode cJ7_compareTo_2 9 = .ok (.astore_n 3, 1) := dk_78 (dk_at dksJ7_compareTo_2_0 9 rfl rfl)
theorem dJ7_compareTo_2_10 : decode cJ7_compareTo_2 10 = .ok (.aload_n 0, 1) := dk_42 (dk_at dksJ7_compareTo_2_0 10 rfl rfl)
theorem dJ7_compareTo_2_11 : decode cJ7_compareTo_2 11 = .ok (.invokevirtual 335, 3) := dk_182 1 79 (dk_at dksJ7_compareTo_2_0 11 rfl rfl)
theorem dJ7_compareTo_2_14 : decode cJ7_compareTo_2 14 = .ok (.istore 4, 2) := dk_54 4 (dk_at dksJ7_compareTo_2_0 14 rfl rfl)
theorem dJ7_compareTo_2_16 : decode cJ7_compareTo_2 16 = .ok (.iload 4, 2) := dk_21 4 (dk_at dksJ7_compareTo_2_0 16 rfl rfl)
theorem dJ7_compareTo_2_18 : decode cJ7_compareTo_2 18 = .ok (.aload_n 1, 1) := dk_43 (dk_at dksJ7_compareTo_2_0 18 rfl rfl)
theorem dJ7_compareTo_2_19 : decode cJ7_compareTo_2 19 = .ok (.invokevirtual 335, 3) := dk_182 1 79 (dk_at dksJ7_compareTo_2_0 19 rfl rfl)
theorem dJ7_compareTo_2_22 : decode cJ7_compareTo_2 22 = .ok (.if_icmp .ne 22, 3) := dk_160 0 22 (dk_at dksJ7_compareTo_2_1 0 rfl rfl)
theorem dJ7_compareTo_2_25 : decode cJ7_compareTo_2 25 = .ok (.iload 4, 2) := dk_21 4 (dk_at dksJ7_compareTo_2_1 3 rfl rfl)
theorem dJ7_compareTo_2_27 : decode cJ7_compareTo_2 27 = .ok (.ifCond .ne 11, 3) := dk_154 0 11 (dk_at dksJ7_compareTo_2_1 5 rfl rfl)
theorem dJ7_compareTo_2_30 : decode cJ7_compareTo_2 30 = .ok (.aload_n 2, 1) := dk_44 (dk_at dksJ7_compareTo_2_1 8 rfl rfl)
theorem dJ7_compareTo_2_31 : decode cJ7_compareTo_2 31 = .ok (.aload_n 3, 1) := dk_45 (dk_at dksJ7_compareTo_2_1 9 rfl rfl)
theorem dJ7_compareTo_2_32 : decode cJ7_compareTo_2 32 = .ok (.invokestatic 586, 3) := dk_184 2 74 (dk_at dksJ7_compareTo_2_1 10 rfl rfl)
theorem dJ7_compareTo_2_35 : decode cJ7_compareTo_2 35 = .ok (.goto 8, 3) := dk_167 0 8 (dk_at dksJ7_compareTo_2_1 13 rfl rfl)
theorem dJ7_compareTo_2_38 : decode cJ7_compareTo_2 38 = .ok (.aload_n 2, 1) := dk_44 (dk_at dksJ7_compareTo_2_1 16 rfl rfl)
theorem dJ7_compareTo_2_39 : decode cJ7_compareTo_2 39 = .ok (.aload_n 3, 1) := dk_45 (dk_at dksJ7_compareTo_2_1 17 rfl rfl)
theorem dJ7_compareTo_2_40 : decode cJ7_compareTo_2 40 = .ok (.invokestatic 590, 3) := dk_184 2 78 (dk_at dksJ7_compareTo_2_1 18 rfl rfl)
theorem dJ7_compareTo_2_43 : decode cJ7_compareTo_2 43 = .ok (.ireturn, 1) := dk_172 (dk_at dksJ7_compareTo_2_1 21 rfl rfl)
theorem dJ7_compareTo_2_44 : decode cJ7_compareTo_2 44 = .ok (.iload 4, 2) := dk_21 4 (dk_at dksJ7_compareTo_2_1 22 rfl rfl)
theorem dJ7_compareTo_2_46 : decode cJ7_compareTo_2 46 = .ok (.ifCond .ne 11, 3) := dk_154 0 11 (dk_at dksJ7_compareTo_2_2 0 rfl rfl)
theorem dJ7_compareTo_2_49 : decode cJ7_compareTo_2 49 = .ok (.aload_n 2, 1) := dk_44 (dk_at dksJ7_compareTo_2_2 3 rfl rfl)
theorem dJ7_compareTo_2_50 : decode cJ7_compareTo_2 50 = .ok (.aload_n 3, 1) := dk_45 (dk_at dksJ7_compareTo_2_2 4 rfl rfl)
theorem dJ7_compareTo_2_51 : decode cJ7_compareTo_2 51 = .ok (.invokestatic 591, 3) := dk_184 2 79 (dk_at dksJ7_compareTo_2_2 5 rfl rfl)
theorem dJ7_compareTo_2_57 : decode cJ7_compareTo_2 57 = .ok (.aload_n 2, 1) := dk_44 (dk_at dksJ7_compareTo_2_2 11 rfl rfl)
theorem dJ7_compareTo_2_58 : decode cJ7_compareTo_2 58 = .ok (.aload_n 3, 1) := dk_45 (dk_at dksJ7_compareTo_2_2 12 rfl rfl)
theorem dJ7_compareTo_2_59 : decode cJ7_compareTo_2 59 = .ok (.invokestatic 594, 3) := dk_184 2 82 (dk_at dksJ7_compareTo_2_2 13 rfl rfl)
theorem q1440 : (Jvm.Cond.code ({ cls := "java/lang/StringLatin1", name := "compareTo", desc := "([B[B)I" } : Jvm.MethodName) prog_49_method_14_code (4 : Nat) (Option.some Jvm.ClassFile.FieldType.int)) ∈ lw_all := lw_g (lw_at lw_m6 160 rfl) rfl
theorem zk_J18_compareTo : zz_cd yJ18_compareTo cJ18_compareTo 4 (some .int) none ∈ lw_all := q1440
theorem zy_J18_compareTo : zz_yok yJ18_compareTo 2 = true := by decide +kernel
theorem q1438 : (Jvm.Cond.methodLink "java/lang/String" (586 : Nat) ({ cls := "java/lang/StringLatin1", name := "compareTo", desc := "([B[B)I" } : Jvm.MethodName)) ∈ lw_all := lw_g (lw_at lw_m6 158 rfl) rfl
theorem q1439 : (Jvm.Cond.static ({ cls := "java/lang/StringLatin1", name := "compareTo", desc := "([B[B)I" } : Jvm.MethodName)) ∈ lw_all := lw_g (lw_at lw_m6 159 rfl) rfl
def wp_J7_compareTo_2 (Z : zzG) (this : Option Nat) (p0 : Option Nat) (M : zzM) (K : Option Value → zzM → Prop) : Prop := zgA Z M this [21] 0 fun x1 => zgA Z M p0 [21] 0 fun x2 => zty Z M this fun t => t = 21 ∧ wp_J7_coder Z this M (fun r3 M4 => zrI r3 fun x7 => zty Z M4 p0 fun t => t = 21 ∧ wp_J7_coder Z p0 M4 (fun r8 M9 => zrI r8 fun x12 => if x7 = x12 then (if x7 = 0 then (wp_J18_compareTo Z x1 x2 M9 (fun r13 M14 => zrI r13 fun x17 => K (some (.int x17)) M14)) else (False)) else (if x7 = 0 then (False) else (False))))
theorem ok_J7_compareTo_2 {Z : zzG} {l : Launch} (hl : l.stackTraces = false) {this : Option Nat} {p0 : Option Nat} {M : zzM} {mc ms : Nat} {K : Option Value → zzM → Prop} (hw : wp_J7_compareTo_2 Z this p0 M K) : zz_Met Z l yJ7_compareTo_2 (zz_ws yJ7_compareTo_2 cJ7_compareTo_2 5 (some .int) none) 7 [va_rf this, va_rf p0] M mc ms K (fun _ _ _ => False) := by
  refine zz_ofW hl (plainFor_of_name (by decide)) (by simp only [zz_sl0, zz_slI, zz_slJ, zz_slA] <;> decide) (fun G hZ hll C E hH hR hin => ?_)
  subst hZ
  subst hll
  rw [show lv_args 0 [va_rf this, va_rf p0] = [(0, va_rf this), (1, va_rf p0)] by simp only [zz_la0, zz_laI, zz_laJ, zz_laA]]
  unfold wp_J7_compareTo_2 at hw
  refine zz_aload_n C dJ7_compareTo_2_0 rfl 0 rfl ?_
  refine zz_getA C dJ7_compareTo_2_1 (Or.inl q689) zf_21_0_va_lang_String hw (fun x1 hw => ?_)
  refine zz_astore_n (i := 2) (lv' := [(2, va_rf x1), (0, va_rf this), (1, va_rf p0)]) C dJ7_compareTo_2_4 rfl (by decide) (by simp [zz_cat, zz_catI, zz_catJ, zz_catD]) ?_
  refine zz_aload_n C dJ7_compareTo_2_5 rfl 2 rfl ?_
  refine zz_getA C dJ7_compareTo_2_6 (Or.inl q689) zf_21_0_va_lang_String hw (fun x2 hw => ?_)
  refine zz_astore_n (i := 3) (lv' := [(3, va_rf x2), (2, va_rf x1), (0, va_rf this), (1, va_rf p0)]) C dJ7_compareTo_2_9 rfl (by decide) (by simp [zz_cat, zz_catI, zz_catJ, zz_catD]) ?_
  refine zz_aload_n C dJ7_compareTo_2_10 rfl 2 rfl ?_
  obtain ⟨a9, t9, b9, fs9, hro, hL, rfl, hw⟩ := ztyS hw
  refine zz_callV (r := (zR_21, zT_21, 4)) (As := []) (rest := []) (mc := 0) (ms := 0) C hR hro dJ7_compareTo_2_11 (Or.inl q630) q631 (Or.inl q632) zl_java_lang_String zk_J7_coder (Or.inl rfl) zy_J7_coder rfl (by decide) (by decide) hL (ok_J7_coder (zz_hl C) hw) (Nat.zero_le _) (Nat.zero_le _) (zz_cat10 _ (Nat.le_of_ble_eq_true rfl)) (fun r3 M4 hw => zz_kI hw (fun x7 hw => ?_)) (fun _ _ _ h9 => h9.elim) rfl
  refine zz_istore (lv' := [(4, .int x7), (3, va_rf x2), (2, va_rf x1), (0, va_rf this), (1, va_rf p0)]) C dJ7_compareTo_2_14 (by decide) (by simp [zz_cat, zz_catI, zz_catJ, zz_catD]) ?_
  refine zz_iload C dJ7_compareTo_2_16 0 rfl ?_
  refine zz_aload_n C dJ7_compareTo_2_18 rfl 4 rfl ?_
  obtain ⟨a9, t9, b9, fs9, hro, hL, rfl, hw⟩ := ztyS hw
  refine zz_callV (r := (zR_21, zT_21, 4)) (As := []) (rest := [.int x7]) (mc := 0) (ms := 0) C hR hro dJ7_compareTo_2_19 (Or.inl q630) q631 (Or.inl q632) zl_java_lang_String zk_J7_coder (Or.inl rfl) zy_J7_coder rfl (by decide) (by decide) hL (ok_J7_coder (zz_hl C) hw) (Nat.zero_le _) (Nat.zero_le _) (zz_cat10 _ (Nat.le_of_ble_eq_true rfl)) (fun r8 M9 hw => zz_kI hw (fun x12 hw => ?_)) (fun _ _ _ h9 => h9.elim) rfl
  refine zz_icmp_ne (tgt := 44) C dJ7_compareTo_2_22 (by decide) hw (fun hw => ?_) (fun hw => ?_)
  · refine zz_iload C dJ7_compareTo_2_44 0 rfl ?_
    refine zz_if_ne (tgt := 57) C dJ7_compareTo_2_46 (by decide) hw (fun hw => ?_) (fun hw => ?_)
    · refine zz_aload_n C dJ7_compareTo_2_57 rfl 2 rfl ?_
      refine zz_aload_n C dJ7_compareTo_2_58 rfl 1 rfl ?_
      exact hw.elim
    · refine zz_aload_n C dJ7_compareTo_2_49 rfl 2 rfl ?_
      refine zz_aload_n C dJ7_compareTo_2_50 rfl 1 rfl ?_
      exact hw.elim
  · refine zz_iload C dJ7_compareTo_2_25 0 rfl ?_
    refine zz_if_ne (tgt := 38) C dJ7_compareTo_2_27 (by decide) hw (fun hw => ?_) (fun hw => ?_)
    · refine zz_aload_n C dJ7_compareTo_2_38 rfl 2 rfl ?_
      refine zz_aload_n C dJ7_compareTo_2_39 rfl 1 rfl ?_
      exact hw.elim
    · refine zz_aload_n C dJ7_compareTo_2_30 rfl 2 rfl ?_
      refine zz_aload_n C dJ7_compareTo_2_31 rfl 1 rfl ?_
      refine zz_callS (As := [va_rf x1, va_rf x2]) (rest := []) (mc := 0) (ms := 0) C hR dJ7_compareTo_2_32 (Or.inl q1438) q1439 zl_java_lang_StringLatin1 zk_J18_compareTo (Or.inl rfl) zy_J18_compareTo (by decide) (by decide) (ok_J18_compareTo (zz_hl C) hw) (Nat.zero_le _) (Nat.zero_le _) (zz_cat10 _ (Nat.le_of_ble_eq_true rfl)) (fun r13 M14 hw => zz_kI hw (fun x17 hw => ?_)) (fun _ _ _ h9 => h9.elim) rfl
      refine zz_goto (tgt := 43) C dJ7_compareTo_2_35 (by decide) ?_
      exact zz_iret C E dJ7_compareTo_2_43 hw
abbrev cJ7_compareTo : ByteArray := prog_46_method_162_code
def yJ7_compareTo : MethodName := ⟨"java/lang/String", "compareTo", "(Ljava/lang/Object;)I"⟩
def dkwJ7_compareTo_0 : List UInt8 := [42, 43, 192, 0, 10, 182, 4, 60, 172]
abbrev dktJ7_compareTo_0 : List UInt8 := dkwJ7_compareTo_0 ++ []
theorem dksJ7_compareTo_0 : cJ7_compareTo.data.toList.drop 0 = dktJ7_compareTo_0 := by decide +kernel
theorem dJ7_compareTo_0 : decode cJ7_compareTo 0 = .ok (.aload_n 0, 1) := dk_42 (dk_at dksJ7_compareTo_0 0 rfl rfl)
theorem dJ7_compareTo_1 : decode cJ7_compareTo 1 = .ok (.aload_n 1, 1) := dk_43 (dk_at dksJ7_compareTo_0 1 rfl rfl)
theorem dJ7_compareTo_2 : decode cJ7_compareTo 2 = .ok (.checkcast 10, 3) := dk_192 0 10 (dk_at dksJ7_compareTo_0 2 rfl rfl)
theorem dJ7_compareTo_5 : decode cJ7_compareTo 5 = .ok (.invokevirtual 1084, 3) := dk_182 4 60 (dk_at dksJ7_compareTo_0 5 rfl rfl)
theorem dJ7_compareTo_8 : decode cJ7_compareTo 8 = .ok (.ireturn, 1) := dk_172 (dk_at dksJ7_compareTo_0 8 rfl rfl)
theorem q1437 : (Jvm.Cond.code ({ cls := "java/lang/String", name := "compareTo", desc := "(Ljava/lang/String;)I" } : Jvm.MethodName) prog_46_method_71_code (5 : Nat) (Option.some Jvm.ClassFile.FieldType.int)) ∈ lw_all := lw_g (lw_at lw_m6 157 rfl) rfl
theorem zk_J7_compareTo_2 : zz_cd yJ7_compareTo_2 cJ7_compareTo_2 5 (some .int) none ∈ lw_all := q1437
theorem zy_J7_compareTo_2 : zz_yok yJ7_compareTo_2 1 = true := by decide +kernel
theorem q1434 : (Jvm.Cond.methodLink "java/lang/String" (1084 : Nat) ({ cls := "java/lang/String", name := "compareTo", desc := "(Ljava/lang/String;)I" } : Jvm.MethodName)) ∈ lw_all := lw_g (lw_at lw_m6 154 rfl) rfl
theorem q1435 : (Jvm.Cond.instanceMethod ({ cls := "java/lang/String", name := "compareTo", desc := "(Ljava/lang/String;)I" } : Jvm.MethodName)) ∈ lw_all := lw_g (lw_at lw_m6 155 rfl) rfl
theorem q1436 : (Jvm.Cond.selects "java/lang/String" ({ cls := "java/lang/String", name := "compareTo", desc := "(Ljava/lang/String;)I" } : Jvm.MethodName) ({ cls := "java/lang/String", name := "compareTo", desc := "(Ljava/lang/String;)I" } : Jvm.MethodName)) ∈ lw_all := lw_g (lw_at lw_m6 156 rfl) rfl
def wp_J7_compareTo (Z : zzG) (this : Option Nat) (p0 : Option Nat) (M : zzM) (K : Option Value → zzM → Prop) : Prop := zcast Z M p0 [21] <| zty Z M this fun t => t = 21 ∧ wp_J7_compareTo_2 Z this p0 M (fun r1 M2 => zrI r1 fun x5 => K (some (.int x5)) M2)
theorem ok_J7_compareTo {Z : zzG} {l : Launch} (hl : l.stackTraces = false) {this : Option Nat} {p0 : Option Nat} {M : zzM} {mc ms : Nat} {K : Option Value → zzM → Prop} (hw : wp_J7_compareTo Z this p0 M K) : zz_Met Z l yJ7_compareTo (zz_ws yJ7_compareTo cJ7_compareTo 2 (some .int) none) 8 [va_rf this, va_rf p0] M mc ms K (fun _ _ _ => False) := by
  refine zz_ofW hl (plainFor_of_name (by decide)) (by simp only [zz_sl0, zz_slI, zz_slJ, zz_slA] <;> decide) (fun G hZ hll C E hH hR hin => ?_)
  subst hZ
  subst hll
  rw [show lv_args 0 [va_rf this, va_rf p0] = [(0, va_rf this), (1, va_rf p0)] by simp only [zz_la0, zz_laI, zz_laJ, zz_laA]]
  unfold wp_J7_compareTo at hw
  refine zz_aload_n C dJ7_compareTo_0 rfl 0 rfl ?_
  refine zz_aload_n C dJ7_compareTo_1 rfl 1 rfl ?_
  refine zz_cast C dJ7_compareTo_2 q712 zc_21_va_lang_String hw (fun hw => ?_)
  obtain ⟨a9, t9, b9, fs9, hro, hL, rfl, hw⟩ := ztyS hw
  refine zz_callV (r := (zR_21, zT_21, 4)) (As := [va_rf p0]) (rest := []) (mc := 0) (ms := 0) C hR hro dJ7_compareTo_5 (Or.inl q1434) q1435 (Or.inl q1436) zl_java_lang_String zk_J7_compareTo_2 (Or.inl rfl) zy_J7_compareTo_2 rfl (by decide) (by decide) hL (ok_J7_compareTo_2 (zz_hl C) hw) (Nat.zero_le _) (Nat.zero_le _) (zz_cat10 _ (Nat.le_of_ble_eq_true rfl)) (fun r1 M2 hw => zz_kI hw (fun x5 hw => ?_)) (fun _ _ _ h9 => h9.elim) rfl
  exact zz_iret C E dJ7_compareTo_8 hw
abbrev cJ4_compareComparables : ByteArray := prog_63_method_3_code
def yJ4_compareComparables : MethodName := ⟨"java/util/HashMap", "compareComparables", "(Ljava/lang/Class;Ljava/lang/Object;Ljava/lang/Object;)I"⟩
def dkwJ4_compareComparables_1 : List UInt8 := [185, 0, 30, 2, 0, 172]
abbrev dktJ4_compareComparables_1 : List UInt8 := dkwJ4_compareComparables_1 ++ []
def dkwJ4_compareComparables_0 : List UInt8 := [44, 198, 0, 11, 44, 182, 0, 9, 42, 165, 0, 7, 3, 167, 0, 13, 43, 192, 0, 7, 44]
abbrev dktJ4_compareComparables_0 : List UInt8 := dkwJ4_compareComparables_0 ++ dktJ4_compareComparables_1
theorem dksJ4_compareComparables_0 : cJ4_compareComparables.data.toList.drop 0 = dktJ4_compareComparables_0 := by decide +kernel
theorem dksJ4_compareComparables_1 : cJ4_compareComparables.data.toList.drop 21 = dktJ4_compareComparables_1 := dk_seg dksJ4_compareComparables_0 21 rfl rfl
theorem dJ4_compareComparables_0 : decode cJ4_compareComparables 0 = .ok (.aload_n 2, 1) := dk_44 (dk_at dksJ4_compareComparables_0 0 rfl rfl)
theorem dJ4_compareComparables_1 : decode cJ4_compareComparables 1 = .ok (.ifnull 11, 3) := dk_198 0 11 (dk_at dksJ4_compareComparables_0 1 rfl rfl)
theorem dJ4_compareComparables_4 : decode cJ4_compareComparables 4 = .ok (.aload_n 2, 1) := dk_44 (dk_at dksJ4_compareComparables_0 4 rfl rfl)
theorem dJ4_compareComparables_5 : decode cJ4_compareComparables 5 = .ok (.invokevirtual 9, 3) := dk_182 0 9 (dk_at dksJ4_compareComparables_0 5 rfl rfl)
theorem dJ4_compareComparables_8 : decode cJ4_compareComparables 8 = .ok (.aload_n 0, 1) := dk_42 (dk_at dksJ4_compareComparables_0 8 rfl rfl)
theorem dJ4_compareComparables_9 : decode cJ4_compareComparables 9 = .ok (.if_acmp .eq 7, 3) := dk_165 0 7 (dk_at dksJ4_compareComparables_0 9 rfl rfl)
theorem dJ4_compareComparables_12 : decode cJ4_compareComparables 12 = .ok (.iconst 0, 1) := dk_3 (dk_at dksJ4_compareComparables_0 12 rfl rfl)
theorem dJ4_compareComparables_13 : decode cJ4_compareComparables 13 = .ok (.goto 13, 3) := dk_167 0 13 (dk_at dksJ4_compareComparables_0 13 rfl rfl)
theorem dJ4_compareComparables_16 : decode cJ4_compareComparables 16 = .ok (.aload_n 1, 1) := dk_43 (dk_at dksJ4_compareComparables_0 16 rfl rfl)
theorem dJ4_compareComparables_17 : decode cJ4_compareComparables 17 = .ok (.checkcast 7, 3) := dk_192 0 7 (dk_at dksJ4_compareComparables_0 17 rfl rfl)
theorem dJ4_compareComparables_20 : decode cJ4_compareComparables 20 = .ok (.aload_n 2, 1) := dk_44 (dk_at dksJ4_compareComparables_0 20 rfl rfl)
theorem dJ4_compareComparables_21 : decode cJ4_compareComparables 21 = .ok (.invokeinterface 30 2, 5) := by decide +kernel
theorem dJ4_compareComparables_26 : decode cJ4_compareComparables 26 = .ok (.ireturn, 1) := dk_172 (dk_at dksJ4_compareComparables_1 5 rfl rfl)
theorem q1433 : (Jvm.Cond.code ({ cls := "java/lang/String", name := "compareTo", desc := "(Ljava/lang/Object;)I" } : Jvm.MethodName) prog_46_method_162_code (2 : Nat) (Option.some Jvm.ClassFile.FieldType.int)) ∈ lw_all := lw_g (lw_at lw_m6 153 rfl) rfl
theorem zk_J7_compareTo : zz_cd yJ7_compareTo cJ7_compareTo 2 (some .int) none ∈ lw_all := q1433
theorem zy_J7_compareTo : zz_yok yJ7_compareTo 1 = true := by decide +kernel
theorem q1392 : (Jvm.Cond.methodLink "java/util/HashMap" (30 : Nat) ({ cls := "java/lang/Comparable", name := "compareTo", desc := "(Ljava/lang/Object;)I" } : Jvm.MethodName)) ∈ lw_all := lw_g (lw_at lw_m6 112 rfl) rfl
theorem q1431 : (Jvm.Cond.instanceMethod ({ cls := "java/lang/String", name := "compareTo", desc := "(Ljava/lang/Object;)I" } : Jvm.MethodName)) ∈ lw_all := lw_g (lw_at lw_m6 151 rfl) rfl
theorem q1429 : (Jvm.Cond.selects "java/lang/String" ({ cls := "java/lang/Comparable", name := "compareTo", desc := "(Ljava/lang/Object;)I" } : Jvm.MethodName) ({ cls := "java/lang/String", name := "compareTo", desc := "(Ljava/lang/Object;)I" } : Jvm.MethodName)) ∈ lw_all := lw_g (lw_at lw_m6 149 rfl) rfl
theorem zyo_java_lang_Comparable_compareTo__Ljava_lang_Object__I : zz_yok ⟨"java/lang/Comparable", "compareTo", "(Ljava/lang/Object;)I"⟩ 1 = true := by decide +kernel
def wp_J4_compareComparables_B26 (Z : zzG) (K : Option Value → zzM → Prop) (s0 : Int32) (M : zzM) : Prop := K (some (.int s0)) M
def wp_J4_compareComparables_B12 (Z : zzG) (K : Option Value → zzM → Prop) (M : zzM) : Prop := wp_J4_compareComparables_B26 Z K (0 : Int32) M
def wp_J4_compareComparables (Z : zzG) (p0 : Option Nat) (p1 : Option Nat) (p2 : Option Nat) (M : zzM) (K : Option Value → zzM → Prop) : Prop := if p2 = none then (wp_J4_compareComparables_B12 Z K M) else (ztyT Z M p2 fun t => t = 103 ∧ if (some (zz_ad Z 300)) = p0 then (zcast Z M p1 [20, 21, 30, 31, 32, 33] <| zty Z M p1 fun t => t = 21 ∧ wp_J7_compareTo Z p1 p2 M (fun r1 M2 => zrI r1 fun x5 => wp_J4_compareComparables_B26 Z K x5 M2)) else (wp_J4_compareComparables_B12 Z K M))
theorem ok_J4_compareComparables_B26 {G : zzX} (C : zz_C G cJ4_compareComparables "java/util/HashMap" 3) {K : Option Value → zzM → Prop} (E : zz_E G (some .int) K (fun _ _ _ => False)) (hH : zz_H G []) (hR : zz_Rm G 9) {s0 : Int32} {M : zzM} {bc bs : Nat} (hw : wp_J4_compareComparables_B26 (zz_Zof G) K s0 M) : zz_T G 3 M bc bs 26 [] [.int s0] := by
  unfold wp_J4_compareComparables_B26 at hw
  exact zz_iret C E dJ4_compareComparables_26 hw
theorem ok_J4_compareComparables_B12 {G : zzX} (C : zz_C G cJ4_compareComparables "java/util/HashMap" 3) {K : Option Value → zzM → Prop} (E : zz_E G (some .int) K (fun _ _ _ => False)) (hH : zz_H G []) (hR : zz_Rm G 9) {M : zzM} {bc bs : Nat} (hw : wp_J4_compareComparables_B12 (zz_Zof G) K M) : zz_T G 3 M bc bs 12 [] [] := by
  unfold wp_J4_compareComparables_B12 at hw
  refine zz_iconst (v := (0 : Int32)) C dJ4_compareComparables_12 (by decide) ?_
  refine zz_goto (tgt := 26) C dJ4_compareComparables_13 (by decide) ?_
  refine zz_subP [] rfl ?_
  exact ok_J4_compareComparables_B26 C E hH hR hw
theorem ok_J4_compareComparables {Z : zzG} {l : Launch} (hl : l.stackTraces = false) {p0 : Option Nat} {p1 : Option Nat} {p2 : Option Nat} {M : zzM} {mc ms : Nat} {K : Option Value → zzM → Prop} (hw : wp_J4_compareComparables Z p0 p1 p2 M K) : zz_Met Z l yJ4_compareComparables (zz_ws yJ4_compareComparables cJ4_compareComparables 3 (some .int) none) 9 [va_rf p0, va_rf p1, va_rf p2] M mc ms K (fun _ _ _ => False) := by
  refine zz_ofW hl (plainFor_of_name (by decide)) (by simp only [zz_sl0, zz_slI, zz_slJ, zz_slA] <;> decide) (fun G hZ hll C E hH hR hin => ?_)
  subst hZ
  subst hll
  rw [show lv_args 0 [va_rf p0, va_rf p1, va_rf p2] = [(0, va_rf p0), (1, va_rf p1), (2, va_rf p2)] by simp only [zz_la0, zz_laI, zz_laJ, zz_laA]]
  unfold wp_J4_compareComparables at hw
  refine zz_aload_n C dJ4_compareComparables_0 rfl 2 rfl ?_
  refine zz_ifnull (tgt := 12) C dJ4_compareComparables_1 (by decide) hw (fun hw => ?_) (fun hw => ?_)
  · refine zz_subP [] rfl ?_
    exact ok_J4_compareComparables_B12 C E hH hR hw
  · refine zz_aload_n C dJ4_compareComparables_4 rfl 2 rfl ?_
    obtain ⟨a9, t9, fs9, hro, hL, rfl, hw⟩ := ztyTS hw
    refine zz_getCA (j := 0) C hR (by decide) dJ4_compareComparables_5 hro hL rfl rfl q1386 q2931 q2930 q796 q835 (zz_cat10 _ (Nat.le_of_ble_eq_true rfl)) ?_
    refine zz_aload_n C dJ4_compareComparables_8 rfl 0 rfl ?_
    refine zz_acmp_eq (tgt := 16) C dJ4_compareComparables_9 (by decide) hw (fun hw => ?_) (fun hw => ?_)
    · refine zz_aload_n C dJ4_compareComparables_16 rfl 1 rfl ?_
      refine zz_cast C dJ4_compareComparables_17 q1385 zc_20_21_30_31_32_33_ang_Comparable hw (fun hw => ?_)
      refine zz_aload_n C dJ4_compareComparables_20 rfl 2 rfl ?_
      obtain ⟨a9, t9, b9, fs9, hro, hL, rfl, hw⟩ := ztyS hw
      refine zz_callF (r := (zR_21, zT_21, 4)) (x := ⟨"java/lang/Comparable", "compareTo", "(Ljava/lang/Object;)I"⟩) (As := [va_rf p2]) (rest := []) (mc := 0) (ms := 0) C hR hro dJ4_compareComparables_21 q1392 (by decide +kernel) q1431 q1429 zl_java_lang_String zk_J7_compareTo zyo_java_lang_Comparable_compareTo__Ljava_lang_Object__I rfl (by decide) (by decide) hL (ok_J7_compareTo (zz_hl C) hw) (Nat.zero_le _) (Nat.zero_le _) (zz_cat10 _ (Nat.le_of_ble_eq_true rfl)) (fun r1 M2 hw => zz_kI hw (fun x5 hw => ?_)) (fun _ _ _ h9 => h9.elim) rfl
      refine zz_subP [] rfl ?_
      exact ok_J4_compareComparables_B26 C E hH hR hw
    · refine zz_subP [] rfl ?_
      exact ok_J4_compareComparables_B12 C E hH hR hw
abbrev cJ29_find : ByteArray := prog_65_method_4_code
def yJ29_find : MethodName := ⟨"java/util/HashMap$TreeNode", "find", "(ILjava/lang/Object;Ljava/lang/Class;)Ljava/util/HashMap$TreeNode;"⟩
def dkwJ29_find_7 : List UInt8 := [58, 4, 25, 4, 199, 255, 92, 1, 176]
abbrev dktJ29_find_7 : List UInt8 := dkwJ29_find_7 ++ []
def dkwJ29_find_6 : List UInt8 := [58, 4, 167, 0, 24, 25, 9, 27, 44, 45, 182, 0, 63, 89, 58, 10, 198, 0, 6, 25, 10, 176, 25, 8]
abbrev dktJ29_find_6 : List UInt8 := dkwJ29_find_6 ++ dktJ29_find_7
def dkwJ29_find_5 : List UInt8 := [44, 25, 7, 184, 0, 59, 89, 54, 6, 153, 0, 20, 21, 6, 156, 0, 8, 25, 8, 167, 0, 5, 25, 9]
abbrev dktJ29_find_5 : List UInt8 := dkwJ29_find_5 ++ dktJ29_find_6
def dkwJ29_find_4 : List UInt8 := [199, 0, 10, 25, 8, 58, 4, 167, 0, 67, 45, 199, 0, 12, 44, 184, 0, 55, 89, 78, 198, 0, 33, 45]
abbrev dktJ29_find_4 : List UInt8 := dkwJ29_find_4 ++ dktJ29_find_5
def dkwJ29_find_3 : List UInt8 := [182, 0, 49, 153, 0, 6, 25, 4, 176, 25, 8, 199, 0, 10, 25, 9, 58, 4, 167, 0, 79, 25, 9]
abbrev dktJ29_find_3 : List UInt8 := dkwJ29_find_3 ++ dktJ29_find_4
def dkwJ29_find_2 : List UInt8 := [167, 0, 119, 25, 4, 180, 0, 45, 89, 58, 7, 44, 165, 0, 16, 44, 198, 0, 15, 44, 25, 7]
abbrev dktJ29_find_2 : List UInt8 := dkwJ29_find_2 ++ dktJ29_find_3
def dkwJ29_find_1 : List UInt8 := [54, 5, 27, 164, 0, 10, 25, 8, 58, 4, 167, 0, 132, 21, 5, 27, 162, 0, 10, 25, 9, 58, 4]
abbrev dktJ29_find_1 : List UInt8 := dkwJ29_find_1 ++ dktJ29_find_2
def dkwJ29_find_0 : List UInt8 := [42, 58, 4, 25, 4, 180, 0, 39, 58, 8, 25, 4, 180, 0, 42, 58, 9, 25, 4, 180, 0, 15, 89]
abbrev dktJ29_find_0 : List UInt8 := dkwJ29_find_0 ++ dktJ29_find_1
theorem dksJ29_find_0 : cJ29_find.data.toList.drop 0 = dktJ29_find_0 := by decide +kernel
theorem dksJ29_find_1 : cJ29_find.data.toList.drop 23 = dktJ29_find_1 := dk_seg dksJ29_find_0 23 rfl rfl
theorem dksJ29_find_2 : cJ29_find.data.toList.drop 46 = dktJ29_find_2 := dk_seg dksJ29_find_1 23 rfl rfl
theorem dksJ29_find_3 : cJ29_find.data.toList.drop 68 = dktJ29_find_3 := dk_seg dksJ29_find_2 22 rfl rfl
theorem dksJ29_find_4 : cJ29_find.data.toList.drop 91 = dktJ29_find_4 := dk_seg dksJ29_find_3 23 rfl rfl
theorem dksJ29_find_5 : cJ29_find.data.toList.drop 115 = dktJ29_find_5 := dk_seg dksJ29_find_4 24 rfl rfl
theorem dksJ29_find_6 : cJ29_find.data.toList.drop 139 = dktJ29_find_6 := dk_seg dksJ29_find_5 24 rfl rfl
theorem dksJ29_find_7 : cJ29_find.data.toList.drop 163 = dktJ29_find_7 := dk_seg dksJ29_find_6 24 rfl rfl
theorem dJ29_find_0 : decode cJ29_find 0 = .ok (.aload_n 0, 1) := dk_42 (dk_at dksJ29_find_0 0 rfl rfl)
theorem dJ29_find_1 : decode cJ29_find 1 = .ok (.astore 4, 2) := dk_58 4 (dk_at dksJ29_find_0 1 rfl rfl)
theorem dJ29_find_3 : decode cJ29_find 3 = .ok (.aload 4, 2) := dk_25 4 (dk_at dksJ29_find_0 3 rfl rfl)
theorem dJ29_find_5 : decode cJ29_find 5 = .ok (.getfield 39, 3) := dk_180 0 39 (dk_at dksJ29_find_0 5 rfl rfl)
theorem dJ29_find_8 : decode cJ29_find 8 = .ok (.astore 8, 2) := dk_58 8 (dk_at dksJ29_find_0 8 rfl rfl)
theorem dJ29_find_10 : decode cJ29_find 10 = .ok (.aload 4, 2) := dk_25 4 (dk_at dksJ29_find_0 10 rfl rfl)
theorem dJ29_find_12 : decode cJ29_find 12 = .ok (.getfield 42, 3) := dk_180 0 42 (dk_at dksJ29_find_0 12 rfl rfl)
theorem dJ29_find_15 : decode cJ29_find 15 = .ok (.astore 9, 2) := dk_58 9 (dk_at dksJ29_find_0 15 rfl rfl)
theorem dJ29_find_17 : decode cJ29_find 17 = .ok (.aload 4, 2) := dk_25 4 (dk_at dksJ29_find_0 17 rfl rfl)
theorem dJ29_find_19 : decode cJ29_find 19 = .ok (.getfield 15, 3) := dk_180 0 15 (dk_at dksJ29_find_0 19 rfl rfl)
theorem dJ29_find_22 : decode cJ29_find 22 = .ok (.dup, 1) := dk_89 (dk_at dksJ29_find_0 22 rfl rfl)
theorem dJ29_find_23 : decode cJ29_find 23 = .ok (.istore 5, 2) := dk_54 5 (dk_at dksJ29_find_1 0 rfl rfl)
theorem dJ29_find_25 : decode cJ29_find 25 = .ok (.iload_n 1, 1) := dk_27 (dk_at dksJ29_find_1 2 rfl rfl)
theorem dJ29_find_26 : decode cJ29_find 26 = .ok (.if_icmp .le 10, 3) := dk_164 0 10 (dk_at dksJ29_find_1 3 rfl rfl)
theorem dJ29_find_29 : decode cJ29_find 29 = .ok (.aload 8, 2) := dk_25 8 (dk_at dksJ29_find_1 6 rfl rfl)
theorem dJ29_find_31 : decode cJ29_find 31 = .ok (.astore 4, 2) := dk_58 4 (dk_at dksJ29_find_1 8 rfl rfl)
theorem dJ29_find_33 : decode cJ29_find 33 = .ok (.goto 132, 3) := dk_167 0 132 (dk_at dksJ29_find_1 10 rfl rfl)
theorem dJ29_find_36 : decode cJ29_find 36 = .ok (.iload 5, 2) := dk_21 5 (dk_at dksJ29_find_1 13 rfl rfl)
theorem dJ29_find_38 : decode cJ29_find 38 = .ok (.iload_n 1, 1) := dk_27 (dk_at dksJ29_find_1 15 rfl rfl)
theorem dJ29_find_39 : decode cJ29_find 39 = .ok (.if_icmp .ge 10, 3) := dk_162 0 10 (dk_at dksJ29_find_1 16 rfl rfl)
theorem dJ29_find_42 : decode cJ29_find 42 = .ok (.aload 9, 2) := dk_25 9 (dk_at dksJ29_find_1 19 rfl rfl)
theorem dJ29_find_44 : decode cJ29_find 44 = .ok (.astore 4, 2) := dk_58 4 (dk_at dksJ29_find_1 21 rfl rfl)
theorem dJ29_find_46 : decode cJ29_find 46 = .ok (.goto 119, 3) := dk_167 0 119 (dk_at dksJ29_find_2 0 rfl rfl)
theorem dJ29_find_49 : decode cJ29_find 49 = .ok (.aload 4, 2) := dk_25 4 (dk_at dksJ29_find_2 3 rfl rfl)
theorem dJ29_find_51 : decode cJ29_find 51 = .ok (.getfield 45, 3) := dk_180 0 45 (dk_at dksJ29_find_2 5 rfl rfl)
theorem dJ29_find_54 : decode cJ29_find 54 = .ok (.dup, 1) := dk_89 (dk_at dksJ29_find_2 8 rfl rfl)
theorem dJ29_find_55 : decode cJ29_find 55 = .ok (.astore 7, 2) := dk_58 7 (dk_at dksJ29_find_2 9 rfl rfl)
theorem dJ29_find_57 : decode cJ29_find 57 = .ok (.aload_n 2, 1) := dk_44 (dk_at dksJ29_find_2 11 rfl rfl)
theorem dJ29_find_58 : decode cJ29_find 58 = .ok (.if_acmp .eq 16, 3) := dk_165 0 16 (dk_at dksJ29_find_2 12 rfl rfl)
theorem dJ29_find_61 : decode cJ29_find 61 = .ok (.aload_n 2, 1) := dk_44 (dk_at dksJ29_find_2 15 rfl rfl)
theorem dJ29_find_62 : decode cJ29_find 62 = .ok (.ifnull 15, 3) := dk_198 0 15 (dk_at dksJ29_find_2 16 rfl rfl)
theorem dJ29_find_65 : decode cJ29_find 65 = .ok (.aload_n 2, 1) := dk_44 (dk_at dksJ29_find_2 19 rfl rfl)
theorem dJ29_find_66 : decode cJ29_find 66 = .ok (.aload 7, 2) := dk_25 7 (dk_at dksJ29_find_2 20 rfl rfl)
theorem dJ29_find_68 : decode cJ29_find 68 = .ok (.invokevirtual 49, 3) := dk_182 0 49 (dk_at dksJ29_find_3 0 rfl rfl)
theorem dJ29_find_71 : decode cJ29_find 71 = .ok (.ifCond .eq 6, 3) := dk_153 0 6 (dk_at dksJ29_find_3 3 rfl rfl)
theorem dJ29_find_74 : decode cJ29_find 74 = .ok (.aload 4, 2) := dk_25 4 (dk_at dksJ29_find_3 6 rfl rfl)
theorem dJ29_find_76 : decode cJ29_find 76 = .ok (.areturn, 1) := dk_176 (dk_at dksJ29_find_3 8 rfl rfl)
theorem dJ29_find_77 : decode cJ29_find 77 = .ok (.aload 8, 2) := dk_25 8 (dk_at dksJ29_find_3 9 rfl rfl)
theorem dJ29_find_79 : decode cJ29_find 79 = .ok (.ifnonnull 10, 3) := dk_199 0 10 (dk_at dksJ29_find_3 11 rfl rfl)
theorem dJ29_find_82 : decode cJ29_find 82 = .ok (.aload 9, 2) := dk_25 9 (dk_at dksJ29_find_3 14 rfl rfl)
theorem dJ29_find_84 : decode cJ29_find 84 = .ok (.astore 4, 2) := dk_58 4 (dk_at dksJ29_find_3 16 rfl rfl)
theorem dJ29_find_86 : decode cJ29_find 86 = .ok (.goto 79, 3) := dk_167 0 79 (dk_at dksJ29_find_3 18 rfl rfl)
theorem dJ29_find_89 : decode cJ29_find 89 = .ok (.aload 9, 2) := dk_25 9 (dk_at dksJ29_find_3 21 rfl rfl)
theorem dJ29_find_91 : decode cJ29_find 91 = .ok (.ifnonnull 10, 3) := dk_199 0 10 (dk_at dksJ29_find_4 0 rfl rfl)
theorem dJ29_find_94 : decode cJ29_find 94 = .ok (.aload 8, 2) := dk_25 8 (dk_at dksJ29_find_4 3 rfl rfl)
theorem dJ29_find_96 : decode cJ29_find 96 = .ok (.astore 4, 2) := dk_58 4 (dk_at dksJ29_find_4 5 rfl rfl)
theorem dJ29_find_98 : decode cJ29_find 98 = .ok (.goto 67, 3) := dk_167 0 67 (dk_at dksJ29_find_4 7 rfl rfl)
theorem dJ29_find_101 : decode cJ29_find 101 = .ok (.aload_n 3, 1) := dk_45 (dk_at dksJ29_find_4 10 rfl rfl)
theorem dJ29_find_102 : decode cJ29_find 102 = .ok (.ifnonnull 12, 3) := dk_199 0 12 (dk_at dksJ29_find_4 11 rfl rfl)
theorem dJ29_find_105 : decode cJ29_find 105 = .ok (.aload_n 2, 1) := dk_44 (dk_at dksJ29_find_4 14 rfl rfl)
theorem dJ29_find_106 : decode cJ29_find 106 = .ok (.invokestatic 55, 3) := dk_184 0 55 (dk_at dksJ29_find_4 15 rfl rfl)
theorem dJ29_find_109 : decode cJ29_find 109 = .ok (.dup, 1) := dk_89 (dk_at dksJ29_find_4 18 rfl rfl)
theorem dJ29_find_110 : decode cJ29_find 110 = .ok (.astore_n 3, 1) := dk_78 (dk_at dksJ29_find_4 19 rfl rfl)
theorem dJ29_find_111 : decode cJ29_find 111 = .ok (.ifnull 33, 3) := dk_198 0 33 (dk_at dksJ29_find_4 20 rfl rfl)
theorem dJ29_find_114 : decode cJ29_find 114 = .ok (.aload_n 3, 1) := dk_45 (dk_at dksJ29_find_4 23 rfl rfl)
theorem dJ29_find_115 : decode cJ29_find 115 = .ok (.aload_n 2, 1) := dk_44 (dk_at dksJ29_find_5 0 rfl rfl)
theorem dJ29_find_116 : decode cJ29_find 116 = .ok (.aload 7, 2) := dk_25 7 (dk_at dksJ29_find_5 1 rfl rfl)
theorem dJ29_find_118 : decode cJ29_find 118 = .ok (.invokestatic 59, 3) := dk_184 0 59 (dk_at dksJ29_find_5 3 rfl rfl)
theorem dJ29_find_121 : decode cJ29_find 121 = .ok (.dup, 1) := dk_89 (dk_at dksJ29_find_5 6 rfl rfl)
theorem dJ29_find_122 : decode cJ29_find 122 = .ok (.istore 6, 2) := dk_54 6 (dk_at dksJ29_find_5 7 rfl rfl)
theorem dJ29_find_124 : decode cJ29_find 124 = .ok (.ifCond .eq 20, 3) := dk_153 0 20 (dk_at dksJ29_find_5 9 rfl rfl)
theorem dJ29_find_127 : decode cJ29_find 127 = .ok (.iload 6, 2) := dk_21 6 (dk_at dksJ29_find_5 12 rfl rfl)
theorem dJ29_find_129 : decode cJ29_find 129 = .ok (.ifCond .ge 8, 3) := dk_156 0 8 (dk_at dksJ29_find_5 14 rfl rfl)
theorem dJ29_find_132 : decode cJ29_find 132 = .ok (.aload 8, 2) := dk_25 8 (dk_at dksJ29_find_5 17 rfl rfl)
theorem dJ29_find_134 : decode cJ29_find 134 = .ok (.goto 5, 3) := dk_167 0 5 (dk_at dksJ29_find_5 19 rfl rfl)
theorem dJ29_find_137 : decode cJ29_find 137 = .ok (.aload 9, 2) := dk_25 9 (dk_at dksJ29_find_5 22 rfl rfl)
theorem dJ29_find_139 : decode cJ29_find 139 = .ok (.astore 4, 2) := dk_58 4 (dk_at dksJ29_find_6 0 rfl rfl)
theorem dJ29_find_141 : decode cJ29_find 141 = .ok (.goto 24, 3) := dk_167 0 24 (dk_at dksJ29_find_6 2 rfl rfl)
theorem dJ29_find_144 : decode cJ29_find 144 = .ok (.aload 9, 2) := dk_25 9 (dk_at dksJ29_find_6 5 rfl rfl)
theorem dJ29_find_146 : decode cJ29_find 146 = .ok (.iload_n 1, 1) := dk_27 (dk_at dksJ29_find_6 7 rfl rfl)
theorem dJ29_find_147 : decode cJ29_find 147 = .ok (.aload_n 2, 1) := dk_44 (dk_at dksJ29_find_6 8 rfl rfl)
theorem dJ29_find_148 : decode cJ29_find 148 = .ok (.aload_n 3, 1) := dk_45 (dk_at dksJ29_find_6 9 rfl rfl)
theorem dJ29_find_149 : decode cJ29_find 149 = .ok (.invokevirtual 63, 3) := dk_182 0 63 (dk_at dksJ29_find_6 10 rfl rfl)
theorem dJ29_find_152 : decode cJ29_find 152 = .ok (.dup, 1) := dk_89 (dk_at dksJ29_find_6 13 rfl rfl)
theorem dJ29_find_153 : decode cJ29_find 153 = .ok (.astore 10, 2) := dk_58 10 (dk_at dksJ29_find_6 14 rfl rfl)
theorem dJ29_find_155 : decode cJ29_find 155 = .ok (.ifnull 6, 3) := dk_198 0 6 (dk_at dksJ29_find_6 16 rfl rfl)
theorem dJ29_find_158 : decode cJ29_find 158 = .ok (.aload 10, 2) := dk_25 10 (dk_at dksJ29_find_6 19 rfl rfl)
theorem dJ29_find_160 : decode cJ29_find 160 = .ok (.areturn, 1) := dk_176 (dk_at dksJ29_find_6 21 rfl rfl)
theorem dJ29_find_161 : decode cJ29_find 161 = .ok (.aload 8, 2) := dk_25 8 (dk_at dksJ29_find_6 22 rfl rfl)
theorem dJ29_find_163 : decode cJ29_find 163 = .ok (.astore 4, 2) := dk_58 4 (dk_at dksJ29_find_7 0 rfl rfl)
theorem dJ29_find_165 : decode cJ29_find 165 = .ok (.aload 4, 2) := dk_25 4 (dk_at dksJ29_find_7 2 rfl rfl)
theorem dJ29_find_167 : decode cJ29_find 167 = .ok (.ifnonnull (-164), 3) := dk_199 255 92 (dk_at dksJ29_find_7 4 rfl rfl)
theorem dJ29_find_170 : decode cJ29_find 170 = .ok (.aconst_null, 1) := dk_1 (dk_at dksJ29_find_7 7 rfl rfl)
theorem dJ29_find_171 : decode cJ29_find 171 = .ok (.areturn, 1) := dk_176 (dk_at dksJ29_find_7 8 rfl rfl)
theorem q1359 : (Jvm.Cond.sameField "java/util/HashMap$TreeNode" "java/util/HashMap$Node" "key" "Ljava/lang/Object;") ∈ lw_all := lw_g (lw_at lw_m6 79 rfl) rfl
theorem zf_25_1_shMap_TreeNode : zz_fok [25] 1 "java/util/HashMap$TreeNode" "key" "Ljava/lang/Object;" := zz_fok1 (zR_25, zT_25, 11) rfl (by decide) rfl rfl (Or.inr q1359)
theorem q1358 : (Jvm.Cond.fieldLink "java/util/HashMap$TreeNode" (45 : Nat) "java/util/HashMap$TreeNode" "key" "Ljava/lang/Object;") ∈ lw_all := lw_g (lw_at lw_m6 78 rfl) rfl
theorem q1668 : (Jvm.Cond.methodLink "java/util/HashMap$TreeNode" (49 : Nat) ({ cls := "java/lang/Object", name := "equals", desc := "(Ljava/lang/Object;)Z" } : Jvm.MethodName)) ∈ lw_all := lw_g (lw_at lw_m7 148 rfl) rfl
theorem q1622 : (Jvm.Cond.declares ({ cls := "java/lang/Object", name := "equals", desc := "(Ljava/lang/Object;)Z" } : Jvm.MethodName)) ∈ lw_tbl := lw_at lw_m7 102 rfl
theorem q1625 : (Jvm.Cond.sameMethod "java/lang/Object" "java/lang/Object" "equals" "(Ljava/lang/Object;)Z") ∈ lw_all := lw_g (lw_at lw_m7 105 rfl) rfl
theorem q1654 : (Jvm.Cond.selects "java/lang/String" ({ cls := "java/lang/Object", name := "equals", desc := "(Ljava/lang/Object;)Z" } : Jvm.MethodName) ({ cls := "java/lang/String", name := "equals", desc := "(Ljava/lang/Object;)Z" } : Jvm.MethodName)) ∈ lw_all := lw_g (lw_at lw_m7 134 rfl) rfl
theorem zyo_java_lang_Object_equals__Ljava_lang_Object__Z : zz_yok ⟨"java/lang/Object", "equals", "(Ljava/lang/Object;)Z"⟩ 1 = true := by decide +kernel
theorem q1384 : (Jvm.Cond.code ({ cls := "java/util/HashMap", name := "comparableClassFor", desc := "(Ljava/lang/Object;)Ljava/lang/Class;" } : Jvm.MethodName) prog_63_method_2_code (9 : Nat) (Option.some (Jvm.ClassFile.FieldType.object "java/lang/Class"))) ∈ lw_all := lw_g (lw_at lw_m6 104 rfl) rfl
theorem zk_J4_comparableClassFor : zz_cd yJ4_comparableClassFor cJ4_comparableClassFor 9 (some (.object "java/lang/Class")) none ∈ lw_all := q1384
theorem zy_J4_comparableClassFor : zz_yok yJ4_comparableClassFor 1 = true := by decide +kernel
theorem q1382 : (Jvm.Cond.methodLink "java/util/HashMap$TreeNode" (55 : Nat) ({ cls := "java/util/HashMap", name := "comparableClassFor", desc := "(Ljava/lang/Object;)Ljava/lang/Class;" } : Jvm.MethodName)) ∈ lw_all := lw_g (lw_at lw_m6 102 rfl) rfl
theorem q1383 : (Jvm.Cond.static ({ cls := "java/util/HashMap", name := "comparableClassFor", desc := "(Ljava/lang/Object;)Ljava/lang/Class;" } : Jvm.MethodName)) ∈ lw_all := lw_g (lw_at lw_m6 103 rfl) rfl
theorem q1672 : (Jvm.Cond.code ({ cls := "java/util/HashMap$TreeNode", name := "find", desc := "(ILjava/lang/Object;Ljava/lang/Class;)Ljava/util/HashMap$TreeNode;" } : Jvm.MethodName) prog_65_method_4_code (11 : Nat) (Option.some (Jvm.ClassFile.FieldType.object "java/util/HashMap$TreeNode"))) ∈ lw_all := lw_g (lw_at lw_m7 152 rfl) rfl
theorem zk_J29_find : zz_cd yJ29_find cJ29_find 11 (some (.object "java/util/HashMap$TreeNode")) none ∈ lw_all := q1672
theorem zy_J29_find : zz_yok yJ29_find 3 = true := by decide +kernel
theorem q1669 : (Jvm.Cond.methodLink "java/util/HashMap$TreeNode" (63 : Nat) ({ cls := "java/util/HashMap$TreeNode", name := "find", desc := "(ILjava/lang/Object;Ljava/lang/Class;)Ljava/util/HashMap$TreeNode;" } : Jvm.MethodName)) ∈ lw_all := lw_g (lw_at lw_m7 149 rfl) rfl
theorem q1670 : (Jvm.Cond.instanceMethod ({ cls := "java/util/HashMap$TreeNode", name := "find", desc := "(ILjava/lang/Object;Ljava/lang/Class;)Ljava/util/HashMap$TreeNode;" } : Jvm.MethodName)) ∈ lw_all := lw_g (lw_at lw_m7 150 rfl) rfl
theorem q1671 : (Jvm.Cond.selects "java/util/HashMap$TreeNode" ({ cls := "java/util/HashMap$TreeNode", name := "find", desc := "(ILjava/lang/Object;Ljava/lang/Class;)Ljava/util/HashMap$TreeNode;" } : Jvm.MethodName) ({ cls := "java/util/HashMap$TreeNode", name := "find", desc := "(ILjava/lang/Object;Ljava/lang/Class;)Ljava/util/HashMap$TreeNode;" } : Jvm.MethodName)) ∈ lw_all := lw_g (lw_at lw_m7 151 rfl) rfl
theorem q1390 : (Jvm.Cond.code ({ cls := "java/util/HashMap", name := "compareComparables", desc := "(Ljava/lang/Class;Ljava/lang/Object;Ljava/lang/Object;)I" } : Jvm.MethodName) prog_63_method_3_code (3 : Nat) (Option.some Jvm.ClassFile.FieldType.int)) ∈ lw_all := lw_g (lw_at lw_m6 110 rfl) rfl
theorem zk_J4_compareComparables : zz_cd yJ4_compareComparables cJ4_compareComparables 3 (some .int) none ∈ lw_all := q1390
theorem zy_J4_compareComparables : zz_yok yJ4_compareComparables 3 = true := by decide +kernel
theorem q1388 : (Jvm.Cond.methodLink "java/util/HashMap$TreeNode" (59 : Nat) ({ cls := "java/util/HashMap", name := "compareComparables", desc := "(Ljava/lang/Class;Ljava/lang/Object;Ljava/lang/Object;)I" } : Jvm.MethodName)) ∈ lw_all := lw_g (lw_at lw_m6 108 rfl) rfl
theorem q1389 : (Jvm.Cond.static ({ cls := "java/util/HashMap", name := "compareComparables", desc := "(Ljava/lang/Class;Ljava/lang/Object;Ljava/lang/Object;)I" } : Jvm.MethodName)) ∈ lw_all := lw_g (lw_at lw_m6 109 rfl) rfl
def wp_J29_find_B74 (Z : zzG) (r_J29_find : Option Nat → Int32 → Option Nat → Option Nat → zzM → (Option Value → zzM → Prop) → Prop) (K : Option Value → zzM → Prop) (v4 : Option Nat) (M : zzM) : Prop := K (some (va_rf v4)) M
def wp_J29_find_B165 (Z : zzG) (r_J29_find : Option Nat → Int32 → Option Nat → Option Nat → zzM → (Option Value → zzM → Prop) → Prop) (k3 : Int32 → Option Nat → Option Nat → Option Nat → zzM → Prop) (K : Option Value → zzM → Prop) (v1 : Int32) (v2 : Option Nat) (v3 : Option Nat) (v4 : Option Nat) (M : zzM) : Prop := if v4 = none then (K (some (va_rf none)) M) else (k3 v1 v2 v3 v4 M)
def wp_J29_find_B139 (Z : zzG) (r_J29_find : Option Nat → Int32 → Option Nat → Option Nat → zzM → (Option Value → zzM → Prop) → Prop) (k3 : Int32 → Option Nat → Option Nat → Option Nat → zzM → Prop) (K : Option Value → zzM → Prop) (v1 : Int32) (v2 : Option Nat) (v3 : Option Nat) (s0 : Option Nat) (M : zzM) : Prop := wp_J29_find_B165 Z r_J29_find k3 K v1 v2 v3 s0 M
def wp_J29_find_B144 (Z : zzG) (r_J29_find : Option Nat → Int32 → Option Nat → Option Nat → zzM → (Option Value → zzM → Prop) → Prop) (k3 : Int32 → Option Nat → Option Nat → Option Nat → zzM → Prop) (K : Option Value → zzM → Prop) (v1 : Int32) (v2 : Option Nat) (v3 : Option Nat) (v8 : Option Nat) (v9 : Option Nat) (M : zzM) : Prop := zty Z M v9 fun t => t = 25 ∧ r_J29_find v9 v1 v2 v3 M (fun r15 M16 => zrA r15 fun x19 => if x19 = none then (wp_J29_find_B165 Z r_J29_find k3 K v1 v2 v3 v8 M16) else (K (some (va_rf x19)) M16))
def wp_J29_find_B114 (Z : zzG) (r_J29_find : Option Nat → Int32 → Option Nat → Option Nat → zzM → (Option Value → zzM → Prop) → Prop) (k3 : Int32 → Option Nat → Option Nat → Option Nat → zzM → Prop) (K : Option Value → zzM → Prop) (v1 : Int32) (v2 : Option Nat) (v3 : Option Nat) (v7 : Option Nat) (v8 : Option Nat) (v9 : Option Nat) (M : zzM) : Prop := wp_J4_compareComparables Z v3 v2 v7 M (fun r20 M21 => zrI r20 fun x24 => if x24 = 0 then (wp_J29_find_B144 Z r_J29_find k3 K v1 v2 v3 v8 v9 M21) else (if 0 ≤ x24 then (wp_J29_find_B139 Z r_J29_find k3 K v1 v2 v3 v9 M21) else (wp_J29_find_B139 Z r_J29_find k3 K v1 v2 v3 v8 M21)))
def wp_J29_find_B77 (Z : zzG) (r_J29_find : Option Nat → Int32 → Option Nat → Option Nat → zzM → (Option Value → zzM → Prop) → Prop) (k3 : Int32 → Option Nat → Option Nat → Option Nat → zzM → Prop) (K : Option Value → zzM → Prop) (v1 : Int32) (v2 : Option Nat) (v3 : Option Nat) (v7 : Option Nat) (v8 : Option Nat) (v9 : Option Nat) (M : zzM) : Prop := if v8 = none then (wp_J29_find_B165 Z r_J29_find k3 K v1 v2 v3 v9 M) else (if v9 = none then (wp_J29_find_B165 Z r_J29_find k3 K v1 v2 v3 v8 M) else (if v3 = none then (wp_J4_comparableClassFor Z v2 M (fun r10 M11 => zrA r10 fun x14 => if x14 = none then (wp_J29_find_B144 Z r_J29_find k3 K v1 v2 x14 v8 v9 M11) else (wp_J29_find_B114 Z r_J29_find k3 K v1 v2 x14 v7 v8 v9 M11))) else (wp_J29_find_B114 Z r_J29_find k3 K v1 v2 v3 v7 v8 v9 M)))
def wp_J29_find_L3 (Z : zzG) (r_J29_find : Option Nat → Int32 → Option Nat → Option Nat → zzM → (Option Value → zzM → Prop) → Prop) (K : Option Value → zzM → Prop) : Nat → Int32 → Option Nat → Option Nat → Option Nat → zzM → Prop
  | 0, _, _, _, _, _ => False
  | n + 1, v1, v2, v3, v4, M => zgA Z M v4 [25] 5 fun x1 => zgA Z M v4 [25] 6 fun x2 => zgI Z M v4 [25] 0 fun x3 => if x3 ≤ v1 then (if v1 ≤ x3 then (zgA Z M v4 [25] 1 fun x4 => if x4 = v2 then (wp_J29_find_B74 Z r_J29_find K v4 M) else (if v2 = none then (wp_J29_find_B77 Z r_J29_find (wp_J29_find_L3 Z r_J29_find K n) K v1 v2 v3 x4 x1 x2 M) else (zty Z M v2 fun t => t = 21 ∧ wp_J7_equals Z v2 x4 M (fun r5 M6 => zrI r5 fun x9 => if x9 = 0 then (wp_J29_find_B77 Z r_J29_find (wp_J29_find_L3 Z r_J29_find K n) K v1 v2 v3 x4 x1 x2 M6) else (wp_J29_find_B74 Z r_J29_find K v4 M6))))) else (wp_J29_find_B165 Z r_J29_find (wp_J29_find_L3 Z r_J29_find K n) K v1 v2 v3 x2 M)) else (wp_J29_find_B165 Z r_J29_find (wp_J29_find_L3 Z r_J29_find K n) K v1 v2 v3 x1 M)
def wpb_J29_find (Z : zzG) (r_J29_find : Option Nat → Int32 → Option Nat → Option Nat → zzM → (Option Value → zzM → Prop) → Prop) (this : Option Nat) (p0 : Int32) (p1 : Option Nat) (p2 : Option Nat) (M : zzM) (K : Option Value → zzM → Prop) : Prop := ∃ n3 : Nat, wp_J29_find_L3 Z r_J29_find K n3 p0 p1 p2 this M
theorem ok_J29_find_B74 {G : zzX} (C : zz_C G cJ29_find "java/util/HashMap$TreeNode" 11) {K : Option Value → zzM → Prop} (E : zz_E G (some (.object "java/util/HashMap$TreeNode")) K (fun _ _ _ => False)) (hH : zz_H G []) {fr frr : Nat} (hR : zz_Rm G fr) (hF : 10 ≤ fr) (hfrr : frr + 1 ≤ fr) {r_J29_find : Option Nat → Int32 → Option Nat → Option Nat → zzM → (Option Value → zzM → Prop) → Prop} (h_J29_find : ∀ {u0 : Option Nat}{u1 : Int32}{u2 : Option Nat}{u3 : Option Nat}{M : zzM} {mc ms : Nat} {K : Option Value → zzM → Prop}, r_J29_find u0 u1 u2 u3 M K → zz_Met (zz_Zof G) (zz_l G) yJ29_find (zz_ws yJ29_find cJ29_find 11 (some (.object "java/util/HashMap$TreeNode")) none) frr [va_rf u0, .int u1, va_rf u2, va_rf u3] M mc ms K (fun _ _ _ => False)) {v4 : Option Nat} {M : zzM} {bc bs : Nat} (hw : wp_J29_find_B74 (zz_Zof G) r_J29_find K v4 M) : zz_T G 11 M bc bs 74 [(4, va_rf v4)] [] := by
  unfold wp_J29_find_B74 at hw
  refine zz_aload C dJ29_find_74 0 rfl ?_
  exact zz_aret C E (Or.inl ⟨_, rfl⟩) dJ29_find_76 hw
theorem ok_J29_find_B165 {G : zzX} (C : zz_C G cJ29_find "java/util/HashMap$TreeNode" 11) {K : Option Value → zzM → Prop} (E : zz_E G (some (.object "java/util/HashMap$TreeNode")) K (fun _ _ _ => False)) (hH : zz_H G []) {fr frr : Nat} (hR : zz_Rm G fr) (hF : 10 ≤ fr) (hfrr : frr + 1 ≤ fr) {r_J29_find : Option Nat → Int32 → Option Nat → Option Nat → zzM → (Option Value → zzM → Prop) → Prop} (h_J29_find : ∀ {u0 : Option Nat}{u1 : Int32}{u2 : Option Nat}{u3 : Option Nat}{M : zzM} {mc ms : Nat} {K : Option Value → zzM → Prop}, r_J29_find u0 u1 u2 u3 M K → zz_Met (zz_Zof G) (zz_l G) yJ29_find (zz_ws yJ29_find cJ29_find 11 (some (.object "java/util/HashMap$TreeNode")) none) frr [va_rf u0, .int u1, va_rf u2, va_rf u3] M mc ms K (fun _ _ _ => False)) {k3 : Int32 → Option Nat → Option Nat → Option Nat → zzM → Prop} (hk3 : ∀ (z0 : Int32) (z1 : Option Nat) (z2 : Option Nat) (z3 : Option Nat) (M : zzM) (bc bs : Nat), k3 z0 z1 z2 z3 M → zz_T G 11 M bc bs 3 [(1, .int z0), (2, va_rf z1), (3, va_rf z2), (4, va_rf z3)] []) {v1 : Int32} {v2 : Option Nat} {v3 : Option Nat} {v4 : Option Nat} {M : zzM} {bc bs : Nat} (hw : wp_J29_find_B165 (zz_Zof G) r_J29_find k3 K v1 v2 v3 v4 M) : zz_T G 11 M bc bs 165 [(1, .int v1), (2, va_rf v2), (3, va_rf v3), (4, va_rf v4)] [] := by
  unfold wp_J29_find_B165 at hw
  refine zz_aload C dJ29_find_165 3 rfl ?_
  refine zz_ifnonnull (tgt := 3) C dJ29_find_167 (by decide) hw (fun hw => ?_) (fun hw => ?_)
  · refine zz_subP [0, 1, 2, 3] rfl ?_
    exact hk3 _ _ _ _ _ _ _ hw
  · refine zz_null C dJ29_find_170 ?_
    exact zz_aret C E (Or.inl ⟨_, rfl⟩) dJ29_find_171 hw
theorem ok_J29_find_B139 {G : zzX} (C : zz_C G cJ29_find "java/util/HashMap$TreeNode" 11) {K : Option Value → zzM → Prop} (E : zz_E G (some (.object "java/util/HashMap$TreeNode")) K (fun _ _ _ => False)) (hH : zz_H G []) {fr frr : Nat} (hR : zz_Rm G fr) (hF : 10 ≤ fr) (hfrr : frr + 1 ≤ fr) {r_J29_find : Option Nat → Int32 → Option Nat → Option Nat → zzM → (Option Value → zzM → Prop) → Prop} (h_J29_find : ∀ {u0 : Option Nat}{u1 : Int32}{u2 : Option Nat}{u3 : Option Nat}{M : zzM} {mc ms : Nat} {K : Option Value → zzM → Prop}, r_J29_find u0 u1 u2 u3 M K → zz_Met (zz_Zof G) (zz_l G) yJ29_find (zz_ws yJ29_find cJ29_find 11 (some (.object "java/util/HashMap$TreeNode")) none) frr [va_rf u0, .int u1, va_rf u2, va_rf u3] M mc ms K (fun _ _ _ => False)) {k3 : Int32 → Option Nat → Option Nat → Option Nat → zzM → Prop} (hk3 : ∀ (z0 : Int32) (z1 : Option Nat) (z2 : Option Nat) (z3 : Option Nat) (M : zzM) (bc bs : Nat), k3 z0 z1 z2 z3 M → zz_T G 11 M bc bs 3 [(1, .int z0), (2, va_rf z1), (3, va_rf z2), (4, va_rf z3)] []) {v1 : Int32} {v2 : Option Nat} {v3 : Option Nat} {s0 : Option Nat} {M : zzM} {bc bs : Nat} (hw : wp_J29_find_B139 (zz_Zof G) r_J29_find k3 K v1 v2 v3 s0 M) : zz_T G 11 M bc bs 139 [(1, .int v1), (2, va_rf v2), (3, va_rf v3)] [va_rf s0] := by
  unfold wp_J29_find_B139 at hw
  refine zz_astore (lv' := [(4, va_rf s0), (1, .int v1), (2, va_rf v2), (3, va_rf v3)]) C dJ29_find_139 (by decide) (by simp [zz_cat, zz_catI, zz_catJ, zz_catD]) ?_
  refine zz_goto (tgt := 165) C dJ29_find_141 (by decide) ?_
  refine zz_subP [1, 2, 3, 0] rfl ?_
  exact ok_J29_find_B165 C E hH hR hF hfrr h_J29_find hk3 hw
theorem ok_J29_find_B144 {G : zzX} (C : zz_C G cJ29_find "java/util/HashMap$TreeNode" 11) {K : Option Value → zzM → Prop} (E : zz_E G (some (.object "java/util/HashMap$TreeNode")) K (fun _ _ _ => False)) (hH : zz_H G []) {fr frr : Nat} (hR : zz_Rm G fr) (hF : 10 ≤ fr) (hfrr : frr + 1 ≤ fr) {r_J29_find : Option Nat → Int32 → Option Nat → Option Nat → zzM → (Option Value → zzM → Prop) → Prop} (h_J29_find : ∀ {u0 : Option Nat}{u1 : Int32}{u2 : Option Nat}{u3 : Option Nat}{M : zzM} {mc ms : Nat} {K : Option Value → zzM → Prop}, r_J29_find u0 u1 u2 u3 M K → zz_Met (zz_Zof G) (zz_l G) yJ29_find (zz_ws yJ29_find cJ29_find 11 (some (.object "java/util/HashMap$TreeNode")) none) frr [va_rf u0, .int u1, va_rf u2, va_rf u3] M mc ms K (fun _ _ _ => False)) {k3 : Int32 → Option Nat → Option Nat → Option Nat → zzM → Prop} (hk3 : ∀ (z0 : Int32) (z1 : Option Nat) (z2 : Option Nat) (z3 : Option Nat) (M : zzM) (bc bs : Nat), k3 z0 z1 z2 z3 M → zz_T G 11 M bc bs 3 [(1, .int z0), (2, va_rf z1), (3, va_rf z2), (4, va_rf z3)] []) {v1 : Int32} {v2 : Option Nat} {v3 : Option Nat} {v8 : Option Nat} {v9 : Option Nat} {M : zzM} {bc bs : Nat} (hw : wp_J29_find_B144 (zz_Zof G) r_J29_find k3 K v1 v2 v3 v8 v9 M) : zz_T G 11 M bc bs 144 [(1, .int v1), (2, va_rf v2), (3, va_rf v3), (8, va_rf v8), (9, va_rf v9)] [] := by
  unfold wp_J29_find_B144 at hw
  refine zz_aload C dJ29_find_144 4 rfl ?_
  refine zz_iload_n C dJ29_find_146 rfl 0 rfl ?_
  refine zz_aload_n C dJ29_find_147 rfl 1 rfl ?_
  refine zz_aload_n C dJ29_find_148 rfl 2 rfl ?_
  obtain ⟨a9, t9, b9, fs9, hro, hL, rfl, hw⟩ := ztyS hw
  refine zz_callV (r := (zR_25, zT_25, 11)) (As := [.int v1, va_rf v2, va_rf v3]) (rest := []) (mc := 0) (ms := 0) C hR hro dJ29_find_149 (Or.inl q1669) q1670 (Or.inl q1671) zl_java_util_HashMap_TreeNode zk_J29_find (Or.inl rfl) zy_J29_find rfl hfrr (by decide) hL (h_J29_find hw) (Nat.zero_le _) (Nat.zero_le _) (zz_cat10 _ (Nat.le_of_ble_eq_true rfl)) (fun r15 M16 hw => zz_kA hw (fun x19 hw => ?_)) (fun _ _ _ h9 => h9.elim) rfl
  refine zz_dup C dJ29_find_152 (zz_cat _) ?_
  refine zz_astore (lv' := [(10, va_rf x19), (1, .int v1), (2, va_rf v2), (3, va_rf v3), (8, va_rf v8), (9, va_rf v9)]) C dJ29_find_153 (by decide) (by simp [zz_cat, zz_catI, zz_catJ, zz_catD]) ?_
  refine zz_ifnull (tgt := 161) C dJ29_find_155 (by decide) hw (fun hw => ?_) (fun hw => ?_)
  · refine zz_aload C dJ29_find_161 4 rfl ?_
    refine zz_astore (lv' := [(4, va_rf v8), (10, va_rf x19), (1, .int v1), (2, va_rf v2), (3, va_rf v3), (8, va_rf v8), (9, va_rf v9)]) C dJ29_find_163 (by decide) (by simp [zz_cat, zz_catI, zz_catJ, zz_catD]) ?_
    refine zz_subP [2, 3, 4, 0] rfl ?_
    exact ok_J29_find_B165 C E hH hR hF hfrr h_J29_find hk3 hw
  · refine zz_aload C dJ29_find_158 0 rfl ?_
    exact zz_aret C E (Or.inl ⟨_, rfl⟩) dJ29_find_160 hw
theorem ok_J29_find_B114 {G : zzX} (C : zz_C G cJ29_find "java/util/HashMap$TreeNode" 11) {K : Option Value → zzM → Prop} (E : zz_E G (some (.object "java/util/HashMap$TreeNode")) K (fun _ _ _ => False)) (hH : zz_H G []) {fr frr : Nat} (hR : zz_Rm G fr) (hF : 10 ≤ fr) (hfrr : frr + 1 ≤ fr) {r_J29_find : Option Nat → Int32 → Option Nat → Option Nat → zzM → (Option Value → zzM → Prop) → Prop} (h_J29_find : ∀ {u0 : Option Nat}{u1 : Int32}{u2 : Option Nat}{u3 : Option Nat}{M : zzM} {mc ms : Nat} {K : Option Value → zzM → Prop}, r_J29_find u0 u1 u2 u3 M K → zz_Met (zz_Zof G) (zz_l G) yJ29_find (zz_ws yJ29_find cJ29_find 11 (some (.object "java/util/HashMap$TreeNode")) none) frr [va_rf u0, .int u1, va_rf u2, va_rf u3] M mc ms K (fun _ _ _ => False)) {k3 : Int32 → Option Nat → Option Nat → Option Nat → zzM → Prop} (hk3 : ∀ (z0 : Int32) (z1 : Option Nat) (z2 : Option Nat) (z3 : Option Nat) (M : zzM) (bc bs : Nat), k3 z0 z1 z2 z3 M → zz_T G 11 M bc bs 3 [(1, .int z0), (2, va_rf z1), (3, va_rf z2), (4, va_rf z3)] []) {v1 : Int32} {v2 : Option Nat} {v3 : Option Nat} {v7 : Option Nat} {v8 : Option Nat} {v9 : Option Nat} {M : zzM} {bc bs : Nat} (hw : wp_J29_find_B114 (zz_Zof G) r_J29_find k3 K v1 v2 v3 v7 v8 v9 M) : zz_T G 11 M bc bs 114 [(1, .int v1), (2, va_rf v2), (3, va_rf v3), (7, va_rf v7), (8, va_rf v8), (9, va_rf v9)] [] := by
  unfold wp_J29_find_B114 at hw
  refine zz_aload_n C dJ29_find_114 rfl 2 rfl ?_
  refine zz_aload_n C dJ29_find_115 rfl 1 rfl ?_
  refine zz_aload C dJ29_find_116 3 rfl ?_
  refine zz_callS (As := [va_rf v3, va_rf v2, va_rf v7]) (rest := []) (mc := 0) (ms := 0) C hR dJ29_find_118 (Or.inl q1388) q1389 zl_java_util_HashMap zk_J4_compareComparables (Or.inl rfl) zy_J4_compareComparables (Nat.le_trans (by decide : 10 ≤ 10) hF) (by decide) (ok_J4_compareComparables (zz_hl C) hw) (Nat.zero_le _) (Nat.zero_le _) (zz_cat10 _ (Nat.le_of_ble_eq_true rfl)) (fun r20 M21 hw => zz_kI hw (fun x24 hw => ?_)) (fun _ _ _ h9 => h9.elim) rfl
  refine zz_dup C dJ29_find_121 rfl ?_
  refine zz_istore (lv' := [(6, .int x24), (1, .int v1), (2, va_rf v2), (3, va_rf v3), (7, va_rf v7), (8, va_rf v8), (9, va_rf v9)]) C dJ29_find_122 (by decide) rfl ?_
  refine zz_if_eq (tgt := 144) C dJ29_find_124 (by decide) hw (fun hw => ?_) (fun hw => ?_)
  · refine zz_subP [1, 2, 3, 5, 6] rfl ?_
    exact ok_J29_find_B144 C E hH hR hF hfrr h_J29_find hk3 hw
  · refine zz_iload C dJ29_find_127 0 rfl ?_
    refine zz_if_ge (tgt := 137) C dJ29_find_129 (by decide) hw (fun hw => ?_) (fun hw => ?_)
    · refine zz_aload C dJ29_find_137 6 rfl ?_
      refine zz_subP [1, 2, 3] rfl ?_
      exact ok_J29_find_B139 C E hH hR hF hfrr h_J29_find hk3 hw
    · refine zz_aload C dJ29_find_132 5 rfl ?_
      refine zz_goto (tgt := 139) C dJ29_find_134 (by decide) ?_
      refine zz_subP [1, 2, 3] rfl ?_
      exact ok_J29_find_B139 C E hH hR hF hfrr h_J29_find hk3 hw
theorem ok_J29_find_B77 {G : zzX} (C : zz_C G cJ29_find "java/util/HashMap$TreeNode" 11) {K : Option Value → zzM → Prop} (E : zz_E G (some (.object "java/util/HashMap$TreeNode")) K (fun _ _ _ => False)) (hH : zz_H G []) {fr frr : Nat} (hR : zz_Rm G fr) (hF : 10 ≤ fr) (hfrr : frr + 1 ≤ fr) {r_J29_find : Option Nat → Int32 → Option Nat → Option Nat → zzM → (Option Value → zzM → Prop) → Prop} (h_J29_find : ∀ {u0 : Option Nat}{u1 : Int32}{u2 : Option Nat}{u3 : Option Nat}{M : zzM} {mc ms : Nat} {K : Option Value → zzM → Prop}, r_J29_find u0 u1 u2 u3 M K → zz_Met (zz_Zof G) (zz_l G) yJ29_find (zz_ws yJ29_find cJ29_find 11 (some (.object "java/util/HashMap$TreeNode")) none) frr [va_rf u0, .int u1, va_rf u2, va_rf u3] M mc ms K (fun _ _ _ => False)) {k3 : Int32 → Option Nat → Option Nat → Option Nat → zzM → Prop} (hk3 : ∀ (z0 : Int32) (z1 : Option Nat) (z2 : Option Nat) (z3 : Option Nat) (M : zzM) (bc bs : Nat), k3 z0 z1 z2 z3 M → zz_T G 11 M bc bs 3 [(1, .int z0), (2, va_rf z1), (3, va_rf z2), (4, va_rf z3)] []) {v1 : Int32} {v2 : Option Nat} {v3 : Option Nat} {v7 : Option Nat} {v8 : Option Nat} {v9 : Option Nat} {M : zzM} {bc bs : Nat} (hw : wp_J29_find_B77 (zz_Zof G) r_J29_find k3 K v1 v2 v3 v7 v8 v9 M) : zz_T G 11 M bc bs 77 [(1, .int v1), (2, va_rf v2), (3, va_rf v3), (7, va_rf v7), (8, va_rf v8), (9, va_rf v9)] [] := by
  unfold wp_J29_find_B77 at hw
  refine zz_aload C dJ29_find_77 4 rfl ?_
  refine zz_ifnonnull (tgt := 89) C dJ29_find_79 (by decide) hw (fun hw => ?_) (fun hw => ?_)
  · refine zz_aload C dJ29_find_89 5 rfl ?_
    refine zz_ifnonnull (tgt := 101) C dJ29_find_91 (by decide) hw (fun hw => ?_) (fun hw => ?_)
    · refine zz_aload_n C dJ29_find_101 rfl 2 rfl ?_
      refine zz_ifnonnull (tgt := 114) C dJ29_find_102 (by decide) hw (fun hw => ?_) (fun hw => ?_)
      · refine zz_subP [0, 1, 2, 3, 4, 5] rfl ?_
        exact ok_J29_find_B114 C E hH hR hF hfrr h_J29_find hk3 hw
      · refine zz_aload_n C dJ29_find_105 rfl 1 rfl ?_
        refine zz_callS (As := [va_rf v2]) (rest := []) (mc := 0) (ms := 0) C hR dJ29_find_106 (Or.inl q1382) q1383 zl_java_util_HashMap zk_J4_comparableClassFor (Or.inl rfl) zy_J4_comparableClassFor (Nat.le_trans (by decide : 3 ≤ 10) hF) (by decide) (ok_J4_comparableClassFor (zz_hl C) hw) (Nat.zero_le _) (Nat.zero_le _) (zz_cat10 _ (Nat.le_of_ble_eq_true rfl)) (fun r10 M11 hw => zz_kA hw (fun x14 hw => ?_)) (fun _ _ _ h9 => h9.elim) rfl
        refine zz_dup C dJ29_find_109 (zz_cat _) ?_
        refine zz_astore_n (i := 3) (lv' := [(3, va_rf x14), (1, .int v1), (2, va_rf v2), (7, va_rf v7), (8, va_rf v8), (9, va_rf v9)]) C dJ29_find_110 rfl (by decide) (by simp [zz_cat, zz_catI, zz_catJ, zz_catD]) ?_
        refine zz_ifnull (tgt := 144) C dJ29_find_111 (by decide) hw (fun hw => ?_) (fun hw => ?_)
        · refine zz_subP [1, 2, 0, 4, 5] rfl ?_
          exact ok_J29_find_B144 C E hH hR hF hfrr h_J29_find hk3 hw
        · refine zz_subP [1, 2, 0, 3, 4, 5] rfl ?_
          exact ok_J29_find_B114 C E hH hR hF hfrr h_J29_find hk3 hw
    · refine zz_aload C dJ29_find_94 4 rfl ?_
      refine zz_astore (lv' := [(4, va_rf v8), (1, .int v1), (2, va_rf v2), (3, va_rf v3), (7, va_rf v7), (8, va_rf v8), (9, va_rf v9)]) C dJ29_find_96 (by decide) (by simp [zz_cat, zz_catI, zz_catJ, zz_catD]) ?_
      refine zz_goto (tgt := 165) C dJ29_find_98 (by decide) ?_
      refine zz_subP [1, 2, 3, 0] rfl ?_
      exact ok_J29_find_B165 C E hH hR hF hfrr h_J29_find hk3 hw
  · refine zz_aload C dJ29_find_82 5 rfl ?_
    refine zz_astore (lv' := [(4, va_rf v9), (1, .int v1), (2, va_rf v2), (3, va_rf v3), (7, va_rf v7), (8, va_rf v8), (9, va_rf v9)]) C dJ29_find_84 (by decide) (by simp [zz_cat, zz_catI, zz_catJ, zz_catD]) ?_
    refine zz_goto (tgt := 165) C dJ29_find_86 (by decide) ?_
    refine zz_subP [1, 2, 3, 0] rfl ?_
    exact ok_J29_find_B165 C E hH hR hF hfrr h_J29_find hk3 hw
theorem ok_J29_find_L3 {G : zzX} (C : zz_C G cJ29_find "java/util/HashMap$TreeNode" 11) {K : Option Value → zzM → Prop} (E : zz_E G (some (.object "java/util/HashMap$TreeNode")) K (fun _ _ _ => False)) (hH : zz_H G []) {fr frr : Nat} (hR : zz_Rm G fr) (hF : 10 ≤ fr) (hfrr : frr + 1 ≤ fr) {r_J29_find : Option Nat → Int32 → Option Nat → Option Nat → zzM → (Option Value → zzM → Prop) → Prop} (h_J29_find : ∀ {u0 : Option Nat}{u1 : Int32}{u2 : Option Nat}{u3 : Option Nat}{M : zzM} {mc ms : Nat} {K : Option Value → zzM → Prop}, r_J29_find u0 u1 u2 u3 M K → zz_Met (zz_Zof G) (zz_l G) yJ29_find (zz_ws yJ29_find cJ29_find 11 (some (.object "java/util/HashMap$TreeNode")) none) frr [va_rf u0, .int u1, va_rf u2, va_rf u3] M mc ms K (fun _ _ _ => False)) : ∀ (n : Nat) (v1 : Int32) (v2 : Option Nat) (v3 : Option Nat) (v4 : Option Nat) (M : zzM) (bc bs : Nat), wp_J29_find_L3 (zz_Zof G) r_J29_find K n v1 v2 v3 v4 M → zz_T G 11 M bc bs 3 [(1, .int v1), (2, va_rf v2), (3, va_rf v3), (4, va_rf v4)] [] := by
  intro n
  induction n with
  | zero =>
    intro v1 v2 v3 v4 M bc bs hw
    exact False.elim hw
  | succ n ih =>
    intro v1 v2 v3 v4 M bc bs hw
    refine zz_aload C dJ29_find_3 3 rfl ?_
    refine zz_getA C dJ29_find_5 (Or.inl q1686) zf_25_5_shMap_TreeNode hw (fun x1 hw => ?_)
    refine zz_astore (lv' := [(8, va_rf x1), (1, .int v1), (2, va_rf v2), (3, va_rf v3), (4, va_rf v4)]) C dJ29_find_8 (by decide) rfl ?_
    refine zz_aload C dJ29_find_10 4 rfl ?_
    refine zz_getA C dJ29_find_12 (Or.inl q1687) zf_25_6_shMap_TreeNode hw (fun x2 hw => ?_)
    refine zz_astore (lv' := [(9, va_rf x2), (8, va_rf x1), (1, .int v1), (2, va_rf v2), (3, va_rf v3), (4, va_rf v4)]) C dJ29_find_15 (by decide) (by simp [zz_cat, zz_catI, zz_catJ, zz_catD]) ?_
    refine zz_aload C dJ29_find_17 5 rfl ?_
    refine zz_getI C dJ29_find_19 (Or.inl q1354) zf_25_0_shMap_TreeNode hw (fun x3 hw => ?_)
    refine zz_dup C dJ29_find_22 rfl ?_
    refine zz_istore (lv' := [(5, .int x3), (9, va_rf x2), (8, va_rf x1), (1, .int v1), (2, va_rf v2), (3, va_rf v3), (4, va_rf v4)]) C dJ29_find_23 (by decide) (by simp [zz_cat, zz_catI, zz_catJ, zz_catD]) ?_
    refine zz_iload_n C dJ29_find_25 rfl 3 rfl ?_
    refine zz_icmp_le (tgt := 36) C dJ29_find_26 (by decide) hw (fun hw => ?_) (fun hw => ?_)
    · refine zz_iload C dJ29_find_36 0 rfl ?_
      refine zz_iload_n C dJ29_find_38 rfl 3 rfl ?_
      refine zz_icmp_ge (tgt := 49) C dJ29_find_39 (by decide) hw (fun hw => ?_) (fun hw => ?_)
      · refine zz_aload C dJ29_find_49 6 rfl ?_
        refine zz_getA C dJ29_find_51 (Or.inl q1358) zf_25_1_shMap_TreeNode hw (fun x4 hw => ?_)
        refine zz_dup C dJ29_find_54 (zz_cat _) ?_
        refine zz_astore (lv' := [(7, va_rf x4), (5, .int x3), (9, va_rf x2), (8, va_rf x1), (1, .int v1), (2, va_rf v2), (3, va_rf v3), (4, va_rf v4)]) C dJ29_find_55 (by decide) rfl ?_
        refine zz_aload_n C dJ29_find_57 rfl 5 rfl ?_
        refine zz_acmp_eq (tgt := 74) C dJ29_find_58 (by decide) hw (fun hw => ?_) (fun hw => ?_)
        · refine zz_subP [7] rfl ?_
          exact ok_J29_find_B74 C E hH hR hF hfrr h_J29_find hw
        · refine zz_aload_n C dJ29_find_61 rfl 5 rfl ?_
          refine zz_ifnull (tgt := 77) C dJ29_find_62 (by decide) hw (fun hw => ?_) (fun hw => ?_)
          · refine zz_subP [4, 5, 6, 0, 3, 2] rfl ?_
            exact ok_J29_find_B77 C E hH hR hF hfrr h_J29_find (fun z0 z1 z2 z3 z4 z5 z6 hw => ih z0 z1 z2 z3 z4 z5 z6 hw) hw
          · refine zz_aload_n C dJ29_find_65 rfl 5 rfl ?_
            refine zz_aload C dJ29_find_66 0 rfl ?_
            obtain ⟨a9, t9, b9, fs9, hro, hL, rfl, hw⟩ := ztyS hw
            refine zz_callU (r := (zR_21, zT_21, 4)) (x := ⟨"java/lang/Object", "equals", "(Ljava/lang/Object;)Z"⟩) (owner := "java/lang/Object") (As := [va_rf x4]) (rest := []) (mc := 0) (ms := 0) C hR hro dJ29_find_68 q1668 q1625 (Or.inl q1622) q709 q1654 zl_java_lang_String zk_J7_equals zyo_java_lang_Object_equals__Ljava_lang_Object__Z rfl (Nat.le_trans (by decide : 3 ≤ 10) hF) (by decide) hL (ok_J7_equals (zz_hl C) hw) (Nat.zero_le _) (Nat.zero_le _) (zz_cat10 _ (Nat.le_of_ble_eq_true rfl)) (fun r5 M6 hw => zz_kI hw (fun x9 hw => ?_)) (fun _ _ _ h9 => h9.elim) rfl
            refine zz_if_eq (tgt := 77) C dJ29_find_71 (by decide) hw (fun hw => ?_) (fun hw => ?_)
            · refine zz_subP [4, 5, 6, 0, 3, 2] rfl ?_
              exact ok_J29_find_B77 C E hH hR hF hfrr h_J29_find (fun z0 z1 z2 z3 z4 z5 z6 hw => ih z0 z1 z2 z3 z4 z5 z6 hw) hw
            · refine zz_subP [7] rfl ?_
              exact ok_J29_find_B74 C E hH hR hF hfrr h_J29_find hw
      · refine zz_aload C dJ29_find_42 1 rfl ?_
        refine zz_astore (lv' := [(4, va_rf x2), (5, .int x3), (9, va_rf x2), (8, va_rf x1), (1, .int v1), (2, va_rf v2), (3, va_rf v3)]) C dJ29_find_44 (by decide) (by simp [zz_cat, zz_catI, zz_catJ, zz_catD]) ?_
        refine zz_goto (tgt := 165) C dJ29_find_46 (by decide) ?_
        refine zz_subP [4, 5, 6, 0] rfl ?_
        exact ok_J29_find_B165 C E hH hR hF hfrr h_J29_find (fun z0 z1 z2 z3 z4 z5 z6 hw => ih z0 z1 z2 z3 z4 z5 z6 hw) hw
    · refine zz_aload C dJ29_find_29 2 rfl ?_
      refine zz_astore (lv' := [(4, va_rf x1), (5, .int x3), (9, va_rf x2), (8, va_rf x1), (1, .int v1), (2, va_rf v2), (3, va_rf v3)]) C dJ29_find_31 (by decide) (by simp [zz_cat, zz_catI, zz_catJ, zz_catD]) ?_
      refine zz_goto (tgt := 165) C dJ29_find_33 (by decide) ?_
      refine zz_subP [4, 5, 6, 0] rfl ?_
      exact ok_J29_find_B165 C E hH hR hF hfrr h_J29_find (fun z0 z1 z2 z3 z4 z5 z6 hw => ih z0 z1 z2 z3 z4 z5 z6 hw) hw
theorem okb_J29_find {Z : zzG} {l : Launch} (hl : l.stackTraces = false) {fr frr : Nat} (hF : 10 ≤ fr) (hfrr : frr + 1 ≤ fr) {r_J29_find : Option Nat → Int32 → Option Nat → Option Nat → zzM → (Option Value → zzM → Prop) → Prop} (h_J29_find : ∀ {u0 : Option Nat}{u1 : Int32}{u2 : Option Nat}{u3 : Option Nat}{M : zzM} {mc ms : Nat} {K : Option Value → zzM → Prop}, r_J29_find u0 u1 u2 u3 M K → zz_Met Z l yJ29_find (zz_ws yJ29_find cJ29_find 11 (some (.object "java/util/HashMap$TreeNode")) none) frr [va_rf u0, .int u1, va_rf u2, va_rf u3] M mc ms K (fun _ _ _ => False)) {this : Option Nat} {p0 : Int32} {p1 : Option Nat} {p2 : Option Nat} {M : zzM} {mc ms : Nat} {K : Option Value → zzM → Prop} (hw : wpb_J29_find Z r_J29_find this p0 p1 p2 M K) : zz_Met Z l yJ29_find (zz_ws yJ29_find cJ29_find 11 (some (.object "java/util/HashMap$TreeNode")) none) fr [va_rf this, .int p0, va_rf p1, va_rf p2] M mc ms K (fun _ _ _ => False) := by
  refine zz_ofW hl (plainFor_of_name (by decide)) (by simp only [zz_sl0, zz_slI, zz_slJ, zz_slA] <;> decide) (fun G hZ hll C E hH hR hin => ?_)
  subst hZ
  subst hll
  rw [show lv_args 0 [va_rf this, .int p0, va_rf p1, va_rf p2] = [(0, va_rf this), (1, .int p0), (2, va_rf p1), (3, va_rf p2)] by simp only [zz_la0, zz_laI, zz_laJ, zz_laA]]
  unfold wpb_J29_find at hw
  refine zz_aload_n C dJ29_find_0 rfl 0 rfl ?_
  refine zz_astore (lv' := [(4, va_rf this), (0, va_rf this), (1, .int p0), (2, va_rf p1), (3, va_rf p2)]) C dJ29_find_1 (by decide) (by simp [zz_cat, zz_catI, zz_catJ, zz_catD]) ?_
  refine zz_subP [2, 3, 4, 0] rfl ?_
  obtain ⟨n3, hw⟩ := hw
  exact ok_J29_find_L3 C E hH hR hF hfrr h_J29_find n3 _ _ _ _ _ _ _ hw
def wpR_J29_find (Z : zzG) : Nat → (Option Nat → Int32 → Option Nat → Option Nat → zzM → (Option Value → zzM → Prop) → Prop)
  | 0 => (fun _ _ _ _ _ _ => False)
  | n + 1 => (wpb_J29_find Z ((wpR_J29_find Z n)))
def wp_J29_find (Z : zzG) : Option Nat → Int32 → Option Nat → Option Nat → zzM → (Option Value → zzM → Prop) → Prop := (wpR_J29_find Z 60)
theorem okR_J29_find {Z : zzG} {l : Launch} (hl : l.stackTraces = false) : ∀ n : Nat, (∀ {u0 : Option Nat}{u1 : Int32}{u2 : Option Nat}{u3 : Option Nat}{M : zzM} {mc ms : Nat} {K : Option Value → zzM → Prop}, (wpR_J29_find Z n) u0 u1 u2 u3 M K → zz_Met Z l yJ29_find (zz_ws yJ29_find cJ29_find 11 (some (.object "java/util/HashMap$TreeNode")) none) (10 + n) [va_rf u0, .int u1, va_rf u2, va_rf u3] M mc ms K (fun _ _ _ => False)) := by
  intro n
  induction n with
  | zero =>
    exact fun h => h.elim
  | succ n ih =>
    exact fun h => okb_J29_find hl (fr := 10 + (n + 1)) (frr := 10 + n) (Nat.le_add_right _ _) (Nat.le_refl _) ih h
theorem ok_J29_find {Z : zzG} {l : Launch} (hl : l.stackTraces = false) {u0 : Option Nat} {u1 : Int32} {u2 : Option Nat} {u3 : Option Nat} {M : zzM} {mc ms : Nat} {K : Option Value → zzM → Prop} (hw : wp_J29_find Z u0 u1 u2 u3 M K) : zz_Met Z l yJ29_find (zz_ws yJ29_find cJ29_find 11 (some (.object "java/util/HashMap$TreeNode")) none) 70 [va_rf u0, .int u1, va_rf u2, va_rf u3] M mc ms K (fun _ _ _ => False) :=
  (okR_J29_find hl 60) hw
abbrev cJ29_putTreeVal : ByteArray := prog_65_method_9_code
def yJ29_putTreeVal : MethodName := ⟨"java/util/HashMap$TreeNode", "putTreeVal", "(Ljava/util/HashMap;[Ljava/util/HashMap$Node;ILjava/lang/Object;Ljava/lang/Object;)Ljava/util/HashMap$TreeNode;"⟩
def dkwJ29_putTreeVal_13 : List UInt8 := [184, 0, 100, 184, 0, 104, 1, 176, 167, 254, 228]
abbrev dktJ29_putTreeVal_13 : List UInt8 := dkwJ29_putTreeVal_13 ++ []
def dkwJ29_putTreeVal_12 : List UInt8 := [181, 0, 9, 25, 14, 198, 0, 13, 25, 14, 192, 0, 10, 25, 15, 181, 0, 19, 44, 25, 8, 25, 15]
abbrev dktJ29_putTreeVal_12 : List UInt8 := dkwJ29_putTreeVal_12 ++ dktJ29_putTreeVal_13
def dkwJ29_putTreeVal_11 : List UInt8 := [25, 15, 181, 0, 42, 25, 13, 25, 15, 181, 0, 22, 25, 15, 25, 15, 25, 13, 90, 181, 0, 19]
abbrev dktJ29_putTreeVal_11 : List UInt8 := dkwJ29_putTreeVal_11 ++ dktJ29_putTreeVal_12
def dkwJ29_putTreeVal_10 : List UInt8 := [25, 14, 182, 0, 115, 58, 15, 21, 10, 157, 0, 13, 25, 13, 25, 15, 181, 0, 39, 167, 0, 10, 25, 13]
abbrev dktJ29_putTreeVal_10 : List UInt8 := dkwJ29_putTreeVal_10 ++ dktJ29_putTreeVal_11
def dkwJ29_putTreeVal_9 : List UInt8 := [25, 9, 180, 0, 42, 89, 58, 9, 199, 0, 93, 25, 13, 180, 0, 22, 58, 14, 43, 29, 25, 4, 25, 5]
abbrev dktJ29_putTreeVal_9 : List UInt8 := dkwJ29_putTreeVal_9 ++ dktJ29_putTreeVal_10
def dkwJ29_putTreeVal_8 : List UInt8 := [25, 12, 184, 0, 96, 54, 10, 25, 9, 58, 13, 21, 10, 157, 0, 11, 25, 9, 180, 0, 39, 167, 0, 8]
abbrev dktJ29_putTreeVal_8 : List UInt8 := dkwJ29_putTreeVal_8 ++ dktJ29_putTreeVal_9
def dkwJ29_putTreeVal_7 : List UInt8 := [198, 0, 22, 25, 14, 29, 25, 4, 25, 6, 182, 0, 63, 89, 58, 13, 198, 0, 6, 25, 13, 176, 25, 4]
abbrev dktJ29_putTreeVal_7 : List UInt8 := dkwJ29_putTreeVal_7 ++ dktJ29_putTreeVal_8
def dkwJ29_putTreeVal_6 : List UInt8 := [29, 25, 4, 25, 6, 182, 0, 63, 89, 58, 13, 199, 0, 30, 25, 9, 180, 0, 42, 89, 58, 14]
abbrev dktJ29_putTreeVal_6 : List UInt8 := dkwJ29_putTreeVal_6 ++ dktJ29_putTreeVal_7
def dkwJ29_putTreeVal_5 : List UInt8 := [154, 0, 77, 21, 7, 154, 0, 63, 4, 54, 7, 25, 9, 180, 0, 39, 89, 58, 14, 198, 0, 19, 25, 14]
abbrev dktJ29_putTreeVal_5 : List UInt8 := dkwJ29_putTreeVal_5 ++ dktJ29_putTreeVal_6
def dkwJ29_putTreeVal_4 : List UInt8 := [25, 4, 184, 0, 55, 89, 58, 6, 198, 0, 18, 25, 6, 25, 4, 25, 12, 184, 0, 59, 89, 54, 10]
abbrev dktJ29_putTreeVal_4 : List UInt8 := dkwJ29_putTreeVal_4 ++ dktJ29_putTreeVal_5
def dkwJ29_putTreeVal_3 : List UInt8 := [25, 4, 198, 0, 16, 25, 4, 25, 12, 182, 0, 49, 153, 0, 6, 25, 9, 176, 25, 6, 199, 0, 14]
abbrev dktJ29_putTreeVal_3 : List UInt8 := dkwJ29_putTreeVal_3 ++ dktJ29_putTreeVal_4
def dkwJ29_putTreeVal_2 : List UInt8 := [29, 162, 0, 9, 4, 54, 10, 167, 0, 139, 25, 9, 180, 0, 45, 89, 58, 12, 25, 4, 165, 0, 18]
abbrev dktJ29_putTreeVal_2 : List UInt8 := dkwJ29_putTreeVal_2 ++ dktJ29_putTreeVal_3
def dkwJ29_putTreeVal_1 : List UInt8 := [25, 8, 58, 9, 25, 9, 180, 0, 15, 89, 54, 11, 29, 164, 0, 9, 2, 54, 10, 167, 0, 151, 21, 11]
abbrev dktJ29_putTreeVal_1 : List UInt8 := dkwJ29_putTreeVal_1 ++ dktJ29_putTreeVal_2
def dkwJ29_putTreeVal_0 : List UInt8 := [1, 58, 6, 3, 54, 7, 42, 180, 0, 9, 198, 0, 10, 42, 182, 0, 67, 167, 0, 4, 42, 58, 8]
abbrev dktJ29_putTreeVal_0 : List UInt8 := dkwJ29_putTreeVal_0 ++ dktJ29_putTreeVal_1
theorem dksJ29_putTreeVal_0 : cJ29_putTreeVal.data.toList.drop 0 = dktJ29_putTreeVal_0 := by decide +kernel
theorem dksJ29_putTreeVal_1 : cJ29_putTreeVal.data.toList.drop 23 = dktJ29_putTreeVal_1 := dk_seg dksJ29_putTreeVal_0 23 rfl rfl
theorem dksJ29_putTreeVal_2 : cJ29_putTreeVal.data.toList.drop 47 = dktJ29_putTreeVal_2 := dk_seg dksJ29_putTreeVal_1 24 rfl rfl
theorem dksJ29_putTreeVal_3 : cJ29_putTreeVal.data.toList.drop 70 = dktJ29_putTreeVal_3 := dk_seg dksJ29_putTreeVal_2 23 rfl rfl
theorem dksJ29_putTreeVal_4 : cJ29_putTreeVal.data.toList.drop 93 = dktJ29_putTreeVal_4 := dk_seg dksJ29_putTreeVal_3 23 rfl rfl
theorem dksJ29_putTreeVal_5 : cJ29_putTreeVal.data.toList.drop 116 = dktJ29_putTreeVal_5 := dk_seg dksJ29_putTreeVal_4 23 rfl rfl
theorem dksJ29_putTreeVal_6 : cJ29_putTreeVal.data.toList.drop 140 = dktJ29_putTreeVal_6 := dk_seg dksJ29_putTreeVal_5 24 rfl rfl
theorem dksJ29_putTreeVal_7 : cJ29_putTreeVal.data.toList.drop 162 = dktJ29_putTreeVal_7 := dk_seg dksJ29_putTreeVal_6 22 rfl rfl
theorem dksJ29_putTreeVal_8 : cJ29_putTreeVal.data.toList.drop 186 = dktJ29_putTreeVal_8 := dk_seg dksJ29_putTreeVal_7 24 rfl rfl
theorem dksJ29_putTreeVal_9 : cJ29_putTreeVal.data.toList.drop 210 = dktJ29_putTreeVal_9 := dk_seg dksJ29_putTreeVal_8 24 rfl rfl
theorem dksJ29_putTreeVal_10 : cJ29_putTreeVal.data.toList.drop 234 = dktJ29_putTreeVal_10 := dk_seg dksJ29_putTreeVal_9 24 rfl rfl
theorem dksJ29_putTreeVal_11 : cJ29_putTreeVal.data.toList.drop 258 = dktJ29_putTreeVal_11 := dk_seg dksJ29_putTreeVal_10 24 rfl rfl
theorem dksJ29_putTreeVal_12 : cJ29_putTreeVal.data.toList.drop 280 = dktJ29_putTreeVal_12 := dk_seg dksJ29_putTreeVal_11 22 rfl rfl
theorem dksJ29_putTreeVal_13 : cJ29_putTreeVal.data.toList.drop 303 = dktJ29_putTreeVal_13 := dk_seg dksJ29_putTreeVal_12 23 rfl rfl
theorem dJ29_putTreeVal_0 : decode cJ29_putTreeVal 0 = .ok (.aconst_null, 1) := dk_1 (dk_at dksJ29_putTreeVal_0 0 rfl rfl)
theorem dJ29_putTreeVal_1 : decode cJ29_putTreeVal 1 = .ok (.astore 6, 2) := dk_58 6 (dk_at dksJ29_putTreeVal_0 1 rfl rfl)
theorem dJ29_putTreeVal_3 : decode cJ29_putTreeVal 3 = .ok (.iconst 0, 1) := dk_3 (dk_at dksJ29_putTreeVal_0 3 rfl rfl)
theorem dJ29_putTreeVal_4 : decode cJ29_putTreeVal 4 = .ok (.istore 7, 2) := dk_54 7 (dk_at dksJ29_putTreeVal_0 4 rfl rfl)
theorem dJ29_putTreeVal_6 : decode cJ29_putTreeVal 6 = .ok (.aload_n 0, 1) := dk_42 (dk_at dksJ29_putTreeVal_0 6 rfl rfl)
theorem dJ29_putTreeVal_7 : decode cJ29_putTreeVal 7 = .ok (.getfield 9, 3) := dk_180 0 9 (dk_at dksJ29_putTreeVal_0 7 rfl rfl)
theorem dJ29_putTreeVal_10 : decode cJ29_putTreeVal 10 = .ok (.ifnull 10, 3) := dk_198 0 10 (dk_at dksJ29_putTreeVal_0 10 rfl rfl)
theorem dJ29_putTreeVal_13 : decode cJ29_putTreeVal 13 = .ok (.aload_n 0, 1) := dk_42 (dk_at dksJ29_putTreeVal_0 13 rfl rfl)
theorem dJ29_putTreeVal_14 : decode cJ29_putTreeVal 14 = .ok (.invokevirtual 67, 3) := dk_182 0 67 (dk_at dksJ29_putTreeVal_0 14 rfl rfl)
theorem dJ29_putTreeVal_17 : decode cJ29_putTreeVal 17 = .ok (.goto 4, 3) := dk_167 0 4 (dk_at dksJ29_putTreeVal_0 17 rfl rfl)
theorem dJ29_putTreeVal_20 : decode cJ29_putTreeVal 20 = .ok (.aload_n 0, 1) := dk_42 (dk_at dksJ29_putTreeVal_0 20 rfl rfl)
theorem dJ29_putTreeVal_21 : decode cJ29_putTreeVal 21 = .ok (.astore 8, 2) := dk_58 8 (dk_at dksJ29_putTreeVal_0 21 rfl rfl)
theorem dJ29_putTreeVal_23 : decode cJ29_putTreeVal 23 = .ok (.aload 8, 2) := dk_25 8 (dk_at dksJ29_putTreeVal_1 0 rfl rfl)
theorem dJ29_putTreeVal_25 : decode cJ29_putTreeVal 25 = .ok (.astore 9, 2) := dk_58 9 (dk_at dksJ29_putTreeVal_1 2 rfl rfl)
theorem dJ29_putTreeVal_27 : decode cJ29_putTreeVal 27 = .ok (.aload 9, 2) := dk_25 9 (dk_at dksJ29_putTreeVal_1 4 rfl rfl)
theorem dJ29_putTreeVal_29 : decode cJ29_putTreeVal 29 = .ok (.getfield 15, 3) := dk_180 0 15 (dk_at dksJ29_putTreeVal_1 6 rfl rfl)
theorem dJ29_putTreeVal_32 : decode cJ29_putTreeVal 32 = .ok (.dup, 1) := dk_89 (dk_at dksJ29_putTreeVal_1 9 rfl rfl)
theorem dJ29_putTreeVal_33 : decode cJ29_putTreeVal 33 = .ok (.istore 11, 2) := dk_54 11 (dk_at dksJ29_putTreeVal_1 10 rfl rfl)
theorem dJ29_putTreeVal_35 : decode cJ29_putTreeVal 35 = .ok (.iload_n 3, 1) := dk_29 (dk_at dksJ29_putTreeVal_1 12 rfl rfl)
theorem dJ29_putTreeVal_36 : decode cJ29_putTreeVal 36 = .ok (.if_icmp .le 9, 3) := dk_164 0 9 (dk_at dksJ29_putTreeVal_1 13 rfl rfl)
theorem dJ29_putTreeVal_39 : decode cJ29_putTreeVal 39 = .ok (.iconst (-1), 1) := dk_2 (dk_at dksJ29_putTreeVal_1 16 rfl rfl)
theorem dJ29_putTreeVal_40 : decode cJ29_putTreeVal 40 = .ok (.istore 10, 2) := dk_54 10 (dk_at dksJ29_putTreeVal_1 17 rfl rfl)
theorem dJ29_putTreeVal_42 : decode cJ29_putTreeVal 42 = .ok (.goto 151, 3) := dk_167 0 151 (dk_at dksJ29_putTreeVal_1 19 rfl rfl)
theorem dJ29_putTreeVal_45 : decode cJ29_putTreeVal 45 = .ok (.iload 11, 2) := dk_21 11 (dk_at dksJ29_putTreeVal_1 22 rfl rfl)
theorem dJ29_putTreeVal_47 : decode cJ29_putTreeVal 47 = .ok (.iload_n 3, 1) := dk_29 (dk_at dksJ29_putTreeVal_2 0 rfl rfl)
theorem dJ29_putTreeVal_48 : decode cJ29_putTreeVal 48 = .ok (.if_icmp .ge 9, 3) := dk_162 0 9 (dk_at dksJ29_putTreeVal_2 1 rfl rfl)
theorem dJ29_putTreeVal_51 : decode cJ29_putTreeVal 51 = .ok (.iconst 1, 1) := dk_4 (dk_at dksJ29_putTreeVal_2 4 rfl rfl)
theorem dJ29_putTreeVal_52 : decode cJ29_putTreeVal 52 = .ok (.istore 10, 2) := dk_54 10 (dk_at dksJ29_putTreeVal_2 5 rfl rfl)
theorem dJ29_putTreeVal_54 : decode cJ29_putTreeVal 54 = .ok (.goto 139, 3) := dk_167 0 139 (dk_at dksJ29_putTreeVal_2 7 rfl rfl)
theorem dJ29_putTreeVal_57 : decode cJ29_putTreeVal 57 = .ok (.aload 9, 2) := dk_25 9 (dk_at dksJ29_putTreeVal_2 10 rfl rfl)
theorem dJ29_putTreeVal_59 : decode cJ29_putTreeVal 59 = .ok (.getfield 45, 3) := dk_180 0 45 (dk_at dksJ29_putTreeVal_2 12 rfl rfl)
theorem dJ29_putTreeVal_62 : decode cJ29_putTreeVal 62 = .ok (.dup, 1) := dk_89 (dk_at dksJ29_putTreeVal_2 15 rfl rfl)
theorem dJ29_putTreeVal_63 : decode cJ29_putTreeVal 63 = .ok (.astore 12, 2) := dk_58 12 (dk_at dksJ29_putTreeVal_2 16 rfl rfl)
theorem dJ29_putTreeVal_65 : decode cJ29_putTreeVal 65 = .ok (.aload 4, 2) := dk_25 4 (dk_at dksJ29_putTreeVal_2 18 rfl rfl)
theorem dJ29_putTreeVal_67 : decode cJ29_putTreeVal 67 = .ok (.if_acmp .eq 18, 3) := dk_165 0 18 (dk_at dksJ29_putTreeVal_2 20 rfl rfl)
theorem dJ29_putTreeVal_70 : decode cJ29_putTreeVal 70 = .ok (.aload 4, 2) := dk_25 4 (dk_at dksJ29_putTreeVal_3 0 rfl rfl)
theorem dJ29_putTreeVal_72 : decode cJ29_putTreeVal 72 = .ok (.ifnull 16, 3) := dk_198 0 16 (dk_at dksJ29_putTreeVal_3 2 rfl rfl)
theorem dJ29_putTreeVal_75 : decode cJ29_putTreeVal 75 = .ok (.aload 4, 2) := dk_25 4 (dk_at dksJ29_putTreeVal_3 5 rfl rfl)
theorem dJ29_putTreeVal_77 : decode cJ29_putTreeVal 77 = .ok (.aload 12, 2) := dk_25 12 (dk_at dksJ29_putTreeVal_3 7 rfl rfl)
theorem dJ29_putTreeVal_79 : decode cJ29_putTreeVal 79 = .ok (.invokevirtual 49, 3) := dk_182 0 49 (dk_at dksJ29_putTreeVal_3 9 rfl rfl)
theorem dJ29_putTreeVal_82 : decode cJ29_putTreeVal 82 = .ok (.ifCond .eq 6, 3) := dk_153 0 6 (dk_at dksJ29_putTreeVal_3 12 rfl rfl)
theorem dJ29_putTreeVal_85 : decode cJ29_putTreeVal 85 = .ok (.aload 9, 2) := dk_25 9 (dk_at dksJ29_putTreeVal_3 15 rfl rfl)
theorem dJ29_putTreeVal_87 : decode cJ29_putTreeVal 87 = .ok (.areturn, 1) := dk_176 (dk_at dksJ29_putTreeVal_3 17 rfl rfl)
theorem dJ29_putTreeVal_88 : decode cJ29_putTreeVal 88 = .ok (.aload 6, 2) := dk_25 6 (dk_at dksJ29_putTreeVal_3 18 rfl rfl)
theorem dJ29_putTreeVal_90 : decode cJ29_putTreeVal 90 = .ok (.ifnonnull 14, 3) := dk_199 0 14 (dk_at dksJ29_putTreeVal_3 20 rfl rfl)
theorem dJ29_putTreeVal_93 : decode cJ29_putTreeVal 93 = .ok (.aload 4, 2) := dk_25 4 (dk_at dksJ29_putTreeVal_4 0 rfl rfl)
theorem dJ29_putTreeVal_95 : decode cJ29_putTreeVal 95 = .ok (.invokestatic 55, 3) := dk_184 0 55 (dk_at dksJ29_putTreeVal_4 2 rfl rfl)
theorem dJ29_putTreeVal_98 : decode cJ29_putTreeVal 98 = .ok (.dup, 1) := dk_89 (dk_at dksJ29_putTreeVal_4 5 rfl rfl)
theorem dJ29_putTreeVal_99 : decode cJ29_putTreeVal 99 = .ok (.astore 6, 2) := dk_58 6 (dk_at dksJ29_putTreeVal_4 6 rfl rfl)
theorem dJ29_putTreeVal_101 : decode cJ29_putTreeVal 101 = .ok (.ifnull 18, 3) := dk_198 0 18 (dk_at dksJ29_putTreeVal_4 8 rfl rfl)
theorem dJ29_putTreeVal_104 : decode cJ29_putTreeVal 104 = .ok (.aload 6, 2) := dk_25 6 (dk_at dksJ29_putTreeVal_4 11 rfl rfl)
theorem dJ29_putTreeVal_106 : decode cJ29_putTreeVal 106 = .ok (.aload 4, 2) := dk_25 4 (dk_at dksJ29_putTreeVal_4 13 rfl rfl)
theorem dJ29_putTreeVal_108 : decode cJ29_putTreeVal 108 = .ok (.aload 12, 2) := dk_25 12 (dk_at dksJ29_putTreeVal_4 15 rfl rfl)
theorem dJ29_putTreeVal_110 : decode cJ29_putTreeVal 110 = .ok (.invokestatic 59, 3) := dk_184 0 59 (dk_at dksJ29_putTreeVal_4 17 rfl rfl)
theorem dJ29_putTreeVal_113 : decode cJ29_putTreeVal 113 = .ok (.dup, 1) := dk_89 (dk_at dksJ29_putTreeVal_4 20 rfl rfl)
theorem dJ29_putTreeVal_114 : decode cJ29_putTreeVal 114 = .ok (.istore 10, 2) := dk_54 10 (dk_at dksJ29_putTreeVal_4 21 rfl rfl)
theorem dJ29_putTreeVal_116 : decode cJ29_putTreeVal 116 = .ok (.ifCond .ne 77, 3) := dk_154 0 77 (dk_at dksJ29_putTreeVal_5 0 rfl rfl)
theorem dJ29_putTreeVal_119 : decode cJ29_putTreeVal 119 = .ok (.iload 7, 2) := dk_21 7 (dk_at dksJ29_putTreeVal_5 3 rfl rfl)
theorem dJ29_putTreeVal_121 : decode cJ29_putTreeVal 121 = .ok (.ifCond .ne 63, 3) := dk_154 0 63 (dk_at dksJ29_putTreeVal_5 5 rfl rfl)
theorem dJ29_putTreeVal_124 : decode cJ29_putTreeVal 124 = .ok (.iconst 1, 1) := dk_4 (dk_at dksJ29_putTreeVal_5 8 rfl rfl)
theorem dJ29_putTreeVal_125 : decode cJ29_putTreeVal 125 = .ok (.istore 7, 2) := dk_54 7 (dk_at dksJ29_putTreeVal_5 9 rfl rfl)
theorem dJ29_putTreeVal_127 : decode cJ29_putTreeVal 127 = .ok (.aload 9, 2) := dk_25 9 (dk_at dksJ29_putTreeVal_5 11 rfl rfl)
theorem dJ29_putTreeVal_129 : decode cJ29_putTreeVal 129 = .ok (.getfield 39, 3) := dk_180 0 39 (dk_at dksJ29_putTreeVal_5 13 rfl rfl)
theorem dJ29_putTreeVal_132 : decode cJ29_putTreeVal 132 = .ok (.dup, 1) := dk_89 (dk_at dksJ29_putTreeVal_5 16 rfl rfl)
theorem dJ29_putTreeVal_133 : decode cJ29_putTreeVal 133 = .ok (.astore 14, 2) := dk_58 14 (dk_at dksJ29_putTreeVal_5 17 rfl rfl)
theorem dJ29_putTreeVal_135 : decode cJ29_putTreeVal 135 = .ok (.ifnull 19, 3) := dk_198 0 19 (dk_at dksJ29_putTreeVal_5 19 rfl rfl)
theorem dJ29_putTreeVal_138 : decode cJ29_putTreeVal 138 = .ok (.aload 14, 2) := dk_25 14 (dk_at dksJ29_putTreeVal_5 22 rfl rfl)
theorem dJ29_putTreeVal_140 : decode cJ29_putTreeVal 140 = .ok (.iload_n 3, 1) := dk_29 (dk_at dksJ29_putTreeVal_6 0 rfl rfl)
theorem dJ29_putTreeVal_141 : decode cJ29_putTreeVal 141 = .ok (.aload 4, 2) := dk_25 4 (dk_at dksJ29_putTreeVal_6 1 rfl rfl)
theorem dJ29_putTreeVal_143 : decode cJ29_putTreeVal 143 = .ok (.aload 6, 2) := dk_25 6 (dk_at dksJ29_putTreeVal_6 3 rfl rfl)
theorem dJ29_putTreeVal_145 : decode cJ29_putTreeVal 145 = .ok (.invokevirtual 63, 3) := dk_182 0 63 (dk_at dksJ29_putTreeVal_6 5 rfl rfl)
theorem dJ29_putTreeVal_148 : decode cJ29_putTreeVal 148 = .ok (.dup, 1) := dk_89 (dk_at dksJ29_putTreeVal_6 8 rfl rfl)
theorem dJ29_putTreeVal_149 : decode cJ29_putTreeVal 149 = .ok (.astore 13, 2) := dk_58 13 (dk_at dksJ29_putTreeVal_6 9 rfl rfl)
theorem dJ29_putTreeVal_151 : decode cJ29_putTreeVal 151 = .ok (.ifnonnull 30, 3) := dk_199 0 30 (dk_at dksJ29_putTreeVal_6 11 rfl rfl)
theorem dJ29_putTreeVal_154 : decode cJ29_putTreeVal 154 = .ok (.aload 9, 2) := dk_25 9 (dk_at dksJ29_putTreeVal_6 14 rfl rfl)
theorem dJ29_putTreeVal_156 : decode cJ29_putTreeVal 156 = .ok (.getfield 42, 3) := dk_180 0 42 (dk_at dksJ29_putTreeVal_6 16 rfl rfl)
theorem dJ29_putTreeVal_159 : decode cJ29_putTreeVal 159 = .ok (.dup, 1) := dk_89 (dk_at dksJ29_putTreeVal_6 19 rfl rfl)
theorem dJ29_putTreeVal_160 : decode cJ29_putTreeVal 160 = .ok (.astore 14, 2) := dk_58 14 (dk_at dksJ29_putTreeVal_6 20 rfl rfl)
theorem dJ29_putTreeVal_162 : decode cJ29_putTreeVal 162 = .ok (.ifnull 22, 3) := dk_198 0 22 (dk_at dksJ29_putTreeVal_7 0 rfl rfl)
theorem dJ29_putTreeVal_165 : decode cJ29_putTreeVal 165 = .ok (.aload 14, 2) := dk_25 14 (dk_at dksJ29_putTreeVal_7 3 rfl rfl)
theorem dJ29_putTreeVal_167 : decode cJ29_putTreeVal 167 = .ok (.iload_n 3, 1) := dk_29 (dk_at dksJ29_putTreeVal_7 5 rfl rfl)
theorem dJ29_putTreeVal_168 : decode cJ29_putTreeVal 168 = .ok (.aload 4, 2) := dk_25 4 (dk_at dksJ29_putTreeVal_7 6 rfl rfl)
theorem dJ29_putTreeVal_170 : decode cJ29_putTreeVal 170 = .ok (.aload 6, 2) := dk_25 6 (dk_at dksJ29_putTreeVal_7 8 rfl rfl)
theorem dJ29_putTreeVal_172 : decode cJ29_putTreeVal 172 = .ok (.invokevirtual 63, 3) := dk_182 0 63 (dk_at dksJ29_putTreeVal_7 10 rfl rfl)
theorem dJ29_putTreeVal_175 : decode cJ29_putTreeVal 175 = .ok (.dup, 1) := dk_89 (dk_at dksJ29_putTreeVal_7 13 rfl rfl)
theorem dJ29_putTreeVal_176 : decode cJ29_putTreeVal 176 = .ok (.astore 13, 2) := dk_58 13 (dk_at dksJ29_putTreeVal_7 14 rfl rfl)
theorem dJ29_putTreeVal_178 : decode cJ29_putTreeVal 178 = .ok (.ifnull 6, 3) := dk_198 0 6 (dk_at dksJ29_putTreeVal_7 16 rfl rfl)
theorem dJ29_putTreeVal_181 : decode cJ29_putTreeVal 181 = .ok (.aload 13, 2) := dk_25 13 (dk_at dksJ29_putTreeVal_7 19 rfl rfl)
theorem dJ29_putTreeVal_183 : decode cJ29_putTreeVal 183 = .ok (.areturn, 1) := dk_176 (dk_at dksJ29_putTreeVal_7 21 rfl rfl)
theorem dJ29_putTreeVal_184 : decode cJ29_putTreeVal 184 = .ok (.aload 4, 2) := dk_25 4 (dk_at dksJ29_putTreeVal_7 22 rfl rfl)
theorem dJ29_putTreeVal_186 : decode cJ29_putTreeVal 186 = .ok (.aload 12, 2) := dk_25 12 (dk_at dksJ29_putTreeVal_8 0 rfl rfl)
theorem dJ29_putTreeVal_188 : decode cJ29_putTreeVal 188 = .ok (.invokestatic 96, 3) := dk_184 0 96 (dk_at dksJ29_putTreeVal_8 2 rfl rfl)
theorem dJ29_putTreeVal_193 : decode cJ29_putTreeVal 193 = .ok (.aload 9, 2) := dk_25 9 (dk_at dksJ29_putTreeVal_8 7 rfl rfl)
theorem dJ29_putTreeVal_195 : decode cJ29_putTreeVal 195 = .ok (.astore 13, 2) := dk_58 13 (dk_at dksJ29_putTreeVal_8 9 rfl rfl)
theorem dJ29_putTreeVal_197 : decode cJ29_putTreeVal 197 = .ok (.iload 10, 2) := dk_21 10 (dk_at dksJ29_putTreeVal_8 11 rfl rfl)
theorem dJ29_putTreeVal_199 : decode cJ29_putTreeVal 199 = .ok (.ifCond .gt 11, 3) := dk_157 0 11 (dk_at dksJ29_putTreeVal_8 13 rfl rfl)
theorem dJ29_putTreeVal_202 : decode cJ29_putTreeVal 202 = .ok (.aload 9, 2) := dk_25 9 (dk_at dksJ29_putTreeVal_8 16 rfl rfl)
theorem dJ29_putTreeVal_204 : decode cJ29_putTreeVal 204 = .ok (.getfield 39, 3) := dk_180 0 39 (dk_at dksJ29_putTreeVal_8 18 rfl rfl)
theorem dJ29_putTreeVal_207 : decode cJ29_putTreeVal 207 = .ok (.goto 8, 3) := dk_167 0 8 (dk_at dksJ29_putTreeVal_8 21 rfl rfl)
theorem dJ29_putTreeVal_210 : decode cJ29_putTreeVal 210 = .ok (.aload 9, 2) := dk_25 9 (dk_at dksJ29_putTreeVal_9 0 rfl rfl)
theorem dJ29_putTreeVal_212 : decode cJ29_putTreeVal 212 = .ok (.getfield 42, 3) := dk_180 0 42 (dk_at dksJ29_putTreeVal_9 2 rfl rfl)
theorem dJ29_putTreeVal_215 : decode cJ29_putTreeVal 215 = .ok (.dup, 1) := dk_89 (dk_at dksJ29_putTreeVal_9 5 rfl rfl)
theorem dJ29_putTreeVal_216 : decode cJ29_putTreeVal 216 = .ok (.astore 9, 2) := dk_58 9 (dk_at dksJ29_putTreeVal_9 6 rfl rfl)
theorem dJ29_putTreeVal_218 : decode cJ29_putTreeVal 218 = .ok (.ifnonnull 93, 3) := dk_199 0 93 (dk_at dksJ29_putTreeVal_9 8 rfl rfl)
theorem dJ29_putTreeVal_221 : decode cJ29_putTreeVal 221 = .ok (.aload 13, 2) := dk_25 13 (dk_at dksJ29_putTreeVal_9 11 rfl rfl)
theorem dJ29_putTreeVal_223 : decode cJ29_putTreeVal 223 = .ok (.getfield 22, 3) := dk_180 0 22 (dk_at dksJ29_putTreeVal_9 13 rfl rfl)
theorem dJ29_putTreeVal_226 : decode cJ29_putTreeVal 226 = .ok (.astore 14, 2) := dk_58 14 (dk_at dksJ29_putTreeVal_9 16 rfl rfl)
theorem dJ29_putTreeVal_228 : decode cJ29_putTreeVal 228 = .ok (.aload_n 1, 1) := dk_43 (dk_at dksJ29_putTreeVal_9 18 rfl rfl)
theorem dJ29_putTreeVal_229 : decode cJ29_putTreeVal 229 = .ok (.iload_n 3, 1) := dk_29 (dk_at dksJ29_putTreeVal_9 19 rfl rfl)
theorem dJ29_putTreeVal_230 : decode cJ29_putTreeVal 230 = .ok (.aload 4, 2) := dk_25 4 (dk_at dksJ29_putTreeVal_9 20 rfl rfl)
theorem dJ29_putTreeVal_232 : decode cJ29_putTreeVal 232 = .ok (.aload 5, 2) := dk_25 5 (dk_at dksJ29_putTreeVal_9 22 rfl rfl)
theorem dJ29_putTreeVal_234 : decode cJ29_putTreeVal 234 = .ok (.aload 14, 2) := dk_25 14 (dk_at dksJ29_putTreeVal_10 0 rfl rfl)
theorem dJ29_putTreeVal_236 : decode cJ29_putTreeVal 236 = .ok (.invokevirtual 115, 3) := dk_182 0 115 (dk_at dksJ29_putTreeVal_10 2 rfl rfl)
theorem dJ29_putTreeVal_239 : decode cJ29_putTreeVal 239 = .ok (.astore 15, 2) := dk_58 15 (dk_at dksJ29_putTreeVal_10 5 rfl rfl)
theorem dJ29_putTreeVal_241 : decode cJ29_putTreeVal 241 = .ok (.iload 10, 2) := dk_21 10 (dk_at dksJ29_putTreeVal_10 7 rfl rfl)
theorem dJ29_putTreeVal_243 : decode cJ29_putTreeVal 243 = .ok (.ifCond .gt 13, 3) := dk_157 0 13 (dk_at dksJ29_putTreeVal_10 9 rfl rfl)
theorem dJ29_putTreeVal_246 : decode cJ29_putTreeVal 246 = .ok (.aload 13, 2) := dk_25 13 (dk_at dksJ29_putTreeVal_10 12 rfl rfl)
theorem dJ29_putTreeVal_248 : decode cJ29_putTreeVal 248 = .ok (.aload 15, 2) := dk_25 15 (dk_at dksJ29_putTreeVal_10 14 rfl rfl)
theorem dJ29_putTreeVal_250 : decode cJ29_putTreeVal 250 = .ok (.putfield 39, 3) := dk_181 0 39 (dk_at dksJ29_putTreeVal_10 16 rfl rfl)
theorem dJ29_putTreeVal_253 : decode cJ29_putTreeVal 253 = .ok (.goto 10, 3) := dk_167 0 10 (dk_at dksJ29_putTreeVal_10 19 rfl rfl)
theorem dJ29_putTreeVal_256 : decode cJ29_putTreeVal 256 = .ok (.aload 13, 2) := dk_25 13 (dk_at dksJ29_putTreeVal_10 22 rfl rfl)
theorem dJ29_putTreeVal_258 : decode cJ29_putTreeVal 258 = .ok (.aload 15, 2) := dk_25 15 (dk_at dksJ29_putTreeVal_11 0 rfl rfl)
theorem dJ29_putTreeVal_260 : decode cJ29_putTreeVal 260 = .ok (.putfield 42, 3) := dk_181 0 42 (dk_at dksJ29_putTreeVal_11 2 rfl rfl)
theorem dJ29_putTreeVal_263 : decode cJ29_putTreeVal 263 = .ok (.aload 13, 2) := dk_25 13 (dk_at dksJ29_putTreeVal_11 5 rfl rfl)
theorem dJ29_putTreeVal_265 : decode cJ29_putTreeVal 265 = .ok (.aload 15, 2) := dk_25 15 (dk_at dksJ29_putTreeVal_11 7 rfl rfl)
theorem dJ29_putTreeVal_267 : decode cJ29_putTreeVal 267 = .ok (.putfield 22, 3) := dk_181 0 22 (dk_at dksJ29_putTreeVal_11 9 rfl rfl)
theorem dJ29_putTreeVal_270 : decode cJ29_putTreeVal 270 = .ok (.aload 15, 2) := dk_25 15 (dk_at dksJ29_putTreeVal_11 12 rfl rfl)
theorem dJ29_putTreeVal_272 : decode cJ29_putTreeVal 272 = .ok (.aload 15, 2) := dk_25 15 (dk_at dksJ29_putTreeVal_11 14 rfl rfl)
theorem dJ29_putTreeVal_274 : decode cJ29_putTreeVal 274 = .ok (.aload 13, 2) := dk_25 13 (dk_at dksJ29_putTreeVal_11 16 rfl rfl)
theorem dJ29_putTreeVal_276 : decode cJ29_putTreeVal 276 = .ok (.dup_x1, 1) := dk_90 (dk_at dksJ29_putTreeVal_11 18 rfl rfl)
theorem dJ29_putTreeVal_277 : decode cJ29_putTreeVal 277 = .ok (.putfield 19, 3) := dk_181 0 19 (dk_at dksJ29_putTreeVal_11 19 rfl rfl)
theorem dJ29_putTreeVal_280 : decode cJ29_putTreeVal 280 = .ok (.putfield 9, 3) := dk_181 0 9 (dk_at dksJ29_putTreeVal_12 0 rfl rfl)
theorem dJ29_putTreeVal_283 : decode cJ29_putTreeVal 283 = .ok (.aload 14, 2) := dk_25 14 (dk_at dksJ29_putTreeVal_12 3 rfl rfl)
theorem dJ29_putTreeVal_285 : decode cJ29_putTreeVal 285 = .ok (.ifnull 13, 3) := dk_198 0 13 (dk_at dksJ29_putTreeVal_12 5 rfl rfl)
theorem dJ29_putTreeVal_288 : decode cJ29_putTreeVal 288 = .ok (.aload 14, 2) := dk_25 14 (dk_at dksJ29_putTreeVal_12 8 rfl rfl)
theorem dJ29_putTreeVal_290 : decode cJ29_putTreeVal 290 = .ok (.checkcast 10, 3) := dk_192 0 10 (dk_at dksJ29_putTreeVal_12 10 rfl rfl)
theorem dJ29_putTreeVal_293 : decode cJ29_putTreeVal 293 = .ok (.aload 15, 2) := dk_25 15 (dk_at dksJ29_putTreeVal_12 13 rfl rfl)
theorem dJ29_putTreeVal_295 : decode cJ29_putTreeVal 295 = .ok (.putfield 19, 3) := dk_181 0 19 (dk_at dksJ29_putTreeVal_12 15 rfl rfl)
theorem dJ29_putTreeVal_298 : decode cJ29_putTreeVal 298 = .ok (.aload_n 2, 1) := dk_44 (dk_at dksJ29_putTreeVal_12 18 rfl rfl)
theorem dJ29_putTreeVal_299 : decode cJ29_putTreeVal 299 = .ok (.aload 8, 2) := dk_25 8 (dk_at dksJ29_putTreeVal_12 19 rfl rfl)
theorem dJ29_putTreeVal_301 : decode cJ29_putTreeVal 301 = .ok (.aload 15, 2) := dk_25 15 (dk_at dksJ29_putTreeVal_12 21 rfl rfl)
theorem dJ29_putTreeVal_303 : decode cJ29_putTreeVal 303 = .ok (.invokestatic 100, 3) := dk_184 0 100 (dk_at dksJ29_putTreeVal_13 0 rfl rfl)
theorem dJ29_putTreeVal_306 : decode cJ29_putTreeVal 306 = .ok (.invokestatic 104, 3) := dk_184 0 104 (dk_at dksJ29_putTreeVal_13 3 rfl rfl)
theorem dJ29_putTreeVal_309 : decode cJ29_putTreeVal 309 = .ok (.aconst_null, 1) := dk_1 (dk_at dksJ29_putTreeVal_13 6 rfl rfl)
theorem dJ29_putTreeVal_310 : decode cJ29_putTreeVal 310 = .ok (.areturn, 1) := dk_176 (dk_at dksJ29_putTreeVal_13 7 rfl rfl)
theorem dJ29_putTreeVal_311 : decode cJ29_putTreeVal 311 = .ok (.goto (-284), 3) := dk_167 254 228 (dk_at dksJ29_putTreeVal_13 8 rfl rfl)
theorem q1667 : (Jvm.Cond.code ({ cls := "java/util/HashMap$TreeNode", name := "root", desc := "()Ljava/util/HashMap$TreeNode;" } : Jvm.MethodName) prog_65_method_2_code (3 : Nat) (Option.some (Jvm.ClassFile.FieldType.object "java/util/HashMap$TreeNode"))) ∈ lw_all := lw_g (lw_at lw_m7 147 rfl) rfl
theorem zk_J29_root : zz_cd yJ29_root cJ29_root 3 (some (.object "java/util/HashMap$TreeNode")) none ∈ lw_all := q1667
theorem zy_J29_root : zz_yok yJ29_root 0 = true := by decide +kernel
theorem q1664 : (Jvm.Cond.methodLink "java/util/HashMap$TreeNode" (67 : Nat) ({ cls := "java/util/HashMap$TreeNode", name := "root", desc := "()Ljava/util/HashMap$TreeNode;" } : Jvm.MethodName)) ∈ lw_all := lw_g (lw_at lw_m7 144 rfl) rfl
theorem q1665 : (Jvm.Cond.instanceMethod ({ cls := "java/util/HashMap$TreeNode", name := "root", desc := "()Ljava/util/HashMap$TreeNode;" } : Jvm.MethodName)) ∈ lw_all := lw_g (lw_at lw_m7 145 rfl) rfl
theorem q1666 : (Jvm.Cond.selects "java/util/HashMap$TreeNode" ({ cls := "java/util/HashMap$TreeNode", name := "root", desc := "()Ljava/util/HashMap$TreeNode;" } : Jvm.MethodName) ({ cls := "java/util/HashMap$TreeNode", name := "root", desc := "()Ljava/util/HashMap$TreeNode;" } : Jvm.MethodName)) ∈ lw_all := lw_g (lw_at lw_m7 146 rfl) rfl
theorem q1676 : (Jvm.Cond.code ({ cls := "java/util/HashMap", name := "newTreeNode", desc := "(ILjava/lang/Object;Ljava/lang/Object;Ljava/util/HashMap$Node;)Ljava/util/HashMap$TreeNode;" } : Jvm.MethodName) prog_63_method_48_code (5 : Nat) (Option.some (Jvm.ClassFile.FieldType.object "java/util/HashMap$TreeNode"))) ∈ lw_all := lw_g (lw_at lw_m7 156 rfl) rfl
theorem zk_J4_newTreeNode : zz_cd yJ4_newTreeNode cJ4_newTreeNode 5 (some (.object "java/util/HashMap$TreeNode")) none ∈ lw_all := q1676
theorem zy_J4_newTreeNode : zz_yok yJ4_newTreeNode 4 = true := by decide +kernel
theorem q1673 : (Jvm.Cond.methodLink "java/util/HashMap$TreeNode" (115 : Nat) ({ cls := "java/util/HashMap", name := "newTreeNode", desc := "(ILjava/lang/Object;Ljava/lang/Object;Ljava/util/HashMap$Node;)Ljava/util/HashMap$TreeNode;" } : Jvm.MethodName)) ∈ lw_all := lw_g (lw_at lw_m7 153 rfl) rfl
theorem q1674 : (Jvm.Cond.instanceMethod ({ cls := "java/util/HashMap", name := "newTreeNode", desc := "(ILjava/lang/Object;Ljava/lang/Object;Ljava/util/HashMap$Node;)Ljava/util/HashMap$TreeNode;" } : Jvm.MethodName)) ∈ lw_all := lw_g (lw_at lw_m7 154 rfl) rfl
theorem q1675 : (Jvm.Cond.selects "java/util/HashMap" ({ cls := "java/util/HashMap", name := "newTreeNode", desc := "(ILjava/lang/Object;Ljava/lang/Object;Ljava/util/HashMap$Node;)Ljava/util/HashMap$TreeNode;" } : Jvm.MethodName) ({ cls := "java/util/HashMap", name := "newTreeNode", desc := "(ILjava/lang/Object;Ljava/lang/Object;Ljava/util/HashMap$Node;)Ljava/util/HashMap$TreeNode;" } : Jvm.MethodName)) ∈ lw_all := lw_g (lw_at lw_m7 155 rfl) rfl
theorem q1606 : (Jvm.Cond.code ({ cls := "java/util/HashMap$TreeNode", name := "balanceInsertion", desc := "(Ljava/util/HashMap$TreeNode;Ljava/util/HashMap$TreeNode;)Ljava/util/HashMap$TreeNode;" } : Jvm.MethodName) prog_65_method_14_code (6 : Nat) (Option.some (Jvm.ClassFile.FieldType.object "java/util/HashMap$TreeNode"))) ∈ lw_all := lw_g (lw_at lw_m7 86 rfl) rfl
theorem zk_J29_balanceInsertion : zz_cd yJ29_balanceInsertion cJ29_balanceInsertion 6 (some (.object "java/util/HashMap$TreeNode")) none ∈ lw_all := q1606
theorem zy_J29_balanceInsertion : zz_yok yJ29_balanceInsertion 2 = true := by decide +kernel
theorem q1615 : (Jvm.Cond.code ({ cls := "java/util/HashMap$TreeNode", name := "moveRootToFront", desc := "([Ljava/util/HashMap$Node;Ljava/util/HashMap$TreeNode;)V" } : Jvm.MethodName) prog_65_method_3_code (7 : Nat) (Option.none : Option Jvm.ClassFile.FieldType)) ∈ lw_all := lw_g (lw_at lw_m7 95 rfl) rfl
theorem zk_J29_moveRootToFront : zz_cd yJ29_moveRootToFront cJ29_moveRootToFront 7 none none ∈ lw_all := q1615
theorem zy_J29_moveRootToFront : zz_yok yJ29_moveRootToFront 2 = true := by decide +kernel
theorem q1613 : (Jvm.Cond.methodLink "java/util/HashMap$TreeNode" (104 : Nat) ({ cls := "java/util/HashMap$TreeNode", name := "moveRootToFront", desc := "([Ljava/util/HashMap$Node;Ljava/util/HashMap$TreeNode;)V" } : Jvm.MethodName)) ∈ lw_all := lw_g (lw_at lw_m7 93 rfl) rfl
theorem q1614 : (Jvm.Cond.static ({ cls := "java/util/HashMap$TreeNode", name := "moveRootToFront", desc := "([Ljava/util/HashMap$Node;Ljava/util/HashMap$TreeNode;)V" } : Jvm.MethodName)) ∈ lw_all := lw_g (lw_at lw_m7 94 rfl) rfl
theorem q1604 : (Jvm.Cond.methodLink "java/util/HashMap$TreeNode" (100 : Nat) ({ cls := "java/util/HashMap$TreeNode", name := "balanceInsertion", desc := "(Ljava/util/HashMap$TreeNode;Ljava/util/HashMap$TreeNode;)Ljava/util/HashMap$TreeNode;" } : Jvm.MethodName)) ∈ lw_all := lw_g (lw_at lw_m7 84 rfl) rfl
theorem q1605 : (Jvm.Cond.static ({ cls := "java/util/HashMap$TreeNode", name := "balanceInsertion", desc := "(Ljava/util/HashMap$TreeNode;Ljava/util/HashMap$TreeNode;)Ljava/util/HashMap$TreeNode;" } : Jvm.MethodName)) ∈ lw_all := lw_g (lw_at lw_m7 85 rfl) rfl
def wp_J29_putTreeVal_B85 (Z : zzG) (K : Option Value → zzM → Prop) (v9 : Option Nat) (M : zzM) (bc bs : Nat) : Prop := K (some (va_rf v9)) M
def wp_J29_putTreeVal_B181 (Z : zzG) (K : Option Value → zzM → Prop) (v13 : Option Nat) (M : zzM) (bc bs : Nat) : Prop := K (some (va_rf v13)) M
def wp_J29_putTreeVal_B184 (Z : zzG) (K : Option Value → zzM → Prop) (v4 : Option Nat) (v12 : Option Nat) (M : zzM) (bc bs : Nat) : Prop := False
def wp_J29_putTreeVal_B154 (Z : zzG) (K : Option Value → zzM → Prop) (v3 : Int32) (v4 : Option Nat) (v6 : Option Nat) (v9 : Option Nat) (v12 : Option Nat) (M : zzM) (bc bs : Nat) : Prop := zgA Z M v9 [25] 6 fun x48 => if x48 = none then (wp_J29_putTreeVal_B184 Z K v4 v12 M bc bs) else (zty Z M x48 fun t => t = 25 ∧ wp_J29_find Z x48 v3 v4 v6 M (fun r49 M50 => zrA r49 fun x53 => if x53 = none then (wp_J29_putTreeVal_B184 Z K v4 v12 M50 bc bs) else (wp_J29_putTreeVal_B181 Z K x53 M50 bc bs)))
def wp_J29_putTreeVal_B119 (Z : zzG) (K : Option Value → zzM → Prop) (v3 : Int32) (v4 : Option Nat) (v6 : Option Nat) (v7 : Int32) (v9 : Option Nat) (v12 : Option Nat) (M : zzM) (bc bs : Nat) : Prop := if v7 = 0 then (zgA Z M v9 [25] 5 fun x42 => if x42 = none then (wp_J29_putTreeVal_B154 Z K v3 v4 v6 v9 v12 M bc bs) else (zty Z M x42 fun t => t = 25 ∧ wp_J29_find Z x42 v3 v4 v6 M (fun r43 M44 => zrA r43 fun x47 => if x47 = none then (wp_J29_putTreeVal_B154 Z K v3 v4 v6 v9 v12 M44 bc bs) else (wp_J29_putTreeVal_B181 Z K x47 M44 bc bs)))) else (wp_J29_putTreeVal_B184 Z K v4 v12 M bc bs)
def wp_J29_putTreeVal_B298 (Z : zzG) (K : Option Value → zzM → Prop) (v2 : Option Nat) (v8 : Option Nat) (v15 : Option Nat) (M : zzM) (bc bs : Nat) : Prop := wp_J29_balanceInsertion Z v8 v15 M (fun r28 M29 => zrA r28 fun x32 => wp_J29_moveRootToFront Z v2 x32 M29 (fun r33 M34 => zrV r33 (K (some (va_rf none)) M34)))
def wp_J29_putTreeVal_B263 (Z : zzG) (K : Option Value → zzM → Prop) (v2 : Option Nat) (v8 : Option Nat) (v13 : Option Nat) (v14 : Option Nat) (v15 : Option Nat) (M : zzM) (bc bs : Nat) : Prop := zput Z M v13 [25] 3 (va_rf v15) fun M24 => zput Z M24 v15 [25] 7 (va_rf v13) fun M25 => zput Z M25 v15 [25] 4 (va_rf v13) fun M26 => if v14 = none then (wp_J29_putTreeVal_B298 Z K v2 v8 v15 M26 bc bs) else (zcast Z M26 v14 [25] <| zput Z M26 v14 [25] 7 (va_rf v15) fun M27 => wp_J29_putTreeVal_B298 Z K v2 v8 v15 M27 bc bs)
def wp_J29_putTreeVal_B215 (Z : zzG) (k27 : Option Nat → Option Nat → Int32 → Option Nat → Option Nat → Option Nat → Int32 → Option Nat → Option Nat → zzM → Nat → Nat → Prop) (K : Option Value → zzM → Prop) (v1 : Option Nat) (v2 : Option Nat) (v3 : Int32) (v4 : Option Nat) (v5 : Option Nat) (v6 : Option Nat) (v7 : Int32) (v8 : Option Nat) (v10 : Int32) (v13 : Option Nat) (s0 : Option Nat) (M : zzM) (bc bs : Nat) : Prop := if s0 = none then (zgA Z M v13 [25] 3 fun x16 => zty Z M v1 fun t => t = 19 ∧ zcc bc bs (fun c s k => wp_J4_newTreeNode Z v1 v3 v4 v5 x16 M c s k) fun r17 M18 bc19 bs20 => zrA r17 fun x21 => if 0 < v10 then (zput Z M18 v13 [25] 6 (va_rf x21) fun M22 => wp_J29_putTreeVal_B263 Z K v2 v8 v13 x16 x21 M22 bc19 bs20) else (zput Z M18 v13 [25] 5 (va_rf x21) fun M23 => wp_J29_putTreeVal_B263 Z K v2 v8 v13 x16 x21 M23 bc19 bs20)) else (k27 v1 v2 v3 v4 v5 v6 v7 v8 s0 M bc bs)
def wp_J29_putTreeVal_B193 (Z : zzG) (k27 : Option Nat → Option Nat → Int32 → Option Nat → Option Nat → Option Nat → Int32 → Option Nat → Option Nat → zzM → Nat → Nat → Prop) (K : Option Value → zzM → Prop) (v1 : Option Nat) (v2 : Option Nat) (v3 : Int32) (v4 : Option Nat) (v5 : Option Nat) (v6 : Option Nat) (v7 : Int32) (v8 : Option Nat) (v9 : Option Nat) (v10 : Int32) (M : zzM) (bc bs : Nat) : Prop := if 0 < v10 then (zgA Z M v9 [25] 6 fun x14 => wp_J29_putTreeVal_B215 Z k27 K v1 v2 v3 v4 v5 v6 v7 v8 v10 v9 x14 M bc bs) else (zgA Z M v9 [25] 5 fun x15 => wp_J29_putTreeVal_B215 Z k27 K v1 v2 v3 v4 v5 v6 v7 v8 v10 v9 x15 M bc bs)
def wp_J29_putTreeVal_B104 (Z : zzG) (k27 : Option Nat → Option Nat → Int32 → Option Nat → Option Nat → Option Nat → Int32 → Option Nat → Option Nat → zzM → Nat → Nat → Prop) (K : Option Value → zzM → Prop) (v1 : Option Nat) (v2 : Option Nat) (v3 : Int32) (v4 : Option Nat) (v5 : Option Nat) (v6 : Option Nat) (v7 : Int32) (v8 : Option Nat) (v9 : Option Nat) (v12 : Option Nat) (M : zzM) (bc bs : Nat) : Prop := wp_J4_compareComparables Z v6 v4 v12 M (fun r54 M55 => zrI r54 fun x58 => if x58 = 0 then (wp_J29_putTreeVal_B119 Z K v3 v4 v6 v7 v9 v12 M55 bc bs) else (wp_J29_putTreeVal_B193 Z k27 K v1 v2 v3 v4 v5 v6 v7 v8 v9 x58 M55 bc bs))
def wp_J29_putTreeVal_B88 (Z : zzG) (k27 : Option Nat → Option Nat → Int32 → Option Nat → Option Nat → Option Nat → Int32 → Option Nat → Option Nat → zzM → Nat → Nat → Prop) (K : Option Value → zzM → Prop) (v1 : Option Nat) (v2 : Option Nat) (v3 : Int32) (v4 : Option Nat) (v5 : Option Nat) (v6 : Option Nat) (v7 : Int32) (v8 : Option Nat) (v9 : Option Nat) (v12 : Option Nat) (M : zzM) (bc bs : Nat) : Prop := if v6 = none then (wp_J4_comparableClassFor Z v4 M (fun r37 M38 => zrA r37 fun x41 => if x41 = none then (wp_J29_putTreeVal_B119 Z K v3 v4 x41 v7 v9 v12 M38 bc bs) else (wp_J29_putTreeVal_B104 Z k27 K v1 v2 v3 v4 v5 x41 v7 v8 v9 v12 M38 bc bs))) else (wp_J29_putTreeVal_B104 Z k27 K v1 v2 v3 v4 v5 v6 v7 v8 v9 v12 M bc bs)
def wp_J29_putTreeVal_L27 (Z : zzG) (K : Option Value → zzM → Prop) : Nat → Option Nat → Option Nat → Int32 → Option Nat → Option Nat → Option Nat → Int32 → Option Nat → Option Nat → zzM → Nat → Nat → Prop
  | 0, _, _, _, _, _, _, _, _, _, _, _, _ => False
  | n + 1, v1, v2, v3, v4, v5, v6, v7, v8, v9, M, bc, bs => zgI Z M v9 [25] 0 fun x7 => if x7 ≤ v3 then (if v3 ≤ x7 then (zgA Z M v9 [25] 1 fun x8 => if x8 = v4 then (wp_J29_putTreeVal_B85 Z K v9 M bc bs) else (if v4 = none then (wp_J29_putTreeVal_B88 Z (wp_J29_putTreeVal_L27 Z K n) K v1 v2 v3 v4 v5 v6 v7 v8 v9 x8 M bc bs) else (zty Z M v4 fun t => t = 21 ∧ wp_J7_equals Z v4 x8 M (fun r9 M10 => zrI r9 fun x13 => if x13 = 0 then (wp_J29_putTreeVal_B88 Z (wp_J29_putTreeVal_L27 Z K n) K v1 v2 v3 v4 v5 v6 v7 v8 v9 x8 M10 bc bs) else (wp_J29_putTreeVal_B85 Z K v9 M10 bc bs))))) else (wp_J29_putTreeVal_B193 Z (wp_J29_putTreeVal_L27 Z K n) K v1 v2 v3 v4 v5 v6 v7 v8 v9 (1 : Int32) M bc bs)) else (wp_J29_putTreeVal_B193 Z (wp_J29_putTreeVal_L27 Z K n) K v1 v2 v3 v4 v5 v6 v7 v8 v9 (-1 : Int32) M bc bs)
def wp_J29_putTreeVal_B21 (Z : zzG) (K : Option Value → zzM → Prop) (v1 : Option Nat) (v2 : Option Nat) (v3 : Int32) (v4 : Option Nat) (v5 : Option Nat) (v6 : Option Nat) (v7 : Int32) (s0 : Option Nat) (M : zzM) (bc bs : Nat) : Prop := ∃ n27 : Nat, wp_J29_putTreeVal_L27 Z K n27 v1 v2 v3 v4 v5 v6 v7 s0 s0 M bc bs
def wp_J29_putTreeVal (Z : zzG) (this : Option Nat) (p0 : Option Nat) (p1 : Option Nat) (p2 : Int32) (p3 : Option Nat) (p4 : Option Nat) (M : zzM) (bc bs : Nat) (K : Option Value → zzM → Prop) : Prop := zgA Z M this [25] 4 fun x1 => if x1 = none then (wp_J29_putTreeVal_B21 Z K p0 p1 p2 p3 p4 none (0 : Int32) this M bc bs) else (zty Z M this fun t => t = 25 ∧ wp_J29_root Z this M (fun r2 M3 => zrA r2 fun x6 => wp_J29_putTreeVal_B21 Z K p0 p1 p2 p3 p4 none (0 : Int32) x6 M3 bc bs))
theorem ok_J29_putTreeVal_B85 {G : zzX} (C : zz_C G cJ29_putTreeVal "java/util/HashMap$TreeNode" 16) {K : Option Value → zzM → Prop} (E : zz_E G (some (.object "java/util/HashMap$TreeNode")) K (fun _ _ _ => False)) (hH : zz_H G []) (hR : zz_Rm G 71) {v9 : Option Nat} {M : zzM} {bc bs : Nat} (hw : wp_J29_putTreeVal_B85 (zz_Zof G) K v9 M bc bs) : zz_T G 16 M bc bs 85 [(9, va_rf v9)] [] := by
  unfold wp_J29_putTreeVal_B85 at hw
  refine zz_aload C dJ29_putTreeVal_85 0 rfl ?_
  exact zz_aret C E (Or.inl ⟨_, rfl⟩) dJ29_putTreeVal_87 hw
theorem ok_J29_putTreeVal_B181 {G : zzX} (C : zz_C G cJ29_putTreeVal "java/util/HashMap$TreeNode" 16) {K : Option Value → zzM → Prop} (E : zz_E G (some (.object "java/util/HashMap$TreeNode")) K (fun _ _ _ => False)) (hH : zz_H G []) (hR : zz_Rm G 71) {v13 : Option Nat} {M : zzM} {bc bs : Nat} (hw : wp_J29_putTreeVal_B181 (zz_Zof G) K v13 M bc bs) : zz_T G 16 M bc bs 181 [(13, va_rf v13)] [] := by
  unfold wp_J29_putTreeVal_B181 at hw
  refine zz_aload C dJ29_putTreeVal_181 0 rfl ?_
  exact zz_aret C E (Or.inl ⟨_, rfl⟩) dJ29_putTreeVal_183 hw
theorem ok_J29_putTreeVal_B184 {G : zzX} (C : zz_C G cJ29_putTreeVal "java/util/HashMap$TreeNode" 16) {K : Option Value → zzM → Prop} (E : zz_E G (some (.object "java/util/HashMap$TreeNode")) K (fun _ _ _ => False)) (hH : zz_H G []) (hR : zz_Rm G 71) {v4 : Option Nat} {v12 : Option Nat} {M : zzM} {bc bs : Nat} (hw : wp_J29_putTreeVal_B184 (zz_Zof G) K v4 v12 M bc bs) : zz_T G 16 M bc bs 184 [(4, va_rf v4), (12, va_rf v12)] [] := by
  unfold wp_J29_putTreeVal_B184 at hw
  refine zz_aload C dJ29_putTreeVal_184 0 rfl ?_
  refine zz_aload C dJ29_putTreeVal_186 1 rfl ?_
  exact hw.elim
theorem ok_J29_putTreeVal_B154 {G : zzX} (C : zz_C G cJ29_putTreeVal "java/util/HashMap$TreeNode" 16) {K : Option Value → zzM → Prop} (E : zz_E G (some (.object "java/util/HashMap$TreeNode")) K (fun _ _ _ => False)) (hH : zz_H G []) (hR : zz_Rm G 71) {v3 : Int32} {v4 : Option Nat} {v6 : Option Nat} {v9 : Option Nat} {v12 : Option Nat} {M : zzM} {bc bs : Nat} (hw : wp_J29_putTreeVal_B154 (zz_Zof G) K v3 v4 v6 v9 v12 M bc bs) : zz_T G 16 M bc bs 154 [(3, .int v3), (4, va_rf v4), (6, va_rf v6), (9, va_rf v9), (12, va_rf v12)] [] := by
  unfold wp_J29_putTreeVal_B154 at hw
  refine zz_aload C dJ29_putTreeVal_154 3 rfl ?_
  refine zz_getA C dJ29_putTreeVal_156 (Or.inl q1687) zf_25_6_shMap_TreeNode hw (fun x48 hw => ?_)
  refine zz_dup C dJ29_putTreeVal_159 (zz_cat _) ?_
  refine zz_astore (lv' := [(14, va_rf x48), (3, .int v3), (4, va_rf v4), (6, va_rf v6), (9, va_rf v9), (12, va_rf v12)]) C dJ29_putTreeVal_160 (by decide) rfl ?_
  refine zz_ifnull (tgt := 184) C dJ29_putTreeVal_162 (by decide) hw (fun hw => ?_) (fun hw => ?_)
  · refine zz_subP [2, 5] rfl ?_
    exact ok_J29_putTreeVal_B184 C E hH hR hw
  · refine zz_aload C dJ29_putTreeVal_165 0 rfl ?_
    refine zz_iload_n C dJ29_putTreeVal_167 rfl 1 rfl ?_
    refine zz_aload C dJ29_putTreeVal_168 2 rfl ?_
    refine zz_aload C dJ29_putTreeVal_170 3 rfl ?_
    obtain ⟨a9, t9, b9, fs9, hro, hL, rfl, hw⟩ := ztyS hw
    refine zz_callV (r := (zR_25, zT_25, 11)) (As := [.int v3, va_rf v4, va_rf v6]) (rest := []) (mc := 0) (ms := 0) C hR hro dJ29_putTreeVal_172 (Or.inl q1669) q1670 (Or.inl q1671) zl_java_util_HashMap_TreeNode zk_J29_find (Or.inl rfl) zy_J29_find rfl (by decide) (by decide) hL (ok_J29_find (zz_hl C) hw) (Nat.zero_le _) (Nat.zero_le _) (zz_cat10 _ (Nat.le_of_ble_eq_true rfl)) (fun r49 M50 hw => zz_kA hw (fun x53 hw => ?_)) (fun _ _ _ h9 => h9.elim) rfl
    refine zz_dup C dJ29_putTreeVal_175 (zz_cat _) ?_
    refine zz_astore (lv' := [(13, va_rf x53), (14, va_rf x48), (3, .int v3), (4, va_rf v4), (6, va_rf v6), (9, va_rf v9), (12, va_rf v12)]) C dJ29_putTreeVal_176 (by decide) (by simp [zz_cat, zz_catI, zz_catJ, zz_catD]) ?_
    refine zz_ifnull (tgt := 184) C dJ29_putTreeVal_178 (by decide) hw (fun hw => ?_) (fun hw => ?_)
    · refine zz_subP [3, 6] rfl ?_
      exact ok_J29_putTreeVal_B184 C E hH hR hw
    · refine zz_subP [0] rfl ?_
      exact ok_J29_putTreeVal_B181 C E hH hR hw
theorem ok_J29_putTreeVal_B119 {G : zzX} (C : zz_C G cJ29_putTreeVal "java/util/HashMap$TreeNode" 16) {K : Option Value → zzM → Prop} (E : zz_E G (some (.object "java/util/HashMap$TreeNode")) K (fun _ _ _ => False)) (hH : zz_H G []) (hR : zz_Rm G 71) {v3 : Int32} {v4 : Option Nat} {v6 : Option Nat} {v7 : Int32} {v9 : Option Nat} {v12 : Option Nat} {M : zzM} {bc bs : Nat} (hw : wp_J29_putTreeVal_B119 (zz_Zof G) K v3 v4 v6 v7 v9 v12 M bc bs) : zz_T G 16 M bc bs 119 [(3, .int v3), (4, va_rf v4), (6, va_rf v6), (7, .int v7), (9, va_rf v9), (12, va_rf v12)] [] := by
  unfold wp_J29_putTreeVal_B119 at hw
  refine zz_iload C dJ29_putTreeVal_119 3 rfl ?_
  refine zz_if_ne (tgt := 184) C dJ29_putTreeVal_121 (by decide) hw (fun hw => ?_) (fun hw => ?_)
  · refine zz_subP [1, 5] rfl ?_
    exact ok_J29_putTreeVal_B184 C E hH hR hw
  · refine zz_iconst (v := (1 : Int32)) C dJ29_putTreeVal_124 (by decide) ?_
    refine zz_istore (lv' := [(7, .int (1 : Int32)), (3, .int v3), (4, va_rf v4), (6, va_rf v6), (9, va_rf v9), (12, va_rf v12)]) C dJ29_putTreeVal_125 (by decide) (by simp [zz_cat, zz_catI, zz_catJ, zz_catD]) ?_
    refine zz_aload C dJ29_putTreeVal_127 4 rfl ?_
    refine zz_getA C dJ29_putTreeVal_129 (Or.inl q1686) zf_25_5_shMap_TreeNode hw (fun x42 hw => ?_)
    refine zz_dup C dJ29_putTreeVal_132 (zz_cat _) ?_
    refine zz_astore (lv' := [(14, va_rf x42), (7, .int (1 : Int32)), (3, .int v3), (4, va_rf v4), (6, va_rf v6), (9, va_rf v9), (12, va_rf v12)]) C dJ29_putTreeVal_133 (by decide) rfl ?_
    refine zz_ifnull (tgt := 154) C dJ29_putTreeVal_135 (by decide) hw (fun hw => ?_) (fun hw => ?_)
    · refine zz_subP [2, 3, 4, 5, 6] rfl ?_
      exact ok_J29_putTreeVal_B154 C E hH hR hw
    · refine zz_aload C dJ29_putTreeVal_138 0 rfl ?_
      refine zz_iload_n C dJ29_putTreeVal_140 rfl 2 rfl ?_
      refine zz_aload C dJ29_putTreeVal_141 3 rfl ?_
      refine zz_aload C dJ29_putTreeVal_143 4 rfl ?_
      obtain ⟨a9, t9, b9, fs9, hro, hL, rfl, hw⟩ := ztyS hw
      refine zz_callV (r := (zR_25, zT_25, 11)) (As := [.int v3, va_rf v4, va_rf v6]) (rest := []) (mc := 0) (ms := 0) C hR hro dJ29_putTreeVal_145 (Or.inl q1669) q1670 (Or.inl q1671) zl_java_util_HashMap_TreeNode zk_J29_find (Or.inl rfl) zy_J29_find rfl (by decide) (by decide) hL (ok_J29_find (zz_hl C) hw) (Nat.zero_le _) (Nat.zero_le _) (zz_cat10 _ (Nat.le_of_ble_eq_true rfl)) (fun r43 M44 hw => zz_kA hw (fun x47 hw => ?_)) (fun _ _ _ h9 => h9.elim) rfl
      refine zz_dup C dJ29_putTreeVal_148 (zz_cat _) ?_
      refine zz_astore (lv' := [(13, va_rf x47), (14, va_rf x42), (7, .int (1 : Int32)), (3, .int v3), (4, va_rf v4), (6, va_rf v6), (9, va_rf v9), (12, va_rf v12)]) C dJ29_putTreeVal_149 (by decide) (by simp [zz_cat, zz_catI, zz_catJ, zz_catD]) ?_
      refine zz_ifnonnull (tgt := 181) C dJ29_putTreeVal_151 (by decide) hw (fun hw => ?_) (fun hw => ?_)
      · refine zz_subP [0] rfl ?_
        exact ok_J29_putTreeVal_B181 C E hH hR hw
      · refine zz_subP [3, 4, 5, 6, 7] rfl ?_
        exact ok_J29_putTreeVal_B154 C E hH hR hw
theorem ok_J29_putTreeVal_B298 {G : zzX} (C : zz_C G cJ29_putTreeVal "java/util/HashMap$TreeNode" 16) {K : Option Value → zzM → Prop} (E : zz_E G (some (.object "java/util/HashMap$TreeNode")) K (fun _ _ _ => False)) (hH : zz_H G []) (hR : zz_Rm G 71) {v2 : Option Nat} {v8 : Option Nat} {v15 : Option Nat} {M : zzM} {bc bs : Nat} (hw : wp_J29_putTreeVal_B298 (zz_Zof G) K v2 v8 v15 M bc bs) : zz_T G 16 M bc bs 298 [(2, va_rf v2), (8, va_rf v8), (15, va_rf v15)] [] := by
  unfold wp_J29_putTreeVal_B298 at hw
  refine zz_aload_n C dJ29_putTreeVal_298 rfl 0 rfl ?_
  refine zz_aload C dJ29_putTreeVal_299 1 rfl ?_
  refine zz_aload C dJ29_putTreeVal_301 2 rfl ?_
  refine zz_callS (As := [va_rf v8, va_rf v15]) (rest := [va_rf v2]) (mc := 0) (ms := 0) C hR dJ29_putTreeVal_303 (Or.inl q1604) q1605 zl_java_util_HashMap_TreeNode zk_J29_balanceInsertion (Or.inl rfl) zy_J29_balanceInsertion (by decide) (by decide) (ok_J29_balanceInsertion (zz_hl C) hw) (Nat.zero_le _) (Nat.zero_le _) (zz_cat10 _ (Nat.le_of_ble_eq_true rfl)) (fun r28 M29 hw => zz_kA hw (fun x32 hw => ?_)) (fun _ _ _ h9 => h9.elim) rfl
  refine zz_callS (As := [va_rf v2, va_rf x32]) (rest := []) (mc := 0) (ms := 0) C hR dJ29_putTreeVal_306 (Or.inl q1613) q1614 zl_java_util_HashMap_TreeNode zk_J29_moveRootToFront (Or.inl rfl) zy_J29_moveRootToFront (by decide) (by decide) (ok_J29_moveRootToFront (zz_hl C) hw) (Nat.zero_le _) (Nat.zero_le _) (zz_cat10 _ (Nat.le_of_ble_eq_true rfl)) (fun r33 M34 hw => zz_kV hw (fun hw => ?_)) (fun _ _ _ h9 => h9.elim) rfl
  refine zz_null C dJ29_putTreeVal_309 ?_
  exact zz_aret C E (Or.inl ⟨_, rfl⟩) dJ29_putTreeVal_310 hw
theorem ok_J29_putTreeVal_B263 {G : zzX} (C : zz_C G cJ29_putTreeVal "java/util/HashMap$TreeNode" 16) {K : Option Value → zzM → Prop} (E : zz_E G (some (.object "java/util/HashMap$TreeNode")) K (fun _ _ _ => False)) (hH : zz_H G []) (hR : zz_Rm G 71) {v2 : Option Nat} {v8 : Option Nat} {v13 : Option Nat} {v14 : Option Nat} {v15 : Option Nat} {M : zzM} {bc bs : Nat} (hw : wp_J29_putTreeVal_B263 (zz_Zof G) K v2 v8 v13 v14 v15 M bc bs) : zz_T G 16 M bc bs 263 [(2, va_rf v2), (8, va_rf v8), (13, va_rf v13), (14, va_rf v14), (15, va_rf v15)] [] := by
  unfold wp_J29_putTreeVal_B263 at hw
  refine zz_aload C dJ29_putTreeVal_263 2 rfl ?_
  refine zz_aload C dJ29_putTreeVal_265 4 rfl ?_
  refine zz_put C dJ29_putTreeVal_267 (Or.inl q1364) zf_25_3_shMap_TreeNode zp_25_3 (zz_hn1 (zz_nA _ rfl v15)) hw (fun M24 hw => ?_)
  refine zz_aload C dJ29_putTreeVal_270 4 rfl ?_
  refine zz_aload C dJ29_putTreeVal_272 4 rfl ?_
  refine zz_aload C dJ29_putTreeVal_274 2 rfl ?_
  refine zz_dup_x1 C dJ29_putTreeVal_276 (zz_cat _) (zz_cat _) ?_
  refine zz_put C dJ29_putTreeVal_277 (Or.inl q1688) zf_25_7_shMap_TreeNode zp_25_7 (zz_hn1 (zz_nA _ rfl v13)) hw (fun M25 hw => ?_)
  refine zz_put C dJ29_putTreeVal_280 (Or.inl q1685) zf_25_4_shMap_TreeNode zp_25_4 (zz_hn1 (zz_nA _ rfl v13)) hw (fun M26 hw => ?_)
  refine zz_aload C dJ29_putTreeVal_283 3 rfl ?_
  refine zz_ifnull (tgt := 298) C dJ29_putTreeVal_285 (by decide) hw (fun hw => ?_) (fun hw => ?_)
  · refine zz_subP [0, 1, 4] rfl ?_
    exact ok_J29_putTreeVal_B298 C E hH hR hw
  · refine zz_aload C dJ29_putTreeVal_288 3 rfl ?_
    refine zz_cast C dJ29_putTreeVal_290 q1339 zc_25_shMap_TreeNode hw (fun hw => ?_)
    refine zz_aload C dJ29_putTreeVal_293 4 rfl ?_
    refine zz_put C dJ29_putTreeVal_295 (Or.inl q1688) zf_25_7_shMap_TreeNode zp_25_7 (zz_hn1 (zz_nA _ rfl v15)) hw (fun M27 hw => ?_)
    refine zz_subP [0, 1, 4] rfl ?_
    exact ok_J29_putTreeVal_B298 C E hH hR hw
theorem ok_J29_putTreeVal_B215 {G : zzX} (C : zz_C G cJ29_putTreeVal "java/util/HashMap$TreeNode" 16) {K : Option Value → zzM → Prop} (E : zz_E G (some (.object "java/util/HashMap$TreeNode")) K (fun _ _ _ => False)) (hH : zz_H G []) (hR : zz_Rm G 71) {k27 : Option Nat → Option Nat → Int32 → Option Nat → Option Nat → Option Nat → Int32 → Option Nat → Option Nat → zzM → Nat → Nat → Prop} (hk27 : ∀ (z0 : Option Nat) (z1 : Option Nat) (z2 : Int32) (z3 : Option Nat) (z4 : Option Nat) (z5 : Option Nat) (z6 : Int32) (z7 : Option Nat) (z8 : Option Nat) (M : zzM) (bc bs : Nat), k27 z0 z1 z2 z3 z4 z5 z6 z7 z8 M bc bs → zz_T G 16 M bc bs 27 [(1, va_rf z0), (2, va_rf z1), (3, .int z2), (4, va_rf z3), (5, va_rf z4), (6, va_rf z5), (7, .int z6), (8, va_rf z7), (9, va_rf z8)] []) {v1 : Option Nat} {v2 : Option Nat} {v3 : Int32} {v4 : Option Nat} {v5 : Option Nat} {v6 : Option Nat} {v7 : Int32} {v8 : Option Nat} {v10 : Int32} {v13 : Option Nat} {s0 : Option Nat} {M : zzM} {bc bs : Nat} (hw : wp_J29_putTreeVal_B215 (zz_Zof G) k27 K v1 v2 v3 v4 v5 v6 v7 v8 v10 v13 s0 M bc bs) : zz_T G 16 M bc bs 215 [(1, va_rf v1), (2, va_rf v2), (3, .int v3), (4, va_rf v4), (5, va_rf v5), (6, va_rf v6), (7, .int v7), (8, va_rf v8), (10, .int v10), (13, va_rf v13)] [va_rf s0] := by
  unfold wp_J29_putTreeVal_B215 at hw
  refine zz_dup C dJ29_putTreeVal_215 (zz_cat _) ?_
  refine zz_astore (lv' := [(9, va_rf s0), (1, va_rf v1), (2, va_rf v2), (3, .int v3), (4, va_rf v4), (5, va_rf v5), (6, va_rf v6), (7, .int v7), (8, va_rf v8), (10, .int v10), (13, va_rf v13)]) C dJ29_putTreeVal_216 (by decide) (by simp [zz_cat, zz_catI, zz_catJ, zz_catD]) ?_
  refine zz_ifnonnull (tgt := 311) C dJ29_putTreeVal_218 (by decide) hw (fun hw => ?_) (fun hw => ?_)
  · refine zz_goto (tgt := 27) C dJ29_putTreeVal_311 (by decide) ?_
    refine zz_subP [1, 2, 3, 4, 5, 6, 7, 8, 0] rfl ?_
    exact hk27 _ _ _ _ _ _ _ _ _ _ _ _ hw
  · refine zz_aload C dJ29_putTreeVal_221 10 rfl ?_
    refine zz_getA C dJ29_putTreeVal_223 (Or.inl q1364) zf_25_3_shMap_TreeNode hw (fun x16 hw => ?_)
    refine zz_astore (lv' := [(14, va_rf x16), (9, va_rf s0), (1, va_rf v1), (2, va_rf v2), (3, .int v3), (4, va_rf v4), (5, va_rf v5), (6, va_rf v6), (7, .int v7), (8, va_rf v8), (10, .int v10), (13, va_rf v13)]) C dJ29_putTreeVal_226 (by decide) (by simp [zz_cat, zz_catI, zz_catJ, zz_catD]) ?_
    refine zz_aload_n C dJ29_putTreeVal_228 rfl 2 rfl ?_
    refine zz_iload_n C dJ29_putTreeVal_229 rfl 4 rfl ?_
    refine zz_aload C dJ29_putTreeVal_230 5 rfl ?_
    refine zz_aload C dJ29_putTreeVal_232 6 rfl ?_
    refine zz_aload C dJ29_putTreeVal_234 0 rfl ?_
    obtain ⟨a9, t9, b9, fs9, hro, hL, rfl, hw⟩ := ztyS hw
    obtain ⟨c9, s9, hc9, hs9, hw⟩ := hw
    refine zz_callV (r := (zR_19, zT_19, 8)) (As := [.int v3, va_rf v4, va_rf v5, va_rf x16]) (rest := []) C hR hro dJ29_putTreeVal_236 (Or.inl q1673) q1674 (Or.inl q1675) zl_java_util_HashMap zk_J4_newTreeNode (Or.inl rfl) zy_J4_newTreeNode rfl (by decide) (by decide) hL (ok_J4_newTreeNode (zz_hl C) hw) hc9 hs9 (zz_cat10 _ (Nat.le_of_ble_eq_true rfl)) (fun r17 M18 hw => zz_kA hw (fun x21 hw => ?_)) (fun _ _ _ h9 => h9.elim) rfl
    refine zz_astore (lv' := [(15, va_rf x21), (14, va_rf x16), (9, va_rf s0), (1, va_rf v1), (2, va_rf v2), (3, .int v3), (4, va_rf v4), (5, va_rf v5), (6, va_rf v6), (7, .int v7), (8, va_rf v8), (10, .int v10), (13, va_rf v13)]) C dJ29_putTreeVal_239 (by decide) (by simp [zz_cat, zz_catI, zz_catJ, zz_catD]) ?_
    refine zz_iload C dJ29_putTreeVal_241 11 rfl ?_
    refine zz_if_gt (tgt := 256) C dJ29_putTreeVal_243 (by decide) hw (fun hw => ?_) (fun hw => ?_)
    · refine zz_aload C dJ29_putTreeVal_256 12 rfl ?_
      refine zz_aload C dJ29_putTreeVal_258 0 rfl ?_
      refine zz_put C dJ29_putTreeVal_260 (Or.inl q1687) zf_25_6_shMap_TreeNode zp_25_6 (zz_hn1 (zz_nA _ rfl x21)) hw (fun M22 hw => ?_)
      refine zz_subP [4, 10, 12, 1, 0] rfl ?_
      exact ok_J29_putTreeVal_B263 C E hH hR hw
    · refine zz_aload C dJ29_putTreeVal_246 12 rfl ?_
      refine zz_aload C dJ29_putTreeVal_248 0 rfl ?_
      refine zz_put C dJ29_putTreeVal_250 (Or.inl q1686) zf_25_5_shMap_TreeNode zp_25_5 (zz_hn1 (zz_nA _ rfl x21)) hw (fun M23 hw => ?_)
      refine zz_goto (tgt := 263) C dJ29_putTreeVal_253 (by decide) ?_
      refine zz_subP [4, 10, 12, 1, 0] rfl ?_
      exact ok_J29_putTreeVal_B263 C E hH hR hw
theorem ok_J29_putTreeVal_B193 {G : zzX} (C : zz_C G cJ29_putTreeVal "java/util/HashMap$TreeNode" 16) {K : Option Value → zzM → Prop} (E : zz_E G (some (.object "java/util/HashMap$TreeNode")) K (fun _ _ _ => False)) (hH : zz_H G []) (hR : zz_Rm G 71) {k27 : Option Nat → Option Nat → Int32 → Option Nat → Option Nat → Option Nat → Int32 → Option Nat → Option Nat → zzM → Nat → Nat → Prop} (hk27 : ∀ (z0 : Option Nat) (z1 : Option Nat) (z2 : Int32) (z3 : Option Nat) (z4 : Option Nat) (z5 : Option Nat) (z6 : Int32) (z7 : Option Nat) (z8 : Option Nat) (M : zzM) (bc bs : Nat), k27 z0 z1 z2 z3 z4 z5 z6 z7 z8 M bc bs → zz_T G 16 M bc bs 27 [(1, va_rf z0), (2, va_rf z1), (3, .int z2), (4, va_rf z3), (5, va_rf z4), (6, va_rf z5), (7, .int z6), (8, va_rf z7), (9, va_rf z8)] []) {v1 : Option Nat} {v2 : Option Nat} {v3 : Int32} {v4 : Option Nat} {v5 : Option Nat} {v6 : Option Nat} {v7 : Int32} {v8 : Option Nat} {v9 : Option Nat} {v10 : Int32} {M : zzM} {bc bs : Nat} (hw : wp_J29_putTreeVal_B193 (zz_Zof G) k27 K v1 v2 v3 v4 v5 v6 v7 v8 v9 v10 M bc bs) : zz_T G 16 M bc bs 193 [(1, va_rf v1), (2, va_rf v2), (3, .int v3), (4, va_rf v4), (5, va_rf v5), (6, va_rf v6), (7, .int v7), (8, va_rf v8), (9, va_rf v9), (10, .int v10)] [] := by
  unfold wp_J29_putTreeVal_B193 at hw
  refine zz_aload C dJ29_putTreeVal_193 8 rfl ?_
  refine zz_astore (lv' := [(13, va_rf v9), (1, va_rf v1), (2, va_rf v2), (3, .int v3), (4, va_rf v4), (5, va_rf v5), (6, va_rf v6), (7, .int v7), (8, va_rf v8), (9, va_rf v9), (10, .int v10)]) C dJ29_putTreeVal_195 (by decide) rfl ?_
  refine zz_iload C dJ29_putTreeVal_197 10 rfl ?_
  refine zz_if_gt (tgt := 210) C dJ29_putTreeVal_199 (by decide) hw (fun hw => ?_) (fun hw => ?_)
  · refine zz_aload C dJ29_putTreeVal_210 9 rfl ?_
    refine zz_getA C dJ29_putTreeVal_212 (Or.inl q1687) zf_25_6_shMap_TreeNode hw (fun x14 hw => ?_)
    refine zz_subP [1, 2, 3, 4, 5, 6, 7, 8, 10, 0] rfl ?_
    exact ok_J29_putTreeVal_B215 C E hH hR hk27 hw
  · refine zz_aload C dJ29_putTreeVal_202 9 rfl ?_
    refine zz_getA C dJ29_putTreeVal_204 (Or.inl q1686) zf_25_5_shMap_TreeNode hw (fun x15 hw => ?_)
    refine zz_goto (tgt := 215) C dJ29_putTreeVal_207 (by decide) ?_
    refine zz_subP [1, 2, 3, 4, 5, 6, 7, 8, 10, 0] rfl ?_
    exact ok_J29_putTreeVal_B215 C E hH hR hk27 hw
theorem ok_J29_putTreeVal_B104 {G : zzX} (C : zz_C G cJ29_putTreeVal "java/util/HashMap$TreeNode" 16) {K : Option Value → zzM → Prop} (E : zz_E G (some (.object "java/util/HashMap$TreeNode")) K (fun _ _ _ => False)) (hH : zz_H G []) (hR : zz_Rm G 71) {k27 : Option Nat → Option Nat → Int32 → Option Nat → Option Nat → Option Nat → Int32 → Option Nat → Option Nat → zzM → Nat → Nat → Prop} (hk27 : ∀ (z0 : Option Nat) (z1 : Option Nat) (z2 : Int32) (z3 : Option Nat) (z4 : Option Nat) (z5 : Option Nat) (z6 : Int32) (z7 : Option Nat) (z8 : Option Nat) (M : zzM) (bc bs : Nat), k27 z0 z1 z2 z3 z4 z5 z6 z7 z8 M bc bs → zz_T G 16 M bc bs 27 [(1, va_rf z0), (2, va_rf z1), (3, .int z2), (4, va_rf z3), (5, va_rf z4), (6, va_rf z5), (7, .int z6), (8, va_rf z7), (9, va_rf z8)] []) {v1 : Option Nat} {v2 : Option Nat} {v3 : Int32} {v4 : Option Nat} {v5 : Option Nat} {v6 : Option Nat} {v7 : Int32} {v8 : Option Nat} {v9 : Option Nat} {v12 : Option Nat} {M : zzM} {bc bs : Nat} (hw : wp_J29_putTreeVal_B104 (zz_Zof G) k27 K v1 v2 v3 v4 v5 v6 v7 v8 v9 v12 M bc bs) : zz_T G 16 M bc bs 104 [(1, va_rf v1), (2, va_rf v2), (3, .int v3), (4, va_rf v4), (5, va_rf v5), (6, va_rf v6), (7, .int v7), (8, va_rf v8), (9, va_rf v9), (12, va_rf v12)] [] := by
  unfold wp_J29_putTreeVal_B104 at hw
  refine zz_aload C dJ29_putTreeVal_104 5 rfl ?_
  refine zz_aload C dJ29_putTreeVal_106 3 rfl ?_
  refine zz_aload C dJ29_putTreeVal_108 9 rfl ?_
  refine zz_callS (As := [va_rf v6, va_rf v4, va_rf v12]) (rest := []) (mc := 0) (ms := 0) C hR dJ29_putTreeVal_110 (Or.inl q1388) q1389 zl_java_util_HashMap zk_J4_compareComparables (Or.inl rfl) zy_J4_compareComparables (by decide) (by decide) (ok_J4_compareComparables (zz_hl C) hw) (Nat.zero_le _) (Nat.zero_le _) (zz_cat10 _ (Nat.le_of_ble_eq_true rfl)) (fun r54 M55 hw => zz_kI hw (fun x58 hw => ?_)) (fun _ _ _ h9 => h9.elim) rfl
  refine zz_dup C dJ29_putTreeVal_113 rfl ?_
  refine zz_istore (lv' := [(10, .int x58), (1, va_rf v1), (2, va_rf v2), (3, .int v3), (4, va_rf v4), (5, va_rf v5), (6, va_rf v6), (7, .int v7), (8, va_rf v8), (9, va_rf v9), (12, va_rf v12)]) C dJ29_putTreeVal_114 (by decide) (by simp [zz_cat, zz_catI, zz_catJ, zz_catD]) ?_
  refine zz_if_ne (tgt := 193) C dJ29_putTreeVal_116 (by decide) hw (fun hw => ?_) (fun hw => ?_)
  · refine zz_subP [1, 2, 3, 4, 5, 6, 7, 8, 9, 0] rfl ?_
    exact ok_J29_putTreeVal_B193 C E hH hR hk27 hw
  · refine zz_subP [3, 4, 6, 7, 9, 10] rfl ?_
    exact ok_J29_putTreeVal_B119 C E hH hR hw
theorem ok_J29_putTreeVal_B88 {G : zzX} (C : zz_C G cJ29_putTreeVal "java/util/HashMap$TreeNode" 16) {K : Option Value → zzM → Prop} (E : zz_E G (some (.object "java/util/HashMap$TreeNode")) K (fun _ _ _ => False)) (hH : zz_H G []) (hR : zz_Rm G 71) {k27 : Option Nat → Option Nat → Int32 → Option Nat → Option Nat → Option Nat → Int32 → Option Nat → Option Nat → zzM → Nat → Nat → Prop} (hk27 : ∀ (z0 : Option Nat) (z1 : Option Nat) (z2 : Int32) (z3 : Option Nat) (z4 : Option Nat) (z5 : Option Nat) (z6 : Int32) (z7 : Option Nat) (z8 : Option Nat) (M : zzM) (bc bs : Nat), k27 z0 z1 z2 z3 z4 z5 z6 z7 z8 M bc bs → zz_T G 16 M bc bs 27 [(1, va_rf z0), (2, va_rf z1), (3, .int z2), (4, va_rf z3), (5, va_rf z4), (6, va_rf z5), (7, .int z6), (8, va_rf z7), (9, va_rf z8)] []) {v1 : Option Nat} {v2 : Option Nat} {v3 : Int32} {v4 : Option Nat} {v5 : Option Nat} {v6 : Option Nat} {v7 : Int32} {v8 : Option Nat} {v9 : Option Nat} {v12 : Option Nat} {M : zzM} {bc bs : Nat} (hw : wp_J29_putTreeVal_B88 (zz_Zof G) k27 K v1 v2 v3 v4 v5 v6 v7 v8 v9 v12 M bc bs) : zz_T G 16 M bc bs 88 [(1, va_rf v1), (2, va_rf v2), (3, .int v3), (4, va_rf v4), (5, va_rf v5), (6, va_rf v6), (7, .int v7), (8, va_rf v8), (9, va_rf v9), (12, va_rf v12)] [] := by
  unfold wp_J29_putTreeVal_B88 at hw
  refine zz_aload C dJ29_putTreeVal_88 5 rfl ?_
  refine zz_ifnonnull (tgt := 104) C dJ29_putTreeVal_90 (by decide) hw (fun hw => ?_) (fun hw => ?_)
  · refine zz_subP [0, 1, 2, 3, 4, 5, 6, 7, 8, 9] rfl ?_
    exact ok_J29_putTreeVal_B104 C E hH hR hk27 hw
  · refine zz_aload C dJ29_putTreeVal_93 3 rfl ?_
    refine zz_callS (As := [va_rf v4]) (rest := []) (mc := 0) (ms := 0) C hR dJ29_putTreeVal_95 (Or.inl q1382) q1383 zl_java_util_HashMap zk_J4_comparableClassFor (Or.inl rfl) zy_J4_comparableClassFor (by decide) (by decide) (ok_J4_comparableClassFor (zz_hl C) hw) (Nat.zero_le _) (Nat.zero_le _) (zz_cat10 _ (Nat.le_of_ble_eq_true rfl)) (fun r37 M38 hw => zz_kA hw (fun x41 hw => ?_)) (fun _ _ _ h9 => h9.elim) rfl
    refine zz_dup C dJ29_putTreeVal_98 (zz_cat _) ?_
    refine zz_astore (lv' := [(6, va_rf x41), (1, va_rf v1), (2, va_rf v2), (3, .int v3), (4, va_rf v4), (5, va_rf v5), (7, .int v7), (8, va_rf v8), (9, va_rf v9), (12, va_rf v12)]) C dJ29_putTreeVal_99 (by decide) (by simp [zz_cat, zz_catI, zz_catJ, zz_catD]) ?_
    refine zz_ifnull (tgt := 119) C dJ29_putTreeVal_101 (by decide) hw (fun hw => ?_) (fun hw => ?_)
    · refine zz_subP [3, 4, 0, 6, 8, 9] rfl ?_
      exact ok_J29_putTreeVal_B119 C E hH hR hw
    · refine zz_subP [1, 2, 3, 4, 5, 0, 6, 7, 8, 9] rfl ?_
      exact ok_J29_putTreeVal_B104 C E hH hR hk27 hw
theorem ok_J29_putTreeVal_L27 {G : zzX} (C : zz_C G cJ29_putTreeVal "java/util/HashMap$TreeNode" 16) {K : Option Value → zzM → Prop} (E : zz_E G (some (.object "java/util/HashMap$TreeNode")) K (fun _ _ _ => False)) (hH : zz_H G []) (hR : zz_Rm G 71) : ∀ (n : Nat) (v1 : Option Nat) (v2 : Option Nat) (v3 : Int32) (v4 : Option Nat) (v5 : Option Nat) (v6 : Option Nat) (v7 : Int32) (v8 : Option Nat) (v9 : Option Nat) (M : zzM) (bc bs : Nat), wp_J29_putTreeVal_L27 (zz_Zof G) K n v1 v2 v3 v4 v5 v6 v7 v8 v9 M bc bs → zz_T G 16 M bc bs 27 [(1, va_rf v1), (2, va_rf v2), (3, .int v3), (4, va_rf v4), (5, va_rf v5), (6, va_rf v6), (7, .int v7), (8, va_rf v8), (9, va_rf v9)] [] := by
  intro n
  induction n with
  | zero =>
    intro v1 v2 v3 v4 v5 v6 v7 v8 v9 M bc bs hw
    exact False.elim hw
  | succ n ih =>
    intro v1 v2 v3 v4 v5 v6 v7 v8 v9 M bc bs hw
    refine zz_aload C dJ29_putTreeVal_27 8 rfl ?_
    refine zz_getI C dJ29_putTreeVal_29 (Or.inl q1354) zf_25_0_shMap_TreeNode hw (fun x7 hw => ?_)
    refine zz_dup C dJ29_putTreeVal_32 rfl ?_
    refine zz_istore (lv' := [(11, .int x7), (1, va_rf v1), (2, va_rf v2), (3, .int v3), (4, va_rf v4), (5, va_rf v5), (6, va_rf v6), (7, .int v7), (8, va_rf v8), (9, va_rf v9)]) C dJ29_putTreeVal_33 (by decide) rfl ?_
    refine zz_iload_n C dJ29_putTreeVal_35 rfl 3 rfl ?_
    refine zz_icmp_le (tgt := 45) C dJ29_putTreeVal_36 (by decide) hw (fun hw => ?_) (fun hw => ?_)
    · refine zz_iload C dJ29_putTreeVal_45 0 rfl ?_
      refine zz_iload_n C dJ29_putTreeVal_47 rfl 3 rfl ?_
      refine zz_icmp_ge (tgt := 57) C dJ29_putTreeVal_48 (by decide) hw (fun hw => ?_) (fun hw => ?_)
      · refine zz_aload C dJ29_putTreeVal_57 9 rfl ?_
        refine zz_getA C dJ29_putTreeVal_59 (Or.inl q1358) zf_25_1_shMap_TreeNode hw (fun x8 hw => ?_)
        refine zz_dup C dJ29_putTreeVal_62 (zz_cat _) ?_
        refine zz_astore (lv' := [(12, va_rf x8), (11, .int x7), (1, va_rf v1), (2, va_rf v2), (3, .int v3), (4, va_rf v4), (5, va_rf v5), (6, va_rf v6), (7, .int v7), (8, va_rf v8), (9, va_rf v9)]) C dJ29_putTreeVal_63 (by decide) rfl ?_
        refine zz_aload C dJ29_putTreeVal_65 5 rfl ?_
        refine zz_acmp_eq (tgt := 85) C dJ29_putTreeVal_67 (by decide) hw (fun hw => ?_) (fun hw => ?_)
        · refine zz_subP [10] rfl ?_
          exact ok_J29_putTreeVal_B85 C E hH hR hw
        · refine zz_aload C dJ29_putTreeVal_70 5 rfl ?_
          refine zz_ifnull (tgt := 88) C dJ29_putTreeVal_72 (by decide) hw (fun hw => ?_) (fun hw => ?_)
          · refine zz_subP [2, 3, 4, 5, 6, 7, 8, 9, 10, 0] rfl ?_
            exact ok_J29_putTreeVal_B88 C E hH hR (fun z0 z1 z2 z3 z4 z5 z6 z7 z8 z9 z10 z11 hw => ih z0 z1 z2 z3 z4 z5 z6 z7 z8 z9 z10 z11 hw) hw
          · refine zz_aload C dJ29_putTreeVal_75 5 rfl ?_
            refine zz_aload C dJ29_putTreeVal_77 0 rfl ?_
            obtain ⟨a9, t9, b9, fs9, hro, hL, rfl, hw⟩ := ztyS hw
            refine zz_callU (r := (zR_21, zT_21, 4)) (x := ⟨"java/lang/Object", "equals", "(Ljava/lang/Object;)Z"⟩) (owner := "java/lang/Object") (As := [va_rf x8]) (rest := []) (mc := 0) (ms := 0) C hR hro dJ29_putTreeVal_79 q1668 q1625 (Or.inl q1622) q709 q1654 zl_java_lang_String zk_J7_equals zyo_java_lang_Object_equals__Ljava_lang_Object__Z rfl (by decide) (by decide) hL (ok_J7_equals (zz_hl C) hw) (Nat.zero_le _) (Nat.zero_le _) (zz_cat10 _ (Nat.le_of_ble_eq_true rfl)) (fun r9 M10 hw => zz_kI hw (fun x13 hw => ?_)) (fun _ _ _ h9 => h9.elim) rfl
            refine zz_if_eq (tgt := 88) C dJ29_putTreeVal_82 (by decide) hw (fun hw => ?_) (fun hw => ?_)
            · refine zz_subP [2, 3, 4, 5, 6, 7, 8, 9, 10, 0] rfl ?_
              exact ok_J29_putTreeVal_B88 C E hH hR (fun z0 z1 z2 z3 z4 z5 z6 z7 z8 z9 z10 z11 hw => ih z0 z1 z2 z3 z4 z5 z6 z7 z8 z9 z10 z11 hw) hw
            · refine zz_subP [10] rfl ?_
              exact ok_J29_putTreeVal_B85 C E hH hR hw
      · refine zz_iconst (v := (1 : Int32)) C dJ29_putTreeVal_51 (by decide) ?_
        refine zz_istore (lv' := [(10, .int (1 : Int32)), (11, .int x7), (1, va_rf v1), (2, va_rf v2), (3, .int v3), (4, va_rf v4), (5, va_rf v5), (6, va_rf v6), (7, .int v7), (8, va_rf v8), (9, va_rf v9)]) C dJ29_putTreeVal_52 (by decide) (by simp [zz_cat, zz_catI, zz_catJ, zz_catD]) ?_
        refine zz_goto (tgt := 193) C dJ29_putTreeVal_54 (by decide) ?_
        refine zz_subP [2, 3, 4, 5, 6, 7, 8, 9, 10, 0] rfl ?_
        exact ok_J29_putTreeVal_B193 C E hH hR (fun z0 z1 z2 z3 z4 z5 z6 z7 z8 z9 z10 z11 hw => ih z0 z1 z2 z3 z4 z5 z6 z7 z8 z9 z10 z11 hw) hw
    · refine zz_iconst (v := (-1 : Int32)) C dJ29_putTreeVal_39 (by decide) ?_
      refine zz_istore (lv' := [(10, .int (-1 : Int32)), (11, .int x7), (1, va_rf v1), (2, va_rf v2), (3, .int v3), (4, va_rf v4), (5, va_rf v5), (6, va_rf v6), (7, .int v7), (8, va_rf v8), (9, va_rf v9)]) C dJ29_putTreeVal_40 (by decide) (by simp [zz_cat, zz_catI, zz_catJ, zz_catD]) ?_
      refine zz_goto (tgt := 193) C dJ29_putTreeVal_42 (by decide) ?_
      refine zz_subP [2, 3, 4, 5, 6, 7, 8, 9, 10, 0] rfl ?_
      exact ok_J29_putTreeVal_B193 C E hH hR (fun z0 z1 z2 z3 z4 z5 z6 z7 z8 z9 z10 z11 hw => ih z0 z1 z2 z3 z4 z5 z6 z7 z8 z9 z10 z11 hw) hw
theorem ok_J29_putTreeVal_B21 {G : zzX} (C : zz_C G cJ29_putTreeVal "java/util/HashMap$TreeNode" 16) {K : Option Value → zzM → Prop} (E : zz_E G (some (.object "java/util/HashMap$TreeNode")) K (fun _ _ _ => False)) (hH : zz_H G []) (hR : zz_Rm G 71) {v1 : Option Nat} {v2 : Option Nat} {v3 : Int32} {v4 : Option Nat} {v5 : Option Nat} {v6 : Option Nat} {v7 : Int32} {s0 : Option Nat} {M : zzM} {bc bs : Nat} (hw : wp_J29_putTreeVal_B21 (zz_Zof G) K v1 v2 v3 v4 v5 v6 v7 s0 M bc bs) : zz_T G 16 M bc bs 21 [(1, va_rf v1), (2, va_rf v2), (3, .int v3), (4, va_rf v4), (5, va_rf v5), (6, va_rf v6), (7, .int v7)] [va_rf s0] := by
  unfold wp_J29_putTreeVal_B21 at hw
  refine zz_astore (lv' := [(8, va_rf s0), (1, va_rf v1), (2, va_rf v2), (3, .int v3), (4, va_rf v4), (5, va_rf v5), (6, va_rf v6), (7, .int v7)]) C dJ29_putTreeVal_21 (by decide) rfl ?_
  refine zz_aload C dJ29_putTreeVal_23 0 rfl ?_
  refine zz_astore (lv' := [(9, va_rf s0), (8, va_rf s0), (1, va_rf v1), (2, va_rf v2), (3, .int v3), (4, va_rf v4), (5, va_rf v5), (6, va_rf v6), (7, .int v7)]) C dJ29_putTreeVal_25 (by decide) (by simp [zz_cat, zz_catI, zz_catJ, zz_catD]) ?_
  refine zz_subP [2, 3, 4, 5, 6, 7, 8, 1, 0] rfl ?_
  obtain ⟨n27, hw⟩ := hw
  exact ok_J29_putTreeVal_L27 C E hH hR n27 _ _ _ _ _ _ _ _ _ _ _ _ hw
theorem ok_J29_putTreeVal {Z : zzG} {l : Launch} (hl : l.stackTraces = false) {this : Option Nat} {p0 : Option Nat} {p1 : Option Nat} {p2 : Int32} {p3 : Option Nat} {p4 : Option Nat} {M : zzM} {mc ms : Nat} {K : Option Value → zzM → Prop} (hw : wp_J29_putTreeVal Z this p0 p1 p2 p3 p4 M mc ms K) : zz_Met Z l yJ29_putTreeVal (zz_ws yJ29_putTreeVal cJ29_putTreeVal 16 (some (.object "java/util/HashMap$TreeNode")) none) 71 [va_rf this, va_rf p0, va_rf p1, .int p2, va_rf p3, va_rf p4] M mc ms K (fun _ _ _ => False) := by
  refine zz_ofW hl (plainFor_of_name (by decide)) (by simp only [zz_sl0, zz_slI, zz_slJ, zz_slA] <;> decide) (fun G hZ hll C E hH hR hin => ?_)
  subst hZ
  subst hll
  rw [show lv_args 0 [va_rf this, va_rf p0, va_rf p1, .int p2, va_rf p3, va_rf p4] = [(0, va_rf this), (1, va_rf p0), (2, va_rf p1), (3, .int p2), (4, va_rf p3), (5, va_rf p4)] by simp only [zz_la0, zz_laI, zz_laJ, zz_laA]]
  unfold wp_J29_putTreeVal at hw
  refine zz_null C dJ29_putTreeVal_0 ?_
  refine zz_astore (lv' := [(6, va_rf none), (0, va_rf this), (1, va_rf p0), (2, va_rf p1), (3, .int p2), (4, va_rf p3), (5, va_rf p4)]) C dJ29_putTreeVal_1 (by decide) (by simp [zz_cat, zz_catI, zz_catJ, zz_catD]) ?_
  refine zz_iconst (v := (0 : Int32)) C dJ29_putTreeVal_3 (by decide) ?_
  refine zz_istore (lv' := [(7, .int (0 : Int32)), (6, va_rf none), (0, va_rf this), (1, va_rf p0), (2, va_rf p1), (3, .int p2), (4, va_rf p3), (5, va_rf p4)]) C dJ29_putTreeVal_4 (by decide) (by simp [zz_cat, zz_catI, zz_catJ, zz_catD]) ?_
  refine zz_aload_n C dJ29_putTreeVal_6 rfl 2 rfl ?_
  refine zz_getA C dJ29_putTreeVal_7 (Or.inl q1685) zf_25_4_shMap_TreeNode hw (fun x1 hw => ?_)
  refine zz_ifnull (tgt := 20) C dJ29_putTreeVal_10 (by decide) hw (fun hw => ?_) (fun hw => ?_)
  · refine zz_aload_n C dJ29_putTreeVal_20 rfl 2 rfl ?_
    refine zz_subP [3, 4, 5, 6, 7, 1, 0] rfl ?_
    exact ok_J29_putTreeVal_B21 C E hH hR hw
  · refine zz_aload_n C dJ29_putTreeVal_13 rfl 2 rfl ?_
    obtain ⟨a9, t9, b9, fs9, hro, hL, rfl, hw⟩ := ztyS hw
    refine zz_callV (r := (zR_25, zT_25, 11)) (As := []) (rest := []) (mc := 0) (ms := 0) C hR hro dJ29_putTreeVal_14 (Or.inl q1664) q1665 (Or.inl q1666) zl_java_util_HashMap_TreeNode zk_J29_root (Or.inl rfl) zy_J29_root rfl (by decide) (by decide) hL (ok_J29_root (zz_hl C) hw) (Nat.zero_le _) (Nat.zero_le _) (zz_cat10 _ (Nat.le_of_ble_eq_true rfl)) (fun r2 M3 hw => zz_kA hw (fun x6 hw => ?_)) (fun _ _ _ h9 => h9.elim) rfl
    refine zz_goto (tgt := 21) C dJ29_putTreeVal_17 (by decide) ?_
    refine zz_subP [3, 4, 5, 6, 7, 1, 0] rfl ?_
    exact ok_J29_putTreeVal_B21 C E hH hR hw
abbrev cJ4_replacementTreeNode : ByteArray := prog_63_method_49_code
def yJ4_replacementTreeNode : MethodName := ⟨"java/util/HashMap", "replacementTreeNode", "(Ljava/util/HashMap$Node;Ljava/util/HashMap$Node;)Ljava/util/HashMap$TreeNode;"⟩
def dkwJ4_replacementTreeNode_0 : List UInt8 := [187, 0, 180, 89, 43, 180, 0, 168, 43, 180, 0, 170, 43, 180, 0, 162, 44, 183, 1, 122, 176]
abbrev dktJ4_replacementTreeNode_0 : List UInt8 := dkwJ4_replacementTreeNode_0 ++ []
theorem dksJ4_replacementTreeNode_0 : cJ4_replacementTreeNode.data.toList.drop 0 = dktJ4_replacementTreeNode_0 := by decide +kernel
theorem dJ4_replacementTreeNode_0 : decode cJ4_replacementTreeNode 0 = .ok (.new 180, 3) := dk_187 0 180 (dk_at dksJ4_replacementTreeNode_0 0 rfl rfl)
theorem dJ4_replacementTreeNode_3 : decode cJ4_replacementTreeNode 3 = .ok (.dup, 1) := dk_89 (dk_at dksJ4_replacementTreeNode_0 3 rfl rfl)
theorem dJ4_replacementTreeNode_4 : decode cJ4_replacementTreeNode 4 = .ok (.aload_n 1, 1) := dk_43 (dk_at dksJ4_replacementTreeNode_0 4 rfl rfl)
theorem dJ4_replacementTreeNode_5 : decode cJ4_replacementTreeNode 5 = .ok (.getfield 168, 3) := dk_180 0 168 (dk_at dksJ4_replacementTreeNode_0 5 rfl rfl)
theorem dJ4_replacementTreeNode_8 : decode cJ4_replacementTreeNode 8 = .ok (.aload_n 1, 1) := dk_43 (dk_at dksJ4_replacementTreeNode_0 8 rfl rfl)
theorem dJ4_replacementTreeNode_9 : decode cJ4_replacementTreeNode 9 = .ok (.getfield 170, 3) := dk_180 0 170 (dk_at dksJ4_replacementTreeNode_0 9 rfl rfl)
theorem dJ4_replacementTreeNode_12 : decode cJ4_replacementTreeNode 12 = .ok (.aload_n 1, 1) := dk_43 (dk_at dksJ4_replacementTreeNode_0 12 rfl rfl)
theorem dJ4_replacementTreeNode_13 : decode cJ4_replacementTreeNode 13 = .ok (.getfield 162, 3) := dk_180 0 162 (dk_at dksJ4_replacementTreeNode_0 13 rfl rfl)
theorem dJ4_replacementTreeNode_16 : decode cJ4_replacementTreeNode 16 = .ok (.aload_n 2, 1) := dk_44 (dk_at dksJ4_replacementTreeNode_0 16 rfl rfl)
theorem dJ4_replacementTreeNode_17 : decode cJ4_replacementTreeNode 17 = .ok (.invokespecial 378, 3) := dk_183 1 122 (dk_at dksJ4_replacementTreeNode_0 17 rfl rfl)
theorem dJ4_replacementTreeNode_20 : decode cJ4_replacementTreeNode 20 = .ok (.areturn, 1) := dk_176 (dk_at dksJ4_replacementTreeNode_0 20 rfl rfl)
theorem q1360 : (Jvm.Cond.fieldLink "java/util/HashMap" (170 : Nat) "java/util/HashMap$Node" "key" "Ljava/lang/Object;") ∈ lw_all := lw_g (lw_at lw_m6 80 rfl) rfl
theorem q1362 : (Jvm.Cond.fieldLink "java/util/HashMap" (162 : Nat) "java/util/HashMap$Node" "value" "Ljava/lang/Object;") ∈ lw_all := lw_g (lw_at lw_m6 82 rfl) rfl
def wp_J4_replacementTreeNode (Z : zzG) (this : Option Nat) (p0 : Option Nat) (p1 : Option Nat) (M : zzM) (bc bs : Nat) (K : Option Value → zzM → Prop) : Prop := znew Z M bc bs 25 11 [.int 0, .null, .null, .null, .null, .null, .null, .null, .int 0, .null, .null] fun q1 M2 bc3 bs4 => zgI Z M2 p0 [24, 25] 0 fun x5 => zgA Z M2 p0 [24, 25] 1 fun x6 => zgA Z M2 p0 [24, 25] 2 fun x7 => wp_J29_init Z (some q1) x5 x6 x7 p1 M2 (fun r8 M9 => zrV r8 (K (some (va_rf (some q1))) M9))
theorem ok_J4_replacementTreeNode {Z : zzG} {l : Launch} (hl : l.stackTraces = false) {this : Option Nat} {p0 : Option Nat} {p1 : Option Nat} {M : zzM} {mc ms : Nat} {K : Option Value → zzM → Prop} (hw : wp_J4_replacementTreeNode Z this p0 p1 M mc ms K) : zz_Met Z l yJ4_replacementTreeNode (zz_ws yJ4_replacementTreeNode cJ4_replacementTreeNode 3 (some (.object "java/util/HashMap$TreeNode")) none) 5 [va_rf this, va_rf p0, va_rf p1] M mc ms K (fun _ _ _ => False) := by
  refine zz_ofW hl (plainFor_of_name (by decide)) (by simp only [zz_sl0, zz_slI, zz_slJ, zz_slA] <;> decide) (fun G hZ hll C E hH hR hin => ?_)
  subst hZ
  subst hll
  rw [show lv_args 0 [va_rf this, va_rf p0, va_rf p1] = [(0, va_rf this), (1, va_rf p0), (2, va_rf p1)] by simp only [zz_la0, zz_laI, zz_laJ, zz_laA]]
  unfold wp_J4_replacementTreeNode at hw
  refine zz_new (r := (zR_25, zT_25, 11)) C dJ4_replacementTreeNode_0 rfl (by decide) q1334 q1677 zl_java_util_HashMap_TreeNode rfl hw (fun q1 M2 bc3 bs4 hw => ?_)
  refine zz_dup C dJ4_replacementTreeNode_3 (zz_cat _) ?_
  refine zz_aload_n C dJ4_replacementTreeNode_4 rfl 1 rfl ?_
  refine zz_getI C dJ4_replacementTreeNode_5 (Or.inl q1356) zf_24_25_0_l_HashMap_Node hw (fun x5 hw => ?_)
  refine zz_aload_n C dJ4_replacementTreeNode_8 rfl 1 rfl ?_
  refine zz_getA C dJ4_replacementTreeNode_9 (Or.inl q1360) zf_24_25_1_l_HashMap_Node hw (fun x6 hw => ?_)
  refine zz_aload_n C dJ4_replacementTreeNode_12 rfl 1 rfl ?_
  refine zz_getA C dJ4_replacementTreeNode_13 (Or.inl q1362) zf_24_25_2_l_HashMap_Node hw (fun x7 hw => ?_)
  refine zz_aload_n C dJ4_replacementTreeNode_16 rfl 2 rfl ?_
  refine zz_callI (As := [.int x5, va_rf x6, va_rf x7, va_rf p1]) (rest := [va_rf (some q1)]) (mc := 0) (ms := 0) C hR rfl dJ4_replacementTreeNode_17 (Or.inl q1678) q1679 zl_java_util_HashMap_TreeNode zk_J29_init rfl zy_J29_init (by decide) (by decide) (ok_J29_init (zz_hl C) hw) (Nat.zero_le _) (Nat.zero_le _) (zz_cat10 _ (Nat.le_of_ble_eq_true rfl)) (fun r8 M9 hw => zz_kV hw (fun hw => ?_)) (fun _ _ _ h9 => h9.elim) rfl
  exact zz_aret C E (Or.inl ⟨_, rfl⟩) dJ4_replacementTreeNode_20 hw
abbrev cJ29_treeify : ByteArray := prog_65_method_7_code
def yJ29_treeify : MethodName := ⟨"java/util/HashMap$TreeNode", "treeify", "([Ljava/util/HashMap$Node;)V"⟩
def dkwJ29_treeify_9 : List UInt8 := [25, 4, 78, 167, 255, 48, 43, 44, 184, 0, 104, 177]
abbrev dktJ29_treeify_9 : List UInt8 := dkwJ29_treeify_9 ++ []
def dkwJ29_treeify_8 : List UInt8 := [181, 0, 39, 167, 0, 9, 25, 12, 45, 181, 0, 42, 44, 45, 184, 0, 100, 77, 167, 0, 6, 167, 255, 114]
abbrev dktJ29_treeify_8 : List UInt8 := dkwJ29_treeify_8 ++ dktJ29_treeify_9
def dkwJ29_treeify_7 : List UInt8 := [180, 0, 42, 89, 58, 8, 199, 0, 38, 45, 25, 12, 181, 0, 9, 21, 9, 157, 0, 12, 25, 12, 45]
abbrev dktJ29_treeify_7 : List UInt8 := dkwJ29_treeify_7 ++ dktJ29_treeify_8
def dkwJ29_treeify_6 : List UInt8 := [184, 0, 96, 54, 9, 25, 8, 58, 12, 21, 9, 157, 0, 11, 25, 8, 180, 0, 39, 167, 0, 8, 25, 8]
abbrev dktJ29_treeify_6 : List UInt8 := dkwJ29_treeify_6 ++ dktJ29_treeify_7
def dkwJ29_treeify_5 : List UInt8 := [198, 0, 18, 25, 7, 25, 5, 25, 11, 184, 0, 59, 89, 54, 9, 154, 0, 12, 25, 5, 25, 11]
abbrev dktJ29_treeify_5 : List UInt8 := dkwJ29_treeify_5 ++ dktJ29_treeify_6
def dkwJ29_treeify_4 : List UInt8 := [162, 0, 9, 4, 54, 9, 167, 0, 43, 25, 7, 199, 0, 14, 25, 5, 184, 0, 55, 89, 58, 7]
abbrev dktJ29_treeify_4 : List UInt8 := dkwJ29_treeify_4 ++ dktJ29_treeify_5
def dkwJ29_treeify_3 : List UInt8 := [25, 8, 180, 0, 15, 89, 54, 10, 21, 6, 164, 0, 9, 2, 54, 9, 167, 0, 56, 21, 10, 21, 6]
abbrev dktJ29_treeify_3 : List UInt8 := dkwJ29_treeify_3 ++ dktJ29_treeify_4
def dkwJ29_treeify_2 : List UInt8 := [180, 0, 45, 58, 5, 45, 180, 0, 15, 54, 6, 1, 58, 7, 44, 58, 8, 25, 8, 180, 0, 45, 58, 11]
abbrev dktJ29_treeify_2 : List UInt8 := dkwJ29_treeify_2 ++ dktJ29_treeify_3
def dkwJ29_treeify_1 : List UInt8 := [181, 0, 39, 44, 199, 0, 18, 45, 1, 181, 0, 9, 45, 3, 181, 0, 93, 45, 77, 167, 0, 166, 45]
abbrev dktJ29_treeify_1 : List UInt8 := dkwJ29_treeify_1 ++ dktJ29_treeify_2
def dkwJ29_treeify_0 : List UInt8 := [1, 77, 42, 78, 45, 198, 0, 210, 45, 180, 0, 22, 192, 0, 10, 58, 4, 45, 45, 1, 90, 181, 0, 42]
abbrev dktJ29_treeify_0 : List UInt8 := dkwJ29_treeify_0 ++ dktJ29_treeify_1
theorem dksJ29_treeify_0 : cJ29_treeify.data.toList.drop 0 = dktJ29_treeify_0 := by decide +kernel
theorem dksJ29_treeify_1 : cJ29_treeify.data.toList.drop 24 = dktJ29_treeify_1 := dk_seg dksJ29_treeify_0 24 rfl rfl
theorem dksJ29_treeify_2 : cJ29_treeify.data.toList.drop 47 = dktJ29_treeify_2 := dk_seg dksJ29_treeify_1 23 rfl rfl
theorem dksJ29_treeify_3 : cJ29_treeify.data.toList.drop 71 = dktJ29_treeify_3 := dk_seg dksJ29_treeify_2 24 rfl rfl
theorem dksJ29_treeify_4 : cJ29_treeify.data.toList.drop 94 = dktJ29_treeify_4 := dk_seg dksJ29_treeify_3 23 rfl rfl
theorem dksJ29_treeify_5 : cJ29_treeify.data.toList.drop 116 = dktJ29_treeify_5 := dk_seg dksJ29_treeify_4 22 rfl rfl
theorem dksJ29_treeify_6 : cJ29_treeify.data.toList.drop 138 = dktJ29_treeify_6 := dk_seg dksJ29_treeify_5 22 rfl rfl
theorem dksJ29_treeify_7 : cJ29_treeify.data.toList.drop 162 = dktJ29_treeify_7 := dk_seg dksJ29_treeify_6 24 rfl rfl
theorem dksJ29_treeify_8 : cJ29_treeify.data.toList.drop 185 = dktJ29_treeify_8 := dk_seg dksJ29_treeify_7 23 rfl rfl
theorem dksJ29_treeify_9 : cJ29_treeify.data.toList.drop 209 = dktJ29_treeify_9 := dk_seg dksJ29_treeify_8 24 rfl rfl
theorem dJ29_treeify_0 : decode cJ29_treeify 0 = .ok (.aconst_null, 1) := dk_1 (dk_at dksJ29_treeify_0 0 rfl rfl)
theorem dJ29_treeify_1 : decode cJ29_treeify 1 = .ok (.astore_n 2, 1) := dk_77 (dk_at dksJ29_treeify_0 1 rfl rfl)
theorem dJ29_treeify_2 : decode cJ29_treeify 2 = .ok (.aload_n 0, 1) := dk_42 (dk_at dksJ29_treeify_0 2 rfl rfl)
theorem dJ29_treeify_3 : decode cJ29_treeify 3 = .ok (.astore_n 3, 1) := dk_78 (dk_at dksJ29_treeify_0 3 rfl rfl)
theorem dJ29_treeify_4 : decode cJ29_treeify 4 = .ok (.aload_n 3, 1) := dk_45 (dk_at dksJ29_treeify_0 4 rfl rfl)
theorem dJ29_treeify_5 : decode cJ29_treeify 5 = .ok (.ifnull 210, 3) := dk_198 0 210 (dk_at dksJ29_treeify_0 5 rfl rfl)
theorem dJ29_treeify_8 : decode cJ29_treeify 8 = .ok (.aload_n 3, 1) := dk_45 (dk_at dksJ29_treeify_0 8 rfl rfl)
theorem dJ29_treeify_9 : decode cJ29_treeify 9 = .ok (.getfield 22, 3) := dk_180 0 22 (dk_at dksJ29_treeify_0 9 rfl rfl)
theorem dJ29_treeify_12 : decode cJ29_treeify 12 = .ok (.checkcast 10, 3) := dk_192 0 10 (dk_at dksJ29_treeify_0 12 rfl rfl)
theorem dJ29_treeify_15 : decode cJ29_treeify 15 = .ok (.astore 4, 2) := dk_58 4 (dk_at dksJ29_treeify_0 15 rfl rfl)
theorem dJ29_treeify_17 : decode cJ29_treeify 17 = .ok (.aload_n 3, 1) := dk_45 (dk_at dksJ29_treeify_0 17 rfl rfl)
theorem dJ29_treeify_18 : decode cJ29_treeify 18 = .ok (.aload_n 3, 1) := dk_45 (dk_at dksJ29_treeify_0 18 rfl rfl)
theorem dJ29_treeify_19 : decode cJ29_treeify 19 = .ok (.aconst_null, 1) := dk_1 (dk_at dksJ29_treeify_0 19 rfl rfl)
theorem dJ29_treeify_20 : decode cJ29_treeify 20 = .ok (.dup_x1, 1) := dk_90 (dk_at dksJ29_treeify_0 20 rfl rfl)
theorem dJ29_treeify_21 : decode cJ29_treeify 21 = .ok (.putfield 42, 3) := dk_181 0 42 (dk_at dksJ29_treeify_0 21 rfl rfl)
theorem dJ29_treeify_24 : decode cJ29_treeify 24 = .ok (.putfield 39, 3) := dk_181 0 39 (dk_at dksJ29_treeify_1 0 rfl rfl)
theorem dJ29_treeify_27 : decode cJ29_treeify 27 = .ok (.aload_n 2, 1) := dk_44 (dk_at dksJ29_treeify_1 3 rfl rfl)
theorem dJ29_treeify_28 : decode cJ29_treeify 28 = .ok (.ifnonnull 18, 3) := dk_199 0 18 (dk_at dksJ29_treeify_1 4 rfl rfl)
theorem dJ29_treeify_31 : decode cJ29_treeify 31 = .ok (.aload_n 3, 1) := dk_45 (dk_at dksJ29_treeify_1 7 rfl rfl)
theorem dJ29_treeify_32 : decode cJ29_treeify 32 = .ok (.aconst_null, 1) := dk_1 (dk_at dksJ29_treeify_1 8 rfl rfl)
theorem dJ29_treeify_33 : decode cJ29_treeify 33 = .ok (.putfield 9, 3) := dk_181 0 9 (dk_at dksJ29_treeify_1 9 rfl rfl)
theorem dJ29_treeify_36 : decode cJ29_treeify 36 = .ok (.aload_n 3, 1) := dk_45 (dk_at dksJ29_treeify_1 12 rfl rfl)
theorem dJ29_treeify_37 : decode cJ29_treeify 37 = .ok (.iconst 0, 1) := dk_3 (dk_at dksJ29_treeify_1 13 rfl rfl)
theorem dJ29_treeify_38 : decode cJ29_treeify 38 = .ok (.putfield 93, 3) := dk_181 0 93 (dk_at dksJ29_treeify_1 14 rfl rfl)
theorem dJ29_treeify_41 : decode cJ29_treeify 41 = .ok (.aload_n 3, 1) := dk_45 (dk_at dksJ29_treeify_1 17 rfl rfl)
theorem dJ29_treeify_42 : decode cJ29_treeify 42 = .ok (.astore_n 2, 1) := dk_77 (dk_at dksJ29_treeify_1 18 rfl rfl)
theorem dJ29_treeify_43 : decode cJ29_treeify 43 = .ok (.goto 166, 3) := dk_167 0 166 (dk_at dksJ29_treeify_1 19 rfl rfl)
theorem dJ29_treeify_46 : decode cJ29_treeify 46 = .ok (.aload_n 3, 1) := dk_45 (dk_at dksJ29_treeify_1 22 rfl rfl)
theorem dJ29_treeify_47 : decode cJ29_treeify 47 = .ok (.getfield 45, 3) := dk_180 0 45 (dk_at dksJ29_treeify_2 0 rfl rfl)
theorem dJ29_treeify_50 : decode cJ29_treeify 50 = .ok (.astore 5, 2) := dk_58 5 (dk_at dksJ29_treeify_2 3 rfl rfl)
theorem dJ29_treeify_52 : decode cJ29_treeify 52 = .ok (.aload_n 3, 1) := dk_45 (dk_at dksJ29_treeify_2 5 rfl rfl)
theorem dJ29_treeify_53 : decode cJ29_treeify 53 = .ok (.getfield 15, 3) := dk_180 0 15 (dk_at dksJ29_treeify_2 6 rfl rfl)
theorem dJ29_treeify_56 : decode cJ29_treeify 56 = .ok (.istore 6, 2) := dk_54 6 (dk_at dksJ29_treeify_2 9 rfl rfl)
theorem dJ29_treeify_58 : decode cJ29_treeify 58 = .ok (.aconst_null, 1) := dk_1 (dk_at dksJ29_treeify_2 11 rfl rfl)
theorem dJ29_treeify_59 : decode cJ29_treeify 59 = .ok (.astore 7, 2) := dk_58 7 (dk_at dksJ29_treeify_2 12 rfl rfl)
theorem dJ29_treeify_61 : decode cJ29_treeify 61 = .ok (.aload_n 2, 1) := dk_44 (dk_at dksJ29_treeify_2 14 rfl rfl)
theorem dJ29_treeify_62 : decode cJ29_treeify 62 = .ok (.astore 8, 2) := dk_58 8 (dk_at dksJ29_treeify_2 15 rfl rfl)
theorem dJ29_treeify_64 : decode cJ29_treeify 64 = .ok (.aload 8, 2) := dk_25 8 (dk_at dksJ29_treeify_2 17 rfl rfl)
theorem dJ29_treeify_66 : decode cJ29_treeify 66 = .ok (.getfield 45, 3) := dk_180 0 45 (dk_at dksJ29_treeify_2 19 rfl rfl)
theorem dJ29_treeify_69 : decode cJ29_treeify 69 = .ok (.astore 11, 2) := dk_58 11 (dk_at dksJ29_treeify_2 22 rfl rfl)
theorem dJ29_treeify_71 : decode cJ29_treeify 71 = .ok (.aload 8, 2) := dk_25 8 (dk_at dksJ29_treeify_3 0 rfl rfl)
theorem dJ29_treeify_73 : decode cJ29_treeify 73 = .ok (.getfield 15, 3) := dk_180 0 15 (dk_at dksJ29_treeify_3 2 rfl rfl)
theorem dJ29_treeify_76 : decode cJ29_treeify 76 = .ok (.dup, 1) := dk_89 (dk_at dksJ29_treeify_3 5 rfl rfl)
theorem dJ29_treeify_77 : decode cJ29_treeify 77 = .ok (.istore 10, 2) := dk_54 10 (dk_at dksJ29_treeify_3 6 rfl rfl)
theorem dJ29_treeify_79 : decode cJ29_treeify 79 = .ok (.iload 6, 2) := dk_21 6 (dk_at dksJ29_treeify_3 8 rfl rfl)
theorem dJ29_treeify_81 : decode cJ29_treeify 81 = .ok (.if_icmp .le 9, 3) := dk_164 0 9 (dk_at dksJ29_treeify_3 10 rfl rfl)
theorem dJ29_treeify_84 : decode cJ29_treeify 84 = .ok (.iconst (-1), 1) := dk_2 (dk_at dksJ29_treeify_3 13 rfl rfl)
theorem dJ29_treeify_85 : decode cJ29_treeify 85 = .ok (.istore 9, 2) := dk_54 9 (dk_at dksJ29_treeify_3 14 rfl rfl)
theorem dJ29_treeify_87 : decode cJ29_treeify 87 = .ok (.goto 56, 3) := dk_167 0 56 (dk_at dksJ29_treeify_3 16 rfl rfl)
theorem dJ29_treeify_90 : decode cJ29_treeify 90 = .ok (.iload 10, 2) := dk_21 10 (dk_at dksJ29_treeify_3 19 rfl rfl)
theorem dJ29_treeify_92 : decode cJ29_treeify 92 = .ok (.iload 6, 2) := dk_21 6 (dk_at dksJ29_treeify_3 21 rfl rfl)
theorem dJ29_treeify_94 : decode cJ29_treeify 94 = .ok (.if_icmp .ge 9, 3) := dk_162 0 9 (dk_at dksJ29_treeify_4 0 rfl rfl)
theorem dJ29_treeify_97 : decode cJ29_treeify 97 = .ok (.iconst 1, 1) := dk_4 (dk_at dksJ29_treeify_4 3 rfl rfl)
theorem dJ29_treeify_98 : decode cJ29_treeify 98 = .ok (.istore 9, 2) := dk_54 9 (dk_at dksJ29_treeify_4 4 rfl rfl)
theorem dJ29_treeify_100 : decode cJ29_treeify 100 = .ok (.goto 43, 3) := dk_167 0 43 (dk_at dksJ29_treeify_4 6 rfl rfl)
theorem dJ29_treeify_103 : decode cJ29_treeify 103 = .ok (.aload 7, 2) := dk_25 7 (dk_at dksJ29_treeify_4 9 rfl rfl)
theorem dJ29_treeify_105 : decode cJ29_treeify 105 = .ok (.ifnonnull 14, 3) := dk_199 0 14 (dk_at dksJ29_treeify_4 11 rfl rfl)
theorem dJ29_treeify_108 : decode cJ29_treeify 108 = .ok (.aload 5, 2) := dk_25 5 (dk_at dksJ29_treeify_4 14 rfl rfl)
theorem dJ29_treeify_110 : decode cJ29_treeify 110 = .ok (.invokestatic 55, 3) := dk_184 0 55 (dk_at dksJ29_treeify_4 16 rfl rfl)
theorem dJ29_treeify_113 : decode cJ29_treeify 113 = .ok (.dup, 1) := dk_89 (dk_at dksJ29_treeify_4 19 rfl rfl)
theorem dJ29_treeify_114 : decode cJ29_treeify 114 = .ok (.astore 7, 2) := dk_58 7 (dk_at dksJ29_treeify_4 20 rfl rfl)
theorem dJ29_treeify_116 : decode cJ29_treeify 116 = .ok (.ifnull 18, 3) := dk_198 0 18 (dk_at dksJ29_treeify_5 0 rfl rfl)
theorem dJ29_treeify_119 : decode cJ29_treeify 119 = .ok (.aload 7, 2) := dk_25 7 (dk_at dksJ29_treeify_5 3 rfl rfl)
theorem dJ29_treeify_121 : decode cJ29_treeify 121 = .ok (.aload 5, 2) := dk_25 5 (dk_at dksJ29_treeify_5 5 rfl rfl)
theorem dJ29_treeify_123 : decode cJ29_treeify 123 = .ok (.aload 11, 2) := dk_25 11 (dk_at dksJ29_treeify_5 7 rfl rfl)
theorem dJ29_treeify_125 : decode cJ29_treeify 125 = .ok (.invokestatic 59, 3) := dk_184 0 59 (dk_at dksJ29_treeify_5 9 rfl rfl)
theorem dJ29_treeify_128 : decode cJ29_treeify 128 = .ok (.dup, 1) := dk_89 (dk_at dksJ29_treeify_5 12 rfl rfl)
theorem dJ29_treeify_129 : decode cJ29_treeify 129 = .ok (.istore 9, 2) := dk_54 9 (dk_at dksJ29_treeify_5 13 rfl rfl)
theorem dJ29_treeify_131 : decode cJ29_treeify 131 = .ok (.ifCond .ne 12, 3) := dk_154 0 12 (dk_at dksJ29_treeify_5 15 rfl rfl)
theorem dJ29_treeify_134 : decode cJ29_treeify 134 = .ok (.aload 5, 2) := dk_25 5 (dk_at dksJ29_treeify_5 18 rfl rfl)
theorem dJ29_treeify_136 : decode cJ29_treeify 136 = .ok (.aload 11, 2) := dk_25 11 (dk_at dksJ29_treeify_5 20 rfl rfl)
theorem dJ29_treeify_138 : decode cJ29_treeify 138 = .ok (.invokestatic 96, 3) := dk_184 0 96 (dk_at dksJ29_treeify_6 0 rfl rfl)
theorem dJ29_treeify_143 : decode cJ29_treeify 143 = .ok (.aload 8, 2) := dk_25 8 (dk_at dksJ29_treeify_6 5 rfl rfl)
theorem dJ29_treeify_145 : decode cJ29_treeify 145 = .ok (.astore 12, 2) := dk_58 12 (dk_at dksJ29_treeify_6 7 rfl rfl)
theorem dJ29_treeify_147 : decode cJ29_treeify 147 = .ok (.iload 9, 2) := dk_21 9 (dk_at dksJ29_treeify_6 9 rfl rfl)
theorem dJ29_treeify_149 : decode cJ29_treeify 149 = .ok (.ifCond .gt 11, 3) := dk_157 0 11 (dk_at dksJ29_treeify_6 11 rfl rfl)
theorem dJ29_treeify_152 : decode cJ29_treeify 152 = .ok (.aload 8, 2) := dk_25 8 (dk_at dksJ29_treeify_6 14 rfl rfl)
theorem dJ29_treeify_154 : decode cJ29_treeify 154 = .ok (.getfield 39, 3) := dk_180 0 39 (dk_at dksJ29_treeify_6 16 rfl rfl)
theorem dJ29_treeify_157 : decode cJ29_treeify 157 = .ok (.goto 8, 3) := dk_167 0 8 (dk_at dksJ29_treeify_6 19 rfl rfl)
theorem dJ29_treeify_160 : decode cJ29_treeify 160 = .ok (.aload 8, 2) := dk_25 8 (dk_at dksJ29_treeify_6 22 rfl rfl)
theorem dJ29_treeify_162 : decode cJ29_treeify 162 = .ok (.getfield 42, 3) := dk_180 0 42 (dk_at dksJ29_treeify_7 0 rfl rfl)
theorem dJ29_treeify_165 : decode cJ29_treeify 165 = .ok (.dup, 1) := dk_89 (dk_at dksJ29_treeify_7 3 rfl rfl)
theorem dJ29_treeify_166 : decode cJ29_treeify 166 = .ok (.astore 8, 2) := dk_58 8 (dk_at dksJ29_treeify_7 4 rfl rfl)
theorem dJ29_treeify_168 : decode cJ29_treeify 168 = .ok (.ifnonnull 38, 3) := dk_199 0 38 (dk_at dksJ29_treeify_7 6 rfl rfl)
theorem dJ29_treeify_171 : decode cJ29_treeify 171 = .ok (.aload_n 3, 1) := dk_45 (dk_at dksJ29_treeify_7 9 rfl rfl)
theorem dJ29_treeify_172 : decode cJ29_treeify 172 = .ok (.aload 12, 2) := dk_25 12 (dk_at dksJ29_treeify_7 10 rfl rfl)
theorem dJ29_treeify_174 : decode cJ29_treeify 174 = .ok (.putfield 9, 3) := dk_181 0 9 (dk_at dksJ29_treeify_7 12 rfl rfl)
theorem dJ29_treeify_177 : decode cJ29_treeify 177 = .ok (.iload 9, 2) := dk_21 9 (dk_at dksJ29_treeify_7 15 rfl rfl)
theorem dJ29_treeify_179 : decode cJ29_treeify 179 = .ok (.ifCond .gt 12, 3) := dk_157 0 12 (dk_at dksJ29_treeify_7 17 rfl rfl)
theorem dJ29_treeify_182 : decode cJ29_treeify 182 = .ok (.aload 12, 2) := dk_25 12 (dk_at dksJ29_treeify_7 20 rfl rfl)
theorem dJ29_treeify_184 : decode cJ29_treeify 184 = .ok (.aload_n 3, 1) := dk_45 (dk_at dksJ29_treeify_7 22 rfl rfl)
theorem dJ29_treeify_185 : decode cJ29_treeify 185 = .ok (.putfield 39, 3) := dk_181 0 39 (dk_at dksJ29_treeify_8 0 rfl rfl)
theorem dJ29_treeify_188 : decode cJ29_treeify 188 = .ok (.goto 9, 3) := dk_167 0 9 (dk_at dksJ29_treeify_8 3 rfl rfl)
theorem dJ29_treeify_191 : decode cJ29_treeify 191 = .ok (.aload 12, 2) := dk_25 12 (dk_at dksJ29_treeify_8 6 rfl rfl)
theorem dJ29_treeify_193 : decode cJ29_treeify 193 = .ok (.aload_n 3, 1) := dk_45 (dk_at dksJ29_treeify_8 8 rfl rfl)
theorem dJ29_treeify_194 : decode cJ29_treeify 194 = .ok (.putfield 42, 3) := dk_181 0 42 (dk_at dksJ29_treeify_8 9 rfl rfl)
theorem dJ29_treeify_197 : decode cJ29_treeify 197 = .ok (.aload_n 2, 1) := dk_44 (dk_at dksJ29_treeify_8 12 rfl rfl)
theorem dJ29_treeify_198 : decode cJ29_treeify 198 = .ok (.aload_n 3, 1) := dk_45 (dk_at dksJ29_treeify_8 13 rfl rfl)
theorem dJ29_treeify_199 : decode cJ29_treeify 199 = .ok (.invokestatic 100, 3) := dk_184 0 100 (dk_at dksJ29_treeify_8 14 rfl rfl)
theorem dJ29_treeify_202 : decode cJ29_treeify 202 = .ok (.astore_n 2, 1) := dk_77 (dk_at dksJ29_treeify_8 17 rfl rfl)
theorem dJ29_treeify_203 : decode cJ29_treeify 203 = .ok (.goto 6, 3) := dk_167 0 6 (dk_at dksJ29_treeify_8 18 rfl rfl)
theorem dJ29_treeify_206 : decode cJ29_treeify 206 = .ok (.goto (-142), 3) := dk_167 255 114 (dk_at dksJ29_treeify_8 21 rfl rfl)
theorem dJ29_treeify_209 : decode cJ29_treeify 209 = .ok (.aload 4, 2) := dk_25 4 (dk_at dksJ29_treeify_9 0 rfl rfl)
theorem dJ29_treeify_211 : decode cJ29_treeify 211 = .ok (.astore_n 3, 1) := dk_78 (dk_at dksJ29_treeify_9 2 rfl rfl)
theorem dJ29_treeify_212 : decode cJ29_treeify 212 = .ok (.goto (-208), 3) := dk_167 255 48 (dk_at dksJ29_treeify_9 3 rfl rfl)
theorem dJ29_treeify_215 : decode cJ29_treeify 215 = .ok (.aload_n 1, 1) := dk_43 (dk_at dksJ29_treeify_9 6 rfl rfl)
theorem dJ29_treeify_216 : decode cJ29_treeify 216 = .ok (.aload_n 2, 1) := dk_44 (dk_at dksJ29_treeify_9 7 rfl rfl)
theorem dJ29_treeify_217 : decode cJ29_treeify 217 = .ok (.invokestatic 104, 3) := dk_184 0 104 (dk_at dksJ29_treeify_9 8 rfl rfl)
theorem dJ29_treeify_220 : decode cJ29_treeify 220 = .ok (.return_, 1) := dk_177 (dk_at dksJ29_treeify_9 11 rfl rfl)
def wp_J29_treeify_B134 (Z : zzG) (K : Option Value → zzM → Prop) (v5 : Option Nat) (v11 : Option Nat) (M : zzM) : Prop := False
def wp_J29_treeify_B209 (Z : zzG) (k4 : Option Nat → Option Nat → Option Nat → zzM → Prop) (K : Option Value → zzM → Prop) (v1 : Option Nat) (v2 : Option Nat) (v4 : Option Nat) (M : zzM) : Prop := k4 v1 v2 v4 M
def wp_J29_treeify_B197 (Z : zzG) (k4 : Option Nat → Option Nat → Option Nat → zzM → Prop) (K : Option Value → zzM → Prop) (v1 : Option Nat) (v2 : Option Nat) (v3 : Option Nat) (v4 : Option Nat) (M : zzM) : Prop := wp_J29_balanceInsertion Z v2 v3 M (fun r24 M25 => zrA r24 fun x28 => wp_J29_treeify_B209 Z k4 K v1 x28 v4 M25)
def wp_J29_treeify_B165 (Z : zzG) (k4 : Option Nat → Option Nat → Option Nat → zzM → Prop) (k64 : Option Nat → Option Nat → Option Nat → Option Nat → Option Nat → Int32 → Option Nat → Option Nat → zzM → Prop) (K : Option Value → zzM → Prop) (v1 : Option Nat) (v2 : Option Nat) (v3 : Option Nat) (v4 : Option Nat) (v5 : Option Nat) (v6 : Int32) (v7 : Option Nat) (v9 : Int32) (v12 : Option Nat) (s0 : Option Nat) (M : zzM) : Prop := if s0 = none then (zput Z M v3 [25] 4 (va_rf v12) fun M21 => if 0 < v9 then (zput Z M21 v12 [25] 6 (va_rf v3) fun M22 => wp_J29_treeify_B197 Z k4 K v1 v2 v3 v4 M22) else (zput Z M21 v12 [25] 5 (va_rf v3) fun M23 => wp_J29_treeify_B197 Z k4 K v1 v2 v3 v4 M23)) else (k64 v1 v2 v3 v4 v5 v6 v7 s0 M)
def wp_J29_treeify_B143 (Z : zzG) (k4 : Option Nat → Option Nat → Option Nat → zzM → Prop) (k64 : Option Nat → Option Nat → Option Nat → Option Nat → Option Nat → Int32 → Option Nat → Option Nat → zzM → Prop) (K : Option Value → zzM → Prop) (v1 : Option Nat) (v2 : Option Nat) (v3 : Option Nat) (v4 : Option Nat) (v5 : Option Nat) (v6 : Int32) (v7 : Option Nat) (v8 : Option Nat) (v9 : Int32) (M : zzM) : Prop := if 0 < v9 then (zgA Z M v8 [25] 6 fun x19 => wp_J29_treeify_B165 Z k4 k64 K v1 v2 v3 v4 v5 v6 v7 v9 v8 x19 M) else (zgA Z M v8 [25] 5 fun x20 => wp_J29_treeify_B165 Z k4 k64 K v1 v2 v3 v4 v5 v6 v7 v9 v8 x20 M)
def wp_J29_treeify_B119 (Z : zzG) (k4 : Option Nat → Option Nat → Option Nat → zzM → Prop) (k64 : Option Nat → Option Nat → Option Nat → Option Nat → Option Nat → Int32 → Option Nat → Option Nat → zzM → Prop) (K : Option Value → zzM → Prop) (v1 : Option Nat) (v2 : Option Nat) (v3 : Option Nat) (v4 : Option Nat) (v5 : Option Nat) (v6 : Int32) (v7 : Option Nat) (v8 : Option Nat) (v11 : Option Nat) (M : zzM) : Prop := wp_J4_compareComparables Z v7 v5 v11 M (fun r29 M30 => zrI r29 fun x33 => if x33 = 0 then (wp_J29_treeify_B134 Z K v5 v11 M30) else (wp_J29_treeify_B143 Z k4 k64 K v1 v2 v3 v4 v5 v6 v7 v8 x33 M30))
def wp_J29_treeify_L64 (Z : zzG) (k4 : Option Nat → Option Nat → Option Nat → zzM → Prop) (K : Option Value → zzM → Prop) : Nat → Option Nat → Option Nat → Option Nat → Option Nat → Option Nat → Int32 → Option Nat → Option Nat → zzM → Prop
  | 0, _, _, _, _, _, _, _, _, _ => False
  | n + 1, v1, v2, v3, v4, v5, v6, v7, v8, M => zgA Z M v8 [25] 1 fun x12 => zgI Z M v8 [25] 0 fun x13 => if x13 ≤ v6 then (if v6 ≤ x13 then (if v7 = none then (wp_J4_comparableClassFor Z v5 M (fun r14 M15 => zrA r14 fun x18 => if x18 = none then (wp_J29_treeify_B134 Z K v5 x12 M15) else (wp_J29_treeify_B119 Z k4 (wp_J29_treeify_L64 Z k4 K n) K v1 v2 v3 v4 v5 v6 x18 v8 x12 M15))) else (wp_J29_treeify_B119 Z k4 (wp_J29_treeify_L64 Z k4 K n) K v1 v2 v3 v4 v5 v6 v7 v8 x12 M)) else (wp_J29_treeify_B143 Z k4 (wp_J29_treeify_L64 Z k4 K n) K v1 v2 v3 v4 v5 v6 v7 v8 (1 : Int32) M)) else (wp_J29_treeify_B143 Z k4 (wp_J29_treeify_L64 Z k4 K n) K v1 v2 v3 v4 v5 v6 v7 v8 (-1 : Int32) M)
def wp_J29_treeify_L4 (Z : zzG) (K : Option Value → zzM → Prop) : Nat → Option Nat → Option Nat → Option Nat → zzM → Prop
  | 0, _, _, _, _ => False
  | n + 1, v1, v2, v3, M => if v3 = none then (wp_J29_moveRootToFront Z v1 v2 M (fun r1 M2 => zrV r1 (K none M2))) else (zgA Z M v3 [25] 3 fun x5 => zcast Z M x5 [25] <| zput Z M v3 [25] 6 (va_rf none) fun M6 => zput Z M6 v3 [25] 5 (va_rf none) fun M7 => if v2 = none then (zput Z M7 v3 [25] 4 (va_rf none) fun M10 => zfit .boolean (0 : Int32) ∧ zput Z M10 v3 [25] 8 (.int (0 : Int32)) fun M11 => wp_J29_treeify_B209 Z (wp_J29_treeify_L4 Z K n) K v1 v3 x5 M11) else (zgA Z M7 v3 [25] 1 fun x8 => zgI Z M7 v3 [25] 0 fun x9 => ∃ n64 : Nat, wp_J29_treeify_L64 Z (wp_J29_treeify_L4 Z K n) K n64 v1 v2 v3 x5 x8 x9 none v2 M7))
def wp_J29_treeify (Z : zzG) (this : Option Nat) (p0 : Option Nat) (M : zzM) (K : Option Value → zzM → Prop) : Prop := ∃ n4 : Nat, wp_J29_treeify_L4 Z K n4 p0 none this M
theorem ok_J29_treeify_B134 {G : zzX} (C : zz_C G cJ29_treeify "java/util/HashMap$TreeNode" 13) {K : Option Value → zzM → Prop} (E : zz_E G none K (fun _ _ _ => False)) (hH : zz_H G []) (hR : zz_Rm G 10) {v5 : Option Nat} {v11 : Option Nat} {M : zzM} {bc bs : Nat} (hw : wp_J29_treeify_B134 (zz_Zof G) K v5 v11 M) : zz_T G 13 M bc bs 134 [(5, va_rf v5), (11, va_rf v11)] [] := by
  unfold wp_J29_treeify_B134 at hw
  refine zz_aload C dJ29_treeify_134 0 rfl ?_
  refine zz_aload C dJ29_treeify_136 1 rfl ?_
  exact hw.elim
theorem ok_J29_treeify_B209 {G : zzX} (C : zz_C G cJ29_treeify "java/util/HashMap$TreeNode" 13) {K : Option Value → zzM → Prop} (E : zz_E G none K (fun _ _ _ => False)) (hH : zz_H G []) (hR : zz_Rm G 10) {k4 : Option Nat → Option Nat → Option Nat → zzM → Prop} (hk4 : ∀ (z0 : Option Nat) (z1 : Option Nat) (z2 : Option Nat) (M : zzM) (bc bs : Nat), k4 z0 z1 z2 M → zz_T G 13 M bc bs 4 [(1, va_rf z0), (2, va_rf z1), (3, va_rf z2)] []) {v1 : Option Nat} {v2 : Option Nat} {v4 : Option Nat} {M : zzM} {bc bs : Nat} (hw : wp_J29_treeify_B209 (zz_Zof G) k4 K v1 v2 v4 M) : zz_T G 13 M bc bs 209 [(1, va_rf v1), (2, va_rf v2), (4, va_rf v4)] [] := by
  unfold wp_J29_treeify_B209 at hw
  refine zz_aload C dJ29_treeify_209 2 rfl ?_
  refine zz_astore_n (i := 3) (lv' := [(3, va_rf v4), (1, va_rf v1), (2, va_rf v2), (4, va_rf v4)]) C dJ29_treeify_211 rfl (by decide) (by simp [zz_cat, zz_catI, zz_catJ, zz_catD]) ?_
  refine zz_goto (tgt := 4) C dJ29_treeify_212 (by decide) ?_
  refine zz_subP [1, 2, 0] rfl ?_
  exact hk4 _ _ _ _ _ _ hw
theorem ok_J29_treeify_B197 {G : zzX} (C : zz_C G cJ29_treeify "java/util/HashMap$TreeNode" 13) {K : Option Value → zzM → Prop} (E : zz_E G none K (fun _ _ _ => False)) (hH : zz_H G []) (hR : zz_Rm G 10) {k4 : Option Nat → Option Nat → Option Nat → zzM → Prop} (hk4 : ∀ (z0 : Option Nat) (z1 : Option Nat) (z2 : Option Nat) (M : zzM) (bc bs : Nat), k4 z0 z1 z2 M → zz_T G 13 M bc bs 4 [(1, va_rf z0), (2, va_rf z1), (3, va_rf z2)] []) {v1 : Option Nat} {v2 : Option Nat} {v3 : Option Nat} {v4 : Option Nat} {M : zzM} {bc bs : Nat} (hw : wp_J29_treeify_B197 (zz_Zof G) k4 K v1 v2 v3 v4 M) : zz_T G 13 M bc bs 197 [(1, va_rf v1), (2, va_rf v2), (3, va_rf v3), (4, va_rf v4)] [] := by
  unfold wp_J29_treeify_B197 at hw
  refine zz_aload_n C dJ29_treeify_197 rfl 1 rfl ?_
  refine zz_aload_n C dJ29_treeify_198 rfl 2 rfl ?_
  refine zz_callS (As := [va_rf v2, va_rf v3]) (rest := []) (mc := 0) (ms := 0) C hR dJ29_treeify_199 (Or.inl q1604) q1605 zl_java_util_HashMap_TreeNode zk_J29_balanceInsertion (Or.inl rfl) zy_J29_balanceInsertion (by decide) (by decide) (ok_J29_balanceInsertion (zz_hl C) hw) (Nat.zero_le _) (Nat.zero_le _) (zz_cat10 _ (Nat.le_of_ble_eq_true rfl)) (fun r24 M25 hw => zz_kA hw (fun x28 hw => ?_)) (fun _ _ _ h9 => h9.elim) rfl
  refine zz_astore_n (i := 2) (lv' := [(2, va_rf x28), (1, va_rf v1), (3, va_rf v3), (4, va_rf v4)]) C dJ29_treeify_202 rfl (by decide) (by simp [zz_cat, zz_catI, zz_catJ, zz_catD]) ?_
  refine zz_goto (tgt := 209) C dJ29_treeify_203 (by decide) ?_
  refine zz_subP [1, 0, 3] rfl ?_
  exact ok_J29_treeify_B209 C E hH hR hk4 hw
theorem ok_J29_treeify_B165 {G : zzX} (C : zz_C G cJ29_treeify "java/util/HashMap$TreeNode" 13) {K : Option Value → zzM → Prop} (E : zz_E G none K (fun _ _ _ => False)) (hH : zz_H G []) (hR : zz_Rm G 10) {k4 : Option Nat → Option Nat → Option Nat → zzM → Prop} (hk4 : ∀ (z0 : Option Nat) (z1 : Option Nat) (z2 : Option Nat) (M : zzM) (bc bs : Nat), k4 z0 z1 z2 M → zz_T G 13 M bc bs 4 [(1, va_rf z0), (2, va_rf z1), (3, va_rf z2)] []) {k64 : Option Nat → Option Nat → Option Nat → Option Nat → Option Nat → Int32 → Option Nat → Option Nat → zzM → Prop} (hk64 : ∀ (z0 : Option Nat) (z1 : Option Nat) (z2 : Option Nat) (z3 : Option Nat) (z4 : Option Nat) (z5 : Int32) (z6 : Option Nat) (z7 : Option Nat) (M : zzM) (bc bs : Nat), k64 z0 z1 z2 z3 z4 z5 z6 z7 M → zz_T G 13 M bc bs 64 [(1, va_rf z0), (2, va_rf z1), (3, va_rf z2), (4, va_rf z3), (5, va_rf z4), (6, .int z5), (7, va_rf z6), (8, va_rf z7)] []) {v1 : Option Nat} {v2 : Option Nat} {v3 : Option Nat} {v4 : Option Nat} {v5 : Option Nat} {v6 : Int32} {v7 : Option Nat} {v9 : Int32} {v12 : Option Nat} {s0 : Option Nat} {M : zzM} {bc bs : Nat} (hw : wp_J29_treeify_B165 (zz_Zof G) k4 k64 K v1 v2 v3 v4 v5 v6 v7 v9 v12 s0 M) : zz_T G 13 M bc bs 165 [(1, va_rf v1), (2, va_rf v2), (3, va_rf v3), (4, va_rf v4), (5, va_rf v5), (6, .int v6), (7, va_rf v7), (9, .int v9), (12, va_rf v12)] [va_rf s0] := by
  unfold wp_J29_treeify_B165 at hw
  refine zz_dup C dJ29_treeify_165 (zz_cat _) ?_
  refine zz_astore (lv' := [(8, va_rf s0), (1, va_rf v1), (2, va_rf v2), (3, va_rf v3), (4, va_rf v4), (5, va_rf v5), (6, .int v6), (7, va_rf v7), (9, .int v9), (12, va_rf v12)]) C dJ29_treeify_166 (by decide) (by simp [zz_cat, zz_catI, zz_catJ, zz_catD]) ?_
  refine zz_ifnonnull (tgt := 206) C dJ29_treeify_168 (by decide) hw (fun hw => ?_) (fun hw => ?_)
  · refine zz_goto (tgt := 64) C dJ29_treeify_206 (by decide) ?_
    refine zz_subP [1, 2, 3, 4, 5, 6, 7, 0] rfl ?_
    exact hk64 _ _ _ _ _ _ _ _ _ _ _ hw
  · refine zz_aload_n C dJ29_treeify_171 rfl 3 rfl ?_
    refine zz_aload C dJ29_treeify_172 9 rfl ?_
    refine zz_put C dJ29_treeify_174 (Or.inl q1685) zf_25_4_shMap_TreeNode zp_25_4 (zz_hn1 (zz_nA _ rfl v12)) hw (fun M21 hw => ?_)
    refine zz_iload C dJ29_treeify_177 8 rfl ?_
    refine zz_if_gt (tgt := 191) C dJ29_treeify_179 (by decide) hw (fun hw => ?_) (fun hw => ?_)
    · refine zz_aload C dJ29_treeify_191 9 rfl ?_
      refine zz_aload_n C dJ29_treeify_193 rfl 3 rfl ?_
      refine zz_put C dJ29_treeify_194 (Or.inl q1687) zf_25_6_shMap_TreeNode zp_25_6 (zz_hn1 (zz_nA _ rfl v3)) hw (fun M22 hw => ?_)
      refine zz_subP [1, 2, 3, 4] rfl ?_
      exact ok_J29_treeify_B197 C E hH hR hk4 hw
    · refine zz_aload C dJ29_treeify_182 9 rfl ?_
      refine zz_aload_n C dJ29_treeify_184 rfl 3 rfl ?_
      refine zz_put C dJ29_treeify_185 (Or.inl q1686) zf_25_5_shMap_TreeNode zp_25_5 (zz_hn1 (zz_nA _ rfl v3)) hw (fun M23 hw => ?_)
      refine zz_goto (tgt := 197) C dJ29_treeify_188 (by decide) ?_
      refine zz_subP [1, 2, 3, 4] rfl ?_
      exact ok_J29_treeify_B197 C E hH hR hk4 hw
theorem ok_J29_treeify_B143 {G : zzX} (C : zz_C G cJ29_treeify "java/util/HashMap$TreeNode" 13) {K : Option Value → zzM → Prop} (E : zz_E G none K (fun _ _ _ => False)) (hH : zz_H G []) (hR : zz_Rm G 10) {k4 : Option Nat → Option Nat → Option Nat → zzM → Prop} (hk4 : ∀ (z0 : Option Nat) (z1 : Option Nat) (z2 : Option Nat) (M : zzM) (bc bs : Nat), k4 z0 z1 z2 M → zz_T G 13 M bc bs 4 [(1, va_rf z0), (2, va_rf z1), (3, va_rf z2)] []) {k64 : Option Nat → Option Nat → Option Nat → Option Nat → Option Nat → Int32 → Option Nat → Option Nat → zzM → Prop} (hk64 : ∀ (z0 : Option Nat) (z1 : Option Nat) (z2 : Option Nat) (z3 : Option Nat) (z4 : Option Nat) (z5 : Int32) (z6 : Option Nat) (z7 : Option Nat) (M : zzM) (bc bs : Nat), k64 z0 z1 z2 z3 z4 z5 z6 z7 M → zz_T G 13 M bc bs 64 [(1, va_rf z0), (2, va_rf z1), (3, va_rf z2), (4, va_rf z3), (5, va_rf z4), (6, .int z5), (7, va_rf z6), (8, va_rf z7)] []) {v1 : Option Nat} {v2 : Option Nat} {v3 : Option Nat} {v4 : Option Nat} {v5 : Option Nat} {v6 : Int32} {v7 : Option Nat} {v8 : Option Nat} {v9 : Int32} {M : zzM} {bc bs : Nat} (hw : wp_J29_treeify_B143 (zz_Zof G) k4 k64 K v1 v2 v3 v4 v5 v6 v7 v8 v9 M) : zz_T G 13 M bc bs 143 [(1, va_rf v1), (2, va_rf v2), (3, va_rf v3), (4, va_rf v4), (5, va_rf v5), (6, .int v6), (7, va_rf v7), (8, va_rf v8), (9, .int v9)] [] := by
  unfold wp_J29_treeify_B143 at hw
  refine zz_aload C dJ29_treeify_143 7 rfl ?_
  refine zz_astore (lv' := [(12, va_rf v8), (1, va_rf v1), (2, va_rf v2), (3, va_rf v3), (4, va_rf v4), (5, va_rf v5), (6, .int v6), (7, va_rf v7), (8, va_rf v8), (9, .int v9)]) C dJ29_treeify_145 (by decide) rfl ?_
  refine zz_iload C dJ29_treeify_147 9 rfl ?_
  refine zz_if_gt (tgt := 160) C dJ29_treeify_149 (by decide) hw (fun hw => ?_) (fun hw => ?_)
  · refine zz_aload C dJ29_treeify_160 8 rfl ?_
    refine zz_getA C dJ29_treeify_162 (Or.inl q1687) zf_25_6_shMap_TreeNode hw (fun x19 hw => ?_)
    refine zz_subP [1, 2, 3, 4, 5, 6, 7, 9, 0] rfl ?_
    exact ok_J29_treeify_B165 C E hH hR hk4 hk64 hw
  · refine zz_aload C dJ29_treeify_152 8 rfl ?_
    refine zz_getA C dJ29_treeify_154 (Or.inl q1686) zf_25_5_shMap_TreeNode hw (fun x20 hw => ?_)
    refine zz_goto (tgt := 165) C dJ29_treeify_157 (by decide) ?_
    refine zz_subP [1, 2, 3, 4, 5, 6, 7, 9, 0] rfl ?_
    exact ok_J29_treeify_B165 C E hH hR hk4 hk64 hw
theorem ok_J29_treeify_B119 {G : zzX} (C : zz_C G cJ29_treeify "java/util/HashMap$TreeNode" 13) {K : Option Value → zzM → Prop} (E : zz_E G none K (fun _ _ _ => False)) (hH : zz_H G []) (hR : zz_Rm G 10) {k4 : Option Nat → Option Nat → Option Nat → zzM → Prop} (hk4 : ∀ (z0 : Option Nat) (z1 : Option Nat) (z2 : Option Nat) (M : zzM) (bc bs : Nat), k4 z0 z1 z2 M → zz_T G 13 M bc bs 4 [(1, va_rf z0), (2, va_rf z1), (3, va_rf z2)] []) {k64 : Option Nat → Option Nat → Option Nat → Option Nat → Option Nat → Int32 → Option Nat → Option Nat → zzM → Prop} (hk64 : ∀ (z0 : Option Nat) (z1 : Option Nat) (z2 : Option Nat) (z3 : Option Nat) (z4 : Option Nat) (z5 : Int32) (z6 : Option Nat) (z7 : Option Nat) (M : zzM) (bc bs : Nat), k64 z0 z1 z2 z3 z4 z5 z6 z7 M → zz_T G 13 M bc bs 64 [(1, va_rf z0), (2, va_rf z1), (3, va_rf z2), (4, va_rf z3), (5, va_rf z4), (6, .int z5), (7, va_rf z6), (8, va_rf z7)] []) {v1 : Option Nat} {v2 : Option Nat} {v3 : Option Nat} {v4 : Option Nat} {v5 : Option Nat} {v6 : Int32} {v7 : Option Nat} {v8 : Option Nat} {v11 : Option Nat} {M : zzM} {bc bs : Nat} (hw : wp_J29_treeify_B119 (zz_Zof G) k4 k64 K v1 v2 v3 v4 v5 v6 v7 v8 v11 M) : zz_T G 13 M bc bs 119 [(1, va_rf v1), (2, va_rf v2), (3, va_rf v3), (4, va_rf v4), (5, va_rf v5), (6, .int v6), (7, va_rf v7), (8, va_rf v8), (11, va_rf v11)] [] := by
  unfold wp_J29_treeify_B119 at hw
  refine zz_aload C dJ29_treeify_119 6 rfl ?_
  refine zz_aload C dJ29_treeify_121 4 rfl ?_
  refine zz_aload C dJ29_treeify_123 8 rfl ?_
  refine zz_callS (As := [va_rf v7, va_rf v5, va_rf v11]) (rest := []) (mc := 0) (ms := 0) C hR dJ29_treeify_125 (Or.inl q1388) q1389 zl_java_util_HashMap zk_J4_compareComparables (Or.inl rfl) zy_J4_compareComparables (by decide) (by decide) (ok_J4_compareComparables (zz_hl C) hw) (Nat.zero_le _) (Nat.zero_le _) (zz_cat10 _ (Nat.le_of_ble_eq_true rfl)) (fun r29 M30 hw => zz_kI hw (fun x33 hw => ?_)) (fun _ _ _ h9 => h9.elim) rfl
  refine zz_dup C dJ29_treeify_128 rfl ?_
  refine zz_istore (lv' := [(9, .int x33), (1, va_rf v1), (2, va_rf v2), (3, va_rf v3), (4, va_rf v4), (5, va_rf v5), (6, .int v6), (7, va_rf v7), (8, va_rf v8), (11, va_rf v11)]) C dJ29_treeify_129 (by decide) (by simp [zz_cat, zz_catI, zz_catJ, zz_catD]) ?_
  refine zz_if_ne (tgt := 143) C dJ29_treeify_131 (by decide) hw (fun hw => ?_) (fun hw => ?_)
  · refine zz_subP [1, 2, 3, 4, 5, 6, 7, 8, 0] rfl ?_
    exact ok_J29_treeify_B143 C E hH hR hk4 hk64 hw
  · refine zz_subP [5, 9] rfl ?_
    exact ok_J29_treeify_B134 C E hH hR hw
theorem ok_J29_treeify_L64 {G : zzX} (C : zz_C G cJ29_treeify "java/util/HashMap$TreeNode" 13) {K : Option Value → zzM → Prop} (E : zz_E G none K (fun _ _ _ => False)) (hH : zz_H G []) (hR : zz_Rm G 10) {k4 : Option Nat → Option Nat → Option Nat → zzM → Prop} (hk4 : ∀ (z0 : Option Nat) (z1 : Option Nat) (z2 : Option Nat) (M : zzM) (bc bs : Nat), k4 z0 z1 z2 M → zz_T G 13 M bc bs 4 [(1, va_rf z0), (2, va_rf z1), (3, va_rf z2)] []) : ∀ (n : Nat) (v1 : Option Nat) (v2 : Option Nat) (v3 : Option Nat) (v4 : Option Nat) (v5 : Option Nat) (v6 : Int32) (v7 : Option Nat) (v8 : Option Nat) (M : zzM) (bc bs : Nat), wp_J29_treeify_L64 (zz_Zof G) k4 K n v1 v2 v3 v4 v5 v6 v7 v8 M → zz_T G 13 M bc bs 64 [(1, va_rf v1), (2, va_rf v2), (3, va_rf v3), (4, va_rf v4), (5, va_rf v5), (6, .int v6), (7, va_rf v7), (8, va_rf v8)] [] := by
  intro n
  induction n with
  | zero =>
    intro v1 v2 v3 v4 v5 v6 v7 v8 M bc bs hw
    exact False.elim hw
  | succ n ih =>
    intro v1 v2 v3 v4 v5 v6 v7 v8 M bc bs hw
    refine zz_aload C dJ29_treeify_64 7 rfl ?_
    refine zz_getA C dJ29_treeify_66 (Or.inl q1358) zf_25_1_shMap_TreeNode hw (fun x12 hw => ?_)
    refine zz_astore (lv' := [(11, va_rf x12), (1, va_rf v1), (2, va_rf v2), (3, va_rf v3), (4, va_rf v4), (5, va_rf v5), (6, .int v6), (7, va_rf v7), (8, va_rf v8)]) C dJ29_treeify_69 (by decide) rfl ?_
    refine zz_aload C dJ29_treeify_71 8 rfl ?_
    refine zz_getI C dJ29_treeify_73 (Or.inl q1354) zf_25_0_shMap_TreeNode hw (fun x13 hw => ?_)
    refine zz_dup C dJ29_treeify_76 rfl ?_
    refine zz_istore (lv' := [(10, .int x13), (11, va_rf x12), (1, va_rf v1), (2, va_rf v2), (3, va_rf v3), (4, va_rf v4), (5, va_rf v5), (6, .int v6), (7, va_rf v7), (8, va_rf v8)]) C dJ29_treeify_77 (by decide) rfl ?_
    refine zz_iload C dJ29_treeify_79 7 rfl ?_
    refine zz_icmp_le (tgt := 90) C dJ29_treeify_81 (by decide) hw (fun hw => ?_) (fun hw => ?_)
    · refine zz_iload C dJ29_treeify_90 0 rfl ?_
      refine zz_iload C dJ29_treeify_92 7 rfl ?_
      refine zz_icmp_ge (tgt := 103) C dJ29_treeify_94 (by decide) hw (fun hw => ?_) (fun hw => ?_)
      · refine zz_aload C dJ29_treeify_103 8 rfl ?_
        refine zz_ifnonnull (tgt := 119) C dJ29_treeify_105 (by decide) hw (fun hw => ?_) (fun hw => ?_)
        · refine zz_subP [2, 3, 4, 5, 6, 7, 8, 9, 1] rfl ?_
          exact ok_J29_treeify_B119 C E hH hR hk4 (fun z0 z1 z2 z3 z4 z5 z6 z7 z8 z9 z10 hw => ih z0 z1 z2 z3 z4 z5 z6 z7 z8 z9 z10 hw) hw
        · refine zz_aload C dJ29_treeify_108 6 rfl ?_
          refine zz_callS (As := [va_rf v5]) (rest := []) (mc := 0) (ms := 0) C hR dJ29_treeify_110 (Or.inl q1382) q1383 zl_java_util_HashMap zk_J4_comparableClassFor (Or.inl rfl) zy_J4_comparableClassFor (by decide) (by decide) (ok_J4_comparableClassFor (zz_hl C) hw) (Nat.zero_le _) (Nat.zero_le _) (zz_cat10 _ (Nat.le_of_ble_eq_true rfl)) (fun r14 M15 hw => zz_kA hw (fun x18 hw => ?_)) (fun _ _ _ h9 => h9.elim) rfl
          refine zz_dup C dJ29_treeify_113 (zz_cat _) ?_
          refine zz_astore (lv' := [(7, va_rf x18), (10, .int x13), (11, va_rf x12), (1, va_rf v1), (2, va_rf v2), (3, va_rf v3), (4, va_rf v4), (5, va_rf v5), (6, .int v6), (8, va_rf v8)]) C dJ29_treeify_114 (by decide) rfl ?_
          refine zz_ifnull (tgt := 134) C dJ29_treeify_116 (by decide) hw (fun hw => ?_) (fun hw => ?_)
          · refine zz_subP [7, 2] rfl ?_
            exact ok_J29_treeify_B134 C E hH hR hw
          · refine zz_subP [3, 4, 5, 6, 7, 8, 0, 9, 2] rfl ?_
            exact ok_J29_treeify_B119 C E hH hR hk4 (fun z0 z1 z2 z3 z4 z5 z6 z7 z8 z9 z10 hw => ih z0 z1 z2 z3 z4 z5 z6 z7 z8 z9 z10 hw) hw
      · refine zz_iconst (v := (1 : Int32)) C dJ29_treeify_97 (by decide) ?_
        refine zz_istore (lv' := [(9, .int (1 : Int32)), (10, .int x13), (11, va_rf x12), (1, va_rf v1), (2, va_rf v2), (3, va_rf v3), (4, va_rf v4), (5, va_rf v5), (6, .int v6), (7, va_rf v7), (8, va_rf v8)]) C dJ29_treeify_98 (by decide) (by simp [zz_cat, zz_catI, zz_catJ, zz_catD]) ?_
        refine zz_goto (tgt := 143) C dJ29_treeify_100 (by decide) ?_
        refine zz_subP [3, 4, 5, 6, 7, 8, 9, 10, 0] rfl ?_
        exact ok_J29_treeify_B143 C E hH hR hk4 (fun z0 z1 z2 z3 z4 z5 z6 z7 z8 z9 z10 hw => ih z0 z1 z2 z3 z4 z5 z6 z7 z8 z9 z10 hw) hw
    · refine zz_iconst (v := (-1 : Int32)) C dJ29_treeify_84 (by decide) ?_
      refine zz_istore (lv' := [(9, .int (-1 : Int32)), (10, .int x13), (11, va_rf x12), (1, va_rf v1), (2, va_rf v2), (3, va_rf v3), (4, va_rf v4), (5, va_rf v5), (6, .int v6), (7, va_rf v7), (8, va_rf v8)]) C dJ29_treeify_85 (by decide) (by simp [zz_cat, zz_catI, zz_catJ, zz_catD]) ?_
      refine zz_goto (tgt := 143) C dJ29_treeify_87 (by decide) ?_
      refine zz_subP [3, 4, 5, 6, 7, 8, 9, 10, 0] rfl ?_
      exact ok_J29_treeify_B143 C E hH hR hk4 (fun z0 z1 z2 z3 z4 z5 z6 z7 z8 z9 z10 hw => ih z0 z1 z2 z3 z4 z5 z6 z7 z8 z9 z10 hw) hw
theorem ok_J29_treeify_L4 {G : zzX} (C : zz_C G cJ29_treeify "java/util/HashMap$TreeNode" 13) {K : Option Value → zzM → Prop} (E : zz_E G none K (fun _ _ _ => False)) (hH : zz_H G []) (hR : zz_Rm G 10) : ∀ (n : Nat) (v1 : Option Nat) (v2 : Option Nat) (v3 : Option Nat) (M : zzM) (bc bs : Nat), wp_J29_treeify_L4 (zz_Zof G) K n v1 v2 v3 M → zz_T G 13 M bc bs 4 [(1, va_rf v1), (2, va_rf v2), (3, va_rf v3)] [] := by
  intro n
  induction n with
  | zero =>
    intro v1 v2 v3 M bc bs hw
    exact False.elim hw
  | succ n ih =>
    intro v1 v2 v3 M bc bs hw
    refine zz_aload_n C dJ29_treeify_4 rfl 2 rfl ?_
    refine zz_ifnull (tgt := 215) C dJ29_treeify_5 (by decide) hw (fun hw => ?_) (fun hw => ?_)
    · refine zz_aload_n C dJ29_treeify_215 rfl 0 rfl ?_
      refine zz_aload_n C dJ29_treeify_216 rfl 1 rfl ?_
      refine zz_callS (As := [va_rf v1, va_rf v2]) (rest := []) (mc := 0) (ms := 0) C hR dJ29_treeify_217 (Or.inl q1613) q1614 zl_java_util_HashMap_TreeNode zk_J29_moveRootToFront (Or.inl rfl) zy_J29_moveRootToFront (by decide) (by decide) (ok_J29_moveRootToFront (zz_hl C) hw) (Nat.zero_le _) (Nat.zero_le _) (zz_cat10 _ (Nat.le_of_ble_eq_true rfl)) (fun r1 M2 hw => zz_kV hw (fun hw => ?_)) (fun _ _ _ h9 => h9.elim) rfl
      exact zz_vret C E dJ29_treeify_220 hw
    · refine zz_aload_n C dJ29_treeify_8 rfl 2 rfl ?_
      refine zz_getA C dJ29_treeify_9 (Or.inl q1364) zf_25_3_shMap_TreeNode hw (fun x5 hw => ?_)
      refine zz_cast C dJ29_treeify_12 q1339 zc_25_shMap_TreeNode hw (fun hw => ?_)
      refine zz_astore (lv' := [(4, va_rf x5), (1, va_rf v1), (2, va_rf v2), (3, va_rf v3)]) C dJ29_treeify_15 (by decide) (by simp [zz_cat, zz_catI, zz_catJ, zz_catD]) ?_
      refine zz_aload_n C dJ29_treeify_17 rfl 3 rfl ?_
      refine zz_aload_n C dJ29_treeify_18 rfl 3 rfl ?_
      refine zz_null C dJ29_treeify_19 ?_
      refine zz_dup_x1 C dJ29_treeify_20 (zz_cat _) (zz_cat _) ?_
      refine zz_put C dJ29_treeify_21 (Or.inl q1687) zf_25_6_shMap_TreeNode zp_25_6 (zz_hn1 (zz_nA _ rfl none)) hw (fun M6 hw => ?_)
      refine zz_put C dJ29_treeify_24 (Or.inl q1686) zf_25_5_shMap_TreeNode zp_25_5 (zz_hn1 (zz_nA _ rfl none)) hw (fun M7 hw => ?_)
      refine zz_aload_n C dJ29_treeify_27 rfl 2 rfl ?_
      refine zz_ifnonnull (tgt := 46) C dJ29_treeify_28 (by decide) hw (fun hw => ?_) (fun hw => ?_)
      · refine zz_aload_n C dJ29_treeify_46 rfl 3 rfl ?_
        refine zz_getA C dJ29_treeify_47 (Or.inl q1358) zf_25_1_shMap_TreeNode hw (fun x8 hw => ?_)
        refine zz_astore (lv' := [(5, va_rf x8), (4, va_rf x5), (1, va_rf v1), (2, va_rf v2), (3, va_rf v3)]) C dJ29_treeify_50 (by decide) (by simp [zz_cat, zz_catI, zz_catJ, zz_catD]) ?_
        refine zz_aload_n C dJ29_treeify_52 rfl 4 rfl ?_
        refine zz_getI C dJ29_treeify_53 (Or.inl q1354) zf_25_0_shMap_TreeNode hw (fun x9 hw => ?_)
        refine zz_istore (lv' := [(6, .int x9), (5, va_rf x8), (4, va_rf x5), (1, va_rf v1), (2, va_rf v2), (3, va_rf v3)]) C dJ29_treeify_56 (by decide) (by simp [zz_cat, zz_catI, zz_catJ, zz_catD]) ?_
        refine zz_null C dJ29_treeify_58 ?_
        refine zz_astore (lv' := [(7, va_rf none), (6, .int x9), (5, va_rf x8), (4, va_rf x5), (1, va_rf v1), (2, va_rf v2), (3, va_rf v3)]) C dJ29_treeify_59 (by decide) rfl ?_
        refine zz_aload_n C dJ29_treeify_61 rfl 5 rfl ?_
        refine zz_astore (lv' := [(8, va_rf v2), (7, va_rf none), (6, .int x9), (5, va_rf x8), (4, va_rf x5), (1, va_rf v1), (2, va_rf v2), (3, va_rf v3)]) C dJ29_treeify_62 (by decide) (by simp [zz_cat, zz_catI, zz_catJ, zz_catD]) ?_
        refine zz_subP [5, 6, 7, 4, 3, 2, 1, 0] rfl ?_
        obtain ⟨n64, hw⟩ := hw
        exact ok_J29_treeify_L64 C E hH hR (fun z0 z1 z2 z3 z4 z5 hw => ih z0 z1 z2 z3 z4 z5 hw) n64 _ _ _ _ _ _ _ _ _ _ _ hw
      · refine zz_aload_n C dJ29_treeify_31 rfl 3 rfl ?_
        refine zz_null C dJ29_treeify_32 ?_
        refine zz_put C dJ29_treeify_33 (Or.inl q1685) zf_25_4_shMap_TreeNode zp_25_4 (zz_hn1 (zz_nA _ rfl none)) hw (fun M10 hw => ?_)
        refine zz_aload_n C dJ29_treeify_36 rfl 3 rfl ?_
        refine zz_iconst (v := (0 : Int32)) C dJ29_treeify_37 (by decide) ?_
        obtain ⟨hfit, hw⟩ := hw
        refine zz_put C dJ29_treeify_38 (Or.inl q1690) zf_25_8_shMap_TreeNode zp_25_8 (zz_hn1 hfit) hw (fun M11 hw => ?_)
        refine zz_aload_n C dJ29_treeify_41 rfl 3 rfl ?_
        refine zz_astore_n (i := 2) (lv' := [(2, va_rf v3), (4, va_rf x5), (1, va_rf v1), (3, va_rf v3)]) C dJ29_treeify_42 rfl (by decide) (by simp [zz_cat, zz_catI, zz_catJ, zz_catD]) ?_
        refine zz_goto (tgt := 209) C dJ29_treeify_43 (by decide) ?_
        refine zz_subP [2, 0, 1] rfl ?_
        exact ok_J29_treeify_B209 C E hH hR (fun z0 z1 z2 z3 z4 z5 hw => ih z0 z1 z2 z3 z4 z5 hw) hw
theorem ok_J29_treeify {Z : zzG} {l : Launch} (hl : l.stackTraces = false) {this : Option Nat} {p0 : Option Nat} {M : zzM} {mc ms : Nat} {K : Option Value → zzM → Prop} (hw : wp_J29_treeify Z this p0 M K) : zz_Met Z l yJ29_treeify (zz_ws yJ29_treeify cJ29_treeify 13 none none) 10 [va_rf this, va_rf p0] M mc ms K (fun _ _ _ => False) := by
  refine zz_ofW hl (plainFor_of_name (by decide)) (by simp only [zz_sl0, zz_slI, zz_slJ, zz_slA] <;> decide) (fun G hZ hll C E hH hR hin => ?_)
  subst hZ
  subst hll
  rw [show lv_args 0 [va_rf this, va_rf p0] = [(0, va_rf this), (1, va_rf p0)] by simp only [zz_la0, zz_laI, zz_laJ, zz_laA]]
  unfold wp_J29_treeify at hw
  refine zz_null C dJ29_treeify_0 ?_
  refine zz_astore_n (i := 2) (lv' := [(2, va_rf none), (0, va_rf this), (1, va_rf p0)]) C dJ29_treeify_1 rfl (by decide) (by simp [zz_cat, zz_catI, zz_catJ, zz_catD]) ?_
  refine zz_aload_n C dJ29_treeify_2 rfl 1 rfl ?_
  refine zz_astore_n (i := 3) (lv' := [(3, va_rf this), (2, va_rf none), (0, va_rf this), (1, va_rf p0)]) C dJ29_treeify_3 rfl (by decide) (by simp [zz_cat, zz_catI, zz_catJ, zz_catD]) ?_
  refine zz_subP [3, 1, 0] rfl ?_
  obtain ⟨n4, hw⟩ := hw
  exact ok_J29_treeify_L4 C E hH hR n4 _ _ _ _ _ _ hw
abbrev cJ4_treeifyBin : ByteArray := prog_63_method_18_code
def yJ4_treeifyBin : MethodName := ⟨"java/util/HashMap", "treeifyBin", "([Ljava/util/HashMap$Node;I)V"⟩
def dkwJ4_treeifyBin_4 : List UInt8 := [21, 4, 25, 6, 91, 83, 198, 0, 9, 25, 6, 43, 182, 0, 224, 177]
abbrev dktJ4_treeifyBin_4 : List UInt8 := dkwJ4_treeifyBin_4 ++ []
def dkwJ4_treeifyBin_3 : List UInt8 := [25, 7, 25, 8, 181, 0, 223, 25, 8, 58, 7, 25, 5, 180, 0, 177, 89, 58, 5, 199, 255, 209, 43]
abbrev dktJ4_treeifyBin_3 : List UInt8 := dkwJ4_treeifyBin_3 ++ dktJ4_treeifyBin_4
def dkwJ4_treeifyBin_2 : List UInt8 := [182, 0, 215, 58, 8, 25, 7, 199, 0, 10, 25, 8, 58, 6, 167, 0, 17, 25, 8, 25, 7, 181, 0, 219]
abbrev dktJ4_treeifyBin_2 : List UInt8 := dkwJ4_treeifyBin_2 ++ dktJ4_treeifyBin_3
def dkwJ4_treeifyBin_1 : List UInt8 := [100, 28, 126, 89, 54, 4, 50, 89, 58, 5, 198, 0, 75, 1, 58, 6, 1, 58, 7, 42, 25, 5, 1]
abbrev dktJ4_treeifyBin_1 : List UInt8 := dkwJ4_treeifyBin_1 ++ dktJ4_treeifyBin_2
def dkwJ4_treeifyBin_0 : List UInt8 := [43, 198, 0, 12, 43, 190, 89, 62, 16, 64, 162, 0, 11, 42, 182, 0, 117, 87, 167, 0, 91, 43, 29, 4]
abbrev dktJ4_treeifyBin_0 : List UInt8 := dkwJ4_treeifyBin_0 ++ dktJ4_treeifyBin_1
theorem dksJ4_treeifyBin_0 : cJ4_treeifyBin.data.toList.drop 0 = dktJ4_treeifyBin_0 := by decide +kernel
theorem dksJ4_treeifyBin_1 : cJ4_treeifyBin.data.toList.drop 24 = dktJ4_treeifyBin_1 := dk_seg dksJ4_treeifyBin_0 24 rfl rfl
theorem dksJ4_treeifyBin_2 : cJ4_treeifyBin.data.toList.drop 47 = dktJ4_treeifyBin_2 := dk_seg dksJ4_treeifyBin_1 23 rfl rfl
theorem dksJ4_treeifyBin_3 : cJ4_treeifyBin.data.toList.drop 71 = dktJ4_treeifyBin_3 := dk_seg dksJ4_treeifyBin_2 24 rfl rfl
theorem dksJ4_treeifyBin_4 : cJ4_treeifyBin.data.toList.drop 94 = dktJ4_treeifyBin_4 := dk_seg dksJ4_treeifyBin_3 23 rfl rfl
theorem dJ4_treeifyBin_0 : decode cJ4_treeifyBin 0 = .ok (.aload_n 1, 1) := dk_43 (dk_at dksJ4_treeifyBin_0 0 rfl rfl)
theorem dJ4_treeifyBin_1 : decode cJ4_treeifyBin 1 = .ok (.ifnull 12, 3) := dk_198 0 12 (dk_at dksJ4_treeifyBin_0 1 rfl rfl)
theorem dJ4_treeifyBin_4 : decode cJ4_treeifyBin 4 = .ok (.aload_n 1, 1) := dk_43 (dk_at dksJ4_treeifyBin_0 4 rfl rfl)
theorem dJ4_treeifyBin_5 : decode cJ4_treeifyBin 5 = .ok (.arraylength, 1) := dk_190 (dk_at dksJ4_treeifyBin_0 5 rfl rfl)
theorem dJ4_treeifyBin_6 : decode cJ4_treeifyBin 6 = .ok (.dup, 1) := dk_89 (dk_at dksJ4_treeifyBin_0 6 rfl rfl)
theorem dJ4_treeifyBin_7 : decode cJ4_treeifyBin 7 = .ok (.istore_n 3, 1) := dk_62 (dk_at dksJ4_treeifyBin_0 7 rfl rfl)
theorem dJ4_treeifyBin_8 : decode cJ4_treeifyBin 8 = .ok (.bipush 64, 2) := dk_16 64 (dk_at dksJ4_treeifyBin_0 8 rfl rfl)
theorem dJ4_treeifyBin_10 : decode cJ4_treeifyBin 10 = .ok (.if_icmp .ge 11, 3) := dk_162 0 11 (dk_at dksJ4_treeifyBin_0 10 rfl rfl)
theorem dJ4_treeifyBin_13 : decode cJ4_treeifyBin 13 = .ok (.aload_n 0, 1) := dk_42 (dk_at dksJ4_treeifyBin_0 13 rfl rfl)
theorem dJ4_treeifyBin_14 : decode cJ4_treeifyBin 14 = .ok (.invokevirtual 117, 3) := dk_182 0 117 (dk_at dksJ4_treeifyBin_0 14 rfl rfl)
theorem dJ4_treeifyBin_17 : decode cJ4_treeifyBin 17 = .ok (.pop, 1) := dk_87 (dk_at dksJ4_treeifyBin_0 17 rfl rfl)
theorem dJ4_treeifyBin_18 : decode cJ4_treeifyBin 18 = .ok (.goto 91, 3) := dk_167 0 91 (dk_at dksJ4_treeifyBin_0 18 rfl rfl)
theorem dJ4_treeifyBin_21 : decode cJ4_treeifyBin 21 = .ok (.aload_n 1, 1) := dk_43 (dk_at dksJ4_treeifyBin_0 21 rfl rfl)
theorem dJ4_treeifyBin_22 : decode cJ4_treeifyBin 22 = .ok (.iload_n 3, 1) := dk_29 (dk_at dksJ4_treeifyBin_0 22 rfl rfl)
theorem dJ4_treeifyBin_23 : decode cJ4_treeifyBin 23 = .ok (.iconst 1, 1) := dk_4 (dk_at dksJ4_treeifyBin_0 23 rfl rfl)
theorem dJ4_treeifyBin_24 : decode cJ4_treeifyBin 24 = .ok (.isub, 1) := dk_100 (dk_at dksJ4_treeifyBin_1 0 rfl rfl)
theorem dJ4_treeifyBin_25 : decode cJ4_treeifyBin 25 = .ok (.iload_n 2, 1) := dk_28 (dk_at dksJ4_treeifyBin_1 1 rfl rfl)
theorem dJ4_treeifyBin_26 : decode cJ4_treeifyBin 26 = .ok (.iand, 1) := dk_126 (dk_at dksJ4_treeifyBin_1 2 rfl rfl)
theorem dJ4_treeifyBin_27 : decode cJ4_treeifyBin 27 = .ok (.dup, 1) := dk_89 (dk_at dksJ4_treeifyBin_1 3 rfl rfl)
theorem dJ4_treeifyBin_28 : decode cJ4_treeifyBin 28 = .ok (.istore 4, 2) := dk_54 4 (dk_at dksJ4_treeifyBin_1 4 rfl rfl)
theorem dJ4_treeifyBin_30 : decode cJ4_treeifyBin 30 = .ok (.aaload, 1) := dk_50 (dk_at dksJ4_treeifyBin_1 6 rfl rfl)
theorem dJ4_treeifyBin_31 : decode cJ4_treeifyBin 31 = .ok (.dup, 1) := dk_89 (dk_at dksJ4_treeifyBin_1 7 rfl rfl)
theorem dJ4_treeifyBin_32 : decode cJ4_treeifyBin 32 = .ok (.astore 5, 2) := dk_58 5 (dk_at dksJ4_treeifyBin_1 8 rfl rfl)
theorem dJ4_treeifyBin_34 : decode cJ4_treeifyBin 34 = .ok (.ifnull 75, 3) := dk_198 0 75 (dk_at dksJ4_treeifyBin_1 10 rfl rfl)
theorem dJ4_treeifyBin_37 : decode cJ4_treeifyBin 37 = .ok (.aconst_null, 1) := dk_1 (dk_at dksJ4_treeifyBin_1 13 rfl rfl)
theorem dJ4_treeifyBin_38 : decode cJ4_treeifyBin 38 = .ok (.astore 6, 2) := dk_58 6 (dk_at dksJ4_treeifyBin_1 14 rfl rfl)
theorem dJ4_treeifyBin_40 : decode cJ4_treeifyBin 40 = .ok (.aconst_null, 1) := dk_1 (dk_at dksJ4_treeifyBin_1 16 rfl rfl)
theorem dJ4_treeifyBin_41 : decode cJ4_treeifyBin 41 = .ok (.astore 7, 2) := dk_58 7 (dk_at dksJ4_treeifyBin_1 17 rfl rfl)
theorem dJ4_treeifyBin_43 : decode cJ4_treeifyBin 43 = .ok (.aload_n 0, 1) := dk_42 (dk_at dksJ4_treeifyBin_1 19 rfl rfl)
theorem dJ4_treeifyBin_44 : decode cJ4_treeifyBin 44 = .ok (.aload 5, 2) := dk_25 5 (dk_at dksJ4_treeifyBin_1 20 rfl rfl)
theorem dJ4_treeifyBin_46 : decode cJ4_treeifyBin 46 = .ok (.aconst_null, 1) := dk_1 (dk_at dksJ4_treeifyBin_1 22 rfl rfl)
theorem dJ4_treeifyBin_47 : decode cJ4_treeifyBin 47 = .ok (.invokevirtual 215, 3) := dk_182 0 215 (dk_at dksJ4_treeifyBin_2 0 rfl rfl)
theorem dJ4_treeifyBin_50 : decode cJ4_treeifyBin 50 = .ok (.astore 8, 2) := dk_58 8 (dk_at dksJ4_treeifyBin_2 3 rfl rfl)
theorem dJ4_treeifyBin_52 : decode cJ4_treeifyBin 52 = .ok (.aload 7, 2) := dk_25 7 (dk_at dksJ4_treeifyBin_2 5 rfl rfl)
theorem dJ4_treeifyBin_54 : decode cJ4_treeifyBin 54 = .ok (.ifnonnull 10, 3) := dk_199 0 10 (dk_at dksJ4_treeifyBin_2 7 rfl rfl)
theorem dJ4_treeifyBin_57 : decode cJ4_treeifyBin 57 = .ok (.aload 8, 2) := dk_25 8 (dk_at dksJ4_treeifyBin_2 10 rfl rfl)
theorem dJ4_treeifyBin_59 : decode cJ4_treeifyBin 59 = .ok (.astore 6, 2) := dk_58 6 (dk_at dksJ4_treeifyBin_2 12 rfl rfl)
theorem dJ4_treeifyBin_61 : decode cJ4_treeifyBin 61 = .ok (.goto 17, 3) := dk_167 0 17 (dk_at dksJ4_treeifyBin_2 14 rfl rfl)
theorem dJ4_treeifyBin_64 : decode cJ4_treeifyBin 64 = .ok (.aload 8, 2) := dk_25 8 (dk_at dksJ4_treeifyBin_2 17 rfl rfl)
theorem dJ4_treeifyBin_66 : decode cJ4_treeifyBin 66 = .ok (.aload 7, 2) := dk_25 7 (dk_at dksJ4_treeifyBin_2 19 rfl rfl)
theorem dJ4_treeifyBin_68 : decode cJ4_treeifyBin 68 = .ok (.putfield 219, 3) := dk_181 0 219 (dk_at dksJ4_treeifyBin_2 21 rfl rfl)
theorem dJ4_treeifyBin_71 : decode cJ4_treeifyBin 71 = .ok (.aload 7, 2) := dk_25 7 (dk_at dksJ4_treeifyBin_3 0 rfl rfl)
theorem dJ4_treeifyBin_73 : decode cJ4_treeifyBin 73 = .ok (.aload 8, 2) := dk_25 8 (dk_at dksJ4_treeifyBin_3 2 rfl rfl)
theorem dJ4_treeifyBin_75 : decode cJ4_treeifyBin 75 = .ok (.putfield 223, 3) := dk_181 0 223 (dk_at dksJ4_treeifyBin_3 4 rfl rfl)
theorem dJ4_treeifyBin_78 : decode cJ4_treeifyBin 78 = .ok (.aload 8, 2) := dk_25 8 (dk_at dksJ4_treeifyBin_3 7 rfl rfl)
theorem dJ4_treeifyBin_80 : decode cJ4_treeifyBin 80 = .ok (.astore 7, 2) := dk_58 7 (dk_at dksJ4_treeifyBin_3 9 rfl rfl)
theorem dJ4_treeifyBin_82 : decode cJ4_treeifyBin 82 = .ok (.aload 5, 2) := dk_25 5 (dk_at dksJ4_treeifyBin_3 11 rfl rfl)
theorem dJ4_treeifyBin_84 : decode cJ4_treeifyBin 84 = .ok (.getfield 177, 3) := dk_180 0 177 (dk_at dksJ4_treeifyBin_3 13 rfl rfl)
theorem dJ4_treeifyBin_87 : decode cJ4_treeifyBin 87 = .ok (.dup, 1) := dk_89 (dk_at dksJ4_treeifyBin_3 16 rfl rfl)
theorem dJ4_treeifyBin_88 : decode cJ4_treeifyBin 88 = .ok (.astore 5, 2) := dk_58 5 (dk_at dksJ4_treeifyBin_3 17 rfl rfl)
theorem dJ4_treeifyBin_90 : decode cJ4_treeifyBin 90 = .ok (.ifnonnull (-47), 3) := dk_199 255 209 (dk_at dksJ4_treeifyBin_3 19 rfl rfl)
theorem dJ4_treeifyBin_93 : decode cJ4_treeifyBin 93 = .ok (.aload_n 1, 1) := dk_43 (dk_at dksJ4_treeifyBin_3 22 rfl rfl)
theorem dJ4_treeifyBin_94 : decode cJ4_treeifyBin 94 = .ok (.iload 4, 2) := dk_21 4 (dk_at dksJ4_treeifyBin_4 0 rfl rfl)
theorem dJ4_treeifyBin_96 : decode cJ4_treeifyBin 96 = .ok (.aload 6, 2) := dk_25 6 (dk_at dksJ4_treeifyBin_4 2 rfl rfl)
theorem dJ4_treeifyBin_98 : decode cJ4_treeifyBin 98 = .ok (.dup_x2, 1) := dk_91 (dk_at dksJ4_treeifyBin_4 4 rfl rfl)
theorem dJ4_treeifyBin_99 : decode cJ4_treeifyBin 99 = .ok (.aastore, 1) := dk_83 (dk_at dksJ4_treeifyBin_4 5 rfl rfl)
theorem dJ4_treeifyBin_100 : decode cJ4_treeifyBin 100 = .ok (.ifnull 9, 3) := dk_198 0 9 (dk_at dksJ4_treeifyBin_4 6 rfl rfl)
theorem dJ4_treeifyBin_103 : decode cJ4_treeifyBin 103 = .ok (.aload 6, 2) := dk_25 6 (dk_at dksJ4_treeifyBin_4 9 rfl rfl)
theorem dJ4_treeifyBin_105 : decode cJ4_treeifyBin 105 = .ok (.aload_n 1, 1) := dk_43 (dk_at dksJ4_treeifyBin_4 11 rfl rfl)
theorem dJ4_treeifyBin_106 : decode cJ4_treeifyBin 106 = .ok (.invokevirtual 224, 3) := dk_182 0 224 (dk_at dksJ4_treeifyBin_4 12 rfl rfl)
theorem dJ4_treeifyBin_109 : decode cJ4_treeifyBin 109 = .ok (.return_, 1) := dk_177 (dk_at dksJ4_treeifyBin_4 15 rfl rfl)
theorem q1717 : (Jvm.Cond.code ({ cls := "java/util/HashMap", name := "replacementTreeNode", desc := "(Ljava/util/HashMap$Node;Ljava/util/HashMap$Node;)Ljava/util/HashMap$TreeNode;" } : Jvm.MethodName) prog_63_method_49_code (3 : Nat) (Option.some (Jvm.ClassFile.FieldType.object "java/util/HashMap$TreeNode"))) ∈ lw_all := lw_g (lw_at lw_m7 197 rfl) rfl
theorem zk_J4_replacementTreeNode : zz_cd yJ4_replacementTreeNode cJ4_replacementTreeNode 3 (some (.object "java/util/HashMap$TreeNode")) none ∈ lw_all := q1717
theorem zy_J4_replacementTreeNode : zz_yok yJ4_replacementTreeNode 2 = true := by decide +kernel
theorem q1689 : (Jvm.Cond.fieldLink "java/util/HashMap" (219 : Nat) "java/util/HashMap$TreeNode" "prev" "Ljava/util/HashMap$TreeNode;") ∈ lw_all := lw_g (lw_at lw_m7 169 rfl) rfl
theorem q1368 : (Jvm.Cond.fieldLink "java/util/HashMap" (223 : Nat) "java/util/HashMap$TreeNode" "next" "Ljava/util/HashMap$Node;") ∈ lw_all := lw_g (lw_at lw_m6 88 rfl) rfl
theorem q1714 : (Jvm.Cond.methodLink "java/util/HashMap" (215 : Nat) ({ cls := "java/util/HashMap", name := "replacementTreeNode", desc := "(Ljava/util/HashMap$Node;Ljava/util/HashMap$Node;)Ljava/util/HashMap$TreeNode;" } : Jvm.MethodName)) ∈ lw_all := lw_g (lw_at lw_m7 194 rfl) rfl
theorem q1715 : (Jvm.Cond.instanceMethod ({ cls := "java/util/HashMap", name := "replacementTreeNode", desc := "(Ljava/util/HashMap$Node;Ljava/util/HashMap$Node;)Ljava/util/HashMap$TreeNode;" } : Jvm.MethodName)) ∈ lw_all := lw_g (lw_at lw_m7 195 rfl) rfl
theorem q1716 : (Jvm.Cond.selects "java/util/HashMap" ({ cls := "java/util/HashMap", name := "replacementTreeNode", desc := "(Ljava/util/HashMap$Node;Ljava/util/HashMap$Node;)Ljava/util/HashMap$TreeNode;" } : Jvm.MethodName) ({ cls := "java/util/HashMap", name := "replacementTreeNode", desc := "(Ljava/util/HashMap$Node;Ljava/util/HashMap$Node;)Ljava/util/HashMap$TreeNode;" } : Jvm.MethodName)) ∈ lw_all := lw_g (lw_at lw_m7 196 rfl) rfl
theorem q1381 : (Jvm.Cond.code ({ cls := "java/util/HashMap$TreeNode", name := "treeify", desc := "([Ljava/util/HashMap$Node;)V" } : Jvm.MethodName) prog_65_method_7_code (13 : Nat) (Option.none : Option Jvm.ClassFile.FieldType)) ∈ lw_all := lw_g (lw_at lw_m6 101 rfl) rfl
theorem zk_J29_treeify : zz_cd yJ29_treeify cJ29_treeify 13 none none ∈ lw_all := q1381
theorem zy_J29_treeify : zz_yok yJ29_treeify 1 = true := by decide +kernel
theorem q1718 : (Jvm.Cond.methodLink "java/util/HashMap" (224 : Nat) ({ cls := "java/util/HashMap$TreeNode", name := "treeify", desc := "([Ljava/util/HashMap$Node;)V" } : Jvm.MethodName)) ∈ lw_all := lw_g (lw_at lw_m7 198 rfl) rfl
theorem q1379 : (Jvm.Cond.instanceMethod ({ cls := "java/util/HashMap$TreeNode", name := "treeify", desc := "([Ljava/util/HashMap$Node;)V" } : Jvm.MethodName)) ∈ lw_all := lw_g (lw_at lw_m6 99 rfl) rfl
theorem q1380 : (Jvm.Cond.selects "java/util/HashMap$TreeNode" ({ cls := "java/util/HashMap$TreeNode", name := "treeify", desc := "([Ljava/util/HashMap$Node;)V" } : Jvm.MethodName) ({ cls := "java/util/HashMap$TreeNode", name := "treeify", desc := "([Ljava/util/HashMap$Node;)V" } : Jvm.MethodName)) ∈ lw_all := lw_g (lw_at lw_m6 100 rfl) rfl
theorem q1328 : (Jvm.Cond.code ({ cls := "java/util/HashMap", name := "resize", desc := "()[Ljava/util/HashMap$Node;" } : Jvm.MethodName) prog_63_method_17_code (14 : Nat) (Option.some (Jvm.ClassFile.FieldType.array (Jvm.ClassFile.FieldType.object "java/util/HashMap$Node")))) ∈ lw_all := lw_g (lw_at lw_m6 48 rfl) rfl
theorem zk_J4_resize : zz_cd yJ4_resize cJ4_resize 14 (some (.array (.object "java/util/HashMap$Node"))) none ∈ lw_all := q1328
theorem zy_J4_resize : zz_yok yJ4_resize 0 = true := by decide +kernel
theorem q1325 : (Jvm.Cond.methodLink "java/util/HashMap" (117 : Nat) ({ cls := "java/util/HashMap", name := "resize", desc := "()[Ljava/util/HashMap$Node;" } : Jvm.MethodName)) ∈ lw_all := lw_g (lw_at lw_m6 45 rfl) rfl
theorem q1326 : (Jvm.Cond.instanceMethod ({ cls := "java/util/HashMap", name := "resize", desc := "()[Ljava/util/HashMap$Node;" } : Jvm.MethodName)) ∈ lw_all := lw_g (lw_at lw_m6 46 rfl) rfl
theorem q1327 : (Jvm.Cond.selects "java/util/HashMap" ({ cls := "java/util/HashMap", name := "resize", desc := "()[Ljava/util/HashMap$Node;" } : Jvm.MethodName) ({ cls := "java/util/HashMap", name := "resize", desc := "()[Ljava/util/HashMap$Node;" } : Jvm.MethodName)) ∈ lw_all := lw_g (lw_at lw_m6 47 rfl) rfl
def wp_J4_treeifyBin_B109 (Z : zzG) (K : Option Value → zzM → Prop) (M : zzM) (bc bs : Nat) : Prop := K none M
def wp_J4_treeifyBin_B13 (Z : zzG) (K : Option Value → zzM → Prop) (v0 : Option Nat) (M : zzM) (bc bs : Nat) : Prop := zty Z M v0 fun t => t = 19 ∧ zcc bc bs (fun c s k => wp_J4_resize Z v0 M c s k) fun r16 M17 bc18 bs19 => zrA r16 fun x20 => wp_J4_treeifyBin_B109 Z K M17 bc18 bs19
def wp_J4_treeifyBin_B78 (Z : zzG) (k43 : Option Nat → Option Nat → Int32 → Option Nat → Option Nat → Option Nat → zzM → Nat → Nat → Prop) (K : Option Value → zzM → Prop) (v0 : Option Nat) (v1 : Option Nat) (v4 : Int32) (v5 : Option Nat) (v6 : Option Nat) (v8 : Option Nat) (M : zzM) (bc bs : Nat) : Prop := zgA Z M v5 [24, 25] 3 fun x10 => if x10 = none then (zastA Z M v1 v4 v6 fun M11 => if v6 = none then (wp_J4_treeifyBin_B109 Z K M11 bc bs) else (zty Z M11 v6 fun t => t = 25 ∧ wp_J29_treeify Z v6 v1 M11 (fun r12 M13 => zrV r12 (wp_J4_treeifyBin_B109 Z K M13 bc bs)))) else (k43 v0 v1 v4 x10 v6 v8 M bc bs)
def wp_J4_treeifyBin_L43 (Z : zzG) (K : Option Value → zzM → Prop) : Nat → Option Nat → Option Nat → Int32 → Option Nat → Option Nat → Option Nat → zzM → Nat → Nat → Prop
  | 0, _, _, _, _, _, _, _, _, _ => False
  | n + 1, v0, v1, v4, v5, v6, v7, M, bc, bs => zty Z M v0 fun t => t = 19 ∧ zcc bc bs (fun c s k => wp_J4_replacementTreeNode Z v0 v5 none M c s k) fun r3 M4 bc5 bs6 => zrA r3 fun x7 => if v7 = none then (wp_J4_treeifyBin_B78 Z (wp_J4_treeifyBin_L43 Z K n) K v0 v1 v4 v5 x7 x7 M4 bc5 bs6) else (zput Z M4 x7 [25] 7 (va_rf v7) fun M8 => zput Z M8 v7 [25] 3 (va_rf x7) fun M9 => wp_J4_treeifyBin_B78 Z (wp_J4_treeifyBin_L43 Z K n) K v0 v1 v4 v5 v6 x7 M9 bc5 bs6)
def wp_J4_treeifyBin (Z : zzG) (this : Option Nat) (p0 : Option Nat) (p1 : Int32) (M : zzM) (bc bs : Nat) (K : Option Value → zzM → Prop) : Prop := if p0 = none then (wp_J4_treeifyBin_B13 Z K this M bc bs) else (zlen Z M p0 fun x1 => if (64 : Int32) ≤ x1 then (zaA Z M p0 [103, 104, 105] ((x1 - (1 : Int32)) &&& p1) fun x2 => if x2 = none then (wp_J4_treeifyBin_B109 Z K M bc bs) else (∃ n43 : Nat, wp_J4_treeifyBin_L43 Z K n43 this p0 ((x1 - (1 : Int32)) &&& p1) x2 none none M bc bs)) else (wp_J4_treeifyBin_B13 Z K this M bc bs))
theorem ok_J4_treeifyBin_B109 {G : zzX} (C : zz_C G cJ4_treeifyBin "java/util/HashMap" 9) {K : Option Value → zzM → Prop} (E : zz_E G none K (fun _ _ _ => False)) (hH : zz_H G []) (hR : zz_Rm G 11) {M : zzM} {bc bs : Nat} (hw : wp_J4_treeifyBin_B109 (zz_Zof G) K M bc bs) : zz_T G 9 M bc bs 109 [] [] := by
  unfold wp_J4_treeifyBin_B109 at hw
  exact zz_vret C E dJ4_treeifyBin_109 hw
theorem ok_J4_treeifyBin_B13 {G : zzX} (C : zz_C G cJ4_treeifyBin "java/util/HashMap" 9) {K : Option Value → zzM → Prop} (E : zz_E G none K (fun _ _ _ => False)) (hH : zz_H G []) (hR : zz_Rm G 11) {v0 : Option Nat} {M : zzM} {bc bs : Nat} (hw : wp_J4_treeifyBin_B13 (zz_Zof G) K v0 M bc bs) : zz_T G 9 M bc bs 13 [(0, va_rf v0)] [] := by
  unfold wp_J4_treeifyBin_B13 at hw
  refine zz_aload_n C dJ4_treeifyBin_13 rfl 0 rfl ?_
  obtain ⟨a9, t9, b9, fs9, hro, hL, rfl, hw⟩ := ztyS hw
  obtain ⟨c9, s9, hc9, hs9, hw⟩ := hw
  refine zz_callV (r := (zR_19, zT_19, 8)) (As := []) (rest := []) C hR hro dJ4_treeifyBin_14 (Or.inl q1325) q1326 (Or.inl q1327) zl_java_util_HashMap zk_J4_resize (Or.inl rfl) zy_J4_resize rfl (by decide) (by decide) hL (ok_J4_resize (zz_hl C) hw) hc9 hs9 (zz_cat10 _ (Nat.le_of_ble_eq_true rfl)) (fun r16 M17 hw => zz_kA hw (fun x20 hw => ?_)) (fun _ _ _ h9 => h9.elim) rfl
  refine zz_pop C dJ4_treeifyBin_17 (zz_cat _) ?_
  refine zz_goto (tgt := 109) C dJ4_treeifyBin_18 (by decide) ?_
  refine zz_subP [] rfl ?_
  exact ok_J4_treeifyBin_B109 C E hH hR hw
theorem ok_J4_treeifyBin_B78 {G : zzX} (C : zz_C G cJ4_treeifyBin "java/util/HashMap" 9) {K : Option Value → zzM → Prop} (E : zz_E G none K (fun _ _ _ => False)) (hH : zz_H G []) (hR : zz_Rm G 11) {k43 : Option Nat → Option Nat → Int32 → Option Nat → Option Nat → Option Nat → zzM → Nat → Nat → Prop} (hk43 : ∀ (z0 : Option Nat) (z1 : Option Nat) (z2 : Int32) (z3 : Option Nat) (z4 : Option Nat) (z5 : Option Nat) (M : zzM) (bc bs : Nat), k43 z0 z1 z2 z3 z4 z5 M bc bs → zz_T G 9 M bc bs 43 [(0, va_rf z0), (1, va_rf z1), (4, .int z2), (5, va_rf z3), (6, va_rf z4), (7, va_rf z5)] []) {v0 : Option Nat} {v1 : Option Nat} {v4 : Int32} {v5 : Option Nat} {v6 : Option Nat} {v8 : Option Nat} {M : zzM} {bc bs : Nat} (hw : wp_J4_treeifyBin_B78 (zz_Zof G) k43 K v0 v1 v4 v5 v6 v8 M bc bs) : zz_T G 9 M bc bs 78 [(0, va_rf v0), (1, va_rf v1), (4, .int v4), (5, va_rf v5), (6, va_rf v6), (8, va_rf v8)] [] := by
  unfold wp_J4_treeifyBin_B78 at hw
  refine zz_aload C dJ4_treeifyBin_78 5 rfl ?_
  refine zz_astore (lv' := [(7, va_rf v8), (0, va_rf v0), (1, va_rf v1), (4, .int v4), (5, va_rf v5), (6, va_rf v6), (8, va_rf v8)]) C dJ4_treeifyBin_80 (by decide) (by simp [zz_cat, zz_catI, zz_catJ, zz_catD]) ?_
  refine zz_aload C dJ4_treeifyBin_82 4 rfl ?_
  refine zz_getA C dJ4_treeifyBin_84 (Or.inl q1367) zf_24_25_3_l_HashMap_Node hw (fun x10 hw => ?_)
  refine zz_dup C dJ4_treeifyBin_87 (zz_cat _) ?_
  refine zz_astore (lv' := [(5, va_rf x10), (7, va_rf v8), (0, va_rf v0), (1, va_rf v1), (4, .int v4), (6, va_rf v6), (8, va_rf v8)]) C dJ4_treeifyBin_88 (by decide) rfl ?_
  refine zz_ifnonnull (tgt := 43) C dJ4_treeifyBin_90 (by decide) hw (fun hw => ?_) (fun hw => ?_)
  · refine zz_subP [2, 3, 4, 0, 5, 1] rfl ?_
    exact hk43 _ _ _ _ _ _ _ _ _ hw
  · refine zz_aload_n C dJ4_treeifyBin_93 rfl 3 rfl ?_
    refine zz_iload C dJ4_treeifyBin_94 4 rfl ?_
    refine zz_aload C dJ4_treeifyBin_96 5 rfl ?_
    refine zz_dup_x2 C dJ4_treeifyBin_98 (zz_cat _) rfl (zz_cat _) ?_
    refine zz_aast C dJ4_treeifyBin_99 hw (fun M11 hw => ?_)
    refine zz_ifnull (tgt := 109) C dJ4_treeifyBin_100 (by decide) hw (fun hw => ?_) (fun hw => ?_)
    · refine zz_subP [] rfl ?_
      exact ok_J4_treeifyBin_B109 C E hH hR hw
    · refine zz_aload C dJ4_treeifyBin_103 5 rfl ?_
      refine zz_aload_n C dJ4_treeifyBin_105 rfl 3 rfl ?_
      obtain ⟨a9, t9, b9, fs9, hro, hL, rfl, hw⟩ := ztyS hw
      refine zz_callV (r := (zR_25, zT_25, 11)) (As := [va_rf v1]) (rest := []) (mc := 0) (ms := 0) C hR hro dJ4_treeifyBin_106 (Or.inl q1718) q1379 (Or.inl q1380) zl_java_util_HashMap_TreeNode zk_J29_treeify (Or.inl rfl) zy_J29_treeify rfl (by decide) (by decide) hL (ok_J29_treeify (zz_hl C) hw) (Nat.zero_le _) (Nat.zero_le _) (zz_cat10 _ (Nat.le_of_ble_eq_true rfl)) (fun r12 M13 hw => zz_kV hw (fun hw => ?_)) (fun _ _ _ h9 => h9.elim) rfl
      refine zz_subP [] rfl ?_
      exact ok_J4_treeifyBin_B109 C E hH hR hw
theorem ok_J4_treeifyBin_L43 {G : zzX} (C : zz_C G cJ4_treeifyBin "java/util/HashMap" 9) {K : Option Value → zzM → Prop} (E : zz_E G none K (fun _ _ _ => False)) (hH : zz_H G []) (hR : zz_Rm G 11) : ∀ (n : Nat) (v0 : Option Nat) (v1 : Option Nat) (v4 : Int32) (v5 : Option Nat) (v6 : Option Nat) (v7 : Option Nat) (M : zzM) (bc bs : Nat), wp_J4_treeifyBin_L43 (zz_Zof G) K n v0 v1 v4 v5 v6 v7 M bc bs → zz_T G 9 M bc bs 43 [(0, va_rf v0), (1, va_rf v1), (4, .int v4), (5, va_rf v5), (6, va_rf v6), (7, va_rf v7)] [] := by
  intro n
  induction n with
  | zero =>
    intro v0 v1 v4 v5 v6 v7 M bc bs hw
    exact False.elim hw
  | succ n ih =>
    intro v0 v1 v4 v5 v6 v7 M bc bs hw
    refine zz_aload_n C dJ4_treeifyBin_43 rfl 0 rfl ?_
    refine zz_aload C dJ4_treeifyBin_44 3 rfl ?_
    refine zz_null C dJ4_treeifyBin_46 ?_
    obtain ⟨a9, t9, b9, fs9, hro, hL, rfl, hw⟩ := ztyS hw
    obtain ⟨c9, s9, hc9, hs9, hw⟩ := hw
    refine zz_callV (r := (zR_19, zT_19, 8)) (As := [va_rf v5, va_rf none]) (rest := []) C hR hro dJ4_treeifyBin_47 (Or.inl q1714) q1715 (Or.inl q1716) zl_java_util_HashMap zk_J4_replacementTreeNode (Or.inl rfl) zy_J4_replacementTreeNode rfl (by decide) (by decide) hL (ok_J4_replacementTreeNode (zz_hl C) hw) hc9 hs9 (zz_cat10 _ (Nat.le_of_ble_eq_true rfl)) (fun r3 M4 hw => zz_kA hw (fun x7 hw => ?_)) (fun _ _ _ h9 => h9.elim) rfl
    refine zz_astore (lv' := [(8, va_rf x7), (0, va_rf v0), (1, va_rf v1), (4, .int v4), (5, va_rf v5), (6, va_rf v6), (7, va_rf v7)]) C dJ4_treeifyBin_50 (by decide) (by simp [zz_cat, zz_catI, zz_catJ, zz_catD]) ?_
    refine zz_aload C dJ4_treeifyBin_52 6 rfl ?_
    refine zz_ifnonnull (tgt := 64) C dJ4_treeifyBin_54 (by decide) hw (fun hw => ?_) (fun hw => ?_)
    · refine zz_aload C dJ4_treeifyBin_64 0 rfl ?_
      refine zz_aload C dJ4_treeifyBin_66 6 rfl ?_
      refine zz_put C dJ4_treeifyBin_68 (Or.inl q1689) zf_25_7_shMap_TreeNode zp_25_7 (zz_hn1 (zz_nA _ rfl v7)) hw (fun M8 hw => ?_)
      refine zz_aload C dJ4_treeifyBin_71 6 rfl ?_
      refine zz_aload C dJ4_treeifyBin_73 0 rfl ?_
      refine zz_put C dJ4_treeifyBin_75 (Or.inl q1368) zf_25_3_shMap_TreeNode zp_25_3 (zz_hn1 (zz_nA _ rfl x7)) hw (fun M9 hw => ?_)
      refine zz_subP [1, 2, 3, 4, 5, 0] rfl ?_
      exact ok_J4_treeifyBin_B78 C E hH hR (fun z0 z1 z2 z3 z4 z5 z6 z7 z8 hw => ih z0 z1 z2 z3 z4 z5 z6 z7 z8 hw) hw
    · refine zz_aload C dJ4_treeifyBin_57 0 rfl ?_
      refine zz_astore (lv' := [(6, va_rf x7), (8, va_rf x7), (0, va_rf v0), (1, va_rf v1), (4, .int v4), (5, va_rf v5), (7, va_rf v7)]) C dJ4_treeifyBin_59 (by decide) (by simp [zz_cat, zz_catI, zz_catJ, zz_catD]) ?_
      refine zz_goto (tgt := 78) C dJ4_treeifyBin_61 (by decide) ?_
      refine zz_subP [2, 3, 4, 5, 0, 1] rfl ?_
      exact ok_J4_treeifyBin_B78 C E hH hR (fun z0 z1 z2 z3 z4 z5 z6 z7 z8 hw => ih z0 z1 z2 z3 z4 z5 z6 z7 z8 hw) hw
theorem ok_J4_treeifyBin {Z : zzG} {l : Launch} (hl : l.stackTraces = false) {this : Option Nat} {p0 : Option Nat} {p1 : Int32} {M : zzM} {mc ms : Nat} {K : Option Value → zzM → Prop} (hw : wp_J4_treeifyBin Z this p0 p1 M mc ms K) : zz_Met Z l yJ4_treeifyBin (zz_ws yJ4_treeifyBin cJ4_treeifyBin 9 none none) 11 [va_rf this, va_rf p0, .int p1] M mc ms K (fun _ _ _ => False) := by
  refine zz_ofW hl (plainFor_of_name (by decide)) (by simp only [zz_sl0, zz_slI, zz_slJ, zz_slA] <;> decide) (fun G hZ hll C E hH hR hin => ?_)
  subst hZ
  subst hll
  rw [show lv_args 0 [va_rf this, va_rf p0, .int p1] = [(0, va_rf this), (1, va_rf p0), (2, .int p1)] by simp only [zz_la0, zz_laI, zz_laJ, zz_laA]]
  unfold wp_J4_treeifyBin at hw
  refine zz_aload_n C dJ4_treeifyBin_0 rfl 1 rfl ?_
  refine zz_ifnull (tgt := 13) C dJ4_treeifyBin_1 (by decide) hw (fun hw => ?_) (fun hw => ?_)
  · refine zz_subP [0] rfl ?_
    exact ok_J4_treeifyBin_B13 C E hH hR hw
  · refine zz_aload_n C dJ4_treeifyBin_4 rfl 1 rfl ?_
    refine zz_alen C dJ4_treeifyBin_5 hw (fun x1 hw => ?_)
    refine zz_dup C dJ4_treeifyBin_6 rfl ?_
    refine zz_istore_n (i := 3) (lv' := [(3, .int x1), (0, va_rf this), (1, va_rf p0), (2, .int p1)]) C dJ4_treeifyBin_7 rfl (by decide) rfl ?_
    refine zz_bipush (v := (64 : Int32)) C dJ4_treeifyBin_8 (by decide) ?_
    refine zz_icmp_ge (tgt := 21) C dJ4_treeifyBin_10 (by decide) hw (fun hw => ?_) (fun hw => ?_)
    · refine zz_aload_n C dJ4_treeifyBin_21 rfl 2 rfl ?_
      refine zz_iload_n C dJ4_treeifyBin_22 rfl 0 rfl ?_
      refine zz_iconst (v := (1 : Int32)) C dJ4_treeifyBin_23 (by decide) ?_
      refine zz_isub C dJ4_treeifyBin_24 ?_
      refine zz_iload_n C dJ4_treeifyBin_25 rfl 3 rfl ?_
      refine zz_iand C dJ4_treeifyBin_26 ?_
      refine zz_dup C dJ4_treeifyBin_27 rfl ?_
      refine zz_istore (lv' := [(4, .int ((x1 - (1 : Int32)) &&& p1)), (3, .int x1), (0, va_rf this), (1, va_rf p0), (2, .int p1)]) C dJ4_treeifyBin_28 (by decide) rfl ?_
      refine zz_aald C dJ4_treeifyBin_30 hw (fun x2 hw => ?_)
      refine zz_dup C dJ4_treeifyBin_31 (zz_cat _) ?_
      refine zz_astore (lv' := [(5, va_rf x2), (4, .int ((x1 - (1 : Int32)) &&& p1)), (3, .int x1), (0, va_rf this), (1, va_rf p0), (2, .int p1)]) C dJ4_treeifyBin_32 (by decide) rfl ?_
      refine zz_ifnull (tgt := 109) C dJ4_treeifyBin_34 (by decide) hw (fun hw => ?_) (fun hw => ?_)
      · refine zz_subP [] rfl ?_
        exact ok_J4_treeifyBin_B109 C E hH hR hw
      · refine zz_null C dJ4_treeifyBin_37 ?_
        refine zz_astore (lv' := [(6, va_rf none), (5, va_rf x2), (4, .int ((x1 - (1 : Int32)) &&& p1)), (3, .int x1), (0, va_rf this), (1, va_rf p0), (2, .int p1)]) C dJ4_treeifyBin_38 (by decide) (by simp [zz_cat, zz_catI, zz_catJ, zz_catD]) ?_
        refine zz_null C dJ4_treeifyBin_40 ?_
        refine zz_astore (lv' := [(7, va_rf none), (6, va_rf none), (5, va_rf x2), (4, .int ((x1 - (1 : Int32)) &&& p1)), (3, .int x1), (0, va_rf this), (1, va_rf p0), (2, .int p1)]) C dJ4_treeifyBin_41 (by decide) (by simp [zz_cat, zz_catI, zz_catJ, zz_catD]) ?_
        refine zz_subP [5, 6, 3, 2, 1, 0] rfl ?_
        obtain ⟨n43, hw⟩ := hw
        exact ok_J4_treeifyBin_L43 C E hH hR n43 _ _ _ _ _ _ _ _ _ hw
    · refine zz_subP [1] rfl ?_
      exact ok_J4_treeifyBin_B13 C E hH hR hw
abbrev cJ4_putVal : ByteArray := prog_63_method_16_code
def yJ4_putVal : MethodName := ⟨"java/util/HashMap", "putVal", "(ILjava/lang/Object;Ljava/lang/Object;ZZ)Ljava/lang/Object;"⟩
def dkwJ4_putVal_12 : List UInt8 := [181, 0, 156, 42, 180, 0, 88, 164, 0, 8, 42, 182, 0, 117, 87, 42, 21, 5, 182, 0, 205, 1, 176]
abbrev dktJ4_putVal_12 : List UInt8 := dkwJ4_putVal_12 ++ []
def dkwJ4_putVal_11 : List UInt8 := [182, 0, 198, 25, 12, 176, 42, 89, 180, 0, 202, 4, 96, 181, 0, 202, 42, 89, 180, 0, 156, 4, 96, 90]
abbrev dktJ4_putVal_11 : List UInt8 := dkwJ4_putVal_11 ++ dktJ4_putVal_12
def dkwJ4_putVal_10 : List UInt8 := [180, 0, 162, 58, 12, 21, 4, 153, 0, 8, 25, 12, 199, 0, 9, 25, 10, 45, 181, 0, 162, 42, 25, 10]
abbrev dktJ4_putVal_10 : List UInt8 := dkwJ4_putVal_10 ++ dktJ4_putVal_11
def dkwJ4_putVal_9 : List UInt8 := [153, 0, 6, 167, 0, 13, 25, 10, 58, 7, 132, 12, 1, 167, 255, 171, 25, 10, 198, 0, 35, 25, 10]
abbrev dktJ4_putVal_9 : List UInt8 := dkwJ4_putVal_9 ++ dktJ4_putVal_10
def dkwJ4_putVal_8 : List UInt8 := [25, 10, 180, 0, 170, 89, 58, 11, 44, 165, 0, 29, 44, 198, 0, 15, 44, 25, 11, 182, 0, 173]
abbrev dktJ4_putVal_8 : List UInt8 := dkwJ4_putVal_8 ++ dktJ4_putVal_9
def dkwJ4_putVal_7 : List UInt8 := [16, 7, 161, 0, 60, 42, 25, 6, 27, 182, 0, 194, 167, 0, 50, 25, 10, 180, 0, 168, 27, 160, 0, 31]
abbrev dktJ4_putVal_7 : List UInt8 := dkwJ4_putVal_7 ++ dktJ4_putVal_8
def dkwJ4_putVal_6 : List UInt8 := [180, 0, 177, 89, 58, 10, 199, 0, 33, 25, 7, 42, 27, 44, 45, 1, 182, 0, 186, 181, 0, 177, 21, 12]
abbrev dktJ4_putVal_6 : List UInt8 := dkwJ4_putVal_6 ++ dktJ4_putVal_7
def dkwJ4_putVal_5 : List UInt8 := [192, 0, 180, 42, 25, 6, 27, 44, 45, 182, 0, 190, 58, 10, 167, 0, 94, 3, 54, 12, 25, 7]
abbrev dktJ4_putVal_5 : List UInt8 := dkwJ4_putVal_5 ++ dktJ4_putVal_6
def dkwJ4_putVal_4 : List UInt8 := [182, 0, 173, 153, 0, 10, 25, 7, 58, 10, 167, 0, 121, 25, 7, 193, 0, 180, 153, 0, 22, 25, 7]
abbrev dktJ4_putVal_4 : List UInt8 := dkwJ4_putVal_4 ++ dktJ4_putVal_5
def dkwJ4_putVal_3 : List UInt8 := [160, 0, 35, 25, 7, 180, 0, 170, 89, 58, 11, 44, 165, 0, 16, 44, 198, 0, 19, 44, 25, 11]
abbrev dktJ4_putVal_3 : List UInt8 := dkwJ4_putVal_3 ++ dktJ4_putVal_4
def dkwJ4_putVal_2 : List UInt8 := [25, 6, 21, 9, 42, 27, 44, 45, 1, 182, 0, 186, 83, 167, 0, 199, 25, 7, 180, 0, 168, 27]
abbrev dktJ4_putVal_2 : List UInt8 := dkwJ4_putVal_2 ++ dktJ4_putVal_3
def dkwJ4_putVal_1 : List UInt8 := [58, 6, 190, 54, 8, 25, 6, 21, 8, 4, 100, 27, 126, 89, 54, 9, 50, 89, 58, 7, 199, 0, 19]
abbrev dktJ4_putVal_1 : List UInt8 := dkwJ4_putVal_1 ++ dktJ4_putVal_2
def dkwJ4_putVal_0 : List UInt8 := [42, 180, 0, 105, 89, 58, 6, 198, 0, 12, 25, 6, 190, 89, 54, 8, 154, 0, 13, 42, 182, 0, 117, 89]
abbrev dktJ4_putVal_0 : List UInt8 := dkwJ4_putVal_0 ++ dktJ4_putVal_1
theorem dksJ4_putVal_0 : cJ4_putVal.data.toList.drop 0 = dktJ4_putVal_0 := by decide +kernel
theorem dksJ4_putVal_1 : cJ4_putVal.data.toList.drop 24 = dktJ4_putVal_1 := dk_seg dksJ4_putVal_0 24 rfl rfl
theorem dksJ4_putVal_2 : cJ4_putVal.data.toList.drop 47 = dktJ4_putVal_2 := dk_seg dksJ4_putVal_1 23 rfl rfl
theorem dksJ4_putVal_3 : cJ4_putVal.data.toList.drop 69 = dktJ4_putVal_3 := dk_seg dksJ4_putVal_2 22 rfl rfl
theorem dksJ4_putVal_4 : cJ4_putVal.data.toList.drop 91 = dktJ4_putVal_4 := dk_seg dksJ4_putVal_3 22 rfl rfl
theorem dksJ4_putVal_5 : cJ4_putVal.data.toList.drop 114 = dktJ4_putVal_5 := dk_seg dksJ4_putVal_4 23 rfl rfl
theorem dksJ4_putVal_6 : cJ4_putVal.data.toList.drop 136 = dktJ4_putVal_6 := dk_seg dksJ4_putVal_5 22 rfl rfl
theorem dksJ4_putVal_7 : cJ4_putVal.data.toList.drop 160 = dktJ4_putVal_7 := dk_seg dksJ4_putVal_6 24 rfl rfl
theorem dksJ4_putVal_8 : cJ4_putVal.data.toList.drop 184 = dktJ4_putVal_8 := dk_seg dksJ4_putVal_7 24 rfl rfl
theorem dksJ4_putVal_9 : cJ4_putVal.data.toList.drop 206 = dktJ4_putVal_9 := dk_seg dksJ4_putVal_8 22 rfl rfl
theorem dksJ4_putVal_10 : cJ4_putVal.data.toList.drop 229 = dktJ4_putVal_10 := dk_seg dksJ4_putVal_9 23 rfl rfl
theorem dksJ4_putVal_11 : cJ4_putVal.data.toList.drop 253 = dktJ4_putVal_11 := dk_seg dksJ4_putVal_10 24 rfl rfl
theorem dksJ4_putVal_12 : cJ4_putVal.data.toList.drop 277 = dktJ4_putVal_12 := dk_seg dksJ4_putVal_11 24 rfl rfl
theorem dJ4_putVal_0 : decode cJ4_putVal 0 = .ok (.aload_n 0, 1) := dk_42 (dk_at dksJ4_putVal_0 0 rfl rfl)
theorem dJ4_putVal_1 : decode cJ4_putVal 1 = .ok (.getfield 105, 3) := dk_180 0 105 (dk_at dksJ4_putVal_0 1 rfl rfl)
theorem dJ4_putVal_4 : decode cJ4_putVal 4 = .ok (.dup, 1) := dk_89 (dk_at dksJ4_putVal_0 4 rfl rfl)
theorem dJ4_putVal_5 : decode cJ4_putVal 5 = .ok (.astore 6, 2) := dk_58 6 (dk_at dksJ4_putVal_0 5 rfl rfl)
theorem dJ4_putVal_7 : decode cJ4_putVal 7 = .ok (.ifnull 12, 3) := dk_198 0 12 (dk_at dksJ4_putVal_0 7 rfl rfl)
theorem dJ4_putVal_10 : decode cJ4_putVal 10 = .ok (.aload 6, 2) := dk_25 6 (dk_at dksJ4_putVal_0 10 rfl rfl)
theorem dJ4_putVal_12 : decode cJ4_putVal 12 = .ok (.arraylength, 1) := dk_190 (dk_at dksJ4_putVal_0 12 rfl rfl)
theorem dJ4_putVal_13 : decode cJ4_putVal 13 = .ok (.dup, 1) := dk_89 (dk_at dksJ4_putVal_0 13 rfl rfl)
theorem dJ4_putVal_14 : decode cJ4_putVal 14 = .ok (.istore 8, 2) := dk_54 8 (dk_at dksJ4_putVal_0 14 rfl rfl)
theorem dJ4_putVal_16 : decode cJ4_putVal 16 = .ok (.ifCond .ne 13, 3) := dk_154 0 13 (dk_at dksJ4_putVal_0 16 rfl rfl)
theorem dJ4_putVal_19 : decode cJ4_putVal 19 = .ok (.aload_n 0, 1) := dk_42 (dk_at dksJ4_putVal_0 19 rfl rfl)
theorem dJ4_putVal_20 : decode cJ4_putVal 20 = .ok (.invokevirtual 117, 3) := dk_182 0 117 (dk_at dksJ4_putVal_0 20 rfl rfl)
theorem dJ4_putVal_23 : decode cJ4_putVal 23 = .ok (.dup, 1) := dk_89 (dk_at dksJ4_putVal_0 23 rfl rfl)
theorem dJ4_putVal_24 : decode cJ4_putVal 24 = .ok (.astore 6, 2) := dk_58 6 (dk_at dksJ4_putVal_1 0 rfl rfl)
theorem dJ4_putVal_26 : decode cJ4_putVal 26 = .ok (.arraylength, 1) := dk_190 (dk_at dksJ4_putVal_1 2 rfl rfl)
theorem dJ4_putVal_27 : decode cJ4_putVal 27 = .ok (.istore 8, 2) := dk_54 8 (dk_at dksJ4_putVal_1 3 rfl rfl)
theorem dJ4_putVal_29 : decode cJ4_putVal 29 = .ok (.aload 6, 2) := dk_25 6 (dk_at dksJ4_putVal_1 5 rfl rfl)
theorem dJ4_putVal_31 : decode cJ4_putVal 31 = .ok (.iload 8, 2) := dk_21 8 (dk_at dksJ4_putVal_1 7 rfl rfl)
theorem dJ4_putVal_33 : decode cJ4_putVal 33 = .ok (.iconst 1, 1) := dk_4 (dk_at dksJ4_putVal_1 9 rfl rfl)
theorem dJ4_putVal_34 : decode cJ4_putVal 34 = .ok (.isub, 1) := dk_100 (dk_at dksJ4_putVal_1 10 rfl rfl)
theorem dJ4_putVal_35 : decode cJ4_putVal 35 = .ok (.iload_n 1, 1) := dk_27 (dk_at dksJ4_putVal_1 11 rfl rfl)
theorem dJ4_putVal_36 : decode cJ4_putVal 36 = .ok (.iand, 1) := dk_126 (dk_at dksJ4_putVal_1 12 rfl rfl)
theorem dJ4_putVal_37 : decode cJ4_putVal 37 = .ok (.dup, 1) := dk_89 (dk_at dksJ4_putVal_1 13 rfl rfl)
theorem dJ4_putVal_38 : decode cJ4_putVal 38 = .ok (.istore 9, 2) := dk_54 9 (dk_at dksJ4_putVal_1 14 rfl rfl)
theorem dJ4_putVal_40 : decode cJ4_putVal 40 = .ok (.aaload, 1) := dk_50 (dk_at dksJ4_putVal_1 16 rfl rfl)
theorem dJ4_putVal_41 : decode cJ4_putVal 41 = .ok (.dup, 1) := dk_89 (dk_at dksJ4_putVal_1 17 rfl rfl)
theorem dJ4_putVal_42 : decode cJ4_putVal 42 = .ok (.astore 7, 2) := dk_58 7 (dk_at dksJ4_putVal_1 18 rfl rfl)
theorem dJ4_putVal_44 : decode cJ4_putVal 44 = .ok (.ifnonnull 19, 3) := dk_199 0 19 (dk_at dksJ4_putVal_1 20 rfl rfl)
theorem dJ4_putVal_47 : decode cJ4_putVal 47 = .ok (.aload 6, 2) := dk_25 6 (dk_at dksJ4_putVal_2 0 rfl rfl)
theorem dJ4_putVal_49 : decode cJ4_putVal 49 = .ok (.iload 9, 2) := dk_21 9 (dk_at dksJ4_putVal_2 2 rfl rfl)
theorem dJ4_putVal_51 : decode cJ4_putVal 51 = .ok (.aload_n 0, 1) := dk_42 (dk_at dksJ4_putVal_2 4 rfl rfl)
theorem dJ4_putVal_52 : decode cJ4_putVal 52 = .ok (.iload_n 1, 1) := dk_27 (dk_at dksJ4_putVal_2 5 rfl rfl)
theorem dJ4_putVal_53 : decode cJ4_putVal 53 = .ok (.aload_n 2, 1) := dk_44 (dk_at dksJ4_putVal_2 6 rfl rfl)
theorem dJ4_putVal_54 : decode cJ4_putVal 54 = .ok (.aload_n 3, 1) := dk_45 (dk_at dksJ4_putVal_2 7 rfl rfl)
theorem dJ4_putVal_55 : decode cJ4_putVal 55 = .ok (.aconst_null, 1) := dk_1 (dk_at dksJ4_putVal_2 8 rfl rfl)
theorem dJ4_putVal_56 : decode cJ4_putVal 56 = .ok (.invokevirtual 186, 3) := dk_182 0 186 (dk_at dksJ4_putVal_2 9 rfl rfl)
theorem dJ4_putVal_59 : decode cJ4_putVal 59 = .ok (.aastore, 1) := dk_83 (dk_at dksJ4_putVal_2 12 rfl rfl)
theorem dJ4_putVal_60 : decode cJ4_putVal 60 = .ok (.goto 199, 3) := dk_167 0 199 (dk_at dksJ4_putVal_2 13 rfl rfl)
theorem dJ4_putVal_63 : decode cJ4_putVal 63 = .ok (.aload 7, 2) := dk_25 7 (dk_at dksJ4_putVal_2 16 rfl rfl)
theorem dJ4_putVal_65 : decode cJ4_putVal 65 = .ok (.getfield 168, 3) := dk_180 0 168 (dk_at dksJ4_putVal_2 18 rfl rfl)
theorem dJ4_putVal_68 : decode cJ4_putVal 68 = .ok (.iload_n 1, 1) := dk_27 (dk_at dksJ4_putVal_2 21 rfl rfl)
theorem dJ4_putVal_69 : decode cJ4_putVal 69 = .ok (.if_icmp .ne 35, 3) := dk_160 0 35 (dk_at dksJ4_putVal_3 0 rfl rfl)
theorem dJ4_putVal_72 : decode cJ4_putVal 72 = .ok (.aload 7, 2) := dk_25 7 (dk_at dksJ4_putVal_3 3 rfl rfl)
theorem dJ4_putVal_74 : decode cJ4_putVal 74 = .ok (.getfield 170, 3) := dk_180 0 170 (dk_at dksJ4_putVal_3 5 rfl rfl)
theorem dJ4_putVal_77 : decode cJ4_putVal 77 = .ok (.dup, 1) := dk_89 (dk_at dksJ4_putVal_3 8 rfl rfl)
theorem dJ4_putVal_78 : decode cJ4_putVal 78 = .ok (.astore 11, 2) := dk_58 11 (dk_at dksJ4_putVal_3 9 rfl rfl)
theorem dJ4_putVal_80 : decode cJ4_putVal 80 = .ok (.aload_n 2, 1) := dk_44 (dk_at dksJ4_putVal_3 11 rfl rfl)
theorem dJ4_putVal_81 : decode cJ4_putVal 81 = .ok (.if_acmp .eq 16, 3) := dk_165 0 16 (dk_at dksJ4_putVal_3 12 rfl rfl)
theorem dJ4_putVal_84 : decode cJ4_putVal 84 = .ok (.aload_n 2, 1) := dk_44 (dk_at dksJ4_putVal_3 15 rfl rfl)
theorem dJ4_putVal_85 : decode cJ4_putVal 85 = .ok (.ifnull 19, 3) := dk_198 0 19 (dk_at dksJ4_putVal_3 16 rfl rfl)
theorem dJ4_putVal_88 : decode cJ4_putVal 88 = .ok (.aload_n 2, 1) := dk_44 (dk_at dksJ4_putVal_3 19 rfl rfl)
theorem dJ4_putVal_89 : decode cJ4_putVal 89 = .ok (.aload 11, 2) := dk_25 11 (dk_at dksJ4_putVal_3 20 rfl rfl)
theorem dJ4_putVal_91 : decode cJ4_putVal 91 = .ok (.invokevirtual 173, 3) := dk_182 0 173 (dk_at dksJ4_putVal_4 0 rfl rfl)
theorem dJ4_putVal_94 : decode cJ4_putVal 94 = .ok (.ifCond .eq 10, 3) := dk_153 0 10 (dk_at dksJ4_putVal_4 3 rfl rfl)
theorem dJ4_putVal_97 : decode cJ4_putVal 97 = .ok (.aload 7, 2) := dk_25 7 (dk_at dksJ4_putVal_4 6 rfl rfl)
theorem dJ4_putVal_99 : decode cJ4_putVal 99 = .ok (.astore 10, 2) := dk_58 10 (dk_at dksJ4_putVal_4 8 rfl rfl)
theorem dJ4_putVal_101 : decode cJ4_putVal 101 = .ok (.goto 121, 3) := dk_167 0 121 (dk_at dksJ4_putVal_4 10 rfl rfl)
theorem dJ4_putVal_104 : decode cJ4_putVal 104 = .ok (.aload 7, 2) := dk_25 7 (dk_at dksJ4_putVal_4 13 rfl rfl)
theorem dJ4_putVal_106 : decode cJ4_putVal 106 = .ok (.instanceof 180, 3) := dk_193 0 180 (dk_at dksJ4_putVal_4 15 rfl rfl)
theorem dJ4_putVal_109 : decode cJ4_putVal 109 = .ok (.ifCond .eq 22, 3) := dk_153 0 22 (dk_at dksJ4_putVal_4 18 rfl rfl)
theorem dJ4_putVal_112 : decode cJ4_putVal 112 = .ok (.aload 7, 2) := dk_25 7 (dk_at dksJ4_putVal_4 21 rfl rfl)
theorem dJ4_putVal_114 : decode cJ4_putVal 114 = .ok (.checkcast 180, 3) := dk_192 0 180 (dk_at dksJ4_putVal_5 0 rfl rfl)
theorem dJ4_putVal_117 : decode cJ4_putVal 117 = .ok (.aload_n 0, 1) := dk_42 (dk_at dksJ4_putVal_5 3 rfl rfl)
theorem dJ4_putVal_118 : decode cJ4_putVal 118 = .ok (.aload 6, 2) := dk_25 6 (dk_at dksJ4_putVal_5 4 rfl rfl)
theorem dJ4_putVal_120 : decode cJ4_putVal 120 = .ok (.iload_n 1, 1) := dk_27 (dk_at dksJ4_putVal_5 6 rfl rfl)
theorem dJ4_putVal_121 : decode cJ4_putVal 121 = .ok (.aload_n 2, 1) := dk_44 (dk_at dksJ4_putVal_5 7 rfl rfl)
theorem dJ4_putVal_122 : decode cJ4_putVal 122 = .ok (.aload_n 3, 1) := dk_45 (dk_at dksJ4_putVal_5 8 rfl rfl)
theorem dJ4_putVal_123 : decode cJ4_putVal 123 = .ok (.invokevirtual 190, 3) := dk_182 0 190 (dk_at dksJ4_putVal_5 9 rfl rfl)
theorem dJ4_putVal_126 : decode cJ4_putVal 126 = .ok (.astore 10, 2) := dk_58 10 (dk_at dksJ4_putVal_5 12 rfl rfl)
theorem dJ4_putVal_128 : decode cJ4_putVal 128 = .ok (.goto 94, 3) := dk_167 0 94 (dk_at dksJ4_putVal_5 14 rfl rfl)
theorem dJ4_putVal_131 : decode cJ4_putVal 131 = .ok (.iconst 0, 1) := dk_3 (dk_at dksJ4_putVal_5 17 rfl rfl)
theorem dJ4_putVal_132 : decode cJ4_putVal 132 = .ok (.istore 12, 2) := dk_54 12 (dk_at dksJ4_putVal_5 18 rfl rfl)
theorem dJ4_putVal_134 : decode cJ4_putVal 134 = .ok (.aload 7, 2) := dk_25 7 (dk_at dksJ4_putVal_5 20 rfl rfl)
theorem dJ4_putVal_136 : decode cJ4_putVal 136 = .ok (.getfield 177, 3) := dk_180 0 177 (dk_at dksJ4_putVal_6 0 rfl rfl)
theorem dJ4_putVal_139 : decode cJ4_putVal 139 = .ok (.dup, 1) := dk_89 (dk_at dksJ4_putVal_6 3 rfl rfl)
theorem dJ4_putVal_140 : decode cJ4_putVal 140 = .ok (.astore 10, 2) := dk_58 10 (dk_at dksJ4_putVal_6 4 rfl rfl)
theorem dJ4_putVal_142 : decode cJ4_putVal 142 = .ok (.ifnonnull 33, 3) := dk_199 0 33 (dk_at dksJ4_putVal_6 6 rfl rfl)
theorem dJ4_putVal_145 : decode cJ4_putVal 145 = .ok (.aload 7, 2) := dk_25 7 (dk_at dksJ4_putVal_6 9 rfl rfl)
theorem dJ4_putVal_147 : decode cJ4_putVal 147 = .ok (.aload_n 0, 1) := dk_42 (dk_at dksJ4_putVal_6 11 rfl rfl)
theorem dJ4_putVal_148 : decode cJ4_putVal 148 = .ok (.iload_n 1, 1) := dk_27 (dk_at dksJ4_putVal_6 12 rfl rfl)
theorem dJ4_putVal_149 : decode cJ4_putVal 149 = .ok (.aload_n 2, 1) := dk_44 (dk_at dksJ4_putVal_6 13 rfl rfl)
theorem dJ4_putVal_150 : decode cJ4_putVal 150 = .ok (.aload_n 3, 1) := dk_45 (dk_at dksJ4_putVal_6 14 rfl rfl)
theorem dJ4_putVal_151 : decode cJ4_putVal 151 = .ok (.aconst_null, 1) := dk_1 (dk_at dksJ4_putVal_6 15 rfl rfl)
theorem dJ4_putVal_152 : decode cJ4_putVal 152 = .ok (.invokevirtual 186, 3) := dk_182 0 186 (dk_at dksJ4_putVal_6 16 rfl rfl)
theorem dJ4_putVal_155 : decode cJ4_putVal 155 = .ok (.putfield 177, 3) := dk_181 0 177 (dk_at dksJ4_putVal_6 19 rfl rfl)
theorem dJ4_putVal_158 : decode cJ4_putVal 158 = .ok (.iload 12, 2) := dk_21 12 (dk_at dksJ4_putVal_6 22 rfl rfl)
theorem dJ4_putVal_160 : decode cJ4_putVal 160 = .ok (.bipush 7, 2) := dk_16 7 (dk_at dksJ4_putVal_7 0 rfl rfl)
theorem dJ4_putVal_162 : decode cJ4_putVal 162 = .ok (.if_icmp .lt 60, 3) := dk_161 0 60 (dk_at dksJ4_putVal_7 2 rfl rfl)
theorem dJ4_putVal_165 : decode cJ4_putVal 165 = .ok (.aload_n 0, 1) := dk_42 (dk_at dksJ4_putVal_7 5 rfl rfl)
theorem dJ4_putVal_166 : decode cJ4_putVal 166 = .ok (.aload 6, 2) := dk_25 6 (dk_at dksJ4_putVal_7 6 rfl rfl)
theorem dJ4_putVal_168 : decode cJ4_putVal 168 = .ok (.iload_n 1, 1) := dk_27 (dk_at dksJ4_putVal_7 8 rfl rfl)
theorem dJ4_putVal_169 : decode cJ4_putVal 169 = .ok (.invokevirtual 194, 3) := dk_182 0 194 (dk_at dksJ4_putVal_7 9 rfl rfl)
theorem dJ4_putVal_172 : decode cJ4_putVal 172 = .ok (.goto 50, 3) := dk_167 0 50 (dk_at dksJ4_putVal_7 12 rfl rfl)
theorem dJ4_putVal_175 : decode cJ4_putVal 175 = .ok (.aload 10, 2) := dk_25 10 (dk_at dksJ4_putVal_7 15 rfl rfl)
theorem dJ4_putVal_177 : decode cJ4_putVal 177 = .ok (.getfield 168, 3) := dk_180 0 168 (dk_at dksJ4_putVal_7 17 rfl rfl)
theorem dJ4_putVal_180 : decode cJ4_putVal 180 = .ok (.iload_n 1, 1) := dk_27 (dk_at dksJ4_putVal_7 20 rfl rfl)
theorem dJ4_putVal_181 : decode cJ4_putVal 181 = .ok (.if_icmp .ne 31, 3) := dk_160 0 31 (dk_at dksJ4_putVal_7 21 rfl rfl)
theorem dJ4_putVal_184 : decode cJ4_putVal 184 = .ok (.aload 10, 2) := dk_25 10 (dk_at dksJ4_putVal_8 0 rfl rfl)
theorem dJ4_putVal_186 : decode cJ4_putVal 186 = .ok (.getfield 170, 3) := dk_180 0 170 (dk_at dksJ4_putVal_8 2 rfl rfl)
theorem dJ4_putVal_189 : decode cJ4_putVal 189 = .ok (.dup, 1) := dk_89 (dk_at dksJ4_putVal_8 5 rfl rfl)
theorem dJ4_putVal_190 : decode cJ4_putVal 190 = .ok (.astore 11, 2) := dk_58 11 (dk_at dksJ4_putVal_8 6 rfl rfl)
theorem dJ4_putVal_192 : decode cJ4_putVal 192 = .ok (.aload_n 2, 1) := dk_44 (dk_at dksJ4_putVal_8 8 rfl rfl)
theorem dJ4_putVal_193 : decode cJ4_putVal 193 = .ok (.if_acmp .eq 29, 3) := dk_165 0 29 (dk_at dksJ4_putVal_8 9 rfl rfl)
theorem dJ4_putVal_196 : decode cJ4_putVal 196 = .ok (.aload_n 2, 1) := dk_44 (dk_at dksJ4_putVal_8 12 rfl rfl)
theorem dJ4_putVal_197 : decode cJ4_putVal 197 = .ok (.ifnull 15, 3) := dk_198 0 15 (dk_at dksJ4_putVal_8 13 rfl rfl)
theorem dJ4_putVal_200 : decode cJ4_putVal 200 = .ok (.aload_n 2, 1) := dk_44 (dk_at dksJ4_putVal_8 16 rfl rfl)
theorem dJ4_putVal_201 : decode cJ4_putVal 201 = .ok (.aload 11, 2) := dk_25 11 (dk_at dksJ4_putVal_8 17 rfl rfl)
theorem dJ4_putVal_203 : decode cJ4_putVal 203 = .ok (.invokevirtual 173, 3) := dk_182 0 173 (dk_at dksJ4_putVal_8 19 rfl rfl)
theorem dJ4_putVal_206 : decode cJ4_putVal 206 = .ok (.ifCond .eq 6, 3) := dk_153 0 6 (dk_at dksJ4_putVal_9 0 rfl rfl)
theorem dJ4_putVal_209 : decode cJ4_putVal 209 = .ok (.goto 13, 3) := dk_167 0 13 (dk_at dksJ4_putVal_9 3 rfl rfl)
theorem dJ4_putVal_212 : decode cJ4_putVal 212 = .ok (.aload 10, 2) := dk_25 10 (dk_at dksJ4_putVal_9 6 rfl rfl)
theorem dJ4_putVal_214 : decode cJ4_putVal 214 = .ok (.astore 7, 2) := dk_58 7 (dk_at dksJ4_putVal_9 8 rfl rfl)
theorem dJ4_putVal_216 : decode cJ4_putVal 216 = .ok (.iinc 12 1, 3) := dk_132 12 1 (dk_at dksJ4_putVal_9 10 rfl rfl)
theorem dJ4_putVal_219 : decode cJ4_putVal 219 = .ok (.goto (-85), 3) := dk_167 255 171 (dk_at dksJ4_putVal_9 13 rfl rfl)
theorem dJ4_putVal_222 : decode cJ4_putVal 222 = .ok (.aload 10, 2) := dk_25 10 (dk_at dksJ4_putVal_9 16 rfl rfl)
theorem dJ4_putVal_224 : decode cJ4_putVal 224 = .ok (.ifnull 35, 3) := dk_198 0 35 (dk_at dksJ4_putVal_9 18 rfl rfl)
theorem dJ4_putVal_227 : decode cJ4_putVal 227 = .ok (.aload 10, 2) := dk_25 10 (dk_at dksJ4_putVal_9 21 rfl rfl)
theorem dJ4_putVal_229 : decode cJ4_putVal 229 = .ok (.getfield 162, 3) := dk_180 0 162 (dk_at dksJ4_putVal_10 0 rfl rfl)
theorem dJ4_putVal_232 : decode cJ4_putVal 232 = .ok (.astore 12, 2) := dk_58 12 (dk_at dksJ4_putVal_10 3 rfl rfl)
theorem dJ4_putVal_234 : decode cJ4_putVal 234 = .ok (.iload 4, 2) := dk_21 4 (dk_at dksJ4_putVal_10 5 rfl rfl)
theorem dJ4_putVal_236 : decode cJ4_putVal 236 = .ok (.ifCond .eq 8, 3) := dk_153 0 8 (dk_at dksJ4_putVal_10 7 rfl rfl)
theorem dJ4_putVal_239 : decode cJ4_putVal 239 = .ok (.aload 12, 2) := dk_25 12 (dk_at dksJ4_putVal_10 10 rfl rfl)
theorem dJ4_putVal_241 : decode cJ4_putVal 241 = .ok (.ifnonnull 9, 3) := dk_199 0 9 (dk_at dksJ4_putVal_10 12 rfl rfl)
theorem dJ4_putVal_244 : decode cJ4_putVal 244 = .ok (.aload 10, 2) := dk_25 10 (dk_at dksJ4_putVal_10 15 rfl rfl)
theorem dJ4_putVal_246 : decode cJ4_putVal 246 = .ok (.aload_n 3, 1) := dk_45 (dk_at dksJ4_putVal_10 17 rfl rfl)
theorem dJ4_putVal_247 : decode cJ4_putVal 247 = .ok (.putfield 162, 3) := dk_181 0 162 (dk_at dksJ4_putVal_10 18 rfl rfl)
theorem dJ4_putVal_250 : decode cJ4_putVal 250 = .ok (.aload_n 0, 1) := dk_42 (dk_at dksJ4_putVal_10 21 rfl rfl)
theorem dJ4_putVal_251 : decode cJ4_putVal 251 = .ok (.aload 10, 2) := dk_25 10 (dk_at dksJ4_putVal_10 22 rfl rfl)
theorem dJ4_putVal_253 : decode cJ4_putVal 253 = .ok (.invokevirtual 198, 3) := dk_182 0 198 (dk_at dksJ4_putVal_11 0 rfl rfl)
theorem dJ4_putVal_256 : decode cJ4_putVal 256 = .ok (.aload 12, 2) := dk_25 12 (dk_at dksJ4_putVal_11 3 rfl rfl)
theorem dJ4_putVal_258 : decode cJ4_putVal 258 = .ok (.areturn, 1) := dk_176 (dk_at dksJ4_putVal_11 5 rfl rfl)
theorem dJ4_putVal_259 : decode cJ4_putVal 259 = .ok (.aload_n 0, 1) := dk_42 (dk_at dksJ4_putVal_11 6 rfl rfl)
theorem dJ4_putVal_260 : decode cJ4_putVal 260 = .ok (.dup, 1) := dk_89 (dk_at dksJ4_putVal_11 7 rfl rfl)
theorem dJ4_putVal_261 : decode cJ4_putVal 261 = .ok (.getfield 202, 3) := dk_180 0 202 (dk_at dksJ4_putVal_11 8 rfl rfl)
theorem dJ4_putVal_264 : decode cJ4_putVal 264 = .ok (.iconst 1, 1) := dk_4 (dk_at dksJ4_putVal_11 11 rfl rfl)
theorem dJ4_putVal_265 : decode cJ4_putVal 265 = .ok (.iadd, 1) := dk_96 (dk_at dksJ4_putVal_11 12 rfl rfl)
theorem dJ4_putVal_266 : decode cJ4_putVal 266 = .ok (.putfield 202, 3) := dk_181 0 202 (dk_at dksJ4_putVal_11 13 rfl rfl)
theorem dJ4_putVal_269 : decode cJ4_putVal 269 = .ok (.aload_n 0, 1) := dk_42 (dk_at dksJ4_putVal_11 16 rfl rfl)
theorem dJ4_putVal_270 : decode cJ4_putVal 270 = .ok (.dup, 1) := dk_89 (dk_at dksJ4_putVal_11 17 rfl rfl)
theorem dJ4_putVal_271 : decode cJ4_putVal 271 = .ok (.getfield 156, 3) := dk_180 0 156 (dk_at dksJ4_putVal_11 18 rfl rfl)
theorem dJ4_putVal_274 : decode cJ4_putVal 274 = .ok (.iconst 1, 1) := dk_4 (dk_at dksJ4_putVal_11 21 rfl rfl)
theorem dJ4_putVal_275 : decode cJ4_putVal 275 = .ok (.iadd, 1) := dk_96 (dk_at dksJ4_putVal_11 22 rfl rfl)
theorem dJ4_putVal_276 : decode cJ4_putVal 276 = .ok (.dup_x1, 1) := dk_90 (dk_at dksJ4_putVal_11 23 rfl rfl)
theorem dJ4_putVal_277 : decode cJ4_putVal 277 = .ok (.putfield 156, 3) := dk_181 0 156 (dk_at dksJ4_putVal_12 0 rfl rfl)
theorem dJ4_putVal_280 : decode cJ4_putVal 280 = .ok (.aload_n 0, 1) := dk_42 (dk_at dksJ4_putVal_12 3 rfl rfl)
theorem dJ4_putVal_281 : decode cJ4_putVal 281 = .ok (.getfield 88, 3) := dk_180 0 88 (dk_at dksJ4_putVal_12 4 rfl rfl)
theorem dJ4_putVal_284 : decode cJ4_putVal 284 = .ok (.if_icmp .le 8, 3) := dk_164 0 8 (dk_at dksJ4_putVal_12 7 rfl rfl)
theorem dJ4_putVal_287 : decode cJ4_putVal 287 = .ok (.aload_n 0, 1) := dk_42 (dk_at dksJ4_putVal_12 10 rfl rfl)
theorem dJ4_putVal_288 : decode cJ4_putVal 288 = .ok (.invokevirtual 117, 3) := dk_182 0 117 (dk_at dksJ4_putVal_12 11 rfl rfl)
theorem dJ4_putVal_291 : decode cJ4_putVal 291 = .ok (.pop, 1) := dk_87 (dk_at dksJ4_putVal_12 14 rfl rfl)
theorem dJ4_putVal_292 : decode cJ4_putVal 292 = .ok (.aload_n 0, 1) := dk_42 (dk_at dksJ4_putVal_12 15 rfl rfl)
theorem dJ4_putVal_293 : decode cJ4_putVal 293 = .ok (.iload 5, 2) := dk_21 5 (dk_at dksJ4_putVal_12 16 rfl rfl)
theorem dJ4_putVal_295 : decode cJ4_putVal 295 = .ok (.invokevirtual 205, 3) := dk_182 0 205 (dk_at dksJ4_putVal_12 18 rfl rfl)
theorem dJ4_putVal_298 : decode cJ4_putVal 298 = .ok (.aconst_null, 1) := dk_1 (dk_at dksJ4_putVal_12 21 rfl rfl)
theorem dJ4_putVal_299 : decode cJ4_putVal 299 = .ok (.areturn, 1) := dk_176 (dk_at dksJ4_putVal_12 22 rfl rfl)
theorem q1623 : (Jvm.Cond.methodLink "java/util/HashMap" (173 : Nat) ({ cls := "java/lang/Object", name := "equals", desc := "(Ljava/lang/Object;)Z" } : Jvm.MethodName)) ∈ lw_all := lw_g (lw_at lw_m7 103 rfl) rfl
theorem q1621 : (Jvm.Cond.code ({ cls := "java/util/HashMap", name := "newNode", desc := "(ILjava/lang/Object;Ljava/lang/Object;Ljava/util/HashMap$Node;)Ljava/util/HashMap$Node;" } : Jvm.MethodName) prog_63_method_46_code (5 : Nat) (Option.some (Jvm.ClassFile.FieldType.object "java/util/HashMap$Node"))) ∈ lw_all := lw_g (lw_at lw_m7 101 rfl) rfl
theorem zk_J4_newNode : zz_cd yJ4_newNode cJ4_newNode 5 (some (.object "java/util/HashMap$Node")) none ∈ lw_all := q1621
theorem zy_J4_newNode : zz_yok yJ4_newNode 4 = true := by decide +kernel
theorem q1618 : (Jvm.Cond.methodLink "java/util/HashMap" (186 : Nat) ({ cls := "java/util/HashMap", name := "newNode", desc := "(ILjava/lang/Object;Ljava/lang/Object;Ljava/util/HashMap$Node;)Ljava/util/HashMap$Node;" } : Jvm.MethodName)) ∈ lw_all := lw_g (lw_at lw_m7 98 rfl) rfl
theorem q1619 : (Jvm.Cond.instanceMethod ({ cls := "java/util/HashMap", name := "newNode", desc := "(ILjava/lang/Object;Ljava/lang/Object;Ljava/util/HashMap$Node;)Ljava/util/HashMap$Node;" } : Jvm.MethodName)) ∈ lw_all := lw_g (lw_at lw_m7 99 rfl) rfl
theorem q1620 : (Jvm.Cond.selects "java/util/HashMap" ({ cls := "java/util/HashMap", name := "newNode", desc := "(ILjava/lang/Object;Ljava/lang/Object;Ljava/util/HashMap$Node;)Ljava/util/HashMap$Node;" } : Jvm.MethodName) ({ cls := "java/util/HashMap", name := "newNode", desc := "(ILjava/lang/Object;Ljava/lang/Object;Ljava/util/HashMap$Node;)Ljava/util/HashMap$Node;" } : Jvm.MethodName)) ∈ lw_all := lw_g (lw_at lw_m7 100 rfl) rfl
theorem zf_19_5_a_util_HashMap : zz_fok [19] 5 "java/util/HashMap" "modCount" "I" := zz_fok1 (zR_19, zT_19, 8) rfl (by decide) rfl rfl (Or.inl rfl)
theorem q211 : (Jvm.Cond.fieldLink "java/util/HashMap" (202 : Nat) "java/util/HashMap" "modCount" "I") ∈ lw_all := lw_g (lw_at lw_m1 131 rfl) rfl
theorem zp_19_5 : zz_pok [19] 5 := zz_pok1 (zR_19, zT_19, 8) (by decide) rfl rfl
theorem zf_19_4_a_util_HashMap : zz_fok [19] 4 "java/util/HashMap" "size" "I" := zz_fok1 (zR_19, zT_19, 8) rfl (by decide) rfl rfl (Or.inl rfl)
theorem q210 : (Jvm.Cond.fieldLink "java/util/HashMap" (156 : Nat) "java/util/HashMap" "size" "I") ∈ lw_all := lw_g (lw_at lw_m1 130 rfl) rfl
theorem zp_19_4 : zz_pok [19] 4 := zz_pok1 (zR_19, zT_19, 8) (by decide) rfl rfl
theorem q1726 : (Jvm.Cond.code ({ cls := "java/util/HashMap", name := "afterNodeInsertion", desc := "(Z)V" } : Jvm.MethodName) prog_63_method_52_code (2 : Nat) (Option.none : Option Jvm.ClassFile.FieldType)) ∈ lw_all := lw_g (lw_at lw_m7 206 rfl) rfl
theorem zk_J4_afterNodeInsertion : zz_cd yJ4_afterNodeInsertion cJ4_afterNodeInsertion 2 none none ∈ lw_all := q1726
theorem zy_J4_afterNodeInsertion : zz_yok yJ4_afterNodeInsertion 1 = true := by decide +kernel
theorem q1723 : (Jvm.Cond.methodLink "java/util/HashMap" (205 : Nat) ({ cls := "java/util/HashMap", name := "afterNodeInsertion", desc := "(Z)V" } : Jvm.MethodName)) ∈ lw_all := lw_g (lw_at lw_m7 203 rfl) rfl
theorem q1724 : (Jvm.Cond.instanceMethod ({ cls := "java/util/HashMap", name := "afterNodeInsertion", desc := "(Z)V" } : Jvm.MethodName)) ∈ lw_all := lw_g (lw_at lw_m7 204 rfl) rfl
theorem q1725 : (Jvm.Cond.selects "java/util/HashMap" ({ cls := "java/util/HashMap", name := "afterNodeInsertion", desc := "(Z)V" } : Jvm.MethodName) ({ cls := "java/util/HashMap", name := "afterNodeInsertion", desc := "(Z)V" } : Jvm.MethodName)) ∈ lw_all := lw_g (lw_at lw_m7 205 rfl) rfl
theorem q1722 : (Jvm.Cond.code ({ cls := "java/util/HashMap", name := "afterNodeAccess", desc := "(Ljava/util/HashMap$Node;)V" } : Jvm.MethodName) prog_63_method_51_code (2 : Nat) (Option.none : Option Jvm.ClassFile.FieldType)) ∈ lw_all := lw_g (lw_at lw_m7 202 rfl) rfl
theorem zk_J4_afterNodeAccess : zz_cd yJ4_afterNodeAccess cJ4_afterNodeAccess 2 none none ∈ lw_all := q1722
theorem zy_J4_afterNodeAccess : zz_yok yJ4_afterNodeAccess 1 = true := by decide +kernel
theorem q1719 : (Jvm.Cond.methodLink "java/util/HashMap" (198 : Nat) ({ cls := "java/util/HashMap", name := "afterNodeAccess", desc := "(Ljava/util/HashMap$Node;)V" } : Jvm.MethodName)) ∈ lw_all := lw_g (lw_at lw_m7 199 rfl) rfl
theorem q1720 : (Jvm.Cond.instanceMethod ({ cls := "java/util/HashMap", name := "afterNodeAccess", desc := "(Ljava/util/HashMap$Node;)V" } : Jvm.MethodName)) ∈ lw_all := lw_g (lw_at lw_m7 200 rfl) rfl
theorem q1721 : (Jvm.Cond.selects "java/util/HashMap" ({ cls := "java/util/HashMap", name := "afterNodeAccess", desc := "(Ljava/util/HashMap$Node;)V" } : Jvm.MethodName) ({ cls := "java/util/HashMap", name := "afterNodeAccess", desc := "(Ljava/util/HashMap$Node;)V" } : Jvm.MethodName)) ∈ lw_all := lw_g (lw_at lw_m7 201 rfl) rfl
theorem q1663 : (Jvm.Cond.code ({ cls := "java/util/HashMap$TreeNode", name := "putTreeVal", desc := "(Ljava/util/HashMap;[Ljava/util/HashMap$Node;ILjava/lang/Object;Ljava/lang/Object;)Ljava/util/HashMap$TreeNode;" } : Jvm.MethodName) prog_65_method_9_code (16 : Nat) (Option.some (Jvm.ClassFile.FieldType.object "java/util/HashMap$TreeNode"))) ∈ lw_all := lw_g (lw_at lw_m7 143 rfl) rfl
theorem zk_J29_putTreeVal : zz_cd yJ29_putTreeVal cJ29_putTreeVal 16 (some (.object "java/util/HashMap$TreeNode")) none ∈ lw_all := q1663
theorem zy_J29_putTreeVal : zz_yok yJ29_putTreeVal 5 = true := by decide +kernel
theorem q1660 : (Jvm.Cond.methodLink "java/util/HashMap" (190 : Nat) ({ cls := "java/util/HashMap$TreeNode", name := "putTreeVal", desc := "(Ljava/util/HashMap;[Ljava/util/HashMap$Node;ILjava/lang/Object;Ljava/lang/Object;)Ljava/util/HashMap$TreeNode;" } : Jvm.MethodName)) ∈ lw_all := lw_g (lw_at lw_m7 140 rfl) rfl
theorem q1661 : (Jvm.Cond.instanceMethod ({ cls := "java/util/HashMap$TreeNode", name := "putTreeVal", desc := "(Ljava/util/HashMap;[Ljava/util/HashMap$Node;ILjava/lang/Object;Ljava/lang/Object;)Ljava/util/HashMap$TreeNode;" } : Jvm.MethodName)) ∈ lw_all := lw_g (lw_at lw_m7 141 rfl) rfl
theorem q1662 : (Jvm.Cond.selects "java/util/HashMap$TreeNode" ({ cls := "java/util/HashMap$TreeNode", name := "putTreeVal", desc := "(Ljava/util/HashMap;[Ljava/util/HashMap$Node;ILjava/lang/Object;Ljava/lang/Object;)Ljava/util/HashMap$TreeNode;" } : Jvm.MethodName) ({ cls := "java/util/HashMap$TreeNode", name := "putTreeVal", desc := "(Ljava/util/HashMap;[Ljava/util/HashMap$Node;ILjava/lang/Object;Ljava/lang/Object;)Ljava/util/HashMap$TreeNode;" } : Jvm.MethodName)) ∈ lw_all := lw_g (lw_at lw_m7 142 rfl) rfl
theorem q1713 : (Jvm.Cond.code ({ cls := "java/util/HashMap", name := "treeifyBin", desc := "([Ljava/util/HashMap$Node;I)V" } : Jvm.MethodName) prog_63_method_18_code (9 : Nat) (Option.none : Option Jvm.ClassFile.FieldType)) ∈ lw_all := lw_g (lw_at lw_m7 193 rfl) rfl
theorem zk_J4_treeifyBin : zz_cd yJ4_treeifyBin cJ4_treeifyBin 9 none none ∈ lw_all := q1713
theorem zy_J4_treeifyBin : zz_yok yJ4_treeifyBin 2 = true := by decide +kernel
theorem q1710 : (Jvm.Cond.methodLink "java/util/HashMap" (194 : Nat) ({ cls := "java/util/HashMap", name := "treeifyBin", desc := "([Ljava/util/HashMap$Node;I)V" } : Jvm.MethodName)) ∈ lw_all := lw_g (lw_at lw_m7 190 rfl) rfl
theorem q1711 : (Jvm.Cond.instanceMethod ({ cls := "java/util/HashMap", name := "treeifyBin", desc := "([Ljava/util/HashMap$Node;I)V" } : Jvm.MethodName)) ∈ lw_all := lw_g (lw_at lw_m7 191 rfl) rfl
theorem q1712 : (Jvm.Cond.selects "java/util/HashMap" ({ cls := "java/util/HashMap", name := "treeifyBin", desc := "([Ljava/util/HashMap$Node;I)V" } : Jvm.MethodName) ({ cls := "java/util/HashMap", name := "treeifyBin", desc := "([Ljava/util/HashMap$Node;I)V" } : Jvm.MethodName)) ∈ lw_all := lw_g (lw_at lw_m7 192 rfl) rfl
def wp_J4_putVal_B250 (Z : zzG) (K : Option Value → zzM → Prop) (v0 : Option Nat) (v10 : Option Nat) (v12 : Option Nat) (M : zzM) (bc bs : Nat) : Prop := zty Z M v0 fun t => t = 19 ∧ wp_J4_afterNodeAccess Z v0 v10 M (fun r32 M33 => zrV r32 (K (some (va_rf v12)) M33))
def wp_J4_putVal_B244 (Z : zzG) (K : Option Value → zzM → Prop) (v0 : Option Nat) (v3 : Option Nat) (v10 : Option Nat) (v12 : Option Nat) (M : zzM) (bc bs : Nat) : Prop := zput Z M v10 [24, 25] 2 (va_rf v3) fun M36 => wp_J4_putVal_B250 Z K v0 v10 v12 M36 bc bs
def wp_J4_putVal_B292 (Z : zzG) (K : Option Value → zzM → Prop) (v0 : Option Nat) (v5 : Int32) (M : zzM) (bc bs : Nat) : Prop := zty Z M v0 fun t => t = 19 ∧ wp_J4_afterNodeInsertion Z v0 v5 M (fun r27 M28 => zrV r27 (K (some (va_rf none)) M28))
def wp_J4_putVal_B259 (Z : zzG) (K : Option Value → zzM → Prop) (v0 : Option Nat) (v5 : Int32) (M : zzM) (bc bs : Nat) : Prop := zgI Z M v0 [19] 5 fun x17 => zput Z M v0 [19] 5 (.int (x17 + (1 : Int32))) fun M18 => zgI Z M18 v0 [19] 4 fun x19 => zput Z M18 v0 [19] 4 (.int (x19 + (1 : Int32))) fun M20 => zgI Z M20 v0 [19] 6 fun x21 => if (x19 + (1 : Int32)) ≤ x21 then (wp_J4_putVal_B292 Z K v0 v5 M20 bc bs) else (zty Z M20 v0 fun t => t = 19 ∧ zcc bc bs (fun c s k => wp_J4_resize Z v0 M20 c s k) fun r22 M23 bc24 bs25 => zrA r22 fun x26 => wp_J4_putVal_B292 Z K v0 v5 M23 bc24 bs25)
def wp_J4_putVal_B222 (Z : zzG) (K : Option Value → zzM → Prop) (v0 : Option Nat) (v3 : Option Nat) (v4 : Int32) (v5 : Int32) (v10 : Option Nat) (M : zzM) (bc bs : Nat) : Prop := if v10 = none then (wp_J4_putVal_B259 Z K v0 v5 M bc bs) else (zgA Z M v10 [24, 25] 2 fun x31 => if v4 = 0 then (wp_J4_putVal_B244 Z K v0 v3 v10 x31 M bc bs) else (if x31 = none then (wp_J4_putVal_B244 Z K v0 v3 v10 x31 M bc bs) else (wp_J4_putVal_B250 Z K v0 v10 x31 M bc bs)))
def wp_J4_putVal_B97 (Z : zzG) (K : Option Value → zzM → Prop) (v0 : Option Nat) (v3 : Option Nat) (v4 : Int32) (v5 : Int32) (v7 : Option Nat) (M : zzM) (bc bs : Nat) : Prop := wp_J4_putVal_B222 Z K v0 v3 v4 v5 v7 M bc bs
def wp_J4_putVal_B212 (Z : zzG) (k134 : Option Nat → Int32 → Option Nat → Option Nat → Int32 → Int32 → Option Nat → Option Nat → Int32 → zzM → Nat → Nat → Prop) (K : Option Value → zzM → Prop) (v0 : Option Nat) (v1 : Int32) (v2 : Option Nat) (v3 : Option Nat) (v4 : Int32) (v5 : Int32) (v6 : Option Nat) (v10 : Option Nat) (v12 : Int32) (M : zzM) (bc bs : Nat) : Prop := k134 v0 v1 v2 v3 v4 v5 v6 v10 (v12 + 1) M bc bs
def wp_J4_putVal_L134 (Z : zzG) (K : Option Value → zzM → Prop) : Nat → Option Nat → Int32 → Option Nat → Option Nat → Int32 → Int32 → Option Nat → Option Nat → Int32 → zzM → Nat → Nat → Prop
  | 0, _, _, _, _, _, _, _, _, _, _, _, _ => False
  | n + 1, v0, v1, v2, v3, v4, v5, v6, v7, v12, M, bc, bs => zgA Z M v7 [24, 25] 3 fun x43 => if x43 = none then (zty Z M v0 fun t => t = 19 ∧ zcc bc bs (fun c s k => wp_J4_newNode Z v0 v1 v2 v3 none M c s k) fun r51 M52 bc53 bs54 => zrA r51 fun x55 => zput Z M52 v7 [24, 25] 3 (va_rf x55) fun M56 => if v12 < (7 : Int32) then (wp_J4_putVal_B222 Z K v0 v3 v4 v5 x43 M56 bc53 bs54) else (zty Z M56 v0 fun t => t = 19 ∧ zcc bc53 bs54 (fun c s k => wp_J4_treeifyBin Z v0 v6 v1 M56 c s k) fun r57 M58 bc59 bs60 => zrV r57 (wp_J4_putVal_B222 Z K v0 v3 v4 v5 x43 M58 bc59 bs60))) else (zgI Z M x43 [24, 25] 0 fun x44 => if x44 = v1 then (zgA Z M x43 [24, 25] 1 fun x45 => if x45 = v2 then (wp_J4_putVal_B222 Z K v0 v3 v4 v5 x43 M bc bs) else (if v2 = none then (wp_J4_putVal_B212 Z (wp_J4_putVal_L134 Z K n) K v0 v1 v2 v3 v4 v5 v6 x43 v12 M bc bs) else (zty Z M v2 fun t => t = 21 ∧ wp_J7_equals Z v2 x45 M (fun r46 M47 => zrI r46 fun x50 => if x50 = 0 then (wp_J4_putVal_B212 Z (wp_J4_putVal_L134 Z K n) K v0 v1 v2 v3 v4 v5 v6 x43 v12 M47 bc bs) else (wp_J4_putVal_B222 Z K v0 v3 v4 v5 x43 M47 bc bs))))) else (wp_J4_putVal_B212 Z (wp_J4_putVal_L134 Z K n) K v0 v1 v2 v3 v4 v5 v6 x43 v12 M bc bs))
def wp_J4_putVal_B104 (Z : zzG) (K : Option Value → zzM → Prop) (v0 : Option Nat) (v1 : Int32) (v2 : Option Nat) (v3 : Option Nat) (v4 : Int32) (v5 : Int32) (v6 : Option Nat) (v7 : Option Nat) (M : zzM) (bc bs : Nat) : Prop := zinst Z M v7 [25] [21, 24] fun x37 => if x37 = 0 then (∃ n134 : Nat, wp_J4_putVal_L134 Z K n134 v0 v1 v2 v3 v4 v5 v6 v7 (0 : Int32) M bc bs) else (zcast Z M v7 [25] <| zty Z M v7 fun t => t = 25 ∧ zcc bc bs (fun c s k => wp_J29_putTreeVal Z v7 v0 v6 v1 v2 v3 M c s k) fun r38 M39 bc40 bs41 => zrA r38 fun x42 => wp_J4_putVal_B222 Z K v0 v3 v4 v5 x42 M39 bc40 bs41)
def wp_J4_putVal_B29 (Z : zzG) (K : Option Value → zzM → Prop) (v0 : Option Nat) (v1 : Int32) (v2 : Option Nat) (v3 : Option Nat) (v4 : Int32) (v5 : Int32) (v6 : Option Nat) (v8 : Int32) (M : zzM) (bc bs : Nat) : Prop := zaA Z M v6 [103, 104, 105] ((v8 - (1 : Int32)) &&& v1) fun x3 => if x3 = none then (zty Z M v0 fun t => t = 19 ∧ zcc bc bs (fun c s k => wp_J4_newNode Z v0 v1 v2 v3 none M c s k) fun r11 M12 bc13 bs14 => zrA r11 fun x15 => zastA Z M12 v6 ((v8 - (1 : Int32)) &&& v1) x15 fun M16 => wp_J4_putVal_B259 Z K v0 v5 M16 bc13 bs14) else (zgI Z M x3 [24, 25] 0 fun x4 => if x4 = v1 then (zgA Z M x3 [24, 25] 1 fun x5 => if x5 = v2 then (wp_J4_putVal_B97 Z K v0 v3 v4 v5 x3 M bc bs) else (if v2 = none then (wp_J4_putVal_B104 Z K v0 v1 v2 v3 v4 v5 v6 x3 M bc bs) else (zty Z M v2 fun t => t = 21 ∧ wp_J7_equals Z v2 x5 M (fun r6 M7 => zrI r6 fun x10 => if x10 = 0 then (wp_J4_putVal_B104 Z K v0 v1 v2 v3 v4 v5 v6 x3 M7 bc bs) else (wp_J4_putVal_B97 Z K v0 v3 v4 v5 x3 M7 bc bs))))) else (wp_J4_putVal_B104 Z K v0 v1 v2 v3 v4 v5 v6 x3 M bc bs))
def wp_J4_putVal_B19 (Z : zzG) (K : Option Value → zzM → Prop) (v0 : Option Nat) (v1 : Int32) (v2 : Option Nat) (v3 : Option Nat) (v4 : Int32) (v5 : Int32) (M : zzM) (bc bs : Nat) : Prop := zty Z M v0 fun t => t = 19 ∧ zcc bc bs (fun c s k => wp_J4_resize Z v0 M c s k) fun r61 M62 bc63 bs64 => zrA r61 fun x65 => zlen Z M62 x65 fun x66 => wp_J4_putVal_B29 Z K v0 v1 v2 v3 v4 v5 x65 x66 M62 bc63 bs64
def wp_J4_putVal (Z : zzG) (this : Option Nat) (p0 : Int32) (p1 : Option Nat) (p2 : Option Nat) (p3 : Int32) (p4 : Int32) (M : zzM) (bc bs : Nat) (K : Option Value → zzM → Prop) : Prop := zgA Z M this [19] 2 fun x1 => if x1 = none then (wp_J4_putVal_B19 Z K this p0 p1 p2 p3 p4 M bc bs) else (zlen Z M x1 fun x2 => if x2 = 0 then (wp_J4_putVal_B19 Z K this p0 p1 p2 p3 p4 M bc bs) else (wp_J4_putVal_B29 Z K this p0 p1 p2 p3 p4 x1 x2 M bc bs))
theorem ok_J4_putVal_B250 {G : zzX} (C : zz_C G cJ4_putVal "java/util/HashMap" 13) {K : Option Value → zzM → Prop} (E : zz_E G (some (.object "java/lang/Object")) K (fun _ _ _ => False)) (hH : zz_H G []) (hR : zz_Rm G 72) {v0 : Option Nat} {v10 : Option Nat} {v12 : Option Nat} {M : zzM} {bc bs : Nat} (hw : wp_J4_putVal_B250 (zz_Zof G) K v0 v10 v12 M bc bs) : zz_T G 13 M bc bs 250 [(0, va_rf v0), (10, va_rf v10), (12, va_rf v12)] [] := by
  unfold wp_J4_putVal_B250 at hw
  refine zz_aload_n C dJ4_putVal_250 rfl 0 rfl ?_
  refine zz_aload C dJ4_putVal_251 1 rfl ?_
  obtain ⟨a9, t9, b9, fs9, hro, hL, rfl, hw⟩ := ztyS hw
  refine zz_callV (r := (zR_19, zT_19, 8)) (As := [va_rf v10]) (rest := []) (mc := 0) (ms := 0) C hR hro dJ4_putVal_253 (Or.inl q1719) q1720 (Or.inl q1721) zl_java_util_HashMap zk_J4_afterNodeAccess (Or.inl rfl) zy_J4_afterNodeAccess rfl (by decide) (by decide) hL (ok_J4_afterNodeAccess (zz_hl C) hw) (Nat.zero_le _) (Nat.zero_le _) (zz_cat10 _ (Nat.le_of_ble_eq_true rfl)) (fun r32 M33 hw => zz_kV hw (fun hw => ?_)) (fun _ _ _ h9 => h9.elim) rfl
  refine zz_aload C dJ4_putVal_256 2 rfl ?_
  exact zz_aret C E (Or.inl ⟨_, rfl⟩) dJ4_putVal_258 hw
theorem ok_J4_putVal_B244 {G : zzX} (C : zz_C G cJ4_putVal "java/util/HashMap" 13) {K : Option Value → zzM → Prop} (E : zz_E G (some (.object "java/lang/Object")) K (fun _ _ _ => False)) (hH : zz_H G []) (hR : zz_Rm G 72) {v0 : Option Nat} {v3 : Option Nat} {v10 : Option Nat} {v12 : Option Nat} {M : zzM} {bc bs : Nat} (hw : wp_J4_putVal_B244 (zz_Zof G) K v0 v3 v10 v12 M bc bs) : zz_T G 13 M bc bs 244 [(0, va_rf v0), (3, va_rf v3), (10, va_rf v10), (12, va_rf v12)] [] := by
  unfold wp_J4_putVal_B244 at hw
  refine zz_aload C dJ4_putVal_244 2 rfl ?_
  refine zz_aload_n C dJ4_putVal_246 rfl 1 rfl ?_
  refine zz_put C dJ4_putVal_247 (Or.inl q1362) zf_24_25_2_l_HashMap_Node zp_24_25_2 (zz_hnC (zz_nA _ rfl v3) (zz_hn1 (zz_nA _ rfl v3))) hw (fun M36 hw => ?_)
  refine zz_subP [0, 2, 3] rfl ?_
  exact ok_J4_putVal_B250 C E hH hR hw
theorem ok_J4_putVal_B292 {G : zzX} (C : zz_C G cJ4_putVal "java/util/HashMap" 13) {K : Option Value → zzM → Prop} (E : zz_E G (some (.object "java/lang/Object")) K (fun _ _ _ => False)) (hH : zz_H G []) (hR : zz_Rm G 72) {v0 : Option Nat} {v5 : Int32} {M : zzM} {bc bs : Nat} (hw : wp_J4_putVal_B292 (zz_Zof G) K v0 v5 M bc bs) : zz_T G 13 M bc bs 292 [(0, va_rf v0), (5, .int v5)] [] := by
  unfold wp_J4_putVal_B292 at hw
  refine zz_aload_n C dJ4_putVal_292 rfl 0 rfl ?_
  refine zz_iload C dJ4_putVal_293 1 rfl ?_
  obtain ⟨a9, t9, b9, fs9, hro, hL, rfl, hw⟩ := ztyS hw
  refine zz_callV (r := (zR_19, zT_19, 8)) (As := [.int v5]) (rest := []) (mc := 0) (ms := 0) C hR hro dJ4_putVal_295 (Or.inl q1723) q1724 (Or.inl q1725) zl_java_util_HashMap zk_J4_afterNodeInsertion (Or.inl rfl) zy_J4_afterNodeInsertion rfl (by decide) (by decide) hL (ok_J4_afterNodeInsertion (zz_hl C) hw) (Nat.zero_le _) (Nat.zero_le _) (zz_cat10 _ (Nat.le_of_ble_eq_true rfl)) (fun r27 M28 hw => zz_kV hw (fun hw => ?_)) (fun _ _ _ h9 => h9.elim) rfl
  refine zz_null C dJ4_putVal_298 ?_
  exact zz_aret C E (Or.inl ⟨_, rfl⟩) dJ4_putVal_299 hw
theorem ok_J4_putVal_B259 {G : zzX} (C : zz_C G cJ4_putVal "java/util/HashMap" 13) {K : Option Value → zzM → Prop} (E : zz_E G (some (.object "java/lang/Object")) K (fun _ _ _ => False)) (hH : zz_H G []) (hR : zz_Rm G 72) {v0 : Option Nat} {v5 : Int32} {M : zzM} {bc bs : Nat} (hw : wp_J4_putVal_B259 (zz_Zof G) K v0 v5 M bc bs) : zz_T G 13 M bc bs 259 [(0, va_rf v0), (5, .int v5)] [] := by
  unfold wp_J4_putVal_B259 at hw
  refine zz_aload_n C dJ4_putVal_259 rfl 0 rfl ?_
  refine zz_dup C dJ4_putVal_260 (zz_cat _) ?_
  refine zz_getI C dJ4_putVal_261 (Or.inl q211) zf_19_5_a_util_HashMap hw (fun x17 hw => ?_)
  refine zz_iconst (v := (1 : Int32)) C dJ4_putVal_264 (by decide) ?_
  refine zz_iadd C dJ4_putVal_265 ?_
  refine zz_put C dJ4_putVal_266 (Or.inl q211) zf_19_5_a_util_HashMap zp_19_5 (zz_hn1 ⟨rfl, rfl⟩) hw (fun M18 hw => ?_)
  refine zz_aload_n C dJ4_putVal_269 rfl 0 rfl ?_
  refine zz_dup C dJ4_putVal_270 (zz_cat _) ?_
  refine zz_getI C dJ4_putVal_271 (Or.inl q210) zf_19_4_a_util_HashMap hw (fun x19 hw => ?_)
  refine zz_iconst (v := (1 : Int32)) C dJ4_putVal_274 (by decide) ?_
  refine zz_iadd C dJ4_putVal_275 ?_
  refine zz_dup_x1 C dJ4_putVal_276 rfl (zz_cat _) ?_
  refine zz_put C dJ4_putVal_277 (Or.inl q210) zf_19_4_a_util_HashMap zp_19_4 (zz_hn1 ⟨rfl, rfl⟩) hw (fun M20 hw => ?_)
  refine zz_aload_n C dJ4_putVal_280 rfl 0 rfl ?_
  refine zz_getI C dJ4_putVal_281 (Or.inl q212) zf_19_6_a_util_HashMap hw (fun x21 hw => ?_)
  refine zz_icmp_le (tgt := 292) C dJ4_putVal_284 (by decide) hw (fun hw => ?_) (fun hw => ?_)
  · refine zz_subP [0, 1] rfl ?_
    exact ok_J4_putVal_B292 C E hH hR hw
  · refine zz_aload_n C dJ4_putVal_287 rfl 0 rfl ?_
    obtain ⟨a9, t9, b9, fs9, hro, hL, rfl, hw⟩ := ztyS hw
    obtain ⟨c9, s9, hc9, hs9, hw⟩ := hw
    refine zz_callV (r := (zR_19, zT_19, 8)) (As := []) (rest := []) C hR hro dJ4_putVal_288 (Or.inl q1325) q1326 (Or.inl q1327) zl_java_util_HashMap zk_J4_resize (Or.inl rfl) zy_J4_resize rfl (by decide) (by decide) hL (ok_J4_resize (zz_hl C) hw) hc9 hs9 (zz_cat10 _ (Nat.le_of_ble_eq_true rfl)) (fun r22 M23 hw => zz_kA hw (fun x26 hw => ?_)) (fun _ _ _ h9 => h9.elim) rfl
    refine zz_pop C dJ4_putVal_291 (zz_cat _) ?_
    refine zz_subP [0, 1] rfl ?_
    exact ok_J4_putVal_B292 C E hH hR hw
theorem ok_J4_putVal_B222 {G : zzX} (C : zz_C G cJ4_putVal "java/util/HashMap" 13) {K : Option Value → zzM → Prop} (E : zz_E G (some (.object "java/lang/Object")) K (fun _ _ _ => False)) (hH : zz_H G []) (hR : zz_Rm G 72) {v0 : Option Nat} {v3 : Option Nat} {v4 : Int32} {v5 : Int32} {v10 : Option Nat} {M : zzM} {bc bs : Nat} (hw : wp_J4_putVal_B222 (zz_Zof G) K v0 v3 v4 v5 v10 M bc bs) : zz_T G 13 M bc bs 222 [(0, va_rf v0), (3, va_rf v3), (4, .int v4), (5, .int v5), (10, va_rf v10)] [] := by
  unfold wp_J4_putVal_B222 at hw
  refine zz_aload C dJ4_putVal_222 4 rfl ?_
  refine zz_ifnull (tgt := 259) C dJ4_putVal_224 (by decide) hw (fun hw => ?_) (fun hw => ?_)
  · refine zz_subP [0, 3] rfl ?_
    exact ok_J4_putVal_B259 C E hH hR hw
  · refine zz_aload C dJ4_putVal_227 4 rfl ?_
    refine zz_getA C dJ4_putVal_229 (Or.inl q1362) zf_24_25_2_l_HashMap_Node hw (fun x31 hw => ?_)
    refine zz_astore (lv' := [(12, va_rf x31), (0, va_rf v0), (3, va_rf v3), (4, .int v4), (5, .int v5), (10, va_rf v10)]) C dJ4_putVal_232 (by decide) rfl ?_
    refine zz_iload C dJ4_putVal_234 3 rfl ?_
    refine zz_if_eq (tgt := 244) C dJ4_putVal_236 (by decide) hw (fun hw => ?_) (fun hw => ?_)
    · refine zz_subP [1, 2, 5, 0] rfl ?_
      exact ok_J4_putVal_B244 C E hH hR hw
    · refine zz_aload C dJ4_putVal_239 0 rfl ?_
      refine zz_ifnonnull (tgt := 250) C dJ4_putVal_241 (by decide) hw (fun hw => ?_) (fun hw => ?_)
      · refine zz_subP [1, 5, 0] rfl ?_
        exact ok_J4_putVal_B250 C E hH hR hw
      · refine zz_subP [1, 2, 5, 0] rfl ?_
        exact ok_J4_putVal_B244 C E hH hR hw
theorem ok_J4_putVal_B97 {G : zzX} (C : zz_C G cJ4_putVal "java/util/HashMap" 13) {K : Option Value → zzM → Prop} (E : zz_E G (some (.object "java/lang/Object")) K (fun _ _ _ => False)) (hH : zz_H G []) (hR : zz_Rm G 72) {v0 : Option Nat} {v3 : Option Nat} {v4 : Int32} {v5 : Int32} {v7 : Option Nat} {M : zzM} {bc bs : Nat} (hw : wp_J4_putVal_B97 (zz_Zof G) K v0 v3 v4 v5 v7 M bc bs) : zz_T G 13 M bc bs 97 [(0, va_rf v0), (3, va_rf v3), (4, .int v4), (5, .int v5), (7, va_rf v7)] [] := by
  unfold wp_J4_putVal_B97 at hw
  refine zz_aload C dJ4_putVal_97 4 rfl ?_
  refine zz_astore (lv' := [(10, va_rf v7), (0, va_rf v0), (3, va_rf v3), (4, .int v4), (5, .int v5), (7, va_rf v7)]) C dJ4_putVal_99 (by decide) rfl ?_
  refine zz_goto (tgt := 222) C dJ4_putVal_101 (by decide) ?_
  refine zz_subP [1, 2, 3, 4, 0] rfl ?_
  exact ok_J4_putVal_B222 C E hH hR hw
theorem ok_J4_putVal_B212 {G : zzX} (C : zz_C G cJ4_putVal "java/util/HashMap" 13) {K : Option Value → zzM → Prop} (E : zz_E G (some (.object "java/lang/Object")) K (fun _ _ _ => False)) (hH : zz_H G []) (hR : zz_Rm G 72) {k134 : Option Nat → Int32 → Option Nat → Option Nat → Int32 → Int32 → Option Nat → Option Nat → Int32 → zzM → Nat → Nat → Prop} (hk134 : ∀ (z0 : Option Nat) (z1 : Int32) (z2 : Option Nat) (z3 : Option Nat) (z4 : Int32) (z5 : Int32) (z6 : Option Nat) (z7 : Option Nat) (z8 : Int32) (M : zzM) (bc bs : Nat), k134 z0 z1 z2 z3 z4 z5 z6 z7 z8 M bc bs → zz_T G 13 M bc bs 134 [(0, va_rf z0), (1, .int z1), (2, va_rf z2), (3, va_rf z3), (4, .int z4), (5, .int z5), (6, va_rf z6), (7, va_rf z7), (12, .int z8)] []) {v0 : Option Nat} {v1 : Int32} {v2 : Option Nat} {v3 : Option Nat} {v4 : Int32} {v5 : Int32} {v6 : Option Nat} {v10 : Option Nat} {v12 : Int32} {M : zzM} {bc bs : Nat} (hw : wp_J4_putVal_B212 (zz_Zof G) k134 K v0 v1 v2 v3 v4 v5 v6 v10 v12 M bc bs) : zz_T G 13 M bc bs 212 [(0, va_rf v0), (1, .int v1), (2, va_rf v2), (3, va_rf v3), (4, .int v4), (5, .int v5), (6, va_rf v6), (10, va_rf v10), (12, .int v12)] [] := by
  unfold wp_J4_putVal_B212 at hw
  refine zz_aload C dJ4_putVal_212 7 rfl ?_
  refine zz_astore (lv' := [(7, va_rf v10), (0, va_rf v0), (1, .int v1), (2, va_rf v2), (3, va_rf v3), (4, .int v4), (5, .int v5), (6, va_rf v6), (10, va_rf v10), (12, .int v12)]) C dJ4_putVal_214 (by decide) (by simp [zz_cat, zz_catI, zz_catJ, zz_catD]) ?_
  refine zz_iinc (lv' := [(12, .int (v12 + 1)), (7, va_rf v10), (0, va_rf v0), (1, .int v1), (2, va_rf v2), (3, va_rf v3), (4, .int v4), (5, .int v5), (6, va_rf v6), (10, va_rf v10)]) C dJ4_putVal_216 9 rfl (by rfl) (by decide) rfl ?_
  refine zz_goto (tgt := 134) C dJ4_putVal_219 (by decide) ?_
  refine zz_subP [2, 3, 4, 5, 6, 7, 8, 1, 0] rfl ?_
  exact hk134 _ _ _ _ _ _ _ _ _ _ _ _ hw
theorem ok_J4_putVal_L134 {G : zzX} (C : zz_C G cJ4_putVal "java/util/HashMap" 13) {K : Option Value → zzM → Prop} (E : zz_E G (some (.object "java/lang/Object")) K (fun _ _ _ => False)) (hH : zz_H G []) (hR : zz_Rm G 72) : ∀ (n : Nat) (v0 : Option Nat) (v1 : Int32) (v2 : Option Nat) (v3 : Option Nat) (v4 : Int32) (v5 : Int32) (v6 : Option Nat) (v7 : Option Nat) (v12 : Int32) (M : zzM) (bc bs : Nat), wp_J4_putVal_L134 (zz_Zof G) K n v0 v1 v2 v3 v4 v5 v6 v7 v12 M bc bs → zz_T G 13 M bc bs 134 [(0, va_rf v0), (1, .int v1), (2, va_rf v2), (3, va_rf v3), (4, .int v4), (5, .int v5), (6, va_rf v6), (7, va_rf v7), (12, .int v12)] [] := by
  intro n
  induction n with
  | zero =>
    intro v0 v1 v2 v3 v4 v5 v6 v7 v12 M bc bs hw
    exact False.elim hw
  | succ n ih =>
    intro v0 v1 v2 v3 v4 v5 v6 v7 v12 M bc bs hw
    refine zz_aload C dJ4_putVal_134 7 rfl ?_
    refine zz_getA C dJ4_putVal_136 (Or.inl q1367) zf_24_25_3_l_HashMap_Node hw (fun x43 hw => ?_)
    refine zz_dup C dJ4_putVal_139 (zz_cat _) ?_
    refine zz_astore (lv' := [(10, va_rf x43), (0, va_rf v0), (1, .int v1), (2, va_rf v2), (3, va_rf v3), (4, .int v4), (5, .int v5), (6, va_rf v6), (7, va_rf v7), (12, .int v12)]) C dJ4_putVal_140 (by decide) rfl ?_
    refine zz_ifnonnull (tgt := 175) C dJ4_putVal_142 (by decide) hw (fun hw => ?_) (fun hw => ?_)
    · refine zz_aload C dJ4_putVal_175 0 rfl ?_
      refine zz_getI C dJ4_putVal_177 (Or.inl q1356) zf_24_25_0_l_HashMap_Node hw (fun x44 hw => ?_)
      refine zz_iload_n C dJ4_putVal_180 rfl 2 rfl ?_
      refine zz_icmp_ne (tgt := 212) C dJ4_putVal_181 (by decide) hw (fun hw => ?_) (fun hw => ?_)
      · refine zz_subP [1, 2, 3, 4, 5, 6, 7, 0, 9] rfl ?_
        exact ok_J4_putVal_B212 C E hH hR (fun z0 z1 z2 z3 z4 z5 z6 z7 z8 z9 z10 z11 hw => ih z0 z1 z2 z3 z4 z5 z6 z7 z8 z9 z10 z11 hw) hw
      · refine zz_aload C dJ4_putVal_184 0 rfl ?_
        refine zz_getA C dJ4_putVal_186 (Or.inl q1360) zf_24_25_1_l_HashMap_Node hw (fun x45 hw => ?_)
        refine zz_dup C dJ4_putVal_189 (zz_cat _) ?_
        refine zz_astore (lv' := [(11, va_rf x45), (10, va_rf x43), (0, va_rf v0), (1, .int v1), (2, va_rf v2), (3, va_rf v3), (4, .int v4), (5, .int v5), (6, va_rf v6), (7, va_rf v7), (12, .int v12)]) C dJ4_putVal_190 (by decide) (by simp [zz_cat, zz_catI, zz_catJ, zz_catD]) ?_
        refine zz_aload_n C dJ4_putVal_192 rfl 4 rfl ?_
        refine zz_acmp_eq (tgt := 222) C dJ4_putVal_193 (by decide) hw (fun hw => ?_) (fun hw => ?_)
        · refine zz_subP [2, 5, 6, 7, 1] rfl ?_
          exact ok_J4_putVal_B222 C E hH hR hw
        · refine zz_aload_n C dJ4_putVal_196 rfl 4 rfl ?_
          refine zz_ifnull (tgt := 212) C dJ4_putVal_197 (by decide) hw (fun hw => ?_) (fun hw => ?_)
          · refine zz_subP [2, 3, 4, 5, 6, 7, 8, 1, 10] rfl ?_
            exact ok_J4_putVal_B212 C E hH hR (fun z0 z1 z2 z3 z4 z5 z6 z7 z8 z9 z10 z11 hw => ih z0 z1 z2 z3 z4 z5 z6 z7 z8 z9 z10 z11 hw) hw
          · refine zz_aload_n C dJ4_putVal_200 rfl 4 rfl ?_
            refine zz_aload C dJ4_putVal_201 0 rfl ?_
            obtain ⟨a9, t9, b9, fs9, hro, hL, rfl, hw⟩ := ztyS hw
            refine zz_callU (r := (zR_21, zT_21, 4)) (x := ⟨"java/lang/Object", "equals", "(Ljava/lang/Object;)Z"⟩) (owner := "java/lang/Object") (As := [va_rf x45]) (rest := []) (mc := 0) (ms := 0) C hR hro dJ4_putVal_203 q1623 q1625 (Or.inl q1622) q709 q1654 zl_java_lang_String zk_J7_equals zyo_java_lang_Object_equals__Ljava_lang_Object__Z rfl (by decide) (by decide) hL (ok_J7_equals (zz_hl C) hw) (Nat.zero_le _) (Nat.zero_le _) (zz_cat10 _ (Nat.le_of_ble_eq_true rfl)) (fun r46 M47 hw => zz_kI hw (fun x50 hw => ?_)) (fun _ _ _ h9 => h9.elim) rfl
            refine zz_if_eq (tgt := 212) C dJ4_putVal_206 (by decide) hw (fun hw => ?_) (fun hw => ?_)
            · refine zz_subP [2, 3, 4, 5, 6, 7, 8, 1, 10] rfl ?_
              exact ok_J4_putVal_B212 C E hH hR (fun z0 z1 z2 z3 z4 z5 z6 z7 z8 z9 z10 z11 hw => ih z0 z1 z2 z3 z4 z5 z6 z7 z8 z9 z10 z11 hw) hw
            · refine zz_goto (tgt := 222) C dJ4_putVal_209 (by decide) ?_
              refine zz_subP [2, 5, 6, 7, 1] rfl ?_
              exact ok_J4_putVal_B222 C E hH hR hw
    · refine zz_aload C dJ4_putVal_145 8 rfl ?_
      refine zz_aload_n C dJ4_putVal_147 rfl 1 rfl ?_
      refine zz_iload_n C dJ4_putVal_148 rfl 2 rfl ?_
      refine zz_aload_n C dJ4_putVal_149 rfl 3 rfl ?_
      refine zz_aload_n C dJ4_putVal_150 rfl 4 rfl ?_
      refine zz_null C dJ4_putVal_151 ?_
      obtain ⟨a9, t9, b9, fs9, hro, hL, rfl, hw⟩ := ztyS hw
      obtain ⟨c9, s9, hc9, hs9, hw⟩ := hw
      refine zz_callV (r := (zR_19, zT_19, 8)) (As := [.int v1, va_rf v2, va_rf v3, va_rf none]) (rest := [va_rf v7]) C hR hro dJ4_putVal_152 (Or.inl q1618) q1619 (Or.inl q1620) zl_java_util_HashMap zk_J4_newNode (Or.inl rfl) zy_J4_newNode rfl (by decide) (by decide) hL (ok_J4_newNode (zz_hl C) hw) hc9 hs9 (zz_cat10 _ (Nat.le_of_ble_eq_true rfl)) (fun r51 M52 hw => zz_kA hw (fun x55 hw => ?_)) (fun _ _ _ h9 => h9.elim) rfl
      refine zz_put C dJ4_putVal_155 (Or.inl q1367) zf_24_25_3_l_HashMap_Node zp_24_25_3 (zz_hnC (zz_nA _ rfl x55) (zz_hn1 (zz_nA _ rfl x55))) hw (fun M56 hw => ?_)
      refine zz_iload C dJ4_putVal_158 9 rfl ?_
      refine zz_bipush (v := (7 : Int32)) C dJ4_putVal_160 (by decide) ?_
      refine zz_icmp_lt (tgt := 222) C dJ4_putVal_162 (by decide) hw (fun hw => ?_) (fun hw => ?_)
      · refine zz_subP [1, 4, 5, 6, 0] rfl ?_
        exact ok_J4_putVal_B222 C E hH hR hw
      · refine zz_aload_n C dJ4_putVal_165 rfl 1 rfl ?_
        refine zz_aload C dJ4_putVal_166 7 rfl ?_
        refine zz_iload_n C dJ4_putVal_168 rfl 2 rfl ?_
        obtain ⟨a9, t9, b9, fs9, hro, hL, rfl, hw⟩ := ztyS hw
        obtain ⟨c9, s9, hc9, hs9, hw⟩ := hw
        refine zz_callV (r := (zR_19, zT_19, 8)) (As := [va_rf v6, .int v1]) (rest := []) C hR hro dJ4_putVal_169 (Or.inl q1710) q1711 (Or.inl q1712) zl_java_util_HashMap zk_J4_treeifyBin (Or.inl rfl) zy_J4_treeifyBin rfl (by decide) (by decide) hL (ok_J4_treeifyBin (zz_hl C) hw) hc9 hs9 (zz_cat10 _ (Nat.le_of_ble_eq_true rfl)) (fun r57 M58 hw => zz_kV hw (fun hw => ?_)) (fun _ _ _ h9 => h9.elim) rfl
        refine zz_goto (tgt := 222) C dJ4_putVal_172 (by decide) ?_
        refine zz_subP [1, 4, 5, 6, 0] rfl ?_
        exact ok_J4_putVal_B222 C E hH hR hw
theorem ok_J4_putVal_B104 {G : zzX} (C : zz_C G cJ4_putVal "java/util/HashMap" 13) {K : Option Value → zzM → Prop} (E : zz_E G (some (.object "java/lang/Object")) K (fun _ _ _ => False)) (hH : zz_H G []) (hR : zz_Rm G 72) {v0 : Option Nat} {v1 : Int32} {v2 : Option Nat} {v3 : Option Nat} {v4 : Int32} {v5 : Int32} {v6 : Option Nat} {v7 : Option Nat} {M : zzM} {bc bs : Nat} (hw : wp_J4_putVal_B104 (zz_Zof G) K v0 v1 v2 v3 v4 v5 v6 v7 M bc bs) : zz_T G 13 M bc bs 104 [(0, va_rf v0), (1, .int v1), (2, va_rf v2), (3, va_rf v3), (4, .int v4), (5, .int v5), (6, va_rf v6), (7, va_rf v7)] [] := by
  unfold wp_J4_putVal_B104 at hw
  refine zz_aload C dJ4_putVal_104 7 rfl ?_
  refine zz_inst C dJ4_putVal_106 q1334 zc_25_shMap_TreeNode zn_21_24_shMap_TreeNode hw (fun x37 hw => ?_)
  refine zz_if_eq (tgt := 131) C dJ4_putVal_109 (by decide) hw (fun hw => ?_) (fun hw => ?_)
  · refine zz_iconst (v := (0 : Int32)) C dJ4_putVal_131 (by decide) ?_
    refine zz_istore (lv' := [(12, .int (0 : Int32)), (0, va_rf v0), (1, .int v1), (2, va_rf v2), (3, va_rf v3), (4, .int v4), (5, .int v5), (6, va_rf v6), (7, va_rf v7)]) C dJ4_putVal_132 (by decide) rfl ?_
    refine zz_subP [1, 2, 3, 4, 5, 6, 7, 8, 0] rfl ?_
    obtain ⟨n134, hw⟩ := hw
    exact ok_J4_putVal_L134 C E hH hR n134 _ _ _ _ _ _ _ _ _ _ _ _ hw
  · refine zz_aload C dJ4_putVal_112 7 rfl ?_
    refine zz_cast C dJ4_putVal_114 q1334 zc_25_shMap_TreeNode hw (fun hw => ?_)
    refine zz_aload_n C dJ4_putVal_117 rfl 0 rfl ?_
    refine zz_aload C dJ4_putVal_118 6 rfl ?_
    refine zz_iload_n C dJ4_putVal_120 rfl 1 rfl ?_
    refine zz_aload_n C dJ4_putVal_121 rfl 2 rfl ?_
    refine zz_aload_n C dJ4_putVal_122 rfl 3 rfl ?_
    obtain ⟨a9, t9, b9, fs9, hro, hL, rfl, hw⟩ := ztyS hw
    obtain ⟨c9, s9, hc9, hs9, hw⟩ := hw
    refine zz_callV (r := (zR_25, zT_25, 11)) (As := [va_rf v0, va_rf v6, .int v1, va_rf v2, va_rf v3]) (rest := []) C hR hro dJ4_putVal_123 (Or.inl q1660) q1661 (Or.inl q1662) zl_java_util_HashMap_TreeNode zk_J29_putTreeVal (Or.inl rfl) zy_J29_putTreeVal rfl (by decide) (by decide) hL (ok_J29_putTreeVal (zz_hl C) hw) hc9 hs9 (zz_cat10 _ (Nat.le_of_ble_eq_true rfl)) (fun r38 M39 hw => zz_kA hw (fun x42 hw => ?_)) (fun _ _ _ h9 => h9.elim) rfl
    refine zz_astore (lv' := [(10, va_rf x42), (0, va_rf v0), (1, .int v1), (2, va_rf v2), (3, va_rf v3), (4, .int v4), (5, .int v5), (6, va_rf v6), (7, va_rf v7)]) C dJ4_putVal_126 (by decide) rfl ?_
    refine zz_goto (tgt := 222) C dJ4_putVal_128 (by decide) ?_
    refine zz_subP [1, 4, 5, 6, 0] rfl ?_
    exact ok_J4_putVal_B222 C E hH hR hw
theorem ok_J4_putVal_B29 {G : zzX} (C : zz_C G cJ4_putVal "java/util/HashMap" 13) {K : Option Value → zzM → Prop} (E : zz_E G (some (.object "java/lang/Object")) K (fun _ _ _ => False)) (hH : zz_H G []) (hR : zz_Rm G 72) {v0 : Option Nat} {v1 : Int32} {v2 : Option Nat} {v3 : Option Nat} {v4 : Int32} {v5 : Int32} {v6 : Option Nat} {v8 : Int32} {M : zzM} {bc bs : Nat} (hw : wp_J4_putVal_B29 (zz_Zof G) K v0 v1 v2 v3 v4 v5 v6 v8 M bc bs) : zz_T G 13 M bc bs 29 [(0, va_rf v0), (1, .int v1), (2, va_rf v2), (3, va_rf v3), (4, .int v4), (5, .int v5), (6, va_rf v6), (8, .int v8)] [] := by
  unfold wp_J4_putVal_B29 at hw
  refine zz_aload C dJ4_putVal_29 6 rfl ?_
  refine zz_iload C dJ4_putVal_31 7 rfl ?_
  refine zz_iconst (v := (1 : Int32)) C dJ4_putVal_33 (by decide) ?_
  refine zz_isub C dJ4_putVal_34 ?_
  refine zz_iload_n C dJ4_putVal_35 rfl 1 rfl ?_
  refine zz_iand C dJ4_putVal_36 ?_
  refine zz_dup C dJ4_putVal_37 rfl ?_
  refine zz_istore (lv' := [(9, .int ((v8 - (1 : Int32)) &&& v1)), (0, va_rf v0), (1, .int v1), (2, va_rf v2), (3, va_rf v3), (4, .int v4), (5, .int v5), (6, va_rf v6), (8, .int v8)]) C dJ4_putVal_38 (by decide) rfl ?_
  refine zz_aald C dJ4_putVal_40 hw (fun x3 hw => ?_)
  refine zz_dup C dJ4_putVal_41 (zz_cat _) ?_
  refine zz_astore (lv' := [(7, va_rf x3), (9, .int ((v8 - (1 : Int32)) &&& v1)), (0, va_rf v0), (1, .int v1), (2, va_rf v2), (3, va_rf v3), (4, .int v4), (5, .int v5), (6, va_rf v6), (8, .int v8)]) C dJ4_putVal_42 (by decide) (by simp [zz_cat, zz_catI, zz_catJ, zz_catD]) ?_
  refine zz_ifnonnull (tgt := 63) C dJ4_putVal_44 (by decide) hw (fun hw => ?_) (fun hw => ?_)
  · refine zz_aload C dJ4_putVal_63 0 rfl ?_
    refine zz_getI C dJ4_putVal_65 (Or.inl q1356) zf_24_25_0_l_HashMap_Node hw (fun x4 hw => ?_)
    refine zz_iload_n C dJ4_putVal_68 rfl 3 rfl ?_
    refine zz_icmp_ne (tgt := 104) C dJ4_putVal_69 (by decide) hw (fun hw => ?_) (fun hw => ?_)
    · refine zz_subP [2, 3, 4, 5, 6, 7, 8, 0] rfl ?_
      exact ok_J4_putVal_B104 C E hH hR hw
    · refine zz_aload C dJ4_putVal_72 0 rfl ?_
      refine zz_getA C dJ4_putVal_74 (Or.inl q1360) zf_24_25_1_l_HashMap_Node hw (fun x5 hw => ?_)
      refine zz_dup C dJ4_putVal_77 (zz_cat _) ?_
      refine zz_astore (lv' := [(11, va_rf x5), (7, va_rf x3), (9, .int ((v8 - (1 : Int32)) &&& v1)), (0, va_rf v0), (1, .int v1), (2, va_rf v2), (3, va_rf v3), (4, .int v4), (5, .int v5), (6, va_rf v6), (8, .int v8)]) C dJ4_putVal_78 (by decide) rfl ?_
      refine zz_aload_n C dJ4_putVal_80 rfl 5 rfl ?_
      refine zz_acmp_eq (tgt := 97) C dJ4_putVal_81 (by decide) hw (fun hw => ?_) (fun hw => ?_)
      · refine zz_subP [3, 6, 7, 8, 1] rfl ?_
        exact ok_J4_putVal_B97 C E hH hR hw
      · refine zz_aload_n C dJ4_putVal_84 rfl 5 rfl ?_
        refine zz_ifnull (tgt := 104) C dJ4_putVal_85 (by decide) hw (fun hw => ?_) (fun hw => ?_)
        · refine zz_subP [3, 4, 5, 6, 7, 8, 9, 1] rfl ?_
          exact ok_J4_putVal_B104 C E hH hR hw
        · refine zz_aload_n C dJ4_putVal_88 rfl 5 rfl ?_
          refine zz_aload C dJ4_putVal_89 0 rfl ?_
          obtain ⟨a9, t9, b9, fs9, hro, hL, rfl, hw⟩ := ztyS hw
          refine zz_callU (r := (zR_21, zT_21, 4)) (x := ⟨"java/lang/Object", "equals", "(Ljava/lang/Object;)Z"⟩) (owner := "java/lang/Object") (As := [va_rf x5]) (rest := []) (mc := 0) (ms := 0) C hR hro dJ4_putVal_91 q1623 q1625 (Or.inl q1622) q709 q1654 zl_java_lang_String zk_J7_equals zyo_java_lang_Object_equals__Ljava_lang_Object__Z rfl (by decide) (by decide) hL (ok_J7_equals (zz_hl C) hw) (Nat.zero_le _) (Nat.zero_le _) (zz_cat10 _ (Nat.le_of_ble_eq_true rfl)) (fun r6 M7 hw => zz_kI hw (fun x10 hw => ?_)) (fun _ _ _ h9 => h9.elim) rfl
          refine zz_if_eq (tgt := 104) C dJ4_putVal_94 (by decide) hw (fun hw => ?_) (fun hw => ?_)
          · refine zz_subP [3, 4, 5, 6, 7, 8, 9, 1] rfl ?_
            exact ok_J4_putVal_B104 C E hH hR hw
          · refine zz_subP [3, 6, 7, 8, 1] rfl ?_
            exact ok_J4_putVal_B97 C E hH hR hw
  · refine zz_aload C dJ4_putVal_47 8 rfl ?_
    refine zz_iload C dJ4_putVal_49 1 rfl ?_
    refine zz_aload_n C dJ4_putVal_51 rfl 2 rfl ?_
    refine zz_iload_n C dJ4_putVal_52 rfl 3 rfl ?_
    refine zz_aload_n C dJ4_putVal_53 rfl 4 rfl ?_
    refine zz_aload_n C dJ4_putVal_54 rfl 5 rfl ?_
    refine zz_null C dJ4_putVal_55 ?_
    obtain ⟨a9, t9, b9, fs9, hro, hL, rfl, hw⟩ := ztyS hw
    obtain ⟨c9, s9, hc9, hs9, hw⟩ := hw
    refine zz_callV (r := (zR_19, zT_19, 8)) (As := [.int v1, va_rf v2, va_rf v3, va_rf none]) (rest := [.int ((v8 - (1 : Int32)) &&& v1), va_rf v6]) C hR hro dJ4_putVal_56 (Or.inl q1618) q1619 (Or.inl q1620) zl_java_util_HashMap zk_J4_newNode (Or.inl rfl) zy_J4_newNode rfl (by decide) (by decide) hL (ok_J4_newNode (zz_hl C) hw) hc9 hs9 (zz_cat10 _ (Nat.le_of_ble_eq_true rfl)) (fun r11 M12 hw => zz_kA hw (fun x15 hw => ?_)) (fun _ _ _ h9 => h9.elim) rfl
    refine zz_aast C dJ4_putVal_59 hw (fun M16 hw => ?_)
    refine zz_goto (tgt := 259) C dJ4_putVal_60 (by decide) ?_
    refine zz_subP [2, 7] rfl ?_
    exact ok_J4_putVal_B259 C E hH hR hw
theorem ok_J4_putVal_B19 {G : zzX} (C : zz_C G cJ4_putVal "java/util/HashMap" 13) {K : Option Value → zzM → Prop} (E : zz_E G (some (.object "java/lang/Object")) K (fun _ _ _ => False)) (hH : zz_H G []) (hR : zz_Rm G 72) {v0 : Option Nat} {v1 : Int32} {v2 : Option Nat} {v3 : Option Nat} {v4 : Int32} {v5 : Int32} {M : zzM} {bc bs : Nat} (hw : wp_J4_putVal_B19 (zz_Zof G) K v0 v1 v2 v3 v4 v5 M bc bs) : zz_T G 13 M bc bs 19 [(0, va_rf v0), (1, .int v1), (2, va_rf v2), (3, va_rf v3), (4, .int v4), (5, .int v5)] [] := by
  unfold wp_J4_putVal_B19 at hw
  refine zz_aload_n C dJ4_putVal_19 rfl 0 rfl ?_
  obtain ⟨a9, t9, b9, fs9, hro, hL, rfl, hw⟩ := ztyS hw
  obtain ⟨c9, s9, hc9, hs9, hw⟩ := hw
  refine zz_callV (r := (zR_19, zT_19, 8)) (As := []) (rest := []) C hR hro dJ4_putVal_20 (Or.inl q1325) q1326 (Or.inl q1327) zl_java_util_HashMap zk_J4_resize (Or.inl rfl) zy_J4_resize rfl (by decide) (by decide) hL (ok_J4_resize (zz_hl C) hw) hc9 hs9 (zz_cat10 _ (Nat.le_of_ble_eq_true rfl)) (fun r61 M62 hw => zz_kA hw (fun x65 hw => ?_)) (fun _ _ _ h9 => h9.elim) rfl
  refine zz_dup C dJ4_putVal_23 (zz_cat _) ?_
  refine zz_astore (lv' := [(6, va_rf x65), (0, va_rf v0), (1, .int v1), (2, va_rf v2), (3, va_rf v3), (4, .int v4), (5, .int v5)]) C dJ4_putVal_24 (by decide) rfl ?_
  refine zz_alen C dJ4_putVal_26 hw (fun x66 hw => ?_)
  refine zz_istore (lv' := [(8, .int x66), (6, va_rf x65), (0, va_rf v0), (1, .int v1), (2, va_rf v2), (3, va_rf v3), (4, .int v4), (5, .int v5)]) C dJ4_putVal_27 (by decide) rfl ?_
  refine zz_subP [2, 3, 4, 5, 6, 7, 1, 0] rfl ?_
  exact ok_J4_putVal_B29 C E hH hR hw
theorem ok_J4_putVal {Z : zzG} {l : Launch} (hl : l.stackTraces = false) {this : Option Nat} {p0 : Int32} {p1 : Option Nat} {p2 : Option Nat} {p3 : Int32} {p4 : Int32} {M : zzM} {mc ms : Nat} {K : Option Value → zzM → Prop} (hw : wp_J4_putVal Z this p0 p1 p2 p3 p4 M mc ms K) : zz_Met Z l yJ4_putVal (zz_ws yJ4_putVal cJ4_putVal 13 (some (.object "java/lang/Object")) none) 72 [va_rf this, .int p0, va_rf p1, va_rf p2, .int p3, .int p4] M mc ms K (fun _ _ _ => False) := by
  refine zz_ofW hl (plainFor_of_name (by decide)) (by simp only [zz_sl0, zz_slI, zz_slJ, zz_slA] <;> decide) (fun G hZ hll C E hH hR hin => ?_)
  subst hZ
  subst hll
  rw [show lv_args 0 [va_rf this, .int p0, va_rf p1, va_rf p2, .int p3, .int p4] = [(0, va_rf this), (1, .int p0), (2, va_rf p1), (3, va_rf p2), (4, .int p3), (5, .int p4)] by simp only [zz_la0, zz_laI, zz_laJ, zz_laA]]
  unfold wp_J4_putVal at hw
  refine zz_aload_n C dJ4_putVal_0 rfl 0 rfl ?_
  refine zz_getA C dJ4_putVal_1 (Or.inl q209) zf_19_2_a_util_HashMap hw (fun x1 hw => ?_)
  refine zz_dup C dJ4_putVal_4 (zz_cat _) ?_
  refine zz_astore (lv' := [(6, va_rf x1), (0, va_rf this), (1, .int p0), (2, va_rf p1), (3, va_rf p2), (4, .int p3), (5, .int p4)]) C dJ4_putVal_5 (by decide) rfl ?_
  refine zz_ifnull (tgt := 19) C dJ4_putVal_7 (by decide) hw (fun hw => ?_) (fun hw => ?_)
  · refine zz_subP [1, 2, 3, 4, 5, 6] rfl ?_
    exact ok_J4_putVal_B19 C E hH hR hw
  · refine zz_aload C dJ4_putVal_10 0 rfl ?_
    refine zz_alen C dJ4_putVal_12 hw (fun x2 hw => ?_)
    refine zz_dup C dJ4_putVal_13 rfl ?_
    refine zz_istore (lv' := [(8, .int x2), (6, va_rf x1), (0, va_rf this), (1, .int p0), (2, va_rf p1), (3, va_rf p2), (4, .int p3), (5, .int p4)]) C dJ4_putVal_14 (by decide) rfl ?_
    refine zz_if_ne (tgt := 29) C dJ4_putVal_16 (by decide) hw (fun hw => ?_) (fun hw => ?_)
    · refine zz_subP [2, 3, 4, 5, 6, 7, 1, 0] rfl ?_
      exact ok_J4_putVal_B29 C E hH hR hw
    · refine zz_subP [2, 3, 4, 5, 6, 7] rfl ?_
      exact ok_J4_putVal_B19 C E hH hR hw
abbrev cJ4_put : ByteArray := prog_63_method_15_code
def yJ4_put : MethodName := ⟨"java/util/HashMap", "put", "(Ljava/lang/Object;Ljava/lang/Object;)Ljava/lang/Object;"⟩
def dkwJ4_put_0 : List UInt8 := [42, 43, 184, 0, 149, 43, 44, 3, 4, 182, 0, 152, 176]
abbrev dktJ4_put_0 : List UInt8 := dkwJ4_put_0 ++ []
theorem dksJ4_put_0 : cJ4_put.data.toList.drop 0 = dktJ4_put_0 := by decide +kernel
theorem dJ4_put_0 : decode cJ4_put 0 = .ok (.aload_n 0, 1) := dk_42 (dk_at dksJ4_put_0 0 rfl rfl)
theorem dJ4_put_1 : decode cJ4_put 1 = .ok (.aload_n 1, 1) := dk_43 (dk_at dksJ4_put_0 1 rfl rfl)
theorem dJ4_put_2 : decode cJ4_put 2 = .ok (.invokestatic 149, 3) := dk_184 0 149 (dk_at dksJ4_put_0 2 rfl rfl)
theorem dJ4_put_5 : decode cJ4_put 5 = .ok (.aload_n 1, 1) := dk_43 (dk_at dksJ4_put_0 5 rfl rfl)
theorem dJ4_put_6 : decode cJ4_put 6 = .ok (.aload_n 2, 1) := dk_44 (dk_at dksJ4_put_0 6 rfl rfl)
theorem dJ4_put_7 : decode cJ4_put 7 = .ok (.iconst 0, 1) := dk_3 (dk_at dksJ4_put_0 7 rfl rfl)
theorem dJ4_put_8 : decode cJ4_put 8 = .ok (.iconst 1, 1) := dk_4 (dk_at dksJ4_put_0 8 rfl rfl)
theorem dJ4_put_9 : decode cJ4_put 9 = .ok (.invokevirtual 152, 3) := dk_182 0 152 (dk_at dksJ4_put_0 9 rfl rfl)
theorem dJ4_put_12 : decode cJ4_put 12 = .ok (.areturn, 1) := dk_176 (dk_at dksJ4_put_0 12 rfl rfl)
theorem q1224 : (Jvm.Cond.code ({ cls := "java/util/HashMap", name := "hash", desc := "(Ljava/lang/Object;)I" } : Jvm.MethodName) prog_63_method_1_code (2 : Nat) (Option.some Jvm.ClassFile.FieldType.int)) ∈ lw_all := lw_g (lw_at lw_m5 184 rfl) rfl
theorem zk_J4_hash : zz_cd yJ4_hash cJ4_hash 2 (some .int) none ∈ lw_all := q1224
theorem zy_J4_hash : zz_yok yJ4_hash 1 = true := by decide +kernel
theorem q1324 : (Jvm.Cond.code ({ cls := "java/util/HashMap", name := "putVal", desc := "(ILjava/lang/Object;Ljava/lang/Object;ZZ)Ljava/lang/Object;" } : Jvm.MethodName) prog_63_method_16_code (13 : Nat) (Option.some (Jvm.ClassFile.FieldType.object "java/lang/Object"))) ∈ lw_all := lw_g (lw_at lw_m6 44 rfl) rfl
theorem zk_J4_putVal : zz_cd yJ4_putVal cJ4_putVal 13 (some (.object "java/lang/Object")) none ∈ lw_all := q1324
theorem zy_J4_putVal : zz_yok yJ4_putVal 5 = true := by decide +kernel
theorem q1321 : (Jvm.Cond.methodLink "java/util/HashMap" (152 : Nat) ({ cls := "java/util/HashMap", name := "putVal", desc := "(ILjava/lang/Object;Ljava/lang/Object;ZZ)Ljava/lang/Object;" } : Jvm.MethodName)) ∈ lw_all := lw_g (lw_at lw_m6 41 rfl) rfl
theorem q1322 : (Jvm.Cond.instanceMethod ({ cls := "java/util/HashMap", name := "putVal", desc := "(ILjava/lang/Object;Ljava/lang/Object;ZZ)Ljava/lang/Object;" } : Jvm.MethodName)) ∈ lw_all := lw_g (lw_at lw_m6 42 rfl) rfl
theorem q1323 : (Jvm.Cond.selects "java/util/HashMap" ({ cls := "java/util/HashMap", name := "putVal", desc := "(ILjava/lang/Object;Ljava/lang/Object;ZZ)Ljava/lang/Object;" } : Jvm.MethodName) ({ cls := "java/util/HashMap", name := "putVal", desc := "(ILjava/lang/Object;Ljava/lang/Object;ZZ)Ljava/lang/Object;" } : Jvm.MethodName)) ∈ lw_all := lw_g (lw_at lw_m6 43 rfl) rfl
theorem q1222 : (Jvm.Cond.methodLink "java/util/HashMap" (149 : Nat) ({ cls := "java/util/HashMap", name := "hash", desc := "(Ljava/lang/Object;)I" } : Jvm.MethodName)) ∈ lw_all := lw_g (lw_at lw_m5 182 rfl) rfl
theorem q1223 : (Jvm.Cond.static ({ cls := "java/util/HashMap", name := "hash", desc := "(Ljava/lang/Object;)I" } : Jvm.MethodName)) ∈ lw_all := lw_g (lw_at lw_m5 183 rfl) rfl
def wp_J4_put (Z : zzG) (this : Option Nat) (p0 : Option Nat) (p1 : Option Nat) (M : zzM) (bc bs : Nat) (K : Option Value → zzM → Prop) : Prop := wp_J4_hash Z p0 M (fun r1 M2 => zrI r1 fun x5 => zty Z M2 this fun t => t = 19 ∧ zcc bc bs (fun c s k => wp_J4_putVal Z this x5 p0 p1 (0 : Int32) (1 : Int32) M2 c s k) fun r6 M7 bc8 bs9 => zrA r6 fun x10 => K (some (va_rf x10)) M7)
theorem ok_J4_put {Z : zzG} {l : Launch} (hl : l.stackTraces = false) {this : Option Nat} {p0 : Option Nat} {p1 : Option Nat} {M : zzM} {mc ms : Nat} {K : Option Value → zzM → Prop} (hw : wp_J4_put Z this p0 p1 M mc ms K) : zz_Met Z l yJ4_put (zz_ws yJ4_put cJ4_put 3 (some (.object "java/lang/Object")) none) 73 [va_rf this, va_rf p0, va_rf p1] M mc ms K (fun _ _ _ => False) := by
  refine zz_ofW hl (plainFor_of_name (by decide)) (by simp only [zz_sl0, zz_slI, zz_slJ, zz_slA] <;> decide) (fun G hZ hll C E hH hR hin => ?_)
  subst hZ
  subst hll
  rw [show lv_args 0 [va_rf this, va_rf p0, va_rf p1] = [(0, va_rf this), (1, va_rf p0), (2, va_rf p1)] by simp only [zz_la0, zz_laI, zz_laJ, zz_laA]]
  unfold wp_J4_put at hw
  refine zz_aload_n C dJ4_put_0 rfl 0 rfl ?_
  refine zz_aload_n C dJ4_put_1 rfl 1 rfl ?_
  refine zz_callS (As := [va_rf p0]) (rest := [va_rf this]) (mc := 0) (ms := 0) C hR dJ4_put_2 (Or.inl q1222) q1223 zl_java_util_HashMap zk_J4_hash (Or.inl rfl) zy_J4_hash (by decide) (by decide) (ok_J4_hash (zz_hl C) hw) (Nat.zero_le _) (Nat.zero_le _) (zz_cat10 _ (Nat.le_of_ble_eq_true rfl)) (fun r1 M2 hw => zz_kI hw (fun x5 hw => ?_)) (fun _ _ _ h9 => h9.elim) rfl
  refine zz_aload_n C dJ4_put_5 rfl 1 rfl ?_
  refine zz_aload_n C dJ4_put_6 rfl 2 rfl ?_
  refine zz_iconst (v := (0 : Int32)) C dJ4_put_7 (by decide) ?_
  refine zz_iconst (v := (1 : Int32)) C dJ4_put_8 (by decide) ?_
  obtain ⟨a9, t9, b9, fs9, hro, hL, rfl, hw⟩ := ztyS hw
  obtain ⟨c9, s9, hc9, hs9, hw⟩ := hw
  refine zz_callV (r := (zR_19, zT_19, 8)) (As := [.int x5, va_rf p0, va_rf p1, .int (0 : Int32), .int (1 : Int32)]) (rest := []) C hR hro dJ4_put_9 (Or.inl q1321) q1322 (Or.inl q1323) zl_java_util_HashMap zk_J4_putVal (Or.inl rfl) zy_J4_putVal rfl (by decide) (by decide) hL (ok_J4_putVal (zz_hl C) hw) hc9 hs9 (zz_cat10 _ (Nat.le_of_ble_eq_true rfl)) (fun r6 M7 hw => zz_kA hw (fun x10 hw => ?_)) (fun _ _ _ h9 => h9.elim) rfl
  exact zz_aret C E (Or.inl ⟨_, rfl⟩) dJ4_put_12 hw
