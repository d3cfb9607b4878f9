set_option maxRecDepth 100000
abbrev cX1_itemAt : ByteArray := prog_1_method_7_code
def yX1_itemAt : MethodName := ⟨"DebateHall", "itemAt", "(I)LDebateHall$Item;"⟩
def dkwX1_itemAt_1 : List UInt8 := [182, 0, 64, 192, 0, 68, 176]
abbrev dktX1_itemAt_1 : List UInt8 := dkwX1_itemAt_1 ++ []
def dkwX1_itemAt_0 : List UInt8 := [27, 42, 180, 0, 36, 180, 0, 61, 182, 0, 51, 184, 0, 57, 42, 180, 0, 36, 180, 0, 61, 27]
abbrev dktX1_itemAt_0 : List UInt8 := dkwX1_itemAt_0 ++ dktX1_itemAt_1
theorem dksX1_itemAt_0 : cX1_itemAt.data.toList.drop 0 = dktX1_itemAt_0 := by decide +kernel
theorem dksX1_itemAt_1 : cX1_itemAt.data.toList.drop 22 = dktX1_itemAt_1 := dk_seg dksX1_itemAt_0 22 rfl rfl
theorem dX1_itemAt_0 : decode cX1_itemAt 0 = .ok (.iload_n 1, 1) := dk_27 (dk_at dksX1_itemAt_0 0 rfl rfl)
theorem dX1_itemAt_1 : decode cX1_itemAt 1 = .ok (.aload_n 0, 1) := dk_42 (dk_at dksX1_itemAt_0 1 rfl rfl)
theorem dX1_itemAt_2 : decode cX1_itemAt 2 = .ok (.getfield 36, 3) := dk_180 0 36 (dk_at dksX1_itemAt_0 2 rfl rfl)
theorem dX1_itemAt_5 : decode cX1_itemAt 5 = .ok (.getfield 61, 3) := dk_180 0 61 (dk_at dksX1_itemAt_0 5 rfl rfl)
theorem dX1_itemAt_8 : decode cX1_itemAt 8 = .ok (.invokevirtual 51, 3) := dk_182 0 51 (dk_at dksX1_itemAt_0 8 rfl rfl)
theorem dX1_itemAt_11 : decode cX1_itemAt 11 = .ok (.invokestatic 57, 3) := dk_184 0 57 (dk_at dksX1_itemAt_0 11 rfl rfl)
theorem dX1_itemAt_14 : decode cX1_itemAt 14 = .ok (.aload_n 0, 1) := dk_42 (dk_at dksX1_itemAt_0 14 rfl rfl)
theorem dX1_itemAt_15 : decode cX1_itemAt 15 = .ok (.getfield 36, 3) := dk_180 0 36 (dk_at dksX1_itemAt_0 15 rfl rfl)
theorem dX1_itemAt_18 : decode cX1_itemAt 18 = .ok (.getfield 61, 3) := dk_180 0 61 (dk_at dksX1_itemAt_0 18 rfl rfl)
theorem dX1_itemAt_21 : decode cX1_itemAt 21 = .ok (.iload_n 1, 1) := dk_27 (dk_at dksX1_itemAt_0 21 rfl rfl)
theorem dX1_itemAt_22 : decode cX1_itemAt 22 = .ok (.invokevirtual 64, 3) := dk_182 0 64 (dk_at dksX1_itemAt_1 0 rfl rfl)
theorem dX1_itemAt_25 : decode cX1_itemAt 25 = .ok (.checkcast 68, 3) := dk_192 0 68 (dk_at dksX1_itemAt_1 3 rfl rfl)
theorem dX1_itemAt_28 : decode cX1_itemAt 28 = .ok (.areturn, 1) := dk_176 (dk_at dksX1_itemAt_1 6 rfl rfl)
def wp_X1_itemAt (Z : zzG) (this : Option Nat) (p0 : Int32) (M : zzM) (bc bs : Nat) (K : Option Value → zzM → Prop) (X : Nat → Nat → zzM → Prop) : Prop := zgA Z M this [0] 2 fun x1 => zgA Z M x1 [2] 1 fun x2 => zty Z M x2 fun t => t = 18 ∧ wp_J2_size Z x2 M (fun r3 M4 => zrI r3 fun x7 => zcx bc bs (fun c s k x => wp_X1_requireIndex Z p0 x7 M4 c s k x) (fun r8 M9 bc10 bs11 => zrV r8 (zgA Z M9 this [0] 2 fun x12 => zgA Z M9 x12 [2] 1 fun x13 => zty Z M9 x13 fun t => t = 18 ∧ wp_J2_get Z x13 p0 M9 (fun r14 M15 => zrA r14 fun x18 => zcast Z M15 x18 [15] <| K (some (va_rf x18)) M15))) (fun t q M _ _ => X t q M))
theorem ok_X1_itemAt {Z : zzG} {l : Launch} (hl : l.stackTraces = false) {this : Option Nat} {p0 : Int32} {M : zzM} {mc ms : Nat} {K : Option Value → zzM → Prop} {X : Nat → Nat → zzM → Prop} (hw : wp_X1_itemAt Z this p0 M mc ms K X) : zz_Met Z l yX1_itemAt (zz_ws yX1_itemAt cX1_itemAt 2 (some (.object "DebateHall$Item")) none) 7 [va_rf this, .int p0] M mc ms K X := by
  refine zz_ofW hl (plainFor_of_name (by decide)) (by simp only [zz_sl0, zz_slI, zz_slJ, zz_slA] <;> decide) (fun G hZ hll C E hH hR hin => ?_)
  subst hZ
  subst hll
  rw [show lv_args 0 [va_rf this, .int p0] = [(0, va_rf this), (1, .int p0)] by simp only [zz_la0, zz_laI, zz_laJ, zz_laA]]
  unfold wp_X1_itemAt at hw
  refine zz_iload_n C dX1_itemAt_0 rfl 1 rfl ?_
  refine zz_aload_n C dX1_itemAt_1 rfl 0 rfl ?_
  refine zz_getA C dX1_itemAt_2 (Or.inl q305) zf_0_2_DebateHall hw (fun x1 hw => ?_)
  refine zz_getA C dX1_itemAt_5 (Or.inr ⟨_, q239⟩) zf_2_1_teHall_Minutes hw (fun x2 hw => ?_)
  obtain ⟨a9, t9, b9, fs9, hro, hL, rfl, hw⟩ := ztyS hw
  refine zz_callV (r := (zR_18, zT_18, 3)) (As := []) (rest := [.int p0]) (mc := 0) (ms := 0) C hR hro dX1_itemAt_8 (Or.inl q2017) q354 (Or.inl q355) zl_java_util_ArrayList zk_J2_size (Or.inl rfl) zy_J2_size rfl (by decide) (by decide) hL (ok_J2_size (zz_hl C) hw) (Nat.zero_le _) (Nat.zero_le _) (zz_cat10 _ (Nat.le_of_ble_eq_true rfl)) (fun r3 M4 hw => zz_kI hw (fun x7 hw => ?_)) (fun _ _ _ h9 => h9.elim) rfl
  obtain ⟨c9, s9, hc9, hs9, hw⟩ := hw
  refine zz_callS (As := [.int p0, .int x7]) (rest := []) C hR dX1_itemAt_11 (Or.inl q2132) q2133 zl_DebateHall zk_X1_requireIndex (Or.inl rfl) zy_X1_requireIndex (by decide) (by decide) (ok_X1_requireIndex (zz_hl C) hw) hc9 hs9 (zz_cat10 _ (Nat.le_of_ble_eq_true rfl)) (fun r8 M9 hw => zz_kV hw (fun hw => ?_)) (fun t9 q19 M20 hx => ?_) rfl
  · refine zz_aload_n C dX1_itemAt_14 rfl 0 rfl ?_
    refine zz_getA C dX1_itemAt_15 (Or.inl q305) zf_0_2_DebateHall hw (fun x12 hw => ?_)
    refine zz_getA C dX1_itemAt_18 (Or.inr ⟨_, q239⟩) zf_2_1_teHall_Minutes hw (fun x13 hw => ?_)
    refine zz_iload_n C dX1_itemAt_21 rfl 1 rfl ?_
    obtain ⟨a9, t9, b9, fs9, hro, hL, rfl, hw⟩ := ztyS hw
    refine zz_callV (r := (zR_18, zT_18, 3)) (As := [.int p0]) (rest := []) (mc := 0) (ms := 0) C hR hro dX1_itemAt_22 (Or.inl q2108) q877 (Or.inl q2872) zl_java_util_ArrayList zk_J2_get (Or.inl rfl) zy_J2_get rfl (by decide) (by decide) hL (ok_J2_get (zz_hl C) hw) (Nat.zero_le _) (Nat.zero_le _) (zz_cat10 _ (Nat.le_of_ble_eq_true rfl)) (fun r14 M15 hw => zz_kA hw (fun x18 hw => ?_)) (fun _ _ _ h9 => h9.elim) rfl
    refine zz_cast C dX1_itemAt_25 q2105 zc_15_ebateHall_Item hw (fun hw => ?_)
    exact zz_aret C E (Or.inl ⟨_, rfl⟩) dX1_itemAt_28 hw
  · exact zz_out C E hH rfl hx
abbrev cX3_find : ByteArray := prog_12_method_7_code
def yX3_find : MethodName := ⟨"DebateHall$Minutes", "find", "(LDebateHall$Item;LDebateHall$Item;)I"⟩
def dkwX3_find_6 : List UInt8 := [29, 153, 0, 7, 4, 167, 0, 4, 3, 172]
abbrev dktX3_find_6 : List UInt8 := dkwX3_find_6 ++ []
def dkwX3_find_5 : List UInt8 := [153, 0, 16, 42, 25, 5, 182, 0, 117, 153, 0, 7, 4, 167, 0, 4, 3, 62, 132, 4, 1, 167, 255, 177]
abbrev dktX3_find_5 : List UInt8 := dkwX3_find_5 ++ dktX3_find_6
def dkwX3_find_4 : List UInt8 := [25, 5, 182, 0, 130, 154, 0, 6, 167, 0, 33, 42, 25, 5, 182, 0, 121, 153, 0, 5, 5, 172, 29]
abbrev dktX3_find_4 : List UInt8 := dkwX3_find_4 ++ dktX3_find_5
def dkwX3_find_3 : List UInt8 := [42, 180, 0, 18, 21, 4, 182, 0, 82, 192, 0, 75, 58, 5, 25, 5, 43, 182, 0, 127, 153, 0, 44]
abbrev dktX3_find_3 : List UInt8 := dkwX3_find_3 ++ dktX3_find_4
def dkwX3_find_2 : List UInt8 := [153, 0, 7, 4, 167, 0, 4, 3, 62, 3, 54, 4, 21, 4, 42, 180, 0, 18, 182, 0, 124, 162, 0, 73]
abbrev dktX3_find_2 : List UInt8 := dkwX3_find_2 ++ dktX3_find_3
def dkwX3_find_1 : List UInt8 := [182, 0, 117, 153, 0, 5, 5, 172, 43, 180, 0, 77, 198, 0, 14, 42, 43, 180, 0, 77, 182, 0, 121]
abbrev dktX3_find_1 : List UInt8 := dkwX3_find_1 ++ dktX3_find_2
def dkwX3_find_0 : List UInt8 := [43, 180, 0, 103, 154, 0, 26, 43, 44, 165, 0, 21, 43, 180, 0, 77, 198, 0, 16, 42, 43, 180, 0, 77]
abbrev dktX3_find_0 : List UInt8 := dkwX3_find_0 ++ dktX3_find_1
theorem dksX3_find_0 : cX3_find.data.toList.drop 0 = dktX3_find_0 := by decide +kernel
theorem dksX3_find_1 : cX3_find.data.toList.drop 24 = dktX3_find_1 := dk_seg dksX3_find_0 24 rfl rfl
theorem dksX3_find_2 : cX3_find.data.toList.drop 47 = dktX3_find_2 := dk_seg dksX3_find_1 23 rfl rfl
theorem dksX3_find_3 : cX3_find.data.toList.drop 71 = dktX3_find_3 := dk_seg dksX3_find_2 24 rfl rfl
theorem dksX3_find_4 : cX3_find.data.toList.drop 94 = dktX3_find_4 := dk_seg dksX3_find_3 23 rfl rfl
theorem dksX3_find_5 : cX3_find.data.toList.drop 117 = dktX3_find_5 := dk_seg dksX3_find_4 23 rfl rfl
theorem dksX3_find_6 : cX3_find.data.toList.drop 141 = dktX3_find_6 := dk_seg dksX3_find_5 24 rfl rfl
theorem dX3_find_0 : decode cX3_find 0 = .ok (.aload_n 1, 1) := dk_43 (dk_at dksX3_find_0 0 rfl rfl)
theorem dX3_find_1 : decode cX3_find 1 = .ok (.getfield 103, 3) := dk_180 0 103 (dk_at dksX3_find_0 1 rfl rfl)
theorem dX3_find_4 : decode cX3_find 4 = .ok (.ifCond .ne 26, 3) := dk_154 0 26 (dk_at dksX3_find_0 4 rfl rfl)
theorem dX3_find_7 : decode cX3_find 7 = .ok (.aload_n 1, 1) := dk_43 (dk_at dksX3_find_0 7 rfl rfl)
theorem dX3_find_8 : decode cX3_find 8 = .ok (.aload_n 2, 1) := dk_44 (dk_at dksX3_find_0 8 rfl rfl)
theorem dX3_find_9 : decode cX3_find 9 = .ok (.if_acmp .eq 21, 3) := dk_165 0 21 (dk_at dksX3_find_0 9 rfl rfl)
theorem dX3_find_12 : decode cX3_find 12 = .ok (.aload_n 1, 1) := dk_43 (dk_at dksX3_find_0 12 rfl rfl)
theorem dX3_find_13 : decode cX3_find 13 = .ok (.getfield 77, 3) := dk_180 0 77 (dk_at dksX3_find_0 13 rfl rfl)
theorem dX3_find_16 : decode cX3_find 16 = .ok (.ifnull 16, 3) := dk_198 0 16 (dk_at dksX3_find_0 16 rfl rfl)
theorem dX3_find_19 : decode cX3_find 19 = .ok (.aload_n 0, 1) := dk_42 (dk_at dksX3_find_0 19 rfl rfl)
theorem dX3_find_20 : decode cX3_find 20 = .ok (.aload_n 1, 1) := dk_43 (dk_at dksX3_find_0 20 rfl rfl)
theorem dX3_find_21 : decode cX3_find 21 = .ok (.getfield 77, 3) := dk_180 0 77 (dk_at dksX3_find_0 21 rfl rfl)
theorem dX3_find_24 : decode cX3_find 24 = .ok (.invokevirtual 117, 3) := dk_182 0 117 (dk_at dksX3_find_1 0 rfl rfl)
theorem dX3_find_27 : decode cX3_find 27 = .ok (.ifCond .eq 5, 3) := dk_153 0 5 (dk_at dksX3_find_1 3 rfl rfl)
theorem dX3_find_30 : decode cX3_find 30 = .ok (.iconst 2, 1) := dk_5 (dk_at dksX3_find_1 6 rfl rfl)
theorem dX3_find_31 : decode cX3_find 31 = .ok (.ireturn, 1) := dk_172 (dk_at dksX3_find_1 7 rfl rfl)
theorem dX3_find_32 : decode cX3_find 32 = .ok (.aload_n 1, 1) := dk_43 (dk_at dksX3_find_1 8 rfl rfl)
theorem dX3_find_33 : decode cX3_find 33 = .ok (.getfield 77, 3) := dk_180 0 77 (dk_at dksX3_find_1 9 rfl rfl)
theorem dX3_find_36 : decode cX3_find 36 = .ok (.ifnull 14, 3) := dk_198 0 14 (dk_at dksX3_find_1 12 rfl rfl)
theorem dX3_find_39 : decode cX3_find 39 = .ok (.aload_n 0, 1) := dk_42 (dk_at dksX3_find_1 15 rfl rfl)
theorem dX3_find_40 : decode cX3_find 40 = .ok (.aload_n 1, 1) := dk_43 (dk_at dksX3_find_1 16 rfl rfl)
theorem dX3_find_41 : decode cX3_find 41 = .ok (.getfield 77, 3) := dk_180 0 77 (dk_at dksX3_find_1 17 rfl rfl)
theorem dX3_find_44 : decode cX3_find 44 = .ok (.invokevirtual 121, 3) := dk_182 0 121 (dk_at dksX3_find_1 20 rfl rfl)
theorem dX3_find_47 : decode cX3_find 47 = .ok (.ifCond .eq 7, 3) := dk_153 0 7 (dk_at dksX3_find_2 0 rfl rfl)
theorem dX3_find_50 : decode cX3_find 50 = .ok (.iconst 1, 1) := dk_4 (dk_at dksX3_find_2 3 rfl rfl)
theorem dX3_find_51 : decode cX3_find 51 = .ok (.goto 4, 3) := dk_167 0 4 (dk_at dksX3_find_2 4 rfl rfl)
theorem dX3_find_54 : decode cX3_find 54 = .ok (.iconst 0, 1) := dk_3 (dk_at dksX3_find_2 7 rfl rfl)
theorem dX3_find_55 : decode cX3_find 55 = .ok (.istore_n 3, 1) := dk_62 (dk_at dksX3_find_2 8 rfl rfl)
theorem dX3_find_56 : decode cX3_find 56 = .ok (.iconst 0, 1) := dk_3 (dk_at dksX3_find_2 9 rfl rfl)
theorem dX3_find_57 : decode cX3_find 57 = .ok (.istore 4, 2) := dk_54 4 (dk_at dksX3_find_2 10 rfl rfl)
theorem dX3_find_59 : decode cX3_find 59 = .ok (.iload 4, 2) := dk_21 4 (dk_at dksX3_find_2 12 rfl rfl)
theorem dX3_find_61 : decode cX3_find 61 = .ok (.aload_n 0, 1) := dk_42 (dk_at dksX3_find_2 14 rfl rfl)
theorem dX3_find_62 : decode cX3_find 62 = .ok (.getfield 18, 3) := dk_180 0 18 (dk_at dksX3_find_2 15 rfl rfl)
theorem dX3_find_65 : decode cX3_find 65 = .ok (.invokevirtual 124, 3) := dk_182 0 124 (dk_at dksX3_find_2 18 rfl rfl)
theorem dX3_find_68 : decode cX3_find 68 = .ok (.if_icmp .ge 73, 3) := dk_162 0 73 (dk_at dksX3_find_2 21 rfl rfl)
theorem dX3_find_71 : decode cX3_find 71 = .ok (.aload_n 0, 1) := dk_42 (dk_at dksX3_find_3 0 rfl rfl)
theorem dX3_find_72 : decode cX3_find 72 = .ok (.getfield 18, 3) := dk_180 0 18 (dk_at dksX3_find_3 1 rfl rfl)
theorem dX3_find_75 : decode cX3_find 75 = .ok (.iload 4, 2) := dk_21 4 (dk_at dksX3_find_3 4 rfl rfl)
theorem dX3_find_77 : decode cX3_find 77 = .ok (.invokevirtual 82, 3) := dk_182 0 82 (dk_at dksX3_find_3 6 rfl rfl)
theorem dX3_find_80 : decode cX3_find 80 = .ok (.checkcast 75, 3) := dk_192 0 75 (dk_at dksX3_find_3 9 rfl rfl)
theorem dX3_find_83 : decode cX3_find 83 = .ok (.astore 5, 2) := dk_58 5 (dk_at dksX3_find_3 12 rfl rfl)
theorem dX3_find_85 : decode cX3_find 85 = .ok (.aload 5, 2) := dk_25 5 (dk_at dksX3_find_3 14 rfl rfl)
theorem dX3_find_87 : decode cX3_find 87 = .ok (.aload_n 1, 1) := dk_43 (dk_at dksX3_find_3 16 rfl rfl)
theorem dX3_find_88 : decode cX3_find 88 = .ok (.invokevirtual 127, 3) := dk_182 0 127 (dk_at dksX3_find_3 17 rfl rfl)
theorem dX3_find_91 : decode cX3_find 91 = .ok (.ifCond .eq 44, 3) := dk_153 0 44 (dk_at dksX3_find_3 20 rfl rfl)
theorem dX3_find_94 : decode cX3_find 94 = .ok (.aload 5, 2) := dk_25 5 (dk_at dksX3_find_4 0 rfl rfl)
theorem dX3_find_96 : decode cX3_find 96 = .ok (.invokevirtual 130, 3) := dk_182 0 130 (dk_at dksX3_find_4 2 rfl rfl)
theorem dX3_find_99 : decode cX3_find 99 = .ok (.ifCond .ne 6, 3) := dk_154 0 6 (dk_at dksX3_find_4 5 rfl rfl)
theorem dX3_find_102 : decode cX3_find 102 = .ok (.goto 33, 3) := dk_167 0 33 (dk_at dksX3_find_4 8 rfl rfl)
theorem dX3_find_105 : decode cX3_find 105 = .ok (.aload_n 0, 1) := dk_42 (dk_at dksX3_find_4 11 rfl rfl)
theorem dX3_find_106 : decode cX3_find 106 = .ok (.aload 5, 2) := dk_25 5 (dk_at dksX3_find_4 12 rfl rfl)
theorem dX3_find_108 : decode cX3_find 108 = .ok (.invokevirtual 121, 3) := dk_182 0 121 (dk_at dksX3_find_4 14 rfl rfl)
theorem dX3_find_111 : decode cX3_find 111 = .ok (.ifCond .eq 5, 3) := dk_153 0 5 (dk_at dksX3_find_4 17 rfl rfl)
theorem dX3_find_114 : decode cX3_find 114 = .ok (.iconst 2, 1) := dk_5 (dk_at dksX3_find_4 20 rfl rfl)
theorem dX3_find_115 : decode cX3_find 115 = .ok (.ireturn, 1) := dk_172 (dk_at dksX3_find_4 21 rfl rfl)
theorem dX3_find_116 : decode cX3_find 116 = .ok (.iload_n 3, 1) := dk_29 (dk_at dksX3_find_4 22 rfl rfl)
theorem dX3_find_117 : decode cX3_find 117 = .ok (.ifCond .eq 16, 3) := dk_153 0 16 (dk_at dksX3_find_5 0 rfl rfl)
theorem dX3_find_120 : decode cX3_find 120 = .ok (.aload_n 0, 1) := dk_42 (dk_at dksX3_find_5 3 rfl rfl)
theorem dX3_find_121 : decode cX3_find 121 = .ok (.aload 5, 2) := dk_25 5 (dk_at dksX3_find_5 4 rfl rfl)
theorem dX3_find_123 : decode cX3_find 123 = .ok (.invokevirtual 117, 3) := dk_182 0 117 (dk_at dksX3_find_5 6 rfl rfl)
theorem dX3_find_126 : decode cX3_find 126 = .ok (.ifCond .eq 7, 3) := dk_153 0 7 (dk_at dksX3_find_5 9 rfl rfl)
theorem dX3_find_129 : decode cX3_find 129 = .ok (.iconst 1, 1) := dk_4 (dk_at dksX3_find_5 12 rfl rfl)
theorem dX3_find_130 : decode cX3_find 130 = .ok (.goto 4, 3) := dk_167 0 4 (dk_at dksX3_find_5 13 rfl rfl)
theorem dX3_find_133 : decode cX3_find 133 = .ok (.iconst 0, 1) := dk_3 (dk_at dksX3_find_5 16 rfl rfl)
theorem dX3_find_134 : decode cX3_find 134 = .ok (.istore_n 3, 1) := dk_62 (dk_at dksX3_find_5 17 rfl rfl)
theorem dX3_find_135 : decode cX3_find 135 = .ok (.iinc 4 1, 3) := dk_132 4 1 (dk_at dksX3_find_5 18 rfl rfl)
theorem dX3_find_138 : decode cX3_find 138 = .ok (.goto (-79), 3) := dk_167 255 177 (dk_at dksX3_find_5 21 rfl rfl)
theorem dX3_find_141 : decode cX3_find 141 = .ok (.iload_n 3, 1) := dk_29 (dk_at dksX3_find_6 0 rfl rfl)
theorem dX3_find_142 : decode cX3_find 142 = .ok (.ifCond .eq 7, 3) := dk_153 0 7 (dk_at dksX3_find_6 1 rfl rfl)
theorem dX3_find_145 : decode cX3_find 145 = .ok (.iconst 1, 1) := dk_4 (dk_at dksX3_find_6 4 rfl rfl)
theorem dX3_find_146 : decode cX3_find 146 = .ok (.goto 4, 3) := dk_167 0 4 (dk_at dksX3_find_6 5 rfl rfl)
theorem dX3_find_149 : decode cX3_find 149 = .ok (.iconst 0, 1) := dk_3 (dk_at dksX3_find_6 8 rfl rfl)
theorem dX3_find_150 : decode cX3_find 150 = .ok (.ireturn, 1) := dk_172 (dk_at dksX3_find_6 9 rfl rfl)
theorem q1755 : (Jvm.Cond.fieldLinkNest "DebateHall$Minutes" (77 : Nat) "DebateHall$Item" "source" "LDebateHall$Item;" "DebateHall") ∈ lw_tbl := lw_at lw_m7 235 rfl
def wp_X3_find_B30 (Z : zzG) (K : Option Value → zzM → Prop) (M : zzM) : Prop := K (some (.int (2 : Int32))) M
def wp_X3_find_B135 (Z : zzG) (k59 : Option Nat → Option Nat → Int32 → Int32 → zzM → Prop) (K : Option Value → zzM → Prop) (v0 : Option Nat) (v1 : Option Nat) (v3 : Int32) (v4 : Int32) (M : zzM) : Prop := k59 v0 v1 v3 (v4 + 1) M
def wp_X3_find_B134 (Z : zzG) (k59 : Option Nat → Option Nat → Int32 → Int32 → zzM → Prop) (K : Option Value → zzM → Prop) (v0 : Option Nat) (v1 : Option Nat) (v4 : Int32) (s0 : Int32) (M : zzM) : Prop := wp_X3_find_B135 Z k59 K v0 v1 s0 v4 M
def wp_X3_find_B133 (Z : zzG) (k59 : Option Nat → Option Nat → Int32 → Int32 → zzM → Prop) (K : Option Value → zzM → Prop) (v0 : Option Nat) (v1 : Option Nat) (v4 : Int32) (M : zzM) : Prop := wp_X3_find_B134 Z k59 K v0 v1 v4 (0 : Int32) M
def wp_X3_find_B150 (Z : zzG) (K : Option Value → zzM → Prop) (s0 : Int32) (M : zzM) : Prop := K (some (.int s0)) M
def wp_X3_find_L59 (Z : zzG) (K : Option Value → zzM → Prop) : Nat → Option Nat → Option Nat → Int32 → Int32 → zzM → Prop
  | 0, _, _, _, _, _ => False
  | n + 1, v0, v1, v3, v4, M => zgA Z M v0 [2] 1 fun x16 => zty Z M x16 fun t => t = 18 ∧ wp_J2_size Z x16 M (fun r17 M18 => zrI r17 fun x21 => if x21 ≤ v4 then (if v3 = 0 then (wp_X3_find_B150 Z K (0 : Int32) M18) else (wp_X3_find_B150 Z K (1 : Int32) M18)) else (zgA Z M18 v0 [2] 1 fun x22 => zty Z M18 x22 fun t => t = 18 ∧ wp_J2_get Z x22 v4 M18 (fun r23 M24 => zrA r23 fun x27 => zcast Z M24 x27 [15] <| zty Z M24 x27 fun t => t = 15 ∧ wp_X20_isOn Z x27 v1 M24 (fun r28 M29 => zrI r28 fun x32 => if x32 = 0 then (wp_X3_find_B135 Z (wp_X3_find_L59 Z K n) K v0 v1 v3 v4 M29) else (zty Z M29 x27 fun t => t = 15 ∧ wp_X20_isStrong Z x27 M29 (fun r33 M34 => zrI r33 fun x37 => if x37 = 0 then (wp_X3_find_B135 Z (wp_X3_find_L59 Z K n) K v0 v1 v3 v4 M34) else (zty Z M34 v0 fun t => t = 2 ∧ wp_X3_isIn Z v0 x27 M34 (fun r38 M39 => zrI r38 fun x42 => if x42 = 0 then (if v3 = 0 then (wp_X3_find_B133 Z (wp_X3_find_L59 Z K n) K v0 v1 v4 M39) else (zty Z M39 v0 fun t => t = 2 ∧ wp_X3_isOut Z v0 x27 M39 (fun r43 M44 => zrI r43 fun x47 => if x47 = 0 then (wp_X3_find_B133 Z (wp_X3_find_L59 Z K n) K v0 v1 v4 M44) else (wp_X3_find_B134 Z (wp_X3_find_L59 Z K n) K v0 v1 v4 (1 : Int32) M44)))) else (K (some (.int (2 : Int32))) M39)))))))))
def wp_X3_find_B55 (Z : zzG) (K : Option Value → zzM → Prop) (v0 : Option Nat) (v1 : Option Nat) (s0 : Int32) (M : zzM) : Prop := ∃ n59 : Nat, wp_X3_find_L59 Z K n59 v0 v1 s0 (0 : Int32) M
def wp_X3_find_B50 (Z : zzG) (K : Option Value → zzM → Prop) (v0 : Option Nat) (v1 : Option Nat) (M : zzM) : Prop := wp_X3_find_B55 Z K v0 v1 (1 : Int32) M
def wp_X3_find_B32 (Z : zzG) (K : Option Value → zzM → Prop) (v0 : Option Nat) (v1 : Option Nat) (M : zzM) : Prop := zgA Z M v1 [15] 5 fun x9 => if x9 = none then (wp_X3_find_B50 Z K v0 v1 M) else (zgA Z M v1 [15] 5 fun x10 => zty Z M v0 fun t => t = 2 ∧ wp_X3_isIn Z v0 x10 M (fun r11 M12 => zrI r11 fun x15 => if x15 = 0 then (wp_X3_find_B55 Z K v0 v1 (0 : Int32) M12) else (wp_X3_find_B50 Z K v0 v1 M12)))
def wp_X3_find (Z : zzG) (this : Option Nat) (p0 : Option Nat) (p1 : Option Nat) (M : zzM) (K : Option Value → zzM → Prop) : Prop := zgI Z M p0 [15] 7 fun x1 => if x1 = 0 then (if p0 = p1 then (wp_X3_find_B30 Z K M) else (zgA Z M p0 [15] 5 fun x2 => if x2 = none then (wp_X3_find_B32 Z K this p0 M) else (zgA Z M p0 [15] 5 fun x3 => zty Z M this fun t => t = 2 ∧ wp_X3_isOut Z this x3 M (fun r4 M5 => zrI r4 fun x8 => if x8 = 0 then (wp_X3_find_B32 Z K this p0 M5) else (wp_X3_find_B30 Z K M5))))) else (wp_X3_find_B30 Z K M)
theorem ok_X3_find_B30 {G : zzX} (C : zz_C G cX3_find "DebateHall$Minutes" 6) {K : Option Value → zzM → Prop} (E : zz_E G (some .int) K (fun _ _ _ => False)) (hH : zz_H G []) (hR : zz_Rm G 4) {M : zzM} {bc bs : Nat} (hw : wp_X3_find_B30 (zz_Zof G) K M) : zz_T G 6 M bc bs 30 [] [] := by
  unfold wp_X3_find_B30 at hw
  refine zz_iconst (v := (2 : Int32)) C dX3_find_30 (by decide) ?_
  exact zz_iret C E dX3_find_31 hw
theorem ok_X3_find_B135 {G : zzX} (C : zz_C G cX3_find "DebateHall$Minutes" 6) {K : Option Value → zzM → Prop} (E : zz_E G (some .int) K (fun _ _ _ => False)) (hH : zz_H G []) (hR : zz_Rm G 4) {k59 : Option Nat → Option Nat → Int32 → Int32 → zzM → Prop} (hk59 : ∀ (z0 : Option Nat) (z1 : Option Nat) (z2 : Int32) (z3 : Int32) (M : zzM) (bc bs : Nat), k59 z0 z1 z2 z3 M → zz_T G 6 M bc bs 59 [(0, va_rf z0), (1, va_rf z1), (3, .int z2), (4, .int z3)] []) {v0 : Option Nat} {v1 : Option Nat} {v3 : Int32} {v4 : Int32} {M : zzM} {bc bs : Nat} (hw : wp_X3_find_B135 (zz_Zof G) k59 K v0 v1 v3 v4 M) : zz_T G 6 M bc bs 135 [(0, va_rf v0), (1, va_rf v1), (3, .int v3), (4, .int v4)] [] := by
  unfold wp_X3_find_B135 at hw
  refine zz_iinc (lv' := [(4, .int (v4 + 1)), (0, va_rf v0), (1, va_rf v1), (3, .int v3)]) C dX3_find_135 3 rfl (by rfl) (by decide) rfl ?_
  refine zz_goto (tgt := 59) C dX3_find_138 (by decide) ?_
  refine zz_subP [1, 2, 3, 0] rfl ?_
  exact hk59 _ _ _ _ _ _ _ hw
theorem ok_X3_find_B134 {G : zzX} (C : zz_C G cX3_find "DebateHall$Minutes" 6) {K : Option Value → zzM → Prop} (E : zz_E G (some .int) K (fun _ _ _ => False)) (hH : zz_H G []) (hR : zz_Rm G 4) {k59 : Option Nat → Option Nat → Int32 → Int32 → zzM → Prop} (hk59 : ∀ (z0 : Option Nat) (z1 : Option Nat) (z2 : Int32) (z3 : Int32) (M : zzM) (bc bs : Nat), k59 z0 z1 z2 z3 M → zz_T G 6 M bc bs 59 [(0, va_rf z0), (1, va_rf z1), (3, .int z2), (4, .int z3)] []) {v0 : Option Nat} {v1 : Option Nat} {v4 : Int32} {s0 : Int32} {M : zzM} {bc bs : Nat} (hw : wp_X3_find_B134 (zz_Zof G) k59 K v0 v1 v4 s0 M) : zz_T G 6 M bc bs 134 [(0, va_rf v0), (1, va_rf v1), (4, .int v4)] [.int s0] := by
  unfold wp_X3_find_B134 at hw
  refine zz_istore_n (i := 3) (lv' := [(3, .int s0), (0, va_rf v0), (1, va_rf v1), (4, .int v4)]) C dX3_find_134 rfl (by decide) rfl ?_
  refine zz_subP [1, 2, 0, 3] rfl ?_
  exact ok_X3_find_B135 C E hH hR hk59 hw
theorem ok_X3_find_B133 {G : zzX} (C : zz_C G cX3_find "DebateHall$Minutes" 6) {K : Option Value → zzM → Prop} (E : zz_E G (some .int) K (fun _ _ _ => False)) (hH : zz_H G []) (hR : zz_Rm G 4) {k59 : Option Nat → Option Nat → Int32 → Int32 → zzM → Prop} (hk59 : ∀ (z0 : Option Nat) (z1 : Option Nat) (z2 : Int32) (z3 : Int32) (M : zzM) (bc bs : Nat), k59 z0 z1 z2 z3 M → zz_T G 6 M bc bs 59 [(0, va_rf z0), (1, va_rf z1), (3, .int z2), (4, .int z3)] []) {v0 : Option Nat} {v1 : Option Nat} {v4 : Int32} {M : zzM} {bc bs : Nat} (hw : wp_X3_find_B133 (zz_Zof G) k59 K v0 v1 v4 M) : zz_T G 6 M bc bs 133 [(0, va_rf v0), (1, va_rf v1), (4, .int v4)] [] := by
  unfold wp_X3_find_B133 at hw
  refine zz_iconst (v := (0 : Int32)) C dX3_find_133 (by decide) ?_
  refine zz_subP [0, 1, 2] rfl ?_
  exact ok_X3_find_B134 C E hH hR hk59 hw
theorem ok_X3_find_B150 {G : zzX} (C : zz_C G cX3_find "DebateHall$Minutes" 6) {K : Option Value → zzM → Prop} (E : zz_E G (some .int) K (fun _ _ _ => False)) (hH : zz_H G []) (hR : zz_Rm G 4) {s0 : Int32} {M : zzM} {bc bs : Nat} (hw : wp_X3_find_B150 (zz_Zof G) K s0 M) : zz_T G 6 M bc bs 150 [] [.int s0] := by
  unfold wp_X3_find_B150 at hw
  exact zz_iret C E dX3_find_150 hw
theorem ok_X3_find_L59 {G : zzX} (C : zz_C G cX3_find "DebateHall$Minutes" 6) {K : Option Value → zzM → Prop} (E : zz_E G (some .int) K (fun _ _ _ => False)) (hH : zz_H G []) (hR : zz_Rm G 4) : ∀ (n : Nat) (v0 : Option Nat) (v1 : Option Nat) (v3 : Int32) (v4 : Int32) (M : zzM) (bc bs : Nat), wp_X3_find_L59 (zz_Zof G) K n v0 v1 v3 v4 M → zz_T G 6 M bc bs 59 [(0, va_rf v0), (1, va_rf v1), (3, .int v3), (4, .int v4)] [] := by
  intro n
  induction n with
  | zero =>
    intro v0 v1 v3 v4 M bc bs hw
    exact False.elim hw
  | succ n ih =>
    intro v0 v1 v3 v4 M bc bs hw
    refine zz_iload C dX3_find_59 3 rfl ?_
    refine zz_aload_n C dX3_find_61 rfl 0 rfl ?_
    refine zz_getA C dX3_find_62 (Or.inl q235) zf_2_1_teHall_Minutes hw (fun x16 hw => ?_)
    obtain ⟨a9, t9, b9, fs9, hro, hL, rfl, hw⟩ := ztyS hw
    refine zz_callV (r := (zR_18, zT_18, 3)) (As := []) (rest := [.int v4]) (mc := 0) (ms := 0) C hR hro dX3_find_65 (Or.inl q1933) q354 (Or.inl q355) zl_java_util_ArrayList zk_J2_size (Or.inl rfl) zy_J2_size rfl (by decide) (by decide) hL (ok_J2_size (zz_hl C) hw) (Nat.zero_le _) (Nat.zero_le _) (zz_cat10 _ (Nat.le_of_ble_eq_true rfl)) (fun r17 M18 hw => zz_kI hw (fun x21 hw => ?_)) (fun _ _ _ h9 => h9.elim) rfl
    refine zz_icmp_ge (tgt := 141) C dX3_find_68 (by decide) hw (fun hw => ?_) (fun hw => ?_)
    · refine zz_iload_n C dX3_find_141 rfl 2 rfl ?_
      refine zz_if_eq (tgt := 149) C dX3_find_142 (by decide) hw (fun hw => ?_) (fun hw => ?_)
      · refine zz_iconst (v := (0 : Int32)) C dX3_find_149 (by decide) ?_
        refine zz_subP [] rfl ?_
        exact ok_X3_find_B150 C E hH hR hw
      · refine zz_iconst (v := (1 : Int32)) C dX3_find_145 (by decide) ?_
        refine zz_goto (tgt := 150) C dX3_find_146 (by decide) ?_
        refine zz_subP [] rfl ?_
        exact ok_X3_find_B150 C E hH hR hw
    · refine zz_aload_n C dX3_find_71 rfl 0 rfl ?_
      refine zz_getA C dX3_find_72 (Or.inl q235) zf_2_1_teHall_Minutes hw (fun x22 hw => ?_)
      refine zz_iload C dX3_find_75 3 rfl ?_
      obtain ⟨a9, t9, b9, fs9, hro, hL, rfl, hw⟩ := ztyS hw
      refine zz_callV (r := (zR_18, zT_18, 3)) (As := [.int v4]) (rest := []) (mc := 0) (ms := 0) C hR hro dX3_find_77 (Or.inl q1728) q877 (Or.inl q2872) zl_java_util_ArrayList zk_J2_get (Or.inl rfl) zy_J2_get rfl (by decide) (by decide) hL (ok_J2_get (zz_hl C) hw) (Nat.zero_le _) (Nat.zero_le _) (zz_cat10 _ (Nat.le_of_ble_eq_true rfl)) (fun r23 M24 hw => zz_kA hw (fun x27 hw => ?_)) (fun _ _ _ h9 => h9.elim) rfl
      refine zz_cast C dX3_find_80 q1727 zc_15_ebateHall_Item hw (fun hw => ?_)
      refine zz_astore (lv' := [(5, va_rf x27), (0, va_rf v0), (1, va_rf v1), (3, .int v3), (4, .int v4)]) C dX3_find_83 (by decide) rfl ?_
      refine zz_aload C dX3_find_85 0 rfl ?_
      refine zz_aload_n C dX3_find_87 rfl 2 rfl ?_
      obtain ⟨a9, t9, b9, fs9, hro, hL, rfl, hw⟩ := ztyS hw
      refine zz_callV (r := (zR_15, zT_15, 8)) (As := [va_rf v1]) (rest := []) (mc := 0) (ms := 0) C hR hro dX3_find_88 (Or.inl q1946) q1947 (Or.inl q1948) zl_DebateHall_Item zk_X20_isOn (Or.inl rfl) zy_X20_isOn rfl (by decide) (by decide) hL (ok_X20_isOn (zz_hl C) hw) (Nat.zero_le _) (Nat.zero_le _) (zz_cat10 _ (Nat.le_of_ble_eq_true rfl)) (fun r28 M29 hw => zz_kI hw (fun x32 hw => ?_)) (fun _ _ _ h9 => h9.elim) rfl
      refine zz_if_eq (tgt := 135) C dX3_find_91 (by decide) hw (fun hw => ?_) (fun hw => ?_)
      · refine zz_subP [1, 2, 3, 4] rfl ?_
        exact ok_X3_find_B135 C E hH hR (fun z0 z1 z2 z3 z4 z5 z6 hw => ih z0 z1 z2 z3 z4 z5 z6 hw) hw
      · refine zz_aload C dX3_find_94 0 rfl ?_
        obtain ⟨a9, t9, b9, fs9, hro, hL, rfl, hw⟩ := ztyS hw
        refine zz_callV (r := (zR_15, zT_15, 8)) (As := []) (rest := []) (mc := 0) (ms := 0) C hR hro dX3_find_96 (Or.inl q1951) q1952 (Or.inl q1953) zl_DebateHall_Item zk_X20_isStrong (Or.inl rfl) zy_X20_isStrong rfl (by decide) (by decide) hL (ok_X20_isStrong (zz_hl C) hw) (Nat.zero_le _) (Nat.zero_le _) (zz_cat10 _ (Nat.le_of_ble_eq_true rfl)) (fun r33 M34 hw => zz_kI hw (fun x37 hw => ?_)) (fun _ _ _ h9 => h9.elim) rfl
        refine zz_if_ne (tgt := 105) C dX3_find_99 (by decide) hw (fun hw => ?_) (fun hw => ?_)
        · refine zz_aload_n C dX3_find_105 rfl 1 rfl ?_
          refine zz_aload C dX3_find_106 0 rfl ?_
          obtain ⟨a9, t9, b9, fs9, hro, hL, rfl, hw⟩ := ztyS hw
          refine zz_callV (r := (zR_2, zT_2, 8)) (As := [va_rf x27]) (rest := []) (mc := 0) (ms := 0) C hR hro dX3_find_108 (Or.inl q1942) q1944 (Or.inl qs19) zl_DebateHall_Minutes zk_X3_isIn (Or.inl rfl) zy_X3_isIn rfl (by decide) (by decide) hL (ok_X3_isIn (zz_hl C) hw) (Nat.zero_le _) (Nat.zero_le _) (zz_cat10 _ (Nat.le_of_ble_eq_true rfl)) (fun r38 M39 hw => zz_kI hw (fun x42 hw => ?_)) (fun _ _ _ h9 => h9.elim) rfl
          refine zz_if_eq (tgt := 116) C dX3_find_111 (by decide) hw (fun hw => ?_) (fun hw => ?_)
          · refine zz_iload_n C dX3_find_116 rfl 3 rfl ?_
            refine zz_if_eq (tgt := 133) C dX3_find_117 (by decide) hw (fun hw => ?_) (fun hw => ?_)
            · refine zz_subP [1, 2, 4] rfl ?_
              exact ok_X3_find_B133 C E hH hR (fun z0 z1 z2 z3 z4 z5 z6 hw => ih z0 z1 z2 z3 z4 z5 z6 hw) hw
            · refine zz_aload_n C dX3_find_120 rfl 1 rfl ?_
              refine zz_aload C dX3_find_121 0 rfl ?_
              obtain ⟨a9, t9, b9, fs9, hro, hL, rfl, hw⟩ := ztyS hw
              refine zz_callV (r := (zR_2, zT_2, 8)) (As := [va_rf x27]) (rest := []) (mc := 0) (ms := 0) C hR hro dX3_find_123 (Or.inl q1938) q1940 (Or.inl qs18) zl_DebateHall_Minutes zk_X3_isOut (Or.inl rfl) zy_X3_isOut rfl (by decide) (by decide) hL (ok_X3_isOut (zz_hl C) hw) (Nat.zero_le _) (Nat.zero_le _) (zz_cat10 _ (Nat.le_of_ble_eq_true rfl)) (fun r43 M44 hw => zz_kI hw (fun x47 hw => ?_)) (fun _ _ _ h9 => h9.elim) rfl
              refine zz_if_eq (tgt := 133) C dX3_find_126 (by decide) hw (fun hw => ?_) (fun hw => ?_)
              · refine zz_subP [1, 2, 4] rfl ?_
                exact ok_X3_find_B133 C E hH hR (fun z0 z1 z2 z3 z4 z5 z6 hw => ih z0 z1 z2 z3 z4 z5 z6 hw) hw
              · refine zz_iconst (v := (1 : Int32)) C dX3_find_129 (by decide) ?_
                refine zz_goto (tgt := 134) C dX3_find_130 (by decide) ?_
                refine zz_subP [1, 2, 4] rfl ?_
                exact ok_X3_find_B134 C E hH hR (fun z0 z1 z2 z3 z4 z5 z6 hw => ih z0 z1 z2 z3 z4 z5 z6 hw) hw
          · refine zz_iconst (v := (2 : Int32)) C dX3_find_114 (by decide) ?_
            exact zz_iret C E dX3_find_115 hw
        · refine zz_goto (tgt := 135) C dX3_find_102 (by decide) ?_
          refine zz_subP [1, 2, 3, 4] rfl ?_
          exact ok_X3_find_B135 C E hH hR (fun z0 z1 z2 z3 z4 z5 z6 hw => ih z0 z1 z2 z3 z4 z5 z6 hw) hw
theorem ok_X3_find_B55 {G : zzX} (C : zz_C G cX3_find "DebateHall$Minutes" 6) {K : Option Value → zzM → Prop} (E : zz_E G (some .int) K (fun _ _ _ => False)) (hH : zz_H G []) (hR : zz_Rm G 4) {v0 : Option Nat} {v1 : Option Nat} {s0 : Int32} {M : zzM} {bc bs : Nat} (hw : wp_X3_find_B55 (zz_Zof G) K v0 v1 s0 M) : zz_T G 6 M bc bs 55 [(0, va_rf v0), (1, va_rf v1)] [.int s0] := by
  unfold wp_X3_find_B55 at hw
  refine zz_istore_n (i := 3) (lv' := [(3, .int s0), (0, va_rf v0), (1, va_rf v1)]) C dX3_find_55 rfl (by decide) rfl ?_
  refine zz_iconst (v := (0 : Int32)) C dX3_find_56 (by decide) ?_
  refine zz_istore (lv' := [(4, .int (0 : Int32)), (3, .int s0), (0, va_rf v0), (1, va_rf v1)]) C dX3_find_57 (by decide) rfl ?_
  refine zz_subP [2, 3, 1, 0] rfl ?_
  obtain ⟨n59, hw⟩ := hw
  exact ok_X3_find_L59 C E hH hR n59 _ _ _ _ _ _ _ hw
theorem ok_X3_find_B50 {G : zzX} (C : zz_C G cX3_find "DebateHall$Minutes" 6) {K : Option Value → zzM → Prop} (E : zz_E G (some .int) K (fun _ _ _ => False)) (hH : zz_H G []) (hR : zz_Rm G 4) {v0 : Option Nat} {v1 : Option Nat} {M : zzM} {bc bs : Nat} (hw : wp_X3_find_B50 (zz_Zof G) K v0 v1 M) : zz_T G 6 M bc bs 50 [(0, va_rf v0), (1, va_rf v1)] [] := by
  unfold wp_X3_find_B50 at hw
  refine zz_iconst (v := (1 : Int32)) C dX3_find_50 (by decide) ?_
  refine zz_goto (tgt := 55) C dX3_find_51 (by decide) ?_
  refine zz_subP [0, 1] rfl ?_
  exact ok_X3_find_B55 C E hH hR hw
theorem ok_X3_find_B32 {G : zzX} (C : zz_C G cX3_find "DebateHall$Minutes" 6) {K : Option Value → zzM → Prop} (E : zz_E G (some .int) K (fun _ _ _ => False)) (hH : zz_H G []) (hR : zz_Rm G 4) {v0 : Option Nat} {v1 : Option Nat} {M : zzM} {bc bs : Nat} (hw : wp_X3_find_B32 (zz_Zof G) K v0 v1 M) : zz_T G 6 M bc bs 32 [(0, va_rf v0), (1, va_rf v1)] [] := by
  unfold wp_X3_find_B32 at hw
  refine zz_aload_n C dX3_find_32 rfl 1 rfl ?_
  refine zz_getA C dX3_find_33 (Or.inr ⟨_, q1755⟩) zf_15_5_ebateHall_Item hw (fun x9 hw => ?_)
  refine zz_ifnull (tgt := 50) C dX3_find_36 (by decide) hw (fun hw => ?_) (fun hw => ?_)
  · refine zz_subP [0, 1] rfl ?_
    exact ok_X3_find_B50 C E hH hR hw
  · refine zz_aload_n C dX3_find_39 rfl 0 rfl ?_
    refine zz_aload_n C dX3_find_40 rfl 1 rfl ?_
    refine zz_getA C dX3_find_41 (Or.inr ⟨_, q1755⟩) zf_15_5_ebateHall_Item hw (fun x10 hw => ?_)
    obtain ⟨a9, t9, b9, fs9, hro, hL, rfl, hw⟩ := ztyS hw
    refine zz_callV (r := (zR_2, zT_2, 8)) (As := [va_rf x10]) (rest := []) (mc := 0) (ms := 0) C hR hro dX3_find_44 (Or.inl q1942) q1944 (Or.inl qs19) zl_DebateHall_Minutes zk_X3_isIn (Or.inl rfl) zy_X3_isIn rfl (by decide) (by decide) hL (ok_X3_isIn (zz_hl C) hw) (Nat.zero_le _) (Nat.zero_le _) (zz_cat10 _ (Nat.le_of_ble_eq_true rfl)) (fun r11 M12 hw => zz_kI hw (fun x15 hw => ?_)) (fun _ _ _ h9 => h9.elim) rfl
    refine zz_if_eq (tgt := 54) C dX3_find_47 (by decide) hw (fun hw => ?_) (fun hw => ?_)
    · refine zz_iconst (v := (0 : Int32)) C dX3_find_54 (by decide) ?_
      refine zz_subP [0, 1] rfl ?_
      exact ok_X3_find_B55 C E hH hR hw
    · refine zz_subP [0, 1] rfl ?_
      exact ok_X3_find_B50 C E hH hR hw
theorem ok_X3_find {Z : zzG} {l : Launch} (hl : l.stackTraces = false) {this : Option Nat} {p0 : Option Nat} {p1 : Option Nat} {M : zzM} {mc ms : Nat} {K : Option Value → zzM → Prop} (hw : wp_X3_find Z this p0 p1 M K) : zz_Met Z l yX3_find (zz_ws yX3_find cX3_find 6 (some .int) none) 4 [va_rf this, va_rf p0, va_rf p1] M mc ms K (fun _ _ _ => False) := by
  refine zz_ofW hl (plainFor_of_name (by decide)) (by simp only [zz_sl0, zz_slI, zz_slJ, zz_slA] <;> decide) (fun G hZ hll C E hH hR hin => ?_)
  subst hZ
  subst hll
  rw [show lv_args 0 [va_rf this, va_rf p0, va_rf p1] = [(0, va_rf this), (1, va_rf p0), (2, va_rf p1)] by simp only [zz_la0, zz_laI, zz_laJ, zz_laA]]
  unfold wp_X3_find at hw
  refine zz_aload_n C dX3_find_0 rfl 1 rfl ?_
  refine zz_getI C dX3_find_1 (Or.inr ⟨_, q1761⟩) zf_15_7_ebateHall_Item hw (fun x1 hw => ?_)
  refine zz_if_ne (tgt := 30) C dX3_find_4 (by decide) hw (fun hw => ?_) (fun hw => ?_)
  · refine zz_subP [] rfl ?_
    exact ok_X3_find_B30 C E hH hR hw
  · refine zz_aload_n C dX3_find_7 rfl 1 rfl ?_
    refine zz_aload_n C dX3_find_8 rfl 2 rfl ?_
    refine zz_acmp_eq (tgt := 30) C dX3_find_9 (by decide) hw (fun hw => ?_) (fun hw => ?_)
    · refine zz_subP [] rfl ?_
      exact ok_X3_find_B30 C E hH hR hw
    · refine zz_aload_n C dX3_find_12 rfl 1 rfl ?_
      refine zz_getA C dX3_find_13 (Or.inr ⟨_, q1755⟩) zf_15_5_ebateHall_Item hw (fun x2 hw => ?_)
      refine zz_ifnull (tgt := 32) C dX3_find_16 (by decide) hw (fun hw => ?_) (fun hw => ?_)
      · refine zz_subP [0, 1] rfl ?_
        exact ok_X3_find_B32 C E hH hR hw
      · refine zz_aload_n C dX3_find_19 rfl 0 rfl ?_
        refine zz_aload_n C dX3_find_20 rfl 1 rfl ?_
        refine zz_getA C dX3_find_21 (Or.inr ⟨_, q1755⟩) zf_15_5_ebateHall_Item hw (fun x3 hw => ?_)
        obtain ⟨a9, t9, b9, fs9, hro, hL, rfl, hw⟩ := ztyS hw
        refine zz_callV (r := (zR_2, zT_2, 8)) (As := [va_rf x3]) (rest := []) (mc := 0) (ms := 0) C hR hro dX3_find_24 (Or.inl q1938) q1940 (Or.inl qs18) zl_DebateHall_Minutes zk_X3_isOut (Or.inl rfl) zy_X3_isOut rfl (by decide) (by decide) hL (ok_X3_isOut (zz_hl C) hw) (Nat.zero_le _) (Nat.zero_le _) (zz_cat10 _ (Nat.le_of_ble_eq_true rfl)) (fun r4 M5 hw => zz_kI hw (fun x8 hw => ?_)) (fun _ _ _ h9 => h9.elim) rfl
        refine zz_if_eq (tgt := 32) C dX3_find_27 (by decide) hw (fun hw => ?_) (fun hw => ?_)
        · refine zz_subP [0, 1] rfl ?_
          exact ok_X3_find_B32 C E hH hR hw
        · refine zz_subP [] rfl ?_
          exact ok_X3_find_B30 C E hH hR hw
abbrev cX3_settle : ByteArray := prog_12_method_8_code
def yX3_settle : MethodName := ⟨"DebateHall$Minutes", "settle", "(LDebateHall$Item;)LDebateHall$Minutes;"⟩
def dkwX3_settle_8 : List UInt8 := [42, 176]
abbrev dktX3_settle_8 : List UInt8 := dkwX3_settle_8 ++ []
def dkwX3_settle_7 : List UInt8 := [61, 132, 3, 1, 167, 255, 198, 28, 153, 255, 127, 42, 89, 180, 0, 133, 4, 96, 181, 0, 133, 167, 255, 114]
abbrev dktX3_settle_7 : List UInt8 := dkwX3_settle_7 ++ dktX3_settle_8
def dkwX3_settle_6 : List UInt8 := [180, 0, 31, 29, 42, 180, 0, 35, 29, 46, 79, 42, 180, 0, 38, 29, 42, 180, 0, 133, 4, 96, 79, 4]
abbrev dktX3_settle_6 : List UInt8 := dkwX3_settle_6 ++ dktX3_settle_7
def dkwX3_settle_5 : List UInt8 := [162, 0, 53, 42, 180, 0, 35, 29, 46, 42, 180, 0, 31, 29, 46, 160, 0, 6, 167, 0, 29, 42]
abbrev dktX3_settle_5 : List UInt8 := dkwX3_settle_5 ++ dktX3_settle_6
def dkwX3_settle_4 : List UInt8 := [180, 0, 31, 29, 46, 79, 132, 3, 1, 167, 255, 202, 3, 62, 29, 42, 180, 0, 18, 182, 0, 124]
abbrev dktX3_settle_4 : List UInt8 := dkwX3_settle_4 ++ dktX3_settle_5
def dkwX3_settle_3 : List UInt8 := [154, 0, 22, 42, 42, 180, 0, 18, 29, 182, 0, 82, 192, 0, 75, 43, 182, 0, 136, 167, 0, 9, 42]
abbrev dktX3_settle_3 : List UInt8 := dkwX3_settle_3 ++ dktX3_settle_4
def dkwX3_settle_2 : List UInt8 := [29, 42, 180, 0, 18, 182, 0, 124, 162, 0, 49, 42, 180, 0, 35, 29, 42, 180, 0, 31, 29, 46]
abbrev dktX3_settle_2 : List UInt8 := dkwX3_settle_2 ++ dktX3_settle_3
def dkwX3_settle_1 : List UInt8 := [79, 42, 180, 0, 38, 28, 3, 79, 132, 2, 1, 167, 255, 228, 4, 61, 28, 153, 0, 144, 3, 61, 3, 62]
abbrev dktX3_settle_1 : List UInt8 := dkwX3_settle_1 ++ dktX3_settle_2
def dkwX3_settle_0 : List UInt8 := [42, 3, 181, 0, 133, 3, 61, 28, 42, 180, 0, 18, 182, 0, 124, 162, 0, 23, 42, 180, 0, 31, 28, 3]
abbrev dktX3_settle_0 : List UInt8 := dkwX3_settle_0 ++ dktX3_settle_1
theorem dksX3_settle_0 : cX3_settle.data.toList.drop 0 = dktX3_settle_0 := by decide +kernel
theorem dksX3_settle_1 : cX3_settle.data.toList.drop 24 = dktX3_settle_1 := dk_seg dksX3_settle_0 24 rfl rfl
theorem dksX3_settle_2 : cX3_settle.data.toList.drop 48 = dktX3_settle_2 := dk_seg dksX3_settle_1 24 rfl rfl
theorem dksX3_settle_3 : cX3_settle.data.toList.drop 70 = dktX3_settle_3 := dk_seg dksX3_settle_2 22 rfl rfl
theorem dksX3_settle_4 : cX3_settle.data.toList.drop 93 = dktX3_settle_4 := dk_seg dksX3_settle_3 23 rfl rfl
theorem dksX3_settle_5 : cX3_settle.data.toList.drop 115 = dktX3_settle_5 := dk_seg dksX3_settle_4 22 rfl rfl
theorem dksX3_settle_6 : cX3_settle.data.toList.drop 137 = dktX3_settle_6 := dk_seg dksX3_settle_5 22 rfl rfl
theorem dksX3_settle_7 : cX3_settle.data.toList.drop 161 = dktX3_settle_7 := dk_seg dksX3_settle_6 24 rfl rfl
theorem dksX3_settle_8 : cX3_settle.data.toList.drop 185 = dktX3_settle_8 := dk_seg dksX3_settle_7 24 rfl rfl
theorem dX3_settle_0 : decode cX3_settle 0 = .ok (.aload_n 0, 1) := dk_42 (dk_at dksX3_settle_0 0 rfl rfl)
theorem dX3_settle_1 : decode cX3_settle 1 = .ok (.iconst 0, 1) := dk_3 (dk_at dksX3_settle_0 1 rfl rfl)
theorem dX3_settle_2 : decode cX3_settle 2 = .ok (.putfield 133, 3) := dk_181 0 133 (dk_at dksX3_settle_0 2 rfl rfl)
theorem dX3_settle_5 : decode cX3_settle 5 = .ok (.iconst 0, 1) := dk_3 (dk_at dksX3_settle_0 5 rfl rfl)
theorem dX3_settle_6 : decode cX3_settle 6 = .ok (.istore_n 2, 1) := dk_61 (dk_at dksX3_settle_0 6 rfl rfl)
theorem dX3_settle_7 : decode cX3_settle 7 = .ok (.iload_n 2, 1) := dk_28 (dk_at dksX3_settle_0 7 rfl rfl)
theorem dX3_settle_8 : decode cX3_settle 8 = .ok (.aload_n 0, 1) := dk_42 (dk_at dksX3_settle_0 8 rfl rfl)
theorem dX3_settle_9 : decode cX3_settle 9 = .ok (.getfield 18, 3) := dk_180 0 18 (dk_at dksX3_settle_0 9 rfl rfl)
theorem dX3_settle_12 : decode cX3_settle 12 = .ok (.invokevirtual 124, 3) := dk_182 0 124 (dk_at dksX3_settle_0 12 rfl rfl)
theorem dX3_settle_15 : decode cX3_settle 15 = .ok (.if_icmp .ge 23, 3) := dk_162 0 23 (dk_at dksX3_settle_0 15 rfl rfl)
theorem dX3_settle_18 : decode cX3_settle 18 = .ok (.aload_n 0, 1) := dk_42 (dk_at dksX3_settle_0 18 rfl rfl)
theorem dX3_settle_19 : decode cX3_settle 19 = .ok (.getfield 31, 3) := dk_180 0 31 (dk_at dksX3_settle_0 19 rfl rfl)
theorem dX3_settle_22 : decode cX3_settle 22 = .ok (.iload_n 2, 1) := dk_28 (dk_at dksX3_settle_0 22 rfl rfl)
theorem dX3_settle_23 : decode cX3_settle 23 = .ok (.iconst 0, 1) := dk_3 (dk_at dksX3_settle_0 23 rfl rfl)
theorem dX3_settle_24 : decode cX3_settle 24 = .ok (.iastore, 1) := dk_79 (dk_at dksX3_settle_1 0 rfl rfl)
theorem dX3_settle_25 : decode cX3_settle 25 = .ok (.aload_n 0, 1) := dk_42 (dk_at dksX3_settle_1 1 rfl rfl)
theorem dX3_settle_26 : decode cX3_settle 26 = .ok (.getfield 38, 3) := dk_180 0 38 (dk_at dksX3_settle_1 2 rfl rfl)
theorem dX3_settle_29 : decode cX3_settle 29 = .ok (.iload_n 2, 1) := dk_28 (dk_at dksX3_settle_1 5 rfl rfl)
theorem dX3_settle_30 : decode cX3_settle 30 = .ok (.iconst 0, 1) := dk_3 (dk_at dksX3_settle_1 6 rfl rfl)
theorem dX3_settle_31 : decode cX3_settle 31 = .ok (.iastore, 1) := dk_79 (dk_at dksX3_settle_1 7 rfl rfl)
theorem dX3_settle_32 : decode cX3_settle 32 = .ok (.iinc 2 1, 3) := dk_132 2 1 (dk_at dksX3_settle_1 8 rfl rfl)
theorem dX3_settle_35 : decode cX3_settle 35 = .ok (.goto (-28), 3) := dk_167 255 228 (dk_at dksX3_settle_1 11 rfl rfl)
theorem dX3_settle_38 : decode cX3_settle 38 = .ok (.iconst 1, 1) := dk_4 (dk_at dksX3_settle_1 14 rfl rfl)
theorem dX3_settle_39 : decode cX3_settle 39 = .ok (.istore_n 2, 1) := dk_61 (dk_at dksX3_settle_1 15 rfl rfl)
theorem dX3_settle_40 : decode cX3_settle 40 = .ok (.iload_n 2, 1) := dk_28 (dk_at dksX3_settle_1 16 rfl rfl)
theorem dX3_settle_41 : decode cX3_settle 41 = .ok (.ifCond .eq 144, 3) := dk_153 0 144 (dk_at dksX3_settle_1 17 rfl rfl)
theorem dX3_settle_44 : decode cX3_settle 44 = .ok (.iconst 0, 1) := dk_3 (dk_at dksX3_settle_1 20 rfl rfl)
theorem dX3_settle_45 : decode cX3_settle 45 = .ok (.istore_n 2, 1) := dk_61 (dk_at dksX3_settle_1 21 rfl rfl)
theorem dX3_settle_46 : decode cX3_settle 46 = .ok (.iconst 0, 1) := dk_3 (dk_at dksX3_settle_1 22 rfl rfl)
theorem dX3_settle_47 : decode cX3_settle 47 = .ok (.istore_n 3, 1) := dk_62 (dk_at dksX3_settle_1 23 rfl rfl)
theorem dX3_settle_48 : decode cX3_settle 48 = .ok (.iload_n 3, 1) := dk_29 (dk_at dksX3_settle_2 0 rfl rfl)
theorem dX3_settle_49 : decode cX3_settle 49 = .ok (.aload_n 0, 1) := dk_42 (dk_at dksX3_settle_2 1 rfl rfl)
theorem dX3_settle_50 : decode cX3_settle 50 = .ok (.getfield 18, 3) := dk_180 0 18 (dk_at dksX3_settle_2 2 rfl rfl)
theorem dX3_settle_53 : decode cX3_settle 53 = .ok (.invokevirtual 124, 3) := dk_182 0 124 (dk_at dksX3_settle_2 5 rfl rfl)
theorem dX3_settle_56 : decode cX3_settle 56 = .ok (.if_icmp .ge 49, 3) := dk_162 0 49 (dk_at dksX3_settle_2 8 rfl rfl)
theorem dX3_settle_59 : decode cX3_settle 59 = .ok (.aload_n 0, 1) := dk_42 (dk_at dksX3_settle_2 11 rfl rfl)
theorem dX3_settle_60 : decode cX3_settle 60 = .ok (.getfield 35, 3) := dk_180 0 35 (dk_at dksX3_settle_2 12 rfl rfl)
theorem dX3_settle_63 : decode cX3_settle 63 = .ok (.iload_n 3, 1) := dk_29 (dk_at dksX3_settle_2 15 rfl rfl)
theorem dX3_settle_64 : decode cX3_settle 64 = .ok (.aload_n 0, 1) := dk_42 (dk_at dksX3_settle_2 16 rfl rfl)
theorem dX3_settle_65 : decode cX3_settle 65 = .ok (.getfield 31, 3) := dk_180 0 31 (dk_at dksX3_settle_2 17 rfl rfl)
theorem dX3_settle_68 : decode cX3_settle 68 = .ok (.iload_n 3, 1) := dk_29 (dk_at dksX3_settle_2 20 rfl rfl)
theorem dX3_settle_69 : decode cX3_settle 69 = .ok (.iaload, 1) := dk_46 (dk_at dksX3_settle_2 21 rfl rfl)
theorem dX3_settle_70 : decode cX3_settle 70 = .ok (.ifCond .ne 22, 3) := dk_154 0 22 (dk_at dksX3_settle_3 0 rfl rfl)
theorem dX3_settle_73 : decode cX3_settle 73 = .ok (.aload_n 0, 1) := dk_42 (dk_at dksX3_settle_3 3 rfl rfl)
theorem dX3_settle_74 : decode cX3_settle 74 = .ok (.aload_n 0, 1) := dk_42 (dk_at dksX3_settle_3 4 rfl rfl)
theorem dX3_settle_75 : decode cX3_settle 75 = .ok (.getfield 18, 3) := dk_180 0 18 (dk_at dksX3_settle_3 5 rfl rfl)
theorem dX3_settle_78 : decode cX3_settle 78 = .ok (.iload_n 3, 1) := dk_29 (dk_at dksX3_settle_3 8 rfl rfl)
theorem dX3_settle_79 : decode cX3_settle 79 = .ok (.invokevirtual 82, 3) := dk_182 0 82 (dk_at dksX3_settle_3 9 rfl rfl)
theorem dX3_settle_82 : decode cX3_settle 82 = .ok (.checkcast 75, 3) := dk_192 0 75 (dk_at dksX3_settle_3 12 rfl rfl)
theorem dX3_settle_85 : decode cX3_settle 85 = .ok (.aload_n 1, 1) := dk_43 (dk_at dksX3_settle_3 15 rfl rfl)
theorem dX3_settle_86 : decode cX3_settle 86 = .ok (.invokevirtual 136, 3) := dk_182 0 136 (dk_at dksX3_settle_3 16 rfl rfl)
theorem dX3_settle_89 : decode cX3_settle 89 = .ok (.goto 9, 3) := dk_167 0 9 (dk_at dksX3_settle_3 19 rfl rfl)
theorem dX3_settle_92 : decode cX3_settle 92 = .ok (.aload_n 0, 1) := dk_42 (dk_at dksX3_settle_3 22 rfl rfl)
theorem dX3_settle_93 : decode cX3_settle 93 = .ok (.getfield 31, 3) := dk_180 0 31 (dk_at dksX3_settle_4 0 rfl rfl)
theorem dX3_settle_96 : decode cX3_settle 96 = .ok (.iload_n 3, 1) := dk_29 (dk_at dksX3_settle_4 3 rfl rfl)
theorem dX3_settle_97 : decode cX3_settle 97 = .ok (.iaload, 1) := dk_46 (dk_at dksX3_settle_4 4 rfl rfl)
theorem dX3_settle_98 : decode cX3_settle 98 = .ok (.iastore, 1) := dk_79 (dk_at dksX3_settle_4 5 rfl rfl)
theorem dX3_settle_99 : decode cX3_settle 99 = .ok (.iinc 3 1, 3) := dk_132 3 1 (dk_at dksX3_settle_4 6 rfl rfl)
theorem dX3_settle_102 : decode cX3_settle 102 = .ok (.goto (-54), 3) := dk_167 255 202 (dk_at dksX3_settle_4 9 rfl rfl)
theorem dX3_settle_105 : decode cX3_settle 105 = .ok (.iconst 0, 1) := dk_3 (dk_at dksX3_settle_4 12 rfl rfl)
theorem dX3_settle_106 : decode cX3_settle 106 = .ok (.istore_n 3, 1) := dk_62 (dk_at dksX3_settle_4 13 rfl rfl)
theorem dX3_settle_107 : decode cX3_settle 107 = .ok (.iload_n 3, 1) := dk_29 (dk_at dksX3_settle_4 14 rfl rfl)
theorem dX3_settle_108 : decode cX3_settle 108 = .ok (.aload_n 0, 1) := dk_42 (dk_at dksX3_settle_4 15 rfl rfl)
theorem dX3_settle_109 : decode cX3_settle 109 = .ok (.getfield 18, 3) := dk_180 0 18 (dk_at dksX3_settle_4 16 rfl rfl)
theorem dX3_settle_112 : decode cX3_settle 112 = .ok (.invokevirtual 124, 3) := dk_182 0 124 (dk_at dksX3_settle_4 19 rfl rfl)
theorem dX3_settle_115 : decode cX3_settle 115 = .ok (.if_icmp .ge 53, 3) := dk_162 0 53 (dk_at dksX3_settle_5 0 rfl rfl)
theorem dX3_settle_118 : decode cX3_settle 118 = .ok (.aload_n 0, 1) := dk_42 (dk_at dksX3_settle_5 3 rfl rfl)
theorem dX3_settle_119 : decode cX3_settle 119 = .ok (.getfield 35, 3) := dk_180 0 35 (dk_at dksX3_settle_5 4 rfl rfl)
theorem dX3_settle_122 : decode cX3_settle 122 = .ok (.iload_n 3, 1) := dk_29 (dk_at dksX3_settle_5 7 rfl rfl)
theorem dX3_settle_123 : decode cX3_settle 123 = .ok (.iaload, 1) := dk_46 (dk_at dksX3_settle_5 8 rfl rfl)
theorem dX3_settle_124 : decode cX3_settle 124 = .ok (.aload_n 0, 1) := dk_42 (dk_at dksX3_settle_5 9 rfl rfl)
theorem dX3_settle_125 : decode cX3_settle 125 = .ok (.getfield 31, 3) := dk_180 0 31 (dk_at dksX3_settle_5 10 rfl rfl)
theorem dX3_settle_128 : decode cX3_settle 128 = .ok (.iload_n 3, 1) := dk_29 (dk_at dksX3_settle_5 13 rfl rfl)
theorem dX3_settle_129 : decode cX3_settle 129 = .ok (.iaload, 1) := dk_46 (dk_at dksX3_settle_5 14 rfl rfl)
theorem dX3_settle_130 : decode cX3_settle 130 = .ok (.if_icmp .ne 6, 3) := dk_160 0 6 (dk_at dksX3_settle_5 15 rfl rfl)
theorem dX3_settle_133 : decode cX3_settle 133 = .ok (.goto 29, 3) := dk_167 0 29 (dk_at dksX3_settle_5 18 rfl rfl)
theorem dX3_settle_136 : decode cX3_settle 136 = .ok (.aload_n 0, 1) := dk_42 (dk_at dksX3_settle_5 21 rfl rfl)
theorem dX3_settle_137 : decode cX3_settle 137 = .ok (.getfield 31, 3) := dk_180 0 31 (dk_at dksX3_settle_6 0 rfl rfl)
theorem dX3_settle_140 : decode cX3_settle 140 = .ok (.iload_n 3, 1) := dk_29 (dk_at dksX3_settle_6 3 rfl rfl)
theorem dX3_settle_141 : decode cX3_settle 141 = .ok (.aload_n 0, 1) := dk_42 (dk_at dksX3_settle_6 4 rfl rfl)
theorem dX3_settle_142 : decode cX3_settle 142 = .ok (.getfield 35, 3) := dk_180 0 35 (dk_at dksX3_settle_6 5 rfl rfl)
theorem dX3_settle_145 : decode cX3_settle 145 = .ok (.iload_n 3, 1) := dk_29 (dk_at dksX3_settle_6 8 rfl rfl)
theorem dX3_settle_146 : decode cX3_settle 146 = .ok (.iaload, 1) := dk_46 (dk_at dksX3_settle_6 9 rfl rfl)
theorem dX3_settle_147 : decode cX3_settle 147 = .ok (.iastore, 1) := dk_79 (dk_at dksX3_settle_6 10 rfl rfl)
theorem dX3_settle_148 : decode cX3_settle 148 = .ok (.aload_n 0, 1) := dk_42 (dk_at dksX3_settle_6 11 rfl rfl)
theorem dX3_settle_149 : decode cX3_settle 149 = .ok (.getfield 38, 3) := dk_180 0 38 (dk_at dksX3_settle_6 12 rfl rfl)
theorem dX3_settle_152 : decode cX3_settle 152 = .ok (.iload_n 3, 1) := dk_29 (dk_at dksX3_settle_6 15 rfl rfl)
theorem dX3_settle_153 : decode cX3_settle 153 = .ok (.aload_n 0, 1) := dk_42 (dk_at dksX3_settle_6 16 rfl rfl)
theorem dX3_settle_154 : decode cX3_settle 154 = .ok (.getfield 133, 3) := dk_180 0 133 (dk_at dksX3_settle_6 17 rfl rfl)
theorem dX3_settle_157 : decode cX3_settle 157 = .ok (.iconst 1, 1) := dk_4 (dk_at dksX3_settle_6 20 rfl rfl)
theorem dX3_settle_158 : decode cX3_settle 158 = .ok (.iadd, 1) := dk_96 (dk_at dksX3_settle_6 21 rfl rfl)
theorem dX3_settle_159 : decode cX3_settle 159 = .ok (.iastore, 1) := dk_79 (dk_at dksX3_settle_6 22 rfl rfl)
theorem dX3_settle_160 : decode cX3_settle 160 = .ok (.iconst 1, 1) := dk_4 (dk_at dksX3_settle_6 23 rfl rfl)
theorem dX3_settle_161 : decode cX3_settle 161 = .ok (.istore_n 2, 1) := dk_61 (dk_at dksX3_settle_7 0 rfl rfl)
theorem dX3_settle_162 : decode cX3_settle 162 = .ok (.iinc 3 1, 3) := dk_132 3 1 (dk_at dksX3_settle_7 1 rfl rfl)
theorem dX3_settle_165 : decode cX3_settle 165 = .ok (.goto (-58), 3) := dk_167 255 198 (dk_at dksX3_settle_7 4 rfl rfl)
theorem dX3_settle_168 : decode cX3_settle 168 = .ok (.iload_n 2, 1) := dk_28 (dk_at dksX3_settle_7 7 rfl rfl)
theorem dX3_settle_169 : decode cX3_settle 169 = .ok (.ifCond .eq (-129), 3) := dk_153 255 127 (dk_at dksX3_settle_7 8 rfl rfl)
theorem dX3_settle_172 : decode cX3_settle 172 = .ok (.aload_n 0, 1) := dk_42 (dk_at dksX3_settle_7 11 rfl rfl)
theorem dX3_settle_173 : decode cX3_settle 173 = .ok (.dup, 1) := dk_89 (dk_at dksX3_settle_7 12 rfl rfl)
theorem dX3_settle_174 : decode cX3_settle 174 = .ok (.getfield 133, 3) := dk_180 0 133 (dk_at dksX3_settle_7 13 rfl rfl)
theorem dX3_settle_177 : decode cX3_settle 177 = .ok (.iconst 1, 1) := dk_4 (dk_at dksX3_settle_7 16 rfl rfl)
theorem dX3_settle_178 : decode cX3_settle 178 = .ok (.iadd, 1) := dk_96 (dk_at dksX3_settle_7 17 rfl rfl)
theorem dX3_settle_179 : decode cX3_settle 179 = .ok (.putfield 133, 3) := dk_181 0 133 (dk_at dksX3_settle_7 18 rfl rfl)
theorem dX3_settle_182 : decode cX3_settle 182 = .ok (.goto (-142), 3) := dk_167 255 114 (dk_at dksX3_settle_7 21 rfl rfl)
theorem dX3_settle_185 : decode cX3_settle 185 = .ok (.aload_n 0, 1) := dk_42 (dk_at dksX3_settle_8 0 rfl rfl)
theorem dX3_settle_186 : decode cX3_settle 186 = .ok (.areturn, 1) := dk_176 (dk_at dksX3_settle_8 1 rfl rfl)
theorem q251 : (Jvm.Cond.fieldLink "DebateHall$Minutes" (133 : Nat) "DebateHall$Minutes" "rounds" "I") ∈ lw_all := lw_g (lw_at lw_m1 171 rfl) rfl
theorem zp_2_7 : zz_pok [2] 7 := zz_pok1 (zR_2, zT_2, 8) (by decide) rfl rfl
theorem q1937 : (Jvm.Cond.code ({ cls := "DebateHall$Minutes", name := "find", desc := "(LDebateHall$Item;LDebateHall$Item;)I" } : Jvm.MethodName) prog_12_method_7_code (6 : Nat) (Option.some Jvm.ClassFile.FieldType.int)) ∈ lw_all := lw_g (lw_at lw_m8 177 rfl) rfl
theorem zk_X3_find : zz_cd yX3_find cX3_find 6 (some .int) none ∈ lw_all := q1937
theorem zy_X3_find : zz_yok yX3_find 2 = true := by decide +kernel
theorem q1934 : (Jvm.Cond.methodLink "DebateHall$Minutes" (136 : Nat) ({ cls := "DebateHall$Minutes", name := "find", desc := "(LDebateHall$Item;LDebateHall$Item;)I" } : Jvm.MethodName)) ∈ lw_all := lw_g (lw_at lw_m8 174 rfl) rfl
theorem q1936 : (Jvm.Cond.instanceMethod ({ cls := "DebateHall$Minutes", name := "find", desc := "(LDebateHall$Item;LDebateHall$Item;)I" } : Jvm.MethodName)) ∈ lw_all := lw_g (lw_at lw_m8 176 rfl) rfl
def wp_X3_settle_B98 (Z : zzG) (k40 : Option Nat → Option Nat → Int32 → zzM → Prop) (k48 : Option Nat → Option Nat → Int32 → Int32 → zzM → Prop) (K : Option Value → zzM → Prop) (v0 : Option Nat) (v1 : Option Nat) (v2 : Int32) (v3 : Int32) (s0 : Int32) (s1 : Int32) (s2 : Option Nat) (M : zzM) : Prop := zast Z M s2 [100] s1 (.int s0) fun M34 => k48 v0 v1 v2 (v3 + 1) M34
def wp_X3_settle_B162 (Z : zzG) (k40 : Option Nat → Option Nat → Int32 → zzM → Prop) (k107 : Option Nat → Option Nat → Int32 → Int32 → zzM → Prop) (K : Option Value → zzM → Prop) (v0 : Option Nat) (v1 : Option Nat) (v2 : Int32) (v3 : Int32) (M : zzM) : Prop := k107 v0 v1 v2 (v3 + 1) M
def wp_X3_settle_L107 (Z : zzG) (k40 : Option Nat → Option Nat → Int32 → zzM → Prop) (K : Option Value → zzM → Prop) : Nat → Option Nat → Option Nat → Int32 → Int32 → zzM → Prop
  | 0, _, _, _, _, _ => False
  | n + 1, v0, v1, v2, v3, M => zgA Z M v0 [2] 1 fun x35 => zty Z M x35 fun t => t = 18 ∧ wp_J2_size Z x35 M (fun r36 M37 => zrI r36 fun x40 => if x40 ≤ v3 then (if v2 = 0 then (k40 v0 v1 v2 M37) else (zgI Z M37 v0 [2] 7 fun x41 => zput Z M37 v0 [2] 7 (.int (x41 + (1 : Int32))) fun M42 => k40 v0 v1 v2 M42)) else (zgA Z M37 v0 [2] 5 fun x43 => zaI Z M37 x43 [100] v3 fun x44 => zgA Z M37 v0 [2] 4 fun x45 => zaI Z M37 x45 [100] v3 fun x46 => if x44 = x46 then (wp_X3_settle_B162 Z k40 (wp_X3_settle_L107 Z k40 K n) K v0 v1 v2 v3 M37) else (zgA Z M37 v0 [2] 4 fun x47 => zgA Z M37 v0 [2] 5 fun x48 => zaI Z M37 x48 [100] v3 fun x49 => zast Z M37 x47 [100] v3 (.int x49) fun M50 => zgA Z M50 v0 [2] 6 fun x51 => zgI Z M50 v0 [2] 7 fun x52 => zast Z M50 x51 [100] v3 (.int (x52 + (1 : Int32))) fun M53 => wp_X3_settle_B162 Z k40 (wp_X3_settle_L107 Z k40 K n) K v0 v1 (1 : Int32) v3 M53)))
def wp_X3_settle_L48 (Z : zzG) (k40 : Option Nat → Option Nat → Int32 → zzM → Prop) (K : Option Value → zzM → Prop) : Nat → Option Nat → Option Nat → Int32 → Int32 → zzM → Prop
  | 0, _, _, _, _, _ => False
  | n + 1, v0, v1, v2, v3, M => zgA Z M v0 [2] 1 fun x12 => zty Z M x12 fun t => t = 18 ∧ wp_J2_size Z x12 M (fun r13 M14 => zrI r13 fun x17 => if x17 ≤ v3 then (∃ n107 : Nat, wp_X3_settle_L107 Z k40 K n107 v0 v1 v2 (0 : Int32) M14) else (zgA Z M14 v0 [2] 5 fun x18 => zgA Z M14 v0 [2] 4 fun x19 => zaI Z M14 x19 [100] v3 fun x20 => if x20 = 0 then (zgA Z M14 v0 [2] 1 fun x23 => zty Z M14 x23 fun t => t = 18 ∧ wp_J2_get Z x23 v3 M14 (fun r24 M25 => zrA r24 fun x28 => zcast Z M25 x28 [15] <| zty Z M25 v0 fun t => t = 2 ∧ wp_X3_find Z v0 x28 v1 M25 (fun r29 M30 => zrI r29 fun x33 => wp_X3_settle_B98 Z k40 (wp_X3_settle_L48 Z k40 K n) K v0 v1 v2 v3 x33 v3 x18 M30))) else (zgA Z M14 v0 [2] 4 fun x21 => zaI Z M14 x21 [100] v3 fun x22 => wp_X3_settle_B98 Z k40 (wp_X3_settle_L48 Z k40 K n) K v0 v1 v2 v3 x22 v3 x18 M14)))
def wp_X3_settle_L40 (Z : zzG) (K : Option Value → zzM → Prop) : Nat → Option Nat → Option Nat → Int32 → zzM → Prop
  | 0, _, _, _, _ => False
  | n + 1, v0, v1, v2, M => if v2 = 0 then (K (some (va_rf v0)) M) else (∃ n48 : Nat, wp_X3_settle_L48 Z (wp_X3_settle_L40 Z K n) K n48 v0 v1 (0 : Int32) (0 : Int32) M)
def wp_X3_settle_L7 (Z : zzG) (K : Option Value → zzM → Prop) : Nat → Option Nat → Option Nat → Int32 → zzM → Prop
  | 0, _, _, _, _ => False
  | n + 1, v0, v1, v2, M => zgA Z M v0 [2] 1 fun x2 => zty Z M x2 fun t => t = 18 ∧ wp_J2_size Z x2 M (fun r3 M4 => zrI r3 fun x7 => if x7 ≤ v2 then (∃ n40 : Nat, wp_X3_settle_L40 Z K n40 v0 v1 (1 : Int32) M4) else (zgA Z M4 v0 [2] 4 fun x8 => zast Z M4 x8 [100] v2 (.int (0 : Int32)) fun M9 => zgA Z M9 v0 [2] 6 fun x10 => zast Z M9 x10 [100] v2 (.int (0 : Int32)) fun M11 => wp_X3_settle_L7 Z K n v0 v1 (v2 + 1) M11))
def wp_X3_settle (Z : zzG) (this : Option Nat) (p0 : Option Nat) (M : zzM) (K : Option Value → zzM → Prop) : Prop := zput Z M this [2] 7 (.int (0 : Int32)) fun M1 => ∃ n7 : Nat, wp_X3_settle_L7 Z K n7 this p0 (0 : Int32) M1
theorem ok_X3_settle_B98 {G : zzX} (C : zz_C G cX3_settle "DebateHall$Minutes" 4) {K : Option Value → zzM → Prop} (E : zz_E G (some (.object "DebateHall$Minutes")) K (fun _ _ _ => False)) (hH : zz_H G []) (hR : zz_Rm G 5) {k40 : Option Nat → Option Nat → Int32 → zzM → Prop} (hk40 : ∀ (z0 : Option Nat) (z1 : Option Nat) (z2 : Int32) (M : zzM) (bc bs : Nat), k40 z0 z1 z2 M → zz_T G 4 M bc bs 40 [(0, va_rf z0), (1, va_rf z1), (2, .int z2)] []) {k48 : Option Nat → Option Nat → Int32 → Int32 → zzM → Prop} (hk48 : ∀ (z0 : Option Nat) (z1 : Option Nat) (z2 : Int32) (z3 : Int32) (M : zzM) (bc bs : Nat), k48 z0 z1 z2 z3 M → zz_T G 4 M bc bs 48 [(0, va_rf z0), (1, va_rf z1), (2, .int z2), (3, .int z3)] []) {v0 : Option Nat} {v1 : Option Nat} {v2 : Int32} {v3 : Int32} {s0 : Int32} {s1 : Int32} {s2 : Option Nat} {M : zzM} {bc bs : Nat} (hw : wp_X3_settle_B98 (zz_Zof G) k40 k48 K v0 v1 v2 v3 s0 s1 s2 M) : zz_T G 4 M bc bs 98 [(0, va_rf v0), (1, va_rf v1), (2, .int v2), (3, .int v3)] [.int s0, .int s1, va_rf s2] := by
  unfold wp_X3_settle_B98 at hw
  refine zz_iast C dX3_settle_98 hw (fun M34 hw => ?_)
  refine zz_iinc (lv' := [(3, .int (v3 + 1)), (0, va_rf v0), (1, va_rf v1), (2, .int v2)]) C dX3_settle_99 3 rfl (by rfl) (by decide) rfl ?_
  refine zz_goto (tgt := 48) C dX3_settle_102 (by decide) ?_
  refine zz_subP [1, 2, 3, 0] rfl ?_
  exact hk48 _ _ _ _ _ _ _ hw
theorem ok_X3_settle_B162 {G : zzX} (C : zz_C G cX3_settle "DebateHall$Minutes" 4) {K : Option Value → zzM → Prop} (E : zz_E G (some (.object "DebateHall$Minutes")) K (fun _ _ _ => False)) (hH : zz_H G []) (hR : zz_Rm G 5) {k40 : Option Nat → Option Nat → Int32 → zzM → Prop} (hk40 : ∀ (z0 : Option Nat) (z1 : Option Nat) (z2 : Int32) (M : zzM) (bc bs : Nat), k40 z0 z1 z2 M → zz_T G 4 M bc bs 40 [(0, va_rf z0), (1, va_rf z1), (2, .int z2)] []) {k107 : Option Nat → Option Nat → Int32 → Int32 → zzM → Prop} (hk107 : ∀ (z0 : Option Nat) (z1 : Option Nat) (z2 : Int32) (z3 : Int32) (M : zzM) (bc bs : Nat), k107 z0 z1 z2 z3 M → zz_T G 4 M bc bs 107 [(0, va_rf z0), (1, va_rf z1), (2, .int z2), (3, .int z3)] []) {v0 : Option Nat} {v1 : Option Nat} {v2 : Int32} {v3 : Int32} {M : zzM} {bc bs : Nat} (hw : wp_X3_settle_B162 (zz_Zof G) k40 k107 K v0 v1 v2 v3 M) : zz_T G 4 M bc bs 162 [(0, va_rf v0), (1, va_rf v1), (2, .int v2), (3, .int v3)] [] := by
  unfold wp_X3_settle_B162 at hw
  refine zz_iinc (lv' := [(3, .int (v3 + 1)), (0, va_rf v0), (1, va_rf v1), (2, .int v2)]) C dX3_settle_162 3 rfl (by rfl) (by decide) rfl ?_
  refine zz_goto (tgt := 107) C dX3_settle_165 (by decide) ?_
  refine zz_subP [1, 2, 3, 0] rfl ?_
  exact hk107 _ _ _ _ _ _ _ hw
theorem ok_X3_settle_L107 {G : zzX} (C : zz_C G cX3_settle "DebateHall$Minutes" 4) {K : Option Value → zzM → Prop} (E : zz_E G (some (.object "DebateHall$Minutes")) K (fun _ _ _ => False)) (hH : zz_H G []) (hR : zz_Rm G 5) {k40 : Option Nat → Option Nat → Int32 → zzM → Prop} (hk40 : ∀ (z0 : Option Nat) (z1 : Option Nat) (z2 : Int32) (M : zzM) (bc bs : Nat), k40 z0 z1 z2 M → zz_T G 4 M bc bs 40 [(0, va_rf z0), (1, va_rf z1), (2, .int z2)] []) : ∀ (n : Nat) (v0 : Option Nat) (v1 : Option Nat) (v2 : Int32) (v3 : Int32) (M : zzM) (bc bs : Nat), wp_X3_settle_L107 (zz_Zof G) k40 K n v0 v1 v2 v3 M → zz_T G 4 M bc bs 107 [(0, va_rf v0), (1, va_rf v1), (2, .int v2), (3, .int v3)] [] := by
  intro n
  induction n with
  | zero =>
    intro v0 v1 v2 v3 M bc bs hw
    exact False.elim hw
  | succ n ih =>
    intro v0 v1 v2 v3 M bc bs hw
    refine zz_iload_n C dX3_settle_107 rfl 3 rfl ?_
    refine zz_aload_n C dX3_settle_108 rfl 0 rfl ?_
    refine zz_getA C dX3_settle_109 (Or.inl q235) zf_2_1_teHall_Minutes hw (fun x35 hw => ?_)
    obtain ⟨a9, t9, b9, fs9, hro, hL, rfl, hw⟩ := ztyS hw
    refine zz_callV (r := (zR_18, zT_18, 3)) (As := []) (rest := [.int v3]) (mc := 0) (ms := 0) C hR hro dX3_settle_112 (Or.inl q1933) q354 (Or.inl q355) zl_java_util_ArrayList zk_J2_size (Or.inl rfl) zy_J2_size rfl (by decide) (by decide) hL (ok_J2_size (zz_hl C) hw) (Nat.zero_le _) (Nat.zero_le _) (zz_cat10 _ (Nat.le_of_ble_eq_true rfl)) (fun r36 M37 hw => zz_kI hw (fun x40 hw => ?_)) (fun _ _ _ h9 => h9.elim) rfl
    refine zz_icmp_ge (tgt := 168) C dX3_settle_115 (by decide) hw (fun hw => ?_) (fun hw => ?_)
    · refine zz_iload_n C dX3_settle_168 rfl 2 rfl ?_
      refine zz_if_eq (tgt := 40) C dX3_settle_169 (by decide) hw (fun hw => ?_) (fun hw => ?_)
      · refine zz_subP [0, 1, 2] rfl ?_
        exact hk40 _ _ _ _ _ _ hw
      · refine zz_aload_n C dX3_settle_172 rfl 0 rfl ?_
        refine zz_dup C dX3_settle_173 (zz_cat _) ?_
        refine zz_getI C dX3_settle_174 (Or.inl q251) zf_2_7_teHall_Minutes hw (fun x41 hw => ?_)
        refine zz_iconst (v := (1 : Int32)) C dX3_settle_177 (by decide) ?_
        refine zz_iadd C dX3_settle_178 ?_
        refine zz_put C dX3_settle_179 (Or.inl q251) zf_2_7_teHall_Minutes zp_2_7 (zz_hn1 ⟨rfl, rfl⟩) hw (fun M42 hw => ?_)
        refine zz_goto (tgt := 40) C dX3_settle_182 (by decide) ?_
        refine zz_subP [0, 1, 2] rfl ?_
        exact hk40 _ _ _ _ _ _ hw
    · refine zz_aload_n C dX3_settle_118 rfl 0 rfl ?_
      refine zz_getA C dX3_settle_119 (Or.inl q248) zf_2_5_teHall_Minutes hw (fun x43 hw => ?_)
      refine zz_iload_n C dX3_settle_122 rfl 3 rfl ?_
      refine zz_iald C dX3_settle_123 hw (fun x44 hw => ?_)
      refine zz_aload_n C dX3_settle_124 rfl 0 rfl ?_
      refine zz_getA C dX3_settle_125 (Or.inl q246) zf_2_4_teHall_Minutes hw (fun x45 hw => ?_)
      refine zz_iload_n C dX3_settle_128 rfl 3 rfl ?_
      refine zz_iald C dX3_settle_129 hw (fun x46 hw => ?_)
      refine zz_icmp_ne (tgt := 136) C dX3_settle_130 (by decide) hw (fun hw => ?_) (fun hw => ?_)
      · refine zz_aload_n C dX3_settle_136 rfl 0 rfl ?_
        refine zz_getA C dX3_settle_137 (Or.inl q246) zf_2_4_teHall_Minutes hw (fun x47 hw => ?_)
        refine zz_iload_n C dX3_settle_140 rfl 3 rfl ?_
        refine zz_aload_n C dX3_settle_141 rfl 0 rfl ?_
        refine zz_getA C dX3_settle_142 (Or.inl q248) zf_2_5_teHall_Minutes hw (fun x48 hw => ?_)
        refine zz_iload_n C dX3_settle_145 rfl 3 rfl ?_
        refine zz_iald C dX3_settle_146 hw (fun x49 hw => ?_)
        refine zz_iast C dX3_settle_147 hw (fun M50 hw => ?_)
        refine zz_aload_n C dX3_settle_148 rfl 0 rfl ?_
        refine zz_getA C dX3_settle_149 (Or.inl q249) zf_2_6_teHall_Minutes hw (fun x51 hw => ?_)
        refine zz_iload_n C dX3_settle_152 rfl 3 rfl ?_
        refine zz_aload_n C dX3_settle_153 rfl 0 rfl ?_
        refine zz_getI C dX3_settle_154 (Or.inl q251) zf_2_7_teHall_Minutes hw (fun x52 hw => ?_)
        refine zz_iconst (v := (1 : Int32)) C dX3_settle_157 (by decide) ?_
        refine zz_iadd C dX3_settle_158 ?_
        refine zz_iast C dX3_settle_159 hw (fun M53 hw => ?_)
        refine zz_iconst (v := (1 : Int32)) C dX3_settle_160 (by decide) ?_
        refine zz_istore_n (i := 2) (lv' := [(2, .int (1 : Int32)), (0, va_rf v0), (1, va_rf v1), (3, .int v3)]) C dX3_settle_161 rfl (by decide) (by simp [zz_cat, zz_catI, zz_catJ, zz_catD]) ?_
        refine zz_subP [1, 2, 0, 3] rfl ?_
        exact ok_X3_settle_B162 C E hH hR hk40 (fun z0 z1 z2 z3 z4 z5 z6 hw => ih z0 z1 z2 z3 z4 z5 z6 hw) hw
      · refine zz_goto (tgt := 162) C dX3_settle_133 (by decide) ?_
        refine zz_subP [0, 1, 2, 3] rfl ?_
        exact ok_X3_settle_B162 C E hH hR hk40 (fun z0 z1 z2 z3 z4 z5 z6 hw => ih z0 z1 z2 z3 z4 z5 z6 hw) hw
theorem ok_X3_settle_L48 {G : zzX} (C : zz_C G cX3_settle "DebateHall$Minutes" 4) {K : Option Value → zzM → Prop} (E : zz_E G (some (.object "DebateHall$Minutes")) K (fun _ _ _ => False)) (hH : zz_H G []) (hR : zz_Rm G 5) {k40 : Option Nat → Option Nat → Int32 → zzM → Prop} (hk40 : ∀ (z0 : Option Nat) (z1 : Option Nat) (z2 : Int32) (M : zzM) (bc bs : Nat), k40 z0 z1 z2 M → zz_T G 4 M bc bs 40 [(0, va_rf z0), (1, va_rf z1), (2, .int z2)] []) : ∀ (n : Nat) (v0 : Option Nat) (v1 : Option Nat) (v2 : Int32) (v3 : Int32) (M : zzM) (bc bs : Nat), wp_X3_settle_L48 (zz_Zof G) k40 K n v0 v1 v2 v3 M → zz_T G 4 M bc bs 48 [(0, va_rf v0), (1, va_rf v1), (2, .int v2), (3, .int v3)] [] := by
  intro n
  induction n with
  | zero =>
    intro v0 v1 v2 v3 M bc bs hw
    exact False.elim hw
  | succ n ih =>
    intro v0 v1 v2 v3 M bc bs hw
    refine zz_iload_n C dX3_settle_48 rfl 3 rfl ?_
    refine zz_aload_n C dX3_settle_49 rfl 0 rfl ?_
    refine zz_getA C dX3_settle_50 (Or.inl q235) zf_2_1_teHall_Minutes hw (fun x12 hw => ?_)
    obtain ⟨a9, t9, b9, fs9, hro, hL, rfl, hw⟩ := ztyS hw
    refine zz_callV (r := (zR_18, zT_18, 3)) (As := []) (rest := [.int v3]) (mc := 0) (ms := 0) C hR hro dX3_settle_53 (Or.inl q1933) q354 (Or.inl q355) zl_java_util_ArrayList zk_J2_size (Or.inl rfl) zy_J2_size rfl (by decide) (by decide) hL (ok_J2_size (zz_hl C) hw) (Nat.zero_le _) (Nat.zero_le _) (zz_cat10 _ (Nat.le_of_ble_eq_true rfl)) (fun r13 M14 hw => zz_kI hw (fun x17 hw => ?_)) (fun _ _ _ h9 => h9.elim) rfl
    refine zz_icmp_ge (tgt := 105) C dX3_settle_56 (by decide) hw (fun hw => ?_) (fun hw => ?_)
    · refine zz_iconst (v := (0 : Int32)) C dX3_settle_105 (by decide) ?_
      refine zz_istore_n (i := 3) (lv' := [(3, .int (0 : Int32)), (0, va_rf v0), (1, va_rf v1), (2, .int v2)]) C dX3_settle_106 rfl (by decide) rfl ?_
      refine zz_subP [1, 2, 3, 0] rfl ?_
      obtain ⟨n107, hw⟩ := hw
      exact ok_X3_settle_L107 C E hH hR hk40 n107 _ _ _ _ _ _ _ hw
    · refine zz_aload_n C dX3_settle_59 rfl 0 rfl ?_
      refine zz_getA C dX3_settle_60 (Or.inl q248) zf_2_5_teHall_Minutes hw (fun x18 hw => ?_)
      refine zz_iload_n C dX3_settle_63 rfl 3 rfl ?_
      refine zz_aload_n C dX3_settle_64 rfl 0 rfl ?_
      refine zz_getA C dX3_settle_65 (Or.inl q246) zf_2_4_teHall_Minutes hw (fun x19 hw => ?_)
      refine zz_iload_n C dX3_settle_68 rfl 3 rfl ?_
      refine zz_iald C dX3_settle_69 hw (fun x20 hw => ?_)
      refine zz_if_ne (tgt := 92) C dX3_settle_70 (by decide) hw (fun hw => ?_) (fun hw => ?_)
      · refine zz_aload_n C dX3_settle_92 rfl 0 rfl ?_
        refine zz_getA C dX3_settle_93 (Or.inl q246) zf_2_4_teHall_Minutes hw (fun x21 hw => ?_)
        refine zz_iload_n C dX3_settle_96 rfl 3 rfl ?_
        refine zz_iald C dX3_settle_97 hw (fun x22 hw => ?_)
        refine zz_subP [0, 1, 2, 3] rfl ?_
        exact ok_X3_settle_B98 C E hH hR hk40 (fun z0 z1 z2 z3 z4 z5 z6 hw => ih z0 z1 z2 z3 z4 z5 z6 hw) hw
      · refine zz_aload_n C dX3_settle_73 rfl 0 rfl ?_
        refine zz_aload_n C dX3_settle_74 rfl 0 rfl ?_
        refine zz_getA C dX3_settle_75 (Or.inl q235) zf_2_1_teHall_Minutes hw (fun x23 hw => ?_)
        refine zz_iload_n C dX3_settle_78 rfl 3 rfl ?_
        obtain ⟨a9, t9, b9, fs9, hro, hL, rfl, hw⟩ := ztyS hw
        refine zz_callV (r := (zR_18, zT_18, 3)) (As := [.int v3]) (rest := [va_rf v0, .int v3, va_rf x18]) (mc := 0) (ms := 0) C hR hro dX3_settle_79 (Or.inl q1728) q877 (Or.inl q2872) zl_java_util_ArrayList zk_J2_get (Or.inl rfl) zy_J2_get rfl (by decide) (by decide) hL (ok_J2_get (zz_hl C) hw) (Nat.zero_le _) (Nat.zero_le _) (zz_cat10 _ (Nat.le_of_ble_eq_true rfl)) (fun r24 M25 hw => zz_kA hw (fun x28 hw => ?_)) (fun _ _ _ h9 => h9.elim) rfl
        refine zz_cast C dX3_settle_82 q1727 zc_15_ebateHall_Item hw (fun hw => ?_)
        refine zz_aload_n C dX3_settle_85 rfl 1 rfl ?_
        obtain ⟨a9, t9, b9, fs9, hro, hL, rfl, hw⟩ := ztyS hw
        refine zz_callV (r := (zR_2, zT_2, 8)) (As := [va_rf x28, va_rf v1]) (rest := [.int v3, va_rf x18]) (mc := 0) (ms := 0) C hR hro dX3_settle_86 (Or.inl q1934) q1936 (Or.inl qs17) zl_DebateHall_Minutes zk_X3_find (Or.inl rfl) zy_X3_find rfl (by decide) (by decide) hL (ok_X3_find (zz_hl C) hw) (Nat.zero_le _) (Nat.zero_le _) (zz_cat10 _ (Nat.le_of_ble_eq_true rfl)) (fun r29 M30 hw => zz_kI hw (fun x33 hw => ?_)) (fun _ _ _ h9 => h9.elim) rfl
        refine zz_goto (tgt := 98) C dX3_settle_89 (by decide) ?_
        refine zz_subP [0, 1, 2, 3] rfl ?_
        exact ok_X3_settle_B98 C E hH hR hk40 (fun z0 z1 z2 z3 z4 z5 z6 hw => ih z0 z1 z2 z3 z4 z5 z6 hw) hw
theorem ok_X3_settle_L40 {G : zzX} (C : zz_C G cX3_settle "DebateHall$Minutes" 4) {K : Option Value → zzM → Prop} (E : zz_E G (some (.object "DebateHall$Minutes")) K (fun _ _ _ => False)) (hH : zz_H G []) (hR : zz_Rm G 5) : ∀ (n : Nat) (v0 : Option Nat) (v1 : Option Nat) (v2 : Int32) (M : zzM) (bc bs : Nat), wp_X3_settle_L40 (zz_Zof G) K n v0 v1 v2 M → zz_T G 4 M bc bs 40 [(0, va_rf v0), (1, va_rf v1), (2, .int v2)] [] := by
  intro n
  induction n with
  | zero =>
    intro v0 v1 v2 M bc bs hw
    exact False.elim hw
  | succ n ih =>
    intro v0 v1 v2 M bc bs hw
    refine zz_iload_n C dX3_settle_40 rfl 2 rfl ?_
    refine zz_if_eq (tgt := 185) C dX3_settle_41 (by decide) hw (fun hw => ?_) (fun hw => ?_)
    · refine zz_aload_n C dX3_settle_185 rfl 0 rfl ?_
      exact zz_aret C E (Or.inl ⟨_, rfl⟩) dX3_settle_186 hw
    · refine zz_iconst (v := (0 : Int32)) C dX3_settle_44 (by decide) ?_
      refine zz_istore_n (i := 2) (lv' := [(2, .int (0 : Int32)), (0, va_rf v0), (1, va_rf v1)]) C dX3_settle_45 rfl (by decide) (by simp [zz_cat, zz_catI, zz_catJ, zz_catD]) ?_
      refine zz_iconst (v := (0 : Int32)) C dX3_settle_46 (by decide) ?_
      refine zz_istore_n (i := 3) (lv' := [(3, .int (0 : Int32)), (2, .int (0 : Int32)), (0, va_rf v0), (1, va_rf v1)]) C dX3_settle_47 rfl (by decide) rfl ?_
      refine zz_subP [2, 3, 1, 0] rfl ?_
      obtain ⟨n48, hw⟩ := hw
      exact ok_X3_settle_L48 C E hH hR (fun z0 z1 z2 z3 z4 z5 hw => ih z0 z1 z2 z3 z4 z5 hw) n48 _ _ _ _ _ _ _ hw
theorem ok_X3_settle_L7 {G : zzX} (C : zz_C G cX3_settle "DebateHall$Minutes" 4) {K : Option Value → zzM → Prop} (E : zz_E G (some (.object "DebateHall$Minutes")) K (fun _ _ _ => False)) (hH : zz_H G []) (hR : zz_Rm G 5) : ∀ (n : Nat) (v0 : Option Nat) (v1 : Option Nat) (v2 : Int32) (M : zzM) (bc bs : Nat), wp_X3_settle_L7 (zz_Zof G) K n v0 v1 v2 M → zz_T G 4 M bc bs 7 [(0, va_rf v0), (1, va_rf v1), (2, .int v2)] [] := by
  intro n
  induction n with
  | zero =>
    intro v0 v1 v2 M bc bs hw
    exact False.elim hw
  | succ n ih =>
    intro v0 v1 v2 M bc bs hw
    refine zz_iload_n C dX3_settle_7 rfl 2 rfl ?_
    refine zz_aload_n C dX3_settle_8 rfl 0 rfl ?_
    refine zz_getA C dX3_settle_9 (Or.inl q235) zf_2_1_teHall_Minutes hw (fun x2 hw => ?_)
    obtain ⟨a9, t9, b9, fs9, hro, hL, rfl, hw⟩ := ztyS hw
    refine zz_callV (r := (zR_18, zT_18, 3)) (As := []) (rest := [.int v2]) (mc := 0) (ms := 0) C hR hro dX3_settle_12 (Or.inl q1933) q354 (Or.inl q355) zl_java_util_ArrayList zk_J2_size (Or.inl rfl) zy_J2_size rfl (by decide) (by decide) hL (ok_J2_size (zz_hl C) hw) (Nat.zero_le _) (Nat.zero_le _) (zz_cat10 _ (Nat.le_of_ble_eq_true rfl)) (fun r3 M4 hw => zz_kI hw (fun x7 hw => ?_)) (fun _ _ _ h9 => h9.elim) rfl
    refine zz_icmp_ge (tgt := 38) C dX3_settle_15 (by decide) hw (fun hw => ?_) (fun hw => ?_)
    · refine zz_iconst (v := (1 : Int32)) C dX3_settle_38 (by decide) ?_
      refine zz_istore_n (i := 2) (lv' := [(2, .int (1 : Int32)), (0, va_rf v0), (1, va_rf v1)]) C dX3_settle_39 rfl (by decide) (by simp [zz_cat, zz_catI, zz_catJ, zz_catD]) ?_
      refine zz_subP [1, 2, 0] rfl ?_
      obtain ⟨n40, hw⟩ := hw
      exact ok_X3_settle_L40 C E hH hR n40 _ _ _ _ _ _ hw
    · refine zz_aload_n C dX3_settle_18 rfl 0 rfl ?_
      refine zz_getA C dX3_settle_19 (Or.inl q246) zf_2_4_teHall_Minutes hw (fun x8 hw => ?_)
      refine zz_iload_n C dX3_settle_22 rfl 2 rfl ?_
      refine zz_iconst (v := (0 : Int32)) C dX3_settle_23 (by decide) ?_
      refine zz_iast C dX3_settle_24 hw (fun M9 hw => ?_)
      refine zz_aload_n C dX3_settle_25 rfl 0 rfl ?_
      refine zz_getA C dX3_settle_26 (Or.inl q249) zf_2_6_teHall_Minutes hw (fun x10 hw => ?_)
      refine zz_iload_n C dX3_settle_29 rfl 2 rfl ?_
      refine zz_iconst (v := (0 : Int32)) C dX3_settle_30 (by decide) ?_
      refine zz_iast C dX3_settle_31 hw (fun M11 hw => ?_)
      refine zz_iinc (lv' := [(2, .int (v2 + 1)), (0, va_rf v0), (1, va_rf v1)]) C dX3_settle_32 2 rfl (by rfl) (by decide) (by simp [zz_cat, zz_catI, zz_catJ, zz_catD]) ?_
      refine zz_goto (tgt := 7) C dX3_settle_35 (by decide) ?_
      refine zz_subP [1, 2, 0] rfl ?_
      exact ih _ _ _ _ _ _ hw
theorem ok_X3_settle {Z : zzG} {l : Launch} (hl : l.stackTraces = false) {this : Option Nat} {p0 : Option Nat} {M : zzM} {mc ms : Nat} {K : Option Value → zzM → Prop} (hw : wp_X3_settle Z this p0 M K) : zz_Met Z l yX3_settle (zz_ws yX3_settle cX3_settle 4 (some (.object "DebateHall$Minutes")) none) 5 [va_rf this, va_rf p0] M mc ms K (fun _ _ _ => False) := by
  refine zz_ofW hl (plainFor_of_name (by decide)) (by simp only [zz_sl0, zz_slI, zz_slJ, zz_slA] <;> decide) (fun G hZ hll C E hH hR hin => ?_)
  subst hZ
  subst hll
  rw [show lv_args 0 [va_rf this, va_rf p0] = [(0, va_rf this), (1, va_rf p0)] by simp only [zz_la0, zz_laI, zz_laJ, zz_laA]]
  unfold wp_X3_settle at hw
  refine zz_aload_n C dX3_settle_0 rfl 0 rfl ?_
  refine zz_iconst (v := (0 : Int32)) C dX3_settle_1 (by decide) ?_
  refine zz_put C dX3_settle_2 (Or.inl q251) zf_2_7_teHall_Minutes zp_2_7 (zz_hn1 ⟨rfl, rfl⟩) hw (fun M1 hw => ?_)
  refine zz_iconst (v := (0 : Int32)) C dX3_settle_5 (by decide) ?_
  refine zz_istore_n (i := 2) (lv' := [(2, .int (0 : Int32)), (0, va_rf this), (1, va_rf p0)]) C dX3_settle_6 rfl (by decide) (by simp [zz_cat, zz_catI, zz_catJ, zz_catD]) ?_
  refine zz_subP [1, 2, 0] rfl ?_
  obtain ⟨n7, hw⟩ := hw
  exact ok_X3_settle_L7 C E hH hR n7 _ _ _ _ _ _ hw
abbrev cX1_isFree : ByteArray := prog_1_method_30_code
def yX1_isFree : MethodName := ⟨"DebateHall", "isFree", "(LDebateHall$Item;LDebateHall$Item;LDebateHall$Item;)Z"⟩
def dkwX1_isFree_2 : List UInt8 := [181, 0, 146, 21, 6, 172]
abbrev dktX1_isFree_2 : List UInt8 := dkwX1_isFree_2 ++ []
def dkwX1_isFree_1 : List UInt8 := [180, 0, 36, 1, 182, 0, 126, 43, 182, 0, 242, 54, 6, 44, 21, 4, 181, 0, 146, 45, 21, 5]
abbrev dktX1_isFree_1 : List UInt8 := dkwX1_isFree_1 ++ dktX1_isFree_2
def dkwX1_isFree_0 : List UInt8 := [44, 180, 0, 146, 54, 4, 45, 180, 0, 146, 54, 5, 44, 4, 181, 0, 146, 45, 4, 181, 0, 146, 42]
abbrev dktX1_isFree_0 : List UInt8 := dkwX1_isFree_0 ++ dktX1_isFree_1
theorem dksX1_isFree_0 : cX1_isFree.data.toList.drop 0 = dktX1_isFree_0 := by decide +kernel
theorem dksX1_isFree_1 : cX1_isFree.data.toList.drop 23 = dktX1_isFree_1 := dk_seg dksX1_isFree_0 23 rfl rfl
theorem dksX1_isFree_2 : cX1_isFree.data.toList.drop 45 = dktX1_isFree_2 := dk_seg dksX1_isFree_1 22 rfl rfl
theorem dX1_isFree_0 : decode cX1_isFree 0 = .ok (.aload_n 2, 1) := dk_44 (dk_at dksX1_isFree_0 0 rfl rfl)
theorem dX1_isFree_1 : decode cX1_isFree 1 = .ok (.getfield 146, 3) := dk_180 0 146 (dk_at dksX1_isFree_0 1 rfl rfl)
theorem dX1_isFree_4 : decode cX1_isFree 4 = .ok (.istore 4, 2) := dk_54 4 (dk_at dksX1_isFree_0 4 rfl rfl)
theorem dX1_isFree_6 : decode cX1_isFree 6 = .ok (.aload_n 3, 1) := dk_45 (dk_at dksX1_isFree_0 6 rfl rfl)
theorem dX1_isFree_7 : decode cX1_isFree 7 = .ok (.getfield 146, 3) := dk_180 0 146 (dk_at dksX1_isFree_0 7 rfl rfl)
theorem dX1_isFree_10 : decode cX1_isFree 10 = .ok (.istore 5, 2) := dk_54 5 (dk_at dksX1_isFree_0 10 rfl rfl)
theorem dX1_isFree_12 : decode cX1_isFree 12 = .ok (.aload_n 2, 1) := dk_44 (dk_at dksX1_isFree_0 12 rfl rfl)
theorem dX1_isFree_13 : decode cX1_isFree 13 = .ok (.iconst 1, 1) := dk_4 (dk_at dksX1_isFree_0 13 rfl rfl)
theorem dX1_isFree_14 : decode cX1_isFree 14 = .ok (.putfield 146, 3) := dk_181 0 146 (dk_at dksX1_isFree_0 14 rfl rfl)
theorem dX1_isFree_17 : decode cX1_isFree 17 = .ok (.aload_n 3, 1) := dk_45 (dk_at dksX1_isFree_0 17 rfl rfl)
theorem dX1_isFree_18 : decode cX1_isFree 18 = .ok (.iconst 1, 1) := dk_4 (dk_at dksX1_isFree_0 18 rfl rfl)
theorem dX1_isFree_19 : decode cX1_isFree 19 = .ok (.putfield 146, 3) := dk_181 0 146 (dk_at dksX1_isFree_0 19 rfl rfl)
theorem dX1_isFree_22 : decode cX1_isFree 22 = .ok (.aload_n 0, 1) := dk_42 (dk_at dksX1_isFree_0 22 rfl rfl)
theorem dX1_isFree_23 : decode cX1_isFree 23 = .ok (.getfield 36, 3) := dk_180 0 36 (dk_at dksX1_isFree_1 0 rfl rfl)
theorem dX1_isFree_26 : decode cX1_isFree 26 = .ok (.aconst_null, 1) := dk_1 (dk_at dksX1_isFree_1 3 rfl rfl)
theorem dX1_isFree_27 : decode cX1_isFree 27 = .ok (.invokevirtual 126, 3) := dk_182 0 126 (dk_at dksX1_isFree_1 4 rfl rfl)
theorem dX1_isFree_30 : decode cX1_isFree 30 = .ok (.aload_n 1, 1) := dk_43 (dk_at dksX1_isFree_1 7 rfl rfl)
theorem dX1_isFree_31 : decode cX1_isFree 31 = .ok (.invokevirtual 242, 3) := dk_182 0 242 (dk_at dksX1_isFree_1 8 rfl rfl)
theorem dX1_isFree_34 : decode cX1_isFree 34 = .ok (.istore 6, 2) := dk_54 6 (dk_at dksX1_isFree_1 11 rfl rfl)
theorem dX1_isFree_36 : decode cX1_isFree 36 = .ok (.aload_n 2, 1) := dk_44 (dk_at dksX1_isFree_1 13 rfl rfl)
theorem dX1_isFree_37 : decode cX1_isFree 37 = .ok (.iload 4, 2) := dk_21 4 (dk_at dksX1_isFree_1 14 rfl rfl)
theorem dX1_isFree_39 : decode cX1_isFree 39 = .ok (.putfield 146, 3) := dk_181 0 146 (dk_at dksX1_isFree_1 16 rfl rfl)
theorem dX1_isFree_42 : decode cX1_isFree 42 = .ok (.aload_n 3, 1) := dk_45 (dk_at dksX1_isFree_1 19 rfl rfl)
theorem dX1_isFree_43 : decode cX1_isFree 43 = .ok (.iload 5, 2) := dk_21 5 (dk_at dksX1_isFree_1 20 rfl rfl)
theorem dX1_isFree_45 : decode cX1_isFree 45 = .ok (.putfield 146, 3) := dk_181 0 146 (dk_at dksX1_isFree_2 0 rfl rfl)
theorem dX1_isFree_48 : decode cX1_isFree 48 = .ok (.iload 6, 2) := dk_21 6 (dk_at dksX1_isFree_2 3 rfl rfl)
theorem dX1_isFree_50 : decode cX1_isFree 50 = .ok (.ireturn, 1) := dk_172 (dk_at dksX1_isFree_2 5 rfl rfl)
theorem zp_15_7 : zz_pok [15] 7 := zz_pok1 (zR_15, zT_15, 8) (by decide) rfl rfl
theorem q1932 : (Jvm.Cond.code ({ cls := "DebateHall$Minutes", name := "settle", desc := "(LDebateHall$Item;)LDebateHall$Minutes;" } : Jvm.MethodName) prog_12_method_8_code (4 : Nat) (Option.some (Jvm.ClassFile.FieldType.object "DebateHall$Minutes"))) ∈ lw_all := lw_g (lw_at lw_m8 172 rfl) rfl
theorem zk_X3_settle : zz_cd yX3_settle cX3_settle 4 (some (.object "DebateHall$Minutes")) none ∈ lw_all := q1932
theorem zy_X3_settle : zz_yok yX3_settle 1 = true := by decide +kernel
theorem q2008 : (Jvm.Cond.methodLink "DebateHall" (126 : Nat) ({ cls := "DebateHall$Minutes", name := "settle", desc := "(LDebateHall$Item;)LDebateHall$Minutes;" } : Jvm.MethodName)) ∈ lw_all := lw_g (lw_at lw_m9 8 rfl) rfl
theorem q1930 : (Jvm.Cond.instanceMethod ({ cls := "DebateHall$Minutes", name := "settle", desc := "(LDebateHall$Item;)LDebateHall$Minutes;" } : Jvm.MethodName)) ∈ lw_all := lw_g (lw_at lw_m8 170 rfl) rfl
theorem q1931 : (Jvm.Cond.selects "DebateHall$Minutes" ({ cls := "DebateHall$Minutes", name := "settle", desc := "(LDebateHall$Item;)LDebateHall$Minutes;" } : Jvm.MethodName) ({ cls := "DebateHall$Minutes", name := "settle", desc := "(LDebateHall$Item;)LDebateHall$Minutes;" } : Jvm.MethodName)) ∈ lw_all := lw_g (lw_at lw_m8 171 rfl) rfl
def wp_X1_isFree (Z : zzG) (this : Option Nat) (p0 : Option Nat) (p1 : Option Nat) (p2 : Option Nat) (M : zzM) (K : Option Value → zzM → Prop) : Prop := zgI Z M p1 [15] 7 fun x1 => zgI Z M p2 [15] 7 fun x2 => zfit .boolean (1 : Int32) ∧ zput Z M p1 [15] 7 (.int (1 : Int32)) fun M3 => zfit .boolean (1 : Int32) ∧ zput Z M3 p2 [15] 7 (.int (1 : Int32)) fun M4 => zgA Z M4 this [0] 2 fun x5 => zty Z M4 x5 fun t => t = 2 ∧ wp_X3_settle Z x5 none M4 (fun r6 M7 => zrA r6 fun x10 => zty Z M7 x10 fun t => t = 2 ∧ wp_X3_isIn Z x10 p0 M7 (fun r11 M12 => zrI r11 fun x15 => zfit .boolean x1 ∧ zput Z M12 p1 [15] 7 (.int x1) fun M16 => zfit .boolean x2 ∧ zput Z M16 p2 [15] 7 (.int x2) fun M17 => narrow .boolean (.int x15) = .int x15 ∧ K (some (.int x15)) M17))
theorem ok_X1_isFree {Z : zzG} {l : Launch} (hl : l.stackTraces = false) {this : Option Nat} {p0 : Option Nat} {p1 : Option Nat} {p2 : Option Nat} {M : zzM} {mc ms : Nat} {K : Option Value → zzM → Prop} (hw : wp_X1_isFree Z this p0 p1 p2 M K) : zz_Met Z l yX1_isFree (zz_ws yX1_isFree cX1_isFree 7 (some .boolean) none) 6 [va_rf this, va_rf p0, va_rf p1, va_rf p2] M mc ms K (fun _ _ _ => False) := by
  refine zz_ofW hl (plainFor_of_name (by decide)) (by simp only [zz_sl0, zz_slI, zz_slJ, zz_slA] <;> decide) (fun G hZ hll C E hH hR hin => ?_)
  subst hZ
  subst hll
  rw [show lv_args 0 [va_rf this, va_rf p0, va_rf p1, va_rf p2] = [(0, va_rf this), (1, va_rf p0), (2, va_rf p1), (3, va_rf p2)] by simp only [zz_la0, zz_laI, zz_laJ, zz_laA]]
  unfold wp_X1_isFree at hw
  refine zz_aload_n C dX1_isFree_0 rfl 2 rfl ?_
  refine zz_getI C dX1_isFree_1 (Or.inr ⟨_, q1763⟩) zf_15_7_ebateHall_Item hw (fun x1 hw => ?_)
  refine zz_istore (lv' := [(4, .int x1), (0, va_rf this), (1, va_rf p0), (2, va_rf p1), (3, va_rf p2)]) C dX1_isFree_4 (by decide) (by simp [zz_cat, zz_catI, zz_catJ, zz_catD]) ?_
  refine zz_aload_n C dX1_isFree_6 rfl 4 rfl ?_
  refine zz_getI C dX1_isFree_7 (Or.inr ⟨_, q1763⟩) zf_15_7_ebateHall_Item hw (fun x2 hw => ?_)
  refine zz_istore (lv' := [(5, .int x2), (4, .int x1), (0, va_rf this), (1, va_rf p0), (2, va_rf p1), (3, va_rf p2)]) C dX1_isFree_10 (by decide) rfl ?_
  refine zz_aload_n C dX1_isFree_12 rfl 4 rfl ?_
  refine zz_iconst (v := (1 : Int32)) C dX1_isFree_13 (by decide) ?_
  obtain ⟨hfit, hw⟩ := hw
  refine zz_put C dX1_isFree_14 (Or.inr ⟨_, q1763⟩) zf_15_7_ebateHall_Item zp_15_7 (zz_hn1 hfit) hw (fun M3 hw => ?_)
  refine zz_aload_n C dX1_isFree_17 rfl 5 rfl ?_
  refine zz_iconst (v := (1 : Int32)) C dX1_isFree_18 (by decide) ?_
  obtain ⟨hfit, hw⟩ := hw
  refine zz_put C dX1_isFree_19 (Or.inr ⟨_, q1763⟩) zf_15_7_ebateHall_Item zp_15_7 (zz_hn1 hfit) hw (fun M4 hw => ?_)
  refine zz_aload_n C dX1_isFree_22 rfl 2 rfl ?_
  refine zz_getA C dX1_isFree_23 (Or.inl q305) zf_0_2_DebateHall hw (fun x5 hw => ?_)
  refine zz_null C dX1_isFree_26 ?_
  obtain ⟨a9, t9, b9, fs9, hro, hL, rfl, hw⟩ := ztyS hw
  refine zz_callV (r := (zR_2, zT_2, 8)) (As := [va_rf none]) (rest := []) (mc := 0) (ms := 0) C hR hro dX1_isFree_27 (Or.inl q2008) q1930 (Or.inl q1931) zl_DebateHall_Minutes zk_X3_settle (Or.inl rfl) zy_X3_settle rfl (by decide) (by decide) hL (ok_X3_settle (zz_hl C) hw) (Nat.zero_le _) (Nat.zero_le _) (zz_cat10 _ (Nat.le_of_ble_eq_true rfl)) (fun r6 M7 hw => zz_kA hw (fun x10 hw => ?_)) (fun _ _ _ h9 => h9.elim) rfl
  refine zz_aload_n C dX1_isFree_30 rfl 3 rfl ?_
  obtain ⟨a9, t9, b9, fs9, hro, hL, rfl, hw⟩ := ztyS hw
  refine zz_callV (r := (zR_2, zT_2, 8)) (As := [va_rf p0]) (rest := []) (mc := 0) (ms := 0) C hR hro dX1_isFree_31 (Or.inr ⟨_, q2117⟩) q1944 (Or.inl qs19) zl_DebateHall_Minutes zk_X3_isIn (Or.inl rfl) zy_X3_isIn rfl (by decide) (by decide) hL (ok_X3_isIn (zz_hl C) hw) (Nat.zero_le _) (Nat.zero_le _) (zz_cat10 _ (Nat.le_of_ble_eq_true rfl)) (fun r11 M12 hw => zz_kI hw (fun x15 hw => ?_)) (fun _ _ _ h9 => h9.elim) rfl
  refine zz_istore (lv' := [(6, .int x15), (5, .int x2), (4, .int x1), (0, va_rf this), (1, va_rf p0), (2, va_rf p1), (3, va_rf p2)]) C dX1_isFree_34 (by decide) rfl ?_
  refine zz_aload_n C dX1_isFree_36 rfl 5 rfl ?_
  refine zz_iload C dX1_isFree_37 2 rfl ?_
  obtain ⟨hfit, hw⟩ := hw
  refine zz_put C dX1_isFree_39 (Or.inr ⟨_, q1763⟩) zf_15_7_ebateHall_Item zp_15_7 (zz_hn1 hfit) hw (fun M16 hw => ?_)
  refine zz_aload_n C dX1_isFree_42 rfl 6 rfl ?_
  refine zz_iload C dX1_isFree_43 1 rfl ?_
  obtain ⟨hfit, hw⟩ := hw
  refine zz_put C dX1_isFree_45 (Or.inr ⟨_, q1763⟩) zf_15_7_ebateHall_Item zp_15_7 (zz_hn1 hfit) hw (fun M17 hw => ?_)
  refine zz_iload C dX1_isFree_48 0 rfl ?_
  exact zz_zret C E dX1_isFree_50 hw
abbrev cX1_fewest : ByteArray := prog_1_method_31_code
def yX1_fewest : MethodName := ⟨"DebateHall", "fewest", "(LDebateHall$Item;)I"⟩
def dkwX1_fewest_7 : List UInt8 := [96, 172, 132, 4, 1, 167, 255, 181, 167, 255, 151, 2, 172]
abbrev dktX1_fewest_7 : List UInt8 := dkwX1_fewest_7 ++ []
def dkwX1_fewest_6 : List UInt8 := [25, 5, 182, 0, 255, 153, 0, 21, 16, 100, 4, 45, 180, 0, 215, 96, 104, 4, 96, 25, 5, 180, 0, 215]
abbrev dktX1_fewest_6 : List UInt8 := dkwX1_fewest_6 ++ dktX1_fewest_7
def dkwX1_fewest_5 : List UInt8 := [21, 4, 182, 0, 64, 192, 0, 68, 58, 5, 45, 43, 165, 0, 38, 25, 5, 43, 165, 0, 32, 42, 43, 45]
abbrev dktX1_fewest_5 : List UInt8 := dkwX1_fewest_5 ++ dktX1_fewest_6
def dkwX1_fewest_4 : List UInt8 := [54, 4, 21, 4, 42, 180, 0, 36, 180, 0, 61, 182, 0, 51, 162, 0, 66, 42, 180, 0, 36, 180, 0, 61]
abbrev dktX1_fewest_4 : List UInt8 := dkwX1_fewest_4 ++ dktX1_fewest_5
def dkwX1_fewest_3 : List UInt8 := [185, 0, 110, 1, 0, 153, 0, 102, 44, 185, 0, 116, 1, 0, 192, 0, 68, 78, 45, 180, 0, 215, 4, 96]
abbrev dktX1_fewest_3 : List UInt8 := dkwX1_fewest_3 ++ dktX1_fewest_4
def dkwX1_fewest_2 : List UInt8 := [4, 45, 180, 0, 215, 96, 172, 167, 255, 215, 42, 180, 0, 36, 180, 0, 61, 182, 0, 138, 77, 44]
abbrev dktX1_fewest_2 : List UInt8 := dkwX1_fewest_2 ++ dktX1_fewest_3
def dkwX1_fewest_1 : List UInt8 := [185, 0, 116, 1, 0, 192, 0, 68, 78, 45, 43, 165, 0, 20, 42, 43, 45, 45, 182, 0, 255, 153, 0, 10]
abbrev dktX1_fewest_1 : List UInt8 := dkwX1_fewest_1 ++ dktX1_fewest_2
def dkwX1_fewest_0 : List UInt8 := [42, 180, 0, 36, 180, 0, 61, 182, 0, 138, 77, 44, 185, 0, 110, 1, 0, 153, 0, 38, 44]
abbrev dktX1_fewest_0 : List UInt8 := dkwX1_fewest_0 ++ dktX1_fewest_1
theorem dksX1_fewest_0 : cX1_fewest.data.toList.drop 0 = dktX1_fewest_0 := by decide +kernel
theorem dksX1_fewest_1 : cX1_fewest.data.toList.drop 21 = dktX1_fewest_1 := dk_seg dksX1_fewest_0 21 rfl rfl
theorem dksX1_fewest_2 : cX1_fewest.data.toList.drop 45 = dktX1_fewest_2 := dk_seg dksX1_fewest_1 24 rfl rfl
theorem dksX1_fewest_3 : cX1_fewest.data.toList.drop 67 = dktX1_fewest_3 := dk_seg dksX1_fewest_2 22 rfl rfl
theorem dksX1_fewest_4 : cX1_fewest.data.toList.drop 91 = dktX1_fewest_4 := dk_seg dksX1_fewest_3 24 rfl rfl
theorem dksX1_fewest_5 : cX1_fewest.data.toList.drop 115 = dktX1_fewest_5 := dk_seg dksX1_fewest_4 24 rfl rfl
theorem dksX1_fewest_6 : cX1_fewest.data.toList.drop 139 = dktX1_fewest_6 := dk_seg dksX1_fewest_5 24 rfl rfl
theorem dksX1_fewest_7 : cX1_fewest.data.toList.drop 163 = dktX1_fewest_7 := dk_seg dksX1_fewest_6 24 rfl rfl
theorem dX1_fewest_0 : decode cX1_fewest 0 = .ok (.aload_n 0, 1) := dk_42 (dk_at dksX1_fewest_0 0 rfl rfl)
theorem dX1_fewest_1 : decode cX1_fewest 1 = .ok (.getfield 36, 3) := dk_180 0 36 (dk_at dksX1_fewest_0 1 rfl rfl)
theorem dX1_fewest_4 : decode cX1_fewest 4 = .ok (.getfield 61, 3) := dk_180 0 61 (dk_at dksX1_fewest_0 4 rfl rfl)
theorem dX1_fewest_7 : decode cX1_fewest 7 = .ok (.invokevirtual 138, 3) := dk_182 0 138 (dk_at dksX1_fewest_0 7 rfl rfl)
theorem dX1_fewest_10 : decode cX1_fewest 10 = .ok (.astore_n 2, 1) := dk_77 (dk_at dksX1_fewest_0 10 rfl rfl)
theorem dX1_fewest_11 : decode cX1_fewest 11 = .ok (.aload_n 2, 1) := dk_44 (dk_at dksX1_fewest_0 11 rfl rfl)
theorem dX1_fewest_12 : decode cX1_fewest 12 = .ok (.invokeinterface 110 1, 5) := by decide +kernel
theorem dX1_fewest_17 : decode cX1_fewest 17 = .ok (.ifCond .eq 38, 3) := dk_153 0 38 (dk_at dksX1_fewest_0 17 rfl rfl)
theorem dX1_fewest_20 : decode cX1_fewest 20 = .ok (.aload_n 2, 1) := dk_44 (dk_at dksX1_fewest_0 20 rfl rfl)
theorem dX1_fewest_21 : decode cX1_fewest 21 = .ok (.invokeinterface 116 1, 5) := by decide +kernel
theorem dX1_fewest_26 : decode cX1_fewest 26 = .ok (.checkcast 68, 3) := dk_192 0 68 (dk_at dksX1_fewest_1 5 rfl rfl)
theorem dX1_fewest_29 : decode cX1_fewest 29 = .ok (.astore_n 3, 1) := dk_78 (dk_at dksX1_fewest_1 8 rfl rfl)
theorem dX1_fewest_30 : decode cX1_fewest 30 = .ok (.aload_n 3, 1) := dk_45 (dk_at dksX1_fewest_1 9 rfl rfl)
theorem dX1_fewest_31 : decode cX1_fewest 31 = .ok (.aload_n 1, 1) := dk_43 (dk_at dksX1_fewest_1 10 rfl rfl)
theorem dX1_fewest_32 : decode cX1_fewest 32 = .ok (.if_acmp .eq 20, 3) := dk_165 0 20 (dk_at dksX1_fewest_1 11 rfl rfl)
theorem dX1_fewest_35 : decode cX1_fewest 35 = .ok (.aload_n 0, 1) := dk_42 (dk_at dksX1_fewest_1 14 rfl rfl)
theorem dX1_fewest_36 : decode cX1_fewest 36 = .ok (.aload_n 1, 1) := dk_43 (dk_at dksX1_fewest_1 15 rfl rfl)
theorem dX1_fewest_37 : decode cX1_fewest 37 = .ok (.aload_n 3, 1) := dk_45 (dk_at dksX1_fewest_1 16 rfl rfl)
theorem dX1_fewest_38 : decode cX1_fewest 38 = .ok (.aload_n 3, 1) := dk_45 (dk_at dksX1_fewest_1 17 rfl rfl)
theorem dX1_fewest_39 : decode cX1_fewest 39 = .ok (.invokevirtual 255, 3) := dk_182 0 255 (dk_at dksX1_fewest_1 18 rfl rfl)
theorem dX1_fewest_42 : decode cX1_fewest 42 = .ok (.ifCond .eq 10, 3) := dk_153 0 10 (dk_at dksX1_fewest_1 21 rfl rfl)
theorem dX1_fewest_45 : decode cX1_fewest 45 = .ok (.iconst 1, 1) := dk_4 (dk_at dksX1_fewest_2 0 rfl rfl)
theorem dX1_fewest_46 : decode cX1_fewest 46 = .ok (.aload_n 3, 1) := dk_45 (dk_at dksX1_fewest_2 1 rfl rfl)
theorem dX1_fewest_47 : decode cX1_fewest 47 = .ok (.getfield 215, 3) := dk_180 0 215 (dk_at dksX1_fewest_2 2 rfl rfl)
theorem dX1_fewest_50 : decode cX1_fewest 50 = .ok (.iadd, 1) := dk_96 (dk_at dksX1_fewest_2 5 rfl rfl)
theorem dX1_fewest_51 : decode cX1_fewest 51 = .ok (.ireturn, 1) := dk_172 (dk_at dksX1_fewest_2 6 rfl rfl)
theorem dX1_fewest_52 : decode cX1_fewest 52 = .ok (.goto (-41), 3) := dk_167 255 215 (dk_at dksX1_fewest_2 7 rfl rfl)
theorem dX1_fewest_55 : decode cX1_fewest 55 = .ok (.aload_n 0, 1) := dk_42 (dk_at dksX1_fewest_2 10 rfl rfl)
theorem dX1_fewest_56 : decode cX1_fewest 56 = .ok (.getfield 36, 3) := dk_180 0 36 (dk_at dksX1_fewest_2 11 rfl rfl)
theorem dX1_fewest_59 : decode cX1_fewest 59 = .ok (.getfield 61, 3) := dk_180 0 61 (dk_at dksX1_fewest_2 14 rfl rfl)
theorem dX1_fewest_62 : decode cX1_fewest 62 = .ok (.invokevirtual 138, 3) := dk_182 0 138 (dk_at dksX1_fewest_2 17 rfl rfl)
theorem dX1_fewest_65 : decode cX1_fewest 65 = .ok (.astore_n 2, 1) := dk_77 (dk_at dksX1_fewest_2 20 rfl rfl)
theorem dX1_fewest_66 : decode cX1_fewest 66 = .ok (.aload_n 2, 1) := dk_44 (dk_at dksX1_fewest_2 21 rfl rfl)
theorem dX1_fewest_67 : decode cX1_fewest 67 = .ok (.invokeinterface 110 1, 5) := by decide +kernel
theorem dX1_fewest_72 : decode cX1_fewest 72 = .ok (.ifCond .eq 102, 3) := dk_153 0 102 (dk_at dksX1_fewest_3 5 rfl rfl)
theorem dX1_fewest_75 : decode cX1_fewest 75 = .ok (.aload_n 2, 1) := dk_44 (dk_at dksX1_fewest_3 8 rfl rfl)
theorem dX1_fewest_76 : decode cX1_fewest 76 = .ok (.invokeinterface 116 1, 5) := by decide +kernel
theorem dX1_fewest_81 : decode cX1_fewest 81 = .ok (.checkcast 68, 3) := dk_192 0 68 (dk_at dksX1_fewest_3 14 rfl rfl)
theorem dX1_fewest_84 : decode cX1_fewest 84 = .ok (.astore_n 3, 1) := dk_78 (dk_at dksX1_fewest_3 17 rfl rfl)
theorem dX1_fewest_85 : decode cX1_fewest 85 = .ok (.aload_n 3, 1) := dk_45 (dk_at dksX1_fewest_3 18 rfl rfl)
theorem dX1_fewest_86 : decode cX1_fewest 86 = .ok (.getfield 215, 3) := dk_180 0 215 (dk_at dksX1_fewest_3 19 rfl rfl)
theorem dX1_fewest_89 : decode cX1_fewest 89 = .ok (.iconst 1, 1) := dk_4 (dk_at dksX1_fewest_3 22 rfl rfl)
theorem dX1_fewest_90 : decode cX1_fewest 90 = .ok (.iadd, 1) := dk_96 (dk_at dksX1_fewest_3 23 rfl rfl)
theorem dX1_fewest_91 : decode cX1_fewest 91 = .ok (.istore 4, 2) := dk_54 4 (dk_at dksX1_fewest_4 0 rfl rfl)
theorem dX1_fewest_93 : decode cX1_fewest 93 = .ok (.iload 4, 2) := dk_21 4 (dk_at dksX1_fewest_4 2 rfl rfl)
theorem dX1_fewest_95 : decode cX1_fewest 95 = .ok (.aload_n 0, 1) := dk_42 (dk_at dksX1_fewest_4 4 rfl rfl)
theorem dX1_fewest_96 : decode cX1_fewest 96 = .ok (.getfield 36, 3) := dk_180 0 36 (dk_at dksX1_fewest_4 5 rfl rfl)
theorem dX1_fewest_99 : decode cX1_fewest 99 = .ok (.getfield 61, 3) := dk_180 0 61 (dk_at dksX1_fewest_4 8 rfl rfl)
theorem dX1_fewest_102 : decode cX1_fewest 102 = .ok (.invokevirtual 51, 3) := dk_182 0 51 (dk_at dksX1_fewest_4 11 rfl rfl)
theorem dX1_fewest_105 : decode cX1_fewest 105 = .ok (.if_icmp .ge 66, 3) := dk_162 0 66 (dk_at dksX1_fewest_4 14 rfl rfl)
theorem dX1_fewest_108 : decode cX1_fewest 108 = .ok (.aload_n 0, 1) := dk_42 (dk_at dksX1_fewest_4 17 rfl rfl)
theorem dX1_fewest_109 : decode cX1_fewest 109 = .ok (.getfield 36, 3) := dk_180 0 36 (dk_at dksX1_fewest_4 18 rfl rfl)
theorem dX1_fewest_112 : decode cX1_fewest 112 = .ok (.getfield 61, 3) := dk_180 0 61 (dk_at dksX1_fewest_4 21 rfl rfl)
theorem dX1_fewest_115 : decode cX1_fewest 115 = .ok (.iload 4, 2) := dk_21 4 (dk_at dksX1_fewest_5 0 rfl rfl)
theorem dX1_fewest_117 : decode cX1_fewest 117 = .ok (.invokevirtual 64, 3) := dk_182 0 64 (dk_at dksX1_fewest_5 2 rfl rfl)
theorem dX1_fewest_120 : decode cX1_fewest 120 = .ok (.checkcast 68, 3) := dk_192 0 68 (dk_at dksX1_fewest_5 5 rfl rfl)
theorem dX1_fewest_123 : decode cX1_fewest 123 = .ok (.astore 5, 2) := dk_58 5 (dk_at dksX1_fewest_5 8 rfl rfl)
theorem dX1_fewest_125 : decode cX1_fewest 125 = .ok (.aload_n 3, 1) := dk_45 (dk_at dksX1_fewest_5 10 rfl rfl)
theorem dX1_fewest_126 : decode cX1_fewest 126 = .ok (.aload_n 1, 1) := dk_43 (dk_at dksX1_fewest_5 11 rfl rfl)
theorem dX1_fewest_127 : decode cX1_fewest 127 = .ok (.if_acmp .eq 38, 3) := dk_165 0 38 (dk_at dksX1_fewest_5 12 rfl rfl)
theorem dX1_fewest_130 : decode cX1_fewest 130 = .ok (.aload 5, 2) := dk_25 5 (dk_at dksX1_fewest_5 15 rfl rfl)
theorem dX1_fewest_132 : decode cX1_fewest 132 = .ok (.aload_n 1, 1) := dk_43 (dk_at dksX1_fewest_5 17 rfl rfl)
theorem dX1_fewest_133 : decode cX1_fewest 133 = .ok (.if_acmp .eq 32, 3) := dk_165 0 32 (dk_at dksX1_fewest_5 18 rfl rfl)
theorem dX1_fewest_136 : decode cX1_fewest 136 = .ok (.aload_n 0, 1) := dk_42 (dk_at dksX1_fewest_5 21 rfl rfl)
theorem dX1_fewest_137 : decode cX1_fewest 137 = .ok (.aload_n 1, 1) := dk_43 (dk_at dksX1_fewest_5 22 rfl rfl)
theorem dX1_fewest_138 : decode cX1_fewest 138 = .ok (.aload_n 3, 1) := dk_45 (dk_at dksX1_fewest_5 23 rfl rfl)
theorem dX1_fewest_139 : decode cX1_fewest 139 = .ok (.aload 5, 2) := dk_25 5 (dk_at dksX1_fewest_6 0 rfl rfl)
theorem dX1_fewest_141 : decode cX1_fewest 141 = .ok (.invokevirtual 255, 3) := dk_182 0 255 (dk_at dksX1_fewest_6 2 rfl rfl)
theorem dX1_fewest_144 : decode cX1_fewest 144 = .ok (.ifCond .eq 21, 3) := dk_153 0 21 (dk_at dksX1_fewest_6 5 rfl rfl)
theorem dX1_fewest_147 : decode cX1_fewest 147 = .ok (.bipush 100, 2) := dk_16 100 (dk_at dksX1_fewest_6 8 rfl rfl)
theorem dX1_fewest_149 : decode cX1_fewest 149 = .ok (.iconst 1, 1) := dk_4 (dk_at dksX1_fewest_6 10 rfl rfl)
theorem dX1_fewest_150 : decode cX1_fewest 150 = .ok (.aload_n 3, 1) := dk_45 (dk_at dksX1_fewest_6 11 rfl rfl)
theorem dX1_fewest_151 : decode cX1_fewest 151 = .ok (.getfield 215, 3) := dk_180 0 215 (dk_at dksX1_fewest_6 12 rfl rfl)
theorem dX1_fewest_154 : decode cX1_fewest 154 = .ok (.iadd, 1) := dk_96 (dk_at dksX1_fewest_6 15 rfl rfl)
theorem dX1_fewest_155 : decode cX1_fewest 155 = .ok (.imul, 1) := dk_104 (dk_at dksX1_fewest_6 16 rfl rfl)
theorem dX1_fewest_156 : decode cX1_fewest 156 = .ok (.iconst 1, 1) := dk_4 (dk_at dksX1_fewest_6 17 rfl rfl)
theorem dX1_fewest_157 : decode cX1_fewest 157 = .ok (.iadd, 1) := dk_96 (dk_at dksX1_fewest_6 18 rfl rfl)
theorem dX1_fewest_158 : decode cX1_fewest 158 = .ok (.aload 5, 2) := dk_25 5 (dk_at dksX1_fewest_6 19 rfl rfl)
theorem dX1_fewest_160 : decode cX1_fewest 160 = .ok (.getfield 215, 3) := dk_180 0 215 (dk_at dksX1_fewest_6 21 rfl rfl)
theorem dX1_fewest_163 : decode cX1_fewest 163 = .ok (.iadd, 1) := dk_96 (dk_at dksX1_fewest_7 0 rfl rfl)
theorem dX1_fewest_164 : decode cX1_fewest 164 = .ok (.ireturn, 1) := dk_172 (dk_at dksX1_fewest_7 1 rfl rfl)
theorem dX1_fewest_165 : decode cX1_fewest 165 = .ok (.iinc 4 1, 3) := dk_132 4 1 (dk_at dksX1_fewest_7 2 rfl rfl)
theorem dX1_fewest_168 : decode cX1_fewest 168 = .ok (.goto (-75), 3) := dk_167 255 181 (dk_at dksX1_fewest_7 5 rfl rfl)
theorem dX1_fewest_171 : decode cX1_fewest 171 = .ok (.goto (-105), 3) := dk_167 255 151 (dk_at dksX1_fewest_7 8 rfl rfl)
theorem dX1_fewest_174 : decode cX1_fewest 174 = .ok (.iconst (-1), 1) := dk_2 (dk_at dksX1_fewest_7 11 rfl rfl)
theorem dX1_fewest_175 : decode cX1_fewest 175 = .ok (.ireturn, 1) := dk_172 (dk_at dksX1_fewest_7 12 rfl rfl)
theorem q2367 : (Jvm.Cond.code ({ cls := "DebateHall", name := "isFree", desc := "(LDebateHall$Item;LDebateHall$Item;LDebateHall$Item;)Z" } : Jvm.MethodName) prog_1_method_30_code (7 : Nat) (Option.some Jvm.ClassFile.FieldType.boolean)) ∈ lw_all := lw_g (lw_at lw_m10 127 rfl) rfl
theorem zk_X1_isFree : zz_cd yX1_isFree cX1_isFree 7 (some .boolean) none ∈ lw_all := q2367
theorem zy_X1_isFree : zz_yok yX1_isFree 3 = true := by decide +kernel
theorem q2364 : (Jvm.Cond.methodLink "DebateHall" (255 : Nat) ({ cls := "DebateHall", name := "isFree", desc := "(LDebateHall$Item;LDebateHall$Item;LDebateHall$Item;)Z" } : Jvm.MethodName)) ∈ lw_all := lw_g (lw_at lw_m10 124 rfl) rfl
theorem q2366 : (Jvm.Cond.instanceMethod ({ cls := "DebateHall", name := "isFree", desc := "(LDebateHall$Item;LDebateHall$Item;LDebateHall$Item;)Z" } : Jvm.MethodName)) ∈ lw_all := lw_g (lw_at lw_m10 126 rfl) rfl
def wp_X1_fewest_B52 (Z : zzG) (k11 : Option Nat → Option Nat → Option Nat → zzM → Nat → Nat → Prop) (K : Option Value → zzM → Prop) (v0 : Option Nat) (v1 : Option Nat) (v2 : Option Nat) (M : zzM) (bc bs : Nat) : Prop := k11 v0 v1 v2 M bc bs
def wp_X1_fewest_B165 (Z : zzG) (k66 : Option Nat → Option Nat → Option Nat → zzM → Nat → Nat → Prop) (k93 : Option Nat → Option Nat → Option Nat → Option Nat → Int32 → zzM → Nat → Nat → Prop) (K : Option Value → zzM → Prop) (v0 : Option Nat) (v1 : Option Nat) (v2 : Option Nat) (v3 : Option Nat) (v4 : Int32) (M : zzM) (bc bs : Nat) : Prop := k93 v0 v1 v2 v3 (v4 + 1) M bc bs
def wp_X1_fewest_L93 (Z : zzG) (k66 : Option Nat → Option Nat → Option Nat → zzM → Nat → Nat → Prop) (K : Option Value → zzM → Prop) : Nat → Option Nat → Option Nat → Option Nat → Option Nat → Int32 → zzM → Nat → Nat → Prop
  | 0, _, _, _, _, _, _, _, _ => False
  | n + 1, v0, v1, v2, v3, v4, M, bc, bs => zgA Z M v0 [0] 2 fun x42 => zgA Z M x42 [2] 1 fun x43 => zty Z M x43 fun t => t = 18 ∧ wp_J2_size Z x43 M (fun r44 M45 => zrI r44 fun x48 => if x48 ≤ v4 then (k66 v0 v1 v2 M45 bc bs) else (zgA Z M45 v0 [0] 2 fun x49 => zgA Z M45 x49 [2] 1 fun x50 => zty Z M45 x50 fun t => t = 18 ∧ wp_J2_get Z x50 v4 M45 (fun r51 M52 => zrA r51 fun x55 => zcast Z M52 x55 [15] <| if v3 = v1 then (wp_X1_fewest_B165 Z k66 (wp_X1_fewest_L93 Z k66 K n) K v0 v1 v2 v3 v4 M52 bc bs) else (if x55 = v1 then (wp_X1_fewest_B165 Z k66 (wp_X1_fewest_L93 Z k66 K n) K v0 v1 v2 v3 v4 M52 bc bs) else (zty Z M52 v0 fun t => t = 0 ∧ wp_X1_isFree Z v0 v1 v3 x55 M52 (fun r56 M57 => zrI r56 fun x60 => if x60 = 0 then (wp_X1_fewest_B165 Z k66 (wp_X1_fewest_L93 Z k66 K n) K v0 v1 v2 v3 v4 M57 bc bs) else (zgI Z M57 v3 [15] 0 fun x61 => zgI Z M57 x55 [15] 0 fun x62 => K (some (.int ((((100 : Int32) * ((1 : Int32) + x61)) + (1 : Int32)) + x62))) M57)))))))
def wp_X1_fewest_L66 (Z : zzG) (K : Option Value → zzM → Prop) : Nat → Option Nat → Option Nat → Option Nat → zzM → Nat → Nat → Prop
  | 0, _, _, _, _, _, _ => False
  | n + 1, v0, v1, v2, M, bc, bs => zty Z M v2 fun t => t = 23 ∧ wp_J24_hasNext Z v2 M (fun r31 M32 => zrI r31 fun x35 => if x35 = 0 then (K (some (.int (-1 : Int32))) M32) else (zty Z M32 v2 fun t => t = 23 ∧ wp_J24_next Z v2 M32 (fun r36 M37 => zrA r36 fun x40 => zcast Z M37 x40 [15] <| zgI Z M37 x40 [15] 0 fun x41 => ∃ n93 : Nat, wp_X1_fewest_L93 Z (wp_X1_fewest_L66 Z K n) K n93 v0 v1 v2 x40 (x41 + (1 : Int32)) M37 bc bs)))
def wp_X1_fewest_L11 (Z : zzG) (K : Option Value → zzM → Prop) : Nat → Option Nat → Option Nat → Option Nat → zzM → Nat → Nat → Prop
  | 0, _, _, _, _, _, _ => False
  | n + 1, v0, v1, v2, M, bc, bs => zty Z M v2 fun t => t = 23 ∧ wp_J24_hasNext Z v2 M (fun r8 M9 => zrI r8 fun x12 => if x12 = 0 then (zgA Z M9 v0 [0] 2 fun x13 => zgA Z M9 x13 [2] 1 fun x14 => zty Z M9 x14 fun t => t = 18 ∧ zcc bc bs (fun c s k => wp_J2_iterator Z x14 M9 c s k) fun r15 M16 bc17 bs18 => zrA r15 fun x19 => ∃ n66 : Nat, wp_X1_fewest_L66 Z K n66 v0 v1 x19 M16 bc17 bs18) else (zty Z M9 v2 fun t => t = 23 ∧ wp_J24_next Z v2 M9 (fun r20 M21 => zrA r20 fun x24 => zcast Z M21 x24 [15] <| if x24 = v1 then (wp_X1_fewest_B52 Z (wp_X1_fewest_L11 Z K n) K v0 v1 v2 M21 bc bs) else (zty Z M21 v0 fun t => t = 0 ∧ wp_X1_isFree Z v0 v1 x24 x24 M21 (fun r25 M26 => zrI r25 fun x29 => if x29 = 0 then (wp_X1_fewest_B52 Z (wp_X1_fewest_L11 Z K n) K v0 v1 v2 M26 bc bs) else (zgI Z M26 x24 [15] 0 fun x30 => K (some (.int ((1 : Int32) + x30))) M26))))))
def wp_X1_fewest (Z : zzG) (this : Option Nat) (p0 : Option Nat) (M : zzM) (bc bs : Nat) (K : Option Value → zzM → Prop) : Prop := zgA Z M this [0] 2 fun x1 => zgA Z M x1 [2] 1 fun x2 => zty Z M x2 fun t => t = 18 ∧ zcc bc bs (fun c s k => wp_J2_iterator Z x2 M c s k) fun r3 M4 bc5 bs6 => zrA r3 fun x7 => ∃ n11 : Nat, wp_X1_fewest_L11 Z K n11 this p0 x7 M4 bc5 bs6
theorem ok_X1_fewest_B52 {G : zzX} (C : zz_C G cX1_fewest "DebateHall" 6) {K : Option Value → zzM → Prop} (E : zz_E G (some .int) K (fun _ _ _ => False)) (hH : zz_H G []) (hR : zz_Rm G 7) {k11 : Option Nat → Option Nat → Option Nat → zzM → Nat → Nat → Prop} (hk11 : ∀ (z0 : Option Nat) (z1 : Option Nat) (z2 : Option Nat) (M : zzM) (bc bs : Nat), k11 z0 z1 z2 M bc bs → zz_T G 6 M bc bs 11 [(0, va_rf z0), (1, va_rf z1), (2, va_rf z2)] []) {v0 : Option Nat} {v1 : Option Nat} {v2 : Option Nat} {M : zzM} {bc bs : Nat} (hw : wp_X1_fewest_B52 (zz_Zof G) k11 K v0 v1 v2 M bc bs) : zz_T G 6 M bc bs 52 [(0, va_rf v0), (1, va_rf v1), (2, va_rf v2)] [] := by
  unfold wp_X1_fewest_B52 at hw
  refine zz_goto (tgt := 11) C dX1_fewest_52 (by decide) ?_
  refine zz_subP [0, 1, 2] rfl ?_
  exact hk11 _ _ _ _ _ _ hw
theorem ok_X1_fewest_B165 {G : zzX} (C : zz_C G cX1_fewest "DebateHall" 6) {K : Option Value → zzM → Prop} (E : zz_E G (some .int) K (fun _ _ _ => False)) (hH : zz_H G []) (hR : zz_Rm G 7) {k66 : Option Nat → Option Nat → Option Nat → zzM → Nat → Nat → Prop} (hk66 : ∀ (z0 : Option Nat) (z1 : Option Nat) (z2 : Option Nat) (M : zzM) (bc bs : Nat), k66 z0 z1 z2 M bc bs → zz_T G 6 M bc bs 66 [(0, va_rf z0), (1, va_rf z1), (2, va_rf z2)] []) {k93 : Option Nat → Option Nat → Option Nat → Option Nat → Int32 → zzM → Nat → Nat → Prop} (hk93 : ∀ (z0 : Option Nat) (z1 : Option Nat) (z2 : Option Nat) (z3 : Option Nat) (z4 : Int32) (M : zzM) (bc bs : Nat), k93 z0 z1 z2 z3 z4 M bc bs → zz_T G 6 M bc bs 93 [(0, va_rf z0), (1, va_rf z1), (2, va_rf z2), (3, va_rf z3), (4, .int z4)] []) {v0 : Option Nat} {v1 : Option Nat} {v2 : Option Nat} {v3 : Option Nat} {v4 : Int32} {M : zzM} {bc bs : Nat} (hw : wp_X1_fewest_B165 (zz_Zof G) k66 k93 K v0 v1 v2 v3 v4 M bc bs) : zz_T G 6 M bc bs 165 [(0, va_rf v0), (1, va_rf v1), (2, va_rf v2), (3, va_rf v3), (4, .int v4)] [] := by
  unfold wp_X1_fewest_B165 at hw
  refine zz_iinc (lv' := [(4, .int (v4 + 1)), (0, va_rf v0), (1, va_rf v1), (2, va_rf v2), (3, va_rf v3)]) C dX1_fewest_165 4 rfl (by rfl) (by decide) (by simp [zz_cat, zz_catI, zz_catJ, zz_catD]) ?_
  refine zz_goto (tgt := 93) C dX1_fewest_168 (by decide) ?_
  refine zz_subP [1, 2, 3, 4, 0] rfl ?_
  exact hk93 _ _ _ _ _ _ _ _ hw
theorem ok_X1_fewest_L93 {G : zzX} (C : zz_C G cX1_fewest "DebateHall" 6) {K : Option Value → zzM → Prop} (E : zz_E G (some .int) K (fun _ _ _ => False)) (hH : zz_H G []) (hR : zz_Rm G 7) {k66 : Option Nat → Option Nat → Option Nat → zzM → Nat → Nat → Prop} (hk66 : ∀ (z0 : Option Nat) (z1 : Option Nat) (z2 : Option Nat) (M : zzM) (bc bs : Nat), k66 z0 z1 z2 M bc bs → zz_T G 6 M bc bs 66 [(0, va_rf z0), (1, va_rf z1), (2, va_rf z2)] []) : ∀ (n : Nat) (v0 : Option Nat) (v1 : Option Nat) (v2 : Option Nat) (v3 : Option Nat) (v4 : Int32) (M : zzM) (bc bs : Nat), wp_X1_fewest_L93 (zz_Zof G) k66 K n v0 v1 v2 v3 v4 M bc bs → zz_T G 6 M bc bs 93 [(0, va_rf v0), (1, va_rf v1), (2, va_rf v2), (3, va_rf v3), (4, .int v4)] [] := by
  intro n
  induction n with
  | zero =>
    intro v0 v1 v2 v3 v4 M bc bs hw
    exact False.elim hw
  | succ n ih =>
    intro v0 v1 v2 v3 v4 M bc bs hw
    refine zz_iload C dX1_fewest_93 4 rfl ?_
    refine zz_aload_n C dX1_fewest_95 rfl 0 rfl ?_
    refine zz_getA C dX1_fewest_96 (Or.inl q305) zf_0_2_DebateHall hw (fun x42 hw => ?_)
    refine zz_getA C dX1_fewest_99 (Or.inr ⟨_, q239⟩) zf_2_1_teHall_Minutes hw (fun x43 hw => ?_)
    obtain ⟨a9, t9, b9, fs9, hro, hL, rfl, hw⟩ := ztyS hw
    refine zz_callV (r := (zR_18, zT_18, 3)) (As := []) (rest := [.int v4]) (mc := 0) (ms := 0) C hR hro dX1_fewest_102 (Or.inl q2017) q354 (Or.inl q355) zl_java_util_ArrayList zk_J2_size (Or.inl rfl) zy_J2_size rfl (by decide) (by decide) hL (ok_J2_size (zz_hl C) hw) (Nat.zero_le _) (Nat.zero_le _) (zz_cat10 _ (Nat.le_of_ble_eq_true rfl)) (fun r44 M45 hw => zz_kI hw (fun x48 hw => ?_)) (fun _ _ _ h9 => h9.elim) rfl
    refine zz_icmp_ge (tgt := 171) C dX1_fewest_105 (by decide) hw (fun hw => ?_) (fun hw => ?_)
    · refine zz_goto (tgt := 66) C dX1_fewest_171 (by decide) ?_
      refine zz_subP [0, 1, 2] rfl ?_
      exact hk66 _ _ _ _ _ _ hw
    · refine zz_aload_n C dX1_fewest_108 rfl 0 rfl ?_
      refine zz_getA C dX1_fewest_109 (Or.inl q305) zf_0_2_DebateHall hw (fun x49 hw => ?_)
      refine zz_getA C dX1_fewest_112 (Or.inr ⟨_, q239⟩) zf_2_1_teHall_Minutes hw (fun x50 hw => ?_)
      refine zz_iload C dX1_fewest_115 4 rfl ?_
      obtain ⟨a9, t9, b9, fs9, hro, hL, rfl, hw⟩ := ztyS hw
      refine zz_callV (r := (zR_18, zT_18, 3)) (As := [.int v4]) (rest := []) (mc := 0) (ms := 0) C hR hro dX1_fewest_117 (Or.inl q2108) q877 (Or.inl q2872) zl_java_util_ArrayList zk_J2_get (Or.inl rfl) zy_J2_get rfl (by decide) (by decide) hL (ok_J2_get (zz_hl C) hw) (Nat.zero_le _) (Nat.zero_le _) (zz_cat10 _ (Nat.le_of_ble_eq_true rfl)) (fun r51 M52 hw => zz_kA hw (fun x55 hw => ?_)) (fun _ _ _ h9 => h9.elim) rfl
      refine zz_cast C dX1_fewest_120 q2105 zc_15_ebateHall_Item hw (fun hw => ?_)
      refine zz_astore (lv' := [(5, va_rf x55), (0, va_rf v0), (1, va_rf v1), (2, va_rf v2), (3, va_rf v3), (4, .int v4)]) C dX1_fewest_123 (by decide) rfl ?_
      refine zz_aload_n C dX1_fewest_125 rfl 4 rfl ?_
      refine zz_aload_n C dX1_fewest_126 rfl 2 rfl ?_
      refine zz_acmp_eq (tgt := 165) C dX1_fewest_127 (by decide) hw (fun hw => ?_) (fun hw => ?_)
      · refine zz_subP [1, 2, 3, 4, 5] rfl ?_
        exact ok_X1_fewest_B165 C E hH hR hk66 (fun z0 z1 z2 z3 z4 z5 z6 z7 hw => ih z0 z1 z2 z3 z4 z5 z6 z7 hw) hw
      · refine zz_aload C dX1_fewest_130 0 rfl ?_
        refine zz_aload_n C dX1_fewest_132 rfl 2 rfl ?_
        refine zz_acmp_eq (tgt := 165) C dX1_fewest_133 (by decide) hw (fun hw => ?_) (fun hw => ?_)
        · refine zz_subP [1, 2, 3, 4, 5] rfl ?_
          exact ok_X1_fewest_B165 C E hH hR hk66 (fun z0 z1 z2 z3 z4 z5 z6 z7 hw => ih z0 z1 z2 z3 z4 z5 z6 z7 hw) hw
        · refine zz_aload_n C dX1_fewest_136 rfl 1 rfl ?_
          refine zz_aload_n C dX1_fewest_137 rfl 2 rfl ?_
          refine zz_aload_n C dX1_fewest_138 rfl 4 rfl ?_
          refine zz_aload C dX1_fewest_139 0 rfl ?_
          obtain ⟨a9, t9, b9, fs9, hro, hL, rfl, hw⟩ := ztyS hw
          refine zz_callV (r := (zR_0, zT_0, 4)) (As := [va_rf v1, va_rf v3, va_rf x55]) (rest := []) (mc := 0) (ms := 0) C hR hro dX1_fewest_141 (Or.inl q2364) q2366 (Or.inl qs31) zl_DebateHall zk_X1_isFree (Or.inl rfl) zy_X1_isFree rfl (by decide) (by decide) hL (ok_X1_isFree (zz_hl C) hw) (Nat.zero_le _) (Nat.zero_le _) (zz_cat10 _ (Nat.le_of_ble_eq_true rfl)) (fun r56 M57 hw => zz_kI hw (fun x60 hw => ?_)) (fun _ _ _ h9 => h9.elim) rfl
          refine zz_if_eq (tgt := 165) C dX1_fewest_144 (by decide) hw (fun hw => ?_) (fun hw => ?_)
          · refine zz_subP [1, 2, 3, 4, 5] rfl ?_
            exact ok_X1_fewest_B165 C E hH hR hk66 (fun z0 z1 z2 z3 z4 z5 z6 z7 hw => ih z0 z1 z2 z3 z4 z5 z6 z7 hw) hw
          · refine zz_bipush (v := (100 : Int32)) C dX1_fewest_147 (by decide) ?_
            refine zz_iconst (v := (1 : Int32)) C dX1_fewest_149 (by decide) ?_
            refine zz_aload_n C dX1_fewest_150 rfl 4 rfl ?_
            refine zz_getI C dX1_fewest_151 (Or.inr ⟨_, q1736⟩) zf_15_0_ebateHall_Item hw (fun x61 hw => ?_)
            refine zz_iadd C dX1_fewest_154 ?_
            refine zz_imul C dX1_fewest_155 ?_
            refine zz_iconst (v := (1 : Int32)) C dX1_fewest_156 (by decide) ?_
            refine zz_iadd C dX1_fewest_157 ?_
            refine zz_aload C dX1_fewest_158 0 rfl ?_
            refine zz_getI C dX1_fewest_160 (Or.inr ⟨_, q1736⟩) zf_15_0_ebateHall_Item hw (fun x62 hw => ?_)
            refine zz_iadd C dX1_fewest_163 ?_
            exact zz_iret C E dX1_fewest_164 hw
theorem ok_X1_fewest_L66 {G : zzX} (C : zz_C G cX1_fewest "DebateHall" 6) {K : Option Value → zzM → Prop} (E : zz_E G (some .int) K (fun _ _ _ => False)) (hH : zz_H G []) (hR : zz_Rm G 7) : ∀ (n : Nat) (v0 : Option Nat) (v1 : Option Nat) (v2 : Option Nat) (M : zzM) (bc bs : Nat), wp_X1_fewest_L66 (zz_Zof G) K n v0 v1 v2 M bc bs → zz_T G 6 M bc bs 66 [(0, va_rf v0), (1, va_rf v1), (2, va_rf v2)] [] := by
  intro n
  induction n with
  | zero =>
    intro v0 v1 v2 M bc bs hw
    exact False.elim hw
  | succ n ih =>
    intro v0 v1 v2 M bc bs hw
    refine zz_aload_n C dX1_fewest_66 rfl 2 rfl ?_
    obtain ⟨a9, t9, b9, fs9, hro, hL, rfl, hw⟩ := ztyS hw
    refine zz_callF (r := (zR_23, zT_23, 4)) (x := ⟨"java/util/Iterator", "hasNext", "()Z"⟩) (As := []) (rest := []) (mc := 0) (ms := 0) C hR hro dX1_fewest_67 q1793 (by decide +kernel) q1174 q1172 zl_java_util_ArrayList_Itr zk_J24_hasNext zyo_java_util_Iterator_hasNext___Z rfl (by decide) (by decide) hL (ok_J24_hasNext (zz_hl C) hw) (Nat.zero_le _) (Nat.zero_le _) (zz_cat10 _ (Nat.le_of_ble_eq_true rfl)) (fun r31 M32 hw => zz_kI hw (fun x35 hw => ?_)) (fun _ _ _ h9 => h9.elim) rfl
    refine zz_if_eq (tgt := 174) C dX1_fewest_72 (by decide) hw (fun hw => ?_) (fun hw => ?_)
    · refine zz_iconst (v := (-1 : Int32)) C dX1_fewest_174 (by decide) ?_
      exact zz_iret C E dX1_fewest_175 hw
    · refine zz_aload_n C dX1_fewest_75 rfl 2 rfl ?_
      obtain ⟨a9, t9, b9, fs9, hro, hL, rfl, hw⟩ := ztyS hw
      refine zz_callF (r := (zR_23, zT_23, 4)) (x := ⟨"java/util/Iterator", "next", "()Ljava/lang/Object;"⟩) (As := []) (rest := []) (mc := 0) (ms := 0) C hR hro dX1_fewest_76 q1795 (by decide +kernel) q1183 q1181 zl_java_util_ArrayList_Itr zk_J24_next zyo_java_util_Iterator_next___Ljava_lang_Object_ rfl (by decide) (by decide) hL (ok_J24_next (zz_hl C) hw) (Nat.zero_le _) (Nat.zero_le _) (zz_cat10 _ (Nat.le_of_ble_eq_true rfl)) (fun r36 M37 hw => zz_kA hw (fun x40 hw => ?_)) (fun _ _ _ h9 => h9.elim) rfl
      refine zz_cast C dX1_fewest_81 q2105 zc_15_ebateHall_Item hw (fun hw => ?_)
      refine zz_astore_n (i := 3) (lv' := [(3, va_rf x40), (0, va_rf v0), (1, va_rf v1), (2, va_rf v2)]) C dX1_fewest_84 rfl (by decide) (by simp [zz_cat, zz_catI, zz_catJ, zz_catD]) ?_
      refine zz_aload_n C dX1_fewest_85 rfl 0 rfl ?_
      refine zz_getI C dX1_fewest_86 (Or.inr ⟨_, q1736⟩) zf_15_0_ebateHall_Item hw (fun x41 hw => ?_)
      refine zz_iconst (v := (1 : Int32)) C dX1_fewest_89 (by decide) ?_
      refine zz_iadd C dX1_fewest_90 ?_
      refine zz_istore (lv' := [(4, .int (x41 + (1 : Int32))), (3, va_rf x40), (0, va_rf v0), (1, va_rf v1), (2, va_rf v2)]) C dX1_fewest_91 (by decide) (by simp [zz_cat, zz_catI, zz_catJ, zz_catD]) ?_
      refine zz_subP [2, 3, 4, 1, 0] rfl ?_
      obtain ⟨n93, hw⟩ := hw
      exact ok_X1_fewest_L93 C E hH hR (fun z0 z1 z2 z3 z4 z5 hw => ih z0 z1 z2 z3 z4 z5 hw) n93 _ _ _ _ _ _ _ _ hw
theorem ok_X1_fewest_L11 {G : zzX} (C : zz_C G cX1_fewest "DebateHall" 6) {K : Option Value → zzM → Prop} (E : zz_E G (some .int) K (fun _ _ _ => False)) (hH : zz_H G []) (hR : zz_Rm G 7) : ∀ (n : Nat) (v0 : Option Nat) (v1 : Option Nat) (v2 : Option Nat) (M : zzM) (bc bs : Nat), wp_X1_fewest_L11 (zz_Zof G) K n v0 v1 v2 M bc bs → zz_T G 6 M bc bs 11 [(0, va_rf v0), (1, va_rf v1), (2, va_rf v2)] [] := by
  intro n
  induction n with
  | zero =>
    intro v0 v1 v2 M bc bs hw
    exact False.elim hw
  | succ n ih =>
    intro v0 v1 v2 M bc bs hw
    refine zz_aload_n C dX1_fewest_11 rfl 2 rfl ?_
    obtain ⟨a9, t9, b9, fs9, hro, hL, rfl, hw⟩ := ztyS hw
    refine zz_callF (r := (zR_23, zT_23, 4)) (x := ⟨"java/util/Iterator", "hasNext", "()Z"⟩) (As := []) (rest := []) (mc := 0) (ms := 0) C hR hro dX1_fewest_12 q1793 (by decide +kernel) q1174 q1172 zl_java_util_ArrayList_Itr zk_J24_hasNext zyo_java_util_Iterator_hasNext___Z rfl (by decide) (by decide) hL (ok_J24_hasNext (zz_hl C) hw) (Nat.zero_le _) (Nat.zero_le _) (zz_cat10 _ (Nat.le_of_ble_eq_true rfl)) (fun r8 M9 hw => zz_kI hw (fun x12 hw => ?_)) (fun _ _ _ h9 => h9.elim) rfl
    refine zz_if_eq (tgt := 55) C dX1_fewest_17 (by decide) hw (fun hw => ?_) (fun hw => ?_)
    · refine zz_aload_n C dX1_fewest_55 rfl 0 rfl ?_
      refine zz_getA C dX1_fewest_56 (Or.inl q305) zf_0_2_DebateHall hw (fun x13 hw => ?_)
      refine zz_getA C dX1_fewest_59 (Or.inr ⟨_, q239⟩) zf_2_1_teHall_Minutes hw (fun x14 hw => ?_)
      obtain ⟨a9, t9, b9, fs9, hro, hL, rfl, hw⟩ := ztyS hw
      obtain ⟨c9, s9, hc9, hs9, hw⟩ := hw
      refine zz_callV (r := (zR_18, zT_18, 3)) (As := []) (rest := []) C hR hro dX1_fewest_62 (Or.inl q2104) q1145 (Or.inl q1146) zl_java_util_ArrayList zk_J2_iterator (Or.inl rfl) zy_J2_iterator rfl (by decide) (by decide) hL (ok_J2_iterator (zz_hl C) hw) hc9 hs9 (zz_cat10 _ (Nat.le_of_ble_eq_true rfl)) (fun r15 M16 hw => zz_kA hw (fun x19 hw => ?_)) (fun _ _ _ h9 => h9.elim) rfl
      refine zz_astore_n (i := 2) (lv' := [(2, va_rf x19), (0, va_rf v0), (1, va_rf v1)]) C dX1_fewest_65 rfl (by decide) (by simp [zz_cat, zz_catI, zz_catJ, zz_catD]) ?_
      refine zz_subP [1, 2, 0] rfl ?_
      obtain ⟨n66, hw⟩ := hw
      exact ok_X1_fewest_L66 C E hH hR n66 _ _ _ _ _ _ hw
    · refine zz_aload_n C dX1_fewest_20 rfl 2 rfl ?_
      obtain ⟨a9, t9, b9, fs9, hro, hL, rfl, hw⟩ := ztyS hw
      refine zz_callF (r := (zR_23, zT_23, 4)) (x := ⟨"java/util/Iterator", "next", "()Ljava/lang/Object;"⟩) (As := []) (rest := []) (mc := 0) (ms := 0) C hR hro dX1_fewest_21 q1795 (by decide +kernel) q1183 q1181 zl_java_util_ArrayList_Itr zk_J24_next zyo_java_util_Iterator_next___Ljava_lang_Object_ rfl (by decide) (by decide) hL (ok_J24_next (zz_hl C) hw) (Nat.zero_le _) (Nat.zero_le _) (zz_cat10 _ (Nat.le_of_ble_eq_true rfl)) (fun r20 M21 hw => zz_kA hw (fun x24 hw => ?_)) (fun _ _ _ h9 => h9.elim) rfl
      refine zz_cast C dX1_fewest_26 q2105 zc_15_ebateHall_Item hw (fun hw => ?_)
      refine zz_astore_n (i := 3) (lv' := [(3, va_rf x24), (0, va_rf v0), (1, va_rf v1), (2, va_rf v2)]) C dX1_fewest_29 rfl (by decide) (by simp [zz_cat, zz_catI, zz_catJ, zz_catD]) ?_
      refine zz_aload_n C dX1_fewest_30 rfl 0 rfl ?_
      refine zz_aload_n C dX1_fewest_31 rfl 2 rfl ?_
      refine zz_acmp_eq (tgt := 52) C dX1_fewest_32 (by decide) hw (fun hw => ?_) (fun hw => ?_)
      · refine zz_subP [1, 2, 3] rfl ?_
        exact ok_X1_fewest_B52 C E hH hR (fun z0 z1 z2 z3 z4 z5 hw => ih z0 z1 z2 z3 z4 z5 hw) hw
      · refine zz_aload_n C dX1_fewest_35 rfl 1 rfl ?_
        refine zz_aload_n C dX1_fewest_36 rfl 2 rfl ?_
        refine zz_aload_n C dX1_fewest_37 rfl 0 rfl ?_
        refine zz_aload_n C dX1_fewest_38 rfl 0 rfl ?_
        obtain ⟨a9, t9, b9, fs9, hro, hL, rfl, hw⟩ := ztyS hw
        refine zz_callV (r := (zR_0, zT_0, 4)) (As := [va_rf v1, va_rf x24, va_rf x24]) (rest := []) (mc := 0) (ms := 0) C hR hro dX1_fewest_39 (Or.inl q2364) q2366 (Or.inl qs31) zl_DebateHall zk_X1_isFree (Or.inl rfl) zy_X1_isFree rfl (by decide) (by decide) hL (ok_X1_isFree (zz_hl C) hw) (Nat.zero_le _) (Nat.zero_le _) (zz_cat10 _ (Nat.le_of_ble_eq_true rfl)) (fun r25 M26 hw => zz_kI hw (fun x29 hw => ?_)) (fun _ _ _ h9 => h9.elim) rfl
        refine zz_if_eq (tgt := 52) C dX1_fewest_42 (by decide) hw (fun hw => ?_) (fun hw => ?_)
        · refine zz_subP [1, 2, 3] rfl ?_
          exact ok_X1_fewest_B52 C E hH hR (fun z0 z1 z2 z3 z4 z5 hw => ih z0 z1 z2 z3 z4 z5 hw) hw
        · refine zz_iconst (v := (1 : Int32)) C dX1_fewest_45 (by decide) ?_
          refine zz_aload_n C dX1_fewest_46 rfl 0 rfl ?_
          refine zz_getI C dX1_fewest_47 (Or.inr ⟨_, q1736⟩) zf_15_0_ebateHall_Item hw (fun x30 hw => ?_)
          refine zz_iadd C dX1_fewest_50 ?_
          exact zz_iret C E dX1_fewest_51 hw
theorem ok_X1_fewest {Z : zzG} {l : Launch} (hl : l.stackTraces = false) {this : Option Nat} {p0 : Option Nat} {M : zzM} {mc ms : Nat} {K : Option Value → zzM → Prop} (hw : wp_X1_fewest Z this p0 M mc ms K) : zz_Met Z l yX1_fewest (zz_ws yX1_fewest cX1_fewest 6 (some .int) none) 7 [va_rf this, va_rf p0] M mc ms K (fun _ _ _ => False) := by
  refine zz_ofW hl (plainFor_of_name (by decide)) (by simp only [zz_sl0, zz_slI, zz_slJ, zz_slA] <;> decide) (fun G hZ hll C E hH hR hin => ?_)
  subst hZ
  subst hll
  rw [show lv_args 0 [va_rf this, va_rf p0] = [(0, va_rf this), (1, va_rf p0)] by simp only [zz_la0, zz_laI, zz_laJ, zz_laA]]
  unfold wp_X1_fewest at hw
  refine zz_aload_n C dX1_fewest_0 rfl 0 rfl ?_
  refine zz_getA C dX1_fewest_1 (Or.inl q305) zf_0_2_DebateHall hw (fun x1 hw => ?_)
  refine zz_getA C dX1_fewest_4 (Or.inr ⟨_, q239⟩) zf_2_1_teHall_Minutes hw (fun x2 hw => ?_)
  obtain ⟨a9, t9, b9, fs9, hro, hL, rfl, hw⟩ := ztyS hw
  obtain ⟨c9, s9, hc9, hs9, hw⟩ := hw
  refine zz_callV (r := (zR_18, zT_18, 3)) (As := []) (rest := []) C hR hro dX1_fewest_7 (Or.inl q2104) q1145 (Or.inl q1146) zl_java_util_ArrayList zk_J2_iterator (Or.inl rfl) zy_J2_iterator rfl (by decide) (by decide) hL (ok_J2_iterator (zz_hl C) hw) hc9 hs9 (zz_cat10 _ (Nat.le_of_ble_eq_true rfl)) (fun r3 M4 hw => zz_kA hw (fun x7 hw => ?_)) (fun _ _ _ h9 => h9.elim) rfl
  refine zz_astore_n (i := 2) (lv' := [(2, va_rf x7), (0, va_rf this), (1, va_rf p0)]) C dX1_fewest_10 rfl (by decide) (by simp [zz_cat, zz_catI, zz_catJ, zz_catD]) ?_
  refine zz_subP [1, 2, 0] rfl ?_
  obtain ⟨n11, hw⟩ := hw
  exact ok_X1_fewest_L11 C E hH hR n11 _ _ _ _ _ _ hw
abbrev cX1_frees : ByteArray := prog_1_method_32_code
def yX1_frees : MethodName := ⟨"DebateHall", "frees", "(I)I"⟩
def dkwX1_frees_1 : List UInt8 := [62, 42, 180, 0, 36, 1, 182, 0, 126, 87, 29, 172]
abbrev dktX1_frees_1 : List UInt8 := dkwX1_frees_1 ++ []
def dkwX1_frees_0 : List UInt8 := [42, 27, 182, 0, 228, 77, 42, 180, 0, 36, 44, 182, 0, 242, 153, 0, 5, 3, 172, 42, 44, 182, 1, 3]
abbrev dktX1_frees_0 : List UInt8 := dkwX1_frees_0 ++ dktX1_frees_1
theorem dksX1_frees_0 : cX1_frees.data.toList.drop 0 = dktX1_frees_0 := by decide +kernel
theorem dksX1_frees_1 : cX1_frees.data.toList.drop 24 = dktX1_frees_1 := dk_seg dksX1_frees_0 24 rfl rfl
theorem dX1_frees_0 : decode cX1_frees 0 = .ok (.aload_n 0, 1) := dk_42 (dk_at dksX1_frees_0 0 rfl rfl)
theorem dX1_frees_1 : decode cX1_frees 1 = .ok (.iload_n 1, 1) := dk_27 (dk_at dksX1_frees_0 1 rfl rfl)
theorem dX1_frees_2 : decode cX1_frees 2 = .ok (.invokevirtual 228, 3) := dk_182 0 228 (dk_at dksX1_frees_0 2 rfl rfl)
theorem dX1_frees_5 : decode cX1_frees 5 = .ok (.astore_n 2, 1) := dk_77 (dk_at dksX1_frees_0 5 rfl rfl)
theorem dX1_frees_6 : decode cX1_frees 6 = .ok (.aload_n 0, 1) := dk_42 (dk_at dksX1_frees_0 6 rfl rfl)
theorem dX1_frees_7 : decode cX1_frees 7 = .ok (.getfield 36, 3) := dk_180 0 36 (dk_at dksX1_frees_0 7 rfl rfl)
theorem dX1_frees_10 : decode cX1_frees 10 = .ok (.aload_n 2, 1) := dk_44 (dk_at dksX1_frees_0 10 rfl rfl)
theorem dX1_frees_11 : decode cX1_frees 11 = .ok (.invokevirtual 242, 3) := dk_182 0 242 (dk_at dksX1_frees_0 11 rfl rfl)
theorem dX1_frees_14 : decode cX1_frees 14 = .ok (.ifCond .eq 5, 3) := dk_153 0 5 (dk_at dksX1_frees_0 14 rfl rfl)
theorem dX1_frees_17 : decode cX1_frees 17 = .ok (.iconst 0, 1) := dk_3 (dk_at dksX1_frees_0 17 rfl rfl)
theorem dX1_frees_18 : decode cX1_frees 18 = .ok (.ireturn, 1) := dk_172 (dk_at dksX1_frees_0 18 rfl rfl)
theorem dX1_frees_19 : decode cX1_frees 19 = .ok (.aload_n 0, 1) := dk_42 (dk_at dksX1_frees_0 19 rfl rfl)
theorem dX1_frees_20 : decode cX1_frees 20 = .ok (.aload_n 2, 1) := dk_44 (dk_at dksX1_frees_0 20 rfl rfl)
theorem dX1_frees_21 : decode cX1_frees 21 = .ok (.invokevirtual 259, 3) := dk_182 1 3 (dk_at dksX1_frees_0 21 rfl rfl)
theorem dX1_frees_24 : decode cX1_frees 24 = .ok (.istore_n 3, 1) := dk_62 (dk_at dksX1_frees_1 0 rfl rfl)
theorem dX1_frees_25 : decode cX1_frees 25 = .ok (.aload_n 0, 1) := dk_42 (dk_at dksX1_frees_1 1 rfl rfl)
theorem dX1_frees_26 : decode cX1_frees 26 = .ok (.getfield 36, 3) := dk_180 0 36 (dk_at dksX1_frees_1 2 rfl rfl)
theorem dX1_frees_29 : decode cX1_frees 29 = .ok (.aconst_null, 1) := dk_1 (dk_at dksX1_frees_1 5 rfl rfl)
theorem dX1_frees_30 : decode cX1_frees 30 = .ok (.invokevirtual 126, 3) := dk_182 0 126 (dk_at dksX1_frees_1 6 rfl rfl)
theorem dX1_frees_33 : decode cX1_frees 33 = .ok (.pop, 1) := dk_87 (dk_at dksX1_frees_1 9 rfl rfl)
theorem dX1_frees_34 : decode cX1_frees 34 = .ok (.iload_n 3, 1) := dk_29 (dk_at dksX1_frees_1 10 rfl rfl)
theorem dX1_frees_35 : decode cX1_frees 35 = .ok (.ireturn, 1) := dk_172 (dk_at dksX1_frees_1 11 rfl rfl)
theorem q2290 : (Jvm.Cond.code ({ cls := "DebateHall", name := "itemAt", desc := "(I)LDebateHall$Item;" } : Jvm.MethodName) prog_1_method_7_code (2 : Nat) (Option.some (Jvm.ClassFile.FieldType.object "DebateHall$Item"))) ∈ lw_all := lw_g (lw_at lw_m10 50 rfl) rfl
theorem zk_X1_itemAt : zz_cd yX1_itemAt cX1_itemAt 2 (some (.object "DebateHall$Item")) none ∈ lw_all := q2290
theorem zy_X1_itemAt : zz_yok yX1_itemAt 1 = true := by decide +kernel
theorem q2363 : (Jvm.Cond.code ({ cls := "DebateHall", name := "fewest", desc := "(LDebateHall$Item;)I" } : Jvm.MethodName) prog_1_method_31_code (6 : Nat) (Option.some Jvm.ClassFile.FieldType.int)) ∈ lw_all := lw_g (lw_at lw_m10 123 rfl) rfl
theorem zk_X1_fewest : zz_cd yX1_fewest cX1_fewest 6 (some .int) none ∈ lw_all := q2363
theorem zy_X1_fewest : zz_yok yX1_fewest 1 = true := by decide +kernel
theorem q2360 : (Jvm.Cond.methodLink "DebateHall" (259 : Nat) ({ cls := "DebateHall", name := "fewest", desc := "(LDebateHall$Item;)I" } : Jvm.MethodName)) ∈ lw_all := lw_g (lw_at lw_m10 120 rfl) rfl
theorem q2362 : (Jvm.Cond.instanceMethod ({ cls := "DebateHall", name := "fewest", desc := "(LDebateHall$Item;)I" } : Jvm.MethodName)) ∈ lw_all := lw_g (lw_at lw_m10 122 rfl) rfl
theorem q2287 : (Jvm.Cond.methodLink "DebateHall" (228 : Nat) ({ cls := "DebateHall", name := "itemAt", desc := "(I)LDebateHall$Item;" } : Jvm.MethodName)) ∈ lw_all := lw_g (lw_at lw_m10 47 rfl) rfl
theorem q2289 : (Jvm.Cond.instanceMethod ({ cls := "DebateHall", name := "itemAt", desc := "(I)LDebateHall$Item;" } : Jvm.MethodName)) ∈ lw_all := lw_g (lw_at lw_m10 49 rfl) rfl
def wp_X1_frees (Z : zzG) (this : Option Nat) (p0 : Int32) (M : zzM) (bc bs : Nat) (K : Option Value → zzM → Prop) (X : Nat → Nat → zzM → Prop) : Prop := zty Z M this fun t => t = 0 ∧ zcx bc bs (fun c s k x => wp_X1_itemAt Z this p0 M c s k x) (fun r1 M2 bc3 bs4 => zrA r1 fun x5 => zgA Z M2 this [0] 2 fun x6 => zty Z M2 x6 fun t => t = 2 ∧ wp_X3_isIn Z x6 x5 M2 (fun r7 M8 => zrI r7 fun x11 => if x11 = 0 then (zty Z M8 this fun t => t = 0 ∧ zcc bc3 bs4 (fun c s k => wp_X1_fewest Z this x5 M8 c s k) fun r12 M13 bc14 bs15 => zrI r12 fun x16 => zgA Z M13 this [0] 2 fun x17 => zty Z M13 x17 fun t => t = 2 ∧ wp_X3_settle Z x17 none M13 (fun r18 M19 => zrA r18 fun x22 => K (some (.int x16)) M19)) else (K (some (.int (0 : Int32))) M8))) (fun t q M _ _ => X t q M)
theorem ok_X1_frees {Z : zzG} {l : Launch} (hl : l.stackTraces = false) {this : Option Nat} {p0 : Int32} {M : zzM} {mc ms : Nat} {K : Option Value → zzM → Prop} {X : Nat → Nat → zzM → Prop} (hw : wp_X1_frees Z this p0 M mc ms K X) : zz_Met Z l yX1_frees (zz_ws yX1_frees cX1_frees 4 (some .int) none) 8 [va_rf this, .int p0] M mc ms K X := by
  refine zz_ofW hl (plainFor_of_name (by decide)) (by simp only [zz_sl0, zz_slI, zz_slJ, zz_slA] <;> decide) (fun G hZ hll C E hH hR hin => ?_)
  subst hZ
  subst hll
  rw [show lv_args 0 [va_rf this, .int p0] = [(0, va_rf this), (1, .int p0)] by simp only [zz_la0, zz_laI, zz_laJ, zz_laA]]
  unfold wp_X1_frees at hw
  refine zz_aload_n C dX1_frees_0 rfl 0 rfl ?_
  refine zz_iload_n C dX1_frees_1 rfl 1 rfl ?_
  obtain ⟨a9, t9, b9, fs9, hro, hL, rfl, hw⟩ := ztyS hw
  obtain ⟨c9, s9, hc9, hs9, hw⟩ := hw
  refine zz_callV (r := (zR_0, zT_0, 4)) (As := [.int p0]) (rest := []) C hR hro dX1_frees_2 (Or.inl q2287) q2289 (Or.inl qs28) zl_DebateHall zk_X1_itemAt (Or.inl rfl) zy_X1_itemAt rfl (by decide) (by decide) hL (ok_X1_itemAt (zz_hl C) hw) hc9 hs9 (zz_cat10 _ (Nat.le_of_ble_eq_true rfl)) (fun r1 M2 hw => zz_kA hw (fun x5 hw => ?_)) (fun t9 q23 M24 hx => ?_) rfl
  · refine zz_astore_n (i := 2) (lv' := [(2, va_rf x5), (0, va_rf this), (1, .int p0)]) C dX1_frees_5 rfl (by decide) rfl ?_
    refine zz_aload_n C dX1_frees_6 rfl 1 rfl ?_
    refine zz_getA C dX1_frees_7 (Or.inl q305) zf_0_2_DebateHall hw (fun x6 hw => ?_)
    refine zz_aload_n C dX1_frees_10 rfl 0 rfl ?_
    obtain ⟨a9, t9, b9, fs9, hro, hL, rfl, hw⟩ := ztyS hw
    refine zz_callV (r := (zR_2, zT_2, 8)) (As := [va_rf x5]) (rest := []) (mc := 0) (ms := 0) C hR hro dX1_frees_11 (Or.inr ⟨_, q2117⟩) q1944 (Or.inl qs19) zl_DebateHall_Minutes zk_X3_isIn (Or.inl rfl) zy_X3_isIn rfl (by decide) (by decide) hL (ok_X3_isIn (zz_hl C) hw) (Nat.zero_le _) (Nat.zero_le _) (zz_cat10 _ (Nat.le_of_ble_eq_true rfl)) (fun r7 M8 hw => zz_kI hw (fun x11 hw => ?_)) (fun _ _ _ h9 => h9.elim) rfl
    refine zz_if_eq (tgt := 19) C dX1_frees_14 (by decide) hw (fun hw => ?_) (fun hw => ?_)
    · refine zz_aload_n C dX1_frees_19 rfl 1 rfl ?_
      refine zz_aload_n C dX1_frees_20 rfl 0 rfl ?_
      obtain ⟨a9, t9, b9, fs9, hro, hL, rfl, hw⟩ := ztyS hw
      obtain ⟨c9, s9, hc9, hs9, hw⟩ := hw
      refine zz_callV (r := (zR_0, zT_0, 4)) (As := [va_rf x5]) (rest := []) C hR hro dX1_frees_21 (Or.inl q2360) q2362 (Or.inl qs30) zl_DebateHall zk_X1_fewest (Or.inl rfl) zy_X1_fewest rfl (by decide) (by decide) hL (ok_X1_fewest (zz_hl C) hw) hc9 hs9 (zz_cat10 _ (Nat.le_of_ble_eq_true rfl)) (fun r12 M13 hw => zz_kI hw (fun x16 hw => ?_)) (fun _ _ _ h9 => h9.elim) rfl
      refine zz_istore_n (i := 3) (lv' := [(3, .int x16), (2, va_rf x5), (0, va_rf this), (1, .int p0)]) C dX1_frees_24 rfl (by decide) (by simp [zz_cat, zz_catI, zz_catJ, zz_catD]) ?_
      refine zz_aload_n C dX1_frees_25 rfl 2 rfl ?_
      refine zz_getA C dX1_frees_26 (Or.inl q305) zf_0_2_DebateHall hw (fun x17 hw => ?_)
      refine zz_null C dX1_frees_29 ?_
      obtain ⟨a9, t9, b9, fs9, hro, hL, rfl, hw⟩ := ztyS hw
      refine zz_callV (r := (zR_2, zT_2, 8)) (As := [va_rf none]) (rest := []) (mc := 0) (ms := 0) C hR hro dX1_frees_30 (Or.inl q2008) q1930 (Or.inl q1931) zl_DebateHall_Minutes zk_X3_settle (Or.inl rfl) zy_X3_settle rfl (by decide) (by decide) hL (ok_X3_settle (zz_hl C) hw) (Nat.zero_le _) (Nat.zero_le _) (zz_cat10 _ (Nat.le_of_ble_eq_true rfl)) (fun r18 M19 hw => zz_kA hw (fun x22 hw => ?_)) (fun _ _ _ h9 => h9.elim) rfl
      refine zz_pop C dX1_frees_33 (zz_cat _) ?_
      refine zz_iload_n C dX1_frees_34 rfl 0 rfl ?_
      exact zz_iret C E dX1_frees_35 hw
    · refine zz_iconst (v := (0 : Int32)) C dX1_frees_17 (by decide) ?_
      exact zz_iret C E dX1_frees_18 hw
  · exact zz_out C E hH rfl hx
abbrev cX0_frees : ByteArray := method_16_code
def yX0_frees : MethodName := ⟨"DebateHallLaw", "frees", "(LDebateHall;I[J)I"⟩
def dkwX0_frees_0 : List UInt8 := [44, 3, 42, 27, 182, 0, 58, 133, 80, 167, 0, 6, 78, 4, 172, 3, 172]
abbrev dktX0_frees_0 : List UInt8 := dkwX0_frees_0 ++ []
theorem dksX0_frees_0 : cX0_frees.data.toList.drop 0 = dktX0_frees_0 := by decide +kernel
theorem dX0_frees_0 : decode cX0_frees 0 = .ok (.aload_n 2, 1) := dk_44 (dk_at dksX0_frees_0 0 rfl rfl)
theorem dX0_frees_1 : decode cX0_frees 1 = .ok (.iconst 0, 1) := dk_3 (dk_at dksX0_frees_0 1 rfl rfl)
theorem dX0_frees_2 : decode cX0_frees 2 = .ok (.aload_n 0, 1) := dk_42 (dk_at dksX0_frees_0 2 rfl rfl)
theorem dX0_frees_3 : decode cX0_frees 3 = .ok (.iload_n 1, 1) := dk_27 (dk_at dksX0_frees_0 3 rfl rfl)
theorem dX0_frees_4 : decode cX0_frees 4 = .ok (.invokevirtual 58, 3) := dk_182 0 58 (dk_at dksX0_frees_0 4 rfl rfl)
theorem dX0_frees_7 : decode cX0_frees 7 = .ok (.i2l, 1) := dk_133 (dk_at dksX0_frees_0 7 rfl rfl)
theorem dX0_frees_8 : decode cX0_frees 8 = .ok (.lastore, 1) := dk_80 (dk_at dksX0_frees_0 8 rfl rfl)
theorem dX0_frees_9 : decode cX0_frees 9 = .ok (.goto 6, 3) := dk_167 0 6 (dk_at dksX0_frees_0 9 rfl rfl)
theorem dX0_frees_12 : decode cX0_frees 12 = .ok (.astore_n 3, 1) := dk_78 (dk_at dksX0_frees_0 12 rfl rfl)
theorem dX0_frees_13 : decode cX0_frees 13 = .ok (.iconst 1, 1) := dk_4 (dk_at dksX0_frees_0 13 rfl rfl)
theorem dX0_frees_14 : decode cX0_frees 14 = .ok (.ireturn, 1) := dk_172 (dk_at dksX0_frees_0 14 rfl rfl)
theorem dX0_frees_15 : decode cX0_frees 15 = .ok (.iconst 0, 1) := dk_3 (dk_at dksX0_frees_0 15 rfl rfl)
theorem dX0_frees_16 : decode cX0_frees 16 = .ok (.ireturn, 1) := dk_172 (dk_at dksX0_frees_0 16 rfl rfl)
theorem q2359 : (Jvm.Cond.code ({ cls := "DebateHall", name := "frees", desc := "(I)I" } : Jvm.MethodName) prog_1_method_32_code (4 : Nat) (Option.some Jvm.ClassFile.FieldType.int)) ∈ lw_all := lw_g (lw_at lw_m10 119 rfl) rfl
theorem zk_X1_frees : zz_cd yX1_frees cX1_frees 4 (some .int) none ∈ lw_all := q2359
theorem zy_X1_frees : zz_yok yX1_frees 1 = true := by decide +kernel
theorem q2356 : (Jvm.Cond.methodLink "DebateHallLaw" (58 : Nat) ({ cls := "DebateHall", name := "frees", desc := "(I)I" } : Jvm.MethodName)) ∈ lw_all := lw_g (lw_at lw_m10 116 rfl) rfl
theorem q2357 : (Jvm.Cond.instanceMethod ({ cls := "DebateHall", name := "frees", desc := "(I)I" } : Jvm.MethodName)) ∈ lw_all := lw_g (lw_at lw_m10 117 rfl) rfl
theorem q2358 : (Jvm.Cond.selects "DebateHall" ({ cls := "DebateHall", name := "frees", desc := "(I)I" } : Jvm.MethodName) ({ cls := "DebateHall", name := "frees", desc := "(I)I" } : Jvm.MethodName)) ∈ lw_all := lw_g (lw_at lw_m10 118 rfl) rfl
def wp_X0_frees_B12 (Z : zzG) (K : Option Value → zzM → Prop) (s0 : Option Nat) (M : zzM) (bc bs : Nat) : Prop := K (some (.int (1 : Int32))) M
def wp_X0_frees (Z : zzG) (p0 : Option Nat) (p1 : Int32) (p2 : Option Nat) (M : zzM) (bc bs : Nat) (K : Option Value → zzM → Prop) : Prop := zty Z M p0 fun t => t = 0 ∧ zcx bc bs (fun c s k x => wp_X1_frees Z p0 p1 M c s k x) (fun r1 M2 bc3 bs4 => zrI r1 fun x5 => zast Z M2 p2 [102] (0 : Int32) (.long x5.toInt64) fun M6 => K (some (.int (0 : Int32))) M6) (fun t q7 M8 bc9 bs10 => if t = 28 then (wp_X0_frees_B12 Z K (some q7) M8 bc9 bs10) else False)
theorem ok_X0_frees_B12 {G : zzX} (C : zz_C G cX0_frees "DebateHallLaw" 4) {K : Option Value → zzM → Prop} (E : zz_E G (some .int) K (fun _ _ _ => False)) (hH : zz_H G [(0, 9, 12, 24)]) (hR : zz_Rm G 9) {s0 : Option Nat} {M : zzM} {bc bs : Nat} (hw : wp_X0_frees_B12 (zz_Zof G) K s0 M bc bs) : zz_T G 4 M bc bs 12 [] [va_rf s0] := by
  unfold wp_X0_frees_B12 at hw
  refine zz_astore_n (i := 3) (lv' := [(3, va_rf s0)]) C dX0_frees_12 rfl (by decide) rfl ?_
  refine zz_iconst (v := (1 : Int32)) C dX0_frees_13 (by decide) ?_
  exact zz_iret C E dX0_frees_14 hw
theorem ok_X0_frees {Z : zzG} {l : Launch} (hl : l.stackTraces = false) {p0 : Option Nat} {p1 : Int32} {p2 : Option Nat} {M : zzM} {mc ms : Nat} {K : Option Value → zzM → Prop} (hw : wp_X0_frees Z p0 p1 p2 M mc ms K) : zz_Met Z l yX0_frees (zz_ws yX0_frees cX0_frees 4 (some .int) (some [(0, 9, 12, 24)])) 9 [va_rf p0, .int p1, va_rf p2] M mc ms K (fun _ _ _ => False) := by
  refine zz_ofW hl (plainFor_of_name (by decide)) (by simp only [zz_sl0, zz_slI, zz_slJ, zz_slA] <;> decide) (fun G hZ hll C E hH hR hin => ?_)
  subst hZ
  subst hll
  rw [show lv_args 0 [va_rf p0, .int p1, va_rf p2] = [(0, va_rf p0), (1, .int p1), (2, va_rf p2)] by simp only [zz_la0, zz_laI, zz_laJ, zz_laA]]
  unfold wp_X0_frees at hw
  refine zz_aload_n C dX0_frees_0 rfl 2 rfl ?_
  refine zz_iconst (v := (0 : Int32)) C dX0_frees_1 (by decide) ?_
  refine zz_aload_n C dX0_frees_2 rfl 0 rfl ?_
  refine zz_iload_n C dX0_frees_3 rfl 1 rfl ?_
  obtain ⟨a9, t9, b9, fs9, hro, hL, rfl, hw⟩ := ztyS hw
  obtain ⟨c9, s9, hc9, hs9, hw⟩ := hw
  refine zz_callV (r := (zR_0, zT_0, 4)) (As := [.int p1]) (rest := [.int (0 : Int32), va_rf p2]) C hR hro dX0_frees_4 (Or.inl q2356) q2357 (Or.inl q2358) zl_DebateHall zk_X1_frees (Or.inl rfl) zy_X1_frees rfl (by decide) (by decide) hL (ok_X1_frees (zz_hl C) hw) hc9 hs9 (zz_cat10 _ (Nat.le_of_ble_eq_true rfl)) (fun r1 M2 hw => zz_kI hw (fun x5 hw => ?_)) (fun t9 q7 M8 hw => ?_) rfl
  · refine zz_i2l C dX0_frees_7 ?_
    refine zz_last C dX0_frees_8 hw (fun M6 hw => ?_)
    refine zz_goto (tgt := 15) C dX0_frees_9 (by decide) ?_
    refine zz_iconst (v := (0 : Int32)) C dX0_frees_15 (by decide) ?_
    exact zz_iret C E dX0_frees_16 hw
  · by_cases e28 : t9 = 28
    · replace hw := zz_ifp e28 hw
      subst e28
      refine zz_catch (r := (zR_28, zT_28, 0)) C hH rfl [] (0, 9, 12, 24) [] rfl (fun _ h9 => absurd h9 List.not_mem_nil) rfl (by decide) q2265 q2137 ?_
      refine zz_subP [] rfl ?_
      exact ok_X0_frees_B12 C E hH hR hw
    · replace hw := zz_ifn e28 hw
      exact hw.elim
abbrev cX4_isItem : ByteArray := prog_25_method_8_code
def yX4_isItem : MethodName := ⟨"DebateHallModel", "isItem", "(I)Z"⟩
def dkwX4_isItem_0 : List UInt8 := [27, 3, 42, 180, 0, 48, 180, 0, 95, 4, 100, 184, 0, 91, 172]
abbrev dktX4_isItem_0 : List UInt8 := dkwX4_isItem_0 ++ []
theorem dksX4_isItem_0 : cX4_isItem.data.toList.drop 0 = dktX4_isItem_0 := by decide +kernel
theorem dX4_isItem_0 : decode cX4_isItem 0 = .ok (.iload_n 1, 1) := dk_27 (dk_at dksX4_isItem_0 0 rfl rfl)
theorem dX4_isItem_1 : decode cX4_isItem 1 = .ok (.iconst 0, 1) := dk_3 (dk_at dksX4_isItem_0 1 rfl rfl)
theorem dX4_isItem_2 : decode cX4_isItem 2 = .ok (.aload_n 0, 1) := dk_42 (dk_at dksX4_isItem_0 2 rfl rfl)
theorem dX4_isItem_3 : decode cX4_isItem 3 = .ok (.getfield 48, 3) := dk_180 0 48 (dk_at dksX4_isItem_0 3 rfl rfl)
theorem dX4_isItem_6 : decode cX4_isItem 6 = .ok (.getfield 95, 3) := dk_180 0 95 (dk_at dksX4_isItem_0 6 rfl rfl)
theorem dX4_isItem_9 : decode cX4_isItem 9 = .ok (.iconst 1, 1) := dk_4 (dk_at dksX4_isItem_0 9 rfl rfl)
theorem dX4_isItem_10 : decode cX4_isItem 10 = .ok (.isub, 1) := dk_100 (dk_at dksX4_isItem_0 10 rfl rfl)
theorem dX4_isItem_11 : decode cX4_isItem 11 = .ok (.invokestatic 91, 3) := dk_184 0 91 (dk_at dksX4_isItem_0 11 rfl rfl)
theorem dX4_isItem_14 : decode cX4_isItem 14 = .ok (.ireturn, 1) := dk_172 (dk_at dksX4_isItem_0 14 rfl rfl)
def wp_X4_isItem (Z : zzG) (this : Option Nat) (p0 : Int32) (M : zzM) (K : Option Value → zzM → Prop) : Prop := zgA Z M this [16] 11 fun x1 => zgI Z M x1 [17] 3 fun x2 => wp_X4_isIn Z p0 (0 : Int32) (x2 - (1 : Int32)) M (fun r3 M4 => zrI r3 fun x7 => narrow .boolean (.int x7) = .int x7 ∧ K (some (.int x7)) M4)
theorem ok_X4_isItem {Z : zzG} {l : Launch} (hl : l.stackTraces = false) {this : Option Nat} {p0 : Int32} {M : zzM} {mc ms : Nat} {K : Option Value → zzM → Prop} (hw : wp_X4_isItem Z this p0 M K) : zz_Met Z l yX4_isItem (zz_ws yX4_isItem cX4_isItem 2 (some .boolean) none) 2 [va_rf this, .int p0] M mc ms K (fun _ _ _ => False) := by
  refine zz_ofW hl (plainFor_of_name (by decide)) (by simp only [zz_sl0, zz_slI, zz_slJ, zz_slA] <;> decide) (fun G hZ hll C E hH hR hin => ?_)
  subst hZ
  subst hll
  rw [show lv_args 0 [va_rf this, .int p0] = [(0, va_rf this), (1, .int p0)] by simp only [zz_la0, zz_laI, zz_laJ, zz_laA]]
  unfold wp_X4_isItem at hw
  refine zz_iload_n C dX4_isItem_0 rfl 1 rfl ?_
  refine zz_iconst (v := (0 : Int32)) C dX4_isItem_1 (by decide) ?_
  refine zz_aload_n C dX4_isItem_2 rfl 0 rfl ?_
  refine zz_getA C dX4_isItem_3 (Or.inl q2447) zf_16_11_ebateHallModel hw (fun x1 hw => ?_)
  refine zz_getI C dX4_isItem_6 (Or.inr ⟨_, q2394⟩) zf_17_3_allModel_State hw (fun x2 hw => ?_)
  refine zz_iconst (v := (1 : Int32)) C dX4_isItem_9 (by decide) ?_
  refine zz_isub C dX4_isItem_10 ?_
  refine zz_callS (As := [.int p0, .int (0 : Int32), .int (x2 - (1 : Int32))]) (rest := []) (mc := 0) (ms := 0) C hR dX4_isItem_11 (Or.inl q2525) q2526 zl_DebateHallModel zk_X4_isIn (Or.inl rfl) zy_X4_isIn (by decide) (by decide) (ok_X4_isIn (zz_hl C) hw) (Nat.zero_le _) (Nat.zero_le _) (zz_cat10 _ (Nat.le_of_ble_eq_true rfl)) (fun r3 M4 hw => zz_kI hw (fun x7 hw => ?_)) (fun _ _ _ h9 => h9.elim) rfl
  exact zz_zret C E dX4_isItem_14 hw
abbrev cX4_finds : ByteArray := prog_25_method_10_code
def yX4_finds : MethodName := ⟨"DebateHallModel", "finds", "(I[I)I"⟩
def dkwX4_finds_5 : List UInt8 := [3, 172]
abbrev dktX4_finds_5 : List UInt8 := dkwX4_finds_5 ++ []
def dkwX4_finds_4 : List UInt8 := [167, 255, 213, 21, 4, 153, 0, 19, 29, 2, 159, 0, 10, 44, 29, 46, 4, 160, 0, 7, 4, 167, 0, 4]
abbrev dktX4_finds_4 : List UInt8 := dkwX4_finds_4 ++ dktX4_finds_5
def dkwX4_finds_3 : List UInt8 := [21, 5, 46, 5, 160, 0, 7, 4, 167, 0, 4, 3, 126, 54, 4, 42, 180, 0, 79, 21, 5, 46, 54, 5]
abbrev dktX4_finds_3 : List UInt8 := dkwX4_finds_3 ++ dktX4_finds_4
def dkwX4_finds_2 : List UInt8 := [27, 46, 54, 5, 21, 5, 2, 159, 0, 43, 44, 21, 5, 46, 4, 160, 0, 5, 5, 172, 21, 4, 44]
abbrev dktX4_finds_2 : List UInt8 := dkwX4_finds_2 ++ dktX4_finds_3
def dkwX4_finds_1 : List UInt8 := [159, 0, 15, 29, 2, 159, 0, 12, 44, 29, 46, 5, 160, 0, 5, 5, 172, 4, 54, 4, 42, 180, 0, 76]
abbrev dktX4_finds_1 : List UInt8 := dkwX4_finds_1 ++ dktX4_finds_2
def dkwX4_finds_0 : List UInt8 := [42, 180, 0, 48, 180, 0, 101, 27, 46, 62, 42, 27, 182, 0, 104, 154, 0, 23, 27, 42, 180, 0, 73]
abbrev dktX4_finds_0 : List UInt8 := dkwX4_finds_0 ++ dktX4_finds_1
theorem dksX4_finds_0 : cX4_finds.data.toList.drop 0 = dktX4_finds_0 := by decide +kernel
theorem dksX4_finds_1 : cX4_finds.data.toList.drop 23 = dktX4_finds_1 := dk_seg dksX4_finds_0 23 rfl rfl
theorem dksX4_finds_2 : cX4_finds.data.toList.drop 47 = dktX4_finds_2 := dk_seg dksX4_finds_1 24 rfl rfl
theorem dksX4_finds_3 : cX4_finds.data.toList.drop 70 = dktX4_finds_3 := dk_seg dksX4_finds_2 23 rfl rfl
theorem dksX4_finds_4 : cX4_finds.data.toList.drop 94 = dktX4_finds_4 := dk_seg dksX4_finds_3 24 rfl rfl
theorem dksX4_finds_5 : cX4_finds.data.toList.drop 118 = dktX4_finds_5 := dk_seg dksX4_finds_4 24 rfl rfl
theorem dX4_finds_0 : decode cX4_finds 0 = .ok (.aload_n 0, 1) := dk_42 (dk_at dksX4_finds_0 0 rfl rfl)
theorem dX4_finds_1 : decode cX4_finds 1 = .ok (.getfield 48, 3) := dk_180 0 48 (dk_at dksX4_finds_0 1 rfl rfl)
theorem dX4_finds_4 : decode cX4_finds 4 = .ok (.getfield 101, 3) := dk_180 0 101 (dk_at dksX4_finds_0 4 rfl rfl)
theorem dX4_finds_7 : decode cX4_finds 7 = .ok (.iload_n 1, 1) := dk_27 (dk_at dksX4_finds_0 7 rfl rfl)
theorem dX4_finds_8 : decode cX4_finds 8 = .ok (.iaload, 1) := dk_46 (dk_at dksX4_finds_0 8 rfl rfl)
theorem dX4_finds_9 : decode cX4_finds 9 = .ok (.istore_n 3, 1) := dk_62 (dk_at dksX4_finds_0 9 rfl rfl)
theorem dX4_finds_10 : decode cX4_finds 10 = .ok (.aload_n 0, 1) := dk_42 (dk_at dksX4_finds_0 10 rfl rfl)
theorem dX4_finds_11 : decode cX4_finds 11 = .ok (.iload_n 1, 1) := dk_27 (dk_at dksX4_finds_0 11 rfl rfl)
theorem dX4_finds_12 : decode cX4_finds 12 = .ok (.invokevirtual 104, 3) := dk_182 0 104 (dk_at dksX4_finds_0 12 rfl rfl)
theorem dX4_finds_15 : decode cX4_finds 15 = .ok (.ifCond .ne 23, 3) := dk_154 0 23 (dk_at dksX4_finds_0 15 rfl rfl)
theorem dX4_finds_18 : decode cX4_finds 18 = .ok (.iload_n 1, 1) := dk_27 (dk_at dksX4_finds_0 18 rfl rfl)
theorem dX4_finds_19 : decode cX4_finds 19 = .ok (.aload_n 0, 1) := dk_42 (dk_at dksX4_finds_0 19 rfl rfl)
theorem dX4_finds_20 : decode cX4_finds 20 = .ok (.getfield 73, 3) := dk_180 0 73 (dk_at dksX4_finds_0 20 rfl rfl)
theorem dX4_finds_23 : decode cX4_finds 23 = .ok (.if_icmp .eq 15, 3) := dk_159 0 15 (dk_at dksX4_finds_1 0 rfl rfl)
theorem dX4_finds_26 : decode cX4_finds 26 = .ok (.iload_n 3, 1) := dk_29 (dk_at dksX4_finds_1 3 rfl rfl)
theorem dX4_finds_27 : decode cX4_finds 27 = .ok (.iconst (-1), 1) := dk_2 (dk_at dksX4_finds_1 4 rfl rfl)
theorem dX4_finds_28 : decode cX4_finds 28 = .ok (.if_icmp .eq 12, 3) := dk_159 0 12 (dk_at dksX4_finds_1 5 rfl rfl)
theorem dX4_finds_31 : decode cX4_finds 31 = .ok (.aload_n 2, 1) := dk_44 (dk_at dksX4_finds_1 8 rfl rfl)
theorem dX4_finds_32 : decode cX4_finds 32 = .ok (.iload_n 3, 1) := dk_29 (dk_at dksX4_finds_1 9 rfl rfl)
theorem dX4_finds_33 : decode cX4_finds 33 = .ok (.iaload, 1) := dk_46 (dk_at dksX4_finds_1 10 rfl rfl)
theorem dX4_finds_34 : decode cX4_finds 34 = .ok (.iconst 2, 1) := dk_5 (dk_at dksX4_finds_1 11 rfl rfl)
theorem dX4_finds_35 : decode cX4_finds 35 = .ok (.if_icmp .ne 5, 3) := dk_160 0 5 (dk_at dksX4_finds_1 12 rfl rfl)
theorem dX4_finds_38 : decode cX4_finds 38 = .ok (.iconst 2, 1) := dk_5 (dk_at dksX4_finds_1 15 rfl rfl)
theorem dX4_finds_39 : decode cX4_finds 39 = .ok (.ireturn, 1) := dk_172 (dk_at dksX4_finds_1 16 rfl rfl)
theorem dX4_finds_40 : decode cX4_finds 40 = .ok (.iconst 1, 1) := dk_4 (dk_at dksX4_finds_1 17 rfl rfl)
theorem dX4_finds_41 : decode cX4_finds 41 = .ok (.istore 4, 2) := dk_54 4 (dk_at dksX4_finds_1 18 rfl rfl)
theorem dX4_finds_43 : decode cX4_finds 43 = .ok (.aload_n 0, 1) := dk_42 (dk_at dksX4_finds_1 20 rfl rfl)
theorem dX4_finds_44 : decode cX4_finds 44 = .ok (.getfield 76, 3) := dk_180 0 76 (dk_at dksX4_finds_1 21 rfl rfl)
theorem dX4_finds_47 : decode cX4_finds 47 = .ok (.iload_n 1, 1) := dk_27 (dk_at dksX4_finds_2 0 rfl rfl)
theorem dX4_finds_48 : decode cX4_finds 48 = .ok (.iaload, 1) := dk_46 (dk_at dksX4_finds_2 1 rfl rfl)
theorem dX4_finds_49 : decode cX4_finds 49 = .ok (.istore 5, 2) := dk_54 5 (dk_at dksX4_finds_2 2 rfl rfl)
theorem dX4_finds_51 : decode cX4_finds 51 = .ok (.iload 5, 2) := dk_21 5 (dk_at dksX4_finds_2 4 rfl rfl)
theorem dX4_finds_53 : decode cX4_finds 53 = .ok (.iconst (-1), 1) := dk_2 (dk_at dksX4_finds_2 6 rfl rfl)
theorem dX4_finds_54 : decode cX4_finds 54 = .ok (.if_icmp .eq 43, 3) := dk_159 0 43 (dk_at dksX4_finds_2 7 rfl rfl)
theorem dX4_finds_57 : decode cX4_finds 57 = .ok (.aload_n 2, 1) := dk_44 (dk_at dksX4_finds_2 10 rfl rfl)
theorem dX4_finds_58 : decode cX4_finds 58 = .ok (.iload 5, 2) := dk_21 5 (dk_at dksX4_finds_2 11 rfl rfl)
theorem dX4_finds_60 : decode cX4_finds 60 = .ok (.iaload, 1) := dk_46 (dk_at dksX4_finds_2 13 rfl rfl)
theorem dX4_finds_61 : decode cX4_finds 61 = .ok (.iconst 1, 1) := dk_4 (dk_at dksX4_finds_2 14 rfl rfl)
theorem dX4_finds_62 : decode cX4_finds 62 = .ok (.if_icmp .ne 5, 3) := dk_160 0 5 (dk_at dksX4_finds_2 15 rfl rfl)
theorem dX4_finds_65 : decode cX4_finds 65 = .ok (.iconst 2, 1) := dk_5 (dk_at dksX4_finds_2 18 rfl rfl)
theorem dX4_finds_66 : decode cX4_finds 66 = .ok (.ireturn, 1) := dk_172 (dk_at dksX4_finds_2 19 rfl rfl)
theorem dX4_finds_67 : decode cX4_finds 67 = .ok (.iload 4, 2) := dk_21 4 (dk_at dksX4_finds_2 20 rfl rfl)
theorem dX4_finds_69 : decode cX4_finds 69 = .ok (.aload_n 2, 1) := dk_44 (dk_at dksX4_finds_2 22 rfl rfl)
theorem dX4_finds_70 : decode cX4_finds 70 = .ok (.iload 5, 2) := dk_21 5 (dk_at dksX4_finds_3 0 rfl rfl)
theorem dX4_finds_72 : decode cX4_finds 72 = .ok (.iaload, 1) := dk_46 (dk_at dksX4_finds_3 2 rfl rfl)
theorem dX4_finds_73 : decode cX4_finds 73 = .ok (.iconst 2, 1) := dk_5 (dk_at dksX4_finds_3 3 rfl rfl)
theorem dX4_finds_74 : decode cX4_finds 74 = .ok (.if_icmp .ne 7, 3) := dk_160 0 7 (dk_at dksX4_finds_3 4 rfl rfl)
theorem dX4_finds_77 : decode cX4_finds 77 = .ok (.iconst 1, 1) := dk_4 (dk_at dksX4_finds_3 7 rfl rfl)
theorem dX4_finds_78 : decode cX4_finds 78 = .ok (.goto 4, 3) := dk_167 0 4 (dk_at dksX4_finds_3 8 rfl rfl)
theorem dX4_finds_81 : decode cX4_finds 81 = .ok (.iconst 0, 1) := dk_3 (dk_at dksX4_finds_3 11 rfl rfl)
theorem dX4_finds_82 : decode cX4_finds 82 = .ok (.iand, 1) := dk_126 (dk_at dksX4_finds_3 12 rfl rfl)
theorem dX4_finds_83 : decode cX4_finds 83 = .ok (.istore 4, 2) := dk_54 4 (dk_at dksX4_finds_3 13 rfl rfl)
theorem dX4_finds_85 : decode cX4_finds 85 = .ok (.aload_n 0, 1) := dk_42 (dk_at dksX4_finds_3 15 rfl rfl)
theorem dX4_finds_86 : decode cX4_finds 86 = .ok (.getfield 79, 3) := dk_180 0 79 (dk_at dksX4_finds_3 16 rfl rfl)
theorem dX4_finds_89 : decode cX4_finds 89 = .ok (.iload 5, 2) := dk_21 5 (dk_at dksX4_finds_3 19 rfl rfl)
theorem dX4_finds_91 : decode cX4_finds 91 = .ok (.iaload, 1) := dk_46 (dk_at dksX4_finds_3 21 rfl rfl)
theorem dX4_finds_92 : decode cX4_finds 92 = .ok (.istore 5, 2) := dk_54 5 (dk_at dksX4_finds_3 22 rfl rfl)
theorem dX4_finds_94 : decode cX4_finds 94 = .ok (.goto (-43), 3) := dk_167 255 213 (dk_at dksX4_finds_4 0 rfl rfl)
theorem dX4_finds_97 : decode cX4_finds 97 = .ok (.iload 4, 2) := dk_21 4 (dk_at dksX4_finds_4 3 rfl rfl)
theorem dX4_finds_99 : decode cX4_finds 99 = .ok (.ifCond .eq 19, 3) := dk_153 0 19 (dk_at dksX4_finds_4 5 rfl rfl)
theorem dX4_finds_102 : decode cX4_finds 102 = .ok (.iload_n 3, 1) := dk_29 (dk_at dksX4_finds_4 8 rfl rfl)
theorem dX4_finds_103 : decode cX4_finds 103 = .ok (.iconst (-1), 1) := dk_2 (dk_at dksX4_finds_4 9 rfl rfl)
theorem dX4_finds_104 : decode cX4_finds 104 = .ok (.if_icmp .eq 10, 3) := dk_159 0 10 (dk_at dksX4_finds_4 10 rfl rfl)
theorem dX4_finds_107 : decode cX4_finds 107 = .ok (.aload_n 2, 1) := dk_44 (dk_at dksX4_finds_4 13 rfl rfl)
theorem dX4_finds_108 : decode cX4_finds 108 = .ok (.iload_n 3, 1) := dk_29 (dk_at dksX4_finds_4 14 rfl rfl)
theorem dX4_finds_109 : decode cX4_finds 109 = .ok (.iaload, 1) := dk_46 (dk_at dksX4_finds_4 15 rfl rfl)
theorem dX4_finds_110 : decode cX4_finds 110 = .ok (.iconst 1, 1) := dk_4 (dk_at dksX4_finds_4 16 rfl rfl)
theorem dX4_finds_111 : decode cX4_finds 111 = .ok (.if_icmp .ne 7, 3) := dk_160 0 7 (dk_at dksX4_finds_4 17 rfl rfl)
theorem dX4_finds_114 : decode cX4_finds 114 = .ok (.iconst 1, 1) := dk_4 (dk_at dksX4_finds_4 20 rfl rfl)
theorem dX4_finds_115 : decode cX4_finds 115 = .ok (.goto 4, 3) := dk_167 0 4 (dk_at dksX4_finds_4 21 rfl rfl)
theorem dX4_finds_118 : decode cX4_finds 118 = .ok (.iconst 0, 1) := dk_3 (dk_at dksX4_finds_5 0 rfl rfl)
theorem dX4_finds_119 : decode cX4_finds 119 = .ok (.ireturn, 1) := dk_172 (dk_at dksX4_finds_5 1 rfl rfl)
def wp_X4_finds_B38 (Z : zzG) (K : Option Value → zzM → Prop) (M : zzM) : Prop := K (some (.int (2 : Int32))) M
def wp_X4_finds_B82 (Z : zzG) (k51 : Option Nat → Option Nat → Int32 → Int32 → Int32 → zzM → Prop) (K : Option Value → zzM → Prop) (v0 : Option Nat) (v2 : Option Nat) (v3 : Int32) (v5 : Int32) (s0 : Int32) (s1 : Int32) (M : zzM) : Prop := zgA Z M v0 [16] 22 fun x16 => zaI Z M x16 [100] v5 fun x17 => k51 v0 v2 v3 (s1 &&& s0) x17 M
def wp_X4_finds_B119 (Z : zzG) (K : Option Value → zzM → Prop) (s0 : Int32) (M : zzM) : Prop := K (some (.int s0)) M
def wp_X4_finds_B114 (Z : zzG) (K : Option Value → zzM → Prop) (M : zzM) : Prop := wp_X4_finds_B119 Z K (1 : Int32) M
def wp_X4_finds_B118 (Z : zzG) (K : Option Value → zzM → Prop) (M : zzM) : Prop := wp_X4_finds_B119 Z K (0 : Int32) M
def wp_X4_finds_L51 (Z : zzG) (K : Option Value → zzM → Prop) : Nat → Option Nat → Option Nat → Int32 → Int32 → Int32 → zzM → Prop
  | 0, _, _, _, _, _, _ => False
  | n + 1, v0, v2, v3, v4, v5, M => if v5 = (-1 : Int32) then (if v4 = 0 then (wp_X4_finds_B118 Z K M) else (if v3 = (-1 : Int32) then (wp_X4_finds_B114 Z K M) else (zaI Z M v2 [100] v3 fun x13 => if x13 = (1 : Int32) then (wp_X4_finds_B114 Z K M) else (wp_X4_finds_B118 Z K M)))) else (zaI Z M v2 [100] v5 fun x14 => if x14 = (1 : Int32) then (K (some (.int (2 : Int32))) M) else (zaI Z M v2 [100] v5 fun x15 => if x15 = (2 : Int32) then (wp_X4_finds_B82 Z (wp_X4_finds_L51 Z K n) K v0 v2 v3 v5 (1 : Int32) v4 M) else (wp_X4_finds_B82 Z (wp_X4_finds_L51 Z K n) K v0 v2 v3 v5 (0 : Int32) v4 M)))
def wp_X4_finds_B40 (Z : zzG) (K : Option Value → zzM → Prop) (v0 : Option Nat) (v1 : Int32) (v2 : Option Nat) (v3 : Int32) (M : zzM) : Prop := zgA Z M v0 [16] 21 fun x11 => zaI Z M x11 [100] v1 fun x12 => ∃ n51 : Nat, wp_X4_finds_L51 Z K n51 v0 v2 v3 (1 : Int32) x12 M
def wp_X4_finds (Z : zzG) (this : Option Nat) (p0 : Int32) (p1 : Option Nat) (M : zzM) (K : Option Value → zzM → Prop) : Prop := zgA Z M this [16] 11 fun x1 => zgA Z M x1 [17] 8 fun x2 => zaI Z M x2 [100] p0 fun x3 => zty Z M this fun t => t = 16 ∧ wp_X4_isConceded Z this p0 M (fun r4 M5 => zrI r4 fun x8 => if x8 = 0 then (zgI Z M5 this [16] 20 fun x9 => if p0 = x9 then (wp_X4_finds_B38 Z K M5) else (if x3 = (-1 : Int32) then (wp_X4_finds_B40 Z K this p0 p1 x3 M5) else (zaI Z M5 p1 [100] x3 fun x10 => if x10 = (2 : Int32) then (wp_X4_finds_B38 Z K M5) else (wp_X4_finds_B40 Z K this p0 p1 x3 M5)))) else (wp_X4_finds_B38 Z K M5))
theorem ok_X4_finds_B38 {G : zzX} (C : zz_C G cX4_finds "DebateHallModel" 6) {K : Option Value → zzM → Prop} (E : zz_E G (some .int) K (fun _ _ _ => False)) (hH : zz_H G []) (hR : zz_Rm G 2) {M : zzM} {bc bs : Nat} (hw : wp_X4_finds_B38 (zz_Zof G) K M) : zz_T G 6 M bc bs 38 [] [] := by
  unfold wp_X4_finds_B38 at hw
  refine zz_iconst (v := (2 : Int32)) C dX4_finds_38 (by decide) ?_
  exact zz_iret C E dX4_finds_39 hw
theorem ok_X4_finds_B82 {G : zzX} (C : zz_C G cX4_finds "DebateHallModel" 6) {K : Option Value → zzM → Prop} (E : zz_E G (some .int) K (fun _ _ _ => False)) (hH : zz_H G []) (hR : zz_Rm G 2) {k51 : Option Nat → Option Nat → Int32 → Int32 → Int32 → zzM → Prop} (hk51 : ∀ (z0 : Option Nat) (z1 : Option Nat) (z2 : Int32) (z3 : Int32) (z4 : Int32) (M : zzM) (bc bs : Nat), k51 z0 z1 z2 z3 z4 M → zz_T G 6 M bc bs 51 [(0, va_rf z0), (2, va_rf z1), (3, .int z2), (4, .int z3), (5, .int z4)] []) {v0 : Option Nat} {v2 : Option Nat} {v3 : Int32} {v5 : Int32} {s0 : Int32} {s1 : Int32} {M : zzM} {bc bs : Nat} (hw : wp_X4_finds_B82 (zz_Zof G) k51 K v0 v2 v3 v5 s0 s1 M) : zz_T G 6 M bc bs 82 [(0, va_rf v0), (2, va_rf v2), (3, .int v3), (5, .int v5)] [.int s0, .int s1] := by
  unfold wp_X4_finds_B82 at hw
  refine zz_iand C dX4_finds_82 ?_
  refine zz_istore (lv' := [(4, .int (s1 &&& s0)), (0, va_rf v0), (2, va_rf v2), (3, .int v3), (5, .int v5)]) C dX4_finds_83 (by decide) rfl ?_
  refine zz_aload_n C dX4_finds_85 rfl 1 rfl ?_
  refine zz_getA C dX4_finds_86 (Or.inl q2458) zf_16_22_ebateHallModel hw (fun x16 hw => ?_)
  refine zz_iload C dX4_finds_89 4 rfl ?_
  refine zz_iald C dX4_finds_91 hw (fun x17 hw => ?_)
  refine zz_istore (lv' := [(5, .int x17), (4, .int (s1 &&& s0)), (0, va_rf v0), (2, va_rf v2), (3, .int v3)]) C dX4_finds_92 (by decide) rfl ?_
  refine zz_goto (tgt := 51) C dX4_finds_94 (by decide) ?_
  refine zz_subP [2, 3, 4, 1, 0] rfl ?_
  exact hk51 _ _ _ _ _ _ _ _ hw
theorem ok_X4_finds_B119 {G : zzX} (C : zz_C G cX4_finds "DebateHallModel" 6) {K : Option Value → zzM → Prop} (E : zz_E G (some .int) K (fun _ _ _ => False)) (hH : zz_H G []) (hR : zz_Rm G 2) {s0 : Int32} {M : zzM} {bc bs : Nat} (hw : wp_X4_finds_B119 (zz_Zof G) K s0 M) : zz_T G 6 M bc bs 119 [] [.int s0] := by
  unfold wp_X4_finds_B119 at hw
  exact zz_iret C E dX4_finds_119 hw
theorem ok_X4_finds_B114 {G : zzX} (C : zz_C G cX4_finds "DebateHallModel" 6) {K : Option Value → zzM → Prop} (E : zz_E G (some .int) K (fun _ _ _ => False)) (hH : zz_H G []) (hR : zz_Rm G 2) {M : zzM} {bc bs : Nat} (hw : wp_X4_finds_B114 (zz_Zof G) K M) : zz_T G 6 M bc bs 114 [] [] := by
  unfold wp_X4_finds_B114 at hw
  refine zz_iconst (v := (1 : Int32)) C dX4_finds_114 (by decide) ?_
  refine zz_goto (tgt := 119) C dX4_finds_115 (by decide) ?_
  refine zz_subP [] rfl ?_
  exact ok_X4_finds_B119 C E hH hR hw
theorem ok_X4_finds_B118 {G : zzX} (C : zz_C G cX4_finds "DebateHallModel" 6) {K : Option Value → zzM → Prop} (E : zz_E G (some .int) K (fun _ _ _ => False)) (hH : zz_H G []) (hR : zz_Rm G 2) {M : zzM} {bc bs : Nat} (hw : wp_X4_finds_B118 (zz_Zof G) K M) : zz_T G 6 M bc bs 118 [] [] := by
  unfold wp_X4_finds_B118 at hw
  refine zz_iconst (v := (0 : Int32)) C dX4_finds_118 (by decide) ?_
  refine zz_subP [] rfl ?_
  exact ok_X4_finds_B119 C E hH hR hw
theorem ok_X4_finds_L51 {G : zzX} (C : zz_C G cX4_finds "DebateHallModel" 6) {K : Option Value → zzM → Prop} (E : zz_E G (some .int) K (fun _ _ _ => False)) (hH : zz_H G []) (hR : zz_Rm G 2) : ∀ (n : Nat) (v0 : Option Nat) (v2 : Option Nat) (v3 : Int32) (v4 : Int32) (v5 : Int32) (M : zzM) (bc bs : Nat), wp_X4_finds_L51 (zz_Zof G) K n v0 v2 v3 v4 v5 M → zz_T G 6 M bc bs 51 [(0, va_rf v0), (2, va_rf v2), (3, .int v3), (4, .int v4), (5, .int v5)] [] := by
  intro n
  induction n with
  | zero =>
    intro v0 v2 v3 v4 v5 M bc bs hw
    exact False.elim hw
  | succ n ih =>
    intro v0 v2 v3 v4 v5 M bc bs hw
    refine zz_iload C dX4_finds_51 4 rfl ?_
    refine zz_iconst (v := (-1 : Int32)) C dX4_finds_53 (by decide) ?_
    refine zz_icmp_eq (tgt := 97) C dX4_finds_54 (by decide) hw (fun hw => ?_) (fun hw => ?_)
    · refine zz_iload C dX4_finds_97 3 rfl ?_
      refine zz_if_eq (tgt := 118) C dX4_finds_99 (by decide) hw (fun hw => ?_) (fun hw => ?_)
      · refine zz_subP [] rfl ?_
        exact ok_X4_finds_B118 C E hH hR hw
      · refine zz_iload_n C dX4_finds_102 rfl 2 rfl ?_
        refine zz_iconst (v := (-1 : Int32)) C dX4_finds_103 (by decide) ?_
        refine zz_icmp_eq (tgt := 114) C dX4_finds_104 (by decide) hw (fun hw => ?_) (fun hw => ?_)
        · refine zz_subP [] rfl ?_
          exact ok_X4_finds_B114 C E hH hR hw
        · refine zz_aload_n C dX4_finds_107 rfl 1 rfl ?_
          refine zz_iload_n C dX4_finds_108 rfl 2 rfl ?_
          refine zz_iald C dX4_finds_109 hw (fun x13 hw => ?_)
          refine zz_iconst (v := (1 : Int32)) C dX4_finds_110 (by decide) ?_
          refine zz_icmp_ne (tgt := 118) C dX4_finds_111 (by decide) hw (fun hw => ?_) (fun hw => ?_)
          · refine zz_subP [] rfl ?_
            exact ok_X4_finds_B118 C E hH hR hw
          · refine zz_subP [] rfl ?_
            exact ok_X4_finds_B114 C E hH hR hw
    · refine zz_aload_n C dX4_finds_57 rfl 1 rfl ?_
      refine zz_iload C dX4_finds_58 4 rfl ?_
      refine zz_iald C dX4_finds_60 hw (fun x14 hw => ?_)
      refine zz_iconst (v := (1 : Int32)) C dX4_finds_61 (by decide) ?_
      refine zz_icmp_ne (tgt := 67) C dX4_finds_62 (by decide) hw (fun hw => ?_) (fun hw => ?_)
      · refine zz_iload C dX4_finds_67 3 rfl ?_
        refine zz_aload_n C dX4_finds_69 rfl 1 rfl ?_
        refine zz_iload C dX4_finds_70 4 rfl ?_
        refine zz_iald C dX4_finds_72 hw (fun x15 hw => ?_)
        refine zz_iconst (v := (2 : Int32)) C dX4_finds_73 (by decide) ?_
        refine zz_icmp_ne (tgt := 81) C dX4_finds_74 (by decide) hw (fun hw => ?_) (fun hw => ?_)
        · refine zz_iconst (v := (0 : Int32)) C dX4_finds_81 (by decide) ?_
          refine zz_subP [0, 1, 2, 4] rfl ?_
          exact ok_X4_finds_B82 C E hH hR (fun z0 z1 z2 z3 z4 z5 z6 z7 hw => ih z0 z1 z2 z3 z4 z5 z6 z7 hw) hw
        · refine zz_iconst (v := (1 : Int32)) C dX4_finds_77 (by decide) ?_
          refine zz_goto (tgt := 82) C dX4_finds_78 (by decide) ?_
          refine zz_subP [0, 1, 2, 4] rfl ?_
          exact ok_X4_finds_B82 C E hH hR (fun z0 z1 z2 z3 z4 z5 z6 z7 hw => ih z0 z1 z2 z3 z4 z5 z6 z7 hw) hw
      · refine zz_iconst (v := (2 : Int32)) C dX4_finds_65 (by decide) ?_
        exact zz_iret C E dX4_finds_66 hw
theorem ok_X4_finds_B40 {G : zzX} (C : zz_C G cX4_finds "DebateHallModel" 6) {K : Option Value → zzM → Prop} (E : zz_E G (some .int) K (fun _ _ _ => False)) (hH : zz_H G []) (hR : zz_Rm G 2) {v0 : Option Nat} {v1 : Int32} {v2 : Option Nat} {v3 : Int32} {M : zzM} {bc bs : Nat} (hw : wp_X4_finds_B40 (zz_Zof G) K v0 v1 v2 v3 M) : zz_T G 6 M bc bs 40 [(0, va_rf v0), (1, .int v1), (2, va_rf v2), (3, .int v3)] [] := by
  unfold wp_X4_finds_B40 at hw
  refine zz_iconst (v := (1 : Int32)) C dX4_finds_40 (by decide) ?_
  refine zz_istore (lv' := [(4, .int (1 : Int32)), (0, va_rf v0), (1, .int v1), (2, va_rf v2), (3, .int v3)]) C dX4_finds_41 (by decide) rfl ?_
  refine zz_aload_n C dX4_finds_43 rfl 1 rfl ?_
  refine zz_getA C dX4_finds_44 (Or.inl q2457) zf_16_21_ebateHallModel hw (fun x11 hw => ?_)
  refine zz_iload_n C dX4_finds_47 rfl 2 rfl ?_
  refine zz_iald C dX4_finds_48 hw (fun x12 hw => ?_)
  refine zz_istore (lv' := [(5, .int x12), (4, .int (1 : Int32)), (0, va_rf v0), (1, .int v1), (2, va_rf v2), (3, .int v3)]) C dX4_finds_49 (by decide) rfl ?_
  refine zz_subP [2, 4, 5, 1, 0] rfl ?_
  obtain ⟨n51, hw⟩ := hw
  exact ok_X4_finds_L51 C E hH hR n51 _ _ _ _ _ _ _ _ hw
theorem ok_X4_finds {Z : zzG} {l : Launch} (hl : l.stackTraces = false) {this : Option Nat} {p0 : Int32} {p1 : Option Nat} {M : zzM} {mc ms : Nat} {K : Option Value → zzM → Prop} (hw : wp_X4_finds Z this p0 p1 M K) : zz_Met Z l yX4_finds (zz_ws yX4_finds cX4_finds 6 (some .int) none) 2 [va_rf this, .int p0, va_rf p1] M mc ms K (fun _ _ _ => False) := by
  refine zz_ofW hl (plainFor_of_name (by decide)) (by simp only [zz_sl0, zz_slI, zz_slJ, zz_slA] <;> decide) (fun G hZ hll C E hH hR hin => ?_)
  subst hZ
  subst hll
  rw [show lv_args 0 [va_rf this, .int p0, va_rf p1] = [(0, va_rf this), (1, .int p0), (2, va_rf p1)] by simp only [zz_la0, zz_laI, zz_laJ, zz_laA]]
  unfold wp_X4_finds at hw
  refine zz_aload_n C dX4_finds_0 rfl 0 rfl ?_
  refine zz_getA C dX4_finds_1 (Or.inl q2447) zf_16_11_ebateHallModel hw (fun x1 hw => ?_)
  refine zz_getA C dX4_finds_4 (Or.inr ⟨_, q2404⟩) zf_17_8_allModel_State hw (fun x2 hw => ?_)
  refine zz_iload_n C dX4_finds_7 rfl 1 rfl ?_
  refine zz_iald C dX4_finds_8 hw (fun x3 hw => ?_)
  refine zz_istore_n (i := 3) (lv' := [(3, .int x3), (0, va_rf this), (1, .int p0), (2, va_rf p1)]) C dX4_finds_9 rfl (by decide) (by simp [zz_cat, zz_catI, zz_catJ, zz_catD]) ?_
  refine zz_aload_n C dX4_finds_10 rfl 1 rfl ?_
  refine zz_iload_n C dX4_finds_11 rfl 2 rfl ?_
  obtain ⟨a9, t9, b9, fs9, hro, hL, rfl, hw⟩ := ztyS hw
  refine zz_callV (r := (zR_16, zT_16, 24)) (As := [.int p0]) (rest := []) (mc := 0) (ms := 0) C hR hro dX4_finds_12 (Or.inl q2700) q2702 (Or.inl qs59) zl_DebateHallModel zk_X4_isConceded (Or.inl rfl) zy_X4_isConceded rfl (by decide) (by decide) hL (ok_X4_isConceded (zz_hl C) hw) (Nat.zero_le _) (Nat.zero_le _) (zz_cat10 _ (Nat.le_of_ble_eq_true rfl)) (fun r4 M5 hw => zz_kI hw (fun x8 hw => ?_)) (fun _ _ _ h9 => h9.elim) rfl
  refine zz_if_ne (tgt := 38) C dX4_finds_15 (by decide) hw (fun hw => ?_) (fun hw => ?_)
  · refine zz_subP [] rfl ?_
    exact ok_X4_finds_B38 C E hH hR hw
  · refine zz_iload_n C dX4_finds_18 rfl 2 rfl ?_
    refine zz_aload_n C dX4_finds_19 rfl 1 rfl ?_
    refine zz_getI C dX4_finds_20 (Or.inl q2456) zf_16_20_ebateHallModel hw (fun x9 hw => ?_)
    refine zz_icmp_eq (tgt := 38) C dX4_finds_23 (by decide) hw (fun hw => ?_) (fun hw => ?_)
    · refine zz_subP [] rfl ?_
      exact ok_X4_finds_B38 C E hH hR hw
    · refine zz_iload_n C dX4_finds_26 rfl 0 rfl ?_
      refine zz_iconst (v := (-1 : Int32)) C dX4_finds_27 (by decide) ?_
      refine zz_icmp_eq (tgt := 40) C dX4_finds_28 (by decide) hw (fun hw => ?_) (fun hw => ?_)
      · refine zz_subP [1, 2, 3, 0] rfl ?_
        exact ok_X4_finds_B40 C E hH hR hw
      · refine zz_aload_n C dX4_finds_31 rfl 3 rfl ?_
        refine zz_iload_n C dX4_finds_32 rfl 0 rfl ?_
        refine zz_iald C dX4_finds_33 hw (fun x10 hw => ?_)
        refine zz_iconst (v := (2 : Int32)) C dX4_finds_34 (by decide) ?_
        refine zz_icmp_ne (tgt := 40) C dX4_finds_35 (by decide) hw (fun hw => ?_) (fun hw => ?_)
        · refine zz_subP [1, 2, 3, 0] rfl ?_
          exact ok_X4_finds_B40 C E hH hR hw
        · refine zz_subP [] rfl ?_
          exact ok_X4_finds_B38 C E hH hR hw
abbrev cX4_stand : ByteArray := prog_25_method_11_code
def yX4_stand : MethodName := ⟨"DebateHallModel", "stand", "([I[I)I"⟩
def dkwX4_stand_9 : List UInt8 := [154, 0, 5, 29, 172, 132, 3, 1, 167, 255, 142]
abbrev dktX4_stand_9 : List UInt8 := dkwX4_stand_9 ++ []
def dkwX4_stand_8 : List UInt8 := [21, 5, 46, 79, 44, 21, 5, 29, 4, 96, 79, 4, 54, 4, 132, 5, 1, 167, 255, 207, 21, 4]
abbrev dktX4_stand_8 : List UInt8 := dkwX4_stand_8 ++ dktX4_stand_9
def dkwX4_stand_7 : List UInt8 := [162, 0, 43, 42, 180, 0, 82, 21, 5, 46, 154, 0, 6, 167, 0, 24, 43, 21, 5, 42, 180, 0, 82]
abbrev dktX4_stand_7 : List UInt8 := dkwX4_stand_7 ++ dktX4_stand_8
def dkwX4_stand_6 : List UInt8 := [167, 0, 4, 3, 79, 132, 5, 1, 167, 255, 216, 3, 54, 5, 21, 5, 42, 180, 0, 48, 180, 0, 95]
abbrev dktX4_stand_6 : List UInt8 := dkwX4_stand_6 ++ dktX4_stand_7
def dkwX4_stand_5 : List UInt8 := [162, 0, 34, 42, 180, 0, 82, 21, 5, 43, 21, 5, 46, 154, 0, 13, 42, 21, 5, 43, 182, 0, 114]
abbrev dktX4_stand_5 : List UInt8 := dkwX4_stand_5 ++ dktX4_stand_6
def dkwX4_stand_4 : List UInt8 := [79, 132, 3, 255, 167, 255, 200, 3, 62, 3, 54, 4, 3, 54, 5, 21, 5, 42, 180, 0, 48, 180, 0, 95]
abbrev dktX4_stand_4 : List UInt8 := dkwX4_stand_4 ++ dktX4_stand_5
def dkwX4_stand_3 : List UInt8 := [180, 0, 48, 180, 0, 111, 29, 46, 46, 79, 42, 180, 0, 76, 42, 180, 0, 48, 180, 0, 111, 29, 46, 29]
abbrev dktX4_stand_3 : List UInt8 := dkwX4_stand_3 ++ dktX4_stand_4
def dkwX4_stand_2 : List UInt8 := [42, 180, 0, 48, 29, 182, 0, 108, 154, 0, 6, 167, 0, 38, 42, 180, 0, 79, 29, 42, 180, 0, 76, 42]
abbrev dktX4_stand_2 : List UInt8 := dkwX4_stand_2 ++ dktX4_stand_3
def dkwX4_stand_1 : List UInt8 := [44, 29, 3, 79, 132, 3, 1, 167, 255, 227, 42, 180, 0, 48, 180, 0, 95, 4, 100, 62, 29, 155, 0, 58]
abbrev dktX4_stand_1 : List UInt8 := dkwX4_stand_1 ++ dktX4_stand_2
def dkwX4_stand_0 : List UInt8 := [3, 62, 29, 42, 180, 0, 48, 180, 0, 95, 162, 0, 24, 42, 180, 0, 76, 29, 2, 79, 43, 29, 3, 79]
abbrev dktX4_stand_0 : List UInt8 := dkwX4_stand_0 ++ dktX4_stand_1
theorem dksX4_stand_0 : cX4_stand.data.toList.drop 0 = dktX4_stand_0 := by decide +kernel
theorem dksX4_stand_1 : cX4_stand.data.toList.drop 24 = dktX4_stand_1 := dk_seg dksX4_stand_0 24 rfl rfl
theorem dksX4_stand_2 : cX4_stand.data.toList.drop 48 = dktX4_stand_2 := dk_seg dksX4_stand_1 24 rfl rfl
theorem dksX4_stand_3 : cX4_stand.data.toList.drop 72 = dktX4_stand_3 := dk_seg dksX4_stand_2 24 rfl rfl
theorem dksX4_stand_4 : cX4_stand.data.toList.drop 96 = dktX4_stand_4 := dk_seg dksX4_stand_3 24 rfl rfl
theorem dksX4_stand_5 : cX4_stand.data.toList.drop 120 = dktX4_stand_5 := dk_seg dksX4_stand_4 24 rfl rfl
theorem dksX4_stand_6 : cX4_stand.data.toList.drop 143 = dktX4_stand_6 := dk_seg dksX4_stand_5 23 rfl rfl
theorem dksX4_stand_7 : cX4_stand.data.toList.drop 166 = dktX4_stand_7 := dk_seg dksX4_stand_6 23 rfl rfl
theorem dksX4_stand_8 : cX4_stand.data.toList.drop 189 = dktX4_stand_8 := dk_seg dksX4_stand_7 23 rfl rfl
theorem dksX4_stand_9 : cX4_stand.data.toList.drop 211 = dktX4_stand_9 := dk_seg dksX4_stand_8 22 rfl rfl
theorem dX4_stand_0 : decode cX4_stand 0 = .ok (.iconst 0, 1) := dk_3 (dk_at dksX4_stand_0 0 rfl rfl)
theorem dX4_stand_1 : decode cX4_stand 1 = .ok (.istore_n 3, 1) := dk_62 (dk_at dksX4_stand_0 1 rfl rfl)
theorem dX4_stand_2 : decode cX4_stand 2 = .ok (.iload_n 3, 1) := dk_29 (dk_at dksX4_stand_0 2 rfl rfl)
theorem dX4_stand_3 : decode cX4_stand 3 = .ok (.aload_n 0, 1) := dk_42 (dk_at dksX4_stand_0 3 rfl rfl)
theorem dX4_stand_4 : decode cX4_stand 4 = .ok (.getfield 48, 3) := dk_180 0 48 (dk_at dksX4_stand_0 4 rfl rfl)
theorem dX4_stand_7 : decode cX4_stand 7 = .ok (.getfield 95, 3) := dk_180 0 95 (dk_at dksX4_stand_0 7 rfl rfl)
theorem dX4_stand_10 : decode cX4_stand 10 = .ok (.if_icmp .ge 24, 3) := dk_162 0 24 (dk_at dksX4_stand_0 10 rfl rfl)
theorem dX4_stand_13 : decode cX4_stand 13 = .ok (.aload_n 0, 1) := dk_42 (dk_at dksX4_stand_0 13 rfl rfl)
theorem dX4_stand_14 : decode cX4_stand 14 = .ok (.getfield 76, 3) := dk_180 0 76 (dk_at dksX4_stand_0 14 rfl rfl)
theorem dX4_stand_17 : decode cX4_stand 17 = .ok (.iload_n 3, 1) := dk_29 (dk_at dksX4_stand_0 17 rfl rfl)
theorem dX4_stand_18 : decode cX4_stand 18 = .ok (.iconst (-1), 1) := dk_2 (dk_at dksX4_stand_0 18 rfl rfl)
theorem dX4_stand_19 : decode cX4_stand 19 = .ok (.iastore, 1) := dk_79 (dk_at dksX4_stand_0 19 rfl rfl)
theorem dX4_stand_20 : decode cX4_stand 20 = .ok (.aload_n 1, 1) := dk_43 (dk_at dksX4_stand_0 20 rfl rfl)
theorem dX4_stand_21 : decode cX4_stand 21 = .ok (.iload_n 3, 1) := dk_29 (dk_at dksX4_stand_0 21 rfl rfl)
theorem dX4_stand_22 : decode cX4_stand 22 = .ok (.iconst 0, 1) := dk_3 (dk_at dksX4_stand_0 22 rfl rfl)
theorem dX4_stand_23 : decode cX4_stand 23 = .ok (.iastore, 1) := dk_79 (dk_at dksX4_stand_0 23 rfl rfl)
theorem dX4_stand_24 : decode cX4_stand 24 = .ok (.aload_n 2, 1) := dk_44 (dk_at dksX4_stand_1 0 rfl rfl)
theorem dX4_stand_25 : decode cX4_stand 25 = .ok (.iload_n 3, 1) := dk_29 (dk_at dksX4_stand_1 1 rfl rfl)
theorem dX4_stand_26 : decode cX4_stand 26 = .ok (.iconst 0, 1) := dk_3 (dk_at dksX4_stand_1 2 rfl rfl)
theorem dX4_stand_27 : decode cX4_stand 27 = .ok (.iastore, 1) := dk_79 (dk_at dksX4_stand_1 3 rfl rfl)
theorem dX4_stand_28 : decode cX4_stand 28 = .ok (.iinc 3 1, 3) := dk_132 3 1 (dk_at dksX4_stand_1 4 rfl rfl)
theorem dX4_stand_31 : decode cX4_stand 31 = .ok (.goto (-29), 3) := dk_167 255 227 (dk_at dksX4_stand_1 7 rfl rfl)
theorem dX4_stand_34 : decode cX4_stand 34 = .ok (.aload_n 0, 1) := dk_42 (dk_at dksX4_stand_1 10 rfl rfl)
theorem dX4_stand_35 : decode cX4_stand 35 = .ok (.getfield 48, 3) := dk_180 0 48 (dk_at dksX4_stand_1 11 rfl rfl)
theorem dX4_stand_38 : decode cX4_stand 38 = .ok (.getfield 95, 3) := dk_180 0 95 (dk_at dksX4_stand_1 14 rfl rfl)
theorem dX4_stand_41 : decode cX4_stand 41 = .ok (.iconst 1, 1) := dk_4 (dk_at dksX4_stand_1 17 rfl rfl)
theorem dX4_stand_42 : decode cX4_stand 42 = .ok (.isub, 1) := dk_100 (dk_at dksX4_stand_1 18 rfl rfl)
theorem dX4_stand_43 : decode cX4_stand 43 = .ok (.istore_n 3, 1) := dk_62 (dk_at dksX4_stand_1 19 rfl rfl)
theorem dX4_stand_44 : decode cX4_stand 44 = .ok (.iload_n 3, 1) := dk_29 (dk_at dksX4_stand_1 20 rfl rfl)
theorem dX4_stand_45 : decode cX4_stand 45 = .ok (.ifCond .lt 58, 3) := dk_155 0 58 (dk_at dksX4_stand_1 21 rfl rfl)
theorem dX4_stand_48 : decode cX4_stand 48 = .ok (.aload_n 0, 1) := dk_42 (dk_at dksX4_stand_2 0 rfl rfl)
theorem dX4_stand_49 : decode cX4_stand 49 = .ok (.getfield 48, 3) := dk_180 0 48 (dk_at dksX4_stand_2 1 rfl rfl)
theorem dX4_stand_52 : decode cX4_stand 52 = .ok (.iload_n 3, 1) := dk_29 (dk_at dksX4_stand_2 4 rfl rfl)
theorem dX4_stand_53 : decode cX4_stand 53 = .ok (.invokevirtual 108, 3) := dk_182 0 108 (dk_at dksX4_stand_2 5 rfl rfl)
theorem dX4_stand_56 : decode cX4_stand 56 = .ok (.ifCond .ne 6, 3) := dk_154 0 6 (dk_at dksX4_stand_2 8 rfl rfl)
theorem dX4_stand_59 : decode cX4_stand 59 = .ok (.goto 38, 3) := dk_167 0 38 (dk_at dksX4_stand_2 11 rfl rfl)
theorem dX4_stand_62 : decode cX4_stand 62 = .ok (.aload_n 0, 1) := dk_42 (dk_at dksX4_stand_2 14 rfl rfl)
theorem dX4_stand_63 : decode cX4_stand 63 = .ok (.getfield 79, 3) := dk_180 0 79 (dk_at dksX4_stand_2 15 rfl rfl)
theorem dX4_stand_66 : decode cX4_stand 66 = .ok (.iload_n 3, 1) := dk_29 (dk_at dksX4_stand_2 18 rfl rfl)
theorem dX4_stand_67 : decode cX4_stand 67 = .ok (.aload_n 0, 1) := dk_42 (dk_at dksX4_stand_2 19 rfl rfl)
theorem dX4_stand_68 : decode cX4_stand 68 = .ok (.getfield 76, 3) := dk_180 0 76 (dk_at dksX4_stand_2 20 rfl rfl)
theorem dX4_stand_71 : decode cX4_stand 71 = .ok (.aload_n 0, 1) := dk_42 (dk_at dksX4_stand_2 23 rfl rfl)
theorem dX4_stand_72 : decode cX4_stand 72 = .ok (.getfield 48, 3) := dk_180 0 48 (dk_at dksX4_stand_3 0 rfl rfl)
theorem dX4_stand_75 : decode cX4_stand 75 = .ok (.getfield 111, 3) := dk_180 0 111 (dk_at dksX4_stand_3 3 rfl rfl)
theorem dX4_stand_78 : decode cX4_stand 78 = .ok (.iload_n 3, 1) := dk_29 (dk_at dksX4_stand_3 6 rfl rfl)
theorem dX4_stand_79 : decode cX4_stand 79 = .ok (.iaload, 1) := dk_46 (dk_at dksX4_stand_3 7 rfl rfl)
theorem dX4_stand_80 : decode cX4_stand 80 = .ok (.iaload, 1) := dk_46 (dk_at dksX4_stand_3 8 rfl rfl)
theorem dX4_stand_81 : decode cX4_stand 81 = .ok (.iastore, 1) := dk_79 (dk_at dksX4_stand_3 9 rfl rfl)
theorem dX4_stand_82 : decode cX4_stand 82 = .ok (.aload_n 0, 1) := dk_42 (dk_at dksX4_stand_3 10 rfl rfl)
theorem dX4_stand_83 : decode cX4_stand 83 = .ok (.getfield 76, 3) := dk_180 0 76 (dk_at dksX4_stand_3 11 rfl rfl)
theorem dX4_stand_86 : decode cX4_stand 86 = .ok (.aload_n 0, 1) := dk_42 (dk_at dksX4_stand_3 14 rfl rfl)
theorem dX4_stand_87 : decode cX4_stand 87 = .ok (.getfield 48, 3) := dk_180 0 48 (dk_at dksX4_stand_3 15 rfl rfl)
theorem dX4_stand_90 : decode cX4_stand 90 = .ok (.getfield 111, 3) := dk_180 0 111 (dk_at dksX4_stand_3 18 rfl rfl)
theorem dX4_stand_93 : decode cX4_stand 93 = .ok (.iload_n 3, 1) := dk_29 (dk_at dksX4_stand_3 21 rfl rfl)
theorem dX4_stand_94 : decode cX4_stand 94 = .ok (.iaload, 1) := dk_46 (dk_at dksX4_stand_3 22 rfl rfl)
theorem dX4_stand_95 : decode cX4_stand 95 = .ok (.iload_n 3, 1) := dk_29 (dk_at dksX4_stand_3 23 rfl rfl)
theorem dX4_stand_96 : decode cX4_stand 96 = .ok (.iastore, 1) := dk_79 (dk_at dksX4_stand_4 0 rfl rfl)
theorem dX4_stand_97 : decode cX4_stand 97 = .ok (.iinc 3 (-1), 3) := dk_132 3 255 (dk_at dksX4_stand_4 1 rfl rfl)
theorem dX4_stand_100 : decode cX4_stand 100 = .ok (.goto (-56), 3) := dk_167 255 200 (dk_at dksX4_stand_4 4 rfl rfl)
theorem dX4_stand_103 : decode cX4_stand 103 = .ok (.iconst 0, 1) := dk_3 (dk_at dksX4_stand_4 7 rfl rfl)
theorem dX4_stand_104 : decode cX4_stand 104 = .ok (.istore_n 3, 1) := dk_62 (dk_at dksX4_stand_4 8 rfl rfl)
theorem dX4_stand_105 : decode cX4_stand 105 = .ok (.iconst 0, 1) := dk_3 (dk_at dksX4_stand_4 9 rfl rfl)
theorem dX4_stand_106 : decode cX4_stand 106 = .ok (.istore 4, 2) := dk_54 4 (dk_at dksX4_stand_4 10 rfl rfl)
theorem dX4_stand_108 : decode cX4_stand 108 = .ok (.iconst 0, 1) := dk_3 (dk_at dksX4_stand_4 12 rfl rfl)
theorem dX4_stand_109 : decode cX4_stand 109 = .ok (.istore 5, 2) := dk_54 5 (dk_at dksX4_stand_4 13 rfl rfl)
theorem dX4_stand_111 : decode cX4_stand 111 = .ok (.iload 5, 2) := dk_21 5 (dk_at dksX4_stand_4 15 rfl rfl)
theorem dX4_stand_113 : decode cX4_stand 113 = .ok (.aload_n 0, 1) := dk_42 (dk_at dksX4_stand_4 17 rfl rfl)
theorem dX4_stand_114 : decode cX4_stand 114 = .ok (.getfield 48, 3) := dk_180 0 48 (dk_at dksX4_stand_4 18 rfl rfl)
theorem dX4_stand_117 : decode cX4_stand 117 = .ok (.getfield 95, 3) := dk_180 0 95 (dk_at dksX4_stand_4 21 rfl rfl)
theorem dX4_stand_120 : decode cX4_stand 120 = .ok (.if_icmp .ge 34, 3) := dk_162 0 34 (dk_at dksX4_stand_5 0 rfl rfl)
theorem dX4_stand_123 : decode cX4_stand 123 = .ok (.aload_n 0, 1) := dk_42 (dk_at dksX4_stand_5 3 rfl rfl)
theorem dX4_stand_124 : decode cX4_stand 124 = .ok (.getfield 82, 3) := dk_180 0 82 (dk_at dksX4_stand_5 4 rfl rfl)
theorem dX4_stand_127 : decode cX4_stand 127 = .ok (.iload 5, 2) := dk_21 5 (dk_at dksX4_stand_5 7 rfl rfl)
theorem dX4_stand_129 : decode cX4_stand 129 = .ok (.aload_n 1, 1) := dk_43 (dk_at dksX4_stand_5 9 rfl rfl)
theorem dX4_stand_130 : decode cX4_stand 130 = .ok (.iload 5, 2) := dk_21 5 (dk_at dksX4_stand_5 10 rfl rfl)
theorem dX4_stand_132 : decode cX4_stand 132 = .ok (.iaload, 1) := dk_46 (dk_at dksX4_stand_5 12 rfl rfl)
theorem dX4_stand_133 : decode cX4_stand 133 = .ok (.ifCond .ne 13, 3) := dk_154 0 13 (dk_at dksX4_stand_5 13 rfl rfl)
theorem dX4_stand_136 : decode cX4_stand 136 = .ok (.aload_n 0, 1) := dk_42 (dk_at dksX4_stand_5 16 rfl rfl)
theorem dX4_stand_137 : decode cX4_stand 137 = .ok (.iload 5, 2) := dk_21 5 (dk_at dksX4_stand_5 17 rfl rfl)
theorem dX4_stand_139 : decode cX4_stand 139 = .ok (.aload_n 1, 1) := dk_43 (dk_at dksX4_stand_5 19 rfl rfl)
theorem dX4_stand_140 : decode cX4_stand 140 = .ok (.invokevirtual 114, 3) := dk_182 0 114 (dk_at dksX4_stand_5 20 rfl rfl)
theorem dX4_stand_143 : decode cX4_stand 143 = .ok (.goto 4, 3) := dk_167 0 4 (dk_at dksX4_stand_6 0 rfl rfl)
theorem dX4_stand_146 : decode cX4_stand 146 = .ok (.iconst 0, 1) := dk_3 (dk_at dksX4_stand_6 3 rfl rfl)
theorem dX4_stand_147 : decode cX4_stand 147 = .ok (.iastore, 1) := dk_79 (dk_at dksX4_stand_6 4 rfl rfl)
theorem dX4_stand_148 : decode cX4_stand 148 = .ok (.iinc 5 1, 3) := dk_132 5 1 (dk_at dksX4_stand_6 5 rfl rfl)
theorem dX4_stand_151 : decode cX4_stand 151 = .ok (.goto (-40), 3) := dk_167 255 216 (dk_at dksX4_stand_6 8 rfl rfl)
theorem dX4_stand_154 : decode cX4_stand 154 = .ok (.iconst 0, 1) := dk_3 (dk_at dksX4_stand_6 11 rfl rfl)
theorem dX4_stand_155 : decode cX4_stand 155 = .ok (.istore 5, 2) := dk_54 5 (dk_at dksX4_stand_6 12 rfl rfl)
theorem dX4_stand_157 : decode cX4_stand 157 = .ok (.iload 5, 2) := dk_21 5 (dk_at dksX4_stand_6 14 rfl rfl)
theorem dX4_stand_159 : decode cX4_stand 159 = .ok (.aload_n 0, 1) := dk_42 (dk_at dksX4_stand_6 16 rfl rfl)
theorem dX4_stand_160 : decode cX4_stand 160 = .ok (.getfield 48, 3) := dk_180 0 48 (dk_at dksX4_stand_6 17 rfl rfl)
theorem dX4_stand_163 : decode cX4_stand 163 = .ok (.getfield 95, 3) := dk_180 0 95 (dk_at dksX4_stand_6 20 rfl rfl)
theorem dX4_stand_166 : decode cX4_stand 166 = .ok (.if_icmp .ge 43, 3) := dk_162 0 43 (dk_at dksX4_stand_7 0 rfl rfl)
theorem dX4_stand_169 : decode cX4_stand 169 = .ok (.aload_n 0, 1) := dk_42 (dk_at dksX4_stand_7 3 rfl rfl)
theorem dX4_stand_170 : decode cX4_stand 170 = .ok (.getfield 82, 3) := dk_180 0 82 (dk_at dksX4_stand_7 4 rfl rfl)
theorem dX4_stand_173 : decode cX4_stand 173 = .ok (.iload 5, 2) := dk_21 5 (dk_at dksX4_stand_7 7 rfl rfl)
theorem dX4_stand_175 : decode cX4_stand 175 = .ok (.iaload, 1) := dk_46 (dk_at dksX4_stand_7 9 rfl rfl)
theorem dX4_stand_176 : decode cX4_stand 176 = .ok (.ifCond .ne 6, 3) := dk_154 0 6 (dk_at dksX4_stand_7 10 rfl rfl)
theorem dX4_stand_179 : decode cX4_stand 179 = .ok (.goto 24, 3) := dk_167 0 24 (dk_at dksX4_stand_7 13 rfl rfl)
theorem dX4_stand_182 : decode cX4_stand 182 = .ok (.aload_n 1, 1) := dk_43 (dk_at dksX4_stand_7 16 rfl rfl)
theorem dX4_stand_183 : decode cX4_stand 183 = .ok (.iload 5, 2) := dk_21 5 (dk_at dksX4_stand_7 17 rfl rfl)
theorem dX4_stand_185 : decode cX4_stand 185 = .ok (.aload_n 0, 1) := dk_42 (dk_at dksX4_stand_7 19 rfl rfl)
theorem dX4_stand_186 : decode cX4_stand 186 = .ok (.getfield 82, 3) := dk_180 0 82 (dk_at dksX4_stand_7 20 rfl rfl)
theorem dX4_stand_189 : decode cX4_stand 189 = .ok (.iload 5, 2) := dk_21 5 (dk_at dksX4_stand_8 0 rfl rfl)
theorem dX4_stand_191 : decode cX4_stand 191 = .ok (.iaload, 1) := dk_46 (dk_at dksX4_stand_8 2 rfl rfl)
theorem dX4_stand_192 : decode cX4_stand 192 = .ok (.iastore, 1) := dk_79 (dk_at dksX4_stand_8 3 rfl rfl)
theorem dX4_stand_193 : decode cX4_stand 193 = .ok (.aload_n 2, 1) := dk_44 (dk_at dksX4_stand_8 4 rfl rfl)
theorem dX4_stand_194 : decode cX4_stand 194 = .ok (.iload 5, 2) := dk_21 5 (dk_at dksX4_stand_8 5 rfl rfl)
theorem dX4_stand_196 : decode cX4_stand 196 = .ok (.iload_n 3, 1) := dk_29 (dk_at dksX4_stand_8 7 rfl rfl)
theorem dX4_stand_197 : decode cX4_stand 197 = .ok (.iconst 1, 1) := dk_4 (dk_at dksX4_stand_8 8 rfl rfl)
theorem dX4_stand_198 : decode cX4_stand 198 = .ok (.iadd, 1) := dk_96 (dk_at dksX4_stand_8 9 rfl rfl)
theorem dX4_stand_199 : decode cX4_stand 199 = .ok (.iastore, 1) := dk_79 (dk_at dksX4_stand_8 10 rfl rfl)
theorem dX4_stand_200 : decode cX4_stand 200 = .ok (.iconst 1, 1) := dk_4 (dk_at dksX4_stand_8 11 rfl rfl)
theorem dX4_stand_201 : decode cX4_stand 201 = .ok (.istore 4, 2) := dk_54 4 (dk_at dksX4_stand_8 12 rfl rfl)
theorem dX4_stand_203 : decode cX4_stand 203 = .ok (.iinc 5 1, 3) := dk_132 5 1 (dk_at dksX4_stand_8 14 rfl rfl)
theorem dX4_stand_206 : decode cX4_stand 206 = .ok (.goto (-49), 3) := dk_167 255 207 (dk_at dksX4_stand_8 17 rfl rfl)
theorem dX4_stand_209 : decode cX4_stand 209 = .ok (.iload 4, 2) := dk_21 4 (dk_at dksX4_stand_8 20 rfl rfl)
theorem dX4_stand_211 : decode cX4_stand 211 = .ok (.ifCond .ne 5, 3) := dk_154 0 5 (dk_at dksX4_stand_9 0 rfl rfl)
theorem dX4_stand_214 : decode cX4_stand 214 = .ok (.iload_n 3, 1) := dk_29 (dk_at dksX4_stand_9 3 rfl rfl)
theorem dX4_stand_215 : decode cX4_stand 215 = .ok (.ireturn, 1) := dk_172 (dk_at dksX4_stand_9 4 rfl rfl)
theorem dX4_stand_216 : decode cX4_stand 216 = .ok (.iinc 3 1, 3) := dk_132 3 1 (dk_at dksX4_stand_9 5 rfl rfl)
theorem dX4_stand_219 : decode cX4_stand 219 = .ok (.goto (-114), 3) := dk_167 255 142 (dk_at dksX4_stand_9 8 rfl rfl)
theorem q2699 : (Jvm.Cond.code ({ cls := "DebateHallModel", name := "finds", desc := "(I[I)I" } : Jvm.MethodName) prog_25_method_10_code (6 : Nat) (Option.some Jvm.ClassFile.FieldType.int)) ∈ lw_all := lw_g (lw_at lw_m11 219 rfl) rfl
theorem zk_X4_finds : zz_cd yX4_finds cX4_finds 6 (some .int) none ∈ lw_all := q2699
theorem zy_X4_finds : zz_yok yX4_finds 2 = true := by decide +kernel
theorem q2696 : (Jvm.Cond.methodLink "DebateHallModel" (114 : Nat) ({ cls := "DebateHallModel", name := "finds", desc := "(I[I)I" } : Jvm.MethodName)) ∈ lw_all := lw_g (lw_at lw_m11 216 rfl) rfl
theorem q2698 : (Jvm.Cond.instanceMethod ({ cls := "DebateHallModel", name := "finds", desc := "(I[I)I" } : Jvm.MethodName)) ∈ lw_all := lw_g (lw_at lw_m11 218 rfl) rfl
def wp_X4_stand_B97 (Z : zzG) (k44 : Option Nat → Option Nat → Option Nat → Int32 → zzM → Prop) (K : Option Value → zzM → Prop) (v0 : Option Nat) (v1 : Option Nat) (v2 : Option Nat) (v3 : Int32) (M : zzM) : Prop := k44 v0 v1 v2 (v3 + (-1)) M
def wp_X4_stand_B147 (Z : zzG) (k105 : Option Nat → Option Nat → Option Nat → Int32 → zzM → Prop) (k111 : Option Nat → Option Nat → Option Nat → Int32 → Int32 → Int32 → zzM → Prop) (K : Option Value → zzM → Prop) (v0 : Option Nat) (v1 : Option Nat) (v2 : Option Nat) (v3 : Int32) (v4 : Int32) (v5 : Int32) (s0 : Int32) (s1 : Int32) (s2 : Option Nat) (M : zzM) : Prop := zast Z M s2 [100] s1 (.int s0) fun M36 => k111 v0 v1 v2 v3 v4 (v5 + 1) M36
def wp_X4_stand_B203 (Z : zzG) (k105 : Option Nat → Option Nat → Option Nat → Int32 → zzM → Prop) (k157 : Option Nat → Option Nat → Option Nat → Int32 → Int32 → Int32 → zzM → Prop) (K : Option Value → zzM → Prop) (v0 : Option Nat) (v1 : Option Nat) (v2 : Option Nat) (v3 : Int32) (v4 : Int32) (v5 : Int32) (M : zzM) : Prop := k157 v0 v1 v2 v3 v4 (v5 + 1) M
def wp_X4_stand_L157 (Z : zzG) (k105 : Option Nat → Option Nat → Option Nat → Int32 → zzM → Prop) (K : Option Value → zzM → Prop) : Nat → Option Nat → Option Nat → Option Nat → Int32 → Int32 → Int32 → zzM → Prop
  | 0, _, _, _, _, _, _, _ => False
  | n + 1, v0, v1, v2, v3, v4, v5, M => zgA Z M v0 [16] 11 fun x37 => zgI Z M x37 [17] 3 fun x38 => if x38 ≤ v5 then (if v4 = 0 then (K (some (.int v3)) M) else (k105 v0 v1 v2 (v3 + 1) M)) else (zgA Z M v0 [16] 23 fun x39 => zaI Z M x39 [100] v5 fun x40 => if x40 = 0 then (wp_X4_stand_B203 Z k105 (wp_X4_stand_L157 Z k105 K n) K v0 v1 v2 v3 v4 v5 M) else (zgA Z M v0 [16] 23 fun x41 => zaI Z M x41 [100] v5 fun x42 => zast Z M v1 [100] v5 (.int x42) fun M43 => zast Z M43 v2 [100] v5 (.int (v3 + (1 : Int32))) fun M44 => wp_X4_stand_B203 Z k105 (wp_X4_stand_L157 Z k105 K n) K v0 v1 v2 v3 (1 : Int32) v5 M44))
def wp_X4_stand_L111 (Z : zzG) (k105 : Option Nat → Option Nat → Option Nat → Int32 → zzM → Prop) (K : Option Value → zzM → Prop) : Nat → Option Nat → Option Nat → Option Nat → Int32 → Int32 → Int32 → zzM → Prop
  | 0, _, _, _, _, _, _, _ => False
  | n + 1, v0, v1, v2, v3, v4, v5, M => zgA Z M v0 [16] 11 fun x27 => zgI Z M x27 [17] 3 fun x28 => if x28 ≤ v5 then (∃ n157 : Nat, wp_X4_stand_L157 Z k105 K n157 v0 v1 v2 v3 v4 (0 : Int32) M) else (zgA Z M v0 [16] 23 fun x29 => zaI Z M v1 [100] v5 fun x30 => if x30 = 0 then (zty Z M v0 fun t => t = 16 ∧ wp_X4_finds Z v0 v5 v1 M (fun r31 M32 => zrI r31 fun x35 => wp_X4_stand_B147 Z k105 (wp_X4_stand_L111 Z k105 K n) K v0 v1 v2 v3 v4 v5 x35 v5 x29 M32)) else (wp_X4_stand_B147 Z k105 (wp_X4_stand_L111 Z k105 K n) K v0 v1 v2 v3 v4 v5 (0 : Int32) v5 x29 M))
def wp_X4_stand_L105 (Z : zzG) (K : Option Value → zzM → Prop) : Nat → Option Nat → Option Nat → Option Nat → Int32 → zzM → Prop
  | 0, _, _, _, _, _ => False
  | n + 1, v0, v1, v2, v3, M => ∃ n111 : Nat, wp_X4_stand_L111 Z (wp_X4_stand_L105 Z K n) K n111 v0 v1 v2 v3 (0 : Int32) (0 : Int32) M
def wp_X4_stand_L44 (Z : zzG) (K : Option Value → zzM → Prop) : Nat → Option Nat → Option Nat → Option Nat → Int32 → zzM → Prop
  | 0, _, _, _, _, _ => False
  | n + 1, v0, v1, v2, v3, M => if v3 < 0 then (∃ n105 : Nat, wp_X4_stand_L105 Z K n105 v0 v1 v2 (0 : Int32) M) else (zgA Z M v0 [16] 11 fun x9 => zty Z M x9 fun t => t = 17 ∧ wp_X5_isStrong Z x9 v3 M (fun r10 M11 => zrI r10 fun x14 => if x14 = 0 then (wp_X4_stand_B97 Z (wp_X4_stand_L44 Z K n) K v0 v1 v2 v3 M11) else (zgA Z M11 v0 [16] 22 fun x15 => zgA Z M11 v0 [16] 21 fun x16 => zgA Z M11 v0 [16] 11 fun x17 => zgA Z M11 x17 [17] 9 fun x18 => zaI Z M11 x18 [100] v3 fun x19 => zaI Z M11 x16 [100] x19 fun x20 => zast Z M11 x15 [100] v3 (.int x20) fun M21 => zgA Z M21 v0 [16] 21 fun x22 => zgA Z M21 v0 [16] 11 fun x23 => zgA Z M21 x23 [17] 9 fun x24 => zaI Z M21 x24 [100] v3 fun x25 => zast Z M21 x22 [100] x25 (.int v3) fun M26 => wp_X4_stand_B97 Z (wp_X4_stand_L44 Z K n) K v0 v1 v2 v3 M26)))
def wp_X4_stand_L2 (Z : zzG) (K : Option Value → zzM → Prop) : Nat → Option Nat → Option Nat → Option Nat → Int32 → zzM → Prop
  | 0, _, _, _, _, _ => False
  | n + 1, v0, v1, v2, v3, M => zgA Z M v0 [16] 11 fun x1 => zgI Z M x1 [17] 3 fun x2 => if x2 ≤ v3 then (zgA Z M v0 [16] 11 fun x3 => zgI Z M x3 [17] 3 fun x4 => ∃ n44 : Nat, wp_X4_stand_L44 Z K n44 v0 v1 v2 (x4 - (1 : Int32)) M) else (zgA Z M v0 [16] 21 fun x5 => zast Z M x5 [100] v3 (.int (-1 : Int32)) fun M6 => zast Z M6 v1 [100] v3 (.int (0 : Int32)) fun M7 => zast Z M7 v2 [100] v3 (.int (0 : Int32)) fun M8 => wp_X4_stand_L2 Z K n v0 v1 v2 (v3 + 1) M8)
def wp_X4_stand (Z : zzG) (this : Option Nat) (p0 : Option Nat) (p1 : Option Nat) (M : zzM) (K : Option Value → zzM → Prop) : Prop := ∃ n2 : Nat, wp_X4_stand_L2 Z K n2 this p0 p1 (0 : Int32) M
theorem ok_X4_stand_B97 {G : zzX} (C : zz_C G cX4_stand "DebateHallModel" 6) {K : Option Value → zzM → Prop} (E : zz_E G (some .int) K (fun _ _ _ => False)) (hH : zz_H G []) (hR : zz_Rm G 3) {k44 : Option Nat → Option Nat → Option Nat → Int32 → zzM → Prop} (hk44 : ∀ (z0 : Option Nat) (z1 : Option Nat) (z2 : Option Nat) (z3 : Int32) (M : zzM) (bc bs : Nat), k44 z0 z1 z2 z3 M → zz_T G 6 M bc bs 44 [(0, va_rf z0), (1, va_rf z1), (2, va_rf z2), (3, .int z3)] []) {v0 : Option Nat} {v1 : Option Nat} {v2 : Option Nat} {v3 : Int32} {M : zzM} {bc bs : Nat} (hw : wp_X4_stand_B97 (zz_Zof G) k44 K v0 v1 v2 v3 M) : zz_T G 6 M bc bs 97 [(0, va_rf v0), (1, va_rf v1), (2, va_rf v2), (3, .int v3)] [] := by
  unfold wp_X4_stand_B97 at hw
  refine zz_iinc (lv' := [(3, .int (v3 + (-1))), (0, va_rf v0), (1, va_rf v1), (2, va_rf v2)]) C dX4_stand_97 3 rfl (by rfl) (by decide) (by simp [zz_cat, zz_catI, zz_catJ, zz_catD]) ?_
  refine zz_goto (tgt := 44) C dX4_stand_100 (by decide) ?_
  refine zz_subP [1, 2, 3, 0] rfl ?_
  exact hk44 _ _ _ _ _ _ _ hw
theorem ok_X4_stand_B147 {G : zzX} (C : zz_C G cX4_stand "DebateHallModel" 6) {K : Option Value → zzM → Prop} (E : zz_E G (some .int) K (fun _ _ _ => False)) (hH : zz_H G []) (hR : zz_Rm G 3) {k105 : Option Nat → Option Nat → Option Nat → Int32 → zzM → Prop} (hk105 : ∀ (z0 : Option Nat) (z1 : Option Nat) (z2 : Option Nat) (z3 : Int32) (M : zzM) (bc bs : Nat), k105 z0 z1 z2 z3 M → zz_T G 6 M bc bs 105 [(0, va_rf z0), (1, va_rf z1), (2, va_rf z2), (3, .int z3)] []) {k111 : Option Nat → Option Nat → Option Nat → Int32 → Int32 → Int32 → zzM → Prop} (hk111 : ∀ (z0 : Option Nat) (z1 : Option Nat) (z2 : Option Nat) (z3 : Int32) (z4 : Int32) (z5 : Int32) (M : zzM) (bc bs : Nat), k111 z0 z1 z2 z3 z4 z5 M → zz_T G 6 M bc bs 111 [(0, va_rf z0), (1, va_rf z1), (2, va_rf z2), (3, .int z3), (4, .int z4), (5, .int z5)] []) {v0 : Option Nat} {v1 : Option Nat} {v2 : Option Nat} {v3 : Int32} {v4 : Int32} {v5 : Int32} {s0 : Int32} {s1 : Int32} {s2 : Option Nat} {M : zzM} {bc bs : Nat} (hw : wp_X4_stand_B147 (zz_Zof G) k105 k111 K v0 v1 v2 v3 v4 v5 s0 s1 s2 M) : zz_T G 6 M bc bs 147 [(0, va_rf v0), (1, va_rf v1), (2, va_rf v2), (3, .int v3), (4, .int v4), (5, .int v5)] [.int s0, .int s1, va_rf s2] := by
  unfold wp_X4_stand_B147 at hw
  refine zz_iast C dX4_stand_147 hw (fun M36 hw => ?_)
  refine zz_iinc (lv' := [(5, .int (v5 + 1)), (0, va_rf v0), (1, va_rf v1), (2, va_rf v2), (3, .int v3), (4, .int v4)]) C dX4_stand_148 5 rfl (by rfl) (by decide) rfl ?_
  refine zz_goto (tgt := 111) C dX4_stand_151 (by decide) ?_
  refine zz_subP [1, 2, 3, 4, 5, 0] rfl ?_
  exact hk111 _ _ _ _ _ _ _ _ _ hw
theorem ok_X4_stand_B203 {G : zzX} (C : zz_C G cX4_stand "DebateHallModel" 6) {K : Option Value → zzM → Prop} (E : zz_E G (some .int) K (fun _ _ _ => False)) (hH : zz_H G []) (hR : zz_Rm G 3) {k105 : Option Nat → Option Nat → Option Nat → Int32 → zzM → Prop} (hk105 : ∀ (z0 : Option Nat) (z1 : Option Nat) (z2 : Option Nat) (z3 : Int32) (M : zzM) (bc bs : Nat), k105 z0 z1 z2 z3 M → zz_T G 6 M bc bs 105 [(0, va_rf z0), (1, va_rf z1), (2, va_rf z2), (3, .int z3)] []) {k157 : Option Nat → Option Nat → Option Nat → Int32 → Int32 → Int32 → zzM → Prop} (hk157 : ∀ (z0 : Option Nat) (z1 : Option Nat) (z2 : Option Nat) (z3 : Int32) (z4 : Int32) (z5 : Int32) (M : zzM) (bc bs : Nat), k157 z0 z1 z2 z3 z4 z5 M → zz_T G 6 M bc bs 157 [(0, va_rf z0), (1, va_rf z1), (2, va_rf z2), (3, .int z3), (4, .int z4), (5, .int z5)] []) {v0 : Option Nat} {v1 : Option Nat} {v2 : Option Nat} {v3 : Int32} {v4 : Int32} {v5 : Int32} {M : zzM} {bc bs : Nat} (hw : wp_X4_stand_B203 (zz_Zof G) k105 k157 K v0 v1 v2 v3 v4 v5 M) : zz_T G 6 M bc bs 203 [(0, va_rf v0), (1, va_rf v1), (2, va_rf v2), (3, .int v3), (4, .int v4), (5, .int v5)] [] := by
  unfold wp_X4_stand_B203 at hw
  refine zz_iinc (lv' := [(5, .int (v5 + 1)), (0, va_rf v0), (1, va_rf v1), (2, va_rf v2), (3, .int v3), (4, .int v4)]) C dX4_stand_203 5 rfl (by rfl) (by decide) rfl ?_
  refine zz_goto (tgt := 157) C dX4_stand_206 (by decide) ?_
  refine zz_subP [1, 2, 3, 4, 5, 0] rfl ?_
  exact hk157 _ _ _ _ _ _ _ _ _ hw
theorem ok_X4_stand_L157 {G : zzX} (C : zz_C G cX4_stand "DebateHallModel" 6) {K : Option Value → zzM → Prop} (E : zz_E G (some .int) K (fun _ _ _ => False)) (hH : zz_H G []) (hR : zz_Rm G 3) {k105 : Option Nat → Option Nat → Option Nat → Int32 → zzM → Prop} (hk105 : ∀ (z0 : Option Nat) (z1 : Option Nat) (z2 : Option Nat) (z3 : Int32) (M : zzM) (bc bs : Nat), k105 z0 z1 z2 z3 M → zz_T G 6 M bc bs 105 [(0, va_rf z0), (1, va_rf z1), (2, va_rf z2), (3, .int z3)] []) : ∀ (n : Nat) (v0 : Option Nat) (v1 : Option Nat) (v2 : Option Nat) (v3 : Int32) (v4 : Int32) (v5 : Int32) (M : zzM) (bc bs : Nat), wp_X4_stand_L157 (zz_Zof G) k105 K n v0 v1 v2 v3 v4 v5 M → zz_T G 6 M bc bs 157 [(0, va_rf v0), (1, va_rf v1), (2, va_rf v2), (3, .int v3), (4, .int v4), (5, .int v5)] [] := by
  intro n
  induction n with
  | zero =>
    intro v0 v1 v2 v3 v4 v5 M bc bs hw
    exact False.elim hw
  | succ n ih =>
    intro v0 v1 v2 v3 v4 v5 M bc bs hw
    refine zz_iload C dX4_stand_157 5 rfl ?_
    refine zz_aload_n C dX4_stand_159 rfl 0 rfl ?_
    refine zz_getA C dX4_stand_160 (Or.inl q2447) zf_16_11_ebateHallModel hw (fun x37 hw => ?_)
    refine zz_getI C dX4_stand_163 (Or.inr ⟨_, q2394⟩) zf_17_3_allModel_State hw (fun x38 hw => ?_)
    refine zz_icmp_ge (tgt := 209) C dX4_stand_166 (by decide) hw (fun hw => ?_) (fun hw => ?_)
    · refine zz_iload C dX4_stand_209 4 rfl ?_
      refine zz_if_ne (tgt := 216) C dX4_stand_211 (by decide) hw (fun hw => ?_) (fun hw => ?_)
      · refine zz_iinc (lv' := [(3, .int (v3 + 1)), (0, va_rf v0), (1, va_rf v1), (2, va_rf v2), (4, .int v4), (5, .int v5)]) C dX4_stand_216 3 rfl (by rfl) (by decide) (by simp [zz_cat, zz_catI, zz_catJ, zz_catD]) ?_
        refine zz_goto (tgt := 105) C dX4_stand_219 (by decide) ?_
        refine zz_subP [1, 2, 3, 0] rfl ?_
        exact hk105 _ _ _ _ _ _ _ hw
      · refine zz_iload_n C dX4_stand_214 rfl 3 rfl ?_
        exact zz_iret C E dX4_stand_215 hw
    · refine zz_aload_n C dX4_stand_169 rfl 0 rfl ?_
      refine zz_getA C dX4_stand_170 (Or.inl q2459) zf_16_23_ebateHallModel hw (fun x39 hw => ?_)
      refine zz_iload C dX4_stand_173 5 rfl ?_
      refine zz_iald C dX4_stand_175 hw (fun x40 hw => ?_)
      refine zz_if_ne (tgt := 182) C dX4_stand_176 (by decide) hw (fun hw => ?_) (fun hw => ?_)
      · refine zz_aload_n C dX4_stand_182 rfl 1 rfl ?_
        refine zz_iload C dX4_stand_183 5 rfl ?_
        refine zz_aload_n C dX4_stand_185 rfl 0 rfl ?_
        refine zz_getA C dX4_stand_186 (Or.inl q2459) zf_16_23_ebateHallModel hw (fun x41 hw => ?_)
        refine zz_iload C dX4_stand_189 5 rfl ?_
        refine zz_iald C dX4_stand_191 hw (fun x42 hw => ?_)
        refine zz_iast C dX4_stand_192 hw (fun M43 hw => ?_)
        refine zz_aload_n C dX4_stand_193 rfl 2 rfl ?_
        refine zz_iload C dX4_stand_194 5 rfl ?_
        refine zz_iload_n C dX4_stand_196 rfl 3 rfl ?_
        refine zz_iconst (v := (1 : Int32)) C dX4_stand_197 (by decide) ?_
        refine zz_iadd C dX4_stand_198 ?_
        refine zz_iast C dX4_stand_199 hw (fun M44 hw => ?_)
        refine zz_iconst (v := (1 : Int32)) C dX4_stand_200 (by decide) ?_
        refine zz_istore (lv' := [(4, .int (1 : Int32)), (0, va_rf v0), (1, va_rf v1), (2, va_rf v2), (3, .int v3), (5, .int v5)]) C dX4_stand_201 (by decide) rfl ?_
        refine zz_subP [1, 2, 3, 4, 0, 5] rfl ?_
        exact ok_X4_stand_B203 C E hH hR hk105 (fun z0 z1 z2 z3 z4 z5 z6 z7 z8 hw => ih z0 z1 z2 z3 z4 z5 z6 z7 z8 hw) hw
      · refine zz_goto (tgt := 203) C dX4_stand_179 (by decide) ?_
        refine zz_subP [0, 1, 2, 3, 4, 5] rfl ?_
        exact ok_X4_stand_B203 C E hH hR hk105 (fun z0 z1 z2 z3 z4 z5 z6 z7 z8 hw => ih z0 z1 z2 z3 z4 z5 z6 z7 z8 hw) hw
theorem ok_X4_stand_L111 {G : zzX} (C : zz_C G cX4_stand "DebateHallModel" 6) {K : Option Value → zzM → Prop} (E : zz_E G (some .int) K (fun _ _ _ => False)) (hH : zz_H G []) (hR : zz_Rm G 3) {k105 : Option Nat → Option Nat → Option Nat → Int32 → zzM → Prop} (hk105 : ∀ (z0 : Option Nat) (z1 : Option Nat) (z2 : Option Nat) (z3 : Int32) (M : zzM) (bc bs : Nat), k105 z0 z1 z2 z3 M → zz_T G 6 M bc bs 105 [(0, va_rf z0), (1, va_rf z1), (2, va_rf z2), (3, .int z3)] []) : ∀ (n : Nat) (v0 : Option Nat) (v1 : Option Nat) (v2 : Option Nat) (v3 : Int32) (v4 : Int32) (v5 : Int32) (M : zzM) (bc bs : Nat), wp_X4_stand_L111 (zz_Zof G) k105 K n v0 v1 v2 v3 v4 v5 M → zz_T G 6 M bc bs 111 [(0, va_rf v0), (1, va_rf v1), (2, va_rf v2), (3, .int v3), (4, .int v4), (5, .int v5)] [] := by
  intro n
  induction n with
  | zero =>
    intro v0 v1 v2 v3 v4 v5 M bc bs hw
    exact False.elim hw
  | succ n ih =>
    intro v0 v1 v2 v3 v4 v5 M bc bs hw
    refine zz_iload C dX4_stand_111 5 rfl ?_
    refine zz_aload_n C dX4_stand_113 rfl 0 rfl ?_
    refine zz_getA C dX4_stand_114 (Or.inl q2447) zf_16_11_ebateHallModel hw (fun x27 hw => ?_)
    refine zz_getI C dX4_stand_117 (Or.inr ⟨_, q2394⟩) zf_17_3_allModel_State hw (fun x28 hw => ?_)
    refine zz_icmp_ge (tgt := 154) C dX4_stand_120 (by decide) hw (fun hw => ?_) (fun hw => ?_)
    · refine zz_iconst (v := (0 : Int32)) C dX4_stand_154 (by decide) ?_
      refine zz_istore (lv' := [(5, .int (0 : Int32)), (0, va_rf v0), (1, va_rf v1), (2, va_rf v2), (3, .int v3), (4, .int v4)]) C dX4_stand_155 (by decide) rfl ?_
      refine zz_subP [1, 2, 3, 4, 5, 0] rfl ?_
      obtain ⟨n157, hw⟩ := hw
      exact ok_X4_stand_L157 C E hH hR hk105 n157 _ _ _ _ _ _ _ _ _ hw
    · refine zz_aload_n C dX4_stand_123 rfl 0 rfl ?_
      refine zz_getA C dX4_stand_124 (Or.inl q2459) zf_16_23_ebateHallModel hw (fun x29 hw => ?_)
      refine zz_iload C dX4_stand_127 5 rfl ?_
      refine zz_aload_n C dX4_stand_129 rfl 1 rfl ?_
      refine zz_iload C dX4_stand_130 5 rfl ?_
      refine zz_iald C dX4_stand_132 hw (fun x30 hw => ?_)
      refine zz_if_ne (tgt := 146) C dX4_stand_133 (by decide) hw (fun hw => ?_) (fun hw => ?_)
      · refine zz_iconst (v := (0 : Int32)) C dX4_stand_146 (by decide) ?_
        refine zz_subP [0, 1, 2, 3, 4, 5] rfl ?_
        exact ok_X4_stand_B147 C E hH hR hk105 (fun z0 z1 z2 z3 z4 z5 z6 z7 z8 hw => ih z0 z1 z2 z3 z4 z5 z6 z7 z8 hw) hw
      · refine zz_aload_n C dX4_stand_136 rfl 0 rfl ?_
        refine zz_iload C dX4_stand_137 5 rfl ?_
        refine zz_aload_n C dX4_stand_139 rfl 1 rfl ?_
        obtain ⟨a9, t9, b9, fs9, hro, hL, rfl, hw⟩ := ztyS hw
        refine zz_callV (r := (zR_16, zT_16, 24)) (As := [.int v5, va_rf v1]) (rest := [.int v5, va_rf x29]) (mc := 0) (ms := 0) C hR hro dX4_stand_140 (Or.inl q2696) q2698 (Or.inl qs58) zl_DebateHallModel zk_X4_finds (Or.inl rfl) zy_X4_finds rfl (by decide) (by decide) hL (ok_X4_finds (zz_hl C) hw) (Nat.zero_le _) (Nat.zero_le _) (zz_cat10 _ (Nat.le_of_ble_eq_true rfl)) (fun r31 M32 hw => zz_kI hw (fun x35 hw => ?_)) (fun _ _ _ h9 => h9.elim) rfl
        refine zz_goto (tgt := 147) C dX4_stand_143 (by decide) ?_
        refine zz_subP [0, 1, 2, 3, 4, 5] rfl ?_
        exact ok_X4_stand_B147 C E hH hR hk105 (fun z0 z1 z2 z3 z4 z5 z6 z7 z8 hw => ih z0 z1 z2 z3 z4 z5 z6 z7 z8 hw) hw
theorem ok_X4_stand_L105 {G : zzX} (C : zz_C G cX4_stand "DebateHallModel" 6) {K : Option Value → zzM → Prop} (E : zz_E G (some .int) K (fun _ _ _ => False)) (hH : zz_H G []) (hR : zz_Rm G 3) : ∀ (n : Nat) (v0 : Option Nat) (v1 : Option Nat) (v2 : Option Nat) (v3 : Int32) (M : zzM) (bc bs : Nat), wp_X4_stand_L105 (zz_Zof G) K n v0 v1 v2 v3 M → zz_T G 6 M bc bs 105 [(0, va_rf v0), (1, va_rf v1), (2, va_rf v2), (3, .int v3)] [] := by
  intro n
  induction n with
  | zero =>
    intro v0 v1 v2 v3 M bc bs hw
    exact False.elim hw
  | succ n ih =>
    intro v0 v1 v2 v3 M bc bs hw
    refine zz_iconst (v := (0 : Int32)) C dX4_stand_105 (by decide) ?_
    refine zz_istore (lv' := [(4, .int (0 : Int32)), (0, va_rf v0), (1, va_rf v1), (2, va_rf v2), (3, .int v3)]) C dX4_stand_106 (by decide) rfl ?_
    refine zz_iconst (v := (0 : Int32)) C dX4_stand_108 (by decide) ?_
    refine zz_istore (lv' := [(5, .int (0 : Int32)), (4, .int (0 : Int32)), (0, va_rf v0), (1, va_rf v1), (2, va_rf v2), (3, .int v3)]) C dX4_stand_109 (by decide) rfl ?_
    refine zz_subP [2, 3, 4, 5, 1, 0] rfl ?_
    obtain ⟨n111, hw⟩ := hw
    exact ok_X4_stand_L111 C E hH hR (fun z0 z1 z2 z3 z4 z5 z6 hw => ih z0 z1 z2 z3 z4 z5 z6 hw) n111 _ _ _ _ _ _ _ _ _ hw
theorem ok_X4_stand_L44 {G : zzX} (C : zz_C G cX4_stand "DebateHallModel" 6) {K : Option Value → zzM → Prop} (E : zz_E G (some .int) K (fun _ _ _ => False)) (hH : zz_H G []) (hR : zz_Rm G 3) : ∀ (n : Nat) (v0 : Option Nat) (v1 : Option Nat) (v2 : Option Nat) (v3 : Int32) (M : zzM) (bc bs : Nat), wp_X4_stand_L44 (zz_Zof G) K n v0 v1 v2 v3 M → zz_T G 6 M bc bs 44 [(0, va_rf v0), (1, va_rf v1), (2, va_rf v2), (3, .int v3)] [] := by
  intro n
  induction n with
  | zero =>
    intro v0 v1 v2 v3 M bc bs hw
    exact False.elim hw
  | succ n ih =>
    intro v0 v1 v2 v3 M bc bs hw
    refine zz_iload_n C dX4_stand_44 rfl 3 rfl ?_
    refine zz_if_lt (tgt := 103) C dX4_stand_45 (by decide) hw (fun hw => ?_) (fun hw => ?_)
    · refine zz_iconst (v := (0 : Int32)) C dX4_stand_103 (by decide) ?_
      refine zz_istore_n (i := 3) (lv' := [(3, .int (0 : Int32)), (0, va_rf v0), (1, va_rf v1), (2, va_rf v2)]) C dX4_stand_104 rfl (by decide) (by simp [zz_cat, zz_catI, zz_catJ, zz_catD]) ?_
      refine zz_subP [1, 2, 3, 0] rfl ?_
      obtain ⟨n105, hw⟩ := hw
      exact ok_X4_stand_L105 C E hH hR n105 _ _ _ _ _ _ _ hw
    · refine zz_aload_n C dX4_stand_48 rfl 0 rfl ?_
      refine zz_getA C dX4_stand_49 (Or.inl q2447) zf_16_11_ebateHallModel hw (fun x9 hw => ?_)
      refine zz_iload_n C dX4_stand_52 rfl 3 rfl ?_
      obtain ⟨a9, t9, b9, fs9, hro, hL, rfl, hw⟩ := ztyS hw
      refine zz_callV (r := (zR_17, zT_17, 12)) (As := [.int v3]) (rest := []) (mc := 0) (ms := 0) C hR hro dX4_stand_53 (Or.inl q2692) q2693 (Or.inl q2694) zl_DebateHallModel_State zk_X5_isStrong (Or.inl rfl) zy_X5_isStrong rfl (by decide) (by decide) hL (ok_X5_isStrong (zz_hl C) hw) (Nat.zero_le _) (Nat.zero_le _) (zz_cat10 _ (Nat.le_of_ble_eq_true rfl)) (fun r10 M11 hw => zz_kI hw (fun x14 hw => ?_)) (fun _ _ _ h9 => h9.elim) rfl
      refine zz_if_ne (tgt := 62) C dX4_stand_56 (by decide) hw (fun hw => ?_) (fun hw => ?_)
      · refine zz_aload_n C dX4_stand_62 rfl 0 rfl ?_
        refine zz_getA C dX4_stand_63 (Or.inl q2458) zf_16_22_ebateHallModel hw (fun x15 hw => ?_)
        refine zz_iload_n C dX4_stand_66 rfl 3 rfl ?_
        refine zz_aload_n C dX4_stand_67 rfl 0 rfl ?_
        refine zz_getA C dX4_stand_68 (Or.inl q2457) zf_16_21_ebateHallModel hw (fun x16 hw => ?_)
        refine zz_aload_n C dX4_stand_71 rfl 0 rfl ?_
        refine zz_getA C dX4_stand_72 (Or.inl q2447) zf_16_11_ebateHallModel hw (fun x17 hw => ?_)
        refine zz_getA C dX4_stand_75 (Or.inr ⟨_, q2406⟩) zf_17_9_allModel_State hw (fun x18 hw => ?_)
        refine zz_iload_n C dX4_stand_78 rfl 3 rfl ?_
        refine zz_iald C dX4_stand_79 hw (fun x19 hw => ?_)
        refine zz_iald C dX4_stand_80 hw (fun x20 hw => ?_)
        refine zz_iast C dX4_stand_81 hw (fun M21 hw => ?_)
        refine zz_aload_n C dX4_stand_82 rfl 0 rfl ?_
        refine zz_getA C dX4_stand_83 (Or.inl q2457) zf_16_21_ebateHallModel hw (fun x22 hw => ?_)
        refine zz_aload_n C dX4_stand_86 rfl 0 rfl ?_
        refine zz_getA C dX4_stand_87 (Or.inl q2447) zf_16_11_ebateHallModel hw (fun x23 hw => ?_)
        refine zz_getA C dX4_stand_90 (Or.inr ⟨_, q2406⟩) zf_17_9_allModel_State hw (fun x24 hw => ?_)
        refine zz_iload_n C dX4_stand_93 rfl 3 rfl ?_
        refine zz_iald C dX4_stand_94 hw (fun x25 hw => ?_)
        refine zz_iload_n C dX4_stand_95 rfl 3 rfl ?_
        refine zz_iast C dX4_stand_96 hw (fun M26 hw => ?_)
        refine zz_subP [0, 1, 2, 3] rfl ?_
        exact ok_X4_stand_B97 C E hH hR (fun z0 z1 z2 z3 z4 z5 z6 hw => ih z0 z1 z2 z3 z4 z5 z6 hw) hw
      · refine zz_goto (tgt := 97) C dX4_stand_59 (by decide) ?_
        refine zz_subP [0, 1, 2, 3] rfl ?_
        exact ok_X4_stand_B97 C E hH hR (fun z0 z1 z2 z3 z4 z5 z6 hw => ih z0 z1 z2 z3 z4 z5 z6 hw) hw
theorem ok_X4_stand_L2 {G : zzX} (C : zz_C G cX4_stand "DebateHallModel" 6) {K : Option Value → zzM → Prop} (E : zz_E G (some .int) K (fun _ _ _ => False)) (hH : zz_H G []) (hR : zz_Rm G 3) : ∀ (n : Nat) (v0 : Option Nat) (v1 : Option Nat) (v2 : Option Nat) (v3 : Int32) (M : zzM) (bc bs : Nat), wp_X4_stand_L2 (zz_Zof G) K n v0 v1 v2 v3 M → zz_T G 6 M bc bs 2 [(0, va_rf v0), (1, va_rf v1), (2, va_rf v2), (3, .int v3)] [] := by
  intro n
  induction n with
  | zero =>
    intro v0 v1 v2 v3 M bc bs hw
    exact False.elim hw
  | succ n ih =>
    intro v0 v1 v2 v3 M bc bs hw
    refine zz_iload_n C dX4_stand_2 rfl 3 rfl ?_
    refine zz_aload_n C dX4_stand_3 rfl 0 rfl ?_
    refine zz_getA C dX4_stand_4 (Or.inl q2447) zf_16_11_ebateHallModel hw (fun x1 hw => ?_)
    refine zz_getI C dX4_stand_7 (Or.inr ⟨_, q2394⟩) zf_17_3_allModel_State hw (fun x2 hw => ?_)
    refine zz_icmp_ge (tgt := 34) C dX4_stand_10 (by decide) hw (fun hw => ?_) (fun hw => ?_)
    · refine zz_aload_n C dX4_stand_34 rfl 0 rfl ?_
      refine zz_getA C dX4_stand_35 (Or.inl q2447) zf_16_11_ebateHallModel hw (fun x3 hw => ?_)
      refine zz_getI C dX4_stand_38 (Or.inr ⟨_, q2394⟩) zf_17_3_allModel_State hw (fun x4 hw => ?_)
      refine zz_iconst (v := (1 : Int32)) C dX4_stand_41 (by decide) ?_
      refine zz_isub C dX4_stand_42 ?_
      refine zz_istore_n (i := 3) (lv' := [(3, .int (x4 - (1 : Int32))), (0, va_rf v0), (1, va_rf v1), (2, va_rf v2)]) C dX4_stand_43 rfl (by decide) (by simp [zz_cat, zz_catI, zz_catJ, zz_catD]) ?_
      refine zz_subP [1, 2, 3, 0] rfl ?_
      obtain ⟨n44, hw⟩ := hw
      exact ok_X4_stand_L44 C E hH hR n44 _ _ _ _ _ _ _ hw
    · refine zz_aload_n C dX4_stand_13 rfl 0 rfl ?_
      refine zz_getA C dX4_stand_14 (Or.inl q2457) zf_16_21_ebateHallModel hw (fun x5 hw => ?_)
      refine zz_iload_n C dX4_stand_17 rfl 3 rfl ?_
      refine zz_iconst (v := (-1 : Int32)) C dX4_stand_18 (by decide) ?_
      refine zz_iast C dX4_stand_19 hw (fun M6 hw => ?_)
      refine zz_aload_n C dX4_stand_20 rfl 1 rfl ?_
      refine zz_iload_n C dX4_stand_21 rfl 3 rfl ?_
      refine zz_iconst (v := (0 : Int32)) C dX4_stand_22 (by decide) ?_
      refine zz_iast C dX4_stand_23 hw (fun M7 hw => ?_)
      refine zz_aload_n C dX4_stand_24 rfl 2 rfl ?_
      refine zz_iload_n C dX4_stand_25 rfl 3 rfl ?_
      refine zz_iconst (v := (0 : Int32)) C dX4_stand_26 (by decide) ?_
      refine zz_iast C dX4_stand_27 hw (fun M8 hw => ?_)
      refine zz_iinc (lv' := [(3, .int (v3 + 1)), (0, va_rf v0), (1, va_rf v1), (2, va_rf v2)]) C dX4_stand_28 3 rfl (by rfl) (by decide) (by simp [zz_cat, zz_catI, zz_catJ, zz_catD]) ?_
      refine zz_goto (tgt := 2) C dX4_stand_31 (by decide) ?_
      refine zz_subP [1, 2, 3, 0] rfl ?_
      exact ih _ _ _ _ _ _ _ hw
theorem ok_X4_stand {Z : zzG} {l : Launch} (hl : l.stackTraces = false) {this : Option Nat} {p0 : Option Nat} {p1 : Option Nat} {M : zzM} {mc ms : Nat} {K : Option Value → zzM → Prop} (hw : wp_X4_stand Z this p0 p1 M K) : zz_Met Z l yX4_stand (zz_ws yX4_stand cX4_stand 6 (some .int) none) 3 [va_rf this, va_rf p0, va_rf p1] M mc ms K (fun _ _ _ => False) := by
  refine zz_ofW hl (plainFor_of_name (by decide)) (by simp only [zz_sl0, zz_slI, zz_slJ, zz_slA] <;> decide) (fun G hZ hll C E hH hR hin => ?_)
  subst hZ
  subst hll
  rw [show lv_args 0 [va_rf this, va_rf p0, va_rf p1] = [(0, va_rf this), (1, va_rf p0), (2, va_rf p1)] by simp only [zz_la0, zz_laI, zz_laJ, zz_laA]]
  unfold wp_X4_stand at hw
  refine zz_iconst (v := (0 : Int32)) C dX4_stand_0 (by decide) ?_
  refine zz_istore_n (i := 3) (lv' := [(3, .int (0 : Int32)), (0, va_rf this), (1, va_rf p0), (2, va_rf p1)]) C dX4_stand_1 rfl (by decide) (by simp [zz_cat, zz_catI, zz_catJ, zz_catD]) ?_
  refine zz_subP [1, 2, 3, 0] rfl ?_
  obtain ⟨n2, hw⟩ := hw
  exact ok_X4_stand_L2 C E hH hR n2 _ _ _ _ _ _ _ hw
abbrev cX4_isFree : ByteArray := prog_25_method_67_code
def yX4_isFree : MethodName := ⟨"DebateHallModel", "isFree", "(I)Z"⟩
def dkwX4_isFree_1 : List UInt8 := [167, 0, 4, 3, 172]
abbrev dktX4_isFree_1 : List UInt8 := dkwX4_isFree_1 ++ []
def dkwX4_isFree_0 : List UInt8 := [42, 42, 180, 0, 61, 42, 180, 0, 64, 182, 1, 31, 87, 42, 180, 0, 61, 27, 46, 4, 160, 0, 7, 4]
abbrev dktX4_isFree_0 : List UInt8 := dkwX4_isFree_0 ++ dktX4_isFree_1
theorem dksX4_isFree_0 : cX4_isFree.data.toList.drop 0 = dktX4_isFree_0 := by decide +kernel
theorem dksX4_isFree_1 : cX4_isFree.data.toList.drop 24 = dktX4_isFree_1 := dk_seg dksX4_isFree_0 24 rfl rfl
theorem dX4_isFree_0 : decode cX4_isFree 0 = .ok (.aload_n 0, 1) := dk_42 (dk_at dksX4_isFree_0 0 rfl rfl)
theorem dX4_isFree_1 : decode cX4_isFree 1 = .ok (.aload_n 0, 1) := dk_42 (dk_at dksX4_isFree_0 1 rfl rfl)
theorem dX4_isFree_2 : decode cX4_isFree 2 = .ok (.getfield 61, 3) := dk_180 0 61 (dk_at dksX4_isFree_0 2 rfl rfl)
theorem dX4_isFree_5 : decode cX4_isFree 5 = .ok (.aload_n 0, 1) := dk_42 (dk_at dksX4_isFree_0 5 rfl rfl)
theorem dX4_isFree_6 : decode cX4_isFree 6 = .ok (.getfield 64, 3) := dk_180 0 64 (dk_at dksX4_isFree_0 6 rfl rfl)
theorem dX4_isFree_9 : decode cX4_isFree 9 = .ok (.invokevirtual 287, 3) := dk_182 1 31 (dk_at dksX4_isFree_0 9 rfl rfl)
theorem dX4_isFree_12 : decode cX4_isFree 12 = .ok (.pop, 1) := dk_87 (dk_at dksX4_isFree_0 12 rfl rfl)
theorem dX4_isFree_13 : decode cX4_isFree 13 = .ok (.aload_n 0, 1) := dk_42 (dk_at dksX4_isFree_0 13 rfl rfl)
theorem dX4_isFree_14 : decode cX4_isFree 14 = .ok (.getfield 61, 3) := dk_180 0 61 (dk_at dksX4_isFree_0 14 rfl rfl)
theorem dX4_isFree_17 : decode cX4_isFree 17 = .ok (.iload_n 1, 1) := dk_27 (dk_at dksX4_isFree_0 17 rfl rfl)
theorem dX4_isFree_18 : decode cX4_isFree 18 = .ok (.iaload, 1) := dk_46 (dk_at dksX4_isFree_0 18 rfl rfl)
theorem dX4_isFree_19 : decode cX4_isFree 19 = .ok (.iconst 1, 1) := dk_4 (dk_at dksX4_isFree_0 19 rfl rfl)
theorem dX4_isFree_20 : decode cX4_isFree 20 = .ok (.if_icmp .ne 7, 3) := dk_160 0 7 (dk_at dksX4_isFree_0 20 rfl rfl)
theorem dX4_isFree_23 : decode cX4_isFree 23 = .ok (.iconst 1, 1) := dk_4 (dk_at dksX4_isFree_0 23 rfl rfl)
theorem dX4_isFree_24 : decode cX4_isFree 24 = .ok (.goto 4, 3) := dk_167 0 4 (dk_at dksX4_isFree_1 0 rfl rfl)
theorem dX4_isFree_27 : decode cX4_isFree 27 = .ok (.iconst 0, 1) := dk_3 (dk_at dksX4_isFree_1 3 rfl rfl)
theorem dX4_isFree_28 : decode cX4_isFree 28 = .ok (.ireturn, 1) := dk_172 (dk_at dksX4_isFree_1 4 rfl rfl)
theorem q2691 : (Jvm.Cond.code ({ cls := "DebateHallModel", name := "stand", desc := "([I[I)I" } : Jvm.MethodName) prog_25_method_11_code (6 : Nat) (Option.some Jvm.ClassFile.FieldType.int)) ∈ lw_all := lw_g (lw_at lw_m11 211 rfl) rfl
theorem zk_X4_stand : zz_cd yX4_stand cX4_stand 6 (some .int) none ∈ lw_all := q2691
theorem zy_X4_stand : zz_yok yX4_stand 2 = true := by decide +kernel
theorem q2688 : (Jvm.Cond.methodLink "DebateHallModel" (287 : Nat) ({ cls := "DebateHallModel", name := "stand", desc := "([I[I)I" } : Jvm.MethodName)) ∈ lw_all := lw_g (lw_at lw_m11 208 rfl) rfl
theorem q2690 : (Jvm.Cond.instanceMethod ({ cls := "DebateHallModel", name := "stand", desc := "([I[I)I" } : Jvm.MethodName)) ∈ lw_all := lw_g (lw_at lw_m11 210 rfl) rfl
def wp_X4_isFree_B28 (Z : zzG) (K : Option Value → zzM → Prop) (s0 : Int32) (M : zzM) : Prop := narrow .boolean (.int s0) = .int s0 ∧ K (some (.int s0)) M
def wp_X4_isFree (Z : zzG) (this : Option Nat) (p0 : Int32) (M : zzM) (K : Option Value → zzM → Prop) : Prop := zgA Z M this [16] 16 fun x1 => zgA Z M this [16] 17 fun x2 => zty Z M this fun t => t = 16 ∧ wp_X4_stand Z this x1 x2 M (fun r3 M4 => zrI r3 fun x7 => zgA Z M4 this [16] 16 fun x8 => zaI Z M4 x8 [100] p0 fun x9 => if x9 = (1 : Int32) then (wp_X4_isFree_B28 Z K (1 : Int32) M4) else (wp_X4_isFree_B28 Z K (0 : Int32) M4))
theorem ok_X4_isFree_B28 {G : zzX} (C : zz_C G cX4_isFree "DebateHallModel" 2) {K : Option Value → zzM → Prop} (E : zz_E G (some .boolean) K (fun _ _ _ => False)) (hH : zz_H G []) (hR : zz_Rm G 4) {s0 : Int32} {M : zzM} {bc bs : Nat} (hw : wp_X4_isFree_B28 (zz_Zof G) K s0 M) : zz_T G 2 M bc bs 28 [] [.int s0] := by
  unfold wp_X4_isFree_B28 at hw
  exact zz_zret C E dX4_isFree_28 hw
theorem ok_X4_isFree {Z : zzG} {l : Launch} (hl : l.stackTraces = false) {this : Option Nat} {p0 : Int32} {M : zzM} {mc ms : Nat} {K : Option Value → zzM → Prop} (hw : wp_X4_isFree Z this p0 M K) : zz_Met Z l yX4_isFree (zz_ws yX4_isFree cX4_isFree 2 (some .boolean) none) 4 [va_rf this, .int p0] M mc ms K (fun _ _ _ => False) := by
  refine zz_ofW hl (plainFor_of_name (by decide)) (by simp only [zz_sl0, zz_slI, zz_slJ, zz_slA] <;> decide) (fun G hZ hll C E hH hR hin => ?_)
  subst hZ
  subst hll
  rw [show lv_args 0 [va_rf this, .int p0] = [(0, va_rf this), (1, .int p0)] by simp only [zz_la0, zz_laI, zz_laJ, zz_laA]]
  unfold wp_X4_isFree at hw
  refine zz_aload_n C dX4_isFree_0 rfl 0 rfl ?_
  refine zz_aload_n C dX4_isFree_1 rfl 0 rfl ?_
  refine zz_getA C dX4_isFree_2 (Or.inl q2452) zf_16_16_ebateHallModel hw (fun x1 hw => ?_)
  refine zz_aload_n C dX4_isFree_5 rfl 0 rfl ?_
  refine zz_getA C dX4_isFree_6 (Or.inl q2453) zf_16_17_ebateHallModel hw (fun x2 hw => ?_)
  obtain ⟨a9, t9, b9, fs9, hro, hL, rfl, hw⟩ := ztyS hw
  refine zz_callV (r := (zR_16, zT_16, 24)) (As := [va_rf x1, va_rf x2]) (rest := []) (mc := 0) (ms := 0) C hR hro dX4_isFree_9 (Or.inl q2688) q2690 (Or.inl qs57) zl_DebateHallModel zk_X4_stand (Or.inl rfl) zy_X4_stand rfl (by decide) (by decide) hL (ok_X4_stand (zz_hl C) hw) (Nat.zero_le _) (Nat.zero_le _) (zz_cat10 _ (Nat.le_of_ble_eq_true rfl)) (fun r3 M4 hw => zz_kI hw (fun x7 hw => ?_)) (fun _ _ _ h9 => h9.elim) rfl
  refine zz_pop C dX4_isFree_12 rfl ?_
  refine zz_aload_n C dX4_isFree_13 rfl 0 rfl ?_
  refine zz_getA C dX4_isFree_14 (Or.inl q2452) zf_16_16_ebateHallModel hw (fun x8 hw => ?_)
  refine zz_iload_n C dX4_isFree_17 rfl 1 rfl ?_
  refine zz_iald C dX4_isFree_18 hw (fun x9 hw => ?_)
  refine zz_iconst (v := (1 : Int32)) C dX4_isFree_19 (by decide) ?_
  refine zz_icmp_ne (tgt := 27) C dX4_isFree_20 (by decide) hw (fun hw => ?_) (fun hw => ?_)
  · refine zz_iconst (v := (0 : Int32)) C dX4_isFree_27 (by decide) ?_
    refine zz_subP [] rfl ?_
    exact ok_X4_isFree_B28 C E hH hR hw
  · refine zz_iconst (v := (1 : Int32)) C dX4_isFree_23 (by decide) ?_
    refine zz_goto (tgt := 28) C dX4_isFree_24 (by decide) ?_
    refine zz_subP [] rfl ?_
    exact ok_X4_isFree_B28 C E hH hR hw
abbrev cX4_freed : ByteArray := prog_25_method_68_code
def yX4_freed : MethodName := ⟨"DebateHallModel", "freed", "(I)I"⟩
def dkwX4_freed_7 : List UInt8 := [2, 172]
abbrev dktX4_freed_7 : List UInt8 := dkwX4_freed_7 ++ []
def dkwX4_freed_6 : List UInt8 := [180, 0, 70, 4, 96, 181, 0, 70, 167, 255, 191, 42, 89, 180, 0, 67, 4, 96, 181, 0, 67, 167, 255, 154]
abbrev dktX4_freed_6 : List UInt8 := dkwX4_freed_6 ++ dktX4_freed_7
def dkwX4_freed_5 : List UInt8 := [153, 0, 20, 16, 100, 4, 42, 180, 0, 67, 96, 104, 4, 96, 42, 180, 0, 70, 96, 172, 42, 89]
abbrev dktX4_freed_5 : List UInt8 := dkwX4_freed_5 ++ dktX4_freed_6
def dkwX4_freed_4 : List UInt8 := [162, 0, 57, 42, 180, 0, 67, 27, 159, 0, 36, 42, 180, 0, 70, 27, 159, 0, 28, 42, 27, 182, 1, 110]
abbrev dktX4_freed_4 : List UInt8 := dkwX4_freed_4 ++ dktX4_freed_5
def dkwX4_freed_3 : List UInt8 := [162, 0, 94, 42, 42, 180, 0, 67, 4, 96, 181, 0, 70, 42, 180, 0, 70, 42, 180, 0, 48, 180, 0, 95]
abbrev dktX4_freed_3 : List UInt8 := dkwX4_freed_3 ++ dktX4_freed_4
def dkwX4_freed_2 : List UInt8 := [96, 181, 0, 67, 167, 255, 209, 42, 3, 181, 0, 67, 42, 180, 0, 67, 42, 180, 0, 48, 180, 0, 95]
abbrev dktX4_freed_2 : List UInt8 := dkwX4_freed_2 ++ dktX4_freed_3
def dkwX4_freed_1 : List UInt8 := [159, 0, 18, 42, 27, 182, 1, 110, 153, 0, 10, 4, 42, 180, 0, 67, 96, 172, 42, 89, 180, 0, 67, 4]
abbrev dktX4_freed_1 : List UInt8 := dkwX4_freed_1 ++ dktX4_freed_2
def dkwX4_freed_0 : List UInt8 := [42, 3, 181, 0, 67, 42, 180, 0, 67, 42, 180, 0, 48, 180, 0, 95, 162, 0, 39, 42, 180, 0, 67, 27]
abbrev dktX4_freed_0 : List UInt8 := dkwX4_freed_0 ++ dktX4_freed_1
theorem dksX4_freed_0 : cX4_freed.data.toList.drop 0 = dktX4_freed_0 := by decide +kernel
theorem dksX4_freed_1 : cX4_freed.data.toList.drop 24 = dktX4_freed_1 := dk_seg dksX4_freed_0 24 rfl rfl
theorem dksX4_freed_2 : cX4_freed.data.toList.drop 48 = dktX4_freed_2 := dk_seg dksX4_freed_1 24 rfl rfl
theorem dksX4_freed_3 : cX4_freed.data.toList.drop 71 = dktX4_freed_3 := dk_seg dksX4_freed_2 23 rfl rfl
theorem dksX4_freed_4 : cX4_freed.data.toList.drop 95 = dktX4_freed_4 := dk_seg dksX4_freed_3 24 rfl rfl
theorem dksX4_freed_5 : cX4_freed.data.toList.drop 119 = dktX4_freed_5 := dk_seg dksX4_freed_4 24 rfl rfl
theorem dksX4_freed_6 : cX4_freed.data.toList.drop 141 = dktX4_freed_6 := dk_seg dksX4_freed_5 22 rfl rfl
theorem dksX4_freed_7 : cX4_freed.data.toList.drop 165 = dktX4_freed_7 := dk_seg dksX4_freed_6 24 rfl rfl
theorem dX4_freed_0 : decode cX4_freed 0 = .ok (.aload_n 0, 1) := dk_42 (dk_at dksX4_freed_0 0 rfl rfl)
theorem dX4_freed_1 : decode cX4_freed 1 = .ok (.iconst 0, 1) := dk_3 (dk_at dksX4_freed_0 1 rfl rfl)
theorem dX4_freed_2 : decode cX4_freed 2 = .ok (.putfield 67, 3) := dk_181 0 67 (dk_at dksX4_freed_0 2 rfl rfl)
theorem dX4_freed_5 : decode cX4_freed 5 = .ok (.aload_n 0, 1) := dk_42 (dk_at dksX4_freed_0 5 rfl rfl)
theorem dX4_freed_6 : decode cX4_freed 6 = .ok (.getfield 67, 3) := dk_180 0 67 (dk_at dksX4_freed_0 6 rfl rfl)
theorem dX4_freed_9 : decode cX4_freed 9 = .ok (.aload_n 0, 1) := dk_42 (dk_at dksX4_freed_0 9 rfl rfl)
theorem dX4_freed_10 : decode cX4_freed 10 = .ok (.getfield 48, 3) := dk_180 0 48 (dk_at dksX4_freed_0 10 rfl rfl)
theorem dX4_freed_13 : decode cX4_freed 13 = .ok (.getfield 95, 3) := dk_180 0 95 (dk_at dksX4_freed_0 13 rfl rfl)
theorem dX4_freed_16 : decode cX4_freed 16 = .ok (.if_icmp .ge 39, 3) := dk_162 0 39 (dk_at dksX4_freed_0 16 rfl rfl)
theorem dX4_freed_19 : decode cX4_freed 19 = .ok (.aload_n 0, 1) := dk_42 (dk_at dksX4_freed_0 19 rfl rfl)
theorem dX4_freed_20 : decode cX4_freed 20 = .ok (.getfield 67, 3) := dk_180 0 67 (dk_at dksX4_freed_0 20 rfl rfl)
theorem dX4_freed_23 : decode cX4_freed 23 = .ok (.iload_n 1, 1) := dk_27 (dk_at dksX4_freed_0 23 rfl rfl)
theorem dX4_freed_24 : decode cX4_freed 24 = .ok (.if_icmp .eq 18, 3) := dk_159 0 18 (dk_at dksX4_freed_1 0 rfl rfl)
theorem dX4_freed_27 : decode cX4_freed 27 = .ok (.aload_n 0, 1) := dk_42 (dk_at dksX4_freed_1 3 rfl rfl)
theorem dX4_freed_28 : decode cX4_freed 28 = .ok (.iload_n 1, 1) := dk_27 (dk_at dksX4_freed_1 4 rfl rfl)
theorem dX4_freed_29 : decode cX4_freed 29 = .ok (.invokevirtual 366, 3) := dk_182 1 110 (dk_at dksX4_freed_1 5 rfl rfl)
theorem dX4_freed_32 : decode cX4_freed 32 = .ok (.ifCond .eq 10, 3) := dk_153 0 10 (dk_at dksX4_freed_1 8 rfl rfl)
theorem dX4_freed_35 : decode cX4_freed 35 = .ok (.iconst 1, 1) := dk_4 (dk_at dksX4_freed_1 11 rfl rfl)
theorem dX4_freed_36 : decode cX4_freed 36 = .ok (.aload_n 0, 1) := dk_42 (dk_at dksX4_freed_1 12 rfl rfl)
theorem dX4_freed_37 : decode cX4_freed 37 = .ok (.getfield 67, 3) := dk_180 0 67 (dk_at dksX4_freed_1 13 rfl rfl)
theorem dX4_freed_40 : decode cX4_freed 40 = .ok (.iadd, 1) := dk_96 (dk_at dksX4_freed_1 16 rfl rfl)
theorem dX4_freed_41 : decode cX4_freed 41 = .ok (.ireturn, 1) := dk_172 (dk_at dksX4_freed_1 17 rfl rfl)
theorem dX4_freed_42 : decode cX4_freed 42 = .ok (.aload_n 0, 1) := dk_42 (dk_at dksX4_freed_1 18 rfl rfl)
theorem dX4_freed_43 : decode cX4_freed 43 = .ok (.dup, 1) := dk_89 (dk_at dksX4_freed_1 19 rfl rfl)
theorem dX4_freed_44 : decode cX4_freed 44 = .ok (.getfield 67, 3) := dk_180 0 67 (dk_at dksX4_freed_1 20 rfl rfl)
theorem dX4_freed_47 : decode cX4_freed 47 = .ok (.iconst 1, 1) := dk_4 (dk_at dksX4_freed_1 23 rfl rfl)
theorem dX4_freed_48 : decode cX4_freed 48 = .ok (.iadd, 1) := dk_96 (dk_at dksX4_freed_2 0 rfl rfl)
theorem dX4_freed_49 : decode cX4_freed 49 = .ok (.putfield 67, 3) := dk_181 0 67 (dk_at dksX4_freed_2 1 rfl rfl)
theorem dX4_freed_52 : decode cX4_freed 52 = .ok (.goto (-47), 3) := dk_167 255 209 (dk_at dksX4_freed_2 4 rfl rfl)
theorem dX4_freed_55 : decode cX4_freed 55 = .ok (.aload_n 0, 1) := dk_42 (dk_at dksX4_freed_2 7 rfl rfl)
theorem dX4_freed_56 : decode cX4_freed 56 = .ok (.iconst 0, 1) := dk_3 (dk_at dksX4_freed_2 8 rfl rfl)
theorem dX4_freed_57 : decode cX4_freed 57 = .ok (.putfield 67, 3) := dk_181 0 67 (dk_at dksX4_freed_2 9 rfl rfl)
theorem dX4_freed_60 : decode cX4_freed 60 = .ok (.aload_n 0, 1) := dk_42 (dk_at dksX4_freed_2 12 rfl rfl)
theorem dX4_freed_61 : decode cX4_freed 61 = .ok (.getfield 67, 3) := dk_180 0 67 (dk_at dksX4_freed_2 13 rfl rfl)
theorem dX4_freed_64 : decode cX4_freed 64 = .ok (.aload_n 0, 1) := dk_42 (dk_at dksX4_freed_2 16 rfl rfl)
theorem dX4_freed_65 : decode cX4_freed 65 = .ok (.getfield 48, 3) := dk_180 0 48 (dk_at dksX4_freed_2 17 rfl rfl)
theorem dX4_freed_68 : decode cX4_freed 68 = .ok (.getfield 95, 3) := dk_180 0 95 (dk_at dksX4_freed_2 20 rfl rfl)
theorem dX4_freed_71 : decode cX4_freed 71 = .ok (.if_icmp .ge 94, 3) := dk_162 0 94 (dk_at dksX4_freed_3 0 rfl rfl)
theorem dX4_freed_74 : decode cX4_freed 74 = .ok (.aload_n 0, 1) := dk_42 (dk_at dksX4_freed_3 3 rfl rfl)
theorem dX4_freed_75 : decode cX4_freed 75 = .ok (.aload_n 0, 1) := dk_42 (dk_at dksX4_freed_3 4 rfl rfl)
theorem dX4_freed_76 : decode cX4_freed 76 = .ok (.getfield 67, 3) := dk_180 0 67 (dk_at dksX4_freed_3 5 rfl rfl)
theorem dX4_freed_79 : decode cX4_freed 79 = .ok (.iconst 1, 1) := dk_4 (dk_at dksX4_freed_3 8 rfl rfl)
theorem dX4_freed_80 : decode cX4_freed 80 = .ok (.iadd, 1) := dk_96 (dk_at dksX4_freed_3 9 rfl rfl)
theorem dX4_freed_81 : decode cX4_freed 81 = .ok (.putfield 70, 3) := dk_181 0 70 (dk_at dksX4_freed_3 10 rfl rfl)
theorem dX4_freed_84 : decode cX4_freed 84 = .ok (.aload_n 0, 1) := dk_42 (dk_at dksX4_freed_3 13 rfl rfl)
theorem dX4_freed_85 : decode cX4_freed 85 = .ok (.getfield 70, 3) := dk_180 0 70 (dk_at dksX4_freed_3 14 rfl rfl)
theorem dX4_freed_88 : decode cX4_freed 88 = .ok (.aload_n 0, 1) := dk_42 (dk_at dksX4_freed_3 17 rfl rfl)
theorem dX4_freed_89 : decode cX4_freed 89 = .ok (.getfield 48, 3) := dk_180 0 48 (dk_at dksX4_freed_3 18 rfl rfl)
theorem dX4_freed_92 : decode cX4_freed 92 = .ok (.getfield 95, 3) := dk_180 0 95 (dk_at dksX4_freed_3 21 rfl rfl)
theorem dX4_freed_95 : decode cX4_freed 95 = .ok (.if_icmp .ge 57, 3) := dk_162 0 57 (dk_at dksX4_freed_4 0 rfl rfl)
theorem dX4_freed_98 : decode cX4_freed 98 = .ok (.aload_n 0, 1) := dk_42 (dk_at dksX4_freed_4 3 rfl rfl)
theorem dX4_freed_99 : decode cX4_freed 99 = .ok (.getfield 67, 3) := dk_180 0 67 (dk_at dksX4_freed_4 4 rfl rfl)
theorem dX4_freed_102 : decode cX4_freed 102 = .ok (.iload_n 1, 1) := dk_27 (dk_at dksX4_freed_4 7 rfl rfl)
theorem dX4_freed_103 : decode cX4_freed 103 = .ok (.if_icmp .eq 36, 3) := dk_159 0 36 (dk_at dksX4_freed_4 8 rfl rfl)
theorem dX4_freed_106 : decode cX4_freed 106 = .ok (.aload_n 0, 1) := dk_42 (dk_at dksX4_freed_4 11 rfl rfl)
theorem dX4_freed_107 : decode cX4_freed 107 = .ok (.getfield 70, 3) := dk_180 0 70 (dk_at dksX4_freed_4 12 rfl rfl)
theorem dX4_freed_110 : decode cX4_freed 110 = .ok (.iload_n 1, 1) := dk_27 (dk_at dksX4_freed_4 15 rfl rfl)
theorem dX4_freed_111 : decode cX4_freed 111 = .ok (.if_icmp .eq 28, 3) := dk_159 0 28 (dk_at dksX4_freed_4 16 rfl rfl)
theorem dX4_freed_114 : decode cX4_freed 114 = .ok (.aload_n 0, 1) := dk_42 (dk_at dksX4_freed_4 19 rfl rfl)
theorem dX4_freed_115 : decode cX4_freed 115 = .ok (.iload_n 1, 1) := dk_27 (dk_at dksX4_freed_4 20 rfl rfl)
theorem dX4_freed_116 : decode cX4_freed 116 = .ok (.invokevirtual 366, 3) := dk_182 1 110 (dk_at dksX4_freed_4 21 rfl rfl)
theorem dX4_freed_119 : decode cX4_freed 119 = .ok (.ifCond .eq 20, 3) := dk_153 0 20 (dk_at dksX4_freed_5 0 rfl rfl)
theorem dX4_freed_122 : decode cX4_freed 122 = .ok (.bipush 100, 2) := dk_16 100 (dk_at dksX4_freed_5 3 rfl rfl)
theorem dX4_freed_124 : decode cX4_freed 124 = .ok (.iconst 1, 1) := dk_4 (dk_at dksX4_freed_5 5 rfl rfl)
theorem dX4_freed_125 : decode cX4_freed 125 = .ok (.aload_n 0, 1) := dk_42 (dk_at dksX4_freed_5 6 rfl rfl)
theorem dX4_freed_126 : decode cX4_freed 126 = .ok (.getfield 67, 3) := dk_180 0 67 (dk_at dksX4_freed_5 7 rfl rfl)
theorem dX4_freed_129 : decode cX4_freed 129 = .ok (.iadd, 1) := dk_96 (dk_at dksX4_freed_5 10 rfl rfl)
theorem dX4_freed_130 : decode cX4_freed 130 = .ok (.imul, 1) := dk_104 (dk_at dksX4_freed_5 11 rfl rfl)
theorem dX4_freed_131 : decode cX4_freed 131 = .ok (.iconst 1, 1) := dk_4 (dk_at dksX4_freed_5 12 rfl rfl)
theorem dX4_freed_132 : decode cX4_freed 132 = .ok (.iadd, 1) := dk_96 (dk_at dksX4_freed_5 13 rfl rfl)
theorem dX4_freed_133 : decode cX4_freed 133 = .ok (.aload_n 0, 1) := dk_42 (dk_at dksX4_freed_5 14 rfl rfl)
theorem dX4_freed_134 : decode cX4_freed 134 = .ok (.getfield 70, 3) := dk_180 0 70 (dk_at dksX4_freed_5 15 rfl rfl)
theorem dX4_freed_137 : decode cX4_freed 137 = .ok (.iadd, 1) := dk_96 (dk_at dksX4_freed_5 18 rfl rfl)
theorem dX4_freed_138 : decode cX4_freed 138 = .ok (.ireturn, 1) := dk_172 (dk_at dksX4_freed_5 19 rfl rfl)
theorem dX4_freed_139 : decode cX4_freed 139 = .ok (.aload_n 0, 1) := dk_42 (dk_at dksX4_freed_5 20 rfl rfl)
theorem dX4_freed_140 : decode cX4_freed 140 = .ok (.dup, 1) := dk_89 (dk_at dksX4_freed_5 21 rfl rfl)
theorem dX4_freed_141 : decode cX4_freed 141 = .ok (.getfield 70, 3) := dk_180 0 70 (dk_at dksX4_freed_6 0 rfl rfl)
theorem dX4_freed_144 : decode cX4_freed 144 = .ok (.iconst 1, 1) := dk_4 (dk_at dksX4_freed_6 3 rfl rfl)
theorem dX4_freed_145 : decode cX4_freed 145 = .ok (.iadd, 1) := dk_96 (dk_at dksX4_freed_6 4 rfl rfl)
theorem dX4_freed_146 : decode cX4_freed 146 = .ok (.putfield 70, 3) := dk_181 0 70 (dk_at dksX4_freed_6 5 rfl rfl)
theorem dX4_freed_149 : decode cX4_freed 149 = .ok (.goto (-65), 3) := dk_167 255 191 (dk_at dksX4_freed_6 8 rfl rfl)
theorem dX4_freed_152 : decode cX4_freed 152 = .ok (.aload_n 0, 1) := dk_42 (dk_at dksX4_freed_6 11 rfl rfl)
theorem dX4_freed_153 : decode cX4_freed 153 = .ok (.dup, 1) := dk_89 (dk_at dksX4_freed_6 12 rfl rfl)
theorem dX4_freed_154 : decode cX4_freed 154 = .ok (.getfield 67, 3) := dk_180 0 67 (dk_at dksX4_freed_6 13 rfl rfl)
theorem dX4_freed_157 : decode cX4_freed 157 = .ok (.iconst 1, 1) := dk_4 (dk_at dksX4_freed_6 16 rfl rfl)
theorem dX4_freed_158 : decode cX4_freed 158 = .ok (.iadd, 1) := dk_96 (dk_at dksX4_freed_6 17 rfl rfl)
theorem dX4_freed_159 : decode cX4_freed 159 = .ok (.putfield 67, 3) := dk_181 0 67 (dk_at dksX4_freed_6 18 rfl rfl)
theorem dX4_freed_162 : decode cX4_freed 162 = .ok (.goto (-102), 3) := dk_167 255 154 (dk_at dksX4_freed_6 21 rfl rfl)
theorem dX4_freed_165 : decode cX4_freed 165 = .ok (.iconst (-1), 1) := dk_2 (dk_at dksX4_freed_7 0 rfl rfl)
theorem dX4_freed_166 : decode cX4_freed 166 = .ok (.ireturn, 1) := dk_172 (dk_at dksX4_freed_7 1 rfl rfl)
theorem q2833 : (Jvm.Cond.code ({ cls := "DebateHallModel", name := "isFree", desc := "(I)Z" } : Jvm.MethodName) prog_25_method_67_code (2 : Nat) (Option.some Jvm.ClassFile.FieldType.boolean)) ∈ lw_all := lw_g (lw_at lw_m12 113 rfl) rfl
theorem zk_X4_isFree : zz_cd yX4_isFree cX4_isFree 2 (some .boolean) none ∈ lw_all := q2833
theorem zy_X4_isFree : zz_yok yX4_isFree 1 = true := by decide +kernel
theorem q2830 : (Jvm.Cond.methodLink "DebateHallModel" (366 : Nat) ({ cls := "DebateHallModel", name := "isFree", desc := "(I)Z" } : Jvm.MethodName)) ∈ lw_all := lw_g (lw_at lw_m12 110 rfl) rfl
theorem q2832 : (Jvm.Cond.instanceMethod ({ cls := "DebateHallModel", name := "isFree", desc := "(I)Z" } : Jvm.MethodName)) ∈ lw_all := lw_g (lw_at lw_m12 112 rfl) rfl
def wp_X4_freed_B42 (Z : zzG) (k5 : Option Nat → Int32 → zzM → Prop) (K : Option Value → zzM → Prop) (v0 : Option Nat) (v1 : Int32) (M : zzM) : Prop := zgI Z M v0 [16] 18 fun x13 => zput Z M v0 [16] 18 (.int (x13 + (1 : Int32))) fun M14 => k5 v0 v1 M14
def wp_X4_freed_B139 (Z : zzG) (k60 : Option Nat → Int32 → zzM → Prop) (k84 : Option Nat → Int32 → zzM → Prop) (K : Option Value → zzM → Prop) (v0 : Option Nat) (v1 : Int32) (M : zzM) : Prop := zgI Z M v0 [16] 19 fun x34 => zput Z M v0 [16] 19 (.int (x34 + (1 : Int32))) fun M35 => k84 v0 v1 M35
def wp_X4_freed_L84 (Z : zzG) (k60 : Option Nat → Int32 → zzM → Prop) (K : Option Value → zzM → Prop) : Nat → Option Nat → Int32 → zzM → Prop
  | 0, _, _, _ => False
  | n + 1, v0, v1, M => zgI Z M v0 [16] 19 fun x20 => zgA Z M v0 [16] 11 fun x21 => zgI Z M x21 [17] 3 fun x22 => if x22 ≤ x20 then (zgI Z M v0 [16] 18 fun x23 => zput Z M v0 [16] 18 (.int (x23 + (1 : Int32))) fun M24 => k60 v0 v1 M24) else (zgI Z M v0 [16] 18 fun x25 => if x25 = v1 then (wp_X4_freed_B139 Z k60 (wp_X4_freed_L84 Z k60 K n) K v0 v1 M) else (zgI Z M v0 [16] 19 fun x26 => if x26 = v1 then (wp_X4_freed_B139 Z k60 (wp_X4_freed_L84 Z k60 K n) K v0 v1 M) else (zty Z M v0 fun t => t = 16 ∧ wp_X4_isFree Z v0 v1 M (fun r27 M28 => zrI r27 fun x31 => if x31 = 0 then (wp_X4_freed_B139 Z k60 (wp_X4_freed_L84 Z k60 K n) K v0 v1 M28) else (zgI Z M28 v0 [16] 18 fun x32 => zgI Z M28 v0 [16] 19 fun x33 => K (some (.int ((((100 : Int32) * ((1 : Int32) + x32)) + (1 : Int32)) + x33))) M28)))))
def wp_X4_freed_L60 (Z : zzG) (K : Option Value → zzM → Prop) : Nat → Option Nat → Int32 → zzM → Prop
  | 0, _, _, _ => False
  | n + 1, v0, v1, M => zgI Z M v0 [16] 18 fun x15 => zgA Z M v0 [16] 11 fun x16 => zgI Z M x16 [17] 3 fun x17 => if x17 ≤ x15 then (K (some (.int (-1 : Int32))) M) else (zgI Z M v0 [16] 18 fun x18 => zput Z M v0 [16] 19 (.int (x18 + (1 : Int32))) fun M19 => ∃ n84 : Nat, wp_X4_freed_L84 Z (wp_X4_freed_L60 Z K n) K n84 v0 v1 M19)
def wp_X4_freed_L5 (Z : zzG) (K : Option Value → zzM → Prop) : Nat → Option Nat → Int32 → zzM → Prop
  | 0, _, _, _ => False
  | n + 1, v0, v1, M => zgI Z M v0 [16] 18 fun x2 => zgA Z M v0 [16] 11 fun x3 => zgI Z M x3 [17] 3 fun x4 => if x4 ≤ x2 then (zput Z M v0 [16] 18 (.int (0 : Int32)) fun M5 => ∃ n60 : Nat, wp_X4_freed_L60 Z K n60 v0 v1 M5) else (zgI Z M v0 [16] 18 fun x6 => if x6 = v1 then (wp_X4_freed_B42 Z (wp_X4_freed_L5 Z K n) K v0 v1 M) else (zty Z M v0 fun t => t = 16 ∧ wp_X4_isFree Z v0 v1 M (fun r7 M8 => zrI r7 fun x11 => if x11 = 0 then (wp_X4_freed_B42 Z (wp_X4_freed_L5 Z K n) K v0 v1 M8) else (zgI Z M8 v0 [16] 18 fun x12 => K (some (.int ((1 : Int32) + x12))) M8))))
def wp_X4_freed (Z : zzG) (this : Option Nat) (p0 : Int32) (M : zzM) (K : Option Value → zzM → Prop) : Prop := zput Z M this [16] 18 (.int (0 : Int32)) fun M1 => ∃ n5 : Nat, wp_X4_freed_L5 Z K n5 this p0 M1
theorem ok_X4_freed_B42 {G : zzX} (C : zz_C G cX4_freed "DebateHallModel" 2) {K : Option Value → zzM → Prop} (E : zz_E G (some .int) K (fun _ _ _ => False)) (hH : zz_H G []) (hR : zz_Rm G 5) {k5 : Option Nat → Int32 → zzM → Prop} (hk5 : ∀ (z0 : Option Nat) (z1 : Int32) (M : zzM) (bc bs : Nat), k5 z0 z1 M → zz_T G 2 M bc bs 5 [(0, va_rf z0), (1, .int z1)] []) {v0 : Option Nat} {v1 : Int32} {M : zzM} {bc bs : Nat} (hw : wp_X4_freed_B42 (zz_Zof G) k5 K v0 v1 M) : zz_T G 2 M bc bs 42 [(0, va_rf v0), (1, .int v1)] [] := by
  unfold wp_X4_freed_B42 at hw
  refine zz_aload_n C dX4_freed_42 rfl 0 rfl ?_
  refine zz_dup C dX4_freed_43 (zz_cat _) ?_
  refine zz_getI C dX4_freed_44 (Or.inl q2454) zf_16_18_ebateHallModel hw (fun x13 hw => ?_)
  refine zz_iconst (v := (1 : Int32)) C dX4_freed_47 (by decide) ?_
  refine zz_iadd C dX4_freed_48 ?_
  refine zz_put C dX4_freed_49 (Or.inl q2454) zf_16_18_ebateHallModel zp_16_18 (zz_hn1 ⟨rfl, rfl⟩) hw (fun M14 hw => ?_)
  refine zz_goto (tgt := 5) C dX4_freed_52 (by decide) ?_
  refine zz_subP [0, 1] rfl ?_
  exact hk5 _ _ _ _ _ hw
theorem ok_X4_freed_B139 {G : zzX} (C : zz_C G cX4_freed "DebateHallModel" 2) {K : Option Value → zzM → Prop} (E : zz_E G (some .int) K (fun _ _ _ => False)) (hH : zz_H G []) (hR : zz_Rm G 5) {k60 : Option Nat → Int32 → zzM → Prop} (hk60 : ∀ (z0 : Option Nat) (z1 : Int32) (M : zzM) (bc bs : Nat), k60 z0 z1 M → zz_T G 2 M bc bs 60 [(0, va_rf z0), (1, .int z1)] []) {k84 : Option Nat → Int32 → zzM → Prop} (hk84 : ∀ (z0 : Option Nat) (z1 : Int32) (M : zzM) (bc bs : Nat), k84 z0 z1 M → zz_T G 2 M bc bs 84 [(0, va_rf z0), (1, .int z1)] []) {v0 : Option Nat} {v1 : Int32} {M : zzM} {bc bs : Nat} (hw : wp_X4_freed_B139 (zz_Zof G) k60 k84 K v0 v1 M) : zz_T G 2 M bc bs 139 [(0, va_rf v0), (1, .int v1)] [] := by
  unfold wp_X4_freed_B139 at hw
  refine zz_aload_n C dX4_freed_139 rfl 0 rfl ?_
  refine zz_dup C dX4_freed_140 (zz_cat _) ?_
  refine zz_getI C dX4_freed_141 (Or.inl q2455) zf_16_19_ebateHallModel hw (fun x34 hw => ?_)
  refine zz_iconst (v := (1 : Int32)) C dX4_freed_144 (by decide) ?_
  refine zz_iadd C dX4_freed_145 ?_
  refine zz_put C dX4_freed_146 (Or.inl q2455) zf_16_19_ebateHallModel zp_16_19 (zz_hn1 ⟨rfl, rfl⟩) hw (fun M35 hw => ?_)
  refine zz_goto (tgt := 84) C dX4_freed_149 (by decide) ?_
  refine zz_subP [0, 1] rfl ?_
  exact hk84 _ _ _ _ _ hw
theorem ok_X4_freed_L84 {G : zzX} (C : zz_C G cX4_freed "DebateHallModel" 2) {K : Option Value → zzM → Prop} (E : zz_E G (some .int) K (fun _ _ _ => False)) (hH : zz_H G []) (hR : zz_Rm G 5) {k60 : Option Nat → Int32 → zzM → Prop} (hk60 : ∀ (z0 : Option Nat) (z1 : Int32) (M : zzM) (bc bs : Nat), k60 z0 z1 M → zz_T G 2 M bc bs 60 [(0, va_rf z0), (1, .int z1)] []) : ∀ (n : Nat) (v0 : Option Nat) (v1 : Int32) (M : zzM) (bc bs : Nat), wp_X4_freed_L84 (zz_Zof G) k60 K n v0 v1 M → zz_T G 2 M bc bs 84 [(0, va_rf v0), (1, .int v1)] [] := by
  intro n
  induction n with
  | zero =>
    intro v0 v1 M bc bs hw
    exact False.elim hw
  | succ n ih =>
    intro v0 v1 M bc bs hw
    refine zz_aload_n C dX4_freed_84 rfl 0 rfl ?_
    refine zz_getI C dX4_freed_85 (Or.inl q2455) zf_16_19_ebateHallModel hw (fun x20 hw => ?_)
    refine zz_aload_n C dX4_freed_88 rfl 0 rfl ?_
    refine zz_getA C dX4_freed_89 (Or.inl q2447) zf_16_11_ebateHallModel hw (fun x21 hw => ?_)
    refine zz_getI C dX4_freed_92 (Or.inr ⟨_, q2394⟩) zf_17_3_allModel_State hw (fun x22 hw => ?_)
    refine zz_icmp_ge (tgt := 152) C dX4_freed_95 (by decide) hw (fun hw => ?_) (fun hw => ?_)
    · refine zz_aload_n C dX4_freed_152 rfl 0 rfl ?_
      refine zz_dup C dX4_freed_153 (zz_cat _) ?_
      refine zz_getI C dX4_freed_154 (Or.inl q2454) zf_16_18_ebateHallModel hw (fun x23 hw => ?_)
      refine zz_iconst (v := (1 : Int32)) C dX4_freed_157 (by decide) ?_
      refine zz_iadd C dX4_freed_158 ?_
      refine zz_put C dX4_freed_159 (Or.inl q2454) zf_16_18_ebateHallModel zp_16_18 (zz_hn1 ⟨rfl, rfl⟩) hw (fun M24 hw => ?_)
      refine zz_goto (tgt := 60) C dX4_freed_162 (by decide) ?_
      refine zz_subP [0, 1] rfl ?_
      exact hk60 _ _ _ _ _ hw
    · refine zz_aload_n C dX4_freed_98 rfl 0 rfl ?_
      refine zz_getI C dX4_freed_99 (Or.inl q2454) zf_16_18_ebateHallModel hw (fun x25 hw => ?_)
      refine zz_iload_n C dX4_freed_102 rfl 1 rfl ?_
      refine zz_icmp_eq (tgt := 139) C dX4_freed_103 (by decide) hw (fun hw => ?_) (fun hw => ?_)
      · refine zz_subP [0, 1] rfl ?_
        exact ok_X4_freed_B139 C E hH hR hk60 (fun z0 z1 z2 z3 z4 hw => ih z0 z1 z2 z3 z4 hw) hw
      · refine zz_aload_n C dX4_freed_106 rfl 0 rfl ?_
        refine zz_getI C dX4_freed_107 (Or.inl q2455) zf_16_19_ebateHallModel hw (fun x26 hw => ?_)
        refine zz_iload_n C dX4_freed_110 rfl 1 rfl ?_
        refine zz_icmp_eq (tgt := 139) C dX4_freed_111 (by decide) hw (fun hw => ?_) (fun hw => ?_)
        · refine zz_subP [0, 1] rfl ?_
          exact ok_X4_freed_B139 C E hH hR hk60 (fun z0 z1 z2 z3 z4 hw => ih z0 z1 z2 z3 z4 hw) hw
        · refine zz_aload_n C dX4_freed_114 rfl 0 rfl ?_
          refine zz_iload_n C dX4_freed_115 rfl 1 rfl ?_
          obtain ⟨a9, t9, b9, fs9, hro, hL, rfl, hw⟩ := ztyS hw
          refine zz_callV (r := (zR_16, zT_16, 24)) (As := [.int v1]) (rest := []) (mc := 0) (ms := 0) C hR hro dX4_freed_116 (Or.inl q2830) q2832 (Or.inl qs77) zl_DebateHallModel zk_X4_isFree (Or.inl rfl) zy_X4_isFree rfl (by decide) (by decide) hL (ok_X4_isFree (zz_hl C) hw) (Nat.zero_le _) (Nat.zero_le _) (zz_cat10 _ (Nat.le_of_ble_eq_true rfl)) (fun r27 M28 hw => zz_kI hw (fun x31 hw => ?_)) (fun _ _ _ h9 => h9.elim) rfl
          refine zz_if_eq (tgt := 139) C dX4_freed_119 (by decide) hw (fun hw => ?_) (fun hw => ?_)
          · refine zz_subP [0, 1] rfl ?_
            exact ok_X4_freed_B139 C E hH hR hk60 (fun z0 z1 z2 z3 z4 hw => ih z0 z1 z2 z3 z4 hw) hw
          · refine zz_bipush (v := (100 : Int32)) C dX4_freed_122 (by decide) ?_
            refine zz_iconst (v := (1 : Int32)) C dX4_freed_124 (by decide) ?_
            refine zz_aload_n C dX4_freed_125 rfl 0 rfl ?_
            refine zz_getI C dX4_freed_126 (Or.inl q2454) zf_16_18_ebateHallModel hw (fun x32 hw => ?_)
            refine zz_iadd C dX4_freed_129 ?_
            refine zz_imul C dX4_freed_130 ?_
            refine zz_iconst (v := (1 : Int32)) C dX4_freed_131 (by decide) ?_
            refine zz_iadd C dX4_freed_132 ?_
            refine zz_aload_n C dX4_freed_133 rfl 0 rfl ?_
            refine zz_getI C dX4_freed_134 (Or.inl q2455) zf_16_19_ebateHallModel hw (fun x33 hw => ?_)
            refine zz_iadd C dX4_freed_137 ?_
            exact zz_iret C E dX4_freed_138 hw
theorem ok_X4_freed_L60 {G : zzX} (C : zz_C G cX4_freed "DebateHallModel" 2) {K : Option Value → zzM → Prop} (E : zz_E G (some .int) K (fun _ _ _ => False)) (hH : zz_H G []) (hR : zz_Rm G 5) : ∀ (n : Nat) (v0 : Option Nat) (v1 : Int32) (M : zzM) (bc bs : Nat), wp_X4_freed_L60 (zz_Zof G) K n v0 v1 M → zz_T G 2 M bc bs 60 [(0, va_rf v0), (1, .int v1)] [] := by
  intro n
  induction n with
  | zero =>
    intro v0 v1 M bc bs hw
    exact False.elim hw
  | succ n ih =>
    intro v0 v1 M bc bs hw
    refine zz_aload_n C dX4_freed_60 rfl 0 rfl ?_
    refine zz_getI C dX4_freed_61 (Or.inl q2454) zf_16_18_ebateHallModel hw (fun x15 hw => ?_)
    refine zz_aload_n C dX4_freed_64 rfl 0 rfl ?_
    refine zz_getA C dX4_freed_65 (Or.inl q2447) zf_16_11_ebateHallModel hw (fun x16 hw => ?_)
    refine zz_getI C dX4_freed_68 (Or.inr ⟨_, q2394⟩) zf_17_3_allModel_State hw (fun x17 hw => ?_)
    refine zz_icmp_ge (tgt := 165) C dX4_freed_71 (by decide) hw (fun hw => ?_) (fun hw => ?_)
    · refine zz_iconst (v := (-1 : Int32)) C dX4_freed_165 (by decide) ?_
      exact zz_iret C E dX4_freed_166 hw
    · refine zz_aload_n C dX4_freed_74 rfl 0 rfl ?_
      refine zz_aload_n C dX4_freed_75 rfl 0 rfl ?_
      refine zz_getI C dX4_freed_76 (Or.inl q2454) zf_16_18_ebateHallModel hw (fun x18 hw => ?_)
      refine zz_iconst (v := (1 : Int32)) C dX4_freed_79 (by decide) ?_
      refine zz_iadd C dX4_freed_80 ?_
      refine zz_put C dX4_freed_81 (Or.inl q2455) zf_16_19_ebateHallModel zp_16_19 (zz_hn1 ⟨rfl, rfl⟩) hw (fun M19 hw => ?_)
      refine zz_subP [0, 1] rfl ?_
      obtain ⟨n84, hw⟩ := hw
      exact ok_X4_freed_L84 C E hH hR (fun z0 z1 z2 z3 z4 hw => ih z0 z1 z2 z3 z4 hw) n84 _ _ _ _ _ hw
theorem ok_X4_freed_L5 {G : zzX} (C : zz_C G cX4_freed "DebateHallModel" 2) {K : Option Value → zzM → Prop} (E : zz_E G (some .int) K (fun _ _ _ => False)) (hH : zz_H G []) (hR : zz_Rm G 5) : ∀ (n : Nat) (v0 : Option Nat) (v1 : Int32) (M : zzM) (bc bs : Nat), wp_X4_freed_L5 (zz_Zof G) K n v0 v1 M → zz_T G 2 M bc bs 5 [(0, va_rf v0), (1, .int v1)] [] := by
  intro n
  induction n with
  | zero =>
    intro v0 v1 M bc bs hw
    exact False.elim hw
  | succ n ih =>
    intro v0 v1 M bc bs hw
    refine zz_aload_n C dX4_freed_5 rfl 0 rfl ?_
    refine zz_getI C dX4_freed_6 (Or.inl q2454) zf_16_18_ebateHallModel hw (fun x2 hw => ?_)
    refine zz_aload_n C dX4_freed_9 rfl 0 rfl ?_
    refine zz_getA C dX4_freed_10 (Or.inl q2447) zf_16_11_ebateHallModel hw (fun x3 hw => ?_)
    refine zz_getI C dX4_freed_13 (Or.inr ⟨_, q2394⟩) zf_17_3_allModel_State hw (fun x4 hw => ?_)
    refine zz_icmp_ge (tgt := 55) C dX4_freed_16 (by decide) hw (fun hw => ?_) (fun hw => ?_)
    · refine zz_aload_n C dX4_freed_55 rfl 0 rfl ?_
      refine zz_iconst (v := (0 : Int32)) C dX4_freed_56 (by decide) ?_
      refine zz_put C dX4_freed_57 (Or.inl q2454) zf_16_18_ebateHallModel zp_16_18 (zz_hn1 ⟨rfl, rfl⟩) hw (fun M5 hw => ?_)
      refine zz_subP [0, 1] rfl ?_
      obtain ⟨n60, hw⟩ := hw
      exact ok_X4_freed_L60 C E hH hR n60 _ _ _ _ _ hw
    · refine zz_aload_n C dX4_freed_19 rfl 0 rfl ?_
      refine zz_getI C dX4_freed_20 (Or.inl q2454) zf_16_18_ebateHallModel hw (fun x6 hw => ?_)
      refine zz_iload_n C dX4_freed_23 rfl 1 rfl ?_
      refine zz_icmp_eq (tgt := 42) C dX4_freed_24 (by decide) hw (fun hw => ?_) (fun hw => ?_)
      · refine zz_subP [0, 1] rfl ?_
        exact ok_X4_freed_B42 C E hH hR (fun z0 z1 z2 z3 z4 hw => ih z0 z1 z2 z3 z4 hw) hw
      · refine zz_aload_n C dX4_freed_27 rfl 0 rfl ?_
        refine zz_iload_n C dX4_freed_28 rfl 1 rfl ?_
        obtain ⟨a9, t9, b9, fs9, hro, hL, rfl, hw⟩ := ztyS hw
        refine zz_callV (r := (zR_16, zT_16, 24)) (As := [.int v1]) (rest := []) (mc := 0) (ms := 0) C hR hro dX4_freed_29 (Or.inl q2830) q2832 (Or.inl qs77) zl_DebateHallModel zk_X4_isFree (Or.inl rfl) zy_X4_isFree rfl (by decide) (by decide) hL (ok_X4_isFree (zz_hl C) hw) (Nat.zero_le _) (Nat.zero_le _) (zz_cat10 _ (Nat.le_of_ble_eq_true rfl)) (fun r7 M8 hw => zz_kI hw (fun x11 hw => ?_)) (fun _ _ _ h9 => h9.elim) rfl
        refine zz_if_eq (tgt := 42) C dX4_freed_32 (by decide) hw (fun hw => ?_) (fun hw => ?_)
        · refine zz_subP [0, 1] rfl ?_
          exact ok_X4_freed_B42 C E hH hR (fun z0 z1 z2 z3 z4 hw => ih z0 z1 z2 z3 z4 hw) hw
        · refine zz_iconst (v := (1 : Int32)) C dX4_freed_35 (by decide) ?_
          refine zz_aload_n C dX4_freed_36 rfl 0 rfl ?_
          refine zz_getI C dX4_freed_37 (Or.inl q2454) zf_16_18_ebateHallModel hw (fun x12 hw => ?_)
          refine zz_iadd C dX4_freed_40 ?_
          exact zz_iret C E dX4_freed_41 hw
theorem ok_X4_freed {Z : zzG} {l : Launch} (hl : l.stackTraces = false) {this : Option Nat} {p0 : Int32} {M : zzM} {mc ms : Nat} {K : Option Value → zzM → Prop} (hw : wp_X4_freed Z this p0 M K) : zz_Met Z l yX4_freed (zz_ws yX4_freed cX4_freed 2 (some .int) none) 5 [va_rf this, .int p0] M mc ms K (fun _ _ _ => False) := by
  refine zz_ofW hl (plainFor_of_name (by decide)) (by simp only [zz_sl0, zz_slI, zz_slJ, zz_slA] <;> decide) (fun G hZ hll C E hH hR hin => ?_)
  subst hZ
  subst hll
  rw [show lv_args 0 [va_rf this, .int p0] = [(0, va_rf this), (1, .int p0)] by simp only [zz_la0, zz_laI, zz_laJ, zz_laA]]
  unfold wp_X4_freed at hw
  refine zz_aload_n C dX4_freed_0 rfl 0 rfl ?_
  refine zz_iconst (v := (0 : Int32)) C dX4_freed_1 (by decide) ?_
  refine zz_put C dX4_freed_2 (Or.inl q2454) zf_16_18_ebateHallModel zp_16_18 (zz_hn1 ⟨rfl, rfl⟩) hw (fun M1 hw => ?_)
  refine zz_subP [0, 1] rfl ?_
  obtain ⟨n5, hw⟩ := hw
  exact ok_X4_freed_L5 C E hH hR n5 _ _ _ _ _ hw
abbrev cX4_frees : ByteArray := prog_25_method_69_code
def yX4_frees : MethodName := ⟨"DebateHallModel", "frees", "(I)I"⟩
def dkwX4_frees_2 : List UInt8 := [172]
abbrev dktX4_frees_2 : List UInt8 := dkwX4_frees_2 ++ []
def dkwX4_frees_1 : List UInt8 := [46, 4, 160, 0, 5, 3, 172, 42, 27, 182, 1, 113, 61, 42, 2, 181, 0, 67, 42, 2, 181, 0, 70, 28]
abbrev dktX4_frees_1 : List UInt8 := dkwX4_frees_1 ++ dktX4_frees_2
def dkwX4_frees_0 : List UInt8 := [42, 3, 181, 0, 85, 42, 27, 182, 1, 92, 154, 0, 9, 42, 4, 182, 1, 56, 172, 42, 180, 0, 55, 27]
abbrev dktX4_frees_0 : List UInt8 := dkwX4_frees_0 ++ dktX4_frees_1
theorem dksX4_frees_0 : cX4_frees.data.toList.drop 0 = dktX4_frees_0 := by decide +kernel
theorem dksX4_frees_1 : cX4_frees.data.toList.drop 24 = dktX4_frees_1 := dk_seg dksX4_frees_0 24 rfl rfl
theorem dksX4_frees_2 : cX4_frees.data.toList.drop 48 = dktX4_frees_2 := dk_seg dksX4_frees_1 24 rfl rfl
theorem dX4_frees_0 : decode cX4_frees 0 = .ok (.aload_n 0, 1) := dk_42 (dk_at dksX4_frees_0 0 rfl rfl)
theorem dX4_frees_1 : decode cX4_frees 1 = .ok (.iconst 0, 1) := dk_3 (dk_at dksX4_frees_0 1 rfl rfl)
theorem dX4_frees_2 : decode cX4_frees 2 = .ok (.putfield 85, 3) := dk_181 0 85 (dk_at dksX4_frees_0 2 rfl rfl)
theorem dX4_frees_5 : decode cX4_frees 5 = .ok (.aload_n 0, 1) := dk_42 (dk_at dksX4_frees_0 5 rfl rfl)
theorem dX4_frees_6 : decode cX4_frees 6 = .ok (.iload_n 1, 1) := dk_27 (dk_at dksX4_frees_0 6 rfl rfl)
theorem dX4_frees_7 : decode cX4_frees 7 = .ok (.invokevirtual 348, 3) := dk_182 1 92 (dk_at dksX4_frees_0 7 rfl rfl)
theorem dX4_frees_10 : decode cX4_frees 10 = .ok (.ifCond .ne 9, 3) := dk_154 0 9 (dk_at dksX4_frees_0 10 rfl rfl)
theorem dX4_frees_13 : decode cX4_frees 13 = .ok (.aload_n 0, 1) := dk_42 (dk_at dksX4_frees_0 13 rfl rfl)
theorem dX4_frees_14 : decode cX4_frees 14 = .ok (.iconst 1, 1) := dk_4 (dk_at dksX4_frees_0 14 rfl rfl)
theorem dX4_frees_15 : decode cX4_frees 15 = .ok (.invokevirtual 312, 3) := dk_182 1 56 (dk_at dksX4_frees_0 15 rfl rfl)
theorem dX4_frees_18 : decode cX4_frees 18 = .ok (.ireturn, 1) := dk_172 (dk_at dksX4_frees_0 18 rfl rfl)
theorem dX4_frees_19 : decode cX4_frees 19 = .ok (.aload_n 0, 1) := dk_42 (dk_at dksX4_frees_0 19 rfl rfl)
theorem dX4_frees_20 : decode cX4_frees 20 = .ok (.getfield 55, 3) := dk_180 0 55 (dk_at dksX4_frees_0 20 rfl rfl)
theorem dX4_frees_23 : decode cX4_frees 23 = .ok (.iload_n 1, 1) := dk_27 (dk_at dksX4_frees_0 23 rfl rfl)
theorem dX4_frees_24 : decode cX4_frees 24 = .ok (.iaload, 1) := dk_46 (dk_at dksX4_frees_1 0 rfl rfl)
theorem dX4_frees_25 : decode cX4_frees 25 = .ok (.iconst 1, 1) := dk_4 (dk_at dksX4_frees_1 1 rfl rfl)
theorem dX4_frees_26 : decode cX4_frees 26 = .ok (.if_icmp .ne 5, 3) := dk_160 0 5 (dk_at dksX4_frees_1 2 rfl rfl)
theorem dX4_frees_29 : decode cX4_frees 29 = .ok (.iconst 0, 1) := dk_3 (dk_at dksX4_frees_1 5 rfl rfl)
theorem dX4_frees_30 : decode cX4_frees 30 = .ok (.ireturn, 1) := dk_172 (dk_at dksX4_frees_1 6 rfl rfl)
theorem dX4_frees_31 : decode cX4_frees 31 = .ok (.aload_n 0, 1) := dk_42 (dk_at dksX4_frees_1 7 rfl rfl)
theorem dX4_frees_32 : decode cX4_frees 32 = .ok (.iload_n 1, 1) := dk_27 (dk_at dksX4_frees_1 8 rfl rfl)
theorem dX4_frees_33 : decode cX4_frees 33 = .ok (.invokevirtual 369, 3) := dk_182 1 113 (dk_at dksX4_frees_1 9 rfl rfl)
theorem dX4_frees_36 : decode cX4_frees 36 = .ok (.istore_n 2, 1) := dk_61 (dk_at dksX4_frees_1 12 rfl rfl)
theorem dX4_frees_37 : decode cX4_frees 37 = .ok (.aload_n 0, 1) := dk_42 (dk_at dksX4_frees_1 13 rfl rfl)
theorem dX4_frees_38 : decode cX4_frees 38 = .ok (.iconst (-1), 1) := dk_2 (dk_at dksX4_frees_1 14 rfl rfl)
theorem dX4_frees_39 : decode cX4_frees 39 = .ok (.putfield 67, 3) := dk_181 0 67 (dk_at dksX4_frees_1 15 rfl rfl)
theorem dX4_frees_42 : decode cX4_frees 42 = .ok (.aload_n 0, 1) := dk_42 (dk_at dksX4_frees_1 18 rfl rfl)
theorem dX4_frees_43 : decode cX4_frees 43 = .ok (.iconst (-1), 1) := dk_2 (dk_at dksX4_frees_1 19 rfl rfl)
theorem dX4_frees_44 : decode cX4_frees 44 = .ok (.putfield 70, 3) := dk_181 0 70 (dk_at dksX4_frees_1 20 rfl rfl)
theorem dX4_frees_47 : decode cX4_frees 47 = .ok (.iload_n 2, 1) := dk_28 (dk_at dksX4_frees_1 23 rfl rfl)
theorem dX4_frees_48 : decode cX4_frees 48 = .ok (.ireturn, 1) := dk_172 (dk_at dksX4_frees_2 0 rfl rfl)
theorem q2761 : (Jvm.Cond.code ({ cls := "DebateHallModel", name := "isItem", desc := "(I)Z" } : Jvm.MethodName) prog_25_method_8_code (2 : Nat) (Option.some Jvm.ClassFile.FieldType.boolean)) ∈ lw_all := lw_g (lw_at lw_m12 41 rfl) rfl
theorem zk_X4_isItem : zz_cd yX4_isItem cX4_isItem 2 (some .boolean) none ∈ lw_all := q2761
theorem zy_X4_isItem : zz_yok yX4_isItem 1 = true := by decide +kernel
theorem q2829 : (Jvm.Cond.code ({ cls := "DebateHallModel", name := "freed", desc := "(I)I" } : Jvm.MethodName) prog_25_method_68_code (2 : Nat) (Option.some Jvm.ClassFile.FieldType.int)) ∈ lw_all := lw_g (lw_at lw_m12 109 rfl) rfl
theorem zk_X4_freed : zz_cd yX4_freed cX4_freed 2 (some .int) none ∈ lw_all := q2829
theorem zy_X4_freed : zz_yok yX4_freed 1 = true := by decide +kernel
theorem q2826 : (Jvm.Cond.methodLink "DebateHallModel" (369 : Nat) ({ cls := "DebateHallModel", name := "freed", desc := "(I)I" } : Jvm.MethodName)) ∈ lw_all := lw_g (lw_at lw_m12 106 rfl) rfl
theorem q2828 : (Jvm.Cond.instanceMethod ({ cls := "DebateHallModel", name := "freed", desc := "(I)I" } : Jvm.MethodName)) ∈ lw_all := lw_g (lw_at lw_m12 108 rfl) rfl
theorem q2758 : (Jvm.Cond.methodLink "DebateHallModel" (348 : Nat) ({ cls := "DebateHallModel", name := "isItem", desc := "(I)Z" } : Jvm.MethodName)) ∈ lw_all := lw_g (lw_at lw_m12 38 rfl) rfl
theorem q2760 : (Jvm.Cond.instanceMethod ({ cls := "DebateHallModel", name := "isItem", desc := "(I)Z" } : Jvm.MethodName)) ∈ lw_all := lw_g (lw_at lw_m12 40 rfl) rfl
def wp_X4_frees (Z : zzG) (this : Option Nat) (p0 : Int32) (M : zzM) (K : Option Value → zzM → Prop) : Prop := zput Z M this [16] 0 (.int (0 : Int32)) fun M1 => zty Z M1 this fun t => t = 16 ∧ wp_X4_isItem Z this p0 M1 (fun r2 M3 => zrI r2 fun x6 => if x6 = 0 then (zty Z M3 this fun t => t = 16 ∧ wp_X4_no Z this (1 : Int32) M3 (fun r16 M17 => zrI r16 fun x20 => K (some (.int x20)) M17)) else (zgA Z M3 this [16] 13 fun x7 => zaI Z M3 x7 [100] p0 fun x8 => if x8 = (1 : Int32) then (K (some (.int (0 : Int32))) M3) else (zty Z M3 this fun t => t = 16 ∧ wp_X4_freed Z this p0 M3 (fun r9 M10 => zrI r9 fun x13 => zput Z M10 this [16] 18 (.int (-1 : Int32)) fun M14 => zput Z M14 this [16] 19 (.int (-1 : Int32)) fun M15 => K (some (.int x13)) M15))))
theorem ok_X4_frees {Z : zzG} {l : Launch} (hl : l.stackTraces = false) {this : Option Nat} {p0 : Int32} {M : zzM} {mc ms : Nat} {K : Option Value → zzM → Prop} (hw : wp_X4_frees Z this p0 M K) : zz_Met Z l yX4_frees (zz_ws yX4_frees cX4_frees 3 (some .int) none) 6 [va_rf this, .int p0] M mc ms K (fun _ _ _ => False) := by
  refine zz_ofW hl (plainFor_of_name (by decide)) (by simp only [zz_sl0, zz_slI, zz_slJ, zz_slA] <;> decide) (fun G hZ hll C E hH hR hin => ?_)
  subst hZ
  subst hll
  rw [show lv_args 0 [va_rf this, .int p0] = [(0, va_rf this), (1, .int p0)] by simp only [zz_la0, zz_laI, zz_laJ, zz_laA]]
  unfold wp_X4_frees at hw
  refine zz_aload_n C dX4_frees_0 rfl 0 rfl ?_
  refine zz_iconst (v := (0 : Int32)) C dX4_frees_1 (by decide) ?_
  refine zz_put C dX4_frees_2 (Or.inl q2436) zf_16_0_ebateHallModel zp_16_0 (zz_hn1 ⟨rfl, rfl⟩) hw (fun M1 hw => ?_)
  refine zz_aload_n C dX4_frees_5 rfl 0 rfl ?_
  refine zz_iload_n C dX4_frees_6 rfl 1 rfl ?_
  obtain ⟨a9, t9, b9, fs9, hro, hL, rfl, hw⟩ := ztyS hw
  refine zz_callV (r := (zR_16, zT_16, 24)) (As := [.int p0]) (rest := []) (mc := 0) (ms := 0) C hR hro dX4_frees_7 (Or.inl q2758) q2760 (Or.inl qs69) zl_DebateHallModel zk_X4_isItem (Or.inl rfl) zy_X4_isItem rfl (by decide) (by decide) hL (ok_X4_isItem (zz_hl C) hw) (Nat.zero_le _) (Nat.zero_le _) (zz_cat10 _ (Nat.le_of_ble_eq_true rfl)) (fun r2 M3 hw => zz_kI hw (fun x6 hw => ?_)) (fun _ _ _ h9 => h9.elim) rfl
  refine zz_if_ne (tgt := 19) C dX4_frees_10 (by decide) hw (fun hw => ?_) (fun hw => ?_)
  · refine zz_aload_n C dX4_frees_19 rfl 0 rfl ?_
    refine zz_getA C dX4_frees_20 (Or.inl q2449) zf_16_13_ebateHallModel hw (fun x7 hw => ?_)
    refine zz_iload_n C dX4_frees_23 rfl 1 rfl ?_
    refine zz_iald C dX4_frees_24 hw (fun x8 hw => ?_)
    refine zz_iconst (v := (1 : Int32)) C dX4_frees_25 (by decide) ?_
    refine zz_icmp_ne (tgt := 31) C dX4_frees_26 (by decide) hw (fun hw => ?_) (fun hw => ?_)
    · refine zz_aload_n C dX4_frees_31 rfl 0 rfl ?_
      refine zz_iload_n C dX4_frees_32 rfl 1 rfl ?_
      obtain ⟨a9, t9, b9, fs9, hro, hL, rfl, hw⟩ := ztyS hw
      refine zz_callV (r := (zR_16, zT_16, 24)) (As := [.int p0]) (rest := []) (mc := 0) (ms := 0) C hR hro dX4_frees_33 (Or.inl q2826) q2828 (Or.inl qs76) zl_DebateHallModel zk_X4_freed (Or.inl rfl) zy_X4_freed rfl (by decide) (by decide) hL (ok_X4_freed (zz_hl C) hw) (Nat.zero_le _) (Nat.zero_le _) (zz_cat10 _ (Nat.le_of_ble_eq_true rfl)) (fun r9 M10 hw => zz_kI hw (fun x13 hw => ?_)) (fun _ _ _ h9 => h9.elim) rfl
      refine zz_istore_n (i := 2) (lv' := [(2, .int x13), (0, va_rf this), (1, .int p0)]) C dX4_frees_36 rfl (by decide) rfl ?_
      refine zz_aload_n C dX4_frees_37 rfl 1 rfl ?_
      refine zz_iconst (v := (-1 : Int32)) C dX4_frees_38 (by decide) ?_
      refine zz_put C dX4_frees_39 (Or.inl q2454) zf_16_18_ebateHallModel zp_16_18 (zz_hn1 ⟨rfl, rfl⟩) hw (fun M14 hw => ?_)
      refine zz_aload_n C dX4_frees_42 rfl 1 rfl ?_
      refine zz_iconst (v := (-1 : Int32)) C dX4_frees_43 (by decide) ?_
      refine zz_put C dX4_frees_44 (Or.inl q2455) zf_16_19_ebateHallModel zp_16_19 (zz_hn1 ⟨rfl, rfl⟩) hw (fun M15 hw => ?_)
      refine zz_iload_n C dX4_frees_47 rfl 0 rfl ?_
      exact zz_iret C E dX4_frees_48 hw
    · refine zz_iconst (v := (0 : Int32)) C dX4_frees_29 (by decide) ?_
      exact zz_iret C E dX4_frees_30 hw
  · refine zz_aload_n C dX4_frees_13 rfl 0 rfl ?_
    refine zz_iconst (v := (1 : Int32)) C dX4_frees_14 (by decide) ?_
    obtain ⟨a9, t9, b9, fs9, hro, hL, rfl, hw⟩ := ztyS hw
    refine zz_callV (r := (zR_16, zT_16, 24)) (As := [.int (1 : Int32)]) (rest := []) (mc := 0) (ms := 0) C hR hro dX4_frees_15 (Or.inl q2517) q2519 (Or.inl qs32) zl_DebateHallModel zk_X4_no (Or.inl rfl) zy_X4_no rfl (by decide) (by decide) hL (ok_X4_no (zz_hl C) hw) (Nat.zero_le _) (Nat.zero_le _) (zz_cat10 _ (Nat.le_of_ble_eq_true rfl)) (fun r16 M17 hw => zz_kI hw (fun x20 hw => ?_)) (fun _ _ _ h9 => h9.elim) rfl
    exact zz_iret C E dX4_frees_18 hw
abbrev cX1_least : ByteArray := prog_1_method_29_code
def yX1_least : MethodName := ⟨"DebateHall", "least", "(I)I"⟩
def dkwX1_least_1 : List UInt8 := [167, 255, 242, 29, 172]
abbrev dktX1_least_1 : List UInt8 := dkwX1_least_1 ++ []
def dkwX1_least_0 : List UInt8 := [42, 27, 182, 0, 228, 77, 4, 62, 178, 0, 159, 29, 44, 182, 0, 252, 154, 0, 9, 132, 3, 1]
abbrev dktX1_least_0 : List UInt8 := dkwX1_least_0 ++ dktX1_least_1
theorem dksX1_least_0 : cX1_least.data.toList.drop 0 = dktX1_least_0 := by decide +kernel
theorem dksX1_least_1 : cX1_least.data.toList.drop 22 = dktX1_least_1 := dk_seg dksX1_least_0 22 rfl rfl
theorem dX1_least_0 : decode cX1_least 0 = .ok (.aload_n 0, 1) := dk_42 (dk_at dksX1_least_0 0 rfl rfl)
theorem dX1_least_1 : decode cX1_least 1 = .ok (.iload_n 1, 1) := dk_27 (dk_at dksX1_least_0 1 rfl rfl)
theorem dX1_least_2 : decode cX1_least 2 = .ok (.invokevirtual 228, 3) := dk_182 0 228 (dk_at dksX1_least_0 2 rfl rfl)
theorem dX1_least_5 : decode cX1_least 5 = .ok (.astore_n 2, 1) := dk_77 (dk_at dksX1_least_0 5 rfl rfl)
theorem dX1_least_6 : decode cX1_least 6 = .ok (.iconst 1, 1) := dk_4 (dk_at dksX1_least_0 6 rfl rfl)
theorem dX1_least_7 : decode cX1_least 7 = .ok (.istore_n 3, 1) := dk_62 (dk_at dksX1_least_0 7 rfl rfl)
theorem dX1_least_8 : decode cX1_least 8 = .ok (.getstatic 159, 3) := dk_178 0 159 (dk_at dksX1_least_0 8 rfl rfl)
theorem dX1_least_11 : decode cX1_least 11 = .ok (.iload_n 3, 1) := dk_29 (dk_at dksX1_least_0 11 rfl rfl)
theorem dX1_least_12 : decode cX1_least 12 = .ok (.aload_n 2, 1) := dk_44 (dk_at dksX1_least_0 12 rfl rfl)
theorem dX1_least_13 : decode cX1_least 13 = .ok (.invokevirtual 252, 3) := dk_182 0 252 (dk_at dksX1_least_0 13 rfl rfl)
theorem dX1_least_16 : decode cX1_least 16 = .ok (.ifCond .ne 9, 3) := dk_154 0 9 (dk_at dksX1_least_0 16 rfl rfl)
theorem dX1_least_19 : decode cX1_least 19 = .ok (.iinc 3 1, 3) := dk_132 3 1 (dk_at dksX1_least_0 19 rfl rfl)
theorem dX1_least_22 : decode cX1_least 22 = .ok (.goto (-14), 3) := dk_167 255 242 (dk_at dksX1_least_1 0 rfl rfl)
theorem dX1_least_25 : decode cX1_least 25 = .ok (.iload_n 3, 1) := dk_29 (dk_at dksX1_least_1 3 rfl rfl)
theorem dX1_least_26 : decode cX1_least 26 = .ok (.ireturn, 1) := dk_172 (dk_at dksX1_least_1 4 rfl rfl)
theorem q2345 : (Jvm.Cond.methodLink "DebateHall" (252 : Nat) ({ cls := "DebateHall$Kind", name := "isStrong", desc := "(ILDebateHall$Item;)Z" } : Jvm.MethodName)) ∈ lw_all := lw_g (lw_at lw_m10 105 rfl) rfl
def wp_X1_least_B16 (Z : zzG) (k8 : Option Nat → Int32 → zzM → Nat → Nat → Prop) (K : Option Value → zzM → Prop) (X : Nat → Nat → zzM → Prop) (v2 : Option Nat) (v3 : Int32) (s0 : Int32) (M : zzM) (bc bs : Nat) : Prop := if s0 = 0 then (k8 v2 (v3 + 1) M bc bs) else (K (some (.int v3)) M)
def wp_X1_least_L8 (Z : zzG) (K : Option Value → zzM → Prop) (X : Nat → Nat → zzM → Prop) : Nat → Option Nat → Int32 → zzM → Nat → Nat → Prop
  | 0, _, _, _, _, _ => False
  | n + 1, v2, v3, M, bc, bs => zty Z M (some (zz_ad Z 9)) fun t => if t = 31 then (wp_X21_isStrong Z (some (zz_ad Z 9)) v3 v2 M (fun r10 M11 => zrI r10 fun x14 => wp_X1_least_B16 Z (wp_X1_least_L8 Z K X n) K X v2 v3 x14 M11 bc bs)) else if t = 30 then (wp_X22_isStrong Z (some (zz_ad Z 9)) v3 v2 M (fun r15 M16 => zrI r15 fun x19 => wp_X1_least_B16 Z (wp_X1_least_L8 Z K X n) K X v2 v3 x19 M16 bc bs)) else if t = 32 then (wp_X23_isStrong Z (some (zz_ad Z 9)) v3 v2 M (fun r20 M21 => zrI r20 fun x24 => wp_X1_least_B16 Z (wp_X1_least_L8 Z K X n) K X v2 v3 x24 M21 bc bs)) else False
def wp_X1_least (Z : zzG) (this : Option Nat) (p0 : Int32) (M : zzM) (bc bs : Nat) (K : Option Value → zzM → Prop) (X : Nat → Nat → zzM → Prop) : Prop := zty Z M this fun t => t = 0 ∧ zcx bc bs (fun c s k x => wp_X1_itemAt Z this p0 M c s k x) (fun r1 M2 bc3 bs4 => zrA r1 fun x5 => ∃ n8 : Nat, wp_X1_least_L8 Z K X n8 x5 (1 : Int32) M2 bc3 bs4) (fun t q M _ _ => X t q M)
theorem ok_X1_least_B16 {G : zzX} (C : zz_C G cX1_least "DebateHall" 4) {K : Option Value → zzM → Prop} {X : Nat → Nat → zzM → Prop} (E : zz_E G (some .int) K X) (hH : zz_H G []) (hR : zz_Rm G 8) {k8 : Option Nat → Int32 → zzM → Nat → Nat → Prop} (hk8 : ∀ (z0 : Option Nat) (z1 : Int32) (M : zzM) (bc bs : Nat), k8 z0 z1 M bc bs → zz_T G 4 M bc bs 8 [(2, va_rf z0), (3, .int z1)] []) {v2 : Option Nat} {v3 : Int32} {s0 : Int32} {M : zzM} {bc bs : Nat} (hw : wp_X1_least_B16 (zz_Zof G) k8 K X v2 v3 s0 M bc bs) : zz_T G 4 M bc bs 16 [(2, va_rf v2), (3, .int v3)] [.int s0] := by
  unfold wp_X1_least_B16 at hw
  refine zz_if_ne (tgt := 25) C dX1_least_16 (by decide) hw (fun hw => ?_) (fun hw => ?_)
  · refine zz_iload_n C dX1_least_25 rfl 1 rfl ?_
    exact zz_iret C E dX1_least_26 hw
  · refine zz_iinc (lv' := [(3, .int (v3 + 1)), (2, va_rf v2)]) C dX1_least_19 1 rfl (by rfl) (by decide) (by simp [zz_cat, zz_catI, zz_catJ, zz_catD]) ?_
    refine zz_goto (tgt := 8) C dX1_least_22 (by decide) ?_
    refine zz_subP [1, 0] rfl ?_
    exact hk8 _ _ _ _ _ hw
theorem ok_X1_least_L8 {G : zzX} (C : zz_C G cX1_least "DebateHall" 4) {K : Option Value → zzM → Prop} {X : Nat → Nat → zzM → Prop} (E : zz_E G (some .int) K X) (hH : zz_H G []) (hR : zz_Rm G 8) : ∀ (n : Nat) (v2 : Option Nat) (v3 : Int32) (M : zzM) (bc bs : Nat), wp_X1_least_L8 (zz_Zof G) K X n v2 v3 M bc bs → zz_T G 4 M bc bs 8 [(2, va_rf v2), (3, .int v3)] [] := by
  intro n
  induction n with
  | zero =>
    intro v2 v3 M bc bs hw
    exact False.elim hw
  | succ n ih =>
    intro v2 v3 M bc bs hw
    refine zz_gets (j := 9) (v := va_rf (some (zz_ad (zz_Zof G) 9))) C dX1_least_8 (Or.inl q2153) rfl (Or.inl rfl) rfl ?_
    refine zz_iload_n C dX1_least_11 rfl 1 rfl ?_
    refine zz_aload_n C dX1_least_12 rfl 0 rfl ?_
    obtain ⟨a9, t9, b9, fs9, hro, hL, hw⟩ := ztyS hw
    by_cases e31 : t9 = 31
    · replace hw := zz_ifp e31 hw
      subst e31
      refine zz_callU (r := (zR_31, zT_31, 3)) (x := ⟨"DebateHall$Kind", "isStrong", "(ILDebateHall$Item;)Z"⟩) (owner := "DebateHall$Kind") (As := [.int v3, va_rf v2]) (rest := []) (mc := 0) (ms := 0) C hR hro dX1_least_13 q2345 q1957 (Or.inl q1956) q1962 q1961 zl_DebateHall_Kind_2 zk_X21_isStrong zyo_DebateHall_Kind_isStrong__ILDebateHall_Item__Z rfl (by decide) (by decide) hL (ok_X21_isStrong (zz_hl C) hw) (Nat.zero_le _) (Nat.zero_le _) (zz_cat10 _ (Nat.le_of_ble_eq_true rfl)) (fun r10 M11 hw => zz_kI hw (fun x14 hw => ?_)) (fun _ _ _ h9 => h9.elim) rfl
      refine zz_subP [0, 1] rfl ?_
      exact ok_X1_least_B16 C E hH hR (fun z0 z1 z2 z3 z4 hw => ih z0 z1 z2 z3 z4 hw) hw
    · replace hw := zz_ifn e31 hw
      by_cases e30 : t9 = 30
      · replace hw := zz_ifp e30 hw
        subst e30
        refine zz_callUU (r := (zR_30, zT_30, 3)) (x := ⟨"DebateHall$Kind", "isStrong", "(ILDebateHall$Item;)Z"⟩) (owner := "DebateHall$Kind") (As := [.int v3, va_rf v2]) (rest := []) (mc := 0) (ms := 0) C hR hro dX1_least_13 q2345 q1957 (Or.inl q1956) q1959 q1958  zk_X22_isStrong zyo_DebateHall_Kind_isStrong__ILDebateHall_Item__Z rfl (by decide) (by decide) hL (ok_X22_isStrong (zz_hl C) hw) (Nat.zero_le _) (Nat.zero_le _) (zz_cat10 _ (Nat.le_of_ble_eq_true rfl)) (fun r15 M16 hw => zz_kI hw (fun x19 hw => ?_)) (fun _ _ _ h9 => h9.elim) rfl
        refine zz_subP [0, 1] rfl ?_
        exact ok_X1_least_B16 C E hH hR (fun z0 z1 z2 z3 z4 hw => ih z0 z1 z2 z3 z4 hw) hw
      · replace hw := zz_ifn e30 hw
        by_cases e32 : t9 = 32
        · replace hw := zz_ifp e32 hw
          subst e32
          refine zz_callUU (r := (zR_32, zT_32, 3)) (x := ⟨"DebateHall$Kind", "isStrong", "(ILDebateHall$Item;)Z"⟩) (owner := "DebateHall$Kind") (As := [.int v3, va_rf v2]) (rest := []) (mc := 0) (ms := 0) C hR hro dX1_least_13 q2345 q1957 (Or.inl q1956) q1967 q1966  zk_X23_isStrong zyo_DebateHall_Kind_isStrong__ILDebateHall_Item__Z rfl (by decide) (by decide) hL (ok_X23_isStrong (zz_hl C) hw) (Nat.zero_le _) (Nat.zero_le _) (zz_cat10 _ (Nat.le_of_ble_eq_true rfl)) (fun r20 M21 hw => zz_kI hw (fun x24 hw => ?_)) (fun _ _ _ h9 => h9.elim) rfl
          refine zz_subP [0, 1] rfl ?_
          exact ok_X1_least_B16 C E hH hR (fun z0 z1 z2 z3 z4 hw => ih z0 z1 z2 z3 z4 hw) hw
        · replace hw := zz_ifn e32 hw
          exact hw.elim
theorem ok_X1_least {Z : zzG} {l : Launch} (hl : l.stackTraces = false) {this : Option Nat} {p0 : Int32} {M : zzM} {mc ms : Nat} {K : Option Value → zzM → Prop} {X : Nat → Nat → zzM → Prop} (hw : wp_X1_least Z this p0 M mc ms K X) : zz_Met Z l yX1_least (zz_ws yX1_least cX1_least 4 (some .int) none) 8 [va_rf this, .int p0] M mc ms K X := by
  refine zz_ofW hl (plainFor_of_name (by decide)) (by simp only [zz_sl0, zz_slI, zz_slJ, zz_slA] <;> decide) (fun G hZ hll C E hH hR hin => ?_)
  subst hZ
  subst hll
  rw [show lv_args 0 [va_rf this, .int p0] = [(0, va_rf this), (1, .int p0)] by simp only [zz_la0, zz_laI, zz_laJ, zz_laA]]
  unfold wp_X1_least at hw
  refine zz_aload_n C dX1_least_0 rfl 0 rfl ?_
  refine zz_iload_n C dX1_least_1 rfl 1 rfl ?_
  obtain ⟨a9, t9, b9, fs9, hro, hL, rfl, hw⟩ := ztyS hw
  obtain ⟨c9, s9, hc9, hs9, hw⟩ := hw
  refine zz_callV (r := (zR_0, zT_0, 4)) (As := [.int p0]) (rest := []) C hR hro dX1_least_2 (Or.inl q2287) q2289 (Or.inl qs28) zl_DebateHall zk_X1_itemAt (Or.inl rfl) zy_X1_itemAt rfl (by decide) (by decide) hL (ok_X1_itemAt (zz_hl C) hw) hc9 hs9 (zz_cat10 _ (Nat.le_of_ble_eq_true rfl)) (fun r1 M2 hw => zz_kA hw (fun x5 hw => ?_)) (fun t9 q6 M7 hx => ?_) rfl
  · refine zz_astore_n (i := 2) (lv' := [(2, va_rf x5), (0, va_rf this), (1, .int p0)]) C dX1_least_5 rfl (by decide) rfl ?_
    refine zz_iconst (v := (1 : Int32)) C dX1_least_6 (by decide) ?_
    refine zz_istore_n (i := 3) (lv' := [(3, .int (1 : Int32)), (2, va_rf x5), (0, va_rf this), (1, .int p0)]) C dX1_least_7 rfl (by decide) (by simp [zz_cat, zz_catI, zz_catJ, zz_catD]) ?_
    refine zz_subP [1, 0] rfl ?_
    obtain ⟨n8, hw⟩ := hw
    exact ok_X1_least_L8 C E hH hR n8 _ _ _ _ _ hw
  · exact zz_out C E hH rfl hx
abbrev cX0_least : ByteArray := method_15_code
def yX0_least : MethodName := ⟨"DebateHallLaw", "least", "(LDebateHall;I[J)I"⟩
def dkwX0_least_0 : List UInt8 := [44, 3, 42, 27, 182, 0, 55, 133, 80, 167, 0, 6, 78, 4, 172, 3, 172]
abbrev dktX0_least_0 : List UInt8 := dkwX0_least_0 ++ []
theorem dksX0_least_0 : cX0_least.data.toList.drop 0 = dktX0_least_0 := by decide +kernel
theorem dX0_least_0 : decode cX0_least 0 = .ok (.aload_n 2, 1) := dk_44 (dk_at dksX0_least_0 0 rfl rfl)
theorem dX0_least_1 : decode cX0_least 1 = .ok (.iconst 0, 1) := dk_3 (dk_at dksX0_least_0 1 rfl rfl)
theorem dX0_least_2 : decode cX0_least 2 = .ok (.aload_n 0, 1) := dk_42 (dk_at dksX0_least_0 2 rfl rfl)
theorem dX0_least_3 : decode cX0_least 3 = .ok (.iload_n 1, 1) := dk_27 (dk_at dksX0_least_0 3 rfl rfl)
theorem dX0_least_4 : decode cX0_least 4 = .ok (.invokevirtual 55, 3) := dk_182 0 55 (dk_at dksX0_least_0 4 rfl rfl)
theorem dX0_least_7 : decode cX0_least 7 = .ok (.i2l, 1) := dk_133 (dk_at dksX0_least_0 7 rfl rfl)
theorem dX0_least_8 : decode cX0_least 8 = .ok (.lastore, 1) := dk_80 (dk_at dksX0_least_0 8 rfl rfl)
theorem dX0_least_9 : decode cX0_least 9 = .ok (.goto 6, 3) := dk_167 0 6 (dk_at dksX0_least_0 9 rfl rfl)
theorem dX0_least_12 : decode cX0_least 12 = .ok (.astore_n 3, 1) := dk_78 (dk_at dksX0_least_0 12 rfl rfl)
theorem dX0_least_13 : decode cX0_least 13 = .ok (.iconst 1, 1) := dk_4 (dk_at dksX0_least_0 13 rfl rfl)
theorem dX0_least_14 : decode cX0_least 14 = .ok (.ireturn, 1) := dk_172 (dk_at dksX0_least_0 14 rfl rfl)
theorem dX0_least_15 : decode cX0_least 15 = .ok (.iconst 0, 1) := dk_3 (dk_at dksX0_least_0 15 rfl rfl)
theorem dX0_least_16 : decode cX0_least 16 = .ok (.ireturn, 1) := dk_172 (dk_at dksX0_least_0 16 rfl rfl)
theorem q2352 : (Jvm.Cond.code ({ cls := "DebateHall", name := "least", desc := "(I)I" } : Jvm.MethodName) prog_1_method_29_code (4 : Nat) (Option.some Jvm.ClassFile.FieldType.int)) ∈ lw_all := lw_g (lw_at lw_m10 112 rfl) rfl
theorem zk_X1_least : zz_cd yX1_least cX1_least 4 (some .int) none ∈ lw_all := q2352
theorem zy_X1_least : zz_yok yX1_least 1 = true := by decide +kernel
theorem q2349 : (Jvm.Cond.methodLink "DebateHallLaw" (55 : Nat) ({ cls := "DebateHall", name := "least", desc := "(I)I" } : Jvm.MethodName)) ∈ lw_all := lw_g (lw_at lw_m10 109 rfl) rfl
theorem q2350 : (Jvm.Cond.instanceMethod ({ cls := "DebateHall", name := "least", desc := "(I)I" } : Jvm.MethodName)) ∈ lw_all := lw_g (lw_at lw_m10 110 rfl) rfl
theorem q2351 : (Jvm.Cond.selects "DebateHall" ({ cls := "DebateHall", name := "least", desc := "(I)I" } : Jvm.MethodName) ({ cls := "DebateHall", name := "least", desc := "(I)I" } : Jvm.MethodName)) ∈ lw_all := lw_g (lw_at lw_m10 111 rfl) rfl
def wp_X0_least_B12 (Z : zzG) (K : Option Value → zzM → Prop) (s0 : Option Nat) (M : zzM) (bc bs : Nat) : Prop := K (some (.int (1 : Int32))) M
def wp_X0_least (Z : zzG) (p0 : Option Nat) (p1 : Int32) (p2 : Option Nat) (M : zzM) (bc bs : Nat) (K : Option Value → zzM → Prop) : Prop := zty Z M p0 fun t => t = 0 ∧ zcx bc bs (fun c s k x => wp_X1_least Z p0 p1 M c s k x) (fun r1 M2 bc3 bs4 => zrI r1 fun x5 => zast Z M2 p2 [102] (0 : Int32) (.long x5.toInt64) fun M6 => K (some (.int (0 : Int32))) M6) (fun t q7 M8 bc9 bs10 => if t = 28 then (wp_X0_least_B12 Z K (some q7) M8 bc9 bs10) else False)
theorem ok_X0_least_B12 {G : zzX} (C : zz_C G cX0_least "DebateHallLaw" 4) {K : Option Value → zzM → Prop} (E : zz_E G (some .int) K (fun _ _ _ => False)) (hH : zz_H G [(0, 9, 12, 24)]) (hR : zz_Rm G 9) {s0 : Option Nat} {M : zzM} {bc bs : Nat} (hw : wp_X0_least_B12 (zz_Zof G) K s0 M bc bs) : zz_T G 4 M bc bs 12 [] [va_rf s0] := by
  unfold wp_X0_least_B12 at hw
  refine zz_astore_n (i := 3) (lv' := [(3, va_rf s0)]) C dX0_least_12 rfl (by decide) rfl ?_
  refine zz_iconst (v := (1 : Int32)) C dX0_least_13 (by decide) ?_
  exact zz_iret C E dX0_least_14 hw
theorem ok_X0_least {Z : zzG} {l : Launch} (hl : l.stackTraces = false) {p0 : Option Nat} {p1 : Int32} {p2 : Option Nat} {M : zzM} {mc ms : Nat} {K : Option Value → zzM → Prop} (hw : wp_X0_least Z p0 p1 p2 M mc ms K) : zz_Met Z l yX0_least (zz_ws yX0_least cX0_least 4 (some .int) (some [(0, 9, 12, 24)])) 9 [va_rf p0, .int p1, va_rf p2] M mc ms K (fun _ _ _ => False) := by
  refine zz_ofW hl (plainFor_of_name (by decide)) (by simp only [zz_sl0, zz_slI, zz_slJ, zz_slA] <;> decide) (fun G hZ hll C E hH hR hin => ?_)
  subst hZ
  subst hll
  rw [show lv_args 0 [va_rf p0, .int p1, va_rf p2] = [(0, va_rf p0), (1, .int p1), (2, va_rf p2)] by simp only [zz_la0, zz_laI, zz_laJ, zz_laA]]
  unfold wp_X0_least at hw
  refine zz_aload_n C dX0_least_0 rfl 2 rfl ?_
  refine zz_iconst (v := (0 : Int32)) C dX0_least_1 (by decide) ?_
  refine zz_aload_n C dX0_least_2 rfl 0 rfl ?_
  refine zz_iload_n C dX0_least_3 rfl 1 rfl ?_
  obtain ⟨a9, t9, b9, fs9, hro, hL, rfl, hw⟩ := ztyS hw
  obtain ⟨c9, s9, hc9, hs9, hw⟩ := hw
  refine zz_callV (r := (zR_0, zT_0, 4)) (As := [.int p1]) (rest := [.int (0 : Int32), va_rf p2]) C hR hro dX0_least_4 (Or.inl q2349) q2350 (Or.inl q2351) zl_DebateHall zk_X1_least (Or.inl rfl) zy_X1_least rfl (by decide) (by decide) hL (ok_X1_least (zz_hl C) hw) hc9 hs9 (zz_cat10 _ (Nat.le_of_ble_eq_true rfl)) (fun r1 M2 hw => zz_kI hw (fun x5 hw => ?_)) (fun t9 q7 M8 hw => ?_) rfl
  · refine zz_i2l C dX0_least_7 ?_
    refine zz_last C dX0_least_8 hw (fun M6 hw => ?_)
    refine zz_goto (tgt := 15) C dX0_least_9 (by decide) ?_
    refine zz_iconst (v := (0 : Int32)) C dX0_least_15 (by decide) ?_
    exact zz_iret C E dX0_least_16 hw
  · by_cases e28 : t9 = 28
    · replace hw := zz_ifp e28 hw
      subst e28
      refine zz_catch (r := (zR_28, zT_28, 0)) C hH rfl [] (0, 9, 12, 24) [] rfl (fun _ h9 => absurd h9 List.not_mem_nil) rfl (by decide) q2265 q2137 ?_
      refine zz_subP [] rfl ?_
      exact ok_X0_least_B12 C E hH hR hw
    · replace hw := zz_ifn e28 hw
      exact hw.elim
abbrev cX4_leastOf : ByteArray := prog_25_method_64_code
def yX4_leastOf : MethodName := ⟨"DebateHallModel", "leastOf", "(I)I"⟩
def dkwX4_leastOf_1 : List UInt8 := [108, 167, 0, 12, 42, 180, 0, 48, 180, 0, 127, 27, 46, 172]
abbrev dktX4_leastOf_1 : List UInt8 := dkwX4_leastOf_1 ++ []
def dkwX4_leastOf_0 : List UInt8 := [42, 180, 0, 48, 180, 0, 124, 27, 46, 154, 0, 19, 42, 180, 0, 48, 180, 0, 127, 27, 46, 4, 96, 5]
abbrev dktX4_leastOf_0 : List UInt8 := dkwX4_leastOf_0 ++ dktX4_leastOf_1
theorem dksX4_leastOf_0 : cX4_leastOf.data.toList.drop 0 = dktX4_leastOf_0 := by decide +kernel
theorem dksX4_leastOf_1 : cX4_leastOf.data.toList.drop 24 = dktX4_leastOf_1 := dk_seg dksX4_leastOf_0 24 rfl rfl
theorem dX4_leastOf_0 : decode cX4_leastOf 0 = .ok (.aload_n 0, 1) := dk_42 (dk_at dksX4_leastOf_0 0 rfl rfl)
theorem dX4_leastOf_1 : decode cX4_leastOf 1 = .ok (.getfield 48, 3) := dk_180 0 48 (dk_at dksX4_leastOf_0 1 rfl rfl)
theorem dX4_leastOf_4 : decode cX4_leastOf 4 = .ok (.getfield 124, 3) := dk_180 0 124 (dk_at dksX4_leastOf_0 4 rfl rfl)
theorem dX4_leastOf_7 : decode cX4_leastOf 7 = .ok (.iload_n 1, 1) := dk_27 (dk_at dksX4_leastOf_0 7 rfl rfl)
theorem dX4_leastOf_8 : decode cX4_leastOf 8 = .ok (.iaload, 1) := dk_46 (dk_at dksX4_leastOf_0 8 rfl rfl)
theorem dX4_leastOf_9 : decode cX4_leastOf 9 = .ok (.ifCond .ne 19, 3) := dk_154 0 19 (dk_at dksX4_leastOf_0 9 rfl rfl)
theorem dX4_leastOf_12 : decode cX4_leastOf 12 = .ok (.aload_n 0, 1) := dk_42 (dk_at dksX4_leastOf_0 12 rfl rfl)
theorem dX4_leastOf_13 : decode cX4_leastOf 13 = .ok (.getfield 48, 3) := dk_180 0 48 (dk_at dksX4_leastOf_0 13 rfl rfl)
theorem dX4_leastOf_16 : decode cX4_leastOf 16 = .ok (.getfield 127, 3) := dk_180 0 127 (dk_at dksX4_leastOf_0 16 rfl rfl)
theorem dX4_leastOf_19 : decode cX4_leastOf 19 = .ok (.iload_n 1, 1) := dk_27 (dk_at dksX4_leastOf_0 19 rfl rfl)
theorem dX4_leastOf_20 : decode cX4_leastOf 20 = .ok (.iaload, 1) := dk_46 (dk_at dksX4_leastOf_0 20 rfl rfl)
theorem dX4_leastOf_21 : decode cX4_leastOf 21 = .ok (.iconst 1, 1) := dk_4 (dk_at dksX4_leastOf_0 21 rfl rfl)
theorem dX4_leastOf_22 : decode cX4_leastOf 22 = .ok (.iadd, 1) := dk_96 (dk_at dksX4_leastOf_0 22 rfl rfl)
theorem dX4_leastOf_23 : decode cX4_leastOf 23 = .ok (.iconst 2, 1) := dk_5 (dk_at dksX4_leastOf_0 23 rfl rfl)
theorem dX4_leastOf_24 : decode cX4_leastOf 24 = .ok (.idiv, 1) := dk_108 (dk_at dksX4_leastOf_1 0 rfl rfl)
theorem dX4_leastOf_25 : decode cX4_leastOf 25 = .ok (.goto 12, 3) := dk_167 0 12 (dk_at dksX4_leastOf_1 1 rfl rfl)
theorem dX4_leastOf_28 : decode cX4_leastOf 28 = .ok (.aload_n 0, 1) := dk_42 (dk_at dksX4_leastOf_1 4 rfl rfl)
theorem dX4_leastOf_29 : decode cX4_leastOf 29 = .ok (.getfield 48, 3) := dk_180 0 48 (dk_at dksX4_leastOf_1 5 rfl rfl)
theorem dX4_leastOf_32 : decode cX4_leastOf 32 = .ok (.getfield 127, 3) := dk_180 0 127 (dk_at dksX4_leastOf_1 8 rfl rfl)
theorem dX4_leastOf_35 : decode cX4_leastOf 35 = .ok (.iload_n 1, 1) := dk_27 (dk_at dksX4_leastOf_1 11 rfl rfl)
theorem dX4_leastOf_36 : decode cX4_leastOf 36 = .ok (.iaload, 1) := dk_46 (dk_at dksX4_leastOf_1 12 rfl rfl)
theorem dX4_leastOf_37 : decode cX4_leastOf 37 = .ok (.ireturn, 1) := dk_172 (dk_at dksX4_leastOf_1 13 rfl rfl)
def wp_X4_leastOf_B37 (Z : zzG) (K : Option Value → zzM → Prop) (s0 : Int32) (M : zzM) : Prop := K (some (.int s0)) M
def wp_X4_leastOf (Z : zzG) (this : Option Nat) (p0 : Int32) (M : zzM) (K : Option Value → zzM → Prop) : Prop := zgA Z M this [16] 11 fun x1 => zgA Z M x1 [17] 5 fun x2 => zaI Z M x2 [100] p0 fun x3 => if x3 = 0 then (zgA Z M this [16] 11 fun x7 => zgA Z M x7 [17] 7 fun x8 => zaI Z M x8 [100] p0 fun x9 => ¬ (2 : Int32) = 0 ∧ wp_X4_leastOf_B37 Z K ((x9 + (1 : Int32)) / (2 : Int32)) M) else (zgA Z M this [16] 11 fun x4 => zgA Z M x4 [17] 7 fun x5 => zaI Z M x5 [100] p0 fun x6 => wp_X4_leastOf_B37 Z K x6 M)
theorem ok_X4_leastOf_B37 {G : zzX} (C : zz_C G cX4_leastOf "DebateHallModel" 2) {K : Option Value → zzM → Prop} (E : zz_E G (some .int) K (fun _ _ _ => False)) (hH : zz_H G []) (hR : zz_Rm G 1) {s0 : Int32} {M : zzM} {bc bs : Nat} (hw : wp_X4_leastOf_B37 (zz_Zof G) K s0 M) : zz_T G 2 M bc bs 37 [] [.int s0] := by
  unfold wp_X4_leastOf_B37 at hw
  exact zz_iret C E dX4_leastOf_37 hw
theorem ok_X4_leastOf {Z : zzG} {l : Launch} (hl : l.stackTraces = false) {this : Option Nat} {p0 : Int32} {M : zzM} {mc ms : Nat} {K : Option Value → zzM → Prop} (hw : wp_X4_leastOf Z this p0 M K) : zz_Met Z l yX4_leastOf (zz_ws yX4_leastOf cX4_leastOf 2 (some .int) none) 1 [va_rf this, .int p0] M mc ms K (fun _ _ _ => False) := by
  refine zz_ofW hl (plainFor_of_name (by decide)) (by simp only [zz_sl0, zz_slI, zz_slJ, zz_slA] <;> decide) (fun G hZ hll C E hH hR hin => ?_)
  subst hZ
  subst hll
  rw [show lv_args 0 [va_rf this, .int p0] = [(0, va_rf this), (1, .int p0)] by simp only [zz_la0, zz_laI, zz_laJ, zz_laA]]
  unfold wp_X4_leastOf at hw
  refine zz_aload_n C dX4_leastOf_0 rfl 0 rfl ?_
  refine zz_getA C dX4_leastOf_1 (Or.inl q2447) zf_16_11_ebateHallModel hw (fun x1 hw => ?_)
  refine zz_getA C dX4_leastOf_4 (Or.inr ⟨_, q2398⟩) zf_17_5_allModel_State hw (fun x2 hw => ?_)
  refine zz_iload_n C dX4_leastOf_7 rfl 1 rfl ?_
  refine zz_iald C dX4_leastOf_8 hw (fun x3 hw => ?_)
  refine zz_if_ne (tgt := 28) C dX4_leastOf_9 (by decide) hw (fun hw => ?_) (fun hw => ?_)
  · refine zz_aload_n C dX4_leastOf_28 rfl 0 rfl ?_
    refine zz_getA C dX4_leastOf_29 (Or.inl q2447) zf_16_11_ebateHallModel hw (fun x4 hw => ?_)
    refine zz_getA C dX4_leastOf_32 (Or.inr ⟨_, q2402⟩) zf_17_7_allModel_State hw (fun x5 hw => ?_)
    refine zz_iload_n C dX4_leastOf_35 rfl 1 rfl ?_
    refine zz_iald C dX4_leastOf_36 hw (fun x6 hw => ?_)
    refine zz_subP [] rfl ?_
    exact ok_X4_leastOf_B37 C E hH hR hw
  · refine zz_aload_n C dX4_leastOf_12 rfl 0 rfl ?_
    refine zz_getA C dX4_leastOf_13 (Or.inl q2447) zf_16_11_ebateHallModel hw (fun x7 hw => ?_)
    refine zz_getA C dX4_leastOf_16 (Or.inr ⟨_, q2402⟩) zf_17_7_allModel_State hw (fun x8 hw => ?_)
    refine zz_iload_n C dX4_leastOf_19 rfl 1 rfl ?_
    refine zz_iald C dX4_leastOf_20 hw (fun x9 hw => ?_)
    refine zz_iconst (v := (1 : Int32)) C dX4_leastOf_21 (by decide) ?_
    refine zz_iadd C dX4_leastOf_22 ?_
    refine zz_iconst (v := (2 : Int32)) C dX4_leastOf_23 (by decide) ?_
    obtain ⟨hne, hw⟩ := hw
    refine zz_idiv C dX4_leastOf_24 hne ?_
    refine zz_goto (tgt := 37) C dX4_leastOf_25 (by decide) ?_
    refine zz_subP [] rfl ?_
    exact ok_X4_leastOf_B37 C E hH hR hw
abbrev cX4_least : ByteArray := prog_25_method_66_code
def yX4_least : MethodName := ⟨"DebateHallModel", "least", "(I)I"⟩
def dkwX4_least_1 : List UInt8 := [182, 1, 56, 172]
abbrev dktX4_least_1 : List UInt8 := dkwX4_least_1 ++ []
def dkwX4_least_0 : List UInt8 := [42, 3, 181, 0, 85, 42, 27, 182, 1, 92, 153, 0, 11, 42, 27, 182, 1, 107, 167, 0, 8, 42, 4]
abbrev dktX4_least_0 : List UInt8 := dkwX4_least_0 ++ dktX4_least_1
theorem dksX4_least_0 : cX4_least.data.toList.drop 0 = dktX4_least_0 := by decide +kernel
theorem dksX4_least_1 : cX4_least.data.toList.drop 23 = dktX4_least_1 := dk_seg dksX4_least_0 23 rfl rfl
theorem dX4_least_0 : decode cX4_least 0 = .ok (.aload_n 0, 1) := dk_42 (dk_at dksX4_least_0 0 rfl rfl)
theorem dX4_least_1 : decode cX4_least 1 = .ok (.iconst 0, 1) := dk_3 (dk_at dksX4_least_0 1 rfl rfl)
theorem dX4_least_2 : decode cX4_least 2 = .ok (.putfield 85, 3) := dk_181 0 85 (dk_at dksX4_least_0 2 rfl rfl)
theorem dX4_least_5 : decode cX4_least 5 = .ok (.aload_n 0, 1) := dk_42 (dk_at dksX4_least_0 5 rfl rfl)
theorem dX4_least_6 : decode cX4_least 6 = .ok (.iload_n 1, 1) := dk_27 (dk_at dksX4_least_0 6 rfl rfl)
theorem dX4_least_7 : decode cX4_least 7 = .ok (.invokevirtual 348, 3) := dk_182 1 92 (dk_at dksX4_least_0 7 rfl rfl)
theorem dX4_least_10 : decode cX4_least 10 = .ok (.ifCond .eq 11, 3) := dk_153 0 11 (dk_at dksX4_least_0 10 rfl rfl)
theorem dX4_least_13 : decode cX4_least 13 = .ok (.aload_n 0, 1) := dk_42 (dk_at dksX4_least_0 13 rfl rfl)
theorem dX4_least_14 : decode cX4_least 14 = .ok (.iload_n 1, 1) := dk_27 (dk_at dksX4_least_0 14 rfl rfl)
theorem dX4_least_15 : decode cX4_least 15 = .ok (.invokevirtual 363, 3) := dk_182 1 107 (dk_at dksX4_least_0 15 rfl rfl)
theorem dX4_least_18 : decode cX4_least 18 = .ok (.goto 8, 3) := dk_167 0 8 (dk_at dksX4_least_0 18 rfl rfl)
theorem dX4_least_21 : decode cX4_least 21 = .ok (.aload_n 0, 1) := dk_42 (dk_at dksX4_least_0 21 rfl rfl)
theorem dX4_least_22 : decode cX4_least 22 = .ok (.iconst 1, 1) := dk_4 (dk_at dksX4_least_0 22 rfl rfl)
theorem dX4_least_23 : decode cX4_least 23 = .ok (.invokevirtual 312, 3) := dk_182 1 56 (dk_at dksX4_least_1 0 rfl rfl)
theorem dX4_least_26 : decode cX4_least 26 = .ok (.ireturn, 1) := dk_172 (dk_at dksX4_least_1 3 rfl rfl)
theorem q2817 : (Jvm.Cond.code ({ cls := "DebateHallModel", name := "leastOf", desc := "(I)I" } : Jvm.MethodName) prog_25_method_64_code (2 : Nat) (Option.some Jvm.ClassFile.FieldType.int)) ∈ lw_all := lw_g (lw_at lw_m12 97 rfl) rfl
theorem zk_X4_leastOf : zz_cd yX4_leastOf cX4_leastOf 2 (some .int) none ∈ lw_all := q2817
theorem zy_X4_leastOf : zz_yok yX4_leastOf 1 = true := by decide +kernel
theorem q2814 : (Jvm.Cond.methodLink "DebateHallModel" (363 : Nat) ({ cls := "DebateHallModel", name := "leastOf", desc := "(I)I" } : Jvm.MethodName)) ∈ lw_all := lw_g (lw_at lw_m12 94 rfl) rfl
theorem q2816 : (Jvm.Cond.instanceMethod ({ cls := "DebateHallModel", name := "leastOf", desc := "(I)I" } : Jvm.MethodName)) ∈ lw_all := lw_g (lw_at lw_m12 96 rfl) rfl
def wp_X4_least_B26 (Z : zzG) (K : Option Value → zzM → Prop) (s0 : Int32) (M : zzM) : Prop := K (some (.int s0)) M
def wp_X4_least (Z : zzG) (this : Option Nat) (p0 : Int32) (M : zzM) (K : Option Value → zzM → Prop) : Prop := zput Z M this [16] 0 (.int (0 : Int32)) fun M1 => zty Z M1 this fun t => t = 16 ∧ wp_X4_isItem Z this p0 M1 (fun r2 M3 => zrI r2 fun x6 => if x6 = 0 then (zty Z M3 this fun t => t = 16 ∧ wp_X4_no Z this (1 : Int32) M3 (fun r7 M8 => zrI r7 fun x11 => wp_X4_least_B26 Z K x11 M8)) else (zty Z M3 this fun t => t = 16 ∧ wp_X4_leastOf Z this p0 M3 (fun r12 M13 => zrI r12 fun x16 => wp_X4_least_B26 Z K x16 M13)))
theorem ok_X4_least_B26 {G : zzX} (C : zz_C G cX4_least "DebateHallModel" 2) {K : Option Value → zzM → Prop} (E : zz_E G (some .int) K (fun _ _ _ => False)) (hH : zz_H G []) (hR : zz_Rm G 3) {s0 : Int32} {M : zzM} {bc bs : Nat} (hw : wp_X4_least_B26 (zz_Zof G) K s0 M) : zz_T G 2 M bc bs 26 [] [.int s0] := by
  unfold wp_X4_least_B26 at hw
  exact zz_iret C E dX4_least_26 hw
theorem ok_X4_least {Z : zzG} {l : Launch} (hl : l.stackTraces = false) {this : Option Nat} {p0 : Int32} {M : zzM} {mc ms : Nat} {K : Option Value → zzM → Prop} (hw : wp_X4_least Z this p0 M K) : zz_Met Z l yX4_least (zz_ws yX4_least cX4_least 2 (some .int) none) 3 [va_rf this, .int p0] M mc ms K (fun _ _ _ => False) := by
  refine zz_ofW hl (plainFor_of_name (by decide)) (by simp only [zz_sl0, zz_slI, zz_slJ, zz_slA] <;> decide) (fun G hZ hll C E hH hR hin => ?_)
  subst hZ
  subst hll
  rw [show lv_args 0 [va_rf this, .int p0] = [(0, va_rf this), (1, .int p0)] by simp only [zz_la0, zz_laI, zz_laJ, zz_laA]]
  unfold wp_X4_least at hw
  refine zz_aload_n C dX4_least_0 rfl 0 rfl ?_
  refine zz_iconst (v := (0 : Int32)) C dX4_least_1 (by decide) ?_
  refine zz_put C dX4_least_2 (Or.inl q2436) zf_16_0_ebateHallModel zp_16_0 (zz_hn1 ⟨rfl, rfl⟩) hw (fun M1 hw => ?_)
  refine zz_aload_n C dX4_least_5 rfl 0 rfl ?_
  refine zz_iload_n C dX4_least_6 rfl 1 rfl ?_
  obtain ⟨a9, t9, b9, fs9, hro, hL, rfl, hw⟩ := ztyS hw
  refine zz_callV (r := (zR_16, zT_16, 24)) (As := [.int p0]) (rest := []) (mc := 0) (ms := 0) C hR hro dX4_least_7 (Or.inl q2758) q2760 (Or.inl qs69) zl_DebateHallModel zk_X4_isItem (Or.inl rfl) zy_X4_isItem rfl (by decide) (by decide) hL (ok_X4_isItem (zz_hl C) hw) (Nat.zero_le _) (Nat.zero_le _) (zz_cat10 _ (Nat.le_of_ble_eq_true rfl)) (fun r2 M3 hw => zz_kI hw (fun x6 hw => ?_)) (fun _ _ _ h9 => h9.elim) rfl
  refine zz_if_eq (tgt := 21) C dX4_least_10 (by decide) hw (fun hw => ?_) (fun hw => ?_)
  · refine zz_aload_n C dX4_least_21 rfl 0 rfl ?_
    refine zz_iconst (v := (1 : Int32)) C dX4_least_22 (by decide) ?_
    obtain ⟨a9, t9, b9, fs9, hro, hL, rfl, hw⟩ := ztyS hw
    refine zz_callV (r := (zR_16, zT_16, 24)) (As := [.int (1 : Int32)]) (rest := []) (mc := 0) (ms := 0) C hR hro dX4_least_23 (Or.inl q2517) q2519 (Or.inl qs32) zl_DebateHallModel zk_X4_no (Or.inl rfl) zy_X4_no rfl (by decide) (by decide) hL (ok_X4_no (zz_hl C) hw) (Nat.zero_le _) (Nat.zero_le _) (zz_cat10 _ (Nat.le_of_ble_eq_true rfl)) (fun r7 M8 hw => zz_kI hw (fun x11 hw => ?_)) (fun _ _ _ h9 => h9.elim) rfl
    refine zz_subP [] rfl ?_
    exact ok_X4_least_B26 C E hH hR hw
  · refine zz_aload_n C dX4_least_13 rfl 0 rfl ?_
    refine zz_iload_n C dX4_least_14 rfl 1 rfl ?_
    obtain ⟨a9, t9, b9, fs9, hro, hL, rfl, hw⟩ := ztyS hw
    refine zz_callV (r := (zR_16, zT_16, 24)) (As := [.int p0]) (rest := []) (mc := 0) (ms := 0) C hR hro dX4_least_15 (Or.inl q2814) q2816 (Or.inl qs75) zl_DebateHallModel zk_X4_leastOf (Or.inl rfl) zy_X4_leastOf rfl (by decide) (by decide) hL (ok_X4_leastOf (zz_hl C) hw) (Nat.zero_le _) (Nat.zero_le _) (zz_cat10 _ (Nat.le_of_ble_eq_true rfl)) (fun r12 M13 hw => zz_kI hw (fun x16 hw => ?_)) (fun _ _ _ h9 => h9.elim) rfl
    refine zz_goto (tgt := 26) C dX4_least_18 (by decide) ?_
    refine zz_subP [] rfl ?_
    exact ok_X4_least_B26 C E hH hR hw
abbrev cX1_requireSpeaker : ByteArray := prog_1_method_6_code
def yX1_requireSpeaker : MethodName := ⟨"DebateHall", "requireSpeaker", "(I)V"⟩
def dkwX1_requireSpeaker_0 : List UInt8 := [27, 42, 180, 0, 36, 180, 0, 47, 182, 0, 51, 184, 0, 57, 177]
abbrev dktX1_requireSpeaker_0 : List UInt8 := dkwX1_requireSpeaker_0 ++ []
theorem dksX1_requireSpeaker_0 : cX1_requireSpeaker.data.toList.drop 0 = dktX1_requireSpeaker_0 := by decide +kernel
theorem dX1_requireSpeaker_0 : decode cX1_requireSpeaker 0 = .ok (.iload_n 1, 1) := dk_27 (dk_at dksX1_requireSpeaker_0 0 rfl rfl)
theorem dX1_requireSpeaker_1 : decode cX1_requireSpeaker 1 = .ok (.aload_n 0, 1) := dk_42 (dk_at dksX1_requireSpeaker_0 1 rfl rfl)
theorem dX1_requireSpeaker_2 : decode cX1_requireSpeaker 2 = .ok (.getfield 36, 3) := dk_180 0 36 (dk_at dksX1_requireSpeaker_0 2 rfl rfl)
theorem dX1_requireSpeaker_5 : decode cX1_requireSpeaker 5 = .ok (.getfield 47, 3) := dk_180 0 47 (dk_at dksX1_requireSpeaker_0 5 rfl rfl)
theorem dX1_requireSpeaker_8 : decode cX1_requireSpeaker 8 = .ok (.invokevirtual 51, 3) := dk_182 0 51 (dk_at dksX1_requireSpeaker_0 8 rfl rfl)
theorem dX1_requireSpeaker_11 : decode cX1_requireSpeaker 11 = .ok (.invokestatic 57, 3) := dk_184 0 57 (dk_at dksX1_requireSpeaker_0 11 rfl rfl)
theorem dX1_requireSpeaker_14 : decode cX1_requireSpeaker 14 = .ok (.return_, 1) := dk_177 (dk_at dksX1_requireSpeaker_0 14 rfl rfl)
def wp_X1_requireSpeaker (Z : zzG) (this : Option Nat) (p0 : Int32) (M : zzM) (bc bs : Nat) (K : Option Value → zzM → Prop) (X : Nat → Nat → zzM → Prop) : Prop := zgA Z M this [0] 2 fun x1 => zgA Z M x1 [2] 0 fun x2 => zty Z M x2 fun t => t = 18 ∧ wp_J2_size Z x2 M (fun r3 M4 => zrI r3 fun x7 => zcx bc bs (fun c s k x => wp_X1_requireIndex Z p0 x7 M4 c s k x) (fun r8 M9 bc10 bs11 => zrV r8 (K none M9)) (fun t q M _ _ => X t q M))
theorem ok_X1_requireSpeaker {Z : zzG} {l : Launch} (hl : l.stackTraces = false) {this : Option Nat} {p0 : Int32} {M : zzM} {mc ms : Nat} {K : Option Value → zzM → Prop} {X : Nat → Nat → zzM → Prop} (hw : wp_X1_requireSpeaker Z this p0 M mc ms K X) : zz_Met Z l yX1_requireSpeaker (zz_ws yX1_requireSpeaker cX1_requireSpeaker 2 none none) 7 [va_rf this, .int p0] M mc ms K X := by
  refine zz_ofW hl (plainFor_of_name (by decide)) (by simp only [zz_sl0, zz_slI, zz_slJ, zz_slA] <;> decide) (fun G hZ hll C E hH hR hin => ?_)
  subst hZ
  subst hll
  rw [show lv_args 0 [va_rf this, .int p0] = [(0, va_rf this), (1, .int p0)] by simp only [zz_la0, zz_laI, zz_laJ, zz_laA]]
  unfold wp_X1_requireSpeaker at hw
  refine zz_iload_n C dX1_requireSpeaker_0 rfl 1 rfl ?_
  refine zz_aload_n C dX1_requireSpeaker_1 rfl 0 rfl ?_
  refine zz_getA C dX1_requireSpeaker_2 (Or.inl q305) zf_0_2_DebateHall hw (fun x1 hw => ?_)
  refine zz_getA C dX1_requireSpeaker_5 (Or.inr ⟨_, q233⟩) zf_2_0_teHall_Minutes hw (fun x2 hw => ?_)
  obtain ⟨a9, t9, b9, fs9, hro, hL, rfl, hw⟩ := ztyS hw
  refine zz_callV (r := (zR_18, zT_18, 3)) (As := []) (rest := [.int p0]) (mc := 0) (ms := 0) C hR hro dX1_requireSpeaker_8 (Or.inl q2017) q354 (Or.inl q355) zl_java_util_ArrayList zk_J2_size (Or.inl rfl) zy_J2_size rfl (by decide) (by decide) hL (ok_J2_size (zz_hl C) hw) (Nat.zero_le _) (Nat.zero_le _) (zz_cat10 _ (Nat.le_of_ble_eq_true rfl)) (fun r3 M4 hw => zz_kI hw (fun x7 hw => ?_)) (fun _ _ _ h9 => h9.elim) rfl
  obtain ⟨c9, s9, hc9, hs9, hw⟩ := hw
  refine zz_callS (As := [.int p0, .int x7]) (rest := []) C hR dX1_requireSpeaker_11 (Or.inl q2132) q2133 zl_DebateHall zk_X1_requireIndex (Or.inl rfl) zy_X1_requireIndex (by decide) (by decide) (ok_X1_requireIndex (zz_hl C) hw) hc9 hs9 (zz_cat10 _ (Nat.le_of_ble_eq_true rfl)) (fun r8 M9 hw => zz_kV hw (fun hw => ?_)) (fun t9 q12 M13 hx => ?_) rfl
  · exact zz_vret C E dX1_requireSpeaker_14 hw
  · exact zz_out C E hH rfl hx
abbrev cX1_require : ByteArray := prog_1_method_1_code
def yX1_require : MethodName := ⟨"DebateHall", "require", "(Z)V"⟩
def dkwX1_require_0 : List UInt8 := [26, 154, 0, 11, 187, 0, 1, 89, 183, 0, 3, 191, 177]
abbrev dktX1_require_0 : List UInt8 := dkwX1_require_0 ++ []
theorem dksX1_require_0 : cX1_require.data.toList.drop 0 = dktX1_require_0 := by decide +kernel
theorem dX1_require_0 : decode cX1_require 0 = .ok (.iload_n 0, 1) := dk_26 (dk_at dksX1_require_0 0 rfl rfl)
theorem dX1_require_1 : decode cX1_require 1 = .ok (.ifCond .ne 11, 3) := dk_154 0 11 (dk_at dksX1_require_0 1 rfl rfl)
theorem dX1_require_4 : decode cX1_require 4 = .ok (.new 1, 3) := dk_187 0 1 (dk_at dksX1_require_0 4 rfl rfl)
theorem dX1_require_7 : decode cX1_require 7 = .ok (.dup, 1) := dk_89 (dk_at dksX1_require_0 7 rfl rfl)
theorem dX1_require_8 : decode cX1_require 8 = .ok (.invokespecial 3, 3) := dk_183 0 3 (dk_at dksX1_require_0 8 rfl rfl)
theorem dX1_require_11 : decode cX1_require 11 = .ok (.athrow, 1) := dk_191 (dk_at dksX1_require_0 11 rfl rfl)
theorem dX1_require_12 : decode cX1_require 12 = .ok (.return_, 1) := dk_177 (dk_at dksX1_require_0 12 rfl rfl)
theorem q2261 : (Jvm.Cond.methodLink "java/lang/IllegalArgumentException" (1 : Nat) ({ cls := "java/lang/RuntimeException", name := "<init>", desc := "()V" } : Jvm.MethodName)) ∈ lw_all := lw_g (lw_at lw_m10 21 rfl) rfl
theorem q2260 : (Jvm.Cond.code ({ cls := "java/lang/IllegalArgumentException", name := "<init>", desc := "()V" } : Jvm.MethodName) prog_37_method_1_code (1 : Nat) (Option.none : Option Jvm.ClassFile.FieldType)) ∈ lw_all := lw_g (lw_at lw_m10 20 rfl) rfl
theorem q2259 : (Jvm.Cond.instanceMethod ({ cls := "java/lang/IllegalArgumentException", name := "<init>", desc := "()V" } : Jvm.MethodName)) ∈ lw_all := lw_g (lw_at lw_m10 19 rfl) rfl
theorem zx_ch_java_lang_IllegalArgumentException : ∀ x ∈ Bundle.chain0Atoms "java/lang/IllegalArgumentException" ["java/lang/RuntimeException", "java/lang/Exception"], vx_no x = true → zz_hw x := (zz_hwA (zz_hwN (fun _ => Or.inl q2259) (zz_hwN (fun _ => Or.inl q2260) (zz_hwN (fun _ => Or.inl q2261) (zz_hwN (fun _ => Or.inl q2148) (zz_hwN (fun _ => Or.inr ⟨q534, rfl, rfl⟩) zz_hw0))))) (zz_hwA (zz_hwN (fun _ => Or.inl q2148) (zz_hwN (fun _ => Or.inl q2149) (zz_hwN (fun _ => Or.inl q2150) (zz_hwN (fun _ => Or.inl q928) (zz_hwN (fun _ => Or.inr ⟨q536, rfl, rfl⟩) zz_hw0))))) (zz_hwN (fun _ => Or.inl q928) (zz_hwN (fun _ => Or.inl q929) (zz_hwN (fun _ => Or.inl q930) (zz_hwN (fun _ => Or.inl q554) (zz_hwN (fun _ => Or.inr ⟨q538, rfl, rfl⟩) zz_hw0)))))))
theorem q550 : (Jvm.Cond.lays "java/lang/IllegalArgumentException" "java/lang/Throwable" "backtrace" "Ljava/lang/Object;") ∈ lw_all := lw_g (lw_at lw_m2 230 rfl) rfl
theorem q548 : (Jvm.Cond.lays "java/lang/IllegalArgumentException" "java/lang/Throwable" "detailMessage" "Ljava/lang/String;") ∈ lw_all := lw_g (lw_at lw_m2 228 rfl) rfl
theorem q546 : (Jvm.Cond.lays "java/lang/IllegalArgumentException" "java/lang/Throwable" "suppressedExceptions" "Ljava/util/List;") ∈ lw_all := lw_g (lw_at lw_m2 226 rfl) rfl
theorem q544 : (Jvm.Cond.lays "java/lang/IllegalArgumentException" "java/lang/Throwable" "stackTrace" "[Ljava/lang/StackTraceElement;") ∈ lw_all := lw_g (lw_at lw_m2 224 rfl) rfl
theorem q542 : (Jvm.Cond.lays "java/lang/IllegalArgumentException" "java/lang/Throwable" "cause" "Ljava/lang/Throwable;") ∈ lw_all := lw_g (lw_at lw_m2 222 rfl) rfl
theorem q541 : (Jvm.Cond.selects "java/lang/IllegalArgumentException" ({ cls := "java/lang/Throwable", name := "fillInStackTrace", desc := "()Ljava/lang/Throwable;" } : Jvm.MethodName) ({ cls := "java/lang/Throwable", name := "fillInStackTrace", desc := "()Ljava/lang/Throwable;" } : Jvm.MethodName)) ∈ lw_all := lw_g (lw_at lw_m2 221 rfl) rfl
theorem q540 : (Jvm.Cond.selects "java/lang/IllegalArgumentException" ({ cls := "java/lang/Throwable", name := "fillInStackTrace", desc := "(I)Ljava/lang/Throwable;" } : Jvm.MethodName) ({ cls := "java/lang/Throwable", name := "fillInStackTrace", desc := "(I)Ljava/lang/Throwable;" } : Jvm.MethodName)) ∈ lw_all := lw_g (lw_at lw_m2 220 rfl) rfl
theorem q533 : (Jvm.Cond.castable "java/lang/IllegalArgumentException" "java/lang/IllegalArgumentException") ∈ lw_tbl := lw_at lw_m2 213 rfl
theorem q2258 : (Jvm.Cond.methodLink "DebateHall" (3 : Nat) ({ cls := "java/lang/IllegalArgumentException", name := "<init>", desc := "()V" } : Jvm.MethodName)) ∈ lw_all := lw_g (lw_at lw_m10 18 rfl) rfl
theorem zx_at_27_DebateHall : ∀ w ∈ vx_at0 "DebateHall" 3 "java/lang/IllegalArgumentException" ["java/lang/RuntimeException", "java/lang/Exception"], zz_hw w := zz_hwE (zz_hwA (zz_hwA zx_thr zx_ch_java_lang_IllegalArgumentException) (zz_hwN (fun _ => Or.inl q2258) (zz_hwN (fun _ => Or.inl q532) (zz_hwN (fun _ => Or.inr ⟨q533, rfl, rfl⟩) (zz_hwN (fun _ => Or.inl q540) (zz_hwN (fun _ => Or.inl q541) (zz_hwN (fun _ => Or.inl q542) (zz_hwN (fun _ => Or.inl q544) (zz_hwN (fun _ => Or.inl q546) (zz_hwN (fun _ => Or.inl q548) (zz_hwN (fun h => absurd h (by decide)) (zz_hwN (fun h => absurd h (by decide)) (zz_hwN (fun _ => Or.inl q552) (zz_hwN (fun _ => Or.inl q551) (zz_hwN (fun _ => Or.inl q550) zz_hw0)))))))))))))))
theorem q2257 : (Jvm.Cond.classLink "DebateHall" (1 : Nat) "java/lang/IllegalArgumentException") ∈ lw_all := lw_g (lw_at lw_m10 17 rfl) rfl
theorem q99 : (Jvm.Cond.initialized "java/lang/IllegalArgumentException") ∈ lw_all := lw_g (lw_at lw_m1 19 rfl) rfl
theorem zl_java_lang_IllegalArgumentException : Cond.initialized "java/lang/IllegalArgumentException" ∈ lw_all := q99
def wp_X1_require (Z : zzG) (p0 : Int32) (M : zzM) (bc bs : Nat) (K : Option Value → zzM → Prop) (X : Nat → Nat → zzM → Prop) : Prop := if p0 = 0 then (znew Z M bc bs 27 6 [] fun q1 M2 bc3 bs4 => X 27 q1 M2) else (K none M)
theorem ok_X1_require {Z : zzG} {l : Launch} (hl : l.stackTraces = false) {p0 : Int32} {M : zzM} {mc ms : Nat} {K : Option Value → zzM → Prop} {X : Nat → Nat → zzM → Prop} (hw : wp_X1_require Z p0 M mc ms K X) : zz_Met Z l yX1_require (zz_ws yX1_require cX1_require 1 none none) 6 [.int p0] M mc ms K X := by
  refine zz_ofW hl (plainFor_of_name (by decide)) (by simp only [zz_sl0, zz_slI, zz_slJ, zz_slA] <;> decide) (fun G hZ hll C E hH hR hin => ?_)
  subst hZ
  subst hll
  rw [show lv_args 0 [.int p0] = [(0, .int p0)] by simp only [zz_la0, zz_laI, zz_laJ, zz_laA]]
  unfold wp_X1_require at hw
  refine zz_iload_n C dX1_require_0 rfl 0 rfl ?_
  refine zz_if_ne (tgt := 12) C dX1_require_1 (by decide) hw (fun hw => ?_) (fun hw => ?_)
  · exact zz_vret C E dX1_require_12 hw
  · refine zz_throwX (names := ["java/lang/RuntimeException", "java/lang/Exception"]) (r := (zR_27, zT_27, 0)) C hR (by decide) rfl (by decide) rfl (by decide) (by decide) (by decide) dX1_require_4 dX1_require_7 dX1_require_8 dX1_require_11 q2257 zl_java_lang_IllegalArgumentException zx_at_27_DebateHall (zz_cat10 _ (Nat.le_of_ble_eq_true rfl)) hw (fun q1 M2 bc3 bs4 hw => ?_)
    exact zz_out C E hH rfl hw
abbrev cX1_requireFrom : ByteArray := prog_1_method_4_code
def yX1_requireFrom : MethodName := ⟨"DebateHall", "requireFrom", "(III)V"⟩
def dkwX1_requireFrom_0 : List UInt8 := [28, 26, 161, 0, 12, 28, 27, 163, 0, 7, 4, 167, 0, 4, 3, 184, 0, 13, 177]
abbrev dktX1_requireFrom_0 : List UInt8 := dkwX1_requireFrom_0 ++ []
theorem dksX1_requireFrom_0 : cX1_requireFrom.data.toList.drop 0 = dktX1_requireFrom_0 := by decide +kernel
theorem dX1_requireFrom_0 : decode cX1_requireFrom 0 = .ok (.iload_n 2, 1) := dk_28 (dk_at dksX1_requireFrom_0 0 rfl rfl)
theorem dX1_requireFrom_1 : decode cX1_requireFrom 1 = .ok (.iload_n 0, 1) := dk_26 (dk_at dksX1_requireFrom_0 1 rfl rfl)
theorem dX1_requireFrom_2 : decode cX1_requireFrom 2 = .ok (.if_icmp .lt 12, 3) := dk_161 0 12 (dk_at dksX1_requireFrom_0 2 rfl rfl)
theorem dX1_requireFrom_5 : decode cX1_requireFrom 5 = .ok (.iload_n 2, 1) := dk_28 (dk_at dksX1_requireFrom_0 5 rfl rfl)
theorem dX1_requireFrom_6 : decode cX1_requireFrom 6 = .ok (.iload_n 1, 1) := dk_27 (dk_at dksX1_requireFrom_0 6 rfl rfl)
theorem dX1_requireFrom_7 : decode cX1_requireFrom 7 = .ok (.if_icmp .gt 7, 3) := dk_163 0 7 (dk_at dksX1_requireFrom_0 7 rfl rfl)
theorem dX1_requireFrom_10 : decode cX1_requireFrom 10 = .ok (.iconst 1, 1) := dk_4 (dk_at dksX1_requireFrom_0 10 rfl rfl)
theorem dX1_requireFrom_11 : decode cX1_requireFrom 11 = .ok (.goto 4, 3) := dk_167 0 4 (dk_at dksX1_requireFrom_0 11 rfl rfl)
theorem dX1_requireFrom_14 : decode cX1_requireFrom 14 = .ok (.iconst 0, 1) := dk_3 (dk_at dksX1_requireFrom_0 14 rfl rfl)
theorem dX1_requireFrom_15 : decode cX1_requireFrom 15 = .ok (.invokestatic 13, 3) := dk_184 0 13 (dk_at dksX1_requireFrom_0 15 rfl rfl)
theorem dX1_requireFrom_18 : decode cX1_requireFrom 18 = .ok (.return_, 1) := dk_177 (dk_at dksX1_requireFrom_0 18 rfl rfl)
theorem q2256 : (Jvm.Cond.code ({ cls := "DebateHall", name := "require", desc := "(Z)V" } : Jvm.MethodName) prog_1_method_1_code (1 : Nat) (Option.none : Option Jvm.ClassFile.FieldType)) ∈ lw_all := lw_g (lw_at lw_m10 16 rfl) rfl
theorem zk_X1_require : zz_cd yX1_require cX1_require 1 none none ∈ lw_all := q2256
theorem zy_X1_require : zz_yok yX1_require 1 = true := by decide +kernel
theorem q2254 : (Jvm.Cond.methodLink "DebateHall" (13 : Nat) ({ cls := "DebateHall", name := "require", desc := "(Z)V" } : Jvm.MethodName)) ∈ lw_all := lw_g (lw_at lw_m10 14 rfl) rfl
theorem q2255 : (Jvm.Cond.static ({ cls := "DebateHall", name := "require", desc := "(Z)V" } : Jvm.MethodName)) ∈ lw_all := lw_g (lw_at lw_m10 15 rfl) rfl
def wp_X1_requireFrom_B15 (Z : zzG) (K : Option Value → zzM → Prop) (X : Nat → Nat → zzM → Prop) (s0 : Int32) (M : zzM) (bc bs : Nat) : Prop := zcx bc bs (fun c s k x => wp_X1_require Z s0 M c s k x) (fun r1 M2 bc3 bs4 => zrV r1 (K none M2)) (fun t q M _ _ => X t q M)
def wp_X1_requireFrom_B14 (Z : zzG) (K : Option Value → zzM → Prop) (X : Nat → Nat → zzM → Prop) (M : zzM) (bc bs : Nat) : Prop := wp_X1_requireFrom_B15 Z K X (0 : Int32) M bc bs
def wp_X1_requireFrom (Z : zzG) (p0 : Int32) (p1 : Int32) (p2 : Int32) (M : zzM) (bc bs : Nat) (K : Option Value → zzM → Prop) (X : Nat → Nat → zzM → Prop) : Prop := if p2 < p0 then (wp_X1_requireFrom_B14 Z K X M bc bs) else (if p1 < p2 then (wp_X1_requireFrom_B14 Z K X M bc bs) else (wp_X1_requireFrom_B15 Z K X (1 : Int32) M bc bs))
theorem ok_X1_requireFrom_B15 {G : zzX} (C : zz_C G cX1_requireFrom "DebateHall" 3) {K : Option Value → zzM → Prop} {X : Nat → Nat → zzM → Prop} (E : zz_E G none K X) (hH : zz_H G []) (hR : zz_Rm G 7) {s0 : Int32} {M : zzM} {bc bs : Nat} (hw : wp_X1_requireFrom_B15 (zz_Zof G) K X s0 M bc bs) : zz_T G 3 M bc bs 15 [] [.int s0] := by
  unfold wp_X1_requireFrom_B15 at hw
  obtain ⟨c9, s9, hc9, hs9, hw⟩ := hw
  refine zz_callS (As := [.int s0]) (rest := []) C hR dX1_requireFrom_15 (Or.inl q2254) q2255 zl_DebateHall zk_X1_require (Or.inl rfl) zy_X1_require (by decide) (by decide) (ok_X1_require (zz_hl C) hw) hc9 hs9 (zz_cat10 _ (Nat.le_of_ble_eq_true rfl)) (fun r1 M2 hw => zz_kV hw (fun hw => ?_)) (fun t9 q5 M6 hx => ?_) rfl
  · exact zz_vret C E dX1_requireFrom_18 hw
  · exact zz_out C E hH rfl hx
theorem ok_X1_requireFrom_B14 {G : zzX} (C : zz_C G cX1_requireFrom "DebateHall" 3) {K : Option Value → zzM → Prop} {X : Nat → Nat → zzM → Prop} (E : zz_E G none K X) (hH : zz_H G []) (hR : zz_Rm G 7) {M : zzM} {bc bs : Nat} (hw : wp_X1_requireFrom_B14 (zz_Zof G) K X M bc bs) : zz_T G 3 M bc bs 14 [] [] := by
  unfold wp_X1_requireFrom_B14 at hw
  refine zz_iconst (v := (0 : Int32)) C dX1_requireFrom_14 (by decide) ?_
  refine zz_subP [] rfl ?_
  exact ok_X1_requireFrom_B15 C E hH hR hw
theorem ok_X1_requireFrom {Z : zzG} {l : Launch} (hl : l.stackTraces = false) {p0 : Int32} {p1 : Int32} {p2 : Int32} {M : zzM} {mc ms : Nat} {K : Option Value → zzM → Prop} {X : Nat → Nat → zzM → Prop} (hw : wp_X1_requireFrom Z p0 p1 p2 M mc ms K X) : zz_Met Z l yX1_requireFrom (zz_ws yX1_requireFrom cX1_requireFrom 3 none none) 7 [.int p0, .int p1, .int p2] M mc ms K X := by
  refine zz_ofW hl (plainFor_of_name (by decide)) (by simp only [zz_sl0, zz_slI, zz_slJ, zz_slA] <;> decide) (fun G hZ hll C E hH hR hin => ?_)
  subst hZ
  subst hll
  rw [show lv_args 0 [.int p0, .int p1, .int p2] = [(0, .int p0), (1, .int p1), (2, .int p2)] by simp only [zz_la0, zz_laI, zz_laJ, zz_laA]]
  unfold wp_X1_requireFrom at hw
  refine zz_iload_n C dX1_requireFrom_0 rfl 2 rfl ?_
  refine zz_iload_n C dX1_requireFrom_1 rfl 0 rfl ?_
  refine zz_icmp_lt (tgt := 14) C dX1_requireFrom_2 (by decide) hw (fun hw => ?_) (fun hw => ?_)
  · refine zz_subP [] rfl ?_
    exact ok_X1_requireFrom_B14 C E hH hR hw
  · refine zz_iload_n C dX1_requireFrom_5 rfl 2 rfl ?_
    refine zz_iload_n C dX1_requireFrom_6 rfl 1 rfl ?_
    refine zz_icmp_gt (tgt := 14) C dX1_requireFrom_7 (by decide) hw (fun hw => ?_) (fun hw => ?_)
    · refine zz_subP [] rfl ?_
      exact ok_X1_requireFrom_B14 C E hH hR hw
    · refine zz_iconst (v := (1 : Int32)) C dX1_requireFrom_10 (by decide) ?_
      refine zz_goto (tgt := 15) C dX1_requireFrom_11 (by decide) ?_
      refine zz_subP [] rfl ?_
      exact ok_X1_requireFrom_B15 C E hH hR hw
abbrev cX1_advise : ByteArray := prog_1_method_28_code
def yX1_advise : MethodName := ⟨"DebateHall", "advise", "(II)I"⟩
def dkwX1_advise_5 : List UInt8 := [167, 255, 175, 42, 180, 0, 36, 1, 182, 0, 126, 87, 29, 172]
abbrev dktX1_advise_5 : List UInt8 := dkwX1_advise_5 ++ []
def dkwX1_advise_4 : List UInt8 := [54, 7, 21, 7, 21, 4, 163, 0, 6, 167, 255, 188, 25, 6, 180, 0, 215, 62, 21, 7, 54, 4]
abbrev dktX1_advise_4 : List UInt8 := dkwX1_advise_4 ++ dktX1_advise_5
def dkwX1_advise_3 : List UInt8 := [25, 6, 182, 0, 252, 154, 0, 6, 167, 255, 213, 42, 180, 0, 36, 25, 6, 182, 0, 126, 27, 182, 0, 186]
abbrev dktX1_advise_3 : List UInt8 := dkwX1_advise_3 ++ dktX1_advise_4
def dkwX1_advise_2 : List UInt8 := [185, 0, 116, 1, 0, 192, 0, 68, 58, 6, 25, 6, 180, 0, 143, 27, 159, 255, 228, 178, 0, 159, 28]
abbrev dktX1_advise_2 : List UInt8 := dkwX1_advise_2 ++ dktX1_advise_3
def dkwX1_advise_1 : List UInt8 := [42, 180, 0, 36, 180, 0, 61, 182, 0, 138, 58, 5, 25, 5, 185, 0, 110, 1, 0, 153, 0, 77, 25, 5]
abbrev dktX1_advise_1 : List UInt8 := dkwX1_advise_1 ++ dktX1_advise_2
def dkwX1_advise_0 : List UInt8 := [42, 27, 182, 0, 189, 4, 16, 50, 28, 184, 0, 79, 2, 62, 42, 180, 0, 36, 27, 182, 0, 186, 54, 4]
abbrev dktX1_advise_0 : List UInt8 := dkwX1_advise_0 ++ dktX1_advise_1
theorem dksX1_advise_0 : cX1_advise.data.toList.drop 0 = dktX1_advise_0 := by decide +kernel
theorem dksX1_advise_1 : cX1_advise.data.toList.drop 24 = dktX1_advise_1 := dk_seg dksX1_advise_0 24 rfl rfl
theorem dksX1_advise_2 : cX1_advise.data.toList.drop 48 = dktX1_advise_2 := dk_seg dksX1_advise_1 24 rfl rfl
theorem dksX1_advise_3 : cX1_advise.data.toList.drop 71 = dktX1_advise_3 := dk_seg dksX1_advise_2 23 rfl rfl
theorem dksX1_advise_4 : cX1_advise.data.toList.drop 95 = dktX1_advise_4 := dk_seg dksX1_advise_3 24 rfl rfl
theorem dksX1_advise_5 : cX1_advise.data.toList.drop 117 = dktX1_advise_5 := dk_seg dksX1_advise_4 22 rfl rfl
theorem dX1_advise_0 : decode cX1_advise 0 = .ok (.aload_n 0, 1) := dk_42 (dk_at dksX1_advise_0 0 rfl rfl)
theorem dX1_advise_1 : decode cX1_advise 1 = .ok (.iload_n 1, 1) := dk_27 (dk_at dksX1_advise_0 1 rfl rfl)
theorem dX1_advise_2 : decode cX1_advise 2 = .ok (.invokevirtual 189, 3) := dk_182 0 189 (dk_at dksX1_advise_0 2 rfl rfl)
theorem dX1_advise_5 : decode cX1_advise 5 = .ok (.iconst 1, 1) := dk_4 (dk_at dksX1_advise_0 5 rfl rfl)
theorem dX1_advise_6 : decode cX1_advise 6 = .ok (.bipush 50, 2) := dk_16 50 (dk_at dksX1_advise_0 6 rfl rfl)
theorem dX1_advise_8 : decode cX1_advise 8 = .ok (.iload_n 2, 1) := dk_28 (dk_at dksX1_advise_0 8 rfl rfl)
theorem dX1_advise_9 : decode cX1_advise 9 = .ok (.invokestatic 79, 3) := dk_184 0 79 (dk_at dksX1_advise_0 9 rfl rfl)
theorem dX1_advise_12 : decode cX1_advise 12 = .ok (.iconst (-1), 1) := dk_2 (dk_at dksX1_advise_0 12 rfl rfl)
theorem dX1_advise_13 : decode cX1_advise 13 = .ok (.istore_n 3, 1) := dk_62 (dk_at dksX1_advise_0 13 rfl rfl)
theorem dX1_advise_14 : decode cX1_advise 14 = .ok (.aload_n 0, 1) := dk_42 (dk_at dksX1_advise_0 14 rfl rfl)
theorem dX1_advise_15 : decode cX1_advise 15 = .ok (.getfield 36, 3) := dk_180 0 36 (dk_at dksX1_advise_0 15 rfl rfl)
theorem dX1_advise_18 : decode cX1_advise 18 = .ok (.iload_n 1, 1) := dk_27 (dk_at dksX1_advise_0 18 rfl rfl)
theorem dX1_advise_19 : decode cX1_advise 19 = .ok (.invokevirtual 186, 3) := dk_182 0 186 (dk_at dksX1_advise_0 19 rfl rfl)
theorem dX1_advise_22 : decode cX1_advise 22 = .ok (.istore 4, 2) := dk_54 4 (dk_at dksX1_advise_0 22 rfl rfl)
theorem dX1_advise_24 : decode cX1_advise 24 = .ok (.aload_n 0, 1) := dk_42 (dk_at dksX1_advise_1 0 rfl rfl)
theorem dX1_advise_25 : decode cX1_advise 25 = .ok (.getfield 36, 3) := dk_180 0 36 (dk_at dksX1_advise_1 1 rfl rfl)
theorem dX1_advise_28 : decode cX1_advise 28 = .ok (.getfield 61, 3) := dk_180 0 61 (dk_at dksX1_advise_1 4 rfl rfl)
theorem dX1_advise_31 : decode cX1_advise 31 = .ok (.invokevirtual 138, 3) := dk_182 0 138 (dk_at dksX1_advise_1 7 rfl rfl)
theorem dX1_advise_34 : decode cX1_advise 34 = .ok (.astore 5, 2) := dk_58 5 (dk_at dksX1_advise_1 10 rfl rfl)
theorem dX1_advise_36 : decode cX1_advise 36 = .ok (.aload 5, 2) := dk_25 5 (dk_at dksX1_advise_1 12 rfl rfl)
theorem dX1_advise_38 : decode cX1_advise 38 = .ok (.invokeinterface 110 1, 5) := by decide +kernel
theorem dX1_advise_43 : decode cX1_advise 43 = .ok (.ifCond .eq 77, 3) := dk_153 0 77 (dk_at dksX1_advise_1 19 rfl rfl)
theorem dX1_advise_46 : decode cX1_advise 46 = .ok (.aload 5, 2) := dk_25 5 (dk_at dksX1_advise_1 22 rfl rfl)
theorem dX1_advise_48 : decode cX1_advise 48 = .ok (.invokeinterface 116 1, 5) := by decide +kernel
theorem dX1_advise_53 : decode cX1_advise 53 = .ok (.checkcast 68, 3) := dk_192 0 68 (dk_at dksX1_advise_2 5 rfl rfl)
theorem dX1_advise_56 : decode cX1_advise 56 = .ok (.astore 6, 2) := dk_58 6 (dk_at dksX1_advise_2 8 rfl rfl)
theorem dX1_advise_58 : decode cX1_advise 58 = .ok (.aload 6, 2) := dk_25 6 (dk_at dksX1_advise_2 10 rfl rfl)
theorem dX1_advise_60 : decode cX1_advise 60 = .ok (.getfield 143, 3) := dk_180 0 143 (dk_at dksX1_advise_2 12 rfl rfl)
theorem dX1_advise_63 : decode cX1_advise 63 = .ok (.iload_n 1, 1) := dk_27 (dk_at dksX1_advise_2 15 rfl rfl)
theorem dX1_advise_64 : decode cX1_advise 64 = .ok (.if_icmp .eq (-28), 3) := dk_159 255 228 (dk_at dksX1_advise_2 16 rfl rfl)
theorem dX1_advise_67 : decode cX1_advise 67 = .ok (.getstatic 159, 3) := dk_178 0 159 (dk_at dksX1_advise_2 19 rfl rfl)
theorem dX1_advise_70 : decode cX1_advise 70 = .ok (.iload_n 2, 1) := dk_28 (dk_at dksX1_advise_2 22 rfl rfl)
theorem dX1_advise_71 : decode cX1_advise 71 = .ok (.aload 6, 2) := dk_25 6 (dk_at dksX1_advise_3 0 rfl rfl)
theorem dX1_advise_73 : decode cX1_advise 73 = .ok (.invokevirtual 252, 3) := dk_182 0 252 (dk_at dksX1_advise_3 2 rfl rfl)
theorem dX1_advise_76 : decode cX1_advise 76 = .ok (.ifCond .ne 6, 3) := dk_154 0 6 (dk_at dksX1_advise_3 5 rfl rfl)
theorem dX1_advise_79 : decode cX1_advise 79 = .ok (.goto (-43), 3) := dk_167 255 213 (dk_at dksX1_advise_3 8 rfl rfl)
theorem dX1_advise_82 : decode cX1_advise 82 = .ok (.aload_n 0, 1) := dk_42 (dk_at dksX1_advise_3 11 rfl rfl)
theorem dX1_advise_83 : decode cX1_advise 83 = .ok (.getfield 36, 3) := dk_180 0 36 (dk_at dksX1_advise_3 12 rfl rfl)
theorem dX1_advise_86 : decode cX1_advise 86 = .ok (.aload 6, 2) := dk_25 6 (dk_at dksX1_advise_3 15 rfl rfl)
theorem dX1_advise_88 : decode cX1_advise 88 = .ok (.invokevirtual 126, 3) := dk_182 0 126 (dk_at dksX1_advise_3 17 rfl rfl)
theorem dX1_advise_91 : decode cX1_advise 91 = .ok (.iload_n 1, 1) := dk_27 (dk_at dksX1_advise_3 20 rfl rfl)
theorem dX1_advise_92 : decode cX1_advise 92 = .ok (.invokevirtual 186, 3) := dk_182 0 186 (dk_at dksX1_advise_3 21 rfl rfl)
theorem dX1_advise_95 : decode cX1_advise 95 = .ok (.istore 7, 2) := dk_54 7 (dk_at dksX1_advise_4 0 rfl rfl)
theorem dX1_advise_97 : decode cX1_advise 97 = .ok (.iload 7, 2) := dk_21 7 (dk_at dksX1_advise_4 2 rfl rfl)
theorem dX1_advise_99 : decode cX1_advise 99 = .ok (.iload 4, 2) := dk_21 4 (dk_at dksX1_advise_4 4 rfl rfl)
theorem dX1_advise_101 : decode cX1_advise 101 = .ok (.if_icmp .gt 6, 3) := dk_163 0 6 (dk_at dksX1_advise_4 6 rfl rfl)
theorem dX1_advise_104 : decode cX1_advise 104 = .ok (.goto (-68), 3) := dk_167 255 188 (dk_at dksX1_advise_4 9 rfl rfl)
theorem dX1_advise_107 : decode cX1_advise 107 = .ok (.aload 6, 2) := dk_25 6 (dk_at dksX1_advise_4 12 rfl rfl)
theorem dX1_advise_109 : decode cX1_advise 109 = .ok (.getfield 215, 3) := dk_180 0 215 (dk_at dksX1_advise_4 14 rfl rfl)
theorem dX1_advise_112 : decode cX1_advise 112 = .ok (.istore_n 3, 1) := dk_62 (dk_at dksX1_advise_4 17 rfl rfl)
theorem dX1_advise_113 : decode cX1_advise 113 = .ok (.iload 7, 2) := dk_21 7 (dk_at dksX1_advise_4 18 rfl rfl)
theorem dX1_advise_115 : decode cX1_advise 115 = .ok (.istore 4, 2) := dk_54 4 (dk_at dksX1_advise_4 20 rfl rfl)
theorem dX1_advise_117 : decode cX1_advise 117 = .ok (.goto (-81), 3) := dk_167 255 175 (dk_at dksX1_advise_5 0 rfl rfl)
theorem dX1_advise_120 : decode cX1_advise 120 = .ok (.aload_n 0, 1) := dk_42 (dk_at dksX1_advise_5 3 rfl rfl)
theorem dX1_advise_121 : decode cX1_advise 121 = .ok (.getfield 36, 3) := dk_180 0 36 (dk_at dksX1_advise_5 4 rfl rfl)
theorem dX1_advise_124 : decode cX1_advise 124 = .ok (.aconst_null, 1) := dk_1 (dk_at dksX1_advise_5 7 rfl rfl)
theorem dX1_advise_125 : decode cX1_advise 125 = .ok (.invokevirtual 126, 3) := dk_182 0 126 (dk_at dksX1_advise_5 8 rfl rfl)
theorem dX1_advise_128 : decode cX1_advise 128 = .ok (.pop, 1) := dk_87 (dk_at dksX1_advise_5 11 rfl rfl)
theorem dX1_advise_129 : decode cX1_advise 129 = .ok (.iload_n 3, 1) := dk_29 (dk_at dksX1_advise_5 12 rfl rfl)
theorem dX1_advise_130 : decode cX1_advise 130 = .ok (.ireturn, 1) := dk_172 (dk_at dksX1_advise_5 13 rfl rfl)
theorem q2279 : (Jvm.Cond.code ({ cls := "DebateHall", name := "requireSpeaker", desc := "(I)V" } : Jvm.MethodName) prog_1_method_6_code (2 : Nat) (Option.none : Option Jvm.ClassFile.FieldType)) ∈ lw_all := lw_g (lw_at lw_m10 39 rfl) rfl
theorem zk_X1_requireSpeaker : zz_cd yX1_requireSpeaker cX1_requireSpeaker 2 none none ∈ lw_all := q2279
theorem zy_X1_requireSpeaker : zz_yok yX1_requireSpeaker 1 = true := by decide +kernel
theorem q2253 : (Jvm.Cond.code ({ cls := "DebateHall", name := "requireFrom", desc := "(III)V" } : Jvm.MethodName) prog_1_method_4_code (3 : Nat) (Option.none : Option Jvm.ClassFile.FieldType)) ∈ lw_all := lw_g (lw_at lw_m10 13 rfl) rfl
theorem zk_X1_requireFrom : zz_cd yX1_requireFrom cX1_requireFrom 3 none none ∈ lw_all := q2253
theorem zy_X1_requireFrom : zz_yok yX1_requireFrom 3 = true := by decide +kernel
theorem q2251 : (Jvm.Cond.methodLink "DebateHall" (79 : Nat) ({ cls := "DebateHall", name := "requireFrom", desc := "(III)V" } : Jvm.MethodName)) ∈ lw_all := lw_g (lw_at lw_m10 11 rfl) rfl
theorem q2252 : (Jvm.Cond.static ({ cls := "DebateHall", name := "requireFrom", desc := "(III)V" } : Jvm.MethodName)) ∈ lw_all := lw_g (lw_at lw_m10 12 rfl) rfl
theorem q2276 : (Jvm.Cond.methodLink "DebateHall" (189 : Nat) ({ cls := "DebateHall", name := "requireSpeaker", desc := "(I)V" } : Jvm.MethodName)) ∈ lw_all := lw_g (lw_at lw_m10 36 rfl) rfl
theorem q2278 : (Jvm.Cond.instanceMethod ({ cls := "DebateHall", name := "requireSpeaker", desc := "(I)V" } : Jvm.MethodName)) ∈ lw_all := lw_g (lw_at lw_m10 38 rfl) rfl
def wp_X1_advise_B76 (Z : zzG) (k36 : Option Nat → Int32 → Int32 → Int32 → Int32 → Option Nat → zzM → Nat → Nat → Prop) (K : Option Value → zzM → Prop) (X : Nat → Nat → zzM → Prop) (v0 : Option Nat) (v1 : Int32) (v2 : Int32) (v3 : Int32) (v4 : Int32) (v5 : Option Nat) (v6 : Option Nat) (s0 : Int32) (M : zzM) (bc bs : Nat) : Prop := if s0 = 0 then (k36 v0 v1 v2 v3 v4 v5 M bc bs) else (zgA Z M v0 [0] 2 fun x62 => zty Z M x62 fun t => t = 2 ∧ wp_X3_settle Z x62 v6 M (fun r63 M64 => zrA r63 fun x67 => zty Z M64 x67 fun t => t = 2 ∧ wp_X3_lead Z x67 v1 M64 (fun r68 M69 => zrI r68 fun x72 => if v4 < x72 then (zgI Z M69 v6 [15] 0 fun x73 => k36 v0 v1 v2 x73 x72 v5 M69 bc bs) else (k36 v0 v1 v2 v3 v4 v5 M69 bc bs))))
def wp_X1_advise_L36 (Z : zzG) (K : Option Value → zzM → Prop) (X : Nat → Nat → zzM → Prop) : Nat → Option Nat → Int32 → Int32 → Int32 → Int32 → Option Nat → zzM → Nat → Nat → Prop
  | 0, _, _, _, _, _, _, _, _, _ => False
  | n + 1, v0, v1, v2, v3, v4, v5, M, bc, bs => zty Z M v5 fun t => t = 23 ∧ wp_J24_hasNext Z v5 M (fun r30 M31 => zrI r30 fun x34 => if x34 = 0 then (zgA Z M31 v0 [0] 2 fun x35 => zty Z M31 x35 fun t => t = 2 ∧ wp_X3_settle Z x35 none M31 (fun r36 M37 => zrA r36 fun x40 => K (some (.int v3)) M37)) else (zty Z M31 v5 fun t => t = 23 ∧ wp_J24_next Z v5 M31 (fun r41 M42 => zrA r41 fun x45 => zcast Z M42 x45 [15] <| zgI Z M42 x45 [15] 3 fun x46 => if x46 = v1 then (wp_X1_advise_L36 Z K X n v0 v1 v2 v3 v4 v5 M42 bc bs) else (zty Z M42 (some (zz_ad Z 9)) fun t => if t = 31 then (wp_X21_isStrong Z (some (zz_ad Z 9)) v2 x45 M42 (fun r47 M48 => zrI r47 fun x51 => wp_X1_advise_B76 Z (wp_X1_advise_L36 Z K X n) K X v0 v1 v2 v3 v4 v5 x45 x51 M48 bc bs)) else if t = 30 then (wp_X22_isStrong Z (some (zz_ad Z 9)) v2 x45 M42 (fun r52 M53 => zrI r52 fun x56 => wp_X1_advise_B76 Z (wp_X1_advise_L36 Z K X n) K X v0 v1 v2 v3 v4 v5 x45 x56 M53 bc bs)) else if t = 32 then (wp_X23_isStrong Z (some (zz_ad Z 9)) v2 x45 M42 (fun r57 M58 => zrI r57 fun x61 => wp_X1_advise_B76 Z (wp_X1_advise_L36 Z K X n) K X v0 v1 v2 v3 v4 v5 x45 x61 M58 bc bs)) else False))))
def wp_X1_advise (Z : zzG) (this : Option Nat) (p0 : Int32) (p1 : Int32) (M : zzM) (bc bs : Nat) (K : Option Value → zzM → Prop) (X : Nat → Nat → zzM → Prop) : Prop := zty Z M this fun t => t = 0 ∧ zcx bc bs (fun c s k x => wp_X1_requireSpeaker Z this p0 M c s k x) (fun r1 M2 bc3 bs4 => zrV r1 (zcx bc3 bs4 (fun c s k x => wp_X1_requireFrom Z (1 : Int32) (50 : Int32) p1 M2 c s k x) (fun r5 M6 bc7 bs8 => zrV r5 (zgA Z M6 this [0] 2 fun x9 => zty Z M6 x9 fun t => t = 2 ∧ wp_X3_lead Z x9 p0 M6 (fun r10 M11 => zrI r10 fun x14 => zgA Z M11 this [0] 2 fun x15 => zgA Z M11 x15 [2] 1 fun x16 => zty Z M11 x16 fun t => t = 18 ∧ zcc bc7 bs8 (fun c s k => wp_J2_iterator Z x16 M11 c s k) fun r17 M18 bc19 bs20 => zrA r17 fun x21 => ∃ n36 : Nat, wp_X1_advise_L36 Z K X n36 this p0 p1 (-1 : Int32) x14 x21 M18 bc19 bs20))) (fun t q M _ _ => X t q M))) (fun t q M _ _ => X t q M)
theorem ok_X1_advise_B76 {G : zzX} (C : zz_C G cX1_advise "DebateHall" 8) {K : Option Value → zzM → Prop} {X : Nat → Nat → zzM → Prop} (E : zz_E G (some .int) K X) (hH : zz_H G []) (hR : zz_Rm G 8) {k36 : Option Nat → Int32 → Int32 → Int32 → Int32 → Option Nat → zzM → Nat → Nat → Prop} (hk36 : ∀ (z0 : Option Nat) (z1 : Int32) (z2 : Int32) (z3 : Int32) (z4 : Int32) (z5 : Option Nat) (M : zzM) (bc bs : Nat), k36 z0 z1 z2 z3 z4 z5 M bc bs → zz_T G 8 M bc bs 36 [(0, va_rf z0), (1, .int z1), (2, .int z2), (3, .int z3), (4, .int z4), (5, va_rf z5)] []) {v0 : Option Nat} {v1 : Int32} {v2 : Int32} {v3 : Int32} {v4 : Int32} {v5 : Option Nat} {v6 : Option Nat} {s0 : Int32} {M : zzM} {bc bs : Nat} (hw : wp_X1_advise_B76 (zz_Zof G) k36 K X v0 v1 v2 v3 v4 v5 v6 s0 M bc bs) : zz_T G 8 M bc bs 76 [(0, va_rf v0), (1, .int v1), (2, .int v2), (3, .int v3), (4, .int v4), (5, va_rf v5), (6, va_rf v6)] [.int s0] := by
  unfold wp_X1_advise_B76 at hw
  refine zz_if_ne (tgt := 82) C dX1_advise_76 (by decide) hw (fun hw => ?_) (fun hw => ?_)
  · refine zz_aload_n C dX1_advise_82 rfl 0 rfl ?_
    refine zz_getA C dX1_advise_83 (Or.inl q305) zf_0_2_DebateHall hw (fun x62 hw => ?_)
    refine zz_aload C dX1_advise_86 6 rfl ?_
    obtain ⟨a9, t9, b9, fs9, hro, hL, rfl, hw⟩ := ztyS hw
    refine zz_callV (r := (zR_2, zT_2, 8)) (As := [va_rf v6]) (rest := []) (mc := 0) (ms := 0) C hR hro dX1_advise_88 (Or.inl q2008) q1930 (Or.inl q1931) zl_DebateHall_Minutes zk_X3_settle (Or.inl rfl) zy_X3_settle rfl (by decide) (by decide) hL (ok_X3_settle (zz_hl C) hw) (Nat.zero_le _) (Nat.zero_le _) (zz_cat10 _ (Nat.le_of_ble_eq_true rfl)) (fun r63 M64 hw => zz_kA hw (fun x67 hw => ?_)) (fun _ _ _ h9 => h9.elim) rfl
    refine zz_iload_n C dX1_advise_91 rfl 1 rfl ?_
    obtain ⟨a9, t9, b9, fs9, hro, hL, rfl, hw⟩ := ztyS hw
    refine zz_callV (r := (zR_2, zT_2, 8)) (As := [.int v1]) (rest := []) (mc := 0) (ms := 0) C hR hro dX1_advise_92 (Or.inl q2167) q2168 (Or.inl q2169) zl_DebateHall_Minutes zk_X3_lead (Or.inl rfl) zy_X3_lead rfl (by decide) (by decide) hL (ok_X3_lead (zz_hl C) hw) (Nat.zero_le _) (Nat.zero_le _) (zz_cat10 _ (Nat.le_of_ble_eq_true rfl)) (fun r68 M69 hw => zz_kI hw (fun x72 hw => ?_)) (fun _ _ _ h9 => h9.elim) rfl
    refine zz_istore (lv' := [(7, .int x72), (0, va_rf v0), (1, .int v1), (2, .int v2), (3, .int v3), (4, .int v4), (5, va_rf v5), (6, va_rf v6)]) C dX1_advise_95 (by decide) (by simp [zz_cat, zz_catI, zz_catJ, zz_catD]) ?_
    refine zz_iload C dX1_advise_97 0 rfl ?_
    refine zz_iload C dX1_advise_99 5 rfl ?_
    refine zz_icmp_gt (tgt := 107) C dX1_advise_101 (by decide) hw (fun hw => ?_) (fun hw => ?_)
    · refine zz_aload C dX1_advise_107 7 rfl ?_
      refine zz_getI C dX1_advise_109 (Or.inr ⟨_, q1736⟩) zf_15_0_ebateHall_Item hw (fun x73 hw => ?_)
      refine zz_istore_n (i := 3) (lv' := [(3, .int x73), (7, .int x72), (0, va_rf v0), (1, .int v1), (2, .int v2), (4, .int v4), (5, va_rf v5), (6, va_rf v6)]) C dX1_advise_112 rfl (by decide) rfl ?_
      refine zz_iload C dX1_advise_113 1 rfl ?_
      refine zz_istore (lv' := [(4, .int x72), (3, .int x73), (7, .int x72), (0, va_rf v0), (1, .int v1), (2, .int v2), (5, va_rf v5), (6, va_rf v6)]) C dX1_advise_115 (by decide) rfl ?_
      refine zz_goto (tgt := 36) C dX1_advise_117 (by decide) ?_
      refine zz_subP [3, 4, 5, 1, 0, 6] rfl ?_
      exact hk36 _ _ _ _ _ _ _ _ _ hw
    · refine zz_goto (tgt := 36) C dX1_advise_104 (by decide) ?_
      refine zz_subP [1, 2, 3, 4, 5, 6] rfl ?_
      exact hk36 _ _ _ _ _ _ _ _ _ hw
  · refine zz_goto (tgt := 36) C dX1_advise_79 (by decide) ?_
    refine zz_subP [0, 1, 2, 3, 4, 5] rfl ?_
    exact hk36 _ _ _ _ _ _ _ _ _ hw
theorem ok_X1_advise_L36 {G : zzX} (C : zz_C G cX1_advise "DebateHall" 8) {K : Option Value → zzM → Prop} {X : Nat → Nat → zzM → Prop} (E : zz_E G (some .int) K X) (hH : zz_H G []) (hR : zz_Rm G 8) : ∀ (n : Nat) (v0 : Option Nat) (v1 : Int32) (v2 : Int32) (v3 : Int32) (v4 : Int32) (v5 : Option Nat) (M : zzM) (bc bs : Nat), wp_X1_advise_L36 (zz_Zof G) K X n v0 v1 v2 v3 v4 v5 M bc bs → zz_T G 8 M bc bs 36 [(0, va_rf v0), (1, .int v1), (2, .int v2), (3, .int v3), (4, .int v4), (5, va_rf v5)] [] := by
  intro n
  induction n with
  | zero =>
    intro v0 v1 v2 v3 v4 v5 M bc bs hw
    exact False.elim hw
  | succ n ih =>
    intro v0 v1 v2 v3 v4 v5 M bc bs hw
    refine zz_aload C dX1_advise_36 5 rfl ?_
    obtain ⟨a9, t9, b9, fs9, hro, hL, rfl, hw⟩ := ztyS hw
    refine zz_callF (r := (zR_23, zT_23, 4)) (x := ⟨"java/util/Iterator", "hasNext", "()Z"⟩) (As := []) (rest := []) (mc := 0) (ms := 0) C hR hro dX1_advise_38 q1793 (by decide +kernel) q1174 q1172 zl_java_util_ArrayList_Itr zk_J24_hasNext zyo_java_util_Iterator_hasNext___Z rfl (by decide) (by decide) hL (ok_J24_hasNext (zz_hl C) hw) (Nat.zero_le _) (Nat.zero_le _) (zz_cat10 _ (Nat.le_of_ble_eq_true rfl)) (fun r30 M31 hw => zz_kI hw (fun x34 hw => ?_)) (fun _ _ _ h9 => h9.elim) rfl
    refine zz_if_eq (tgt := 120) C dX1_advise_43 (by decide) hw (fun hw => ?_) (fun hw => ?_)
    · refine zz_aload_n C dX1_advise_120 rfl 0 rfl ?_
      refine zz_getA C dX1_advise_121 (Or.inl q305) zf_0_2_DebateHall hw (fun x35 hw => ?_)
      refine zz_null C dX1_advise_124 ?_
      obtain ⟨a9, t9, b9, fs9, hro, hL, rfl, hw⟩ := ztyS hw
      refine zz_callV (r := (zR_2, zT_2, 8)) (As := [va_rf none]) (rest := []) (mc := 0) (ms := 0) C hR hro dX1_advise_125 (Or.inl q2008) q1930 (Or.inl q1931) zl_DebateHall_Minutes zk_X3_settle (Or.inl rfl) zy_X3_settle rfl (by decide) (by decide) hL (ok_X3_settle (zz_hl C) hw) (Nat.zero_le _) (Nat.zero_le _) (zz_cat10 _ (Nat.le_of_ble_eq_true rfl)) (fun r36 M37 hw => zz_kA hw (fun x40 hw => ?_)) (fun _ _ _ h9 => h9.elim) rfl
      refine zz_pop C dX1_advise_128 (zz_cat _) ?_
      refine zz_iload_n C dX1_advise_129 rfl 3 rfl ?_
      exact zz_iret C E dX1_advise_130 hw
    · refine zz_aload C dX1_advise_46 5 rfl ?_
      obtain ⟨a9, t9, b9, fs9, hro, hL, rfl, hw⟩ := ztyS hw
      refine zz_callF (r := (zR_23, zT_23, 4)) (x := ⟨"java/util/Iterator", "next", "()Ljava/lang/Object;"⟩) (As := []) (rest := []) (mc := 0) (ms := 0) C hR hro dX1_advise_48 q1795 (by decide +kernel) q1183 q1181 zl_java_util_ArrayList_Itr zk_J24_next zyo_java_util_Iterator_next___Ljava_lang_Object_ rfl (by decide) (by decide) hL (ok_J24_next (zz_hl C) hw) (Nat.zero_le _) (Nat.zero_le _) (zz_cat10 _ (Nat.le_of_ble_eq_true rfl)) (fun r41 M42 hw => zz_kA hw (fun x45 hw => ?_)) (fun _ _ _ h9 => h9.elim) rfl
      refine zz_cast C dX1_advise_53 q2105 zc_15_ebateHall_Item hw (fun hw => ?_)
      refine zz_astore (lv' := [(6, va_rf x45), (0, va_rf v0), (1, .int v1), (2, .int v2), (3, .int v3), (4, .int v4), (5, va_rf v5)]) C dX1_advise_56 (by decide) (by simp [zz_cat, zz_catI, zz_catJ, zz_catD]) ?_
      refine zz_aload C dX1_advise_58 0 rfl ?_
      refine zz_getI C dX1_advise_60 (Or.inr ⟨_, q1749⟩) zf_15_3_ebateHall_Item hw (fun x46 hw => ?_)
      refine zz_iload_n C dX1_advise_63 rfl 2 rfl ?_
      refine zz_icmp_eq (tgt := 36) C dX1_advise_64 (by decide) hw (fun hw => ?_) (fun hw => ?_)
      · refine zz_subP [1, 2, 3, 4, 5, 6] rfl ?_
        exact ih _ _ _ _ _ _ _ _ _ hw
      · refine zz_gets (j := 9) (v := va_rf (some (zz_ad (zz_Zof G) 9))) C dX1_advise_67 (Or.inl q2153) rfl (Or.inl rfl) rfl ?_
        refine zz_iload_n C dX1_advise_70 rfl 3 rfl ?_
        refine zz_aload C dX1_advise_71 0 rfl ?_
        obtain ⟨a9, t9, b9, fs9, hro, hL, hw⟩ := ztyS hw
        by_cases e31 : t9 = 31
        · replace hw := zz_ifp e31 hw
          subst e31
          refine zz_callU (r := (zR_31, zT_31, 3)) (x := ⟨"DebateHall$Kind", "isStrong", "(ILDebateHall$Item;)Z"⟩) (owner := "DebateHall$Kind") (As := [.int v2, va_rf x45]) (rest := []) (mc := 0) (ms := 0) C hR hro dX1_advise_73 q2345 q1957 (Or.inl q1956) q1962 q1961 zl_DebateHall_Kind_2 zk_X21_isStrong zyo_DebateHall_Kind_isStrong__ILDebateHall_Item__Z rfl (by decide) (by decide) hL (ok_X21_isStrong (zz_hl C) hw) (Nat.zero_le _) (Nat.zero_le _) (zz_cat10 _ (Nat.le_of_ble_eq_true rfl)) (fun r47 M48 hw => zz_kI hw (fun x51 hw => ?_)) (fun _ _ _ h9 => h9.elim) rfl
          refine zz_subP [1, 2, 3, 4, 5, 6, 0] rfl ?_
          exact ok_X1_advise_B76 C E hH hR (fun z0 z1 z2 z3 z4 z5 z6 z7 z8 hw => ih z0 z1 z2 z3 z4 z5 z6 z7 z8 hw) hw
        · replace hw := zz_ifn e31 hw
          by_cases e30 : t9 = 30
          · replace hw := zz_ifp e30 hw
            subst e30
            refine zz_callUU (r := (zR_30, zT_30, 3)) (x := ⟨"DebateHall$Kind", "isStrong", "(ILDebateHall$Item;)Z"⟩) (owner := "DebateHall$Kind") (As := [.int v2, va_rf x45]) (rest := []) (mc := 0) (ms := 0) C hR hro dX1_advise_73 q2345 q1957 (Or.inl q1956) q1959 q1958  zk_X22_isStrong zyo_DebateHall_Kind_isStrong__ILDebateHall_Item__Z rfl (by decide) (by decide) hL (ok_X22_isStrong (zz_hl C) hw) (Nat.zero_le _) (Nat.zero_le _) (zz_cat10 _ (Nat.le_of_ble_eq_true rfl)) (fun r52 M53 hw => zz_kI hw (fun x56 hw => ?_)) (fun _ _ _ h9 => h9.elim) rfl
            refine zz_subP [1, 2, 3, 4, 5, 6, 0] rfl ?_
            exact ok_X1_advise_B76 C E hH hR (fun z0 z1 z2 z3 z4 z5 z6 z7 z8 hw => ih z0 z1 z2 z3 z4 z5 z6 z7 z8 hw) hw
          · replace hw := zz_ifn e30 hw
            by_cases e32 : t9 = 32
            · replace hw := zz_ifp e32 hw
              subst e32
              refine zz_callUU (r := (zR_32, zT_32, 3)) (x := ⟨"DebateHall$Kind", "isStrong", "(ILDebateHall$Item;)Z"⟩) (owner := "DebateHall$Kind") (As := [.int v2, va_rf x45]) (rest := []) (mc := 0) (ms := 0) C hR hro dX1_advise_73 q2345 q1957 (Or.inl q1956) q1967 q1966  zk_X23_isStrong zyo_DebateHall_Kind_isStrong__ILDebateHall_Item__Z rfl (by decide) (by decide) hL (ok_X23_isStrong (zz_hl C) hw) (Nat.zero_le _) (Nat.zero_le _) (zz_cat10 _ (Nat.le_of_ble_eq_true rfl)) (fun r57 M58 hw => zz_kI hw (fun x61 hw => ?_)) (fun _ _ _ h9 => h9.elim) rfl
              refine zz_subP [1, 2, 3, 4, 5, 6, 0] rfl ?_
              exact ok_X1_advise_B76 C E hH hR (fun z0 z1 z2 z3 z4 z5 z6 z7 z8 hw => ih z0 z1 z2 z3 z4 z5 z6 z7 z8 hw) hw
            · replace hw := zz_ifn e32 hw
              exact hw.elim
theorem ok_X1_advise {Z : zzG} {l : Launch} (hl : l.stackTraces = false) {this : Option Nat} {p0 : Int32} {p1 : Int32} {M : zzM} {mc ms : Nat} {K : Option Value → zzM → Prop} {X : Nat → Nat → zzM → Prop} (hw : wp_X1_advise Z this p0 p1 M mc ms K X) : zz_Met Z l yX1_advise (zz_ws yX1_advise cX1_advise 8 (some .int) none) 8 [va_rf this, .int p0, .int p1] M mc ms K X := by
  refine zz_ofW hl (plainFor_of_name (by decide)) (by simp only [zz_sl0, zz_slI, zz_slJ, zz_slA] <;> decide) (fun G hZ hll C E hH hR hin => ?_)
  subst hZ
  subst hll
  rw [show lv_args 0 [va_rf this, .int p0, .int p1] = [(0, va_rf this), (1, .int p0), (2, .int p1)] by simp only [zz_la0, zz_laI, zz_laJ, zz_laA]]
  unfold wp_X1_advise at hw
  refine zz_aload_n C dX1_advise_0 rfl 0 rfl ?_
  refine zz_iload_n C dX1_advise_1 rfl 1 rfl ?_
  obtain ⟨a9, t9, b9, fs9, hro, hL, rfl, hw⟩ := ztyS hw
  obtain ⟨c9, s9, hc9, hs9, hw⟩ := hw
  refine zz_callV (r := (zR_0, zT_0, 4)) (As := [.int p0]) (rest := []) C hR hro dX1_advise_2 (Or.inl q2276) q2278 (Or.inl qs27) zl_DebateHall zk_X1_requireSpeaker (Or.inl rfl) zy_X1_requireSpeaker rfl (by decide) (by decide) hL (ok_X1_requireSpeaker (zz_hl C) hw) hc9 hs9 (zz_cat10 _ (Nat.le_of_ble_eq_true rfl)) (fun r1 M2 hw => zz_kV hw (fun hw => ?_)) (fun t9 q26 M27 hx => ?_) rfl
  · refine zz_iconst (v := (1 : Int32)) C dX1_advise_5 (by decide) ?_
    refine zz_bipush (v := (50 : Int32)) C dX1_advise_6 (by decide) ?_
    refine zz_iload_n C dX1_advise_8 rfl 2 rfl ?_
    obtain ⟨c9, s9, hc9, hs9, hw⟩ := hw
    refine zz_callS (As := [.int (1 : Int32), .int (50 : Int32), .int p1]) (rest := []) C hR dX1_advise_9 (Or.inl q2251) q2252 zl_DebateHall zk_X1_requireFrom (Or.inl rfl) zy_X1_requireFrom (by decide) (by decide) (ok_X1_requireFrom (zz_hl C) hw) hc9 hs9 (zz_cat10 _ (Nat.le_of_ble_eq_true rfl)) (fun r5 M6 hw => zz_kV hw (fun hw => ?_)) (fun t9 q22 M23 hx => ?_) rfl
    · refine zz_iconst (v := (-1 : Int32)) C dX1_advise_12 (by decide) ?_
      refine zz_istore_n (i := 3) (lv' := [(3, .int (-1 : Int32)), (0, va_rf this), (1, .int p0), (2, .int p1)]) C dX1_advise_13 rfl (by decide) rfl ?_
      refine zz_aload_n C dX1_advise_14 rfl 1 rfl ?_
      refine zz_getA C dX1_advise_15 (Or.inl q305) zf_0_2_DebateHall hw (fun x9 hw => ?_)
      refine zz_iload_n C dX1_advise_18 rfl 2 rfl ?_
      obtain ⟨a9, t9, b9, fs9, hro, hL, rfl, hw⟩ := ztyS hw
      refine zz_callV (r := (zR_2, zT_2, 8)) (As := [.int p0]) (rest := []) (mc := 0) (ms := 0) C hR hro dX1_advise_19 (Or.inl q2167) q2168 (Or.inl q2169) zl_DebateHall_Minutes zk_X3_lead (Or.inl rfl) zy_X3_lead rfl (by decide) (by decide) hL (ok_X3_lead (zz_hl C) hw) (Nat.zero_le _) (Nat.zero_le _) (zz_cat10 _ (Nat.le_of_ble_eq_true rfl)) (fun r10 M11 hw => zz_kI hw (fun x14 hw => ?_)) (fun _ _ _ h9 => h9.elim) rfl
      refine zz_istore (lv' := [(4, .int x14), (3, .int (-1 : Int32)), (0, va_rf this), (1, .int p0), (2, .int p1)]) C dX1_advise_22 (by decide) rfl ?_
      refine zz_aload_n C dX1_advise_24 rfl 2 rfl ?_
      refine zz_getA C dX1_advise_25 (Or.inl q305) zf_0_2_DebateHall hw (fun x15 hw => ?_)
      refine zz_getA C dX1_advise_28 (Or.inr ⟨_, q239⟩) zf_2_1_teHall_Minutes hw (fun x16 hw => ?_)
      obtain ⟨a9, t9, b9, fs9, hro, hL, rfl, hw⟩ := ztyS hw
      obtain ⟨c9, s9, hc9, hs9, hw⟩ := hw
      refine zz_callV (r := (zR_18, zT_18, 3)) (As := []) (rest := []) C hR hro dX1_advise_31 (Or.inl q2104) q1145 (Or.inl q1146) zl_java_util_ArrayList zk_J2_iterator (Or.inl rfl) zy_J2_iterator rfl (by decide) (by decide) hL (ok_J2_iterator (zz_hl C) hw) hc9 hs9 (zz_cat10 _ (Nat.le_of_ble_eq_true rfl)) (fun r17 M18 hw => zz_kA hw (fun x21 hw => ?_)) (fun _ _ _ h9 => h9.elim) rfl
      refine zz_astore (lv' := [(5, va_rf x21), (4, .int x14), (3, .int (-1 : Int32)), (0, va_rf this), (1, .int p0), (2, .int p1)]) C dX1_advise_34 (by decide) rfl ?_
      refine zz_subP [3, 4, 5, 2, 1, 0] rfl ?_
      obtain ⟨n36, hw⟩ := hw
      exact ok_X1_advise_L36 C E hH hR n36 _ _ _ _ _ _ _ _ _ hw
    · exact zz_out C E hH rfl hx
  · exact zz_out C E hH rfl hx
abbrev cX0_advise : ByteArray := method_14_code
def yX0_advise : MethodName := ⟨"DebateHallLaw", "advise", "(LDebateHall;II[J)I"⟩
def dkwX0_advise_0 : List UInt8 := [45, 3, 42, 27, 28, 182, 0, 52, 133, 80, 167, 0, 11, 58, 4, 4, 172, 58, 4, 5, 172, 3, 172]
abbrev dktX0_advise_0 : List UInt8 := dkwX0_advise_0 ++ []
theorem dksX0_advise_0 : cX0_advise.data.toList.drop 0 = dktX0_advise_0 := by decide +kernel
theorem dX0_advise_0 : decode cX0_advise 0 = .ok (.aload_n 3, 1) := dk_45 (dk_at dksX0_advise_0 0 rfl rfl)
theorem dX0_advise_1 : decode cX0_advise 1 = .ok (.iconst 0, 1) := dk_3 (dk_at dksX0_advise_0 1 rfl rfl)
theorem dX0_advise_2 : decode cX0_advise 2 = .ok (.aload_n 0, 1) := dk_42 (dk_at dksX0_advise_0 2 rfl rfl)
theorem dX0_advise_3 : decode cX0_advise 3 = .ok (.iload_n 1, 1) := dk_27 (dk_at dksX0_advise_0 3 rfl rfl)
theorem dX0_advise_4 : decode cX0_advise 4 = .ok (.iload_n 2, 1) := dk_28 (dk_at dksX0_advise_0 4 rfl rfl)
theorem dX0_advise_5 : decode cX0_advise 5 = .ok (.invokevirtual 52, 3) := dk_182 0 52 (dk_at dksX0_advise_0 5 rfl rfl)
theorem dX0_advise_8 : decode cX0_advise 8 = .ok (.i2l, 1) := dk_133 (dk_at dksX0_advise_0 8 rfl rfl)
theorem dX0_advise_9 : decode cX0_advise 9 = .ok (.lastore, 1) := dk_80 (dk_at dksX0_advise_0 9 rfl rfl)
theorem dX0_advise_10 : decode cX0_advise 10 = .ok (.goto 11, 3) := dk_167 0 11 (dk_at dksX0_advise_0 10 rfl rfl)
theorem dX0_advise_13 : decode cX0_advise 13 = .ok (.astore 4, 2) := dk_58 4 (dk_at dksX0_advise_0 13 rfl rfl)
theorem dX0_advise_15 : decode cX0_advise 15 = .ok (.iconst 1, 1) := dk_4 (dk_at dksX0_advise_0 15 rfl rfl)
theorem dX0_advise_16 : decode cX0_advise 16 = .ok (.ireturn, 1) := dk_172 (dk_at dksX0_advise_0 16 rfl rfl)
theorem dX0_advise_17 : decode cX0_advise 17 = .ok (.astore 4, 2) := dk_58 4 (dk_at dksX0_advise_0 17 rfl rfl)
theorem dX0_advise_19 : decode cX0_advise 19 = .ok (.iconst 2, 1) := dk_5 (dk_at dksX0_advise_0 19 rfl rfl)
theorem dX0_advise_20 : decode cX0_advise 20 = .ok (.ireturn, 1) := dk_172 (dk_at dksX0_advise_0 20 rfl rfl)
theorem dX0_advise_21 : decode cX0_advise 21 = .ok (.iconst 0, 1) := dk_3 (dk_at dksX0_advise_0 21 rfl rfl)
theorem dX0_advise_22 : decode cX0_advise 22 = .ok (.ireturn, 1) := dk_172 (dk_at dksX0_advise_0 22 rfl rfl)
theorem q2344 : (Jvm.Cond.code ({ cls := "DebateHall", name := "advise", desc := "(II)I" } : Jvm.MethodName) prog_1_method_28_code (8 : Nat) (Option.some Jvm.ClassFile.FieldType.int)) ∈ lw_all := lw_g (lw_at lw_m10 104 rfl) rfl
theorem zk_X1_advise : zz_cd yX1_advise cX1_advise 8 (some .int) none ∈ lw_all := q2344
theorem zy_X1_advise : zz_yok yX1_advise 2 = true := by decide +kernel
theorem q2246 : (Jvm.Cond.classLink "DebateHallLaw" (19 : Nat) "java/lang/IllegalArgumentException") ∈ lw_all := lw_g (lw_at lw_m10 6 rfl) rfl
theorem q2341 : (Jvm.Cond.methodLink "DebateHallLaw" (52 : Nat) ({ cls := "DebateHall", name := "advise", desc := "(II)I" } : Jvm.MethodName)) ∈ lw_all := lw_g (lw_at lw_m10 101 rfl) rfl
theorem q2342 : (Jvm.Cond.instanceMethod ({ cls := "DebateHall", name := "advise", desc := "(II)I" } : Jvm.MethodName)) ∈ lw_all := lw_g (lw_at lw_m10 102 rfl) rfl
theorem q2343 : (Jvm.Cond.selects "DebateHall" ({ cls := "DebateHall", name := "advise", desc := "(II)I" } : Jvm.MethodName) ({ cls := "DebateHall", name := "advise", desc := "(II)I" } : Jvm.MethodName)) ∈ lw_all := lw_g (lw_at lw_m10 103 rfl) rfl
def wp_X0_advise_B13 (Z : zzG) (K : Option Value → zzM → Prop) (s0 : Option Nat) (M : zzM) (bc bs : Nat) : Prop := K (some (.int (1 : Int32))) M
def wp_X0_advise_B17 (Z : zzG) (K : Option Value → zzM → Prop) (s0 : Option Nat) (M : zzM) (bc bs : Nat) : Prop := K (some (.int (2 : Int32))) M
def wp_X0_advise (Z : zzG) (p0 : Option Nat) (p1 : Int32) (p2 : Int32) (p3 : Option Nat) (M : zzM) (bc bs : Nat) (K : Option Value → zzM → Prop) : Prop := zty Z M p0 fun t => t = 0 ∧ zcx bc bs (fun c s k x => wp_X1_advise Z p0 p1 p2 M c s k x) (fun r1 M2 bc3 bs4 => zrI r1 fun x5 => zast Z M2 p3 [102] (0 : Int32) (.long x5.toInt64) fun M6 => K (some (.int (0 : Int32))) M6) (fun t q7 M8 bc9 bs10 => if t = 27 then (wp_X0_advise_B17 Z K (some q7) M8 bc9 bs10) else if t = 28 then (wp_X0_advise_B13 Z K (some q7) M8 bc9 bs10) else False)
theorem ok_X0_advise_B13 {G : zzX} (C : zz_C G cX0_advise "DebateHallLaw" 5) {K : Option Value → zzM → Prop} (E : zz_E G (some .int) K (fun _ _ _ => False)) (hH : zz_H G [(0, 10, 13, 24), (0, 10, 17, 19)]) (hR : zz_Rm G 9) {s0 : Option Nat} {M : zzM} {bc bs : Nat} (hw : wp_X0_advise_B13 (zz_Zof G) K s0 M bc bs) : zz_T G 5 M bc bs 13 [] [va_rf s0] := by
  unfold wp_X0_advise_B13 at hw
  refine zz_astore (lv' := [(4, va_rf s0)]) C dX0_advise_13 (by decide) rfl ?_
  refine zz_iconst (v := (1 : Int32)) C dX0_advise_15 (by decide) ?_
  exact zz_iret C E dX0_advise_16 hw
theorem ok_X0_advise_B17 {G : zzX} (C : zz_C G cX0_advise "DebateHallLaw" 5) {K : Option Value → zzM → Prop} (E : zz_E G (some .int) K (fun _ _ _ => False)) (hH : zz_H G [(0, 10, 13, 24), (0, 10, 17, 19)]) (hR : zz_Rm G 9) {s0 : Option Nat} {M : zzM} {bc bs : Nat} (hw : wp_X0_advise_B17 (zz_Zof G) K s0 M bc bs) : zz_T G 5 M bc bs 17 [] [va_rf s0] := by
  unfold wp_X0_advise_B17 at hw
  refine zz_astore (lv' := [(4, va_rf s0)]) C dX0_advise_17 (by decide) rfl ?_
  refine zz_iconst (v := (2 : Int32)) C dX0_advise_19 (by decide) ?_
  exact zz_iret C E dX0_advise_20 hw
theorem ok_X0_advise {Z : zzG} {l : Launch} (hl : l.stackTraces = false) {p0 : Option Nat} {p1 : Int32} {p2 : Int32} {p3 : Option Nat} {M : zzM} {mc ms : Nat} {K : Option Value → zzM → Prop} (hw : wp_X0_advise Z p0 p1 p2 p3 M mc ms K) : zz_Met Z l yX0_advise (zz_ws yX0_advise cX0_advise 5 (some .int) (some [(0, 10, 13, 24), (0, 10, 17, 19)])) 9 [va_rf p0, .int p1, .int p2, va_rf p3] M mc ms K (fun _ _ _ => False) := by
  refine zz_ofW hl (plainFor_of_name (by decide)) (by simp only [zz_sl0, zz_slI, zz_slJ, zz_slA] <;> decide) (fun G hZ hll C E hH hR hin => ?_)
  subst hZ
  subst hll
  rw [show lv_args 0 [va_rf p0, .int p1, .int p2, va_rf p3] = [(0, va_rf p0), (1, .int p1), (2, .int p2), (3, va_rf p3)] by simp only [zz_la0, zz_laI, zz_laJ, zz_laA]]
  unfold wp_X0_advise at hw
  refine zz_aload_n C dX0_advise_0 rfl 3 rfl ?_
  refine zz_iconst (v := (0 : Int32)) C dX0_advise_1 (by decide) ?_
  refine zz_aload_n C dX0_advise_2 rfl 0 rfl ?_
  refine zz_iload_n C dX0_advise_3 rfl 1 rfl ?_
  refine zz_iload_n C dX0_advise_4 rfl 2 rfl ?_
  obtain ⟨a9, t9, b9, fs9, hro, hL, rfl, hw⟩ := ztyS hw
  obtain ⟨c9, s9, hc9, hs9, hw⟩ := hw
  refine zz_callV (r := (zR_0, zT_0, 4)) (As := [.int p1, .int p2]) (rest := [.int (0 : Int32), va_rf p3]) C hR hro dX0_advise_5 (Or.inl q2341) q2342 (Or.inl q2343) zl_DebateHall zk_X1_advise (Or.inl rfl) zy_X1_advise rfl (by decide) (by decide) hL (ok_X1_advise (zz_hl C) hw) hc9 hs9 (zz_cat10 _ (Nat.le_of_ble_eq_true rfl)) (fun r1 M2 hw => zz_kI hw (fun x5 hw => ?_)) (fun t9 q7 M8 hw => ?_) rfl
  · refine zz_i2l C dX0_advise_8 ?_
    refine zz_last C dX0_advise_9 hw (fun M6 hw => ?_)
    refine zz_goto (tgt := 21) C dX0_advise_10 (by decide) ?_
    refine zz_iconst (v := (0 : Int32)) C dX0_advise_21 (by decide) ?_
    exact zz_iret C E dX0_advise_22 hw
  · by_cases e27 : t9 = 27
    · replace hw := zz_ifp e27 hw
      subst e27
      refine zz_catch (r := (zR_27, zT_27, 0)) C hH rfl [(0, 10, 13, 24)] (0, 10, 17, 19) [] rfl (fun z h9 => by rw [List.mem_singleton] at h9; subst h9; exact Or.inr ⟨by decide, _, q2265, by decide +kernel⟩) rfl (by decide) q2246 q533 ?_
      refine zz_subP [] rfl ?_
      exact ok_X0_advise_B17 C E hH hR hw
    · replace hw := zz_ifn e27 hw
      by_cases e28 : t9 = 28
      · replace hw := zz_ifp e28 hw
        subst e28
        refine zz_catch (r := (zR_28, zT_28, 0)) C hH rfl [] (0, 10, 13, 24) [(0, 10, 17, 19)] rfl (fun _ h9 => absurd h9 List.not_mem_nil) rfl (by decide) q2265 q2137 ?_
        refine zz_subP [] rfl ?_
        exact ok_X0_advise_B13 C E hH hR hw
      · replace hw := zz_ifn e28 hw
        exact hw.elim
abbrev cX4_isSpeaker : ByteArray := prog_25_method_7_code
def yX4_isSpeaker : MethodName := ⟨"DebateHallModel", "isSpeaker", "(I)Z"⟩
def dkwX4_isSpeaker_0 : List UInt8 := [27, 3, 42, 180, 0, 48, 180, 0, 88, 4, 100, 184, 0, 91, 172]
abbrev dktX4_isSpeaker_0 : List UInt8 := dkwX4_isSpeaker_0 ++ []
theorem dksX4_isSpeaker_0 : cX4_isSpeaker.data.toList.drop 0 = dktX4_isSpeaker_0 := by decide +kernel
theorem dX4_isSpeaker_0 : decode cX4_isSpeaker 0 = .ok (.iload_n 1, 1) := dk_27 (dk_at dksX4_isSpeaker_0 0 rfl rfl)
theorem dX4_isSpeaker_1 : decode cX4_isSpeaker 1 = .ok (.iconst 0, 1) := dk_3 (dk_at dksX4_isSpeaker_0 1 rfl rfl)
theorem dX4_isSpeaker_2 : decode cX4_isSpeaker 2 = .ok (.aload_n 0, 1) := dk_42 (dk_at dksX4_isSpeaker_0 2 rfl rfl)
theorem dX4_isSpeaker_3 : decode cX4_isSpeaker 3 = .ok (.getfield 48, 3) := dk_180 0 48 (dk_at dksX4_isSpeaker_0 3 rfl rfl)
theorem dX4_isSpeaker_6 : decode cX4_isSpeaker 6 = .ok (.getfield 88, 3) := dk_180 0 88 (dk_at dksX4_isSpeaker_0 6 rfl rfl)
theorem dX4_isSpeaker_9 : decode cX4_isSpeaker 9 = .ok (.iconst 1, 1) := dk_4 (dk_at dksX4_isSpeaker_0 9 rfl rfl)
theorem dX4_isSpeaker_10 : decode cX4_isSpeaker 10 = .ok (.isub, 1) := dk_100 (dk_at dksX4_isSpeaker_0 10 rfl rfl)
theorem dX4_isSpeaker_11 : decode cX4_isSpeaker 11 = .ok (.invokestatic 91, 3) := dk_184 0 91 (dk_at dksX4_isSpeaker_0 11 rfl rfl)
theorem dX4_isSpeaker_14 : decode cX4_isSpeaker 14 = .ok (.ireturn, 1) := dk_172 (dk_at dksX4_isSpeaker_0 14 rfl rfl)
def wp_X4_isSpeaker (Z : zzG) (this : Option Nat) (p0 : Int32) (M : zzM) (K : Option Value → zzM → Prop) : Prop := zgA Z M this [16] 11 fun x1 => zgI Z M x1 [17] 0 fun x2 => wp_X4_isIn Z p0 (0 : Int32) (x2 - (1 : Int32)) M (fun r3 M4 => zrI r3 fun x7 => narrow .boolean (.int x7) = .int x7 ∧ K (some (.int x7)) M4)
theorem ok_X4_isSpeaker {Z : zzG} {l : Launch} (hl : l.stackTraces = false) {this : Option Nat} {p0 : Int32} {M : zzM} {mc ms : Nat} {K : Option Value → zzM → Prop} (hw : wp_X4_isSpeaker Z this p0 M K) : zz_Met Z l yX4_isSpeaker (zz_ws yX4_isSpeaker cX4_isSpeaker 2 (some .boolean) none) 2 [va_rf this, .int p0] M mc ms K (fun _ _ _ => False) := by
  refine zz_ofW hl (plainFor_of_name (by decide)) (by simp only [zz_sl0, zz_slI, zz_slJ, zz_slA] <;> decide) (fun G hZ hll C E hH hR hin => ?_)
  subst hZ
  subst hll
  rw [show lv_args 0 [va_rf this, .int p0] = [(0, va_rf this), (1, .int p0)] by simp only [zz_la0, zz_laI, zz_laJ, zz_laA]]
  unfold wp_X4_isSpeaker at hw
  refine zz_iload_n C dX4_isSpeaker_0 rfl 1 rfl ?_
  refine zz_iconst (v := (0 : Int32)) C dX4_isSpeaker_1 (by decide) ?_
  refine zz_aload_n C dX4_isSpeaker_2 rfl 0 rfl ?_
  refine zz_getA C dX4_isSpeaker_3 (Or.inl q2447) zf_16_11_ebateHallModel hw (fun x1 hw => ?_)
  refine zz_getI C dX4_isSpeaker_6 (Or.inr ⟨_, q2388⟩) zf_17_0_allModel_State hw (fun x2 hw => ?_)
  refine zz_iconst (v := (1 : Int32)) C dX4_isSpeaker_9 (by decide) ?_
  refine zz_isub C dX4_isSpeaker_10 ?_
  refine zz_callS (As := [.int p0, .int (0 : Int32), .int (x2 - (1 : Int32))]) (rest := []) (mc := 0) (ms := 0) C hR dX4_isSpeaker_11 (Or.inl q2525) q2526 zl_DebateHallModel zk_X4_isIn (Or.inl rfl) zy_X4_isIn (by decide) (by decide) (ok_X4_isIn (zz_hl C) hw) (Nat.zero_le _) (Nat.zero_le _) (zz_cat10 _ (Nat.le_of_ble_eq_true rfl)) (fun r3 M4 hw => zz_kI hw (fun x7 hw => ?_)) (fun _ _ _ h9 => h9.elim) rfl
  exact zz_zret C E dX4_isSpeaker_14 hw
abbrev cX4_advise : ByteArray := prog_25_method_65_code
def yX4_advise : MethodName := ⟨"DebateHallModel", "advise", "(II)I"⟩
def dkwX4_advise_6 : List UInt8 := [167, 255, 168, 42, 2, 181, 0, 73, 21, 4, 172]
abbrev dktX4_advise_6 : List UInt8 := dkwX4_advise_6 ++ []
def dkwX4_advise_5 : List UInt8 := [182, 1, 81, 54, 6, 21, 6, 29, 163, 0, 6, 167, 0, 10, 21, 6, 62, 21, 5, 54, 4, 132, 5, 1]
abbrev dktX4_advise_5 : List UInt8 := dkwX4_advise_5 ++ dktX4_advise_6
def dkwX4_advise_4 : List UInt8 := [181, 0, 73, 42, 42, 180, 0, 61, 42, 180, 0, 64, 182, 1, 31, 87, 42, 27, 42, 180, 0, 61]
abbrev dktX4_advise_4 : List UInt8 := dkwX4_advise_4 ++ dktX4_advise_5
def dkwX4_advise_3 : List UInt8 := [21, 5, 46, 27, 159, 0, 62, 42, 21, 5, 182, 1, 107, 28, 164, 0, 6, 167, 0, 49, 42, 21, 5]
abbrev dktX4_advise_3 : List UInt8 := dkwX4_advise_3 ++ dktX4_advise_4
def dkwX4_advise_2 : List UInt8 := [54, 4, 3, 54, 5, 21, 5, 42, 180, 0, 48, 180, 0, 95, 162, 0, 82, 42, 180, 0, 48, 180, 0, 121]
abbrev dktX4_advise_2 : List UInt8 := dkwX4_advise_2 ++ dktX4_advise_3
def dkwX4_advise_1 : List UInt8 := [184, 0, 91, 154, 0, 9, 42, 5, 182, 1, 56, 172, 42, 27, 42, 180, 0, 55, 182, 1, 81, 62, 2]
abbrev dktX4_advise_1 : List UInt8 := dkwX4_advise_1 ++ dktX4_advise_2
def dkwX4_advise_0 : List UInt8 := [42, 3, 181, 0, 85, 42, 27, 182, 1, 84, 154, 0, 9, 42, 4, 182, 1, 56, 172, 28, 4, 16, 50]
abbrev dktX4_advise_0 : List UInt8 := dkwX4_advise_0 ++ dktX4_advise_1
theorem dksX4_advise_0 : cX4_advise.data.toList.drop 0 = dktX4_advise_0 := by decide +kernel
theorem dksX4_advise_1 : cX4_advise.data.toList.drop 23 = dktX4_advise_1 := dk_seg dksX4_advise_0 23 rfl rfl
theorem dksX4_advise_2 : cX4_advise.data.toList.drop 46 = dktX4_advise_2 := dk_seg dksX4_advise_1 23 rfl rfl
theorem dksX4_advise_3 : cX4_advise.data.toList.drop 70 = dktX4_advise_3 := dk_seg dksX4_advise_2 24 rfl rfl
theorem dksX4_advise_4 : cX4_advise.data.toList.drop 93 = dktX4_advise_4 := dk_seg dksX4_advise_3 23 rfl rfl
theorem dksX4_advise_5 : cX4_advise.data.toList.drop 115 = dktX4_advise_5 := dk_seg dksX4_advise_4 22 rfl rfl
theorem dksX4_advise_6 : cX4_advise.data.toList.drop 139 = dktX4_advise_6 := dk_seg dksX4_advise_5 24 rfl rfl
theorem dX4_advise_0 : decode cX4_advise 0 = .ok (.aload_n 0, 1) := dk_42 (dk_at dksX4_advise_0 0 rfl rfl)
theorem dX4_advise_1 : decode cX4_advise 1 = .ok (.iconst 0, 1) := dk_3 (dk_at dksX4_advise_0 1 rfl rfl)
theorem dX4_advise_2 : decode cX4_advise 2 = .ok (.putfield 85, 3) := dk_181 0 85 (dk_at dksX4_advise_0 2 rfl rfl)
theorem dX4_advise_5 : decode cX4_advise 5 = .ok (.aload_n 0, 1) := dk_42 (dk_at dksX4_advise_0 5 rfl rfl)
theorem dX4_advise_6 : decode cX4_advise 6 = .ok (.iload_n 1, 1) := dk_27 (dk_at dksX4_advise_0 6 rfl rfl)
theorem dX4_advise_7 : decode cX4_advise 7 = .ok (.invokevirtual 340, 3) := dk_182 1 84 (dk_at dksX4_advise_0 7 rfl rfl)
theorem dX4_advise_10 : decode cX4_advise 10 = .ok (.ifCond .ne 9, 3) := dk_154 0 9 (dk_at dksX4_advise_0 10 rfl rfl)
theorem dX4_advise_13 : decode cX4_advise 13 = .ok (.aload_n 0, 1) := dk_42 (dk_at dksX4_advise_0 13 rfl rfl)
theorem dX4_advise_14 : decode cX4_advise 14 = .ok (.iconst 1, 1) := dk_4 (dk_at dksX4_advise_0 14 rfl rfl)
theorem dX4_advise_15 : decode cX4_advise 15 = .ok (.invokevirtual 312, 3) := dk_182 1 56 (dk_at dksX4_advise_0 15 rfl rfl)
theorem dX4_advise_18 : decode cX4_advise 18 = .ok (.ireturn, 1) := dk_172 (dk_at dksX4_advise_0 18 rfl rfl)
theorem dX4_advise_19 : decode cX4_advise 19 = .ok (.iload_n 2, 1) := dk_28 (dk_at dksX4_advise_0 19 rfl rfl)
theorem dX4_advise_20 : decode cX4_advise 20 = .ok (.iconst 1, 1) := dk_4 (dk_at dksX4_advise_0 20 rfl rfl)
theorem dX4_advise_21 : decode cX4_advise 21 = .ok (.bipush 50, 2) := dk_16 50 (dk_at dksX4_advise_0 21 rfl rfl)
theorem dX4_advise_23 : decode cX4_advise 23 = .ok (.invokestatic 91, 3) := dk_184 0 91 (dk_at dksX4_advise_1 0 rfl rfl)
theorem dX4_advise_26 : decode cX4_advise 26 = .ok (.ifCond .ne 9, 3) := dk_154 0 9 (dk_at dksX4_advise_1 3 rfl rfl)
theorem dX4_advise_29 : decode cX4_advise 29 = .ok (.aload_n 0, 1) := dk_42 (dk_at dksX4_advise_1 6 rfl rfl)
theorem dX4_advise_30 : decode cX4_advise 30 = .ok (.iconst 2, 1) := dk_5 (dk_at dksX4_advise_1 7 rfl rfl)
theorem dX4_advise_31 : decode cX4_advise 31 = .ok (.invokevirtual 312, 3) := dk_182 1 56 (dk_at dksX4_advise_1 8 rfl rfl)
theorem dX4_advise_34 : decode cX4_advise 34 = .ok (.ireturn, 1) := dk_172 (dk_at dksX4_advise_1 11 rfl rfl)
theorem dX4_advise_35 : decode cX4_advise 35 = .ok (.aload_n 0, 1) := dk_42 (dk_at dksX4_advise_1 12 rfl rfl)
theorem dX4_advise_36 : decode cX4_advise 36 = .ok (.iload_n 1, 1) := dk_27 (dk_at dksX4_advise_1 13 rfl rfl)
theorem dX4_advise_37 : decode cX4_advise 37 = .ok (.aload_n 0, 1) := dk_42 (dk_at dksX4_advise_1 14 rfl rfl)
theorem dX4_advise_38 : decode cX4_advise 38 = .ok (.getfield 55, 3) := dk_180 0 55 (dk_at dksX4_advise_1 15 rfl rfl)
theorem dX4_advise_41 : decode cX4_advise 41 = .ok (.invokevirtual 337, 3) := dk_182 1 81 (dk_at dksX4_advise_1 18 rfl rfl)
theorem dX4_advise_44 : decode cX4_advise 44 = .ok (.istore_n 3, 1) := dk_62 (dk_at dksX4_advise_1 21 rfl rfl)
theorem dX4_advise_45 : decode cX4_advise 45 = .ok (.iconst (-1), 1) := dk_2 (dk_at dksX4_advise_1 22 rfl rfl)
theorem dX4_advise_46 : decode cX4_advise 46 = .ok (.istore 4, 2) := dk_54 4 (dk_at dksX4_advise_2 0 rfl rfl)
theorem dX4_advise_48 : decode cX4_advise 48 = .ok (.iconst 0, 1) := dk_3 (dk_at dksX4_advise_2 2 rfl rfl)
theorem dX4_advise_49 : decode cX4_advise 49 = .ok (.istore 5, 2) := dk_54 5 (dk_at dksX4_advise_2 3 rfl rfl)
theorem dX4_advise_51 : decode cX4_advise 51 = .ok (.iload 5, 2) := dk_21 5 (dk_at dksX4_advise_2 5 rfl rfl)
theorem dX4_advise_53 : decode cX4_advise 53 = .ok (.aload_n 0, 1) := dk_42 (dk_at dksX4_advise_2 7 rfl rfl)
theorem dX4_advise_54 : decode cX4_advise 54 = .ok (.getfield 48, 3) := dk_180 0 48 (dk_at dksX4_advise_2 8 rfl rfl)
theorem dX4_advise_57 : decode cX4_advise 57 = .ok (.getfield 95, 3) := dk_180 0 95 (dk_at dksX4_advise_2 11 rfl rfl)
theorem dX4_advise_60 : decode cX4_advise 60 = .ok (.if_icmp .ge 82, 3) := dk_162 0 82 (dk_at dksX4_advise_2 14 rfl rfl)
theorem dX4_advise_63 : decode cX4_advise 63 = .ok (.aload_n 0, 1) := dk_42 (dk_at dksX4_advise_2 17 rfl rfl)
theorem dX4_advise_64 : decode cX4_advise 64 = .ok (.getfield 48, 3) := dk_180 0 48 (dk_at dksX4_advise_2 18 rfl rfl)
theorem dX4_advise_67 : decode cX4_advise 67 = .ok (.getfield 121, 3) := dk_180 0 121 (dk_at dksX4_advise_2 21 rfl rfl)
theorem dX4_advise_70 : decode cX4_advise 70 = .ok (.iload 5, 2) := dk_21 5 (dk_at dksX4_advise_3 0 rfl rfl)
theorem dX4_advise_72 : decode cX4_advise 72 = .ok (.iaload, 1) := dk_46 (dk_at dksX4_advise_3 2 rfl rfl)
theorem dX4_advise_73 : decode cX4_advise 73 = .ok (.iload_n 1, 1) := dk_27 (dk_at dksX4_advise_3 3 rfl rfl)
theorem dX4_advise_74 : decode cX4_advise 74 = .ok (.if_icmp .eq 62, 3) := dk_159 0 62 (dk_at dksX4_advise_3 4 rfl rfl)
theorem dX4_advise_77 : decode cX4_advise 77 = .ok (.aload_n 0, 1) := dk_42 (dk_at dksX4_advise_3 7 rfl rfl)
theorem dX4_advise_78 : decode cX4_advise 78 = .ok (.iload 5, 2) := dk_21 5 (dk_at dksX4_advise_3 8 rfl rfl)
theorem dX4_advise_80 : decode cX4_advise 80 = .ok (.invokevirtual 363, 3) := dk_182 1 107 (dk_at dksX4_advise_3 10 rfl rfl)
theorem dX4_advise_83 : decode cX4_advise 83 = .ok (.iload_n 2, 1) := dk_28 (dk_at dksX4_advise_3 13 rfl rfl)
theorem dX4_advise_84 : decode cX4_advise 84 = .ok (.if_icmp .le 6, 3) := dk_164 0 6 (dk_at dksX4_advise_3 14 rfl rfl)
theorem dX4_advise_87 : decode cX4_advise 87 = .ok (.goto 49, 3) := dk_167 0 49 (dk_at dksX4_advise_3 17 rfl rfl)
theorem dX4_advise_90 : decode cX4_advise 90 = .ok (.aload_n 0, 1) := dk_42 (dk_at dksX4_advise_3 20 rfl rfl)
theorem dX4_advise_91 : decode cX4_advise 91 = .ok (.iload 5, 2) := dk_21 5 (dk_at dksX4_advise_3 21 rfl rfl)
theorem dX4_advise_93 : decode cX4_advise 93 = .ok (.putfield 73, 3) := dk_181 0 73 (dk_at dksX4_advise_4 0 rfl rfl)
theorem dX4_advise_96 : decode cX4_advise 96 = .ok (.aload_n 0, 1) := dk_42 (dk_at dksX4_advise_4 3 rfl rfl)
theorem dX4_advise_97 : decode cX4_advise 97 = .ok (.aload_n 0, 1) := dk_42 (dk_at dksX4_advise_4 4 rfl rfl)
theorem dX4_advise_98 : decode cX4_advise 98 = .ok (.getfield 61, 3) := dk_180 0 61 (dk_at dksX4_advise_4 5 rfl rfl)
theorem dX4_advise_101 : decode cX4_advise 101 = .ok (.aload_n 0, 1) := dk_42 (dk_at dksX4_advise_4 8 rfl rfl)
theorem dX4_advise_102 : decode cX4_advise 102 = .ok (.getfield 64, 3) := dk_180 0 64 (dk_at dksX4_advise_4 9 rfl rfl)
theorem dX4_advise_105 : decode cX4_advise 105 = .ok (.invokevirtual 287, 3) := dk_182 1 31 (dk_at dksX4_advise_4 12 rfl rfl)
theorem dX4_advise_108 : decode cX4_advise 108 = .ok (.pop, 1) := dk_87 (dk_at dksX4_advise_4 15 rfl rfl)
theorem dX4_advise_109 : decode cX4_advise 109 = .ok (.aload_n 0, 1) := dk_42 (dk_at dksX4_advise_4 16 rfl rfl)
theorem dX4_advise_110 : decode cX4_advise 110 = .ok (.iload_n 1, 1) := dk_27 (dk_at dksX4_advise_4 17 rfl rfl)
theorem dX4_advise_111 : decode cX4_advise 111 = .ok (.aload_n 0, 1) := dk_42 (dk_at dksX4_advise_4 18 rfl rfl)
theorem dX4_advise_112 : decode cX4_advise 112 = .ok (.getfield 61, 3) := dk_180 0 61 (dk_at dksX4_advise_4 19 rfl rfl)
theorem dX4_advise_115 : decode cX4_advise 115 = .ok (.invokevirtual 337, 3) := dk_182 1 81 (dk_at dksX4_advise_5 0 rfl rfl)
theorem dX4_advise_118 : decode cX4_advise 118 = .ok (.istore 6, 2) := dk_54 6 (dk_at dksX4_advise_5 3 rfl rfl)
theorem dX4_advise_120 : decode cX4_advise 120 = .ok (.iload 6, 2) := dk_21 6 (dk_at dksX4_advise_5 5 rfl rfl)
theorem dX4_advise_122 : decode cX4_advise 122 = .ok (.iload_n 3, 1) := dk_29 (dk_at dksX4_advise_5 7 rfl rfl)
theorem dX4_advise_123 : decode cX4_advise 123 = .ok (.if_icmp .gt 6, 3) := dk_163 0 6 (dk_at dksX4_advise_5 8 rfl rfl)
theorem dX4_advise_126 : decode cX4_advise 126 = .ok (.goto 10, 3) := dk_167 0 10 (dk_at dksX4_advise_5 11 rfl rfl)
theorem dX4_advise_129 : decode cX4_advise 129 = .ok (.iload 6, 2) := dk_21 6 (dk_at dksX4_advise_5 14 rfl rfl)
theorem dX4_advise_131 : decode cX4_advise 131 = .ok (.istore_n 3, 1) := dk_62 (dk_at dksX4_advise_5 16 rfl rfl)
theorem dX4_advise_132 : decode cX4_advise 132 = .ok (.iload 5, 2) := dk_21 5 (dk_at dksX4_advise_5 17 rfl rfl)
theorem dX4_advise_134 : decode cX4_advise 134 = .ok (.istore 4, 2) := dk_54 4 (dk_at dksX4_advise_5 19 rfl rfl)
theorem dX4_advise_136 : decode cX4_advise 136 = .ok (.iinc 5 1, 3) := dk_132 5 1 (dk_at dksX4_advise_5 21 rfl rfl)
theorem dX4_advise_139 : decode cX4_advise 139 = .ok (.goto (-88), 3) := dk_167 255 168 (dk_at dksX4_advise_6 0 rfl rfl)
theorem dX4_advise_142 : decode cX4_advise 142 = .ok (.aload_n 0, 1) := dk_42 (dk_at dksX4_advise_6 3 rfl rfl)
theorem dX4_advise_143 : decode cX4_advise 143 = .ok (.iconst (-1), 1) := dk_2 (dk_at dksX4_advise_6 4 rfl rfl)
theorem dX4_advise_144 : decode cX4_advise 144 = .ok (.putfield 73, 3) := dk_181 0 73 (dk_at dksX4_advise_6 5 rfl rfl)
theorem dX4_advise_147 : decode cX4_advise 147 = .ok (.iload 4, 2) := dk_21 4 (dk_at dksX4_advise_6 8 rfl rfl)
theorem dX4_advise_149 : decode cX4_advise 149 = .ok (.ireturn, 1) := dk_172 (dk_at dksX4_advise_6 10 rfl rfl)
theorem q2739 : (Jvm.Cond.code ({ cls := "DebateHallModel", name := "isSpeaker", desc := "(I)Z" } : Jvm.MethodName) prog_25_method_7_code (2 : Nat) (Option.some Jvm.ClassFile.FieldType.boolean)) ∈ lw_all := lw_g (lw_at lw_m12 19 rfl) rfl
theorem zk_X4_isSpeaker : zz_cd yX4_isSpeaker cX4_isSpeaker 2 (some .boolean) none ∈ lw_all := q2739
theorem zy_X4_isSpeaker : zz_yok yX4_isSpeaker 1 = true := by decide +kernel
theorem q2736 : (Jvm.Cond.methodLink "DebateHallModel" (340 : Nat) ({ cls := "DebateHallModel", name := "isSpeaker", desc := "(I)Z" } : Jvm.MethodName)) ∈ lw_all := lw_g (lw_at lw_m12 16 rfl) rfl
theorem q2738 : (Jvm.Cond.instanceMethod ({ cls := "DebateHallModel", name := "isSpeaker", desc := "(I)Z" } : Jvm.MethodName)) ∈ lw_all := lw_g (lw_at lw_m12 18 rfl) rfl
def wp_X4_advise_B136 (Z : zzG) (k51 : Option Nat → Int32 → Int32 → Int32 → Int32 → Int32 → zzM → Prop) (K : Option Value → zzM → Prop) (v0 : Option Nat) (v1 : Int32) (v2 : Int32) (v3 : Int32) (v4 : Int32) (v5 : Int32) (M : zzM) : Prop := k51 v0 v1 v2 v3 v4 (v5 + 1) M
def wp_X4_advise_L51 (Z : zzG) (K : Option Value → zzM → Prop) : Nat → Option Nat → Int32 → Int32 → Int32 → Int32 → Int32 → zzM → Prop
  | 0, _, _, _, _, _, _, _ => False
  | n + 1, v0, v1, v2, v3, v4, v5, M => zgA Z M v0 [16] 11 fun x28 => zgI Z M x28 [17] 3 fun x29 => if x29 ≤ v5 then (zput Z M v0 [16] 20 (.int (-1 : Int32)) fun M30 => K (some (.int v4)) M30) else (zgA Z M v0 [16] 11 fun x31 => zgA Z M x31 [17] 6 fun x32 => zaI Z M x32 [100] v5 fun x33 => if x33 = v1 then (wp_X4_advise_B136 Z (wp_X4_advise_L51 Z K n) K v0 v1 v2 v3 v4 v5 M) else (zty Z M v0 fun t => t = 16 ∧ wp_X4_leastOf Z v0 v5 M (fun r34 M35 => zrI r34 fun x38 => if x38 ≤ v2 then (zput Z M35 v0 [16] 20 (.int v5) fun M39 => zgA Z M39 v0 [16] 16 fun x40 => zgA Z M39 v0 [16] 17 fun x41 => zty Z M39 v0 fun t => t = 16 ∧ wp_X4_stand Z v0 x40 x41 M39 (fun r42 M43 => zrI r42 fun x46 => zgA Z M43 v0 [16] 16 fun x47 => zty Z M43 v0 fun t => t = 16 ∧ wp_X4_lead Z v0 v1 x47 M43 (fun r48 M49 => zrI r48 fun x52 => if v3 < x52 then (wp_X4_advise_B136 Z (wp_X4_advise_L51 Z K n) K v0 v1 v2 x52 v5 v5 M49) else (wp_X4_advise_B136 Z (wp_X4_advise_L51 Z K n) K v0 v1 v2 v3 v4 v5 M49)))) else (wp_X4_advise_B136 Z (wp_X4_advise_L51 Z K n) K v0 v1 v2 v3 v4 v5 M35))))
def wp_X4_advise (Z : zzG) (this : Option Nat) (p0 : Int32) (p1 : Int32) (M : zzM) (K : Option Value → zzM → Prop) : Prop := zput Z M this [16] 0 (.int (0 : Int32)) fun M1 => zty Z M1 this fun t => t = 16 ∧ wp_X4_isSpeaker Z this p0 M1 (fun r2 M3 => zrI r2 fun x6 => if x6 = 0 then (zty Z M3 this fun t => t = 16 ∧ wp_X4_no Z this (1 : Int32) M3 (fun r23 M24 => zrI r23 fun x27 => K (some (.int x27)) M24)) else (wp_X4_isIn Z p1 (1 : Int32) (50 : Int32) M3 (fun r7 M8 => zrI r7 fun x11 => if x11 = 0 then (zty Z M8 this fun t => t = 16 ∧ wp_X4_no Z this (2 : Int32) M8 (fun r18 M19 => zrI r18 fun x22 => K (some (.int x22)) M19)) else (zgA Z M8 this [16] 13 fun x12 => zty Z M8 this fun t => t = 16 ∧ wp_X4_lead Z this p0 x12 M8 (fun r13 M14 => zrI r13 fun x17 => ∃ n51 : Nat, wp_X4_advise_L51 Z K n51 this p0 p1 x17 (-1 : Int32) (0 : Int32) M14)))))
theorem ok_X4_advise_B136 {G : zzX} (C : zz_C G cX4_advise "DebateHallModel" 7) {K : Option Value → zzM → Prop} (E : zz_E G (some .int) K (fun _ _ _ => False)) (hH : zz_H G []) (hR : zz_Rm G 4) {k51 : Option Nat → Int32 → Int32 → Int32 → Int32 → Int32 → zzM → Prop} (hk51 : ∀ (z0 : Option Nat) (z1 : Int32) (z2 : Int32) (z3 : Int32) (z4 : Int32) (z5 : Int32) (M : zzM) (bc bs : Nat), k51 z0 z1 z2 z3 z4 z5 M → zz_T G 7 M bc bs 51 [(0, va_rf z0), (1, .int z1), (2, .int z2), (3, .int z3), (4, .int z4), (5, .int z5)] []) {v0 : Option Nat} {v1 : Int32} {v2 : Int32} {v3 : Int32} {v4 : Int32} {v5 : Int32} {M : zzM} {bc bs : Nat} (hw : wp_X4_advise_B136 (zz_Zof G) k51 K v0 v1 v2 v3 v4 v5 M) : zz_T G 7 M bc bs 136 [(0, va_rf v0), (1, .int v1), (2, .int v2), (3, .int v3), (4, .int v4), (5, .int v5)] [] := by
  unfold wp_X4_advise_B136 at hw
  refine zz_iinc (lv' := [(5, .int (v5 + 1)), (0, va_rf v0), (1, .int v1), (2, .int v2), (3, .int v3), (4, .int v4)]) C dX4_advise_136 5 rfl (by rfl) (by decide) rfl ?_
  refine zz_goto (tgt := 51) C dX4_advise_139 (by decide) ?_
  refine zz_subP [1, 2, 3, 4, 5, 0] rfl ?_
  exact hk51 _ _ _ _ _ _ _ _ _ hw
theorem ok_X4_advise_L51 {G : zzX} (C : zz_C G cX4_advise "DebateHallModel" 7) {K : Option Value → zzM → Prop} (E : zz_E G (some .int) K (fun _ _ _ => False)) (hH : zz_H G []) (hR : zz_Rm G 4) : ∀ (n : Nat) (v0 : Option Nat) (v1 : Int32) (v2 : Int32) (v3 : Int32) (v4 : Int32) (v5 : Int32) (M : zzM) (bc bs : Nat), wp_X4_advise_L51 (zz_Zof G) K n v0 v1 v2 v3 v4 v5 M → zz_T G 7 M bc bs 51 [(0, va_rf v0), (1, .int v1), (2, .int v2), (3, .int v3), (4, .int v4), (5, .int v5)] [] := by
  intro n
  induction n with
  | zero =>
    intro v0 v1 v2 v3 v4 v5 M bc bs hw
    exact False.elim hw
  | succ n ih =>
    intro v0 v1 v2 v3 v4 v5 M bc bs hw
    refine zz_iload C dX4_advise_51 5 rfl ?_
    refine zz_aload_n C dX4_advise_53 rfl 0 rfl ?_
    refine zz_getA C dX4_advise_54 (Or.inl q2447) zf_16_11_ebateHallModel hw (fun x28 hw => ?_)
    refine zz_getI C dX4_advise_57 (Or.inr ⟨_, q2394⟩) zf_17_3_allModel_State hw (fun x29 hw => ?_)
    refine zz_icmp_ge (tgt := 142) C dX4_advise_60 (by decide) hw (fun hw => ?_) (fun hw => ?_)
    · refine zz_aload_n C dX4_advise_142 rfl 0 rfl ?_
      refine zz_iconst (v := (-1 : Int32)) C dX4_advise_143 (by decide) ?_
      refine zz_put C dX4_advise_144 (Or.inl q2456) zf_16_20_ebateHallModel zp_16_20 (zz_hn1 ⟨rfl, rfl⟩) hw (fun M30 hw => ?_)
      refine zz_iload C dX4_advise_147 4 rfl ?_
      exact zz_iret C E dX4_advise_149 hw
    · refine zz_aload_n C dX4_advise_63 rfl 0 rfl ?_
      refine zz_getA C dX4_advise_64 (Or.inl q2447) zf_16_11_ebateHallModel hw (fun x31 hw => ?_)
      refine zz_getA C dX4_advise_67 (Or.inr ⟨_, q2400⟩) zf_17_6_allModel_State hw (fun x32 hw => ?_)
      refine zz_iload C dX4_advise_70 5 rfl ?_
      refine zz_iald C dX4_advise_72 hw (fun x33 hw => ?_)
      refine zz_iload_n C dX4_advise_73 rfl 1 rfl ?_
      refine zz_icmp_eq (tgt := 136) C dX4_advise_74 (by decide) hw (fun hw => ?_) (fun hw => ?_)
      · refine zz_subP [0, 1, 2, 3, 4, 5] rfl ?_
        exact ok_X4_advise_B136 C E hH hR (fun z0 z1 z2 z3 z4 z5 z6 z7 z8 hw => ih z0 z1 z2 z3 z4 z5 z6 z7 z8 hw) hw
      · refine zz_aload_n C dX4_advise_77 rfl 0 rfl ?_
        refine zz_iload C dX4_advise_78 5 rfl ?_
        obtain ⟨a9, t9, b9, fs9, hro, hL, rfl, hw⟩ := ztyS hw
        refine zz_callV (r := (zR_16, zT_16, 24)) (As := [.int v5]) (rest := []) (mc := 0) (ms := 0) C hR hro dX4_advise_80 (Or.inl q2814) q2816 (Or.inl qs75) zl_DebateHallModel zk_X4_leastOf (Or.inl rfl) zy_X4_leastOf rfl (by decide) (by decide) hL (ok_X4_leastOf (zz_hl C) hw) (Nat.zero_le _) (Nat.zero_le _) (zz_cat10 _ (Nat.le_of_ble_eq_true rfl)) (fun r34 M35 hw => zz_kI hw (fun x38 hw => ?_)) (fun _ _ _ h9 => h9.elim) rfl
        refine zz_iload_n C dX4_advise_83 rfl 2 rfl ?_
        refine zz_icmp_le (tgt := 90) C dX4_advise_84 (by decide) hw (fun hw => ?_) (fun hw => ?_)
        · refine zz_aload_n C dX4_advise_90 rfl 0 rfl ?_
          refine zz_iload C dX4_advise_91 5 rfl ?_
          refine zz_put C dX4_advise_93 (Or.inl q2456) zf_16_20_ebateHallModel zp_16_20 (zz_hn1 ⟨rfl, rfl⟩) hw (fun M39 hw => ?_)
          refine zz_aload_n C dX4_advise_96 rfl 0 rfl ?_
          refine zz_aload_n C dX4_advise_97 rfl 0 rfl ?_
          refine zz_getA C dX4_advise_98 (Or.inl q2452) zf_16_16_ebateHallModel hw (fun x40 hw => ?_)
          refine zz_aload_n C dX4_advise_101 rfl 0 rfl ?_
          refine zz_getA C dX4_advise_102 (Or.inl q2453) zf_16_17_ebateHallModel hw (fun x41 hw => ?_)
          obtain ⟨a9, t9, b9, fs9, hro, hL, rfl, hw⟩ := ztyS hw
          refine zz_callV (r := (zR_16, zT_16, 24)) (As := [va_rf x40, va_rf x41]) (rest := []) (mc := 0) (ms := 0) C hR hro dX4_advise_105 (Or.inl q2688) q2690 (Or.inl qs57) zl_DebateHallModel zk_X4_stand (Or.inl rfl) zy_X4_stand rfl (by decide) (by decide) hL (ok_X4_stand (zz_hl C) hw) (Nat.zero_le _) (Nat.zero_le _) (zz_cat10 _ (Nat.le_of_ble_eq_true rfl)) (fun r42 M43 hw => zz_kI hw (fun x46 hw => ?_)) (fun _ _ _ h9 => h9.elim) rfl
          refine zz_pop C dX4_advise_108 rfl ?_
          refine zz_aload_n C dX4_advise_109 rfl 0 rfl ?_
          refine zz_iload_n C dX4_advise_110 rfl 1 rfl ?_
          refine zz_aload_n C dX4_advise_111 rfl 0 rfl ?_
          refine zz_getA C dX4_advise_112 (Or.inl q2452) zf_16_16_ebateHallModel hw (fun x47 hw => ?_)
          obtain ⟨a9, t9, b9, fs9, hro, hL, rfl, hw⟩ := ztyS hw
          refine zz_callV (r := (zR_16, zT_16, 24)) (As := [.int v1, va_rf x47]) (rest := []) (mc := 0) (ms := 0) C hR hro dX4_advise_115 (Or.inl q2748) q2750 (Or.inl qs68) zl_DebateHallModel zk_X4_lead (Or.inl rfl) zy_X4_lead rfl (by decide) (by decide) hL (ok_X4_lead (zz_hl C) hw) (Nat.zero_le _) (Nat.zero_le _) (zz_cat10 _ (Nat.le_of_ble_eq_true rfl)) (fun r48 M49 hw => zz_kI hw (fun x52 hw => ?_)) (fun _ _ _ h9 => h9.elim) rfl
          refine zz_istore (lv' := [(6, .int x52), (0, va_rf v0), (1, .int v1), (2, .int v2), (3, .int v3), (4, .int v4), (5, .int v5)]) C dX4_advise_118 (by decide) rfl ?_
          refine zz_iload C dX4_advise_120 0 rfl ?_
          refine zz_iload_n C dX4_advise_122 rfl 4 rfl ?_
          refine zz_icmp_gt (tgt := 129) C dX4_advise_123 (by decide) hw (fun hw => ?_) (fun hw => ?_)
          · refine zz_iload C dX4_advise_129 0 rfl ?_
            refine zz_istore_n (i := 3) (lv' := [(3, .int x52), (6, .int x52), (0, va_rf v0), (1, .int v1), (2, .int v2), (4, .int v4), (5, .int v5)]) C dX4_advise_131 rfl (by decide) rfl ?_
            refine zz_iload C dX4_advise_132 6 rfl ?_
            refine zz_istore (lv' := [(4, .int v5), (3, .int x52), (6, .int x52), (0, va_rf v0), (1, .int v1), (2, .int v2), (5, .int v5)]) C dX4_advise_134 (by decide) rfl ?_
            refine zz_subP [3, 4, 5, 1, 0, 6] rfl ?_
            exact ok_X4_advise_B136 C E hH hR (fun z0 z1 z2 z3 z4 z5 z6 z7 z8 hw => ih z0 z1 z2 z3 z4 z5 z6 z7 z8 hw) hw
          · refine zz_goto (tgt := 136) C dX4_advise_126 (by decide) ?_
            refine zz_subP [1, 2, 3, 4, 5, 6] rfl ?_
            exact ok_X4_advise_B136 C E hH hR (fun z0 z1 z2 z3 z4 z5 z6 z7 z8 hw => ih z0 z1 z2 z3 z4 z5 z6 z7 z8 hw) hw
        · refine zz_goto (tgt := 136) C dX4_advise_87 (by decide) ?_
          refine zz_subP [0, 1, 2, 3, 4, 5] rfl ?_
          exact ok_X4_advise_B136 C E hH hR (fun z0 z1 z2 z3 z4 z5 z6 z7 z8 hw => ih z0 z1 z2 z3 z4 z5 z6 z7 z8 hw) hw
theorem ok_X4_advise {Z : zzG} {l : Launch} (hl : l.stackTraces = false) {this : Option Nat} {p0 : Int32} {p1 : Int32} {M : zzM} {mc ms : Nat} {K : Option Value → zzM → Prop} (hw : wp_X4_advise Z this p0 p1 M K) : zz_Met Z l yX4_advise (zz_ws yX4_advise cX4_advise 7 (some .int) none) 4 [va_rf this, .int p0, .int p1] M mc ms K (fun _ _ _ => False) := by
  refine zz_ofW hl (plainFor_of_name (by decide)) (by simp only [zz_sl0, zz_slI, zz_slJ, zz_slA] <;> decide) (fun G hZ hll C E hH hR hin => ?_)
  subst hZ
  subst hll
  rw [show lv_args 0 [va_rf this, .int p0, .int p1] = [(0, va_rf this), (1, .int p0), (2, .int p1)] by simp only [zz_la0, zz_laI, zz_laJ, zz_laA]]
  unfold wp_X4_advise at hw
  refine zz_aload_n C dX4_advise_0 rfl 0 rfl ?_
  refine zz_iconst (v := (0 : Int32)) C dX4_advise_1 (by decide) ?_
  refine zz_put C dX4_advise_2 (Or.inl q2436) zf_16_0_ebateHallModel zp_16_0 (zz_hn1 ⟨rfl, rfl⟩) hw (fun M1 hw => ?_)
  refine zz_aload_n C dX4_advise_5 rfl 0 rfl ?_
  refine zz_iload_n C dX4_advise_6 rfl 1 rfl ?_
  obtain ⟨a9, t9, b9, fs9, hro, hL, rfl, hw⟩ := ztyS hw
  refine zz_callV (r := (zR_16, zT_16, 24)) (As := [.int p0]) (rest := []) (mc := 0) (ms := 0) C hR hro dX4_advise_7 (Or.inl q2736) q2738 (Or.inl qs65) zl_DebateHallModel zk_X4_isSpeaker (Or.inl rfl) zy_X4_isSpeaker rfl (by decide) (by decide) hL (ok_X4_isSpeaker (zz_hl C) hw) (Nat.zero_le _) (Nat.zero_le _) (zz_cat10 _ (Nat.le_of_ble_eq_true rfl)) (fun r2 M3 hw => zz_kI hw (fun x6 hw => ?_)) (fun _ _ _ h9 => h9.elim) rfl
  refine zz_if_ne (tgt := 19) C dX4_advise_10 (by decide) hw (fun hw => ?_) (fun hw => ?_)
  · refine zz_iload_n C dX4_advise_19 rfl 2 rfl ?_
    refine zz_iconst (v := (1 : Int32)) C dX4_advise_20 (by decide) ?_
    refine zz_bipush (v := (50 : Int32)) C dX4_advise_21 (by decide) ?_
    refine zz_callS (As := [.int p1, .int (1 : Int32), .int (50 : Int32)]) (rest := []) (mc := 0) (ms := 0) C hR dX4_advise_23 (Or.inl q2525) q2526 zl_DebateHallModel zk_X4_isIn (Or.inl rfl) zy_X4_isIn (by decide) (by decide) (ok_X4_isIn (zz_hl C) hw) (Nat.zero_le _) (Nat.zero_le _) (zz_cat10 _ (Nat.le_of_ble_eq_true rfl)) (fun r7 M8 hw => zz_kI hw (fun x11 hw => ?_)) (fun _ _ _ h9 => h9.elim) rfl
    refine zz_if_ne (tgt := 35) C dX4_advise_26 (by decide) hw (fun hw => ?_) (fun hw => ?_)
    · refine zz_aload_n C dX4_advise_35 rfl 0 rfl ?_
      refine zz_iload_n C dX4_advise_36 rfl 1 rfl ?_
      refine zz_aload_n C dX4_advise_37 rfl 0 rfl ?_
      refine zz_getA C dX4_advise_38 (Or.inl q2449) zf_16_13_ebateHallModel hw (fun x12 hw => ?_)
      obtain ⟨a9, t9, b9, fs9, hro, hL, rfl, hw⟩ := ztyS hw
      refine zz_callV (r := (zR_16, zT_16, 24)) (As := [.int p0, va_rf x12]) (rest := []) (mc := 0) (ms := 0) C hR hro dX4_advise_41 (Or.inl q2748) q2750 (Or.inl qs68) zl_DebateHallModel zk_X4_lead (Or.inl rfl) zy_X4_lead rfl (by decide) (by decide) hL (ok_X4_lead (zz_hl C) hw) (Nat.zero_le _) (Nat.zero_le _) (zz_cat10 _ (Nat.le_of_ble_eq_true rfl)) (fun r13 M14 hw => zz_kI hw (fun x17 hw => ?_)) (fun _ _ _ h9 => h9.elim) rfl
      refine zz_istore_n (i := 3) (lv' := [(3, .int x17), (0, va_rf this), (1, .int p0), (2, .int p1)]) C dX4_advise_44 rfl (by decide) rfl ?_
      refine zz_iconst (v := (-1 : Int32)) C dX4_advise_45 (by decide) ?_
      refine zz_istore (lv' := [(4, .int (-1 : Int32)), (3, .int x17), (0, va_rf this), (1, .int p0), (2, .int p1)]) C dX4_advise_46 (by decide) rfl ?_
      refine zz_iconst (v := (0 : Int32)) C dX4_advise_48 (by decide) ?_
      refine zz_istore (lv' := [(5, .int (0 : Int32)), (4, .int (-1 : Int32)), (3, .int x17), (0, va_rf this), (1, .int p0), (2, .int p1)]) C dX4_advise_49 (by decide) rfl ?_
      refine zz_subP [3, 4, 5, 2, 1, 0] rfl ?_
      obtain ⟨n51, hw⟩ := hw
      exact ok_X4_advise_L51 C E hH hR n51 _ _ _ _ _ _ _ _ _ hw
    · refine zz_aload_n C dX4_advise_29 rfl 0 rfl ?_
      refine zz_iconst (v := (2 : Int32)) C dX4_advise_30 (by decide) ?_
      obtain ⟨a9, t9, b9, fs9, hro, hL, rfl, hw⟩ := ztyS hw
      refine zz_callV (r := (zR_16, zT_16, 24)) (As := [.int (2 : Int32)]) (rest := []) (mc := 0) (ms := 0) C hR hro dX4_advise_31 (Or.inl q2517) q2519 (Or.inl qs32) zl_DebateHallModel zk_X4_no (Or.inl rfl) zy_X4_no rfl (by decide) (by decide) hL (ok_X4_no (zz_hl C) hw) (Nat.zero_le _) (Nat.zero_le _) (zz_cat10 _ (Nat.le_of_ble_eq_true rfl)) (fun r18 M19 hw => zz_kI hw (fun x22 hw => ?_)) (fun _ _ _ h9 => h9.elim) rfl
      exact zz_iret C E dX4_advise_34 hw
  · refine zz_aload_n C dX4_advise_13 rfl 0 rfl ?_
    refine zz_iconst (v := (1 : Int32)) C dX4_advise_14 (by decide) ?_
    obtain ⟨a9, t9, b9, fs9, hro, hL, rfl, hw⟩ := ztyS hw
    refine zz_callV (r := (zR_16, zT_16, 24)) (As := [.int (1 : Int32)]) (rest := []) (mc := 0) (ms := 0) C hR hro dX4_advise_15 (Or.inl q2517) q2519 (Or.inl qs32) zl_DebateHallModel zk_X4_no (Or.inl rfl) zy_X4_no rfl (by decide) (by decide) hL (ok_X4_no (zz_hl C) hw) (Nat.zero_le _) (Nat.zero_le _) (zz_cat10 _ (Nat.le_of_ble_eq_true rfl)) (fun r23 M24 hw => zz_kI hw (fun x27 hw => ?_)) (fun _ _ _ h9 => h9.elim) rfl
    exact zz_iret C E dX4_advise_18 hw
abbrev cX1_leadWith : ByteArray := prog_1_method_25_code
def yX1_leadWith : MethodName := ⟨"DebateHall", "leadWith", "(LDebateHall$Item;I)I"⟩
def dkwX1_leadWith_1 : List UInt8 := [43, 29, 181, 0, 146, 42, 180, 0, 36, 1, 182, 0, 126, 87, 21, 4, 172]
abbrev dktX1_leadWith_1 : List UInt8 := dkwX1_leadWith_1 ++ []
def dkwX1_leadWith_0 : List UInt8 := [43, 180, 0, 146, 62, 43, 4, 181, 0, 146, 42, 180, 0, 36, 1, 182, 0, 126, 28, 182, 0, 186, 54, 4]
abbrev dktX1_leadWith_0 : List UInt8 := dkwX1_leadWith_0 ++ dktX1_leadWith_1
theorem dksX1_leadWith_0 : cX1_leadWith.data.toList.drop 0 = dktX1_leadWith_0 := by decide +kernel
theorem dksX1_leadWith_1 : cX1_leadWith.data.toList.drop 24 = dktX1_leadWith_1 := dk_seg dksX1_leadWith_0 24 rfl rfl
theorem dX1_leadWith_0 : decode cX1_leadWith 0 = .ok (.aload_n 1, 1) := dk_43 (dk_at dksX1_leadWith_0 0 rfl rfl)
theorem dX1_leadWith_1 : decode cX1_leadWith 1 = .ok (.getfield 146, 3) := dk_180 0 146 (dk_at dksX1_leadWith_0 1 rfl rfl)
theorem dX1_leadWith_4 : decode cX1_leadWith 4 = .ok (.istore_n 3, 1) := dk_62 (dk_at dksX1_leadWith_0 4 rfl rfl)
theorem dX1_leadWith_5 : decode cX1_leadWith 5 = .ok (.aload_n 1, 1) := dk_43 (dk_at dksX1_leadWith_0 5 rfl rfl)
theorem dX1_leadWith_6 : decode cX1_leadWith 6 = .ok (.iconst 1, 1) := dk_4 (dk_at dksX1_leadWith_0 6 rfl rfl)
theorem dX1_leadWith_7 : decode cX1_leadWith 7 = .ok (.putfield 146, 3) := dk_181 0 146 (dk_at dksX1_leadWith_0 7 rfl rfl)
theorem dX1_leadWith_10 : decode cX1_leadWith 10 = .ok (.aload_n 0, 1) := dk_42 (dk_at dksX1_leadWith_0 10 rfl rfl)
theorem dX1_leadWith_11 : decode cX1_leadWith 11 = .ok (.getfield 36, 3) := dk_180 0 36 (dk_at dksX1_leadWith_0 11 rfl rfl)
theorem dX1_leadWith_14 : decode cX1_leadWith 14 = .ok (.aconst_null, 1) := dk_1 (dk_at dksX1_leadWith_0 14 rfl rfl)
theorem dX1_leadWith_15 : decode cX1_leadWith 15 = .ok (.invokevirtual 126, 3) := dk_182 0 126 (dk_at dksX1_leadWith_0 15 rfl rfl)
theorem dX1_leadWith_18 : decode cX1_leadWith 18 = .ok (.iload_n 2, 1) := dk_28 (dk_at dksX1_leadWith_0 18 rfl rfl)
theorem dX1_leadWith_19 : decode cX1_leadWith 19 = .ok (.invokevirtual 186, 3) := dk_182 0 186 (dk_at dksX1_leadWith_0 19 rfl rfl)
theorem dX1_leadWith_22 : decode cX1_leadWith 22 = .ok (.istore 4, 2) := dk_54 4 (dk_at dksX1_leadWith_0 22 rfl rfl)
theorem dX1_leadWith_24 : decode cX1_leadWith 24 = .ok (.aload_n 1, 1) := dk_43 (dk_at dksX1_leadWith_1 0 rfl rfl)
theorem dX1_leadWith_25 : decode cX1_leadWith 25 = .ok (.iload_n 3, 1) := dk_29 (dk_at dksX1_leadWith_1 1 rfl rfl)
theorem dX1_leadWith_26 : decode cX1_leadWith 26 = .ok (.putfield 146, 3) := dk_181 0 146 (dk_at dksX1_leadWith_1 2 rfl rfl)
theorem dX1_leadWith_29 : decode cX1_leadWith 29 = .ok (.aload_n 0, 1) := dk_42 (dk_at dksX1_leadWith_1 5 rfl rfl)
theorem dX1_leadWith_30 : decode cX1_leadWith 30 = .ok (.getfield 36, 3) := dk_180 0 36 (dk_at dksX1_leadWith_1 6 rfl rfl)
theorem dX1_leadWith_33 : decode cX1_leadWith 33 = .ok (.aconst_null, 1) := dk_1 (dk_at dksX1_leadWith_1 9 rfl rfl)
theorem dX1_leadWith_34 : decode cX1_leadWith 34 = .ok (.invokevirtual 126, 3) := dk_182 0 126 (dk_at dksX1_leadWith_1 10 rfl rfl)
theorem dX1_leadWith_37 : decode cX1_leadWith 37 = .ok (.pop, 1) := dk_87 (dk_at dksX1_leadWith_1 13 rfl rfl)
theorem dX1_leadWith_38 : decode cX1_leadWith 38 = .ok (.iload 4, 2) := dk_21 4 (dk_at dksX1_leadWith_1 14 rfl rfl)
theorem dX1_leadWith_40 : decode cX1_leadWith 40 = .ok (.ireturn, 1) := dk_172 (dk_at dksX1_leadWith_1 16 rfl rfl)
def wp_X1_leadWith (Z : zzG) (this : Option Nat) (p0 : Option Nat) (p1 : Int32) (M : zzM) (K : Option Value → zzM → Prop) : Prop := zgI Z M p0 [15] 7 fun x1 => zfit .boolean (1 : Int32) ∧ zput Z M p0 [15] 7 (.int (1 : Int32)) fun M2 => zgA Z M2 this [0] 2 fun x3 => zty Z M2 x3 fun t => t = 2 ∧ wp_X3_settle Z x3 none M2 (fun r4 M5 => zrA r4 fun x8 => zty Z M5 x8 fun t => t = 2 ∧ wp_X3_lead Z x8 p1 M5 (fun r9 M10 => zrI r9 fun x13 => zfit .boolean x1 ∧ zput Z M10 p0 [15] 7 (.int x1) fun M14 => zgA Z M14 this [0] 2 fun x15 => zty Z M14 x15 fun t => t = 2 ∧ wp_X3_settle Z x15 none M14 (fun r16 M17 => zrA r16 fun x20 => K (some (.int x13)) M17)))
theorem ok_X1_leadWith {Z : zzG} {l : Launch} (hl : l.stackTraces = false) {this : Option Nat} {p0 : Option Nat} {p1 : Int32} {M : zzM} {mc ms : Nat} {K : Option Value → zzM → Prop} (hw : wp_X1_leadWith Z this p0 p1 M K) : zz_Met Z l yX1_leadWith (zz_ws yX1_leadWith cX1_leadWith 5 (some .int) none) 8 [va_rf this, va_rf p0, .int p1] M mc ms K (fun _ _ _ => False) := by
  refine zz_ofW hl (plainFor_of_name (by decide)) (by simp only [zz_sl0, zz_slI, zz_slJ, zz_slA] <;> decide) (fun G hZ hll C E hH hR hin => ?_)
  subst hZ
  subst hll
  rw [show lv_args 0 [va_rf this, va_rf p0, .int p1] = [(0, va_rf this), (1, va_rf p0), (2, .int p1)] by simp only [zz_la0, zz_laI, zz_laJ, zz_laA]]
  unfold wp_X1_leadWith at hw
  refine zz_aload_n C dX1_leadWith_0 rfl 1 rfl ?_
  refine zz_getI C dX1_leadWith_1 (Or.inr ⟨_, q1763⟩) zf_15_7_ebateHall_Item hw (fun x1 hw => ?_)
  refine zz_istore_n (i := 3) (lv' := [(3, .int x1), (0, va_rf this), (1, va_rf p0), (2, .int p1)]) C dX1_leadWith_4 rfl (by decide) rfl ?_
  refine zz_aload_n C dX1_leadWith_5 rfl 2 rfl ?_
  refine zz_iconst (v := (1 : Int32)) C dX1_leadWith_6 (by decide) ?_
  obtain ⟨hfit, hw⟩ := hw
  refine zz_put C dX1_leadWith_7 (Or.inr ⟨_, q1763⟩) zf_15_7_ebateHall_Item zp_15_7 (zz_hn1 hfit) hw (fun M2 hw => ?_)
  refine zz_aload_n C dX1_leadWith_10 rfl 1 rfl ?_
  refine zz_getA C dX1_leadWith_11 (Or.inl q305) zf_0_2_DebateHall hw (fun x3 hw => ?_)
  refine zz_null C dX1_leadWith_14 ?_
  obtain ⟨a9, t9, b9, fs9, hro, hL, rfl, hw⟩ := ztyS hw
  refine zz_callV (r := (zR_2, zT_2, 8)) (As := [va_rf none]) (rest := []) (mc := 0) (ms := 0) C hR hro dX1_leadWith_15 (Or.inl q2008) q1930 (Or.inl q1931) zl_DebateHall_Minutes zk_X3_settle (Or.inl rfl) zy_X3_settle rfl (by decide) (by decide) hL (ok_X3_settle (zz_hl C) hw) (Nat.zero_le _) (Nat.zero_le _) (zz_cat10 _ (Nat.le_of_ble_eq_true rfl)) (fun r4 M5 hw => zz_kA hw (fun x8 hw => ?_)) (fun _ _ _ h9 => h9.elim) rfl
  refine zz_iload_n C dX1_leadWith_18 rfl 3 rfl ?_
  obtain ⟨a9, t9, b9, fs9, hro, hL, rfl, hw⟩ := ztyS hw
  refine zz_callV (r := (zR_2, zT_2, 8)) (As := [.int p1]) (rest := []) (mc := 0) (ms := 0) C hR hro dX1_leadWith_19 (Or.inl q2167) q2168 (Or.inl q2169) zl_DebateHall_Minutes zk_X3_lead (Or.inl rfl) zy_X3_lead rfl (by decide) (by decide) hL (ok_X3_lead (zz_hl C) hw) (Nat.zero_le _) (Nat.zero_le _) (zz_cat10 _ (Nat.le_of_ble_eq_true rfl)) (fun r9 M10 hw => zz_kI hw (fun x13 hw => ?_)) (fun _ _ _ h9 => h9.elim) rfl
  refine zz_istore (lv' := [(4, .int x13), (3, .int x1), (0, va_rf this), (1, va_rf p0), (2, .int p1)]) C dX1_leadWith_22 (by decide) rfl ?_
  refine zz_aload_n C dX1_leadWith_24 rfl 3 rfl ?_
  refine zz_iload_n C dX1_leadWith_25 rfl 1 rfl ?_
  obtain ⟨hfit, hw⟩ := hw
  refine zz_put C dX1_leadWith_26 (Or.inr ⟨_, q1763⟩) zf_15_7_ebateHall_Item zp_15_7 (zz_hn1 hfit) hw (fun M14 hw => ?_)
  refine zz_aload_n C dX1_leadWith_29 rfl 2 rfl ?_
  refine zz_getA C dX1_leadWith_30 (Or.inl q305) zf_0_2_DebateHall hw (fun x15 hw => ?_)
  refine zz_null C dX1_leadWith_33 ?_
  obtain ⟨a9, t9, b9, fs9, hro, hL, rfl, hw⟩ := ztyS hw
  refine zz_callV (r := (zR_2, zT_2, 8)) (As := [va_rf none]) (rest := []) (mc := 0) (ms := 0) C hR hro dX1_leadWith_34 (Or.inl q2008) q1930 (Or.inl q1931) zl_DebateHall_Minutes zk_X3_settle (Or.inl rfl) zy_X3_settle rfl (by decide) (by decide) hL (ok_X3_settle (zz_hl C) hw) (Nat.zero_le _) (Nat.zero_le _) (zz_cat10 _ (Nat.le_of_ble_eq_true rfl)) (fun r16 M17 hw => zz_kA hw (fun x20 hw => ?_)) (fun _ _ _ h9 => h9.elim) rfl
  refine zz_pop C dX1_leadWith_37 (zz_cat _) ?_
  refine zz_iload C dX1_leadWith_38 0 rfl ?_
  exact zz_iret C E dX1_leadWith_40 hw
abbrev cX1_concede : ByteArray := prog_1_method_27_code
def yX1_concede : MethodName := ⟨"DebateHall", "concede", "(I)I"⟩
def dkwX1_concede_4 : List UInt8 := [172]
abbrev dktX1_concede_4 : List UInt8 := dkwX1_concede_4 ++ []
def dkwX1_concede_3 : List UInt8 := [54, 6, 21, 6, 29, 163, 0, 6, 167, 255, 207, 25, 5, 180, 0, 215, 61, 21, 6, 62, 167, 255, 195, 28]
abbrev dktX1_concede_3 : List UInt8 := dkwX1_concede_3 ++ dktX1_concede_4
def dkwX1_concede_2 : List UInt8 := [192, 0, 68, 58, 5, 25, 5, 180, 0, 143, 27, 159, 0, 6, 167, 255, 225, 42, 25, 5, 27, 182, 0, 249]
abbrev dktX1_concede_2 : List UInt8 := dkwX1_concede_2 ++ dktX1_concede_3
def dkwX1_concede_1 : List UInt8 := [182, 0, 138, 58, 4, 25, 4, 185, 0, 110, 1, 0, 153, 0, 57, 25, 4, 185, 0, 116, 1, 0]
abbrev dktX1_concede_1 : List UInt8 := dkwX1_concede_1 ++ dktX1_concede_2
def dkwX1_concede_0 : List UInt8 := [42, 27, 182, 0, 189, 2, 61, 42, 180, 0, 36, 27, 182, 0, 186, 62, 42, 180, 0, 36, 180, 0, 61]
abbrev dktX1_concede_0 : List UInt8 := dkwX1_concede_0 ++ dktX1_concede_1
theorem dksX1_concede_0 : cX1_concede.data.toList.drop 0 = dktX1_concede_0 := by decide +kernel
theorem dksX1_concede_1 : cX1_concede.data.toList.drop 23 = dktX1_concede_1 := dk_seg dksX1_concede_0 23 rfl rfl
theorem dksX1_concede_2 : cX1_concede.data.toList.drop 45 = dktX1_concede_2 := dk_seg dksX1_concede_1 22 rfl rfl
theorem dksX1_concede_3 : cX1_concede.data.toList.drop 69 = dktX1_concede_3 := dk_seg dksX1_concede_2 24 rfl rfl
theorem dksX1_concede_4 : cX1_concede.data.toList.drop 93 = dktX1_concede_4 := dk_seg dksX1_concede_3 24 rfl rfl
theorem dX1_concede_0 : decode cX1_concede 0 = .ok (.aload_n 0, 1) := dk_42 (dk_at dksX1_concede_0 0 rfl rfl)
theorem dX1_concede_1 : decode cX1_concede 1 = .ok (.iload_n 1, 1) := dk_27 (dk_at dksX1_concede_0 1 rfl rfl)
theorem dX1_concede_2 : decode cX1_concede 2 = .ok (.invokevirtual 189, 3) := dk_182 0 189 (dk_at dksX1_concede_0 2 rfl rfl)
theorem dX1_concede_5 : decode cX1_concede 5 = .ok (.iconst (-1), 1) := dk_2 (dk_at dksX1_concede_0 5 rfl rfl)
theorem dX1_concede_6 : decode cX1_concede 6 = .ok (.istore_n 2, 1) := dk_61 (dk_at dksX1_concede_0 6 rfl rfl)
theorem dX1_concede_7 : decode cX1_concede 7 = .ok (.aload_n 0, 1) := dk_42 (dk_at dksX1_concede_0 7 rfl rfl)
theorem dX1_concede_8 : decode cX1_concede 8 = .ok (.getfield 36, 3) := dk_180 0 36 (dk_at dksX1_concede_0 8 rfl rfl)
theorem dX1_concede_11 : decode cX1_concede 11 = .ok (.iload_n 1, 1) := dk_27 (dk_at dksX1_concede_0 11 rfl rfl)
theorem dX1_concede_12 : decode cX1_concede 12 = .ok (.invokevirtual 186, 3) := dk_182 0 186 (dk_at dksX1_concede_0 12 rfl rfl)
theorem dX1_concede_15 : decode cX1_concede 15 = .ok (.istore_n 3, 1) := dk_62 (dk_at dksX1_concede_0 15 rfl rfl)
theorem dX1_concede_16 : decode cX1_concede 16 = .ok (.aload_n 0, 1) := dk_42 (dk_at dksX1_concede_0 16 rfl rfl)
theorem dX1_concede_17 : decode cX1_concede 17 = .ok (.getfield 36, 3) := dk_180 0 36 (dk_at dksX1_concede_0 17 rfl rfl)
theorem dX1_concede_20 : decode cX1_concede 20 = .ok (.getfield 61, 3) := dk_180 0 61 (dk_at dksX1_concede_0 20 rfl rfl)
theorem dX1_concede_23 : decode cX1_concede 23 = .ok (.invokevirtual 138, 3) := dk_182 0 138 (dk_at dksX1_concede_1 0 rfl rfl)
theorem dX1_concede_26 : decode cX1_concede 26 = .ok (.astore 4, 2) := dk_58 4 (dk_at dksX1_concede_1 3 rfl rfl)
theorem dX1_concede_28 : decode cX1_concede 28 = .ok (.aload 4, 2) := dk_25 4 (dk_at dksX1_concede_1 5 rfl rfl)
theorem dX1_concede_30 : decode cX1_concede 30 = .ok (.invokeinterface 110 1, 5) := by decide +kernel
theorem dX1_concede_35 : decode cX1_concede 35 = .ok (.ifCond .eq 57, 3) := dk_153 0 57 (dk_at dksX1_concede_1 12 rfl rfl)
theorem dX1_concede_38 : decode cX1_concede 38 = .ok (.aload 4, 2) := dk_25 4 (dk_at dksX1_concede_1 15 rfl rfl)
theorem dX1_concede_40 : decode cX1_concede 40 = .ok (.invokeinterface 116 1, 5) := by decide +kernel
theorem dX1_concede_45 : decode cX1_concede 45 = .ok (.checkcast 68, 3) := dk_192 0 68 (dk_at dksX1_concede_2 0 rfl rfl)
theorem dX1_concede_48 : decode cX1_concede 48 = .ok (.astore 5, 2) := dk_58 5 (dk_at dksX1_concede_2 3 rfl rfl)
theorem dX1_concede_50 : decode cX1_concede 50 = .ok (.aload 5, 2) := dk_25 5 (dk_at dksX1_concede_2 5 rfl rfl)
theorem dX1_concede_52 : decode cX1_concede 52 = .ok (.getfield 143, 3) := dk_180 0 143 (dk_at dksX1_concede_2 7 rfl rfl)
theorem dX1_concede_55 : decode cX1_concede 55 = .ok (.iload_n 1, 1) := dk_27 (dk_at dksX1_concede_2 10 rfl rfl)
theorem dX1_concede_56 : decode cX1_concede 56 = .ok (.if_icmp .eq 6, 3) := dk_159 0 6 (dk_at dksX1_concede_2 11 rfl rfl)
theorem dX1_concede_59 : decode cX1_concede 59 = .ok (.goto (-31), 3) := dk_167 255 225 (dk_at dksX1_concede_2 14 rfl rfl)
theorem dX1_concede_62 : decode cX1_concede 62 = .ok (.aload_n 0, 1) := dk_42 (dk_at dksX1_concede_2 17 rfl rfl)
theorem dX1_concede_63 : decode cX1_concede 63 = .ok (.aload 5, 2) := dk_25 5 (dk_at dksX1_concede_2 18 rfl rfl)
theorem dX1_concede_65 : decode cX1_concede 65 = .ok (.iload_n 1, 1) := dk_27 (dk_at dksX1_concede_2 20 rfl rfl)
theorem dX1_concede_66 : decode cX1_concede 66 = .ok (.invokevirtual 249, 3) := dk_182 0 249 (dk_at dksX1_concede_2 21 rfl rfl)
theorem dX1_concede_69 : decode cX1_concede 69 = .ok (.istore 6, 2) := dk_54 6 (dk_at dksX1_concede_3 0 rfl rfl)
theorem dX1_concede_71 : decode cX1_concede 71 = .ok (.iload 6, 2) := dk_21 6 (dk_at dksX1_concede_3 2 rfl rfl)
theorem dX1_concede_73 : decode cX1_concede 73 = .ok (.iload_n 3, 1) := dk_29 (dk_at dksX1_concede_3 4 rfl rfl)
theorem dX1_concede_74 : decode cX1_concede 74 = .ok (.if_icmp .gt 6, 3) := dk_163 0 6 (dk_at dksX1_concede_3 5 rfl rfl)
theorem dX1_concede_77 : decode cX1_concede 77 = .ok (.goto (-49), 3) := dk_167 255 207 (dk_at dksX1_concede_3 8 rfl rfl)
theorem dX1_concede_80 : decode cX1_concede 80 = .ok (.aload 5, 2) := dk_25 5 (dk_at dksX1_concede_3 11 rfl rfl)
theorem dX1_concede_82 : decode cX1_concede 82 = .ok (.getfield 215, 3) := dk_180 0 215 (dk_at dksX1_concede_3 13 rfl rfl)
theorem dX1_concede_85 : decode cX1_concede 85 = .ok (.istore_n 2, 1) := dk_61 (dk_at dksX1_concede_3 16 rfl rfl)
theorem dX1_concede_86 : decode cX1_concede 86 = .ok (.iload 6, 2) := dk_21 6 (dk_at dksX1_concede_3 17 rfl rfl)
theorem dX1_concede_88 : decode cX1_concede 88 = .ok (.istore_n 3, 1) := dk_62 (dk_at dksX1_concede_3 19 rfl rfl)
theorem dX1_concede_89 : decode cX1_concede 89 = .ok (.goto (-61), 3) := dk_167 255 195 (dk_at dksX1_concede_3 20 rfl rfl)
theorem dX1_concede_92 : decode cX1_concede 92 = .ok (.iload_n 2, 1) := dk_28 (dk_at dksX1_concede_3 23 rfl rfl)
theorem dX1_concede_93 : decode cX1_concede 93 = .ok (.ireturn, 1) := dk_172 (dk_at dksX1_concede_4 0 rfl rfl)
theorem q2330 : (Jvm.Cond.code ({ cls := "DebateHall", name := "leadWith", desc := "(LDebateHall$Item;I)I" } : Jvm.MethodName) prog_1_method_25_code (5 : Nat) (Option.some Jvm.ClassFile.FieldType.int)) ∈ lw_all := lw_g (lw_at lw_m10 90 rfl) rfl
theorem zk_X1_leadWith : zz_cd yX1_leadWith cX1_leadWith 5 (some .int) none ∈ lw_all := q2330
theorem zy_X1_leadWith : zz_yok yX1_leadWith 2 = true := by decide +kernel
theorem q2327 : (Jvm.Cond.methodLink "DebateHall" (249 : Nat) ({ cls := "DebateHall", name := "leadWith", desc := "(LDebateHall$Item;I)I" } : Jvm.MethodName)) ∈ lw_all := lw_g (lw_at lw_m10 87 rfl) rfl
theorem q2329 : (Jvm.Cond.instanceMethod ({ cls := "DebateHall", name := "leadWith", desc := "(LDebateHall$Item;I)I" } : Jvm.MethodName)) ∈ lw_all := lw_g (lw_at lw_m10 89 rfl) rfl
def wp_X1_concede_L28 (Z : zzG) (K : Option Value → zzM → Prop) (X : Nat → Nat → zzM → Prop) : Nat → Option Nat → Int32 → Int32 → Int32 → Option Nat → zzM → Nat → Nat → Prop
  | 0, _, _, _, _, _, _, _, _ => False
  | n + 1, v0, v1, v2, v3, v4, M, bc, bs => zty Z M v4 fun t => t = 23 ∧ wp_J24_hasNext Z v4 M (fun r22 M23 => zrI r22 fun x26 => if x26 = 0 then (K (some (.int v2)) M23) else (zty Z M23 v4 fun t => t = 23 ∧ wp_J24_next Z v4 M23 (fun r27 M28 => zrA r27 fun x31 => zcast Z M28 x31 [15] <| zgI Z M28 x31 [15] 3 fun x32 => if x32 = v1 then (zty Z M28 v0 fun t => t = 0 ∧ wp_X1_leadWith Z v0 x31 v1 M28 (fun r33 M34 => zrI r33 fun x37 => if v3 < x37 then (zgI Z M34 x31 [15] 0 fun x38 => wp_X1_concede_L28 Z K X n v0 v1 x38 x37 v4 M34 bc bs) else (wp_X1_concede_L28 Z K X n v0 v1 v2 v3 v4 M34 bc bs))) else (wp_X1_concede_L28 Z K X n v0 v1 v2 v3 v4 M28 bc bs))))
def wp_X1_concede (Z : zzG) (this : Option Nat) (p0 : Int32) (M : zzM) (bc bs : Nat) (K : Option Value → zzM → Prop) (X : Nat → Nat → zzM → Prop) : Prop := zty Z M this fun t => t = 0 ∧ zcx bc bs (fun c s k x => wp_X1_requireSpeaker Z this p0 M c s k x) (fun r1 M2 bc3 bs4 => zrV r1 (zgA Z M2 this [0] 2 fun x5 => zty Z M2 x5 fun t => t = 2 ∧ wp_X3_lead Z x5 p0 M2 (fun r6 M7 => zrI r6 fun x10 => zgA Z M7 this [0] 2 fun x11 => zgA Z M7 x11 [2] 1 fun x12 => zty Z M7 x12 fun t => t = 18 ∧ zcc bc3 bs4 (fun c s k => wp_J2_iterator Z x12 M7 c s k) fun r13 M14 bc15 bs16 => zrA r13 fun x17 => ∃ n28 : Nat, wp_X1_concede_L28 Z K X n28 this p0 (-1 : Int32) x10 x17 M14 bc15 bs16))) (fun t q M _ _ => X t q M)
theorem ok_X1_concede_L28 {G : zzX} (C : zz_C G cX1_concede "DebateHall" 7) {K : Option Value → zzM → Prop} {X : Nat → Nat → zzM → Prop} (E : zz_E G (some .int) K X) (hH : zz_H G []) (hR : zz_Rm G 9) : ∀ (n : Nat) (v0 : Option Nat) (v1 : Int32) (v2 : Int32) (v3 : Int32) (v4 : Option Nat) (M : zzM) (bc bs : Nat), wp_X1_concede_L28 (zz_Zof G) K X n v0 v1 v2 v3 v4 M bc bs → zz_T G 7 M bc bs 28 [(0, va_rf v0), (1, .int v1), (2, .int v2), (3, .int v3), (4, va_rf v4)] [] := by
  intro n
  induction n with
  | zero =>
    intro v0 v1 v2 v3 v4 M bc bs hw
    exact False.elim hw
  | succ n ih =>
    intro v0 v1 v2 v3 v4 M bc bs hw
    refine zz_aload C dX1_concede_28 4 rfl ?_
    obtain ⟨a9, t9, b9, fs9, hro, hL, rfl, hw⟩ := ztyS hw
    refine zz_callF (r := (zR_23, zT_23, 4)) (x := ⟨"java/util/Iterator", "hasNext", "()Z"⟩) (As := []) (rest := []) (mc := 0) (ms := 0) C hR hro dX1_concede_30 q1793 (by decide +kernel) q1174 q1172 zl_java_util_ArrayList_Itr zk_J24_hasNext zyo_java_util_Iterator_hasNext___Z rfl (by decide) (by decide) hL (ok_J24_hasNext (zz_hl C) hw) (Nat.zero_le _) (Nat.zero_le _) (zz_cat10 _ (Nat.le_of_ble_eq_true rfl)) (fun r22 M23 hw => zz_kI hw (fun x26 hw => ?_)) (fun _ _ _ h9 => h9.elim) rfl
    refine zz_if_eq (tgt := 92) C dX1_concede_35 (by decide) hw (fun hw => ?_) (fun hw => ?_)
    · refine zz_iload_n C dX1_concede_92 rfl 2 rfl ?_
      exact zz_iret C E dX1_concede_93 hw
    · refine zz_aload C dX1_concede_38 4 rfl ?_
      obtain ⟨a9, t9, b9, fs9, hro, hL, rfl, hw⟩ := ztyS hw
      refine zz_callF (r := (zR_23, zT_23, 4)) (x := ⟨"java/util/Iterator", "next", "()Ljava/lang/Object;"⟩) (As := []) (rest := []) (mc := 0) (ms := 0) C hR hro dX1_concede_40 q1795 (by decide +kernel) q1183 q1181 zl_java_util_ArrayList_Itr zk_J24_next zyo_java_util_Iterator_next___Ljava_lang_Object_ rfl (by decide) (by decide) hL (ok_J24_next (zz_hl C) hw) (Nat.zero_le _) (Nat.zero_le _) (zz_cat10 _ (Nat.le_of_ble_eq_true rfl)) (fun r27 M28 hw => zz_kA hw (fun x31 hw => ?_)) (fun _ _ _ h9 => h9.elim) rfl
      refine zz_cast C dX1_concede_45 q2105 zc_15_ebateHall_Item hw (fun hw => ?_)
      refine zz_astore (lv' := [(5, va_rf x31), (0, va_rf v0), (1, .int v1), (2, .int v2), (3, .int v3), (4, va_rf v4)]) C dX1_concede_48 (by decide) (by simp [zz_cat, zz_catI, zz_catJ, zz_catD]) ?_
      refine zz_aload C dX1_concede_50 0 rfl ?_
      refine zz_getI C dX1_concede_52 (Or.inr ⟨_, q1749⟩) zf_15_3_ebateHall_Item hw (fun x32 hw => ?_)
      refine zz_iload_n C dX1_concede_55 rfl 2 rfl ?_
      refine zz_icmp_eq (tgt := 62) C dX1_concede_56 (by decide) hw (fun hw => ?_) (fun hw => ?_)
      · refine zz_aload_n C dX1_concede_62 rfl 1 rfl ?_
        refine zz_aload C dX1_concede_63 0 rfl ?_
        refine zz_iload_n C dX1_concede_65 rfl 2 rfl ?_
        obtain ⟨a9, t9, b9, fs9, hro, hL, rfl, hw⟩ := ztyS hw
        refine zz_callV (r := (zR_0, zT_0, 4)) (As := [va_rf x31, .int v1]) (rest := []) (mc := 0) (ms := 0) C hR hro dX1_concede_66 (Or.inl q2327) q2329 (Or.inl qs29) zl_DebateHall zk_X1_leadWith (Or.inl rfl) zy_X1_leadWith rfl (by decide) (by decide) hL (ok_X1_leadWith (zz_hl C) hw) (Nat.zero_le _) (Nat.zero_le _) (zz_cat10 _ (Nat.le_of_ble_eq_true rfl)) (fun r33 M34 hw => zz_kI hw (fun x37 hw => ?_)) (fun _ _ _ h9 => h9.elim) rfl
        refine zz_istore (lv' := [(6, .int x37), (5, va_rf x31), (0, va_rf v0), (1, .int v1), (2, .int v2), (3, .int v3), (4, va_rf v4)]) C dX1_concede_69 (by decide) (by simp [zz_cat, zz_catI, zz_catJ, zz_catD]) ?_
        refine zz_iload C dX1_concede_71 0 rfl ?_
        refine zz_iload_n C dX1_concede_73 rfl 5 rfl ?_
        refine zz_icmp_gt (tgt := 80) C dX1_concede_74 (by decide) hw (fun hw => ?_) (fun hw => ?_)
        · refine zz_aload C dX1_concede_80 1 rfl ?_
          refine zz_getI C dX1_concede_82 (Or.inr ⟨_, q1736⟩) zf_15_0_ebateHall_Item hw (fun x38 hw => ?_)
          refine zz_istore_n (i := 2) (lv' := [(2, .int x38), (6, .int x37), (5, va_rf x31), (0, va_rf v0), (1, .int v1), (3, .int v3), (4, va_rf v4)]) C dX1_concede_85 rfl (by decide) rfl ?_
          refine zz_iload C dX1_concede_86 1 rfl ?_
          refine zz_istore_n (i := 3) (lv' := [(3, .int x37), (2, .int x38), (6, .int x37), (5, va_rf x31), (0, va_rf v0), (1, .int v1), (4, va_rf v4)]) C dX1_concede_88 rfl (by decide) rfl ?_
          refine zz_goto (tgt := 28) C dX1_concede_89 (by decide) ?_
          refine zz_subP [4, 5, 1, 0, 6] rfl ?_
          exact ih _ _ _ _ _ _ _ _ hw
        · refine zz_goto (tgt := 28) C dX1_concede_77 (by decide) ?_
          refine zz_subP [2, 3, 4, 5, 6] rfl ?_
          exact ih _ _ _ _ _ _ _ _ hw
      · refine zz_goto (tgt := 28) C dX1_concede_59 (by decide) ?_
        refine zz_subP [1, 2, 3, 4, 5] rfl ?_
        exact ih _ _ _ _ _ _ _ _ hw
theorem ok_X1_concede {Z : zzG} {l : Launch} (hl : l.stackTraces = false) {this : Option Nat} {p0 : Int32} {M : zzM} {mc ms : Nat} {K : Option Value → zzM → Prop} {X : Nat → Nat → zzM → Prop} (hw : wp_X1_concede Z this p0 M mc ms K X) : zz_Met Z l yX1_concede (zz_ws yX1_concede cX1_concede 7 (some .int) none) 9 [va_rf this, .int p0] M mc ms K X := by
  refine zz_ofW hl (plainFor_of_name (by decide)) (by simp only [zz_sl0, zz_slI, zz_slJ, zz_slA] <;> decide) (fun G hZ hll C E hH hR hin => ?_)
  subst hZ
  subst hll
  rw [show lv_args 0 [va_rf this, .int p0] = [(0, va_rf this), (1, .int p0)] by simp only [zz_la0, zz_laI, zz_laJ, zz_laA]]
  unfold wp_X1_concede at hw
  refine zz_aload_n C dX1_concede_0 rfl 0 rfl ?_
  refine zz_iload_n C dX1_concede_1 rfl 1 rfl ?_
  obtain ⟨a9, t9, b9, fs9, hro, hL, rfl, hw⟩ := ztyS hw
  obtain ⟨c9, s9, hc9, hs9, hw⟩ := hw
  refine zz_callV (r := (zR_0, zT_0, 4)) (As := [.int p0]) (rest := []) C hR hro dX1_concede_2 (Or.inl q2276) q2278 (Or.inl qs27) zl_DebateHall zk_X1_requireSpeaker (Or.inl rfl) zy_X1_requireSpeaker rfl (by decide) (by decide) hL (ok_X1_requireSpeaker (zz_hl C) hw) hc9 hs9 (zz_cat10 _ (Nat.le_of_ble_eq_true rfl)) (fun r1 M2 hw => zz_kV hw (fun hw => ?_)) (fun t9 q18 M19 hx => ?_) rfl
  · refine zz_iconst (v := (-1 : Int32)) C dX1_concede_5 (by decide) ?_
    refine zz_istore_n (i := 2) (lv' := [(2, .int (-1 : Int32)), (0, va_rf this), (1, .int p0)]) C dX1_concede_6 rfl (by decide) rfl ?_
    refine zz_aload_n C dX1_concede_7 rfl 1 rfl ?_
    refine zz_getA C dX1_concede_8 (Or.inl q305) zf_0_2_DebateHall hw (fun x5 hw => ?_)
    refine zz_iload_n C dX1_concede_11 rfl 2 rfl ?_
    obtain ⟨a9, t9, b9, fs9, hro, hL, rfl, hw⟩ := ztyS hw
    refine zz_callV (r := (zR_2, zT_2, 8)) (As := [.int p0]) (rest := []) (mc := 0) (ms := 0) C hR hro dX1_concede_12 (Or.inl q2167) q2168 (Or.inl q2169) zl_DebateHall_Minutes zk_X3_lead (Or.inl rfl) zy_X3_lead rfl (by decide) (by decide) hL (ok_X3_lead (zz_hl C) hw) (Nat.zero_le _) (Nat.zero_le _) (zz_cat10 _ (Nat.le_of_ble_eq_true rfl)) (fun r6 M7 hw => zz_kI hw (fun x10 hw => ?_)) (fun _ _ _ h9 => h9.elim) rfl
    refine zz_istore_n (i := 3) (lv' := [(3, .int x10), (2, .int (-1 : Int32)), (0, va_rf this), (1, .int p0)]) C dX1_concede_15 rfl (by decide) rfl ?_
    refine zz_aload_n C dX1_concede_16 rfl 2 rfl ?_
    refine zz_getA C dX1_concede_17 (Or.inl q305) zf_0_2_DebateHall hw (fun x11 hw => ?_)
    refine zz_getA C dX1_concede_20 (Or.inr ⟨_, q239⟩) zf_2_1_teHall_Minutes hw (fun x12 hw => ?_)
    obtain ⟨a9, t9, b9, fs9, hro, hL, rfl, hw⟩ := ztyS hw
    obtain ⟨c9, s9, hc9, hs9, hw⟩ := hw
    refine zz_callV (r := (zR_18, zT_18, 3)) (As := []) (rest := []) C hR hro dX1_concede_23 (Or.inl q2104) q1145 (Or.inl q1146) zl_java_util_ArrayList zk_J2_iterator (Or.inl rfl) zy_J2_iterator rfl (by decide) (by decide) hL (ok_J2_iterator (zz_hl C) hw) hc9 hs9 (zz_cat10 _ (Nat.le_of_ble_eq_true rfl)) (fun r13 M14 hw => zz_kA hw (fun x17 hw => ?_)) (fun _ _ _ h9 => h9.elim) rfl
    refine zz_astore (lv' := [(4, va_rf x17), (3, .int x10), (2, .int (-1 : Int32)), (0, va_rf this), (1, .int p0)]) C dX1_concede_26 (by decide) rfl ?_
    refine zz_subP [3, 4, 2, 1, 0] rfl ?_
    obtain ⟨n28, hw⟩ := hw
    exact ok_X1_concede_L28 C E hH hR n28 _ _ _ _ _ _ _ _ hw
  · exact zz_out C E hH rfl hx
abbrev cX0_concede : ByteArray := method_13_code
def yX0_concede : MethodName := ⟨"DebateHallLaw", "concede", "(LDebateHall;I[J)I"⟩
def dkwX0_concede_0 : List UInt8 := [44, 3, 42, 27, 182, 0, 49, 133, 80, 167, 0, 6, 78, 4, 172, 3, 172]
abbrev dktX0_concede_0 : List UInt8 := dkwX0_concede_0 ++ []
theorem dksX0_concede_0 : cX0_concede.data.toList.drop 0 = dktX0_concede_0 := by decide +kernel
theorem dX0_concede_0 : decode cX0_concede 0 = .ok (.aload_n 2, 1) := dk_44 (dk_at dksX0_concede_0 0 rfl rfl)
theorem dX0_concede_1 : decode cX0_concede 1 = .ok (.iconst 0, 1) := dk_3 (dk_at dksX0_concede_0 1 rfl rfl)
theorem dX0_concede_2 : decode cX0_concede 2 = .ok (.aload_n 0, 1) := dk_42 (dk_at dksX0_concede_0 2 rfl rfl)
theorem dX0_concede_3 : decode cX0_concede 3 = .ok (.iload_n 1, 1) := dk_27 (dk_at dksX0_concede_0 3 rfl rfl)
theorem dX0_concede_4 : decode cX0_concede 4 = .ok (.invokevirtual 49, 3) := dk_182 0 49 (dk_at dksX0_concede_0 4 rfl rfl)
theorem dX0_concede_7 : decode cX0_concede 7 = .ok (.i2l, 1) := dk_133 (dk_at dksX0_concede_0 7 rfl rfl)
theorem dX0_concede_8 : decode cX0_concede 8 = .ok (.lastore, 1) := dk_80 (dk_at dksX0_concede_0 8 rfl rfl)
theorem dX0_concede_9 : decode cX0_concede 9 = .ok (.goto 6, 3) := dk_167 0 6 (dk_at dksX0_concede_0 9 rfl rfl)
theorem dX0_concede_12 : decode cX0_concede 12 = .ok (.astore_n 3, 1) := dk_78 (dk_at dksX0_concede_0 12 rfl rfl)
theorem dX0_concede_13 : decode cX0_concede 13 = .ok (.iconst 1, 1) := dk_4 (dk_at dksX0_concede_0 13 rfl rfl)
theorem dX0_concede_14 : decode cX0_concede 14 = .ok (.ireturn, 1) := dk_172 (dk_at dksX0_concede_0 14 rfl rfl)
theorem dX0_concede_15 : decode cX0_concede 15 = .ok (.iconst 0, 1) := dk_3 (dk_at dksX0_concede_0 15 rfl rfl)
theorem dX0_concede_16 : decode cX0_concede 16 = .ok (.ireturn, 1) := dk_172 (dk_at dksX0_concede_0 16 rfl rfl)
theorem q2337 : (Jvm.Cond.code ({ cls := "DebateHall", name := "concede", desc := "(I)I" } : Jvm.MethodName) prog_1_method_27_code (7 : Nat) (Option.some Jvm.ClassFile.FieldType.int)) ∈ lw_all := lw_g (lw_at lw_m10 97 rfl) rfl
theorem zk_X1_concede : zz_cd yX1_concede cX1_concede 7 (some .int) none ∈ lw_all := q2337
theorem zy_X1_concede : zz_yok yX1_concede 1 = true := by decide +kernel
theorem q2334 : (Jvm.Cond.methodLink "DebateHallLaw" (49 : Nat) ({ cls := "DebateHall", name := "concede", desc := "(I)I" } : Jvm.MethodName)) ∈ lw_all := lw_g (lw_at lw_m10 94 rfl) rfl
theorem q2335 : (Jvm.Cond.instanceMethod ({ cls := "DebateHall", name := "concede", desc := "(I)I" } : Jvm.MethodName)) ∈ lw_all := lw_g (lw_at lw_m10 95 rfl) rfl
theorem q2336 : (Jvm.Cond.selects "DebateHall" ({ cls := "DebateHall", name := "concede", desc := "(I)I" } : Jvm.MethodName) ({ cls := "DebateHall", name := "concede", desc := "(I)I" } : Jvm.MethodName)) ∈ lw_all := lw_g (lw_at lw_m10 96 rfl) rfl
def wp_X0_concede_B12 (Z : zzG) (K : Option Value → zzM → Prop) (s0 : Option Nat) (M : zzM) (bc bs : Nat) : Prop := K (some (.int (1 : Int32))) M
def wp_X0_concede (Z : zzG) (p0 : Option Nat) (p1 : Int32) (p2 : Option Nat) (M : zzM) (bc bs : Nat) (K : Option Value → zzM → Prop) : Prop := zty Z M p0 fun t => t = 0 ∧ zcx bc bs (fun c s k x => wp_X1_concede Z p0 p1 M c s k x) (fun r1 M2 bc3 bs4 => zrI r1 fun x5 => zast Z M2 p2 [102] (0 : Int32) (.long x5.toInt64) fun M6 => K (some (.int (0 : Int32))) M6) (fun t q7 M8 bc9 bs10 => if t = 28 then (wp_X0_concede_B12 Z K (some q7) M8 bc9 bs10) else False)
theorem ok_X0_concede_B12 {G : zzX} (C : zz_C G cX0_concede "DebateHallLaw" 4) {K : Option Value → zzM → Prop} (E : zz_E G (some .int) K (fun _ _ _ => False)) (hH : zz_H G [(0, 9, 12, 24)]) (hR : zz_Rm G 10) {s0 : Option Nat} {M : zzM} {bc bs : Nat} (hw : wp_X0_concede_B12 (zz_Zof G) K s0 M bc bs) : zz_T G 4 M bc bs 12 [] [va_rf s0] := by
  unfold wp_X0_concede_B12 at hw
  refine zz_astore_n (i := 3) (lv' := [(3, va_rf s0)]) C dX0_concede_12 rfl (by decide) rfl ?_
  refine zz_iconst (v := (1 : Int32)) C dX0_concede_13 (by decide) ?_
  exact zz_iret C E dX0_concede_14 hw
theorem ok_X0_concede {Z : zzG} {l : Launch} (hl : l.stackTraces = false) {p0 : Option Nat} {p1 : Int32} {p2 : Option Nat} {M : zzM} {mc ms : Nat} {K : Option Value → zzM → Prop} (hw : wp_X0_concede Z p0 p1 p2 M mc ms K) : zz_Met Z l yX0_concede (zz_ws yX0_concede cX0_concede 4 (some .int) (some [(0, 9, 12, 24)])) 10 [va_rf p0, .int p1, va_rf p2] M mc ms K (fun _ _ _ => False) := by
  refine zz_ofW hl (plainFor_of_name (by decide)) (by simp only [zz_sl0, zz_slI, zz_slJ, zz_slA] <;> decide) (fun G hZ hll C E hH hR hin => ?_)
  subst hZ
  subst hll
  rw [show lv_args 0 [va_rf p0, .int p1, va_rf p2] = [(0, va_rf p0), (1, .int p1), (2, va_rf p2)] by simp only [zz_la0, zz_laI, zz_laJ, zz_laA]]
  unfold wp_X0_concede at hw
  refine zz_aload_n C dX0_concede_0 rfl 2 rfl ?_
  refine zz_iconst (v := (0 : Int32)) C dX0_concede_1 (by decide) ?_
  refine zz_aload_n C dX0_concede_2 rfl 0 rfl ?_
  refine zz_iload_n C dX0_concede_3 rfl 1 rfl ?_
  obtain ⟨a9, t9, b9, fs9, hro, hL, rfl, hw⟩ := ztyS hw
  obtain ⟨c9, s9, hc9, hs9, hw⟩ := hw
  refine zz_callV (r := (zR_0, zT_0, 4)) (As := [.int p1]) (rest := [.int (0 : Int32), va_rf p2]) C hR hro dX0_concede_4 (Or.inl q2334) q2335 (Or.inl q2336) zl_DebateHall zk_X1_concede (Or.inl rfl) zy_X1_concede rfl (by decide) (by decide) hL (ok_X1_concede (zz_hl C) hw) hc9 hs9 (zz_cat10 _ (Nat.le_of_ble_eq_true rfl)) (fun r1 M2 hw => zz_kI hw (fun x5 hw => ?_)) (fun t9 q7 M8 hw => ?_) rfl
  · refine zz_i2l C dX0_concede_7 ?_
    refine zz_last C dX0_concede_8 hw (fun M6 hw => ?_)
    refine zz_goto (tgt := 15) C dX0_concede_9 (by decide) ?_
    refine zz_iconst (v := (0 : Int32)) C dX0_concede_15 (by decide) ?_
    exact zz_iret C E dX0_concede_16 hw
  · by_cases e28 : t9 = 28
    · replace hw := zz_ifp e28 hw
      subst e28
      refine zz_catch (r := (zR_28, zT_28, 0)) C hH rfl [] (0, 9, 12, 24) [] rfl (fun _ h9 => absurd h9 List.not_mem_nil) rfl (by decide) q2265 q2137 ?_
      refine zz_subP [] rfl ?_
      exact ok_X0_concede_B12 C E hH hR hw
    · replace hw := zz_ifn e28 hw
      exact hw.elim
abbrev cX4_leadWith : ByteArray := prog_25_method_62_code
def yX4_leadWith : MethodName := ⟨"DebateHallModel", "leadWith", "(II)I"⟩
def dkwX4_leadWith_1 : List UInt8 := [182, 1, 81, 62, 42, 2, 181, 0, 67, 29, 172]
abbrev dktX4_leadWith_1 : List UInt8 := dkwX4_leadWith_1 ++ []
def dkwX4_leadWith_0 : List UInt8 := [42, 27, 181, 0, 67, 42, 42, 180, 0, 61, 42, 180, 0, 64, 182, 1, 31, 87, 42, 28, 42, 180, 0, 61]
abbrev dktX4_leadWith_0 : List UInt8 := dkwX4_leadWith_0 ++ dktX4_leadWith_1
theorem dksX4_leadWith_0 : cX4_leadWith.data.toList.drop 0 = dktX4_leadWith_0 := by decide +kernel
theorem dksX4_leadWith_1 : cX4_leadWith.data.toList.drop 24 = dktX4_leadWith_1 := dk_seg dksX4_leadWith_0 24 rfl rfl
theorem dX4_leadWith_0 : decode cX4_leadWith 0 = .ok (.aload_n 0, 1) := dk_42 (dk_at dksX4_leadWith_0 0 rfl rfl)
theorem dX4_leadWith_1 : decode cX4_leadWith 1 = .ok (.iload_n 1, 1) := dk_27 (dk_at dksX4_leadWith_0 1 rfl rfl)
theorem dX4_leadWith_2 : decode cX4_leadWith 2 = .ok (.putfield 67, 3) := dk_181 0 67 (dk_at dksX4_leadWith_0 2 rfl rfl)
theorem dX4_leadWith_5 : decode cX4_leadWith 5 = .ok (.aload_n 0, 1) := dk_42 (dk_at dksX4_leadWith_0 5 rfl rfl)
theorem dX4_leadWith_6 : decode cX4_leadWith 6 = .ok (.aload_n 0, 1) := dk_42 (dk_at dksX4_leadWith_0 6 rfl rfl)
theorem dX4_leadWith_7 : decode cX4_leadWith 7 = .ok (.getfield 61, 3) := dk_180 0 61 (dk_at dksX4_leadWith_0 7 rfl rfl)
theorem dX4_leadWith_10 : decode cX4_leadWith 10 = .ok (.aload_n 0, 1) := dk_42 (dk_at dksX4_leadWith_0 10 rfl rfl)
theorem dX4_leadWith_11 : decode cX4_leadWith 11 = .ok (.getfield 64, 3) := dk_180 0 64 (dk_at dksX4_leadWith_0 11 rfl rfl)
theorem dX4_leadWith_14 : decode cX4_leadWith 14 = .ok (.invokevirtual 287, 3) := dk_182 1 31 (dk_at dksX4_leadWith_0 14 rfl rfl)
theorem dX4_leadWith_17 : decode cX4_leadWith 17 = .ok (.pop, 1) := dk_87 (dk_at dksX4_leadWith_0 17 rfl rfl)
theorem dX4_leadWith_18 : decode cX4_leadWith 18 = .ok (.aload_n 0, 1) := dk_42 (dk_at dksX4_leadWith_0 18 rfl rfl)
theorem dX4_leadWith_19 : decode cX4_leadWith 19 = .ok (.iload_n 2, 1) := dk_28 (dk_at dksX4_leadWith_0 19 rfl rfl)
theorem dX4_leadWith_20 : decode cX4_leadWith 20 = .ok (.aload_n 0, 1) := dk_42 (dk_at dksX4_leadWith_0 20 rfl rfl)
theorem dX4_leadWith_21 : decode cX4_leadWith 21 = .ok (.getfield 61, 3) := dk_180 0 61 (dk_at dksX4_leadWith_0 21 rfl rfl)
theorem dX4_leadWith_24 : decode cX4_leadWith 24 = .ok (.invokevirtual 337, 3) := dk_182 1 81 (dk_at dksX4_leadWith_1 0 rfl rfl)
theorem dX4_leadWith_27 : decode cX4_leadWith 27 = .ok (.istore_n 3, 1) := dk_62 (dk_at dksX4_leadWith_1 3 rfl rfl)
theorem dX4_leadWith_28 : decode cX4_leadWith 28 = .ok (.aload_n 0, 1) := dk_42 (dk_at dksX4_leadWith_1 4 rfl rfl)
theorem dX4_leadWith_29 : decode cX4_leadWith 29 = .ok (.iconst (-1), 1) := dk_2 (dk_at dksX4_leadWith_1 5 rfl rfl)
theorem dX4_leadWith_30 : decode cX4_leadWith 30 = .ok (.putfield 67, 3) := dk_181 0 67 (dk_at dksX4_leadWith_1 6 rfl rfl)
theorem dX4_leadWith_33 : decode cX4_leadWith 33 = .ok (.iload_n 3, 1) := dk_29 (dk_at dksX4_leadWith_1 9 rfl rfl)
theorem dX4_leadWith_34 : decode cX4_leadWith 34 = .ok (.ireturn, 1) := dk_172 (dk_at dksX4_leadWith_1 10 rfl rfl)
def wp_X4_leadWith (Z : zzG) (this : Option Nat) (p0 : Int32) (p1 : Int32) (M : zzM) (K : Option Value → zzM → Prop) : Prop := zput Z M this [16] 18 (.int p0) fun M1 => zgA Z M1 this [16] 16 fun x2 => zgA Z M1 this [16] 17 fun x3 => zty Z M1 this fun t => t = 16 ∧ wp_X4_stand Z this x2 x3 M1 (fun r4 M5 => zrI r4 fun x8 => zgA Z M5 this [16] 16 fun x9 => zty Z M5 this fun t => t = 16 ∧ wp_X4_lead Z this p1 x9 M5 (fun r10 M11 => zrI r10 fun x14 => zput Z M11 this [16] 18 (.int (-1 : Int32)) fun M15 => K (some (.int x14)) M15))
theorem ok_X4_leadWith {Z : zzG} {l : Launch} (hl : l.stackTraces = false) {this : Option Nat} {p0 : Int32} {p1 : Int32} {M : zzM} {mc ms : Nat} {K : Option Value → zzM → Prop} (hw : wp_X4_leadWith Z this p0 p1 M K) : zz_Met Z l yX4_leadWith (zz_ws yX4_leadWith cX4_leadWith 4 (some .int) none) 4 [va_rf this, .int p0, .int p1] M mc ms K (fun _ _ _ => False) := by
  refine zz_ofW hl (plainFor_of_name (by decide)) (by simp only [zz_sl0, zz_slI, zz_slJ, zz_slA] <;> decide) (fun G hZ hll C E hH hR hin => ?_)
  subst hZ
  subst hll
  rw [show lv_args 0 [va_rf this, .int p0, .int p1] = [(0, va_rf this), (1, .int p0), (2, .int p1)] by simp only [zz_la0, zz_laI, zz_laJ, zz_laA]]
  unfold wp_X4_leadWith at hw
  refine zz_aload_n C dX4_leadWith_0 rfl 0 rfl ?_
  refine zz_iload_n C dX4_leadWith_1 rfl 1 rfl ?_
  refine zz_put C dX4_leadWith_2 (Or.inl q2454) zf_16_18_ebateHallModel zp_16_18 (zz_hn1 ⟨rfl, rfl⟩) hw (fun M1 hw => ?_)
  refine zz_aload_n C dX4_leadWith_5 rfl 0 rfl ?_
  refine zz_aload_n C dX4_leadWith_6 rfl 0 rfl ?_
  refine zz_getA C dX4_leadWith_7 (Or.inl q2452) zf_16_16_ebateHallModel hw (fun x2 hw => ?_)
  refine zz_aload_n C dX4_leadWith_10 rfl 0 rfl ?_
  refine zz_getA C dX4_leadWith_11 (Or.inl q2453) zf_16_17_ebateHallModel hw (fun x3 hw => ?_)
  obtain ⟨a9, t9, b9, fs9, hro, hL, rfl, hw⟩ := ztyS hw
  refine zz_callV (r := (zR_16, zT_16, 24)) (As := [va_rf x2, va_rf x3]) (rest := []) (mc := 0) (ms := 0) C hR hro dX4_leadWith_14 (Or.inl q2688) q2690 (Or.inl qs57) zl_DebateHallModel zk_X4_stand (Or.inl rfl) zy_X4_stand rfl (by decide) (by decide) hL (ok_X4_stand (zz_hl C) hw) (Nat.zero_le _) (Nat.zero_le _) (zz_cat10 _ (Nat.le_of_ble_eq_true rfl)) (fun r4 M5 hw => zz_kI hw (fun x8 hw => ?_)) (fun _ _ _ h9 => h9.elim) rfl
  refine zz_pop C dX4_leadWith_17 rfl ?_
  refine zz_aload_n C dX4_leadWith_18 rfl 0 rfl ?_
  refine zz_iload_n C dX4_leadWith_19 rfl 2 rfl ?_
  refine zz_aload_n C dX4_leadWith_20 rfl 0 rfl ?_
  refine zz_getA C dX4_leadWith_21 (Or.inl q2452) zf_16_16_ebateHallModel hw (fun x9 hw => ?_)
  obtain ⟨a9, t9, b9, fs9, hro, hL, rfl, hw⟩ := ztyS hw
  refine zz_callV (r := (zR_16, zT_16, 24)) (As := [.int p1, va_rf x9]) (rest := []) (mc := 0) (ms := 0) C hR hro dX4_leadWith_24 (Or.inl q2748) q2750 (Or.inl qs68) zl_DebateHallModel zk_X4_lead (Or.inl rfl) zy_X4_lead rfl (by decide) (by decide) hL (ok_X4_lead (zz_hl C) hw) (Nat.zero_le _) (Nat.zero_le _) (zz_cat10 _ (Nat.le_of_ble_eq_true rfl)) (fun r10 M11 hw => zz_kI hw (fun x14 hw => ?_)) (fun _ _ _ h9 => h9.elim) rfl
  refine zz_istore_n (i := 3) (lv' := [(3, .int x14), (0, va_rf this), (1, .int p0), (2, .int p1)]) C dX4_leadWith_27 rfl (by decide) rfl ?_
  refine zz_aload_n C dX4_leadWith_28 rfl 1 rfl ?_
  refine zz_iconst (v := (-1 : Int32)) C dX4_leadWith_29 (by decide) ?_
  refine zz_put C dX4_leadWith_30 (Or.inl q2454) zf_16_18_ebateHallModel zp_16_18 (zz_hn1 ⟨rfl, rfl⟩) hw (fun M15 hw => ?_)
  refine zz_iload_n C dX4_leadWith_33 rfl 0 rfl ?_
  exact zz_iret C E dX4_leadWith_34 hw
abbrev cX4_concede : ByteArray := prog_25_method_63_code
def yX4_concede : MethodName := ⟨"DebateHallModel", "concede", "(I)I"⟩
def dkwX4_concede_4 : List UInt8 := [172]
abbrev dktX4_concede_4 : List UInt8 := dkwX4_concede_4 ++ []
def dkwX4_concede_3 : List UInt8 := [54, 5, 21, 5, 28, 163, 0, 6, 167, 0, 9, 21, 5, 61, 21, 4, 62, 132, 4, 1, 167, 255, 200, 29]
abbrev dktX4_concede_3 : List UInt8 := dkwX4_concede_3 ++ dktX4_concede_4
def dkwX4_concede_2 : List UInt8 := [42, 180, 0, 48, 180, 0, 121, 21, 4, 46, 27, 159, 0, 6, 167, 0, 27, 42, 21, 4, 27, 182, 1, 104]
abbrev dktX4_concede_2 : List UInt8 := dkwX4_concede_2 ++ dktX4_concede_3
def dkwX4_concede_1 : List UInt8 := [180, 0, 55, 182, 1, 81, 61, 2, 62, 3, 54, 4, 21, 4, 42, 180, 0, 48, 180, 0, 95, 162, 0, 50]
abbrev dktX4_concede_1 : List UInt8 := dkwX4_concede_1 ++ dktX4_concede_2
def dkwX4_concede_0 : List UInt8 := [42, 3, 181, 0, 85, 42, 27, 182, 1, 84, 154, 0, 9, 42, 4, 182, 1, 56, 172, 42, 27, 42]
abbrev dktX4_concede_0 : List UInt8 := dkwX4_concede_0 ++ dktX4_concede_1
theorem dksX4_concede_0 : cX4_concede.data.toList.drop 0 = dktX4_concede_0 := by decide +kernel
theorem dksX4_concede_1 : cX4_concede.data.toList.drop 22 = dktX4_concede_1 := dk_seg dksX4_concede_0 22 rfl rfl
theorem dksX4_concede_2 : cX4_concede.data.toList.drop 46 = dktX4_concede_2 := dk_seg dksX4_concede_1 24 rfl rfl
theorem dksX4_concede_3 : cX4_concede.data.toList.drop 70 = dktX4_concede_3 := dk_seg dksX4_concede_2 24 rfl rfl
theorem dksX4_concede_4 : cX4_concede.data.toList.drop 94 = dktX4_concede_4 := dk_seg dksX4_concede_3 24 rfl rfl
theorem dX4_concede_0 : decode cX4_concede 0 = .ok (.aload_n 0, 1) := dk_42 (dk_at dksX4_concede_0 0 rfl rfl)
theorem dX4_concede_1 : decode cX4_concede 1 = .ok (.iconst 0, 1) := dk_3 (dk_at dksX4_concede_0 1 rfl rfl)
theorem dX4_concede_2 : decode cX4_concede 2 = .ok (.putfield 85, 3) := dk_181 0 85 (dk_at dksX4_concede_0 2 rfl rfl)
theorem dX4_concede_5 : decode cX4_concede 5 = .ok (.aload_n 0, 1) := dk_42 (dk_at dksX4_concede_0 5 rfl rfl)
theorem dX4_concede_6 : decode cX4_concede 6 = .ok (.iload_n 1, 1) := dk_27 (dk_at dksX4_concede_0 6 rfl rfl)
theorem dX4_concede_7 : decode cX4_concede 7 = .ok (.invokevirtual 340, 3) := dk_182 1 84 (dk_at dksX4_concede_0 7 rfl rfl)
theorem dX4_concede_10 : decode cX4_concede 10 = .ok (.ifCond .ne 9, 3) := dk_154 0 9 (dk_at dksX4_concede_0 10 rfl rfl)
theorem dX4_concede_13 : decode cX4_concede 13 = .ok (.aload_n 0, 1) := dk_42 (dk_at dksX4_concede_0 13 rfl rfl)
theorem dX4_concede_14 : decode cX4_concede 14 = .ok (.iconst 1, 1) := dk_4 (dk_at dksX4_concede_0 14 rfl rfl)
theorem dX4_concede_15 : decode cX4_concede 15 = .ok (.invokevirtual 312, 3) := dk_182 1 56 (dk_at dksX4_concede_0 15 rfl rfl)
theorem dX4_concede_18 : decode cX4_concede 18 = .ok (.ireturn, 1) := dk_172 (dk_at dksX4_concede_0 18 rfl rfl)
theorem dX4_concede_19 : decode cX4_concede 19 = .ok (.aload_n 0, 1) := dk_42 (dk_at dksX4_concede_0 19 rfl rfl)
theorem dX4_concede_20 : decode cX4_concede 20 = .ok (.iload_n 1, 1) := dk_27 (dk_at dksX4_concede_0 20 rfl rfl)
theorem dX4_concede_21 : decode cX4_concede 21 = .ok (.aload_n 0, 1) := dk_42 (dk_at dksX4_concede_0 21 rfl rfl)
theorem dX4_concede_22 : decode cX4_concede 22 = .ok (.getfield 55, 3) := dk_180 0 55 (dk_at dksX4_concede_1 0 rfl rfl)
theorem dX4_concede_25 : decode cX4_concede 25 = .ok (.invokevirtual 337, 3) := dk_182 1 81 (dk_at dksX4_concede_1 3 rfl rfl)
theorem dX4_concede_28 : decode cX4_concede 28 = .ok (.istore_n 2, 1) := dk_61 (dk_at dksX4_concede_1 6 rfl rfl)
theorem dX4_concede_29 : decode cX4_concede 29 = .ok (.iconst (-1), 1) := dk_2 (dk_at dksX4_concede_1 7 rfl rfl)
theorem dX4_concede_30 : decode cX4_concede 30 = .ok (.istore_n 3, 1) := dk_62 (dk_at dksX4_concede_1 8 rfl rfl)
theorem dX4_concede_31 : decode cX4_concede 31 = .ok (.iconst 0, 1) := dk_3 (dk_at dksX4_concede_1 9 rfl rfl)
theorem dX4_concede_32 : decode cX4_concede 32 = .ok (.istore 4, 2) := dk_54 4 (dk_at dksX4_concede_1 10 rfl rfl)
theorem dX4_concede_34 : decode cX4_concede 34 = .ok (.iload 4, 2) := dk_21 4 (dk_at dksX4_concede_1 12 rfl rfl)
theorem dX4_concede_36 : decode cX4_concede 36 = .ok (.aload_n 0, 1) := dk_42 (dk_at dksX4_concede_1 14 rfl rfl)
theorem dX4_concede_37 : decode cX4_concede 37 = .ok (.getfield 48, 3) := dk_180 0 48 (dk_at dksX4_concede_1 15 rfl rfl)
theorem dX4_concede_40 : decode cX4_concede 40 = .ok (.getfield 95, 3) := dk_180 0 95 (dk_at dksX4_concede_1 18 rfl rfl)
theorem dX4_concede_43 : decode cX4_concede 43 = .ok (.if_icmp .ge 50, 3) := dk_162 0 50 (dk_at dksX4_concede_1 21 rfl rfl)
theorem dX4_concede_46 : decode cX4_concede 46 = .ok (.aload_n 0, 1) := dk_42 (dk_at dksX4_concede_2 0 rfl rfl)
theorem dX4_concede_47 : decode cX4_concede 47 = .ok (.getfield 48, 3) := dk_180 0 48 (dk_at dksX4_concede_2 1 rfl rfl)
theorem dX4_concede_50 : decode cX4_concede 50 = .ok (.getfield 121, 3) := dk_180 0 121 (dk_at dksX4_concede_2 4 rfl rfl)
theorem dX4_concede_53 : decode cX4_concede 53 = .ok (.iload 4, 2) := dk_21 4 (dk_at dksX4_concede_2 7 rfl rfl)
theorem dX4_concede_55 : decode cX4_concede 55 = .ok (.iaload, 1) := dk_46 (dk_at dksX4_concede_2 9 rfl rfl)
theorem dX4_concede_56 : decode cX4_concede 56 = .ok (.iload_n 1, 1) := dk_27 (dk_at dksX4_concede_2 10 rfl rfl)
theorem dX4_concede_57 : decode cX4_concede 57 = .ok (.if_icmp .eq 6, 3) := dk_159 0 6 (dk_at dksX4_concede_2 11 rfl rfl)
theorem dX4_concede_60 : decode cX4_concede 60 = .ok (.goto 27, 3) := dk_167 0 27 (dk_at dksX4_concede_2 14 rfl rfl)
theorem dX4_concede_63 : decode cX4_concede 63 = .ok (.aload_n 0, 1) := dk_42 (dk_at dksX4_concede_2 17 rfl rfl)
theorem dX4_concede_64 : decode cX4_concede 64 = .ok (.iload 4, 2) := dk_21 4 (dk_at dksX4_concede_2 18 rfl rfl)
theorem dX4_concede_66 : decode cX4_concede 66 = .ok (.iload_n 1, 1) := dk_27 (dk_at dksX4_concede_2 20 rfl rfl)
theorem dX4_concede_67 : decode cX4_concede 67 = .ok (.invokevirtual 360, 3) := dk_182 1 104 (dk_at dksX4_concede_2 21 rfl rfl)
theorem dX4_concede_70 : decode cX4_concede 70 = .ok (.istore 5, 2) := dk_54 5 (dk_at dksX4_concede_3 0 rfl rfl)
theorem dX4_concede_72 : decode cX4_concede 72 = .ok (.iload 5, 2) := dk_21 5 (dk_at dksX4_concede_3 2 rfl rfl)
theorem dX4_concede_74 : decode cX4_concede 74 = .ok (.iload_n 2, 1) := dk_28 (dk_at dksX4_concede_3 4 rfl rfl)
theorem dX4_concede_75 : decode cX4_concede 75 = .ok (.if_icmp .gt 6, 3) := dk_163 0 6 (dk_at dksX4_concede_3 5 rfl rfl)
theorem dX4_concede_78 : decode cX4_concede 78 = .ok (.goto 9, 3) := dk_167 0 9 (dk_at dksX4_concede_3 8 rfl rfl)
theorem dX4_concede_81 : decode cX4_concede 81 = .ok (.iload 5, 2) := dk_21 5 (dk_at dksX4_concede_3 11 rfl rfl)
theorem dX4_concede_83 : decode cX4_concede 83 = .ok (.istore_n 2, 1) := dk_61 (dk_at dksX4_concede_3 13 rfl rfl)
theorem dX4_concede_84 : decode cX4_concede 84 = .ok (.iload 4, 2) := dk_21 4 (dk_at dksX4_concede_3 14 rfl rfl)
theorem dX4_concede_86 : decode cX4_concede 86 = .ok (.istore_n 3, 1) := dk_62 (dk_at dksX4_concede_3 16 rfl rfl)
theorem dX4_concede_87 : decode cX4_concede 87 = .ok (.iinc 4 1, 3) := dk_132 4 1 (dk_at dksX4_concede_3 17 rfl rfl)
theorem dX4_concede_90 : decode cX4_concede 90 = .ok (.goto (-56), 3) := dk_167 255 200 (dk_at dksX4_concede_3 20 rfl rfl)
theorem dX4_concede_93 : decode cX4_concede 93 = .ok (.iload_n 3, 1) := dk_29 (dk_at dksX4_concede_3 23 rfl rfl)
theorem dX4_concede_94 : decode cX4_concede 94 = .ok (.ireturn, 1) := dk_172 (dk_at dksX4_concede_4 0 rfl rfl)
theorem q2805 : (Jvm.Cond.code ({ cls := "DebateHallModel", name := "leadWith", desc := "(II)I" } : Jvm.MethodName) prog_25_method_62_code (4 : Nat) (Option.some Jvm.ClassFile.FieldType.int)) ∈ lw_all := lw_g (lw_at lw_m12 85 rfl) rfl
theorem zk_X4_leadWith : zz_cd yX4_leadWith cX4_leadWith 4 (some .int) none ∈ lw_all := q2805
theorem zy_X4_leadWith : zz_yok yX4_leadWith 2 = true := by decide +kernel
theorem q2802 : (Jvm.Cond.methodLink "DebateHallModel" (360 : Nat) ({ cls := "DebateHallModel", name := "leadWith", desc := "(II)I" } : Jvm.MethodName)) ∈ lw_all := lw_g (lw_at lw_m12 82 rfl) rfl
theorem q2804 : (Jvm.Cond.instanceMethod ({ cls := "DebateHallModel", name := "leadWith", desc := "(II)I" } : Jvm.MethodName)) ∈ lw_all := lw_g (lw_at lw_m12 84 rfl) rfl
def wp_X4_concede_B87 (Z : zzG) (k34 : Option Nat → Int32 → Int32 → Int32 → Int32 → zzM → Prop) (K : Option Value → zzM → Prop) (v0 : Option Nat) (v1 : Int32) (v2 : Int32) (v3 : Int32) (v4 : Int32) (M : zzM) : Prop := k34 v0 v1 v2 v3 (v4 + 1) M
def wp_X4_concede_L34 (Z : zzG) (K : Option Value → zzM → Prop) : Nat → Option Nat → Int32 → Int32 → Int32 → Int32 → zzM → Prop
  | 0, _, _, _, _, _, _ => False
  | n + 1, v0, v1, v2, v3, v4, M => zgA Z M v0 [16] 11 fun x18 => zgI Z M x18 [17] 3 fun x19 => if x19 ≤ v4 then (K (some (.int v3)) M) else (zgA Z M v0 [16] 11 fun x20 => zgA Z M x20 [17] 6 fun x21 => zaI Z M x21 [100] v4 fun x22 => if x22 = v1 then (zty Z M v0 fun t => t = 16 ∧ wp_X4_leadWith Z v0 v4 v1 M (fun r23 M24 => zrI r23 fun x27 => if v2 < x27 then (wp_X4_concede_B87 Z (wp_X4_concede_L34 Z K n) K v0 v1 x27 v4 v4 M24) else (wp_X4_concede_B87 Z (wp_X4_concede_L34 Z K n) K v0 v1 v2 v3 v4 M24))) else (wp_X4_concede_B87 Z (wp_X4_concede_L34 Z K n) K v0 v1 v2 v3 v4 M))
def wp_X4_concede (Z : zzG) (this : Option Nat) (p0 : Int32) (M : zzM) (K : Option Value → zzM → Prop) : Prop := zput Z M this [16] 0 (.int (0 : Int32)) fun M1 => zty Z M1 this fun t => t = 16 ∧ wp_X4_isSpeaker Z this p0 M1 (fun r2 M3 => zrI r2 fun x6 => if x6 = 0 then (zty Z M3 this fun t => t = 16 ∧ wp_X4_no Z this (1 : Int32) M3 (fun r13 M14 => zrI r13 fun x17 => K (some (.int x17)) M14)) else (zgA Z M3 this [16] 13 fun x7 => zty Z M3 this fun t => t = 16 ∧ wp_X4_lead Z this p0 x7 M3 (fun r8 M9 => zrI r8 fun x12 => ∃ n34 : Nat, wp_X4_concede_L34 Z K n34 this p0 x12 (-1 : Int32) (0 : Int32) M9)))
theorem ok_X4_concede_B87 {G : zzX} (C : zz_C G cX4_concede "DebateHallModel" 6) {K : Option Value → zzM → Prop} (E : zz_E G (some .int) K (fun _ _ _ => False)) (hH : zz_H G []) (hR : zz_Rm G 5) {k34 : Option Nat → Int32 → Int32 → Int32 → Int32 → zzM → Prop} (hk34 : ∀ (z0 : Option Nat) (z1 : Int32) (z2 : Int32) (z3 : Int32) (z4 : Int32) (M : zzM) (bc bs : Nat), k34 z0 z1 z2 z3 z4 M → zz_T G 6 M bc bs 34 [(0, va_rf z0), (1, .int z1), (2, .int z2), (3, .int z3), (4, .int z4)] []) {v0 : Option Nat} {v1 : Int32} {v2 : Int32} {v3 : Int32} {v4 : Int32} {M : zzM} {bc bs : Nat} (hw : wp_X4_concede_B87 (zz_Zof G) k34 K v0 v1 v2 v3 v4 M) : zz_T G 6 M bc bs 87 [(0, va_rf v0), (1, .int v1), (2, .int v2), (3, .int v3), (4, .int v4)] [] := by
  unfold wp_X4_concede_B87 at hw
  refine zz_iinc (lv' := [(4, .int (v4 + 1)), (0, va_rf v0), (1, .int v1), (2, .int v2), (3, .int v3)]) C dX4_concede_87 4 rfl (by rfl) (by decide) rfl ?_
  refine zz_goto (tgt := 34) C dX4_concede_90 (by decide) ?_
  refine zz_subP [1, 2, 3, 4, 0] rfl ?_
  exact hk34 _ _ _ _ _ _ _ _ hw
theorem ok_X4_concede_L34 {G : zzX} (C : zz_C G cX4_concede "DebateHallModel" 6) {K : Option Value → zzM → Prop} (E : zz_E G (some .int) K (fun _ _ _ => False)) (hH : zz_H G []) (hR : zz_Rm G 5) : ∀ (n : Nat) (v0 : Option Nat) (v1 : Int32) (v2 : Int32) (v3 : Int32) (v4 : Int32) (M : zzM) (bc bs : Nat), wp_X4_concede_L34 (zz_Zof G) K n v0 v1 v2 v3 v4 M → zz_T G 6 M bc bs 34 [(0, va_rf v0), (1, .int v1), (2, .int v2), (3, .int v3), (4, .int v4)] [] := by
  intro n
  induction n with
  | zero =>
    intro v0 v1 v2 v3 v4 M bc bs hw
    exact False.elim hw
  | succ n ih =>
    intro v0 v1 v2 v3 v4 M bc bs hw
    refine zz_iload C dX4_concede_34 4 rfl ?_
    refine zz_aload_n C dX4_concede_36 rfl 0 rfl ?_
    refine zz_getA C dX4_concede_37 (Or.inl q2447) zf_16_11_ebateHallModel hw (fun x18 hw => ?_)
    refine zz_getI C dX4_concede_40 (Or.inr ⟨_, q2394⟩) zf_17_3_allModel_State hw (fun x19 hw => ?_)
    refine zz_icmp_ge (tgt := 93) C dX4_concede_43 (by decide) hw (fun hw => ?_) (fun hw => ?_)
    · refine zz_iload_n C dX4_concede_93 rfl 3 rfl ?_
      exact zz_iret C E dX4_concede_94 hw
    · refine zz_aload_n C dX4_concede_46 rfl 0 rfl ?_
      refine zz_getA C dX4_concede_47 (Or.inl q2447) zf_16_11_ebateHallModel hw (fun x20 hw => ?_)
      refine zz_getA C dX4_concede_50 (Or.inr ⟨_, q2400⟩) zf_17_6_allModel_State hw (fun x21 hw => ?_)
      refine zz_iload C dX4_concede_53 4 rfl ?_
      refine zz_iald C dX4_concede_55 hw (fun x22 hw => ?_)
      refine zz_iload_n C dX4_concede_56 rfl 1 rfl ?_
      refine zz_icmp_eq (tgt := 63) C dX4_concede_57 (by decide) hw (fun hw => ?_) (fun hw => ?_)
      · refine zz_aload_n C dX4_concede_63 rfl 0 rfl ?_
        refine zz_iload C dX4_concede_64 4 rfl ?_
        refine zz_iload_n C dX4_concede_66 rfl 1 rfl ?_
        obtain ⟨a9, t9, b9, fs9, hro, hL, rfl, hw⟩ := ztyS hw
        refine zz_callV (r := (zR_16, zT_16, 24)) (As := [.int v4, .int v1]) (rest := []) (mc := 0) (ms := 0) C hR hro dX4_concede_67 (Or.inl q2802) q2804 (Or.inl qs74) zl_DebateHallModel zk_X4_leadWith (Or.inl rfl) zy_X4_leadWith rfl (by decide) (by decide) hL (ok_X4_leadWith (zz_hl C) hw) (Nat.zero_le _) (Nat.zero_le _) (zz_cat10 _ (Nat.le_of_ble_eq_true rfl)) (fun r23 M24 hw => zz_kI hw (fun x27 hw => ?_)) (fun _ _ _ h9 => h9.elim) rfl
        refine zz_istore (lv' := [(5, .int x27), (0, va_rf v0), (1, .int v1), (2, .int v2), (3, .int v3), (4, .int v4)]) C dX4_concede_70 (by decide) rfl ?_
        refine zz_iload C dX4_concede_72 0 rfl ?_
        refine zz_iload_n C dX4_concede_74 rfl 3 rfl ?_
        refine zz_icmp_gt (tgt := 81) C dX4_concede_75 (by decide) hw (fun hw => ?_) (fun hw => ?_)
        · refine zz_iload C dX4_concede_81 0 rfl ?_
          refine zz_istore_n (i := 2) (lv' := [(2, .int x27), (5, .int x27), (0, va_rf v0), (1, .int v1), (3, .int v3), (4, .int v4)]) C dX4_concede_83 rfl (by decide) rfl ?_
          refine zz_iload C dX4_concede_84 5 rfl ?_
          refine zz_istore_n (i := 3) (lv' := [(3, .int v4), (2, .int x27), (5, .int x27), (0, va_rf v0), (1, .int v1), (4, .int v4)]) C dX4_concede_86 rfl (by decide) rfl ?_
          refine zz_subP [3, 4, 1, 0, 5] rfl ?_
          exact ok_X4_concede_B87 C E hH hR (fun z0 z1 z2 z3 z4 z5 z6 z7 hw => ih z0 z1 z2 z3 z4 z5 z6 z7 hw) hw
        · refine zz_goto (tgt := 87) C dX4_concede_78 (by decide) ?_
          refine zz_subP [1, 2, 3, 4, 5] rfl ?_
          exact ok_X4_concede_B87 C E hH hR (fun z0 z1 z2 z3 z4 z5 z6 z7 hw => ih z0 z1 z2 z3 z4 z5 z6 z7 hw) hw
      · refine zz_goto (tgt := 87) C dX4_concede_60 (by decide) ?_
        refine zz_subP [0, 1, 2, 3, 4] rfl ?_
        exact ok_X4_concede_B87 C E hH hR (fun z0 z1 z2 z3 z4 z5 z6 z7 hw => ih z0 z1 z2 z3 z4 z5 z6 z7 hw) hw
theorem ok_X4_concede {Z : zzG} {l : Launch} (hl : l.stackTraces = false) {this : Option Nat} {p0 : Int32} {M : zzM} {mc ms : Nat} {K : Option Value → zzM → Prop} (hw : wp_X4_concede Z this p0 M K) : zz_Met Z l yX4_concede (zz_ws yX4_concede cX4_concede 6 (some .int) none) 5 [va_rf this, .int p0] M mc ms K (fun _ _ _ => False) := by
  refine zz_ofW hl (plainFor_of_name (by decide)) (by simp only [zz_sl0, zz_slI, zz_slJ, zz_slA] <;> decide) (fun G hZ hll C E hH hR hin => ?_)
  subst hZ
  subst hll
  rw [show lv_args 0 [va_rf this, .int p0] = [(0, va_rf this), (1, .int p0)] by simp only [zz_la0, zz_laI, zz_laJ, zz_laA]]
  unfold wp_X4_concede at hw
  refine zz_aload_n C dX4_concede_0 rfl 0 rfl ?_
  refine zz_iconst (v := (0 : Int32)) C dX4_concede_1 (by decide) ?_
  refine zz_put C dX4_concede_2 (Or.inl q2436) zf_16_0_ebateHallModel zp_16_0 (zz_hn1 ⟨rfl, rfl⟩) hw (fun M1 hw => ?_)
  refine zz_aload_n C dX4_concede_5 rfl 0 rfl ?_
  refine zz_iload_n C dX4_concede_6 rfl 1 rfl ?_
  obtain ⟨a9, t9, b9, fs9, hro, hL, rfl, hw⟩ := ztyS hw
  refine zz_callV (r := (zR_16, zT_16, 24)) (As := [.int p0]) (rest := []) (mc := 0) (ms := 0) C hR hro dX4_concede_7 (Or.inl q2736) q2738 (Or.inl qs65) zl_DebateHallModel zk_X4_isSpeaker (Or.inl rfl) zy_X4_isSpeaker rfl (by decide) (by decide) hL (ok_X4_isSpeaker (zz_hl C) hw) (Nat.zero_le _) (Nat.zero_le _) (zz_cat10 _ (Nat.le_of_ble_eq_true rfl)) (fun r2 M3 hw => zz_kI hw (fun x6 hw => ?_)) (fun _ _ _ h9 => h9.elim) rfl
  refine zz_if_ne (tgt := 19) C dX4_concede_10 (by decide) hw (fun hw => ?_) (fun hw => ?_)
  · refine zz_aload_n C dX4_concede_19 rfl 0 rfl ?_
    refine zz_iload_n C dX4_concede_20 rfl 1 rfl ?_
    refine zz_aload_n C dX4_concede_21 rfl 0 rfl ?_
    refine zz_getA C dX4_concede_22 (Or.inl q2449) zf_16_13_ebateHallModel hw (fun x7 hw => ?_)
    obtain ⟨a9, t9, b9, fs9, hro, hL, rfl, hw⟩ := ztyS hw
    refine zz_callV (r := (zR_16, zT_16, 24)) (As := [.int p0, va_rf x7]) (rest := []) (mc := 0) (ms := 0) C hR hro dX4_concede_25 (Or.inl q2748) q2750 (Or.inl qs68) zl_DebateHallModel zk_X4_lead (Or.inl rfl) zy_X4_lead rfl (by decide) (by decide) hL (ok_X4_lead (zz_hl C) hw) (Nat.zero_le _) (Nat.zero_le _) (zz_cat10 _ (Nat.le_of_ble_eq_true rfl)) (fun r8 M9 hw => zz_kI hw (fun x12 hw => ?_)) (fun _ _ _ h9 => h9.elim) rfl
    refine zz_istore_n (i := 2) (lv' := [(2, .int x12), (0, va_rf this), (1, .int p0)]) C dX4_concede_28 rfl (by decide) rfl ?_
    refine zz_iconst (v := (-1 : Int32)) C dX4_concede_29 (by decide) ?_
    refine zz_istore_n (i := 3) (lv' := [(3, .int (-1 : Int32)), (2, .int x12), (0, va_rf this), (1, .int p0)]) C dX4_concede_30 rfl (by decide) rfl ?_
    refine zz_iconst (v := (0 : Int32)) C dX4_concede_31 (by decide) ?_
    refine zz_istore (lv' := [(4, .int (0 : Int32)), (3, .int (-1 : Int32)), (2, .int x12), (0, va_rf this), (1, .int p0)]) C dX4_concede_32 (by decide) rfl ?_
    refine zz_subP [3, 4, 2, 1, 0] rfl ?_
    obtain ⟨n34, hw⟩ := hw
    exact ok_X4_concede_L34 C E hH hR n34 _ _ _ _ _ _ _ _ hw
  · refine zz_aload_n C dX4_concede_13 rfl 0 rfl ?_
    refine zz_iconst (v := (1 : Int32)) C dX4_concede_14 (by decide) ?_
    obtain ⟨a9, t9, b9, fs9, hro, hL, rfl, hw⟩ := ztyS hw
    refine zz_callV (r := (zR_16, zT_16, 24)) (As := [.int (1 : Int32)]) (rest := []) (mc := 0) (ms := 0) C hR hro dX4_concede_15 (Or.inl q2517) q2519 (Or.inl qs32) zl_DebateHallModel zk_X4_no (Or.inl rfl) zy_X4_no rfl (by decide) (by decide) hL (ok_X4_no (zz_hl C) hw) (Nat.zero_le _) (Nat.zero_le _) (zz_cat10 _ (Nat.le_of_ble_eq_true rfl)) (fun r13 M14 hw => zz_kI hw (fun x17 hw => ?_)) (fun _ _ _ h9 => h9.elim) rfl
    exact zz_iret C E dX4_concede_18 hw
abbrev cX1_conceding : ByteArray := prog_1_method_26_code
def yX1_conceding : MethodName := ⟨"DebateHall", "conceding", "(II)I"⟩
def dkwX1_conceding_0 : List UInt8 := [42, 27, 182, 0, 228, 78, 42, 28, 182, 0, 189, 42, 45, 28, 182, 0, 249, 172]
abbrev dktX1_conceding_0 : List UInt8 := dkwX1_conceding_0 ++ []
theorem dksX1_conceding_0 : cX1_conceding.data.toList.drop 0 = dktX1_conceding_0 := by decide +kernel
theorem dX1_conceding_0 : decode cX1_conceding 0 = .ok (.aload_n 0, 1) := dk_42 (dk_at dksX1_conceding_0 0 rfl rfl)
theorem dX1_conceding_1 : decode cX1_conceding 1 = .ok (.iload_n 1, 1) := dk_27 (dk_at dksX1_conceding_0 1 rfl rfl)
theorem dX1_conceding_2 : decode cX1_conceding 2 = .ok (.invokevirtual 228, 3) := dk_182 0 228 (dk_at dksX1_conceding_0 2 rfl rfl)
theorem dX1_conceding_5 : decode cX1_conceding 5 = .ok (.astore_n 3, 1) := dk_78 (dk_at dksX1_conceding_0 5 rfl rfl)
theorem dX1_conceding_6 : decode cX1_conceding 6 = .ok (.aload_n 0, 1) := dk_42 (dk_at dksX1_conceding_0 6 rfl rfl)
theorem dX1_conceding_7 : decode cX1_conceding 7 = .ok (.iload_n 2, 1) := dk_28 (dk_at dksX1_conceding_0 7 rfl rfl)
theorem dX1_conceding_8 : decode cX1_conceding 8 = .ok (.invokevirtual 189, 3) := dk_182 0 189 (dk_at dksX1_conceding_0 8 rfl rfl)
theorem dX1_conceding_11 : decode cX1_conceding 11 = .ok (.aload_n 0, 1) := dk_42 (dk_at dksX1_conceding_0 11 rfl rfl)
theorem dX1_conceding_12 : decode cX1_conceding 12 = .ok (.aload_n 3, 1) := dk_45 (dk_at dksX1_conceding_0 12 rfl rfl)
theorem dX1_conceding_13 : decode cX1_conceding 13 = .ok (.iload_n 2, 1) := dk_28 (dk_at dksX1_conceding_0 13 rfl rfl)
theorem dX1_conceding_14 : decode cX1_conceding 14 = .ok (.invokevirtual 249, 3) := dk_182 0 249 (dk_at dksX1_conceding_0 14 rfl rfl)
theorem dX1_conceding_17 : decode cX1_conceding 17 = .ok (.ireturn, 1) := dk_172 (dk_at dksX1_conceding_0 17 rfl rfl)
def wp_X1_conceding (Z : zzG) (this : Option Nat) (p0 : Int32) (p1 : Int32) (M : zzM) (bc bs : Nat) (K : Option Value → zzM → Prop) (X : Nat → Nat → zzM → Prop) : Prop := zty Z M this fun t => t = 0 ∧ zcx bc bs (fun c s k x => wp_X1_itemAt Z this p0 M c s k x) (fun r1 M2 bc3 bs4 => zrA r1 fun x5 => zty Z M2 this fun t => t = 0 ∧ zcx bc3 bs4 (fun c s k x => wp_X1_requireSpeaker Z this p1 M2 c s k x) (fun r6 M7 bc8 bs9 => zrV r6 (zty Z M7 this fun t => t = 0 ∧ wp_X1_leadWith Z this x5 p1 M7 (fun r10 M11 => zrI r10 fun x14 => K (some (.int x14)) M11))) (fun t q M _ _ => X t q M)) (fun t q M _ _ => X t q M)
theorem ok_X1_conceding {Z : zzG} {l : Launch} (hl : l.stackTraces = false) {this : Option Nat} {p0 : Int32} {p1 : Int32} {M : zzM} {mc ms : Nat} {K : Option Value → zzM → Prop} {X : Nat → Nat → zzM → Prop} (hw : wp_X1_conceding Z this p0 p1 M mc ms K X) : zz_Met Z l yX1_conceding (zz_ws yX1_conceding cX1_conceding 4 (some .int) none) 9 [va_rf this, .int p0, .int p1] M mc ms K X := by
  refine zz_ofW hl (plainFor_of_name (by decide)) (by simp only [zz_sl0, zz_slI, zz_slJ, zz_slA] <;> decide) (fun G hZ hll C E hH hR hin => ?_)
  subst hZ
  subst hll
  rw [show lv_args 0 [va_rf this, .int p0, .int p1] = [(0, va_rf this), (1, .int p0), (2, .int p1)] by simp only [zz_la0, zz_laI, zz_laJ, zz_laA]]
  unfold wp_X1_conceding at hw
  refine zz_aload_n C dX1_conceding_0 rfl 0 rfl ?_
  refine zz_iload_n C dX1_conceding_1 rfl 1 rfl ?_
  obtain ⟨a9, t9, b9, fs9, hro, hL, rfl, hw⟩ := ztyS hw
  obtain ⟨c9, s9, hc9, hs9, hw⟩ := hw
  refine zz_callV (r := (zR_0, zT_0, 4)) (As := [.int p0]) (rest := []) C hR hro dX1_conceding_2 (Or.inl q2287) q2289 (Or.inl qs28) zl_DebateHall zk_X1_itemAt (Or.inl rfl) zy_X1_itemAt rfl (by decide) (by decide) hL (ok_X1_itemAt (zz_hl C) hw) hc9 hs9 (zz_cat10 _ (Nat.le_of_ble_eq_true rfl)) (fun r1 M2 hw => zz_kA hw (fun x5 hw => ?_)) (fun t9 q19 M20 hx => ?_) rfl
  · refine zz_astore_n (i := 3) (lv' := [(3, va_rf x5), (0, va_rf this), (1, .int p0), (2, .int p1)]) C dX1_conceding_5 rfl (by decide) rfl ?_
    refine zz_aload_n C dX1_conceding_6 rfl 1 rfl ?_
    refine zz_iload_n C dX1_conceding_7 rfl 3 rfl ?_
    obtain ⟨a9, t9, b9, fs9, hro, hL, rfl, hw⟩ := ztyS hw
    obtain ⟨c9, s9, hc9, hs9, hw⟩ := hw
    refine zz_callV (r := (zR_0, zT_0, 4)) (As := [.int p1]) (rest := []) C hR hro dX1_conceding_8 (Or.inl q2276) q2278 (Or.inl qs27) zl_DebateHall zk_X1_requireSpeaker (Or.inl rfl) zy_X1_requireSpeaker rfl (by decide) (by decide) hL (ok_X1_requireSpeaker (zz_hl C) hw) hc9 hs9 (zz_cat10 _ (Nat.le_of_ble_eq_true rfl)) (fun r6 M7 hw => zz_kV hw (fun hw => ?_)) (fun t9 q15 M16 hx => ?_) rfl
    · refine zz_aload_n C dX1_conceding_11 rfl 1 rfl ?_
      refine zz_aload_n C dX1_conceding_12 rfl 0 rfl ?_
      refine zz_iload_n C dX1_conceding_13 rfl 3 rfl ?_
      obtain ⟨a9, t9, b9, fs9, hro, hL, rfl, hw⟩ := ztyS hw
      refine zz_callV (r := (zR_0, zT_0, 4)) (As := [va_rf x5, .int p1]) (rest := []) (mc := 0) (ms := 0) C hR hro dX1_conceding_14 (Or.inl q2327) q2329 (Or.inl qs29) zl_DebateHall zk_X1_leadWith (Or.inl rfl) zy_X1_leadWith rfl (by decide) (by decide) hL (ok_X1_leadWith (zz_hl C) hw) (Nat.zero_le _) (Nat.zero_le _) (zz_cat10 _ (Nat.le_of_ble_eq_true rfl)) (fun r10 M11 hw => zz_kI hw (fun x14 hw => ?_)) (fun _ _ _ h9 => h9.elim) rfl
      exact zz_iret C E dX1_conceding_17 hw
    · exact zz_out C E hH rfl hx
  · exact zz_out C E hH rfl hx
abbrev cX0_conceding : ByteArray := method_12_code
def yX0_conceding : MethodName := ⟨"DebateHallLaw", "conceding", "(LDebateHall;II[J)I"⟩
def dkwX0_conceding_0 : List UInt8 := [45, 3, 42, 27, 28, 182, 0, 46, 133, 80, 167, 0, 7, 58, 4, 4, 172, 3, 172]
abbrev dktX0_conceding_0 : List UInt8 := dkwX0_conceding_0 ++ []
theorem dksX0_conceding_0 : cX0_conceding.data.toList.drop 0 = dktX0_conceding_0 := by decide +kernel
theorem dX0_conceding_0 : decode cX0_conceding 0 = .ok (.aload_n 3, 1) := dk_45 (dk_at dksX0_conceding_0 0 rfl rfl)
theorem dX0_conceding_1 : decode cX0_conceding 1 = .ok (.iconst 0, 1) := dk_3 (dk_at dksX0_conceding_0 1 rfl rfl)
theorem dX0_conceding_2 : decode cX0_conceding 2 = .ok (.aload_n 0, 1) := dk_42 (dk_at dksX0_conceding_0 2 rfl rfl)
theorem dX0_conceding_3 : decode cX0_conceding 3 = .ok (.iload_n 1, 1) := dk_27 (dk_at dksX0_conceding_0 3 rfl rfl)
theorem dX0_conceding_4 : decode cX0_conceding 4 = .ok (.iload_n 2, 1) := dk_28 (dk_at dksX0_conceding_0 4 rfl rfl)
theorem dX0_conceding_5 : decode cX0_conceding 5 = .ok (.invokevirtual 46, 3) := dk_182 0 46 (dk_at dksX0_conceding_0 5 rfl rfl)
theorem dX0_conceding_8 : decode cX0_conceding 8 = .ok (.i2l, 1) := dk_133 (dk_at dksX0_conceding_0 8 rfl rfl)
theorem dX0_conceding_9 : decode cX0_conceding 9 = .ok (.lastore, 1) := dk_80 (dk_at dksX0_conceding_0 9 rfl rfl)
theorem dX0_conceding_10 : decode cX0_conceding 10 = .ok (.goto 7, 3) := dk_167 0 7 (dk_at dksX0_conceding_0 10 rfl rfl)
theorem dX0_conceding_13 : decode cX0_conceding 13 = .ok (.astore 4, 2) := dk_58 4 (dk_at dksX0_conceding_0 13 rfl rfl)
theorem dX0_conceding_15 : decode cX0_conceding 15 = .ok (.iconst 1, 1) := dk_4 (dk_at dksX0_conceding_0 15 rfl rfl)
theorem dX0_conceding_16 : decode cX0_conceding 16 = .ok (.ireturn, 1) := dk_172 (dk_at dksX0_conceding_0 16 rfl rfl)
theorem dX0_conceding_17 : decode cX0_conceding 17 = .ok (.iconst 0, 1) := dk_3 (dk_at dksX0_conceding_0 17 rfl rfl)
theorem dX0_conceding_18 : decode cX0_conceding 18 = .ok (.ireturn, 1) := dk_172 (dk_at dksX0_conceding_0 18 rfl rfl)
theorem q2326 : (Jvm.Cond.code ({ cls := "DebateHall", name := "conceding", desc := "(II)I" } : Jvm.MethodName) prog_1_method_26_code (4 : Nat) (Option.some Jvm.ClassFile.FieldType.int)) ∈ lw_all := lw_g (lw_at lw_m10 86 rfl) rfl
theorem zk_X1_conceding : zz_cd yX1_conceding cX1_conceding 4 (some .int) none ∈ lw_all := q2326
theorem zy_X1_conceding : zz_yok yX1_conceding 2 = true := by decide +kernel
theorem q2323 : (Jvm.Cond.methodLink "DebateHallLaw" (46 : Nat) ({ cls := "DebateHall", name := "conceding", desc := "(II)I" } : Jvm.MethodName)) ∈ lw_all := lw_g (lw_at lw_m10 83 rfl) rfl
theorem q2324 : (Jvm.Cond.instanceMethod ({ cls := "DebateHall", name := "conceding", desc := "(II)I" } : Jvm.MethodName)) ∈ lw_all := lw_g (lw_at lw_m10 84 rfl) rfl
theorem q2325 : (Jvm.Cond.selects "DebateHall" ({ cls := "DebateHall", name := "conceding", desc := "(II)I" } : Jvm.MethodName) ({ cls := "DebateHall", name := "conceding", desc := "(II)I" } : Jvm.MethodName)) ∈ lw_all := lw_g (lw_at lw_m10 85 rfl) rfl
def wp_X0_conceding_B13 (Z : zzG) (K : Option Value → zzM → Prop) (s0 : Option Nat) (M : zzM) (bc bs : Nat) : Prop := K (some (.int (1 : Int32))) M
def wp_X0_conceding (Z : zzG) (p0 : Option Nat) (p1 : Int32) (p2 : Int32) (p3 : Option Nat) (M : zzM) (bc bs : Nat) (K : Option Value → zzM → Prop) : Prop := zty Z M p0 fun t => t = 0 ∧ zcx bc bs (fun c s k x => wp_X1_conceding Z p0 p1 p2 M c s k x) (fun r1 M2 bc3 bs4 => zrI r1 fun x5 => zast Z M2 p3 [102] (0 : Int32) (.long x5.toInt64) fun M6 => K (some (.int (0 : Int32))) M6) (fun t q7 M8 bc9 bs10 => if t = 28 then (wp_X0_conceding_B13 Z K (some q7) M8 bc9 bs10) else False)
theorem ok_X0_conceding_B13 {G : zzX} (C : zz_C G cX0_conceding "DebateHallLaw" 5) {K : Option Value → zzM → Prop} (E : zz_E G (some .int) K (fun _ _ _ => False)) (hH : zz_H G [(0, 10, 13, 24)]) (hR : zz_Rm G 10) {s0 : Option Nat} {M : zzM} {bc bs : Nat} (hw : wp_X0_conceding_B13 (zz_Zof G) K s0 M bc bs) : zz_T G 5 M bc bs 13 [] [va_rf s0] := by
  unfold wp_X0_conceding_B13 at hw
  refine zz_astore (lv' := [(4, va_rf s0)]) C dX0_conceding_13 (by decide) rfl ?_
  refine zz_iconst (v := (1 : Int32)) C dX0_conceding_15 (by decide) ?_
  exact zz_iret C E dX0_conceding_16 hw
theorem ok_X0_conceding {Z : zzG} {l : Launch} (hl : l.stackTraces = false) {p0 : Option Nat} {p1 : Int32} {p2 : Int32} {p3 : Option Nat} {M : zzM} {mc ms : Nat} {K : Option Value → zzM → Prop} (hw : wp_X0_conceding Z p0 p1 p2 p3 M mc ms K) : zz_Met Z l yX0_conceding (zz_ws yX0_conceding cX0_conceding 5 (some .int) (some [(0, 10, 13, 24)])) 10 [va_rf p0, .int p1, .int p2, va_rf p3] M mc ms K (fun _ _ _ => False) := by
  refine zz_ofW hl (plainFor_of_name (by decide)) (by simp only [zz_sl0, zz_slI, zz_slJ, zz_slA] <;> decide) (fun G hZ hll C E hH hR hin => ?_)
  subst hZ
  subst hll
  rw [show lv_args 0 [va_rf p0, .int p1, .int p2, va_rf p3] = [(0, va_rf p0), (1, .int p1), (2, .int p2), (3, va_rf p3)] by simp only [zz_la0, zz_laI, zz_laJ, zz_laA]]
  unfold wp_X0_conceding at hw
  refine zz_aload_n C dX0_conceding_0 rfl 3 rfl ?_
  refine zz_iconst (v := (0 : Int32)) C dX0_conceding_1 (by decide) ?_
  refine zz_aload_n C dX0_conceding_2 rfl 0 rfl ?_
  refine zz_iload_n C dX0_conceding_3 rfl 1 rfl ?_
  refine zz_iload_n C dX0_conceding_4 rfl 2 rfl ?_
  obtain ⟨a9, t9, b9, fs9, hro, hL, rfl, hw⟩ := ztyS hw
  obtain ⟨c9, s9, hc9, hs9, hw⟩ := hw
  refine zz_callV (r := (zR_0, zT_0, 4)) (As := [.int p1, .int p2]) (rest := [.int (0 : Int32), va_rf p3]) C hR hro dX0_conceding_5 (Or.inl q2323) q2324 (Or.inl q2325) zl_DebateHall zk_X1_conceding (Or.inl rfl) zy_X1_conceding rfl (by decide) (by decide) hL (ok_X1_conceding (zz_hl C) hw) hc9 hs9 (zz_cat10 _ (Nat.le_of_ble_eq_true rfl)) (fun r1 M2 hw => zz_kI hw (fun x5 hw => ?_)) (fun t9 q7 M8 hw => ?_) rfl
  · refine zz_i2l C dX0_conceding_8 ?_
    refine zz_last C dX0_conceding_9 hw (fun M6 hw => ?_)
    refine zz_goto (tgt := 17) C dX0_conceding_10 (by decide) ?_
    refine zz_iconst (v := (0 : Int32)) C dX0_conceding_17 (by decide) ?_
    exact zz_iret C E dX0_conceding_18 hw
  · by_cases e28 : t9 = 28
    · replace hw := zz_ifp e28 hw
      subst e28
      refine zz_catch (r := (zR_28, zT_28, 0)) C hH rfl [] (0, 10, 13, 24) [] rfl (fun _ h9 => absurd h9 List.not_mem_nil) rfl (by decide) q2265 q2137 ?_
      refine zz_subP [] rfl ?_
      exact ok_X0_conceding_B13 C E hH hR hw
    · replace hw := zz_ifn e28 hw
      exact hw.elim
abbrev cX4_conceding : ByteArray := prog_25_method_61_code
def yX4_conceding : MethodName := ⟨"DebateHallModel", "conceding", "(II)I"⟩
def dkwX4_conceding_1 : List UInt8 := [182, 1, 56, 172, 42, 27, 28, 182, 1, 104, 172]
abbrev dktX4_conceding_1 : List UInt8 := dkwX4_conceding_1 ++ []
def dkwX4_conceding_0 : List UInt8 := [42, 3, 181, 0, 85, 42, 27, 182, 1, 92, 153, 0, 11, 42, 28, 182, 1, 84, 154, 0, 9, 42, 4]
abbrev dktX4_conceding_0 : List UInt8 := dkwX4_conceding_0 ++ dktX4_conceding_1
theorem dksX4_conceding_0 : cX4_conceding.data.toList.drop 0 = dktX4_conceding_0 := by decide +kernel
theorem dksX4_conceding_1 : cX4_conceding.data.toList.drop 23 = dktX4_conceding_1 := dk_seg dksX4_conceding_0 23 rfl rfl
theorem dX4_conceding_0 : decode cX4_conceding 0 = .ok (.aload_n 0, 1) := dk_42 (dk_at dksX4_conceding_0 0 rfl rfl)
theorem dX4_conceding_1 : decode cX4_conceding 1 = .ok (.iconst 0, 1) := dk_3 (dk_at dksX4_conceding_0 1 rfl rfl)
theorem dX4_conceding_2 : decode cX4_conceding 2 = .ok (.putfield 85, 3) := dk_181 0 85 (dk_at dksX4_conceding_0 2 rfl rfl)
theorem dX4_conceding_5 : decode cX4_conceding 5 = .ok (.aload_n 0, 1) := dk_42 (dk_at dksX4_conceding_0 5 rfl rfl)
theorem dX4_conceding_6 : decode cX4_conceding 6 = .ok (.iload_n 1, 1) := dk_27 (dk_at dksX4_conceding_0 6 rfl rfl)
theorem dX4_conceding_7 : decode cX4_conceding 7 = .ok (.invokevirtual 348, 3) := dk_182 1 92 (dk_at dksX4_conceding_0 7 rfl rfl)
theorem dX4_conceding_10 : decode cX4_conceding 10 = .ok (.ifCond .eq 11, 3) := dk_153 0 11 (dk_at dksX4_conceding_0 10 rfl rfl)
theorem dX4_conceding_13 : decode cX4_conceding 13 = .ok (.aload_n 0, 1) := dk_42 (dk_at dksX4_conceding_0 13 rfl rfl)
theorem dX4_conceding_14 : decode cX4_conceding 14 = .ok (.iload_n 2, 1) := dk_28 (dk_at dksX4_conceding_0 14 rfl rfl)
theorem dX4_conceding_15 : decode cX4_conceding 15 = .ok (.invokevirtual 340, 3) := dk_182 1 84 (dk_at dksX4_conceding_0 15 rfl rfl)
theorem dX4_conceding_18 : decode cX4_conceding 18 = .ok (.ifCond .ne 9, 3) := dk_154 0 9 (dk_at dksX4_conceding_0 18 rfl rfl)
theorem dX4_conceding_21 : decode cX4_conceding 21 = .ok (.aload_n 0, 1) := dk_42 (dk_at dksX4_conceding_0 21 rfl rfl)
theorem dX4_conceding_22 : decode cX4_conceding 22 = .ok (.iconst 1, 1) := dk_4 (dk_at dksX4_conceding_0 22 rfl rfl)
theorem dX4_conceding_23 : decode cX4_conceding 23 = .ok (.invokevirtual 312, 3) := dk_182 1 56 (dk_at dksX4_conceding_1 0 rfl rfl)
theorem dX4_conceding_26 : decode cX4_conceding 26 = .ok (.ireturn, 1) := dk_172 (dk_at dksX4_conceding_1 3 rfl rfl)
theorem dX4_conceding_27 : decode cX4_conceding 27 = .ok (.aload_n 0, 1) := dk_42 (dk_at dksX4_conceding_1 4 rfl rfl)
theorem dX4_conceding_28 : decode cX4_conceding 28 = .ok (.iload_n 1, 1) := dk_27 (dk_at dksX4_conceding_1 5 rfl rfl)
theorem dX4_conceding_29 : decode cX4_conceding 29 = .ok (.iload_n 2, 1) := dk_28 (dk_at dksX4_conceding_1 6 rfl rfl)
theorem dX4_conceding_30 : decode cX4_conceding 30 = .ok (.invokevirtual 360, 3) := dk_182 1 104 (dk_at dksX4_conceding_1 7 rfl rfl)
theorem dX4_conceding_33 : decode cX4_conceding 33 = .ok (.ireturn, 1) := dk_172 (dk_at dksX4_conceding_1 10 rfl rfl)
def wp_X4_conceding_B21 (Z : zzG) (K : Option Value → zzM → Prop) (v0 : Option Nat) (M : zzM) : Prop := zty Z M v0 fun t => t = 16 ∧ wp_X4_no Z v0 (1 : Int32) M (fun r17 M18 => zrI r17 fun x21 => K (some (.int x21)) M18)
def wp_X4_conceding (Z : zzG) (this : Option Nat) (p0 : Int32) (p1 : Int32) (M : zzM) (K : Option Value → zzM → Prop) : Prop := zput Z M this [16] 0 (.int (0 : Int32)) fun M1 => zty Z M1 this fun t => t = 16 ∧ wp_X4_isItem Z this p0 M1 (fun r2 M3 => zrI r2 fun x6 => if x6 = 0 then (wp_X4_conceding_B21 Z K this M3) else (zty Z M3 this fun t => t = 16 ∧ wp_X4_isSpeaker Z this p1 M3 (fun r7 M8 => zrI r7 fun x11 => if x11 = 0 then (wp_X4_conceding_B21 Z K this M8) else (zty Z M8 this fun t => t = 16 ∧ wp_X4_leadWith Z this p0 p1 M8 (fun r12 M13 => zrI r12 fun x16 => K (some (.int x16)) M13)))))
theorem ok_X4_conceding_B21 {G : zzX} (C : zz_C G cX4_conceding "DebateHallModel" 3) {K : Option Value → zzM → Prop} (E : zz_E G (some .int) K (fun _ _ _ => False)) (hH : zz_H G []) (hR : zz_Rm G 5) {v0 : Option Nat} {M : zzM} {bc bs : Nat} (hw : wp_X4_conceding_B21 (zz_Zof G) K v0 M) : zz_T G 3 M bc bs 21 [(0, va_rf v0)] [] := by
  unfold wp_X4_conceding_B21 at hw
  refine zz_aload_n C dX4_conceding_21 rfl 0 rfl ?_
  refine zz_iconst (v := (1 : Int32)) C dX4_conceding_22 (by decide) ?_
  obtain ⟨a9, t9, b9, fs9, hro, hL, rfl, hw⟩ := ztyS hw
  refine zz_callV (r := (zR_16, zT_16, 24)) (As := [.int (1 : Int32)]) (rest := []) (mc := 0) (ms := 0) C hR hro dX4_conceding_23 (Or.inl q2517) q2519 (Or.inl qs32) zl_DebateHallModel zk_X4_no (Or.inl rfl) zy_X4_no rfl (by decide) (by decide) hL (ok_X4_no (zz_hl C) hw) (Nat.zero_le _) (Nat.zero_le _) (zz_cat10 _ (Nat.le_of_ble_eq_true rfl)) (fun r17 M18 hw => zz_kI hw (fun x21 hw => ?_)) (fun _ _ _ h9 => h9.elim) rfl
  exact zz_iret C E dX4_conceding_26 hw
theorem ok_X4_conceding {Z : zzG} {l : Launch} (hl : l.stackTraces = false) {this : Option Nat} {p0 : Int32} {p1 : Int32} {M : zzM} {mc ms : Nat} {K : Option Value → zzM → Prop} (hw : wp_X4_conceding Z this p0 p1 M K) : zz_Met Z l yX4_conceding (zz_ws yX4_conceding cX4_conceding 3 (some .int) none) 5 [va_rf this, .int p0, .int p1] M mc ms K (fun _ _ _ => False) := by
  refine zz_ofW hl (plainFor_of_name (by decide)) (by simp only [zz_sl0, zz_slI, zz_slJ, zz_slA] <;> decide) (fun G hZ hll C E hH hR hin => ?_)
  subst hZ
  subst hll
  rw [show lv_args 0 [va_rf this, .int p0, .int p1] = [(0, va_rf this), (1, .int p0), (2, .int p1)] by simp only [zz_la0, zz_laI, zz_laJ, zz_laA]]
  unfold wp_X4_conceding at hw
  refine zz_aload_n C dX4_conceding_0 rfl 0 rfl ?_
  refine zz_iconst (v := (0 : Int32)) C dX4_conceding_1 (by decide) ?_
  refine zz_put C dX4_conceding_2 (Or.inl q2436) zf_16_0_ebateHallModel zp_16_0 (zz_hn1 ⟨rfl, rfl⟩) hw (fun M1 hw => ?_)
  refine zz_aload_n C dX4_conceding_5 rfl 0 rfl ?_
  refine zz_iload_n C dX4_conceding_6 rfl 1 rfl ?_
  obtain ⟨a9, t9, b9, fs9, hro, hL, rfl, hw⟩ := ztyS hw
  refine zz_callV (r := (zR_16, zT_16, 24)) (As := [.int p0]) (rest := []) (mc := 0) (ms := 0) C hR hro dX4_conceding_7 (Or.inl q2758) q2760 (Or.inl qs69) zl_DebateHallModel zk_X4_isItem (Or.inl rfl) zy_X4_isItem rfl (by decide) (by decide) hL (ok_X4_isItem (zz_hl C) hw) (Nat.zero_le _) (Nat.zero_le _) (zz_cat10 _ (Nat.le_of_ble_eq_true rfl)) (fun r2 M3 hw => zz_kI hw (fun x6 hw => ?_)) (fun _ _ _ h9 => h9.elim) rfl
  refine zz_if_eq (tgt := 21) C dX4_conceding_10 (by decide) hw (fun hw => ?_) (fun hw => ?_)
  · refine zz_subP [0] rfl ?_
    exact ok_X4_conceding_B21 C E hH hR hw
  · refine zz_aload_n C dX4_conceding_13 rfl 0 rfl ?_
    refine zz_iload_n C dX4_conceding_14 rfl 2 rfl ?_
    obtain ⟨a9, t9, b9, fs9, hro, hL, rfl, hw⟩ := ztyS hw
    refine zz_callV (r := (zR_16, zT_16, 24)) (As := [.int p1]) (rest := []) (mc := 0) (ms := 0) C hR hro dX4_conceding_15 (Or.inl q2736) q2738 (Or.inl qs65) zl_DebateHallModel zk_X4_isSpeaker (Or.inl rfl) zy_X4_isSpeaker rfl (by decide) (by decide) hL (ok_X4_isSpeaker (zz_hl C) hw) (Nat.zero_le _) (Nat.zero_le _) (zz_cat10 _ (Nat.le_of_ble_eq_true rfl)) (fun r7 M8 hw => zz_kI hw (fun x11 hw => ?_)) (fun _ _ _ h9 => h9.elim) rfl
    refine zz_if_ne (tgt := 27) C dX4_conceding_18 (by decide) hw (fun hw => ?_) (fun hw => ?_)
    · refine zz_aload_n C dX4_conceding_27 rfl 0 rfl ?_
      refine zz_iload_n C dX4_conceding_28 rfl 1 rfl ?_
      refine zz_iload_n C dX4_conceding_29 rfl 2 rfl ?_
      obtain ⟨a9, t9, b9, fs9, hro, hL, rfl, hw⟩ := ztyS hw
      refine zz_callV (r := (zR_16, zT_16, 24)) (As := [.int p0, .int p1]) (rest := []) (mc := 0) (ms := 0) C hR hro dX4_conceding_30 (Or.inl q2802) q2804 (Or.inl qs74) zl_DebateHallModel zk_X4_leadWith (Or.inl rfl) zy_X4_leadWith rfl (by decide) (by decide) hL (ok_X4_leadWith (zz_hl C) hw) (Nat.zero_le _) (Nat.zero_le _) (zz_cat10 _ (Nat.le_of_ble_eq_true rfl)) (fun r12 M13 hw => zz_kI hw (fun x16 hw => ?_)) (fun _ _ _ h9 => h9.elim) rfl
      exact zz_iret C E dX4_conceding_33 hw
    · refine zz_subP [0] rfl ?_
      exact ok_X4_conceding_B21 C E hH hR hw
abbrev cX1_leader : ByteArray := prog_1_method_24_code
def yX1_leader : MethodName := ⟨"DebateHall", "leader", "()I"⟩
def dkwX1_leader_2 : List UInt8 := [167, 255, 213, 27, 172]
abbrev dktX1_leader_2 : List UInt8 := dkwX1_leader_2 ++ []
def dkwX1_leader_1 : List UInt8 := [180, 0, 36, 28, 182, 0, 183, 42, 180, 0, 36, 27, 182, 0, 183, 164, 0, 5, 28, 60, 132, 2, 1]
abbrev dktX1_leader_1 : List UInt8 := dkwX1_leader_1 ++ dktX1_leader_2
def dkwX1_leader_0 : List UInt8 := [2, 60, 3, 61, 28, 42, 180, 0, 36, 180, 0, 47, 182, 0, 51, 162, 0, 35, 27, 2, 159, 0, 22, 42]
abbrev dktX1_leader_0 : List UInt8 := dkwX1_leader_0 ++ dktX1_leader_1
theorem dksX1_leader_0 : cX1_leader.data.toList.drop 0 = dktX1_leader_0 := by decide +kernel
theorem dksX1_leader_1 : cX1_leader.data.toList.drop 24 = dktX1_leader_1 := dk_seg dksX1_leader_0 24 rfl rfl
theorem dksX1_leader_2 : cX1_leader.data.toList.drop 47 = dktX1_leader_2 := dk_seg dksX1_leader_1 23 rfl rfl
theorem dX1_leader_0 : decode cX1_leader 0 = .ok (.iconst (-1), 1) := dk_2 (dk_at dksX1_leader_0 0 rfl rfl)
theorem dX1_leader_1 : decode cX1_leader 1 = .ok (.istore_n 1, 1) := dk_60 (dk_at dksX1_leader_0 1 rfl rfl)
theorem dX1_leader_2 : decode cX1_leader 2 = .ok (.iconst 0, 1) := dk_3 (dk_at dksX1_leader_0 2 rfl rfl)
theorem dX1_leader_3 : decode cX1_leader 3 = .ok (.istore_n 2, 1) := dk_61 (dk_at dksX1_leader_0 3 rfl rfl)
theorem dX1_leader_4 : decode cX1_leader 4 = .ok (.iload_n 2, 1) := dk_28 (dk_at dksX1_leader_0 4 rfl rfl)
theorem dX1_leader_5 : decode cX1_leader 5 = .ok (.aload_n 0, 1) := dk_42 (dk_at dksX1_leader_0 5 rfl rfl)
theorem dX1_leader_6 : decode cX1_leader 6 = .ok (.getfield 36, 3) := dk_180 0 36 (dk_at dksX1_leader_0 6 rfl rfl)
theorem dX1_leader_9 : decode cX1_leader 9 = .ok (.getfield 47, 3) := dk_180 0 47 (dk_at dksX1_leader_0 9 rfl rfl)
theorem dX1_leader_12 : decode cX1_leader 12 = .ok (.invokevirtual 51, 3) := dk_182 0 51 (dk_at dksX1_leader_0 12 rfl rfl)
theorem dX1_leader_15 : decode cX1_leader 15 = .ok (.if_icmp .ge 35, 3) := dk_162 0 35 (dk_at dksX1_leader_0 15 rfl rfl)
theorem dX1_leader_18 : decode cX1_leader 18 = .ok (.iload_n 1, 1) := dk_27 (dk_at dksX1_leader_0 18 rfl rfl)
theorem dX1_leader_19 : decode cX1_leader 19 = .ok (.iconst (-1), 1) := dk_2 (dk_at dksX1_leader_0 19 rfl rfl)
theorem dX1_leader_20 : decode cX1_leader 20 = .ok (.if_icmp .eq 22, 3) := dk_159 0 22 (dk_at dksX1_leader_0 20 rfl rfl)
theorem dX1_leader_23 : decode cX1_leader 23 = .ok (.aload_n 0, 1) := dk_42 (dk_at dksX1_leader_0 23 rfl rfl)
theorem dX1_leader_24 : decode cX1_leader 24 = .ok (.getfield 36, 3) := dk_180 0 36 (dk_at dksX1_leader_1 0 rfl rfl)
theorem dX1_leader_27 : decode cX1_leader 27 = .ok (.iload_n 2, 1) := dk_28 (dk_at dksX1_leader_1 3 rfl rfl)
theorem dX1_leader_28 : decode cX1_leader 28 = .ok (.invokevirtual 183, 3) := dk_182 0 183 (dk_at dksX1_leader_1 4 rfl rfl)
theorem dX1_leader_31 : decode cX1_leader 31 = .ok (.aload_n 0, 1) := dk_42 (dk_at dksX1_leader_1 7 rfl rfl)
theorem dX1_leader_32 : decode cX1_leader 32 = .ok (.getfield 36, 3) := dk_180 0 36 (dk_at dksX1_leader_1 8 rfl rfl)
theorem dX1_leader_35 : decode cX1_leader 35 = .ok (.iload_n 1, 1) := dk_27 (dk_at dksX1_leader_1 11 rfl rfl)
theorem dX1_leader_36 : decode cX1_leader 36 = .ok (.invokevirtual 183, 3) := dk_182 0 183 (dk_at dksX1_leader_1 12 rfl rfl)
theorem dX1_leader_39 : decode cX1_leader 39 = .ok (.if_icmp .le 5, 3) := dk_164 0 5 (dk_at dksX1_leader_1 15 rfl rfl)
theorem dX1_leader_42 : decode cX1_leader 42 = .ok (.iload_n 2, 1) := dk_28 (dk_at dksX1_leader_1 18 rfl rfl)
theorem dX1_leader_43 : decode cX1_leader 43 = .ok (.istore_n 1, 1) := dk_60 (dk_at dksX1_leader_1 19 rfl rfl)
theorem dX1_leader_44 : decode cX1_leader 44 = .ok (.iinc 2 1, 3) := dk_132 2 1 (dk_at dksX1_leader_1 20 rfl rfl)
theorem dX1_leader_47 : decode cX1_leader 47 = .ok (.goto (-43), 3) := dk_167 255 213 (dk_at dksX1_leader_2 0 rfl rfl)
theorem dX1_leader_50 : decode cX1_leader 50 = .ok (.iload_n 1, 1) := dk_27 (dk_at dksX1_leader_2 3 rfl rfl)
theorem dX1_leader_51 : decode cX1_leader 51 = .ok (.ireturn, 1) := dk_172 (dk_at dksX1_leader_2 4 rfl rfl)
def wp_X1_leader_B44 (Z : zzG) (k4 : Option Nat → Int32 → Int32 → zzM → Prop) (K : Option Value → zzM → Prop) (v0 : Option Nat) (v1 : Int32) (v2 : Int32) (M : zzM) : Prop := k4 v0 v1 (v2 + 1) M
def wp_X1_leader_B42 (Z : zzG) (k4 : Option Nat → Int32 → Int32 → zzM → Prop) (K : Option Value → zzM → Prop) (v0 : Option Nat) (v2 : Int32) (M : zzM) : Prop := wp_X1_leader_B44 Z k4 K v0 v2 v2 M
def wp_X1_leader_L4 (Z : zzG) (K : Option Value → zzM → Prop) : Nat → Option Nat → Int32 → Int32 → zzM → Prop
  | 0, _, _, _, _ => False
  | n + 1, v0, v1, v2, M => zgA Z M v0 [0] 2 fun x1 => zgA Z M x1 [2] 0 fun x2 => zty Z M x2 fun t => t = 18 ∧ wp_J2_size Z x2 M (fun r3 M4 => zrI r3 fun x7 => if x7 ≤ v2 then (K (some (.int v1)) M4) else (if v1 = (-1 : Int32) then (wp_X1_leader_B42 Z (wp_X1_leader_L4 Z K n) K v0 v2 M4) else (zgA Z M4 v0 [0] 2 fun x8 => zty Z M4 x8 fun t => t = 2 ∧ wp_X3_score Z x8 v2 M4 (fun r9 M10 => zrI r9 fun x13 => zgA Z M10 v0 [0] 2 fun x14 => zty Z M10 x14 fun t => t = 2 ∧ wp_X3_score Z x14 v1 M10 (fun r15 M16 => zrI r15 fun x19 => if x13 ≤ x19 then (wp_X1_leader_B44 Z (wp_X1_leader_L4 Z K n) K v0 v1 v2 M16) else (wp_X1_leader_B42 Z (wp_X1_leader_L4 Z K n) K v0 v2 M16))))))
def wp_X1_leader (Z : zzG) (this : Option Nat) (M : zzM) (K : Option Value → zzM → Prop) : Prop := ∃ n4 : Nat, wp_X1_leader_L4 Z K n4 this (-1 : Int32) (0 : Int32) M
theorem ok_X1_leader_B44 {G : zzX} (C : zz_C G cX1_leader "DebateHall" 3) {K : Option Value → zzM → Prop} (E : zz_E G (some .int) K (fun _ _ _ => False)) (hH : zz_H G []) (hR : zz_Rm G 7) {k4 : Option Nat → Int32 → Int32 → zzM → Prop} (hk4 : ∀ (z0 : Option Nat) (z1 : Int32) (z2 : Int32) (M : zzM) (bc bs : Nat), k4 z0 z1 z2 M → zz_T G 3 M bc bs 4 [(0, va_rf z0), (1, .int z1), (2, .int z2)] []) {v0 : Option Nat} {v1 : Int32} {v2 : Int32} {M : zzM} {bc bs : Nat} (hw : wp_X1_leader_B44 (zz_Zof G) k4 K v0 v1 v2 M) : zz_T G 3 M bc bs 44 [(0, va_rf v0), (1, .int v1), (2, .int v2)] [] := by
  unfold wp_X1_leader_B44 at hw
  refine zz_iinc (lv' := [(2, .int (v2 + 1)), (0, va_rf v0), (1, .int v1)]) C dX1_leader_44 2 rfl (by rfl) (by decide) rfl ?_
  refine zz_goto (tgt := 4) C dX1_leader_47 (by decide) ?_
  refine zz_subP [1, 2, 0] rfl ?_
  exact hk4 _ _ _ _ _ _ hw
theorem ok_X1_leader_B42 {G : zzX} (C : zz_C G cX1_leader "DebateHall" 3) {K : Option Value → zzM → Prop} (E : zz_E G (some .int) K (fun _ _ _ => False)) (hH : zz_H G []) (hR : zz_Rm G 7) {k4 : Option Nat → Int32 → Int32 → zzM → Prop} (hk4 : ∀ (z0 : Option Nat) (z1 : Int32) (z2 : Int32) (M : zzM) (bc bs : Nat), k4 z0 z1 z2 M → zz_T G 3 M bc bs 4 [(0, va_rf z0), (1, .int z1), (2, .int z2)] []) {v0 : Option Nat} {v2 : Int32} {M : zzM} {bc bs : Nat} (hw : wp_X1_leader_B42 (zz_Zof G) k4 K v0 v2 M) : zz_T G 3 M bc bs 42 [(0, va_rf v0), (2, .int v2)] [] := by
  unfold wp_X1_leader_B42 at hw
  refine zz_iload_n C dX1_leader_42 rfl 1 rfl ?_
  refine zz_istore_n (i := 1) (lv' := [(1, .int v2), (0, va_rf v0), (2, .int v2)]) C dX1_leader_43 rfl (by decide) (by simp [zz_cat, zz_catI, zz_catJ, zz_catD]) ?_
  refine zz_subP [1, 0, 2] rfl ?_
  exact ok_X1_leader_B44 C E hH hR hk4 hw
theorem ok_X1_leader_L4 {G : zzX} (C : zz_C G cX1_leader "DebateHall" 3) {K : Option Value → zzM → Prop} (E : zz_E G (some .int) K (fun _ _ _ => False)) (hH : zz_H G []) (hR : zz_Rm G 7) : ∀ (n : Nat) (v0 : Option Nat) (v1 : Int32) (v2 : Int32) (M : zzM) (bc bs : Nat), wp_X1_leader_L4 (zz_Zof G) K n v0 v1 v2 M → zz_T G 3 M bc bs 4 [(0, va_rf v0), (1, .int v1), (2, .int v2)] [] := by
  intro n
  induction n with
  | zero =>
    intro v0 v1 v2 M bc bs hw
    exact False.elim hw
  | succ n ih =>
    intro v0 v1 v2 M bc bs hw
    refine zz_iload_n C dX1_leader_4 rfl 2 rfl ?_
    refine zz_aload_n C dX1_leader_5 rfl 0 rfl ?_
    refine zz_getA C dX1_leader_6 (Or.inl q305) zf_0_2_DebateHall hw (fun x1 hw => ?_)
    refine zz_getA C dX1_leader_9 (Or.inr ⟨_, q233⟩) zf_2_0_teHall_Minutes hw (fun x2 hw => ?_)
    obtain ⟨a9, t9, b9, fs9, hro, hL, rfl, hw⟩ := ztyS hw
    refine zz_callV (r := (zR_18, zT_18, 3)) (As := []) (rest := [.int v2]) (mc := 0) (ms := 0) C hR hro dX1_leader_12 (Or.inl q2017) q354 (Or.inl q355) zl_java_util_ArrayList zk_J2_size (Or.inl rfl) zy_J2_size rfl (by decide) (by decide) hL (ok_J2_size (zz_hl C) hw) (Nat.zero_le _) (Nat.zero_le _) (zz_cat10 _ (Nat.le_of_ble_eq_true rfl)) (fun r3 M4 hw => zz_kI hw (fun x7 hw => ?_)) (fun _ _ _ h9 => h9.elim) rfl
    refine zz_icmp_ge (tgt := 50) C dX1_leader_15 (by decide) hw (fun hw => ?_) (fun hw => ?_)
    · refine zz_iload_n C dX1_leader_50 rfl 1 rfl ?_
      exact zz_iret C E dX1_leader_51 hw
    · refine zz_iload_n C dX1_leader_18 rfl 1 rfl ?_
      refine zz_iconst (v := (-1 : Int32)) C dX1_leader_19 (by decide) ?_
      refine zz_icmp_eq (tgt := 42) C dX1_leader_20 (by decide) hw (fun hw => ?_) (fun hw => ?_)
      · refine zz_subP [0, 2] rfl ?_
        exact ok_X1_leader_B42 C E hH hR (fun z0 z1 z2 z3 z4 z5 hw => ih z0 z1 z2 z3 z4 z5 hw) hw
      · refine zz_aload_n C dX1_leader_23 rfl 0 rfl ?_
        refine zz_getA C dX1_leader_24 (Or.inl q305) zf_0_2_DebateHall hw (fun x8 hw => ?_)
        refine zz_iload_n C dX1_leader_27 rfl 2 rfl ?_
        obtain ⟨a9, t9, b9, fs9, hro, hL, rfl, hw⟩ := ztyS hw
        refine zz_callV (r := (zR_2, zT_2, 8)) (As := [.int v2]) (rest := []) (mc := 0) (ms := 0) C hR hro dX1_leader_28 (Or.inl q2018) q2019 (Or.inl q2020) zl_DebateHall_Minutes zk_X3_score (Or.inl rfl) zy_X3_score rfl (by decide) (by decide) hL (ok_X3_score (zz_hl C) hw) (Nat.zero_le _) (Nat.zero_le _) (zz_cat10 _ (Nat.le_of_ble_eq_true rfl)) (fun r9 M10 hw => zz_kI hw (fun x13 hw => ?_)) (fun _ _ _ h9 => h9.elim) rfl
        refine zz_aload_n C dX1_leader_31 rfl 0 rfl ?_
        refine zz_getA C dX1_leader_32 (Or.inl q305) zf_0_2_DebateHall hw (fun x14 hw => ?_)
        refine zz_iload_n C dX1_leader_35 rfl 1 rfl ?_
        obtain ⟨a9, t9, b9, fs9, hro, hL, rfl, hw⟩ := ztyS hw
        refine zz_callV (r := (zR_2, zT_2, 8)) (As := [.int v1]) (rest := [.int x13]) (mc := 0) (ms := 0) C hR hro dX1_leader_36 (Or.inl q2018) q2019 (Or.inl q2020) zl_DebateHall_Minutes zk_X3_score (Or.inl rfl) zy_X3_score rfl (by decide) (by decide) hL (ok_X3_score (zz_hl C) hw) (Nat.zero_le _) (Nat.zero_le _) (zz_cat10 _ (Nat.le_of_ble_eq_true rfl)) (fun r15 M16 hw => zz_kI hw (fun x19 hw => ?_)) (fun _ _ _ h9 => h9.elim) rfl
        refine zz_icmp_le (tgt := 44) C dX1_leader_39 (by decide) hw (fun hw => ?_) (fun hw => ?_)
        · refine zz_subP [0, 1, 2] rfl ?_
          exact ok_X1_leader_B44 C E hH hR (fun z0 z1 z2 z3 z4 z5 hw => ih z0 z1 z2 z3 z4 z5 hw) hw
        · refine zz_subP [0, 2] rfl ?_
          exact ok_X1_leader_B42 C E hH hR (fun z0 z1 z2 z3 z4 z5 hw => ih z0 z1 z2 z3 z4 z5 hw) hw
theorem ok_X1_leader {Z : zzG} {l : Launch} (hl : l.stackTraces = false) {this : Option Nat} {M : zzM} {mc ms : Nat} {K : Option Value → zzM → Prop} (hw : wp_X1_leader Z this M K) : zz_Met Z l yX1_leader (zz_ws yX1_leader cX1_leader 3 (some .int) none) 7 [va_rf this] M mc ms K (fun _ _ _ => False) := by
  refine zz_ofW hl (plainFor_of_name (by decide)) (by simp only [zz_sl0, zz_slI, zz_slJ, zz_slA] <;> decide) (fun G hZ hll C E hH hR hin => ?_)
  subst hZ
  subst hll
  rw [show lv_args 0 [va_rf this] = [(0, va_rf this)] by simp only [zz_la0, zz_laI, zz_laJ, zz_laA]]
  unfold wp_X1_leader at hw
  refine zz_iconst (v := (-1 : Int32)) C dX1_leader_0 (by decide) ?_
  refine zz_istore_n (i := 1) (lv' := [(1, .int (-1 : Int32)), (0, va_rf this)]) C dX1_leader_1 rfl (by decide) (by simp [zz_cat, zz_catI, zz_catJ, zz_catD]) ?_
  refine zz_iconst (v := (0 : Int32)) C dX1_leader_2 (by decide) ?_
  refine zz_istore_n (i := 2) (lv' := [(2, .int (0 : Int32)), (1, .int (-1 : Int32)), (0, va_rf this)]) C dX1_leader_3 rfl (by decide) rfl ?_
  refine zz_subP [2, 1, 0] rfl ?_
  obtain ⟨n4, hw⟩ := hw
  exact ok_X1_leader_L4 C E hH hR n4 _ _ _ _ _ _ hw
abbrev cX4_leader : ByteArray := prog_25_method_60_code
def yX4_leader : MethodName := ⟨"DebateHallModel", "leader", "()I"⟩
def dkwX4_leader_2 : List UInt8 := [28, 60, 132, 2, 1, 167, 255, 214, 27, 172]
abbrev dktX4_leader_2 : List UInt8 := dkwX4_leader_2 ++ []
def dkwX4_leader_1 : List UInt8 := [159, 0, 24, 42, 28, 42, 180, 0, 55, 182, 0, 130, 42, 27, 42, 180, 0, 55, 182, 0, 130, 164, 0, 5]
abbrev dktX4_leader_1 : List UInt8 := dkwX4_leader_1 ++ dktX4_leader_2
def dkwX4_leader_0 : List UInt8 := [42, 3, 181, 0, 85, 2, 60, 3, 61, 28, 42, 180, 0, 48, 180, 0, 88, 162, 0, 37, 27, 2]
abbrev dktX4_leader_0 : List UInt8 := dkwX4_leader_0 ++ dktX4_leader_1
theorem dksX4_leader_0 : cX4_leader.data.toList.drop 0 = dktX4_leader_0 := by decide +kernel
theorem dksX4_leader_1 : cX4_leader.data.toList.drop 22 = dktX4_leader_1 := dk_seg dksX4_leader_0 22 rfl rfl
theorem dksX4_leader_2 : cX4_leader.data.toList.drop 46 = dktX4_leader_2 := dk_seg dksX4_leader_1 24 rfl rfl
theorem dX4_leader_0 : decode cX4_leader 0 = .ok (.aload_n 0, 1) := dk_42 (dk_at dksX4_leader_0 0 rfl rfl)
theorem dX4_leader_1 : decode cX4_leader 1 = .ok (.iconst 0, 1) := dk_3 (dk_at dksX4_leader_0 1 rfl rfl)
theorem dX4_leader_2 : decode cX4_leader 2 = .ok (.putfield 85, 3) := dk_181 0 85 (dk_at dksX4_leader_0 2 rfl rfl)
theorem dX4_leader_5 : decode cX4_leader 5 = .ok (.iconst (-1), 1) := dk_2 (dk_at dksX4_leader_0 5 rfl rfl)
theorem dX4_leader_6 : decode cX4_leader 6 = .ok (.istore_n 1, 1) := dk_60 (dk_at dksX4_leader_0 6 rfl rfl)
theorem dX4_leader_7 : decode cX4_leader 7 = .ok (.iconst 0, 1) := dk_3 (dk_at dksX4_leader_0 7 rfl rfl)
theorem dX4_leader_8 : decode cX4_leader 8 = .ok (.istore_n 2, 1) := dk_61 (dk_at dksX4_leader_0 8 rfl rfl)
theorem dX4_leader_9 : decode cX4_leader 9 = .ok (.iload_n 2, 1) := dk_28 (dk_at dksX4_leader_0 9 rfl rfl)
theorem dX4_leader_10 : decode cX4_leader 10 = .ok (.aload_n 0, 1) := dk_42 (dk_at dksX4_leader_0 10 rfl rfl)
theorem dX4_leader_11 : decode cX4_leader 11 = .ok (.getfield 48, 3) := dk_180 0 48 (dk_at dksX4_leader_0 11 rfl rfl)
theorem dX4_leader_14 : decode cX4_leader 14 = .ok (.getfield 88, 3) := dk_180 0 88 (dk_at dksX4_leader_0 14 rfl rfl)
theorem dX4_leader_17 : decode cX4_leader 17 = .ok (.if_icmp .ge 37, 3) := dk_162 0 37 (dk_at dksX4_leader_0 17 rfl rfl)
theorem dX4_leader_20 : decode cX4_leader 20 = .ok (.iload_n 1, 1) := dk_27 (dk_at dksX4_leader_0 20 rfl rfl)
theorem dX4_leader_21 : decode cX4_leader 21 = .ok (.iconst (-1), 1) := dk_2 (dk_at dksX4_leader_0 21 rfl rfl)
theorem dX4_leader_22 : decode cX4_leader 22 = .ok (.if_icmp .eq 24, 3) := dk_159 0 24 (dk_at dksX4_leader_1 0 rfl rfl)
theorem dX4_leader_25 : decode cX4_leader 25 = .ok (.aload_n 0, 1) := dk_42 (dk_at dksX4_leader_1 3 rfl rfl)
theorem dX4_leader_26 : decode cX4_leader 26 = .ok (.iload_n 2, 1) := dk_28 (dk_at dksX4_leader_1 4 rfl rfl)
theorem dX4_leader_27 : decode cX4_leader 27 = .ok (.aload_n 0, 1) := dk_42 (dk_at dksX4_leader_1 5 rfl rfl)
theorem dX4_leader_28 : decode cX4_leader 28 = .ok (.getfield 55, 3) := dk_180 0 55 (dk_at dksX4_leader_1 6 rfl rfl)
theorem dX4_leader_31 : decode cX4_leader 31 = .ok (.invokevirtual 130, 3) := dk_182 0 130 (dk_at dksX4_leader_1 9 rfl rfl)
theorem dX4_leader_34 : decode cX4_leader 34 = .ok (.aload_n 0, 1) := dk_42 (dk_at dksX4_leader_1 12 rfl rfl)
theorem dX4_leader_35 : decode cX4_leader 35 = .ok (.iload_n 1, 1) := dk_27 (dk_at dksX4_leader_1 13 rfl rfl)
theorem dX4_leader_36 : decode cX4_leader 36 = .ok (.aload_n 0, 1) := dk_42 (dk_at dksX4_leader_1 14 rfl rfl)
theorem dX4_leader_37 : decode cX4_leader 37 = .ok (.getfield 55, 3) := dk_180 0 55 (dk_at dksX4_leader_1 15 rfl rfl)
theorem dX4_leader_40 : decode cX4_leader 40 = .ok (.invokevirtual 130, 3) := dk_182 0 130 (dk_at dksX4_leader_1 18 rfl rfl)
theorem dX4_leader_43 : decode cX4_leader 43 = .ok (.if_icmp .le 5, 3) := dk_164 0 5 (dk_at dksX4_leader_1 21 rfl rfl)
theorem dX4_leader_46 : decode cX4_leader 46 = .ok (.iload_n 2, 1) := dk_28 (dk_at dksX4_leader_2 0 rfl rfl)
theorem dX4_leader_47 : decode cX4_leader 47 = .ok (.istore_n 1, 1) := dk_60 (dk_at dksX4_leader_2 1 rfl rfl)
theorem dX4_leader_48 : decode cX4_leader 48 = .ok (.iinc 2 1, 3) := dk_132 2 1 (dk_at dksX4_leader_2 2 rfl rfl)
theorem dX4_leader_51 : decode cX4_leader 51 = .ok (.goto (-42), 3) := dk_167 255 214 (dk_at dksX4_leader_2 5 rfl rfl)
theorem dX4_leader_54 : decode cX4_leader 54 = .ok (.iload_n 1, 1) := dk_27 (dk_at dksX4_leader_2 8 rfl rfl)
theorem dX4_leader_55 : decode cX4_leader 55 = .ok (.ireturn, 1) := dk_172 (dk_at dksX4_leader_2 9 rfl rfl)
def wp_X4_leader_B48 (Z : zzG) (k9 : Option Nat → Int32 → Int32 → zzM → Prop) (K : Option Value → zzM → Prop) (v0 : Option Nat) (v1 : Int32) (v2 : Int32) (M : zzM) : Prop := k9 v0 v1 (v2 + 1) M
def wp_X4_leader_B46 (Z : zzG) (k9 : Option Nat → Int32 → Int32 → zzM → Prop) (K : Option Value → zzM → Prop) (v0 : Option Nat) (v2 : Int32) (M : zzM) : Prop := wp_X4_leader_B48 Z k9 K v0 v2 v2 M
def wp_X4_leader_L9 (Z : zzG) (K : Option Value → zzM → Prop) : Nat → Option Nat → Int32 → Int32 → zzM → Prop
  | 0, _, _, _, _ => False
  | n + 1, v0, v1, v2, M => zgA Z M v0 [16] 11 fun x2 => zgI Z M x2 [17] 0 fun x3 => if x3 ≤ v2 then (K (some (.int v1)) M) else (if v1 = (-1 : Int32) then (wp_X4_leader_B46 Z (wp_X4_leader_L9 Z K n) K v0 v2 M) else (zgA Z M v0 [16] 13 fun x4 => zty Z M v0 fun t => t = 16 ∧ wp_X4_score Z v0 v2 x4 M (fun r5 M6 => zrI r5 fun x9 => zgA Z M6 v0 [16] 13 fun x10 => zty Z M6 v0 fun t => t = 16 ∧ wp_X4_score Z v0 v1 x10 M6 (fun r11 M12 => zrI r11 fun x15 => if x9 ≤ x15 then (wp_X4_leader_B48 Z (wp_X4_leader_L9 Z K n) K v0 v1 v2 M12) else (wp_X4_leader_B46 Z (wp_X4_leader_L9 Z K n) K v0 v2 M12)))))
def wp_X4_leader (Z : zzG) (this : Option Nat) (M : zzM) (K : Option Value → zzM → Prop) : Prop := zput Z M this [16] 0 (.int (0 : Int32)) fun M1 => ∃ n9 : Nat, wp_X4_leader_L9 Z K n9 this (-1 : Int32) (0 : Int32) M1
theorem ok_X4_leader_B48 {G : zzX} (C : zz_C G cX4_leader "DebateHallModel" 3) {K : Option Value → zzM → Prop} (E : zz_E G (some .int) K (fun _ _ _ => False)) (hH : zz_H G []) (hR : zz_Rm G 3) {k9 : Option Nat → Int32 → Int32 → zzM → Prop} (hk9 : ∀ (z0 : Option Nat) (z1 : Int32) (z2 : Int32) (M : zzM) (bc bs : Nat), k9 z0 z1 z2 M → zz_T G 3 M bc bs 9 [(0, va_rf z0), (1, .int z1), (2, .int z2)] []) {v0 : Option Nat} {v1 : Int32} {v2 : Int32} {M : zzM} {bc bs : Nat} (hw : wp_X4_leader_B48 (zz_Zof G) k9 K v0 v1 v2 M) : zz_T G 3 M bc bs 48 [(0, va_rf v0), (1, .int v1), (2, .int v2)] [] := by
  unfold wp_X4_leader_B48 at hw
  refine zz_iinc (lv' := [(2, .int (v2 + 1)), (0, va_rf v0), (1, .int v1)]) C dX4_leader_48 2 rfl (by rfl) (by decide) rfl ?_
  refine zz_goto (tgt := 9) C dX4_leader_51 (by decide) ?_
  refine zz_subP [1, 2, 0] rfl ?_
  exact hk9 _ _ _ _ _ _ hw
theorem ok_X4_leader_B46 {G : zzX} (C : zz_C G cX4_leader "DebateHallModel" 3) {K : Option Value → zzM → Prop} (E : zz_E G (some .int) K (fun _ _ _ => False)) (hH : zz_H G []) (hR : zz_Rm G 3) {k9 : Option Nat → Int32 → Int32 → zzM → Prop} (hk9 : ∀ (z0 : Option Nat) (z1 : Int32) (z2 : Int32) (M : zzM) (bc bs : Nat), k9 z0 z1 z2 M → zz_T G 3 M bc bs 9 [(0, va_rf z0), (1, .int z1), (2, .int z2)] []) {v0 : Option Nat} {v2 : Int32} {M : zzM} {bc bs : Nat} (hw : wp_X4_leader_B46 (zz_Zof G) k9 K v0 v2 M) : zz_T G 3 M bc bs 46 [(0, va_rf v0), (2, .int v2)] [] := by
  unfold wp_X4_leader_B46 at hw
  refine zz_iload_n C dX4_leader_46 rfl 1 rfl ?_
  refine zz_istore_n (i := 1) (lv' := [(1, .int v2), (0, va_rf v0), (2, .int v2)]) C dX4_leader_47 rfl (by decide) (by simp [zz_cat, zz_catI, zz_catJ, zz_catD]) ?_
  refine zz_subP [1, 0, 2] rfl ?_
  exact ok_X4_leader_B48 C E hH hR hk9 hw
theorem ok_X4_leader_L9 {G : zzX} (C : zz_C G cX4_leader "DebateHallModel" 3) {K : Option Value → zzM → Prop} (E : zz_E G (some .int) K (fun _ _ _ => False)) (hH : zz_H G []) (hR : zz_Rm G 3) : ∀ (n : Nat) (v0 : Option Nat) (v1 : Int32) (v2 : Int32) (M : zzM) (bc bs : Nat), wp_X4_leader_L9 (zz_Zof G) K n v0 v1 v2 M → zz_T G 3 M bc bs 9 [(0, va_rf v0), (1, .int v1), (2, .int v2)] [] := by
  intro n
  induction n with
  | zero =>
    intro v0 v1 v2 M bc bs hw
    exact False.elim hw
  | succ n ih =>
    intro v0 v1 v2 M bc bs hw
    refine zz_iload_n C dX4_leader_9 rfl 2 rfl ?_
    refine zz_aload_n C dX4_leader_10 rfl 0 rfl ?_
    refine zz_getA C dX4_leader_11 (Or.inl q2447) zf_16_11_ebateHallModel hw (fun x2 hw => ?_)
    refine zz_getI C dX4_leader_14 (Or.inr ⟨_, q2388⟩) zf_17_0_allModel_State hw (fun x3 hw => ?_)
    refine zz_icmp_ge (tgt := 54) C dX4_leader_17 (by decide) hw (fun hw => ?_) (fun hw => ?_)
    · refine zz_iload_n C dX4_leader_54 rfl 1 rfl ?_
      exact zz_iret C E dX4_leader_55 hw
    · refine zz_iload_n C dX4_leader_20 rfl 1 rfl ?_
      refine zz_iconst (v := (-1 : Int32)) C dX4_leader_21 (by decide) ?_
      refine zz_icmp_eq (tgt := 46) C dX4_leader_22 (by decide) hw (fun hw => ?_) (fun hw => ?_)
      · refine zz_subP [0, 2] rfl ?_
        exact ok_X4_leader_B46 C E hH hR (fun z0 z1 z2 z3 z4 z5 hw => ih z0 z1 z2 z3 z4 z5 hw) hw
      · refine zz_aload_n C dX4_leader_25 rfl 0 rfl ?_
        refine zz_iload_n C dX4_leader_26 rfl 2 rfl ?_
        refine zz_aload_n C dX4_leader_27 rfl 0 rfl ?_
        refine zz_getA C dX4_leader_28 (Or.inl q2449) zf_16_13_ebateHallModel hw (fun x4 hw => ?_)
        obtain ⟨a9, t9, b9, fs9, hro, hL, rfl, hw⟩ := ztyS hw
        refine zz_callV (r := (zR_16, zT_16, 24)) (As := [.int v2, va_rf x4]) (rest := []) (mc := 0) (ms := 0) C hR hro dX4_leader_31 (Or.inl q2744) q2746 (Or.inl qs67) zl_DebateHallModel zk_X4_score (Or.inl rfl) zy_X4_score rfl (by decide) (by decide) hL (ok_X4_score (zz_hl C) hw) (Nat.zero_le _) (Nat.zero_le _) (zz_cat10 _ (Nat.le_of_ble_eq_true rfl)) (fun r5 M6 hw => zz_kI hw (fun x9 hw => ?_)) (fun _ _ _ h9 => h9.elim) rfl
        refine zz_aload_n C dX4_leader_34 rfl 0 rfl ?_
        refine zz_iload_n C dX4_leader_35 rfl 1 rfl ?_
        refine zz_aload_n C dX4_leader_36 rfl 0 rfl ?_
        refine zz_getA C dX4_leader_37 (Or.inl q2449) zf_16_13_ebateHallModel hw (fun x10 hw => ?_)
        obtain ⟨a9, t9, b9, fs9, hro, hL, rfl, hw⟩ := ztyS hw
        refine zz_callV (r := (zR_16, zT_16, 24)) (As := [.int v1, va_rf x10]) (rest := [.int x9]) (mc := 0) (ms := 0) C hR hro dX4_leader_40 (Or.inl q2744) q2746 (Or.inl qs67) zl_DebateHallModel zk_X4_score (Or.inl rfl) zy_X4_score rfl (by decide) (by decide) hL (ok_X4_score (zz_hl C) hw) (Nat.zero_le _) (Nat.zero_le _) (zz_cat10 _ (Nat.le_of_ble_eq_true rfl)) (fun r11 M12 hw => zz_kI hw (fun x15 hw => ?_)) (fun _ _ _ h9 => h9.elim) rfl
        refine zz_icmp_le (tgt := 48) C dX4_leader_43 (by decide) hw (fun hw => ?_) (fun hw => ?_)
        · refine zz_subP [0, 1, 2] rfl ?_
          exact ok_X4_leader_B48 C E hH hR (fun z0 z1 z2 z3 z4 z5 hw => ih z0 z1 z2 z3 z4 z5 hw) hw
        · refine zz_subP [0, 2] rfl ?_
          exact ok_X4_leader_B46 C E hH hR (fun z0 z1 z2 z3 z4 z5 hw => ih z0 z1 z2 z3 z4 z5 hw) hw
theorem ok_X4_leader {Z : zzG} {l : Launch} (hl : l.stackTraces = false) {this : Option Nat} {M : zzM} {mc ms : Nat} {K : Option Value → zzM → Prop} (hw : wp_X4_leader Z this M K) : zz_Met Z l yX4_leader (zz_ws yX4_leader cX4_leader 3 (some .int) none) 3 [va_rf this] M mc ms K (fun _ _ _ => False) := by
  refine zz_ofW hl (plainFor_of_name (by decide)) (by simp only [zz_sl0, zz_slI, zz_slJ, zz_slA] <;> decide) (fun G hZ hll C E hH hR hin => ?_)
  subst hZ
  subst hll
  rw [show lv_args 0 [va_rf this] = [(0, va_rf this)] by simp only [zz_la0, zz_laI, zz_laJ, zz_laA]]
  unfold wp_X4_leader at hw
  refine zz_aload_n C dX4_leader_0 rfl 0 rfl ?_
  refine zz_iconst (v := (0 : Int32)) C dX4_leader_1 (by decide) ?_
  refine zz_put C dX4_leader_2 (Or.inl q2436) zf_16_0_ebateHallModel zp_16_0 (zz_hn1 ⟨rfl, rfl⟩) hw (fun M1 hw => ?_)
  refine zz_iconst (v := (-1 : Int32)) C dX4_leader_5 (by decide) ?_
  refine zz_istore_n (i := 1) (lv' := [(1, .int (-1 : Int32)), (0, va_rf this)]) C dX4_leader_6 rfl (by decide) (by simp [zz_cat, zz_catI, zz_catJ, zz_catD]) ?_
  refine zz_iconst (v := (0 : Int32)) C dX4_leader_7 (by decide) ?_
  refine zz_istore_n (i := 2) (lv' := [(2, .int (0 : Int32)), (1, .int (-1 : Int32)), (0, va_rf this)]) C dX4_leader_8 rfl (by decide) rfl ?_
  refine zz_subP [2, 1, 0] rfl ?_
  obtain ⟨n9, hw⟩ := hw
  exact ok_X4_leader_L9 C E hH hR n9 _ _ _ _ _ _ hw
abbrev cX1_defends : ByteArray := prog_1_method_23_code
def yX1_defends : MethodName := ⟨"DebateHall", "defends", "(II)Z"⟩
def dkwX1_defends_2 : List UInt8 := [182, 0, 246, 153, 0, 17, 45, 180, 0, 196, 182, 0, 221, 153, 0, 7, 4, 167, 0, 4, 3, 172]
abbrev dktX1_defends_2 : List UInt8 := dkwX1_defends_2 ++ []
def dkwX1_defends_1 : List UInt8 := [182, 0, 221, 153, 0, 40, 42, 180, 0, 36, 45, 182, 0, 242, 153, 0, 29, 45, 180, 0, 196, 25, 4]
abbrev dktX1_defends_1 : List UInt8 := dkwX1_defends_1 ++ dktX1_defends_2
def dkwX1_defends_0 : List UInt8 := [42, 27, 182, 0, 228, 78, 42, 28, 182, 0, 228, 58, 4, 45, 180, 0, 139, 178, 0, 159, 166, 0, 47, 45]
abbrev dktX1_defends_0 : List UInt8 := dkwX1_defends_0 ++ dktX1_defends_1
theorem dksX1_defends_0 : cX1_defends.data.toList.drop 0 = dktX1_defends_0 := by decide +kernel
theorem dksX1_defends_1 : cX1_defends.data.toList.drop 24 = dktX1_defends_1 := dk_seg dksX1_defends_0 24 rfl rfl
theorem dksX1_defends_2 : cX1_defends.data.toList.drop 47 = dktX1_defends_2 := dk_seg dksX1_defends_1 23 rfl rfl
theorem dX1_defends_0 : decode cX1_defends 0 = .ok (.aload_n 0, 1) := dk_42 (dk_at dksX1_defends_0 0 rfl rfl)
theorem dX1_defends_1 : decode cX1_defends 1 = .ok (.iload_n 1, 1) := dk_27 (dk_at dksX1_defends_0 1 rfl rfl)
theorem dX1_defends_2 : decode cX1_defends 2 = .ok (.invokevirtual 228, 3) := dk_182 0 228 (dk_at dksX1_defends_0 2 rfl rfl)
theorem dX1_defends_5 : decode cX1_defends 5 = .ok (.astore_n 3, 1) := dk_78 (dk_at dksX1_defends_0 5 rfl rfl)
theorem dX1_defends_6 : decode cX1_defends 6 = .ok (.aload_n 0, 1) := dk_42 (dk_at dksX1_defends_0 6 rfl rfl)
theorem dX1_defends_7 : decode cX1_defends 7 = .ok (.iload_n 2, 1) := dk_28 (dk_at dksX1_defends_0 7 rfl rfl)
theorem dX1_defends_8 : decode cX1_defends 8 = .ok (.invokevirtual 228, 3) := dk_182 0 228 (dk_at dksX1_defends_0 8 rfl rfl)
theorem dX1_defends_11 : decode cX1_defends 11 = .ok (.astore 4, 2) := dk_58 4 (dk_at dksX1_defends_0 11 rfl rfl)
theorem dX1_defends_13 : decode cX1_defends 13 = .ok (.aload_n 3, 1) := dk_45 (dk_at dksX1_defends_0 13 rfl rfl)
theorem dX1_defends_14 : decode cX1_defends 14 = .ok (.getfield 139, 3) := dk_180 0 139 (dk_at dksX1_defends_0 14 rfl rfl)
theorem dX1_defends_17 : decode cX1_defends 17 = .ok (.getstatic 159, 3) := dk_178 0 159 (dk_at dksX1_defends_0 17 rfl rfl)
theorem dX1_defends_20 : decode cX1_defends 20 = .ok (.if_acmp .ne 47, 3) := dk_166 0 47 (dk_at dksX1_defends_0 20 rfl rfl)
theorem dX1_defends_23 : decode cX1_defends 23 = .ok (.aload_n 3, 1) := dk_45 (dk_at dksX1_defends_0 23 rfl rfl)
theorem dX1_defends_24 : decode cX1_defends 24 = .ok (.invokevirtual 221, 3) := dk_182 0 221 (dk_at dksX1_defends_1 0 rfl rfl)
theorem dX1_defends_27 : decode cX1_defends 27 = .ok (.ifCond .eq 40, 3) := dk_153 0 40 (dk_at dksX1_defends_1 3 rfl rfl)
theorem dX1_defends_30 : decode cX1_defends 30 = .ok (.aload_n 0, 1) := dk_42 (dk_at dksX1_defends_1 6 rfl rfl)
theorem dX1_defends_31 : decode cX1_defends 31 = .ok (.getfield 36, 3) := dk_180 0 36 (dk_at dksX1_defends_1 7 rfl rfl)
theorem dX1_defends_34 : decode cX1_defends 34 = .ok (.aload_n 3, 1) := dk_45 (dk_at dksX1_defends_1 10 rfl rfl)
theorem dX1_defends_35 : decode cX1_defends 35 = .ok (.invokevirtual 242, 3) := dk_182 0 242 (dk_at dksX1_defends_1 11 rfl rfl)
theorem dX1_defends_38 : decode cX1_defends 38 = .ok (.ifCond .eq 29, 3) := dk_153 0 29 (dk_at dksX1_defends_1 14 rfl rfl)
theorem dX1_defends_41 : decode cX1_defends 41 = .ok (.aload_n 3, 1) := dk_45 (dk_at dksX1_defends_1 17 rfl rfl)
theorem dX1_defends_42 : decode cX1_defends 42 = .ok (.getfield 196, 3) := dk_180 0 196 (dk_at dksX1_defends_1 18 rfl rfl)
theorem dX1_defends_45 : decode cX1_defends 45 = .ok (.aload 4, 2) := dk_25 4 (dk_at dksX1_defends_1 21 rfl rfl)
theorem dX1_defends_47 : decode cX1_defends 47 = .ok (.invokevirtual 246, 3) := dk_182 0 246 (dk_at dksX1_defends_2 0 rfl rfl)
theorem dX1_defends_50 : decode cX1_defends 50 = .ok (.ifCond .eq 17, 3) := dk_153 0 17 (dk_at dksX1_defends_2 3 rfl rfl)
theorem dX1_defends_53 : decode cX1_defends 53 = .ok (.aload_n 3, 1) := dk_45 (dk_at dksX1_defends_2 6 rfl rfl)
theorem dX1_defends_54 : decode cX1_defends 54 = .ok (.getfield 196, 3) := dk_180 0 196 (dk_at dksX1_defends_2 7 rfl rfl)
theorem dX1_defends_57 : decode cX1_defends 57 = .ok (.invokevirtual 221, 3) := dk_182 0 221 (dk_at dksX1_defends_2 10 rfl rfl)
theorem dX1_defends_60 : decode cX1_defends 60 = .ok (.ifCond .eq 7, 3) := dk_153 0 7 (dk_at dksX1_defends_2 13 rfl rfl)
theorem dX1_defends_63 : decode cX1_defends 63 = .ok (.iconst 1, 1) := dk_4 (dk_at dksX1_defends_2 16 rfl rfl)
theorem dX1_defends_64 : decode cX1_defends 64 = .ok (.goto 4, 3) := dk_167 0 4 (dk_at dksX1_defends_2 17 rfl rfl)
theorem dX1_defends_67 : decode cX1_defends 67 = .ok (.iconst 0, 1) := dk_3 (dk_at dksX1_defends_2 20 rfl rfl)
theorem dX1_defends_68 : decode cX1_defends 68 = .ok (.ireturn, 1) := dk_172 (dk_at dksX1_defends_2 21 rfl rfl)
theorem q2319 : (Jvm.Cond.methodLink "DebateHall" (246 : Nat) ({ cls := "DebateHall$Item", name := "isOn", desc := "(LDebateHall$Item;)Z" } : Jvm.MethodName)) ∈ lw_all := lw_g (lw_at lw_m10 79 rfl) rfl
def wp_X1_defends_B68 (Z : zzG) (K : Option Value → zzM → Prop) (X : Nat → Nat → zzM → Prop) (s0 : Int32) (M : zzM) (bc bs : Nat) : Prop := narrow .boolean (.int s0) = .int s0 ∧ K (some (.int s0)) M
def wp_X1_defends_B67 (Z : zzG) (K : Option Value → zzM → Prop) (X : Nat → Nat → zzM → Prop) (M : zzM) (bc bs : Nat) : Prop := wp_X1_defends_B68 Z K X (0 : Int32) M bc bs
def wp_X1_defends (Z : zzG) (this : Option Nat) (p0 : Int32) (p1 : Int32) (M : zzM) (bc bs : Nat) (K : Option Value → zzM → Prop) (X : Nat → Nat → zzM → Prop) : Prop := zty Z M this fun t => t = 0 ∧ zcx bc bs (fun c s k x => wp_X1_itemAt Z this p0 M c s k x) (fun r1 M2 bc3 bs4 => zrA r1 fun x5 => zty Z M2 this fun t => t = 0 ∧ zcx bc3 bs4 (fun c s k x => wp_X1_itemAt Z this p1 M2 c s k x) (fun r6 M7 bc8 bs9 => zrA r6 fun x10 => zgA Z M7 x5 [15] 1 fun x11 => if x11 = (some (zz_ad Z 9)) then (zty Z M7 x5 fun t => t = 15 ∧ wp_X20_isStrong Z x5 M7 (fun r12 M13 => zrI r12 fun x16 => if x16 = 0 then (wp_X1_defends_B67 Z K X M13 bc8 bs9) else (zgA Z M13 this [0] 2 fun x17 => zty Z M13 x17 fun t => t = 2 ∧ wp_X3_isIn Z x17 x5 M13 (fun r18 M19 => zrI r18 fun x22 => if x22 = 0 then (wp_X1_defends_B67 Z K X M19 bc8 bs9) else (zgA Z M19 x5 [15] 6 fun x23 => zty Z M19 x23 fun t => t = 15 ∧ wp_X20_isOn Z x23 x10 M19 (fun r24 M25 => zrI r24 fun x28 => if x28 = 0 then (wp_X1_defends_B67 Z K X M25 bc8 bs9) else (zgA Z M25 x5 [15] 6 fun x29 => zty Z M25 x29 fun t => t = 15 ∧ wp_X20_isStrong Z x29 M25 (fun r30 M31 => zrI r30 fun x34 => if x34 = 0 then (wp_X1_defends_B67 Z K X M31 bc8 bs9) else (wp_X1_defends_B68 Z K X (1 : Int32) M31 bc8 bs9))))))))) else (wp_X1_defends_B67 Z K X M7 bc8 bs9)) (fun t q M _ _ => X t q M)) (fun t q M _ _ => X t q M)
theorem ok_X1_defends_B68 {G : zzX} (C : zz_C G cX1_defends "DebateHall" 5) {K : Option Value → zzM → Prop} {X : Nat → Nat → zzM → Prop} (E : zz_E G (some .boolean) K X) (hH : zz_H G []) (hR : zz_Rm G 8) {s0 : Int32} {M : zzM} {bc bs : Nat} (hw : wp_X1_defends_B68 (zz_Zof G) K X s0 M bc bs) : zz_T G 5 M bc bs 68 [] [.int s0] := by
  unfold wp_X1_defends_B68 at hw
  exact zz_zret C E dX1_defends_68 hw
theorem ok_X1_defends_B67 {G : zzX} (C : zz_C G cX1_defends "DebateHall" 5) {K : Option Value → zzM → Prop} {X : Nat → Nat → zzM → Prop} (E : zz_E G (some .boolean) K X) (hH : zz_H G []) (hR : zz_Rm G 8) {M : zzM} {bc bs : Nat} (hw : wp_X1_defends_B67 (zz_Zof G) K X M bc bs) : zz_T G 5 M bc bs 67 [] [] := by
  unfold wp_X1_defends_B67 at hw
  refine zz_iconst (v := (0 : Int32)) C dX1_defends_67 (by decide) ?_
  refine zz_subP [] rfl ?_
  exact ok_X1_defends_B68 C E hH hR hw
theorem ok_X1_defends {Z : zzG} {l : Launch} (hl : l.stackTraces = false) {this : Option Nat} {p0 : Int32} {p1 : Int32} {M : zzM} {mc ms : Nat} {K : Option Value → zzM → Prop} {X : Nat → Nat → zzM → Prop} (hw : wp_X1_defends Z this p0 p1 M mc ms K X) : zz_Met Z l yX1_defends (zz_ws yX1_defends cX1_defends 5 (some .boolean) none) 8 [va_rf this, .int p0, .int p1] M mc ms K X := by
  refine zz_ofW hl (plainFor_of_name (by decide)) (by simp only [zz_sl0, zz_slI, zz_slJ, zz_slA] <;> decide) (fun G hZ hll C E hH hR hin => ?_)
  subst hZ
  subst hll
  rw [show lv_args 0 [va_rf this, .int p0, .int p1] = [(0, va_rf this), (1, .int p0), (2, .int p1)] by simp only [zz_la0, zz_laI, zz_laJ, zz_laA]]
  unfold wp_X1_defends at hw
  refine zz_aload_n C dX1_defends_0 rfl 0 rfl ?_
  refine zz_iload_n C dX1_defends_1 rfl 1 rfl ?_
  obtain ⟨a9, t9, b9, fs9, hro, hL, rfl, hw⟩ := ztyS hw
  obtain ⟨c9, s9, hc9, hs9, hw⟩ := hw
  refine zz_callV (r := (zR_0, zT_0, 4)) (As := [.int p0]) (rest := []) C hR hro dX1_defends_2 (Or.inl q2287) q2289 (Or.inl qs28) zl_DebateHall zk_X1_itemAt (Or.inl rfl) zy_X1_itemAt rfl (by decide) (by decide) hL (ok_X1_itemAt (zz_hl C) hw) hc9 hs9 (zz_cat10 _ (Nat.le_of_ble_eq_true rfl)) (fun r1 M2 hw => zz_kA hw (fun x5 hw => ?_)) (fun t9 q39 M40 hx => ?_) rfl
  · refine zz_astore_n (i := 3) (lv' := [(3, va_rf x5), (0, va_rf this), (1, .int p0), (2, .int p1)]) C dX1_defends_5 rfl (by decide) rfl ?_
    refine zz_aload_n C dX1_defends_6 rfl 1 rfl ?_
    refine zz_iload_n C dX1_defends_7 rfl 3 rfl ?_
    obtain ⟨a9, t9, b9, fs9, hro, hL, rfl, hw⟩ := ztyS hw
    obtain ⟨c9, s9, hc9, hs9, hw⟩ := hw
    refine zz_callV (r := (zR_0, zT_0, 4)) (As := [.int p1]) (rest := []) C hR hro dX1_defends_8 (Or.inl q2287) q2289 (Or.inl qs28) zl_DebateHall zk_X1_itemAt (Or.inl rfl) zy_X1_itemAt rfl (by decide) (by decide) hL (ok_X1_itemAt (zz_hl C) hw) hc9 hs9 (zz_cat10 _ (Nat.le_of_ble_eq_true rfl)) (fun r6 M7 hw => zz_kA hw (fun x10 hw => ?_)) (fun t9 q35 M36 hx => ?_) rfl
    · refine zz_astore (lv' := [(4, va_rf x10), (3, va_rf x5), (0, va_rf this), (1, .int p0), (2, .int p1)]) C dX1_defends_11 (by decide) (by simp [zz_cat, zz_catI, zz_catJ, zz_catD]) ?_
      refine zz_aload_n C dX1_defends_13 rfl 1 rfl ?_
      refine zz_getA C dX1_defends_14 (Or.inr ⟨_, q1741⟩) zf_15_1_ebateHall_Item hw (fun x11 hw => ?_)
      refine zz_gets (j := 9) (v := va_rf (some (zz_ad (zz_Zof G) 9))) C dX1_defends_17 (Or.inl q2153) rfl (Or.inl rfl) rfl ?_
      refine zz_acmp_ne (tgt := 67) C dX1_defends_20 (by decide) hw (fun hw => ?_) (fun hw => ?_)
      · refine zz_subP [] rfl ?_
        exact ok_X1_defends_B67 C E hH hR hw
      · refine zz_aload_n C dX1_defends_23 rfl 1 rfl ?_
        obtain ⟨a9, t9, b9, fs9, hro, hL, rfl, hw⟩ := ztyS hw
        refine zz_callV (r := (zR_15, zT_15, 8)) (As := []) (rest := []) (mc := 0) (ms := 0) C hR hro dX1_defends_24 (Or.inl q2189) q1952 (Or.inl q1953) zl_DebateHall_Item zk_X20_isStrong (Or.inl rfl) zy_X20_isStrong rfl (by decide) (by decide) hL (ok_X20_isStrong (zz_hl C) hw) (Nat.zero_le _) (Nat.zero_le _) (zz_cat10 _ (Nat.le_of_ble_eq_true rfl)) (fun r12 M13 hw => zz_kI hw (fun x16 hw => ?_)) (fun _ _ _ h9 => h9.elim) rfl
        refine zz_if_eq (tgt := 67) C dX1_defends_27 (by decide) hw (fun hw => ?_) (fun hw => ?_)
        · refine zz_subP [] rfl ?_
          exact ok_X1_defends_B67 C E hH hR hw
        · refine zz_aload_n C dX1_defends_30 rfl 2 rfl ?_
          refine zz_getA C dX1_defends_31 (Or.inl q305) zf_0_2_DebateHall hw (fun x17 hw => ?_)
          refine zz_aload_n C dX1_defends_34 rfl 1 rfl ?_
          obtain ⟨a9, t9, b9, fs9, hro, hL, rfl, hw⟩ := ztyS hw
          refine zz_callV (r := (zR_2, zT_2, 8)) (As := [va_rf x5]) (rest := []) (mc := 0) (ms := 0) C hR hro dX1_defends_35 (Or.inr ⟨_, q2117⟩) q1944 (Or.inl qs19) zl_DebateHall_Minutes zk_X3_isIn (Or.inl rfl) zy_X3_isIn rfl (by decide) (by decide) hL (ok_X3_isIn (zz_hl C) hw) (Nat.zero_le _) (Nat.zero_le _) (zz_cat10 _ (Nat.le_of_ble_eq_true rfl)) (fun r18 M19 hw => zz_kI hw (fun x22 hw => ?_)) (fun _ _ _ h9 => h9.elim) rfl
          refine zz_if_eq (tgt := 67) C dX1_defends_38 (by decide) hw (fun hw => ?_) (fun hw => ?_)
          · refine zz_subP [] rfl ?_
            exact ok_X1_defends_B67 C E hH hR hw
          · refine zz_aload_n C dX1_defends_41 rfl 1 rfl ?_
            refine zz_getA C dX1_defends_42 (Or.inr ⟨_, q1759⟩) zf_15_6_ebateHall_Item hw (fun x23 hw => ?_)
            refine zz_aload C dX1_defends_45 0 rfl ?_
            obtain ⟨a9, t9, b9, fs9, hro, hL, rfl, hw⟩ := ztyS hw
            refine zz_callV (r := (zR_15, zT_15, 8)) (As := [va_rf x10]) (rest := []) (mc := 0) (ms := 0) C hR hro dX1_defends_47 (Or.inl q2319) q1947 (Or.inl q1948) zl_DebateHall_Item zk_X20_isOn (Or.inl rfl) zy_X20_isOn rfl (by decide) (by decide) hL (ok_X20_isOn (zz_hl C) hw) (Nat.zero_le _) (Nat.zero_le _) (zz_cat10 _ (Nat.le_of_ble_eq_true rfl)) (fun r24 M25 hw => zz_kI hw (fun x28 hw => ?_)) (fun _ _ _ h9 => h9.elim) rfl
            refine zz_if_eq (tgt := 67) C dX1_defends_50 (by decide) hw (fun hw => ?_) (fun hw => ?_)
            · refine zz_subP [] rfl ?_
              exact ok_X1_defends_B67 C E hH hR hw
            · refine zz_aload_n C dX1_defends_53 rfl 1 rfl ?_
              refine zz_getA C dX1_defends_54 (Or.inr ⟨_, q1759⟩) zf_15_6_ebateHall_Item hw (fun x29 hw => ?_)
              obtain ⟨a9, t9, b9, fs9, hro, hL, rfl, hw⟩ := ztyS hw
              refine zz_callV (r := (zR_15, zT_15, 8)) (As := []) (rest := []) (mc := 0) (ms := 0) C hR hro dX1_defends_57 (Or.inl q2189) q1952 (Or.inl q1953) zl_DebateHall_Item zk_X20_isStrong (Or.inl rfl) zy_X20_isStrong rfl (by decide) (by decide) hL (ok_X20_isStrong (zz_hl C) hw) (Nat.zero_le _) (Nat.zero_le _) (zz_cat10 _ (Nat.le_of_ble_eq_true rfl)) (fun r30 M31 hw => zz_kI hw (fun x34 hw => ?_)) (fun _ _ _ h9 => h9.elim) rfl
              refine zz_if_eq (tgt := 67) C dX1_defends_60 (by decide) hw (fun hw => ?_) (fun hw => ?_)
              · refine zz_subP [] rfl ?_
                exact ok_X1_defends_B67 C E hH hR hw
              · refine zz_iconst (v := (1 : Int32)) C dX1_defends_63 (by decide) ?_
                refine zz_goto (tgt := 68) C dX1_defends_64 (by decide) ?_
                refine zz_subP [] rfl ?_
                exact ok_X1_defends_B68 C E hH hR hw
    · exact zz_out C E hH rfl hx
  · exact zz_out C E hH rfl hx
abbrev cX0_defends : ByteArray := method_11_code
def yX0_defends : MethodName := ⟨"DebateHallLaw", "defends", "(LDebateHall;II[J)I"⟩
def dkwX0_defends_1 : List UInt8 := [3, 172]
abbrev dktX0_defends_1 : List UInt8 := dkwX0_defends_1 ++ []
def dkwX0_defends_0 : List UInt8 := [45, 3, 42, 27, 28, 182, 0, 42, 153, 0, 7, 10, 167, 0, 4, 9, 80, 167, 0, 7, 58, 4, 4, 172]
abbrev dktX0_defends_0 : List UInt8 := dkwX0_defends_0 ++ dktX0_defends_1
theorem dksX0_defends_0 : cX0_defends.data.toList.drop 0 = dktX0_defends_0 := by decide +kernel
theorem dksX0_defends_1 : cX0_defends.data.toList.drop 24 = dktX0_defends_1 := dk_seg dksX0_defends_0 24 rfl rfl
theorem dX0_defends_0 : decode cX0_defends 0 = .ok (.aload_n 3, 1) := dk_45 (dk_at dksX0_defends_0 0 rfl rfl)
theorem dX0_defends_1 : decode cX0_defends 1 = .ok (.iconst 0, 1) := dk_3 (dk_at dksX0_defends_0 1 rfl rfl)
theorem dX0_defends_2 : decode cX0_defends 2 = .ok (.aload_n 0, 1) := dk_42 (dk_at dksX0_defends_0 2 rfl rfl)
theorem dX0_defends_3 : decode cX0_defends 3 = .ok (.iload_n 1, 1) := dk_27 (dk_at dksX0_defends_0 3 rfl rfl)
theorem dX0_defends_4 : decode cX0_defends 4 = .ok (.iload_n 2, 1) := dk_28 (dk_at dksX0_defends_0 4 rfl rfl)
theorem dX0_defends_5 : decode cX0_defends 5 = .ok (.invokevirtual 42, 3) := dk_182 0 42 (dk_at dksX0_defends_0 5 rfl rfl)
theorem dX0_defends_8 : decode cX0_defends 8 = .ok (.ifCond .eq 7, 3) := dk_153 0 7 (dk_at dksX0_defends_0 8 rfl rfl)
theorem dX0_defends_11 : decode cX0_defends 11 = .ok (.lconst 1, 1) := dk_10 (dk_at dksX0_defends_0 11 rfl rfl)
theorem dX0_defends_12 : decode cX0_defends 12 = .ok (.goto 4, 3) := dk_167 0 4 (dk_at dksX0_defends_0 12 rfl rfl)
theorem dX0_defends_15 : decode cX0_defends 15 = .ok (.lconst 0, 1) := dk_9 (dk_at dksX0_defends_0 15 rfl rfl)
theorem dX0_defends_16 : decode cX0_defends 16 = .ok (.lastore, 1) := dk_80 (dk_at dksX0_defends_0 16 rfl rfl)
theorem dX0_defends_17 : decode cX0_defends 17 = .ok (.goto 7, 3) := dk_167 0 7 (dk_at dksX0_defends_0 17 rfl rfl)
theorem dX0_defends_20 : decode cX0_defends 20 = .ok (.astore 4, 2) := dk_58 4 (dk_at dksX0_defends_0 20 rfl rfl)
theorem dX0_defends_22 : decode cX0_defends 22 = .ok (.iconst 1, 1) := dk_4 (dk_at dksX0_defends_0 22 rfl rfl)
theorem dX0_defends_23 : decode cX0_defends 23 = .ok (.ireturn, 1) := dk_172 (dk_at dksX0_defends_0 23 rfl rfl)
theorem dX0_defends_24 : decode cX0_defends 24 = .ok (.iconst 0, 1) := dk_3 (dk_at dksX0_defends_1 0 rfl rfl)
theorem dX0_defends_25 : decode cX0_defends 25 = .ok (.ireturn, 1) := dk_172 (dk_at dksX0_defends_1 1 rfl rfl)
theorem q2318 : (Jvm.Cond.code ({ cls := "DebateHall", name := "defends", desc := "(II)Z" } : Jvm.MethodName) prog_1_method_23_code (5 : Nat) (Option.some Jvm.ClassFile.FieldType.boolean)) ∈ lw_all := lw_g (lw_at lw_m10 78 rfl) rfl
theorem zk_X1_defends : zz_cd yX1_defends cX1_defends 5 (some .boolean) none ∈ lw_all := q2318
theorem zy_X1_defends : zz_yok yX1_defends 2 = true := by decide +kernel
theorem q2315 : (Jvm.Cond.methodLink "DebateHallLaw" (42 : Nat) ({ cls := "DebateHall", name := "defends", desc := "(II)Z" } : Jvm.MethodName)) ∈ lw_all := lw_g (lw_at lw_m10 75 rfl) rfl
theorem q2316 : (Jvm.Cond.instanceMethod ({ cls := "DebateHall", name := "defends", desc := "(II)Z" } : Jvm.MethodName)) ∈ lw_all := lw_g (lw_at lw_m10 76 rfl) rfl
theorem q2317 : (Jvm.Cond.selects "DebateHall" ({ cls := "DebateHall", name := "defends", desc := "(II)Z" } : Jvm.MethodName) ({ cls := "DebateHall", name := "defends", desc := "(II)Z" } : Jvm.MethodName)) ∈ lw_all := lw_g (lw_at lw_m10 77 rfl) rfl
def wp_X0_defends_B16 (Z : zzG) (K : Option Value → zzM → Prop) (s0 : Int64) (s1 : Int32) (s2 : Option Nat) (M : zzM) (bc bs : Nat) : Prop := zast Z M s2 [102] s1 (.long s0) fun M10 => K (some (.int (0 : Int32))) M10
def wp_X0_defends_B20 (Z : zzG) (K : Option Value → zzM → Prop) (s0 : Option Nat) (M : zzM) (bc bs : Nat) : Prop := K (some (.int (1 : Int32))) M
def wp_X0_defends (Z : zzG) (p0 : Option Nat) (p1 : Int32) (p2 : Int32) (p3 : Option Nat) (M : zzM) (bc bs : Nat) (K : Option Value → zzM → Prop) : Prop := zty Z M p0 fun t => t = 0 ∧ zcx bc bs (fun c s k x => wp_X1_defends Z p0 p1 p2 M c s k x) (fun r1 M2 bc3 bs4 => zrI r1 fun x5 => if x5 = 0 then (wp_X0_defends_B16 Z K (0 : Int64) (0 : Int32) p3 M2 bc3 bs4) else (wp_X0_defends_B16 Z K (1 : Int64) (0 : Int32) p3 M2 bc3 bs4)) (fun t q6 M7 bc8 bs9 => if t = 28 then (wp_X0_defends_B20 Z K (some q6) M7 bc8 bs9) else False)
theorem ok_X0_defends_B16 {G : zzX} (C : zz_C G cX0_defends "DebateHallLaw" 5) {K : Option Value → zzM → Prop} (E : zz_E G (some .int) K (fun _ _ _ => False)) (hH : zz_H G [(0, 17, 20, 24)]) (hR : zz_Rm G 9) {s0 : Int64} {s1 : Int32} {s2 : Option Nat} {M : zzM} {bc bs : Nat} (hw : wp_X0_defends_B16 (zz_Zof G) K s0 s1 s2 M bc bs) : zz_T G 5 M bc bs 16 [] [.long s0, .int s1, va_rf s2] := by
  unfold wp_X0_defends_B16 at hw
  refine zz_last C dX0_defends_16 hw (fun M10 hw => ?_)
  refine zz_goto (tgt := 24) C dX0_defends_17 (by decide) ?_
  refine zz_iconst (v := (0 : Int32)) C dX0_defends_24 (by decide) ?_
  exact zz_iret C E dX0_defends_25 hw
theorem ok_X0_defends_B20 {G : zzX} (C : zz_C G cX0_defends "DebateHallLaw" 5) {K : Option Value → zzM → Prop} (E : zz_E G (some .int) K (fun _ _ _ => False)) (hH : zz_H G [(0, 17, 20, 24)]) (hR : zz_Rm G 9) {s0 : Option Nat} {M : zzM} {bc bs : Nat} (hw : wp_X0_defends_B20 (zz_Zof G) K s0 M bc bs) : zz_T G 5 M bc bs 20 [] [va_rf s0] := by
  unfold wp_X0_defends_B20 at hw
  refine zz_astore (lv' := [(4, va_rf s0)]) C dX0_defends_20 (by decide) rfl ?_
  refine zz_iconst (v := (1 : Int32)) C dX0_defends_22 (by decide) ?_
  exact zz_iret C E dX0_defends_23 hw
theorem ok_X0_defends {Z : zzG} {l : Launch} (hl : l.stackTraces = false) {p0 : Option Nat} {p1 : Int32} {p2 : Int32} {p3 : Option Nat} {M : zzM} {mc ms : Nat} {K : Option Value → zzM → Prop} (hw : wp_X0_defends Z p0 p1 p2 p3 M mc ms K) : zz_Met Z l yX0_defends (zz_ws yX0_defends cX0_defends 5 (some .int) (some [(0, 17, 20, 24)])) 9 [va_rf p0, .int p1, .int p2, va_rf p3] M mc ms K (fun _ _ _ => False) := by
  refine zz_ofW hl (plainFor_of_name (by decide)) (by simp only [zz_sl0, zz_slI, zz_slJ, zz_slA] <;> decide) (fun G hZ hll C E hH hR hin => ?_)
  subst hZ
  subst hll
  rw [show lv_args 0 [va_rf p0, .int p1, .int p2, va_rf p3] = [(0, va_rf p0), (1, .int p1), (2, .int p2), (3, va_rf p3)] by simp only [zz_la0, zz_laI, zz_laJ, zz_laA]]
  unfold wp_X0_defends at hw
  refine zz_aload_n C dX0_defends_0 rfl 3 rfl ?_
  refine zz_iconst (v := (0 : Int32)) C dX0_defends_1 (by decide) ?_
  refine zz_aload_n C dX0_defends_2 rfl 0 rfl ?_
  refine zz_iload_n C dX0_defends_3 rfl 1 rfl ?_
  refine zz_iload_n C dX0_defends_4 rfl 2 rfl ?_
  obtain ⟨a9, t9, b9, fs9, hro, hL, rfl, hw⟩ := ztyS hw
  obtain ⟨c9, s9, hc9, hs9, hw⟩ := hw
  refine zz_callV (r := (zR_0, zT_0, 4)) (As := [.int p1, .int p2]) (rest := [.int (0 : Int32), va_rf p3]) C hR hro dX0_defends_5 (Or.inl q2315) q2316 (Or.inl q2317) zl_DebateHall zk_X1_defends (Or.inl rfl) zy_X1_defends rfl (by decide) (by decide) hL (ok_X1_defends (zz_hl C) hw) hc9 hs9 (zz_cat10 _ (Nat.le_of_ble_eq_true rfl)) (fun r1 M2 hw => zz_kI hw (fun x5 hw => ?_)) (fun t9 q6 M7 hw => ?_) rfl
  · refine zz_if_eq (tgt := 15) C dX0_defends_8 (by decide) hw (fun hw => ?_) (fun hw => ?_)
    · refine zz_lconst (v := (0 : Int64)) C dX0_defends_15 (by decide) ?_
      refine zz_subP [] rfl ?_
      exact ok_X0_defends_B16 C E hH hR hw
    · refine zz_lconst (v := (1 : Int64)) C dX0_defends_11 (by decide) ?_
      refine zz_goto (tgt := 16) C dX0_defends_12 (by decide) ?_
      refine zz_subP [] rfl ?_
      exact ok_X0_defends_B16 C E hH hR hw
  · by_cases e28 : t9 = 28
    · replace hw := zz_ifp e28 hw
      subst e28
      refine zz_catch (r := (zR_28, zT_28, 0)) C hH rfl [] (0, 17, 20, 24) [] rfl (fun _ h9 => absurd h9 List.not_mem_nil) rfl (by decide) q2265 q2137 ?_
      refine zz_subP [] rfl ?_
      exact ok_X0_defends_B20 C E hH hR hw
    · replace hw := zz_ifn e28 hw
      exact hw.elim
abbrev cX4_defends : ByteArray := prog_25_method_59_code
def yX4_defends : MethodName := ⟨"DebateHallModel", "defends", "(II)Z"⟩
def dkwX4_defends_4 : List UInt8 := [167, 0, 4, 3, 172]
abbrev dktX4_defends_4 : List UInt8 := dkwX4_defends_4 ++ []
def dkwX4_defends_3 : List UInt8 := [180, 0, 48, 29, 182, 0, 108, 153, 0, 20, 42, 180, 0, 48, 180, 0, 111, 29, 46, 28, 160, 0, 7, 4]
abbrev dktX4_defends_3 : List UInt8 := dkwX4_defends_3 ++ dktX4_defends_4
def dkwX4_defends_2 : List UInt8 := [180, 0, 55, 27, 46, 4, 159, 0, 5, 3, 172, 42, 180, 0, 48, 180, 0, 111, 27, 46, 62, 42]
abbrev dktX4_defends_2 : List UInt8 := dkwX4_defends_2 ++ dktX4_defends_3
def dkwX4_defends_1 : List UInt8 := [182, 1, 56, 153, 0, 7, 4, 167, 0, 4, 3, 172, 42, 180, 0, 48, 27, 182, 0, 108, 153, 0, 13, 42]
abbrev dktX4_defends_1 : List UInt8 := dkwX4_defends_1 ++ dktX4_defends_2
def dkwX4_defends_0 : List UInt8 := [42, 3, 181, 0, 85, 42, 27, 182, 1, 92, 153, 0, 11, 42, 28, 182, 1, 92, 154, 0, 17, 42, 4]
abbrev dktX4_defends_0 : List UInt8 := dkwX4_defends_0 ++ dktX4_defends_1
theorem dksX4_defends_0 : cX4_defends.data.toList.drop 0 = dktX4_defends_0 := by decide +kernel
theorem dksX4_defends_1 : cX4_defends.data.toList.drop 23 = dktX4_defends_1 := dk_seg dksX4_defends_0 23 rfl rfl
theorem dksX4_defends_2 : cX4_defends.data.toList.drop 47 = dktX4_defends_2 := dk_seg dksX4_defends_1 24 rfl rfl
theorem dksX4_defends_3 : cX4_defends.data.toList.drop 69 = dktX4_defends_3 := dk_seg dksX4_defends_2 22 rfl rfl
theorem dksX4_defends_4 : cX4_defends.data.toList.drop 93 = dktX4_defends_4 := dk_seg dksX4_defends_3 24 rfl rfl
theorem dX4_defends_0 : decode cX4_defends 0 = .ok (.aload_n 0, 1) := dk_42 (dk_at dksX4_defends_0 0 rfl rfl)
theorem dX4_defends_1 : decode cX4_defends 1 = .ok (.iconst 0, 1) := dk_3 (dk_at dksX4_defends_0 1 rfl rfl)
theorem dX4_defends_2 : decode cX4_defends 2 = .ok (.putfield 85, 3) := dk_181 0 85 (dk_at dksX4_defends_0 2 rfl rfl)
theorem dX4_defends_5 : decode cX4_defends 5 = .ok (.aload_n 0, 1) := dk_42 (dk_at dksX4_defends_0 5 rfl rfl)
theorem dX4_defends_6 : decode cX4_defends 6 = .ok (.iload_n 1, 1) := dk_27 (dk_at dksX4_defends_0 6 rfl rfl)
theorem dX4_defends_7 : decode cX4_defends 7 = .ok (.invokevirtual 348, 3) := dk_182 1 92 (dk_at dksX4_defends_0 7 rfl rfl)
theorem dX4_defends_10 : decode cX4_defends 10 = .ok (.ifCond .eq 11, 3) := dk_153 0 11 (dk_at dksX4_defends_0 10 rfl rfl)
theorem dX4_defends_13 : decode cX4_defends 13 = .ok (.aload_n 0, 1) := dk_42 (dk_at dksX4_defends_0 13 rfl rfl)
theorem dX4_defends_14 : decode cX4_defends 14 = .ok (.iload_n 2, 1) := dk_28 (dk_at dksX4_defends_0 14 rfl rfl)
theorem dX4_defends_15 : decode cX4_defends 15 = .ok (.invokevirtual 348, 3) := dk_182 1 92 (dk_at dksX4_defends_0 15 rfl rfl)
theorem dX4_defends_18 : decode cX4_defends 18 = .ok (.ifCond .ne 17, 3) := dk_154 0 17 (dk_at dksX4_defends_0 18 rfl rfl)
theorem dX4_defends_21 : decode cX4_defends 21 = .ok (.aload_n 0, 1) := dk_42 (dk_at dksX4_defends_0 21 rfl rfl)
theorem dX4_defends_22 : decode cX4_defends 22 = .ok (.iconst 1, 1) := dk_4 (dk_at dksX4_defends_0 22 rfl rfl)
theorem dX4_defends_23 : decode cX4_defends 23 = .ok (.invokevirtual 312, 3) := dk_182 1 56 (dk_at dksX4_defends_1 0 rfl rfl)
theorem dX4_defends_26 : decode cX4_defends 26 = .ok (.ifCond .eq 7, 3) := dk_153 0 7 (dk_at dksX4_defends_1 3 rfl rfl)
theorem dX4_defends_29 : decode cX4_defends 29 = .ok (.iconst 1, 1) := dk_4 (dk_at dksX4_defends_1 6 rfl rfl)
theorem dX4_defends_30 : decode cX4_defends 30 = .ok (.goto 4, 3) := dk_167 0 4 (dk_at dksX4_defends_1 7 rfl rfl)
theorem dX4_defends_33 : decode cX4_defends 33 = .ok (.iconst 0, 1) := dk_3 (dk_at dksX4_defends_1 10 rfl rfl)
theorem dX4_defends_34 : decode cX4_defends 34 = .ok (.ireturn, 1) := dk_172 (dk_at dksX4_defends_1 11 rfl rfl)
theorem dX4_defends_35 : decode cX4_defends 35 = .ok (.aload_n 0, 1) := dk_42 (dk_at dksX4_defends_1 12 rfl rfl)
theorem dX4_defends_36 : decode cX4_defends 36 = .ok (.getfield 48, 3) := dk_180 0 48 (dk_at dksX4_defends_1 13 rfl rfl)
theorem dX4_defends_39 : decode cX4_defends 39 = .ok (.iload_n 1, 1) := dk_27 (dk_at dksX4_defends_1 16 rfl rfl)
theorem dX4_defends_40 : decode cX4_defends 40 = .ok (.invokevirtual 108, 3) := dk_182 0 108 (dk_at dksX4_defends_1 17 rfl rfl)
theorem dX4_defends_43 : decode cX4_defends 43 = .ok (.ifCond .eq 13, 3) := dk_153 0 13 (dk_at dksX4_defends_1 20 rfl rfl)
theorem dX4_defends_46 : decode cX4_defends 46 = .ok (.aload_n 0, 1) := dk_42 (dk_at dksX4_defends_1 23 rfl rfl)
theorem dX4_defends_47 : decode cX4_defends 47 = .ok (.getfield 55, 3) := dk_180 0 55 (dk_at dksX4_defends_2 0 rfl rfl)
theorem dX4_defends_50 : decode cX4_defends 50 = .ok (.iload_n 1, 1) := dk_27 (dk_at dksX4_defends_2 3 rfl rfl)
theorem dX4_defends_51 : decode cX4_defends 51 = .ok (.iaload, 1) := dk_46 (dk_at dksX4_defends_2 4 rfl rfl)
theorem dX4_defends_52 : decode cX4_defends 52 = .ok (.iconst 1, 1) := dk_4 (dk_at dksX4_defends_2 5 rfl rfl)
theorem dX4_defends_53 : decode cX4_defends 53 = .ok (.if_icmp .eq 5, 3) := dk_159 0 5 (dk_at dksX4_defends_2 6 rfl rfl)
theorem dX4_defends_56 : decode cX4_defends 56 = .ok (.iconst 0, 1) := dk_3 (dk_at dksX4_defends_2 9 rfl rfl)
theorem dX4_defends_57 : decode cX4_defends 57 = .ok (.ireturn, 1) := dk_172 (dk_at dksX4_defends_2 10 rfl rfl)
theorem dX4_defends_58 : decode cX4_defends 58 = .ok (.aload_n 0, 1) := dk_42 (dk_at dksX4_defends_2 11 rfl rfl)
theorem dX4_defends_59 : decode cX4_defends 59 = .ok (.getfield 48, 3) := dk_180 0 48 (dk_at dksX4_defends_2 12 rfl rfl)
theorem dX4_defends_62 : decode cX4_defends 62 = .ok (.getfield 111, 3) := dk_180 0 111 (dk_at dksX4_defends_2 15 rfl rfl)
theorem dX4_defends_65 : decode cX4_defends 65 = .ok (.iload_n 1, 1) := dk_27 (dk_at dksX4_defends_2 18 rfl rfl)
theorem dX4_defends_66 : decode cX4_defends 66 = .ok (.iaload, 1) := dk_46 (dk_at dksX4_defends_2 19 rfl rfl)
theorem dX4_defends_67 : decode cX4_defends 67 = .ok (.istore_n 3, 1) := dk_62 (dk_at dksX4_defends_2 20 rfl rfl)
theorem dX4_defends_68 : decode cX4_defends 68 = .ok (.aload_n 0, 1) := dk_42 (dk_at dksX4_defends_2 21 rfl rfl)
theorem dX4_defends_69 : decode cX4_defends 69 = .ok (.getfield 48, 3) := dk_180 0 48 (dk_at dksX4_defends_3 0 rfl rfl)
theorem dX4_defends_72 : decode cX4_defends 72 = .ok (.iload_n 3, 1) := dk_29 (dk_at dksX4_defends_3 3 rfl rfl)
theorem dX4_defends_73 : decode cX4_defends 73 = .ok (.invokevirtual 108, 3) := dk_182 0 108 (dk_at dksX4_defends_3 4 rfl rfl)
theorem dX4_defends_76 : decode cX4_defends 76 = .ok (.ifCond .eq 20, 3) := dk_153 0 20 (dk_at dksX4_defends_3 7 rfl rfl)
theorem dX4_defends_79 : decode cX4_defends 79 = .ok (.aload_n 0, 1) := dk_42 (dk_at dksX4_defends_3 10 rfl rfl)
theorem dX4_defends_80 : decode cX4_defends 80 = .ok (.getfield 48, 3) := dk_180 0 48 (dk_at dksX4_defends_3 11 rfl rfl)
theorem dX4_defends_83 : decode cX4_defends 83 = .ok (.getfield 111, 3) := dk_180 0 111 (dk_at dksX4_defends_3 14 rfl rfl)
theorem dX4_defends_86 : decode cX4_defends 86 = .ok (.iload_n 3, 1) := dk_29 (dk_at dksX4_defends_3 17 rfl rfl)
theorem dX4_defends_87 : decode cX4_defends 87 = .ok (.iaload, 1) := dk_46 (dk_at dksX4_defends_3 18 rfl rfl)
theorem dX4_defends_88 : decode cX4_defends 88 = .ok (.iload_n 2, 1) := dk_28 (dk_at dksX4_defends_3 19 rfl rfl)
theorem dX4_defends_89 : decode cX4_defends 89 = .ok (.if_icmp .ne 7, 3) := dk_160 0 7 (dk_at dksX4_defends_3 20 rfl rfl)
theorem dX4_defends_92 : decode cX4_defends 92 = .ok (.iconst 1, 1) := dk_4 (dk_at dksX4_defends_3 23 rfl rfl)
theorem dX4_defends_93 : decode cX4_defends 93 = .ok (.goto 4, 3) := dk_167 0 4 (dk_at dksX4_defends_4 0 rfl rfl)
theorem dX4_defends_96 : decode cX4_defends 96 = .ok (.iconst 0, 1) := dk_3 (dk_at dksX4_defends_4 3 rfl rfl)
theorem dX4_defends_97 : decode cX4_defends 97 = .ok (.ireturn, 1) := dk_172 (dk_at dksX4_defends_4 4 rfl rfl)
def wp_X4_defends_B34 (Z : zzG) (K : Option Value → zzM → Prop) (s0 : Int32) (M : zzM) : Prop := narrow .boolean (.int s0) = .int s0 ∧ K (some (.int s0)) M
def wp_X4_defends_B21 (Z : zzG) (K : Option Value → zzM → Prop) (v0 : Option Nat) (M : zzM) : Prop := zty Z M v0 fun t => t = 16 ∧ wp_X4_no Z v0 (1 : Int32) M (fun r32 M33 => zrI r32 fun x36 => if x36 = 0 then (wp_X4_defends_B34 Z K (0 : Int32) M33) else (wp_X4_defends_B34 Z K (1 : Int32) M33))
def wp_X4_defends_B56 (Z : zzG) (K : Option Value → zzM → Prop) (M : zzM) : Prop := narrow .boolean (.int (0 : Int32)) = .int (0 : Int32) ∧ K (some (.int (0 : Int32))) M
def wp_X4_defends_B97 (Z : zzG) (K : Option Value → zzM → Prop) (s0 : Int32) (M : zzM) : Prop := narrow .boolean (.int s0) = .int s0 ∧ K (some (.int s0)) M
def wp_X4_defends_B96 (Z : zzG) (K : Option Value → zzM → Prop) (M : zzM) : Prop := wp_X4_defends_B97 Z K (0 : Int32) M
def wp_X4_defends (Z : zzG) (this : Option Nat) (p0 : Int32) (p1 : Int32) (M : zzM) (K : Option Value → zzM → Prop) : Prop := zput Z M this [16] 0 (.int (0 : Int32)) fun M1 => zty Z M1 this fun t => t = 16 ∧ wp_X4_isItem Z this p0 M1 (fun r2 M3 => zrI r2 fun x6 => if x6 = 0 then (wp_X4_defends_B21 Z K this M3) else (zty Z M3 this fun t => t = 16 ∧ wp_X4_isItem Z this p1 M3 (fun r7 M8 => zrI r7 fun x11 => if x11 = 0 then (wp_X4_defends_B21 Z K this M8) else (zgA Z M8 this [16] 11 fun x12 => zty Z M8 x12 fun t => t = 17 ∧ wp_X5_isStrong Z x12 p0 M8 (fun r13 M14 => zrI r13 fun x17 => if x17 = 0 then (wp_X4_defends_B56 Z K M14) else (zgA Z M14 this [16] 13 fun x18 => zaI Z M14 x18 [100] p0 fun x19 => if x19 = (1 : Int32) then (zgA Z M14 this [16] 11 fun x20 => zgA Z M14 x20 [17] 9 fun x21 => zaI Z M14 x21 [100] p0 fun x22 => zgA Z M14 this [16] 11 fun x23 => zty Z M14 x23 fun t => t = 17 ∧ wp_X5_isStrong Z x23 x22 M14 (fun r24 M25 => zrI r24 fun x28 => if x28 = 0 then (wp_X4_defends_B96 Z K M25) else (zgA Z M25 this [16] 11 fun x29 => zgA Z M25 x29 [17] 9 fun x30 => zaI Z M25 x30 [100] x22 fun x31 => if x31 = p1 then (wp_X4_defends_B97 Z K (1 : Int32) M25) else (wp_X4_defends_B96 Z K M25)))) else (wp_X4_defends_B56 Z K M14)))))))
theorem ok_X4_defends_B34 {G : zzX} (C : zz_C G cX4_defends "DebateHallModel" 4) {K : Option Value → zzM → Prop} (E : zz_E G (some .boolean) K (fun _ _ _ => False)) (hH : zz_H G []) (hR : zz_Rm G 3) {s0 : Int32} {M : zzM} {bc bs : Nat} (hw : wp_X4_defends_B34 (zz_Zof G) K s0 M) : zz_T G 4 M bc bs 34 [] [.int s0] := by
  unfold wp_X4_defends_B34 at hw
  exact zz_zret C E dX4_defends_34 hw
theorem ok_X4_defends_B21 {G : zzX} (C : zz_C G cX4_defends "DebateHallModel" 4) {K : Option Value → zzM → Prop} (E : zz_E G (some .boolean) K (fun _ _ _ => False)) (hH : zz_H G []) (hR : zz_Rm G 3) {v0 : Option Nat} {M : zzM} {bc bs : Nat} (hw : wp_X4_defends_B21 (zz_Zof G) K v0 M) : zz_T G 4 M bc bs 21 [(0, va_rf v0)] [] := by
  unfold wp_X4_defends_B21 at hw
  refine zz_aload_n C dX4_defends_21 rfl 0 rfl ?_
  refine zz_iconst (v := (1 : Int32)) C dX4_defends_22 (by decide) ?_
  obtain ⟨a9, t9, b9, fs9, hro, hL, rfl, hw⟩ := ztyS hw
  refine zz_callV (r := (zR_16, zT_16, 24)) (As := [.int (1 : Int32)]) (rest := []) (mc := 0) (ms := 0) C hR hro dX4_defends_23 (Or.inl q2517) q2519 (Or.inl qs32) zl_DebateHallModel zk_X4_no (Or.inl rfl) zy_X4_no rfl (by decide) (by decide) hL (ok_X4_no (zz_hl C) hw) (Nat.zero_le _) (Nat.zero_le _) (zz_cat10 _ (Nat.le_of_ble_eq_true rfl)) (fun r32 M33 hw => zz_kI hw (fun x36 hw => ?_)) (fun _ _ _ h9 => h9.elim) rfl
  refine zz_if_eq (tgt := 33) C dX4_defends_26 (by decide) hw (fun hw => ?_) (fun hw => ?_)
  · refine zz_iconst (v := (0 : Int32)) C dX4_defends_33 (by decide) ?_
    refine zz_subP [] rfl ?_
    exact ok_X4_defends_B34 C E hH hR hw
  · refine zz_iconst (v := (1 : Int32)) C dX4_defends_29 (by decide) ?_
    refine zz_goto (tgt := 34) C dX4_defends_30 (by decide) ?_
    refine zz_subP [] rfl ?_
    exact ok_X4_defends_B34 C E hH hR hw
theorem ok_X4_defends_B56 {G : zzX} (C : zz_C G cX4_defends "DebateHallModel" 4) {K : Option Value → zzM → Prop} (E : zz_E G (some .boolean) K (fun _ _ _ => False)) (hH : zz_H G []) (hR : zz_Rm G 3) {M : zzM} {bc bs : Nat} (hw : wp_X4_defends_B56 (zz_Zof G) K M) : zz_T G 4 M bc bs 56 [] [] := by
  unfold wp_X4_defends_B56 at hw
  refine zz_iconst (v := (0 : Int32)) C dX4_defends_56 (by decide) ?_
  exact zz_zret C E dX4_defends_57 hw
theorem ok_X4_defends_B97 {G : zzX} (C : zz_C G cX4_defends "DebateHallModel" 4) {K : Option Value → zzM → Prop} (E : zz_E G (some .boolean) K (fun _ _ _ => False)) (hH : zz_H G []) (hR : zz_Rm G 3) {s0 : Int32} {M : zzM} {bc bs : Nat} (hw : wp_X4_defends_B97 (zz_Zof G) K s0 M) : zz_T G 4 M bc bs 97 [] [.int s0] := by
  unfold wp_X4_defends_B97 at hw
  exact zz_zret C E dX4_defends_97 hw
theorem ok_X4_defends_B96 {G : zzX} (C : zz_C G cX4_defends "DebateHallModel" 4) {K : Option Value → zzM → Prop} (E : zz_E G (some .boolean) K (fun _ _ _ => False)) (hH : zz_H G []) (hR : zz_Rm G 3) {M : zzM} {bc bs : Nat} (hw : wp_X4_defends_B96 (zz_Zof G) K M) : zz_T G 4 M bc bs 96 [] [] := by
  unfold wp_X4_defends_B96 at hw
  refine zz_iconst (v := (0 : Int32)) C dX4_defends_96 (by decide) ?_
  refine zz_subP [] rfl ?_
  exact ok_X4_defends_B97 C E hH hR hw
theorem ok_X4_defends {Z : zzG} {l : Launch} (hl : l.stackTraces = false) {this : Option Nat} {p0 : Int32} {p1 : Int32} {M : zzM} {mc ms : Nat} {K : Option Value → zzM → Prop} (hw : wp_X4_defends Z this p0 p1 M K) : zz_Met Z l yX4_defends (zz_ws yX4_defends cX4_defends 4 (some .boolean) none) 3 [va_rf this, .int p0, .int p1] M mc ms K (fun _ _ _ => False) := by
  refine zz_ofW hl (plainFor_of_name (by decide)) (by simp only [zz_sl0, zz_slI, zz_slJ, zz_slA] <;> decide) (fun G hZ hll C E hH hR hin => ?_)
  subst hZ
  subst hll
  rw [show lv_args 0 [va_rf this, .int p0, .int p1] = [(0, va_rf this), (1, .int p0), (2, .int p1)] by simp only [zz_la0, zz_laI, zz_laJ, zz_laA]]
  unfold wp_X4_defends at hw
  refine zz_aload_n C dX4_defends_0 rfl 0 rfl ?_
  refine zz_iconst (v := (0 : Int32)) C dX4_defends_1 (by decide) ?_
  refine zz_put C dX4_defends_2 (Or.inl q2436) zf_16_0_ebateHallModel zp_16_0 (zz_hn1 ⟨rfl, rfl⟩) hw (fun M1 hw => ?_)
  refine zz_aload_n C dX4_defends_5 rfl 0 rfl ?_
  refine zz_iload_n C dX4_defends_6 rfl 1 rfl ?_
  obtain ⟨a9, t9, b9, fs9, hro, hL, rfl, hw⟩ := ztyS hw
  refine zz_callV (r := (zR_16, zT_16, 24)) (As := [.int p0]) (rest := []) (mc := 0) (ms := 0) C hR hro dX4_defends_7 (Or.inl q2758) q2760 (Or.inl qs69) zl_DebateHallModel zk_X4_isItem (Or.inl rfl) zy_X4_isItem rfl (by decide) (by decide) hL (ok_X4_isItem (zz_hl C) hw) (Nat.zero_le _) (Nat.zero_le _) (zz_cat10 _ (Nat.le_of_ble_eq_true rfl)) (fun r2 M3 hw => zz_kI hw (fun x6 hw => ?_)) (fun _ _ _ h9 => h9.elim) rfl
  refine zz_if_eq (tgt := 21) C dX4_defends_10 (by decide) hw (fun hw => ?_) (fun hw => ?_)
  · refine zz_subP [0] rfl ?_
    exact ok_X4_defends_B21 C E hH hR hw
  · refine zz_aload_n C dX4_defends_13 rfl 0 rfl ?_
    refine zz_iload_n C dX4_defends_14 rfl 2 rfl ?_
    obtain ⟨a9, t9, b9, fs9, hro, hL, rfl, hw⟩ := ztyS hw
    refine zz_callV (r := (zR_16, zT_16, 24)) (As := [.int p1]) (rest := []) (mc := 0) (ms := 0) C hR hro dX4_defends_15 (Or.inl q2758) q2760 (Or.inl qs69) zl_DebateHallModel zk_X4_isItem (Or.inl rfl) zy_X4_isItem rfl (by decide) (by decide) hL (ok_X4_isItem (zz_hl C) hw) (Nat.zero_le _) (Nat.zero_le _) (zz_cat10 _ (Nat.le_of_ble_eq_true rfl)) (fun r7 M8 hw => zz_kI hw (fun x11 hw => ?_)) (fun _ _ _ h9 => h9.elim) rfl
    refine zz_if_ne (tgt := 35) C dX4_defends_18 (by decide) hw (fun hw => ?_) (fun hw => ?_)
    · refine zz_aload_n C dX4_defends_35 rfl 0 rfl ?_
      refine zz_getA C dX4_defends_36 (Or.inl q2447) zf_16_11_ebateHallModel hw (fun x12 hw => ?_)
      refine zz_iload_n C dX4_defends_39 rfl 1 rfl ?_
      obtain ⟨a9, t9, b9, fs9, hro, hL, rfl, hw⟩ := ztyS hw
      refine zz_callV (r := (zR_17, zT_17, 12)) (As := [.int p0]) (rest := []) (mc := 0) (ms := 0) C hR hro dX4_defends_40 (Or.inl q2692) q2693 (Or.inl q2694) zl_DebateHallModel_State zk_X5_isStrong (Or.inl rfl) zy_X5_isStrong rfl (by decide) (by decide) hL (ok_X5_isStrong (zz_hl C) hw) (Nat.zero_le _) (Nat.zero_le _) (zz_cat10 _ (Nat.le_of_ble_eq_true rfl)) (fun r13 M14 hw => zz_kI hw (fun x17 hw => ?_)) (fun _ _ _ h9 => h9.elim) rfl
      refine zz_if_eq (tgt := 56) C dX4_defends_43 (by decide) hw (fun hw => ?_) (fun hw => ?_)
      · refine zz_subP [] rfl ?_
        exact ok_X4_defends_B56 C E hH hR hw
      · refine zz_aload_n C dX4_defends_46 rfl 0 rfl ?_
        refine zz_getA C dX4_defends_47 (Or.inl q2449) zf_16_13_ebateHallModel hw (fun x18 hw => ?_)
        refine zz_iload_n C dX4_defends_50 rfl 1 rfl ?_
        refine zz_iald C dX4_defends_51 hw (fun x19 hw => ?_)
        refine zz_iconst (v := (1 : Int32)) C dX4_defends_52 (by decide) ?_
        refine zz_icmp_eq (tgt := 58) C dX4_defends_53 (by decide) hw (fun hw => ?_) (fun hw => ?_)
        · refine zz_aload_n C dX4_defends_58 rfl 0 rfl ?_
          refine zz_getA C dX4_defends_59 (Or.inl q2447) zf_16_11_ebateHallModel hw (fun x20 hw => ?_)
          refine zz_getA C dX4_defends_62 (Or.inr ⟨_, q2406⟩) zf_17_9_allModel_State hw (fun x21 hw => ?_)
          refine zz_iload_n C dX4_defends_65 rfl 1 rfl ?_
          refine zz_iald C dX4_defends_66 hw (fun x22 hw => ?_)
          refine zz_istore_n (i := 3) (lv' := [(3, .int x22), (0, va_rf this), (1, .int p0), (2, .int p1)]) C dX4_defends_67 rfl (by decide) rfl ?_
          refine zz_aload_n C dX4_defends_68 rfl 1 rfl ?_
          refine zz_getA C dX4_defends_69 (Or.inl q2447) zf_16_11_ebateHallModel hw (fun x23 hw => ?_)
          refine zz_iload_n C dX4_defends_72 rfl 0 rfl ?_
          obtain ⟨a9, t9, b9, fs9, hro, hL, rfl, hw⟩ := ztyS hw
          refine zz_callV (r := (zR_17, zT_17, 12)) (As := [.int x22]) (rest := []) (mc := 0) (ms := 0) C hR hro dX4_defends_73 (Or.inl q2692) q2693 (Or.inl q2694) zl_DebateHallModel_State zk_X5_isStrong (Or.inl rfl) zy_X5_isStrong rfl (by decide) (by decide) hL (ok_X5_isStrong (zz_hl C) hw) (Nat.zero_le _) (Nat.zero_le _) (zz_cat10 _ (Nat.le_of_ble_eq_true rfl)) (fun r24 M25 hw => zz_kI hw (fun x28 hw => ?_)) (fun _ _ _ h9 => h9.elim) rfl
          refine zz_if_eq (tgt := 96) C dX4_defends_76 (by decide) hw (fun hw => ?_) (fun hw => ?_)
          · refine zz_subP [] rfl ?_
            exact ok_X4_defends_B96 C E hH hR hw
          · refine zz_aload_n C dX4_defends_79 rfl 1 rfl ?_
            refine zz_getA C dX4_defends_80 (Or.inl q2447) zf_16_11_ebateHallModel hw (fun x29 hw => ?_)
            refine zz_getA C dX4_defends_83 (Or.inr ⟨_, q2406⟩) zf_17_9_allModel_State hw (fun x30 hw => ?_)
            refine zz_iload_n C dX4_defends_86 rfl 0 rfl ?_
            refine zz_iald C dX4_defends_87 hw (fun x31 hw => ?_)
            refine zz_iload_n C dX4_defends_88 rfl 3 rfl ?_
            refine zz_icmp_ne (tgt := 96) C dX4_defends_89 (by decide) hw (fun hw => ?_) (fun hw => ?_)
            · refine zz_subP [] rfl ?_
              exact ok_X4_defends_B96 C E hH hR hw
            · refine zz_iconst (v := (1 : Int32)) C dX4_defends_92 (by decide) ?_
              refine zz_goto (tgt := 97) C dX4_defends_93 (by decide) ?_
              refine zz_subP [] rfl ?_
              exact ok_X4_defends_B97 C E hH hR hw
        · refine zz_subP [] rfl ?_
          exact ok_X4_defends_B56 C E hH hR hw
    · refine zz_subP [0] rfl ?_
      exact ok_X4_defends_B21 C E hH hR hw
abbrev cX1_far : ByteArray := prog_1_method_22_code
def yX1_far : MethodName := ⟨"DebateHall", "far", "(I)I"⟩
def dkwX1_far_0 : List UInt8 := [42, 27, 182, 0, 228, 182, 0, 239, 172]
abbrev dktX1_far_0 : List UInt8 := dkwX1_far_0 ++ []
theorem dksX1_far_0 : cX1_far.data.toList.drop 0 = dktX1_far_0 := by decide +kernel
theorem dX1_far_0 : decode cX1_far 0 = .ok (.aload_n 0, 1) := dk_42 (dk_at dksX1_far_0 0 rfl rfl)
theorem dX1_far_1 : decode cX1_far 1 = .ok (.iload_n 1, 1) := dk_27 (dk_at dksX1_far_0 1 rfl rfl)
theorem dX1_far_2 : decode cX1_far 2 = .ok (.invokevirtual 228, 3) := dk_182 0 228 (dk_at dksX1_far_0 2 rfl rfl)
theorem dX1_far_5 : decode cX1_far 5 = .ok (.invokevirtual 239, 3) := dk_182 0 239 (dk_at dksX1_far_0 5 rfl rfl)
theorem dX1_far_8 : decode cX1_far 8 = .ok (.ireturn, 1) := dk_172 (dk_at dksX1_far_0 8 rfl rfl)
def wp_X1_far (Z : zzG) (this : Option Nat) (p0 : Int32) (M : zzM) (bc bs : Nat) (K : Option Value → zzM → Prop) (X : Nat → Nat → zzM → Prop) : Prop := zty Z M this fun t => t = 0 ∧ zcx bc bs (fun c s k x => wp_X1_itemAt Z this p0 M c s k x) (fun r1 M2 bc3 bs4 => zrA r1 fun x5 => zty Z M2 x5 fun t => t = 15 ∧ wp_X20_far Z x5 M2 (fun r6 M7 => zrI r6 fun x10 => K (some (.int x10)) M7)) (fun t q M _ _ => X t q M)
theorem ok_X1_far {Z : zzG} {l : Launch} (hl : l.stackTraces = false) {this : Option Nat} {p0 : Int32} {M : zzM} {mc ms : Nat} {K : Option Value → zzM → Prop} {X : Nat → Nat → zzM → Prop} (hw : wp_X1_far Z this p0 M mc ms K X) : zz_Met Z l yX1_far (zz_ws yX1_far cX1_far 2 (some .int) none) 63 [va_rf this, .int p0] M mc ms K X := by
  refine zz_ofW hl (plainFor_of_name (by decide)) (by simp only [zz_sl0, zz_slI, zz_slJ, zz_slA] <;> decide) (fun G hZ hll C E hH hR hin => ?_)
  subst hZ
  subst hll
  rw [show lv_args 0 [va_rf this, .int p0] = [(0, va_rf this), (1, .int p0)] by simp only [zz_la0, zz_laI, zz_laJ, zz_laA]]
  unfold wp_X1_far at hw
  refine zz_aload_n C dX1_far_0 rfl 0 rfl ?_
  refine zz_iload_n C dX1_far_1 rfl 1 rfl ?_
  obtain ⟨a9, t9, b9, fs9, hro, hL, rfl, hw⟩ := ztyS hw
  obtain ⟨c9, s9, hc9, hs9, hw⟩ := hw
  refine zz_callV (r := (zR_0, zT_0, 4)) (As := [.int p0]) (rest := []) C hR hro dX1_far_2 (Or.inl q2287) q2289 (Or.inl qs28) zl_DebateHall zk_X1_itemAt (Or.inl rfl) zy_X1_itemAt rfl (by decide) (by decide) hL (ok_X1_itemAt (zz_hl C) hw) hc9 hs9 (zz_cat10 _ (Nat.le_of_ble_eq_true rfl)) (fun r1 M2 hw => zz_kA hw (fun x5 hw => ?_)) (fun t9 q11 M12 hx => ?_) rfl
  · obtain ⟨a9, t9, b9, fs9, hro, hL, rfl, hw⟩ := ztyS hw
    refine zz_callV (r := (zR_15, zT_15, 8)) (As := []) (rest := []) (mc := 0) (ms := 0) C hR hro dX1_far_5 (Or.inl q2198) q2199 (Or.inl q2200) zl_DebateHall_Item zk_X20_far (Or.inl rfl) zy_X20_far rfl (by decide) (by decide) hL (ok_X20_far (zz_hl C) hw) (Nat.zero_le _) (Nat.zero_le _) (zz_cat10 _ (Nat.le_of_ble_eq_true rfl)) (fun r6 M7 hw => zz_kI hw (fun x10 hw => ?_)) (fun _ _ _ h9 => h9.elim) rfl
    exact zz_iret C E dX1_far_8 hw
  · exact zz_out C E hH rfl hx
abbrev cX0_far : ByteArray := method_10_code
def yX0_far : MethodName := ⟨"DebateHallLaw", "far", "(LDebateHall;I[J)I"⟩
def dkwX0_far_0 : List UInt8 := [44, 3, 42, 27, 182, 0, 39, 133, 80, 167, 0, 6, 78, 4, 172, 3, 172]
abbrev dktX0_far_0 : List UInt8 := dkwX0_far_0 ++ []
theorem dksX0_far_0 : cX0_far.data.toList.drop 0 = dktX0_far_0 := by decide +kernel
theorem dX0_far_0 : decode cX0_far 0 = .ok (.aload_n 2, 1) := dk_44 (dk_at dksX0_far_0 0 rfl rfl)
theorem dX0_far_1 : decode cX0_far 1 = .ok (.iconst 0, 1) := dk_3 (dk_at dksX0_far_0 1 rfl rfl)
theorem dX0_far_2 : decode cX0_far 2 = .ok (.aload_n 0, 1) := dk_42 (dk_at dksX0_far_0 2 rfl rfl)
theorem dX0_far_3 : decode cX0_far 3 = .ok (.iload_n 1, 1) := dk_27 (dk_at dksX0_far_0 3 rfl rfl)
theorem dX0_far_4 : decode cX0_far 4 = .ok (.invokevirtual 39, 3) := dk_182 0 39 (dk_at dksX0_far_0 4 rfl rfl)
theorem dX0_far_7 : decode cX0_far 7 = .ok (.i2l, 1) := dk_133 (dk_at dksX0_far_0 7 rfl rfl)
theorem dX0_far_8 : decode cX0_far 8 = .ok (.lastore, 1) := dk_80 (dk_at dksX0_far_0 8 rfl rfl)
theorem dX0_far_9 : decode cX0_far 9 = .ok (.goto 6, 3) := dk_167 0 6 (dk_at dksX0_far_0 9 rfl rfl)
theorem dX0_far_12 : decode cX0_far 12 = .ok (.astore_n 3, 1) := dk_78 (dk_at dksX0_far_0 12 rfl rfl)
theorem dX0_far_13 : decode cX0_far 13 = .ok (.iconst 1, 1) := dk_4 (dk_at dksX0_far_0 13 rfl rfl)
theorem dX0_far_14 : decode cX0_far 14 = .ok (.ireturn, 1) := dk_172 (dk_at dksX0_far_0 14 rfl rfl)
theorem dX0_far_15 : decode cX0_far 15 = .ok (.iconst 0, 1) := dk_3 (dk_at dksX0_far_0 15 rfl rfl)
theorem dX0_far_16 : decode cX0_far 16 = .ok (.ireturn, 1) := dk_172 (dk_at dksX0_far_0 16 rfl rfl)
theorem q2311 : (Jvm.Cond.code ({ cls := "DebateHall", name := "far", desc := "(I)I" } : Jvm.MethodName) prog_1_method_22_code (2 : Nat) (Option.some Jvm.ClassFile.FieldType.int)) ∈ lw_all := lw_g (lw_at lw_m10 71 rfl) rfl
theorem zk_X1_far : zz_cd yX1_far cX1_far 2 (some .int) none ∈ lw_all := q2311
theorem zy_X1_far : zz_yok yX1_far 1 = true := by decide +kernel
theorem q2308 : (Jvm.Cond.methodLink "DebateHallLaw" (39 : Nat) ({ cls := "DebateHall", name := "far", desc := "(I)I" } : Jvm.MethodName)) ∈ lw_all := lw_g (lw_at lw_m10 68 rfl) rfl
theorem q2309 : (Jvm.Cond.instanceMethod ({ cls := "DebateHall", name := "far", desc := "(I)I" } : Jvm.MethodName)) ∈ lw_all := lw_g (lw_at lw_m10 69 rfl) rfl
theorem q2310 : (Jvm.Cond.selects "DebateHall" ({ cls := "DebateHall", name := "far", desc := "(I)I" } : Jvm.MethodName) ({ cls := "DebateHall", name := "far", desc := "(I)I" } : Jvm.MethodName)) ∈ lw_all := lw_g (lw_at lw_m10 70 rfl) rfl
def wp_X0_far_B12 (Z : zzG) (K : Option Value → zzM → Prop) (s0 : Option Nat) (M : zzM) (bc bs : Nat) : Prop := K (some (.int (1 : Int32))) M
def wp_X0_far (Z : zzG) (p0 : Option Nat) (p1 : Int32) (p2 : Option Nat) (M : zzM) (bc bs : Nat) (K : Option Value → zzM → Prop) : Prop := zty Z M p0 fun t => t = 0 ∧ zcx bc bs (fun c s k x => wp_X1_far Z p0 p1 M c s k x) (fun r1 M2 bc3 bs4 => zrI r1 fun x5 => zast Z M2 p2 [102] (0 : Int32) (.long x5.toInt64) fun M6 => K (some (.int (0 : Int32))) M6) (fun t q7 M8 bc9 bs10 => if t = 28 then (wp_X0_far_B12 Z K (some q7) M8 bc9 bs10) else False)
theorem ok_X0_far_B12 {G : zzX} (C : zz_C G cX0_far "DebateHallLaw" 4) {K : Option Value → zzM → Prop} (E : zz_E G (some .int) K (fun _ _ _ => False)) (hH : zz_H G [(0, 9, 12, 24)]) (hR : zz_Rm G 64) {s0 : Option Nat} {M : zzM} {bc bs : Nat} (hw : wp_X0_far_B12 (zz_Zof G) K s0 M bc bs) : zz_T G 4 M bc bs 12 [] [va_rf s0] := by
  unfold wp_X0_far_B12 at hw
  refine zz_astore_n (i := 3) (lv' := [(3, va_rf s0)]) C dX0_far_12 rfl (by decide) rfl ?_
  refine zz_iconst (v := (1 : Int32)) C dX0_far_13 (by decide) ?_
  exact zz_iret C E dX0_far_14 hw
theorem ok_X0_far {Z : zzG} {l : Launch} (hl : l.stackTraces = false) {p0 : Option Nat} {p1 : Int32} {p2 : Option Nat} {M : zzM} {mc ms : Nat} {K : Option Value → zzM → Prop} (hw : wp_X0_far Z p0 p1 p2 M mc ms K) : zz_Met Z l yX0_far (zz_ws yX0_far cX0_far 4 (some .int) (some [(0, 9, 12, 24)])) 64 [va_rf p0, .int p1, va_rf p2] M mc ms K (fun _ _ _ => False) := by
  refine zz_ofW hl (plainFor_of_name (by decide)) (by simp only [zz_sl0, zz_slI, zz_slJ, zz_slA] <;> decide) (fun G hZ hll C E hH hR hin => ?_)
  subst hZ
  subst hll
  rw [show lv_args 0 [va_rf p0, .int p1, va_rf p2] = [(0, va_rf p0), (1, .int p1), (2, va_rf p2)] by simp only [zz_la0, zz_laI, zz_laJ, zz_laA]]
  unfold wp_X0_far at hw
  refine zz_aload_n C dX0_far_0 rfl 2 rfl ?_
  refine zz_iconst (v := (0 : Int32)) C dX0_far_1 (by decide) ?_
  refine zz_aload_n C dX0_far_2 rfl 0 rfl ?_
  refine zz_iload_n C dX0_far_3 rfl 1 rfl ?_
  obtain ⟨a9, t9, b9, fs9, hro, hL, rfl, hw⟩ := ztyS hw
  obtain ⟨c9, s9, hc9, hs9, hw⟩ := hw
  refine zz_callV (r := (zR_0, zT_0, 4)) (As := [.int p1]) (rest := [.int (0 : Int32), va_rf p2]) C hR hro dX0_far_4 (Or.inl q2308) q2309 (Or.inl q2310) zl_DebateHall zk_X1_far (Or.inl rfl) zy_X1_far rfl (by decide) (by decide) hL (ok_X1_far (zz_hl C) hw) hc9 hs9 (zz_cat10 _ (Nat.le_of_ble_eq_true rfl)) (fun r1 M2 hw => zz_kI hw (fun x5 hw => ?_)) (fun t9 q7 M8 hw => ?_) rfl
  · refine zz_i2l C dX0_far_7 ?_
    refine zz_last C dX0_far_8 hw (fun M6 hw => ?_)
    refine zz_goto (tgt := 15) C dX0_far_9 (by decide) ?_
    refine zz_iconst (v := (0 : Int32)) C dX0_far_15 (by decide) ?_
    exact zz_iret C E dX0_far_16 hw
  · by_cases e28 : t9 = 28
    · replace hw := zz_ifp e28 hw
      subst e28
      refine zz_catch (r := (zR_28, zT_28, 0)) C hH rfl [] (0, 9, 12, 24) [] rfl (fun _ h9 => absurd h9 List.not_mem_nil) rfl (by decide) q2265 q2137 ?_
      refine zz_subP [] rfl ?_
      exact ok_X0_far_B12 C E hH hR hw
    · replace hw := zz_ifn e28 hw
      exact hw.elim
abbrev cX4_far : ByteArray := prog_25_method_58_code
def yX4_far : MethodName := ⟨"DebateHallModel", "far", "(I)I"⟩
def dkwX4_far_1 : List UInt8 := [182, 1, 56, 172]
abbrev dktX4_far_1 : List UInt8 := dkwX4_far_1 ++ []
def dkwX4_far_0 : List UInt8 := [42, 3, 181, 0, 85, 42, 27, 182, 1, 92, 153, 0, 11, 42, 27, 182, 1, 101, 167, 0, 8, 42, 4]
abbrev dktX4_far_0 : List UInt8 := dkwX4_far_0 ++ dktX4_far_1
theorem dksX4_far_0 : cX4_far.data.toList.drop 0 = dktX4_far_0 := by decide +kernel
theorem dksX4_far_1 : cX4_far.data.toList.drop 23 = dktX4_far_1 := dk_seg dksX4_far_0 23 rfl rfl
theorem dX4_far_0 : decode cX4_far 0 = .ok (.aload_n 0, 1) := dk_42 (dk_at dksX4_far_0 0 rfl rfl)
theorem dX4_far_1 : decode cX4_far 1 = .ok (.iconst 0, 1) := dk_3 (dk_at dksX4_far_0 1 rfl rfl)
theorem dX4_far_2 : decode cX4_far 2 = .ok (.putfield 85, 3) := dk_181 0 85 (dk_at dksX4_far_0 2 rfl rfl)
theorem dX4_far_5 : decode cX4_far 5 = .ok (.aload_n 0, 1) := dk_42 (dk_at dksX4_far_0 5 rfl rfl)
theorem dX4_far_6 : decode cX4_far 6 = .ok (.iload_n 1, 1) := dk_27 (dk_at dksX4_far_0 6 rfl rfl)
theorem dX4_far_7 : decode cX4_far 7 = .ok (.invokevirtual 348, 3) := dk_182 1 92 (dk_at dksX4_far_0 7 rfl rfl)
theorem dX4_far_10 : decode cX4_far 10 = .ok (.ifCond .eq 11, 3) := dk_153 0 11 (dk_at dksX4_far_0 10 rfl rfl)
theorem dX4_far_13 : decode cX4_far 13 = .ok (.aload_n 0, 1) := dk_42 (dk_at dksX4_far_0 13 rfl rfl)
theorem dX4_far_14 : decode cX4_far 14 = .ok (.iload_n 1, 1) := dk_27 (dk_at dksX4_far_0 14 rfl rfl)
theorem dX4_far_15 : decode cX4_far 15 = .ok (.invokevirtual 357, 3) := dk_182 1 101 (dk_at dksX4_far_0 15 rfl rfl)
theorem dX4_far_18 : decode cX4_far 18 = .ok (.goto 8, 3) := dk_167 0 8 (dk_at dksX4_far_0 18 rfl rfl)
theorem dX4_far_21 : decode cX4_far 21 = .ok (.aload_n 0, 1) := dk_42 (dk_at dksX4_far_0 21 rfl rfl)
theorem dX4_far_22 : decode cX4_far 22 = .ok (.iconst 1, 1) := dk_4 (dk_at dksX4_far_0 22 rfl rfl)
theorem dX4_far_23 : decode cX4_far 23 = .ok (.invokevirtual 312, 3) := dk_182 1 56 (dk_at dksX4_far_1 0 rfl rfl)
theorem dX4_far_26 : decode cX4_far 26 = .ok (.ireturn, 1) := dk_172 (dk_at dksX4_far_1 3 rfl rfl)
def wp_X4_far_B26 (Z : zzG) (K : Option Value → zzM → Prop) (s0 : Int32) (M : zzM) : Prop := K (some (.int s0)) M
def wp_X4_far (Z : zzG) (this : Option Nat) (p0 : Int32) (M : zzM) (K : Option Value → zzM → Prop) : Prop := zput Z M this [16] 0 (.int (0 : Int32)) fun M1 => zty Z M1 this fun t => t = 16 ∧ wp_X4_isItem Z this p0 M1 (fun r2 M3 => zrI r2 fun x6 => if x6 = 0 then (zty Z M3 this fun t => t = 16 ∧ wp_X4_no Z this (1 : Int32) M3 (fun r7 M8 => zrI r7 fun x11 => wp_X4_far_B26 Z K x11 M8)) else (zty Z M3 this fun t => t = 16 ∧ wp_X4_farOf Z this p0 M3 (fun r12 M13 => zrI r12 fun x16 => wp_X4_far_B26 Z K x16 M13)))
theorem ok_X4_far_B26 {G : zzX} (C : zz_C G cX4_far "DebateHallModel" 2) {K : Option Value → zzM → Prop} (E : zz_E G (some .int) K (fun _ _ _ => False)) (hH : zz_H G []) (hR : zz_Rm G 3) {s0 : Int32} {M : zzM} {bc bs : Nat} (hw : wp_X4_far_B26 (zz_Zof G) K s0 M) : zz_T G 2 M bc bs 26 [] [.int s0] := by
  unfold wp_X4_far_B26 at hw
  exact zz_iret C E dX4_far_26 hw
theorem ok_X4_far {Z : zzG} {l : Launch} (hl : l.stackTraces = false) {this : Option Nat} {p0 : Int32} {M : zzM} {mc ms : Nat} {K : Option Value → zzM → Prop} (hw : wp_X4_far Z this p0 M K) : zz_Met Z l yX4_far (zz_ws yX4_far cX4_far 2 (some .int) none) 3 [va_rf this, .int p0] M mc ms K (fun _ _ _ => False) := by
  refine zz_ofW hl (plainFor_of_name (by decide)) (by simp only [zz_sl0, zz_slI, zz_slJ, zz_slA] <;> decide) (fun G hZ hll C E hH hR hin => ?_)
  subst hZ
  subst hll
  rw [show lv_args 0 [va_rf this, .int p0] = [(0, va_rf this), (1, .int p0)] by simp only [zz_la0, zz_laI, zz_laJ, zz_laA]]
  unfold wp_X4_far at hw
  refine zz_aload_n C dX4_far_0 rfl 0 rfl ?_
  refine zz_iconst (v := (0 : Int32)) C dX4_far_1 (by decide) ?_
  refine zz_put C dX4_far_2 (Or.inl q2436) zf_16_0_ebateHallModel zp_16_0 (zz_hn1 ⟨rfl, rfl⟩) hw (fun M1 hw => ?_)
  refine zz_aload_n C dX4_far_5 rfl 0 rfl ?_
  refine zz_iload_n C dX4_far_6 rfl 1 rfl ?_
  obtain ⟨a9, t9, b9, fs9, hro, hL, rfl, hw⟩ := ztyS hw
  refine zz_callV (r := (zR_16, zT_16, 24)) (As := [.int p0]) (rest := []) (mc := 0) (ms := 0) C hR hro dX4_far_7 (Or.inl q2758) q2760 (Or.inl qs69) zl_DebateHallModel zk_X4_isItem (Or.inl rfl) zy_X4_isItem rfl (by decide) (by decide) hL (ok_X4_isItem (zz_hl C) hw) (Nat.zero_le _) (Nat.zero_le _) (zz_cat10 _ (Nat.le_of_ble_eq_true rfl)) (fun r2 M3 hw => zz_kI hw (fun x6 hw => ?_)) (fun _ _ _ h9 => h9.elim) rfl
  refine zz_if_eq (tgt := 21) C dX4_far_10 (by decide) hw (fun hw => ?_) (fun hw => ?_)
  · refine zz_aload_n C dX4_far_21 rfl 0 rfl ?_
    refine zz_iconst (v := (1 : Int32)) C dX4_far_22 (by decide) ?_
    obtain ⟨a9, t9, b9, fs9, hro, hL, rfl, hw⟩ := ztyS hw
    refine zz_callV (r := (zR_16, zT_16, 24)) (As := [.int (1 : Int32)]) (rest := []) (mc := 0) (ms := 0) C hR hro dX4_far_23 (Or.inl q2517) q2519 (Or.inl qs32) zl_DebateHallModel zk_X4_no (Or.inl rfl) zy_X4_no rfl (by decide) (by decide) hL (ok_X4_no (zz_hl C) hw) (Nat.zero_le _) (Nat.zero_le _) (zz_cat10 _ (Nat.le_of_ble_eq_true rfl)) (fun r7 M8 hw => zz_kI hw (fun x11 hw => ?_)) (fun _ _ _ h9 => h9.elim) rfl
    refine zz_subP [] rfl ?_
    exact ok_X4_far_B26 C E hH hR hw
  · refine zz_aload_n C dX4_far_13 rfl 0 rfl ?_
    refine zz_iload_n C dX4_far_14 rfl 1 rfl ?_
    obtain ⟨a9, t9, b9, fs9, hro, hL, rfl, hw⟩ := ztyS hw
    refine zz_callV (r := (zR_16, zT_16, 24)) (As := [.int p0]) (rest := []) (mc := 0) (ms := 0) C hR hro dX4_far_15 (Or.inl q2786) q2788 (Or.inl qs73) zl_DebateHallModel zk_X4_farOf (Or.inl rfl) zy_X4_farOf rfl (by decide) (by decide) hL (ok_X4_farOf (zz_hl C) hw) (Nat.zero_le _) (Nat.zero_le _) (zz_cat10 _ (Nat.le_of_ble_eq_true rfl)) (fun r12 M13 hw => zz_kI hw (fun x16 hw => ?_)) (fun _ _ _ h9 => h9.elim) rfl
    refine zz_goto (tgt := 26) C dX4_far_18 (by decide) ?_
    refine zz_subP [] rfl ?_
    exact ok_X4_far_B26 C E hH hR hw
abbrev cX1_why : ByteArray := prog_1_method_21_code
def yX1_why : MethodName := ⟨"DebateHall", "why", "(I)I"⟩
def dkwX1_why_0 : List UInt8 := [42, 180, 0, 36, 42, 27, 182, 0, 228, 182, 0, 236, 172]
abbrev dktX1_why_0 : List UInt8 := dkwX1_why_0 ++ []
theorem dksX1_why_0 : cX1_why.data.toList.drop 0 = dktX1_why_0 := by decide +kernel
theorem dX1_why_0 : decode cX1_why 0 = .ok (.aload_n 0, 1) := dk_42 (dk_at dksX1_why_0 0 rfl rfl)
theorem dX1_why_1 : decode cX1_why 1 = .ok (.getfield 36, 3) := dk_180 0 36 (dk_at dksX1_why_0 1 rfl rfl)
theorem dX1_why_4 : decode cX1_why 4 = .ok (.aload_n 0, 1) := dk_42 (dk_at dksX1_why_0 4 rfl rfl)
theorem dX1_why_5 : decode cX1_why 5 = .ok (.iload_n 1, 1) := dk_27 (dk_at dksX1_why_0 5 rfl rfl)
theorem dX1_why_6 : decode cX1_why 6 = .ok (.invokevirtual 228, 3) := dk_182 0 228 (dk_at dksX1_why_0 6 rfl rfl)
theorem dX1_why_9 : decode cX1_why 9 = .ok (.invokevirtual 236, 3) := dk_182 0 236 (dk_at dksX1_why_0 9 rfl rfl)
theorem dX1_why_12 : decode cX1_why 12 = .ok (.ireturn, 1) := dk_172 (dk_at dksX1_why_0 12 rfl rfl)
def wp_X1_why (Z : zzG) (this : Option Nat) (p0 : Int32) (M : zzM) (bc bs : Nat) (K : Option Value → zzM → Prop) (X : Nat → Nat → zzM → Prop) : Prop := zgA Z M this [0] 2 fun x1 => zty Z M this fun t => t = 0 ∧ zcx bc bs (fun c s k x => wp_X1_itemAt Z this p0 M c s k x) (fun r2 M3 bc4 bs5 => zrA r2 fun x6 => zty Z M3 x1 fun t => t = 2 ∧ zcc bc4 bs5 (fun c s k => wp_X3_why Z x1 x6 M3 c s k) fun r7 M8 bc9 bs10 => zrI r7 fun x11 => K (some (.int x11)) M8) (fun t q M _ _ => X t q M)
theorem ok_X1_why {Z : zzG} {l : Launch} (hl : l.stackTraces = false) {this : Option Nat} {p0 : Int32} {M : zzM} {mc ms : Nat} {K : Option Value → zzM → Prop} {X : Nat → Nat → zzM → Prop} (hw : wp_X1_why Z this p0 M mc ms K X) : zz_Met Z l yX1_why (zz_ws yX1_why cX1_why 2 (some .int) none) 8 [va_rf this, .int p0] M mc ms K X := by
  refine zz_ofW hl (plainFor_of_name (by decide)) (by simp only [zz_sl0, zz_slI, zz_slJ, zz_slA] <;> decide) (fun G hZ hll C E hH hR hin => ?_)
  subst hZ
  subst hll
  rw [show lv_args 0 [va_rf this, .int p0] = [(0, va_rf this), (1, .int p0)] by simp only [zz_la0, zz_laI, zz_laJ, zz_laA]]
  unfold wp_X1_why at hw
  refine zz_aload_n C dX1_why_0 rfl 0 rfl ?_
  refine zz_getA C dX1_why_1 (Or.inl q305) zf_0_2_DebateHall hw (fun x1 hw => ?_)
  refine zz_aload_n C dX1_why_4 rfl 0 rfl ?_
  refine zz_iload_n C dX1_why_5 rfl 1 rfl ?_
  obtain ⟨a9, t9, b9, fs9, hro, hL, rfl, hw⟩ := ztyS hw
  obtain ⟨c9, s9, hc9, hs9, hw⟩ := hw
  refine zz_callV (r := (zR_0, zT_0, 4)) (As := [.int p0]) (rest := [va_rf x1]) C hR hro dX1_why_6 (Or.inl q2287) q2289 (Or.inl qs28) zl_DebateHall zk_X1_itemAt (Or.inl rfl) zy_X1_itemAt rfl (by decide) (by decide) hL (ok_X1_itemAt (zz_hl C) hw) hc9 hs9 (zz_cat10 _ (Nat.le_of_ble_eq_true rfl)) (fun r2 M3 hw => zz_kA hw (fun x6 hw => ?_)) (fun t9 q12 M13 hx => ?_) rfl
  · obtain ⟨a9, t9, b9, fs9, hro, hL, rfl, hw⟩ := ztyS hw
    obtain ⟨c9, s9, hc9, hs9, hw⟩ := hw
    refine zz_callV (r := (zR_2, zT_2, 8)) (As := [va_rf x6]) (rest := []) C hR hro dX1_why_9 (Or.inl q2194) q2195 (Or.inl q2196) zl_DebateHall_Minutes zk_X3_why (Or.inl rfl) zy_X3_why rfl (by decide) (by decide) hL (ok_X3_why (zz_hl C) hw) hc9 hs9 (zz_cat10 _ (Nat.le_of_ble_eq_true rfl)) (fun r7 M8 hw => zz_kI hw (fun x11 hw => ?_)) (fun _ _ _ h9 => h9.elim) rfl
    exact zz_iret C E dX1_why_12 hw
  · exact zz_out C E hH rfl hx
abbrev cX0_why : ByteArray := method_9_code
def yX0_why : MethodName := ⟨"DebateHallLaw", "why", "(LDebateHall;I[J)I"⟩
def dkwX0_why_0 : List UInt8 := [44, 3, 42, 27, 182, 0, 36, 133, 80, 167, 0, 6, 78, 4, 172, 3, 172]
abbrev dktX0_why_0 : List UInt8 := dkwX0_why_0 ++ []
theorem dksX0_why_0 : cX0_why.data.toList.drop 0 = dktX0_why_0 := by decide +kernel
theorem dX0_why_0 : decode cX0_why 0 = .ok (.aload_n 2, 1) := dk_44 (dk_at dksX0_why_0 0 rfl rfl)
theorem dX0_why_1 : decode cX0_why 1 = .ok (.iconst 0, 1) := dk_3 (dk_at dksX0_why_0 1 rfl rfl)
theorem dX0_why_2 : decode cX0_why 2 = .ok (.aload_n 0, 1) := dk_42 (dk_at dksX0_why_0 2 rfl rfl)
theorem dX0_why_3 : decode cX0_why 3 = .ok (.iload_n 1, 1) := dk_27 (dk_at dksX0_why_0 3 rfl rfl)
theorem dX0_why_4 : decode cX0_why 4 = .ok (.invokevirtual 36, 3) := dk_182 0 36 (dk_at dksX0_why_0 4 rfl rfl)
theorem dX0_why_7 : decode cX0_why 7 = .ok (.i2l, 1) := dk_133 (dk_at dksX0_why_0 7 rfl rfl)
theorem dX0_why_8 : decode cX0_why 8 = .ok (.lastore, 1) := dk_80 (dk_at dksX0_why_0 8 rfl rfl)
theorem dX0_why_9 : decode cX0_why 9 = .ok (.goto 6, 3) := dk_167 0 6 (dk_at dksX0_why_0 9 rfl rfl)
theorem dX0_why_12 : decode cX0_why 12 = .ok (.astore_n 3, 1) := dk_78 (dk_at dksX0_why_0 12 rfl rfl)
theorem dX0_why_13 : decode cX0_why 13 = .ok (.iconst 1, 1) := dk_4 (dk_at dksX0_why_0 13 rfl rfl)
theorem dX0_why_14 : decode cX0_why 14 = .ok (.ireturn, 1) := dk_172 (dk_at dksX0_why_0 14 rfl rfl)
theorem dX0_why_15 : decode cX0_why 15 = .ok (.iconst 0, 1) := dk_3 (dk_at dksX0_why_0 15 rfl rfl)
theorem dX0_why_16 : decode cX0_why 16 = .ok (.ireturn, 1) := dk_172 (dk_at dksX0_why_0 16 rfl rfl)
theorem q2304 : (Jvm.Cond.code ({ cls := "DebateHall", name := "why", desc := "(I)I" } : Jvm.MethodName) prog_1_method_21_code (2 : Nat) (Option.some Jvm.ClassFile.FieldType.int)) ∈ lw_all := lw_g (lw_at lw_m10 64 rfl) rfl
theorem zk_X1_why : zz_cd yX1_why cX1_why 2 (some .int) none ∈ lw_all := q2304
theorem zy_X1_why : zz_yok yX1_why 1 = true := by decide +kernel
theorem q2301 : (Jvm.Cond.methodLink "DebateHallLaw" (36 : Nat) ({ cls := "DebateHall", name := "why", desc := "(I)I" } : Jvm.MethodName)) ∈ lw_all := lw_g (lw_at lw_m10 61 rfl) rfl
theorem q2302 : (Jvm.Cond.instanceMethod ({ cls := "DebateHall", name := "why", desc := "(I)I" } : Jvm.MethodName)) ∈ lw_all := lw_g (lw_at lw_m10 62 rfl) rfl
theorem q2303 : (Jvm.Cond.selects "DebateHall" ({ cls := "DebateHall", name := "why", desc := "(I)I" } : Jvm.MethodName) ({ cls := "DebateHall", name := "why", desc := "(I)I" } : Jvm.MethodName)) ∈ lw_all := lw_g (lw_at lw_m10 63 rfl) rfl
def wp_X0_why_B12 (Z : zzG) (K : Option Value → zzM → Prop) (s0 : Option Nat) (M : zzM) (bc bs : Nat) : Prop := K (some (.int (1 : Int32))) M
def wp_X0_why (Z : zzG) (p0 : Option Nat) (p1 : Int32) (p2 : Option Nat) (M : zzM) (bc bs : Nat) (K : Option Value → zzM → Prop) : Prop := zty Z M p0 fun t => t = 0 ∧ zcx bc bs (fun c s k x => wp_X1_why Z p0 p1 M c s k x) (fun r1 M2 bc3 bs4 => zrI r1 fun x5 => zast Z M2 p2 [102] (0 : Int32) (.long x5.toInt64) fun M6 => K (some (.int (0 : Int32))) M6) (fun t q7 M8 bc9 bs10 => if t = 28 then (wp_X0_why_B12 Z K (some q7) M8 bc9 bs10) else False)
theorem ok_X0_why_B12 {G : zzX} (C : zz_C G cX0_why "DebateHallLaw" 4) {K : Option Value → zzM → Prop} (E : zz_E G (some .int) K (fun _ _ _ => False)) (hH : zz_H G [(0, 9, 12, 24)]) (hR : zz_Rm G 9) {s0 : Option Nat} {M : zzM} {bc bs : Nat} (hw : wp_X0_why_B12 (zz_Zof G) K s0 M bc bs) : zz_T G 4 M bc bs 12 [] [va_rf s0] := by
  unfold wp_X0_why_B12 at hw
  refine zz_astore_n (i := 3) (lv' := [(3, va_rf s0)]) C dX0_why_12 rfl (by decide) rfl ?_
  refine zz_iconst (v := (1 : Int32)) C dX0_why_13 (by decide) ?_
  exact zz_iret C E dX0_why_14 hw
theorem ok_X0_why {Z : zzG} {l : Launch} (hl : l.stackTraces = false) {p0 : Option Nat} {p1 : Int32} {p2 : Option Nat} {M : zzM} {mc ms : Nat} {K : Option Value → zzM → Prop} (hw : wp_X0_why Z p0 p1 p2 M mc ms K) : zz_Met Z l yX0_why (zz_ws yX0_why cX0_why 4 (some .int) (some [(0, 9, 12, 24)])) 9 [va_rf p0, .int p1, va_rf p2] M mc ms K (fun _ _ _ => False) := by
  refine zz_ofW hl (plainFor_of_name (by decide)) (by simp only [zz_sl0, zz_slI, zz_slJ, zz_slA] <;> decide) (fun G hZ hll C E hH hR hin => ?_)
  subst hZ
  subst hll
  rw [show lv_args 0 [va_rf p0, .int p1, va_rf p2] = [(0, va_rf p0), (1, .int p1), (2, va_rf p2)] by simp only [zz_la0, zz_laI, zz_laJ, zz_laA]]
  unfold wp_X0_why at hw
  refine zz_aload_n C dX0_why_0 rfl 2 rfl ?_
  refine zz_iconst (v := (0 : Int32)) C dX0_why_1 (by decide) ?_
  refine zz_aload_n C dX0_why_2 rfl 0 rfl ?_
  refine zz_iload_n C dX0_why_3 rfl 1 rfl ?_
  obtain ⟨a9, t9, b9, fs9, hro, hL, rfl, hw⟩ := ztyS hw
  obtain ⟨c9, s9, hc9, hs9, hw⟩ := hw
  refine zz_callV (r := (zR_0, zT_0, 4)) (As := [.int p1]) (rest := [.int (0 : Int32), va_rf p2]) C hR hro dX0_why_4 (Or.inl q2301) q2302 (Or.inl q2303) zl_DebateHall zk_X1_why (Or.inl rfl) zy_X1_why rfl (by decide) (by decide) hL (ok_X1_why (zz_hl C) hw) hc9 hs9 (zz_cat10 _ (Nat.le_of_ble_eq_true rfl)) (fun r1 M2 hw => zz_kI hw (fun x5 hw => ?_)) (fun t9 q7 M8 hw => ?_) rfl
  · refine zz_i2l C dX0_why_7 ?_
    refine zz_last C dX0_why_8 hw (fun M6 hw => ?_)
    refine zz_goto (tgt := 15) C dX0_why_9 (by decide) ?_
    refine zz_iconst (v := (0 : Int32)) C dX0_why_15 (by decide) ?_
    exact zz_iret C E dX0_why_16 hw
  · by_cases e28 : t9 = 28
    · replace hw := zz_ifp e28 hw
      subst e28
      refine zz_catch (r := (zR_28, zT_28, 0)) C hH rfl [] (0, 9, 12, 24) [] rfl (fun _ h9 => absurd h9 List.not_mem_nil) rfl (by decide) q2265 q2137 ?_
      refine zz_subP [] rfl ?_
      exact ok_X0_why_B12 C E hH hR hw
    · replace hw := zz_ifn e28 hw
      exact hw.elim
abbrev cX4_why : ByteArray := prog_25_method_56_code
def yX4_why : MethodName := ⟨"DebateHallModel", "why", "(I)I"⟩
def dkwX4_why_1 : List UInt8 := [182, 1, 56, 172]
abbrev dktX4_why_1 : List UInt8 := dkwX4_why_1 ++ []
def dkwX4_why_0 : List UInt8 := [42, 3, 181, 0, 85, 42, 27, 182, 1, 92, 153, 0, 11, 42, 27, 182, 1, 98, 167, 0, 8, 42, 4]
abbrev dktX4_why_0 : List UInt8 := dkwX4_why_0 ++ dktX4_why_1
theorem dksX4_why_0 : cX4_why.data.toList.drop 0 = dktX4_why_0 := by decide +kernel
theorem dksX4_why_1 : cX4_why.data.toList.drop 23 = dktX4_why_1 := dk_seg dksX4_why_0 23 rfl rfl
theorem dX4_why_0 : decode cX4_why 0 = .ok (.aload_n 0, 1) := dk_42 (dk_at dksX4_why_0 0 rfl rfl)
theorem dX4_why_1 : decode cX4_why 1 = .ok (.iconst 0, 1) := dk_3 (dk_at dksX4_why_0 1 rfl rfl)
theorem dX4_why_2 : decode cX4_why 2 = .ok (.putfield 85, 3) := dk_181 0 85 (dk_at dksX4_why_0 2 rfl rfl)
theorem dX4_why_5 : decode cX4_why 5 = .ok (.aload_n 0, 1) := dk_42 (dk_at dksX4_why_0 5 rfl rfl)
theorem dX4_why_6 : decode cX4_why 6 = .ok (.iload_n 1, 1) := dk_27 (dk_at dksX4_why_0 6 rfl rfl)
theorem dX4_why_7 : decode cX4_why 7 = .ok (.invokevirtual 348, 3) := dk_182 1 92 (dk_at dksX4_why_0 7 rfl rfl)
theorem dX4_why_10 : decode cX4_why 10 = .ok (.ifCond .eq 11, 3) := dk_153 0 11 (dk_at dksX4_why_0 10 rfl rfl)
theorem dX4_why_13 : decode cX4_why 13 = .ok (.aload_n 0, 1) := dk_42 (dk_at dksX4_why_0 13 rfl rfl)
theorem dX4_why_14 : decode cX4_why 14 = .ok (.iload_n 1, 1) := dk_27 (dk_at dksX4_why_0 14 rfl rfl)
theorem dX4_why_15 : decode cX4_why 15 = .ok (.invokevirtual 354, 3) := dk_182 1 98 (dk_at dksX4_why_0 15 rfl rfl)
theorem dX4_why_18 : decode cX4_why 18 = .ok (.goto 8, 3) := dk_167 0 8 (dk_at dksX4_why_0 18 rfl rfl)
theorem dX4_why_21 : decode cX4_why 21 = .ok (.aload_n 0, 1) := dk_42 (dk_at dksX4_why_0 21 rfl rfl)
theorem dX4_why_22 : decode cX4_why 22 = .ok (.iconst 1, 1) := dk_4 (dk_at dksX4_why_0 22 rfl rfl)
theorem dX4_why_23 : decode cX4_why 23 = .ok (.invokevirtual 312, 3) := dk_182 1 56 (dk_at dksX4_why_1 0 rfl rfl)
theorem dX4_why_26 : decode cX4_why 26 = .ok (.ireturn, 1) := dk_172 (dk_at dksX4_why_1 3 rfl rfl)
def wp_X4_why_B26 (Z : zzG) (K : Option Value → zzM → Prop) (s0 : Int32) (M : zzM) : Prop := K (some (.int s0)) M
def wp_X4_why (Z : zzG) (this : Option Nat) (p0 : Int32) (M : zzM) (K : Option Value → zzM → Prop) : Prop := zput Z M this [16] 0 (.int (0 : Int32)) fun M1 => zty Z M1 this fun t => t = 16 ∧ wp_X4_isItem Z this p0 M1 (fun r2 M3 => zrI r2 fun x6 => if x6 = 0 then (zty Z M3 this fun t => t = 16 ∧ wp_X4_no Z this (1 : Int32) M3 (fun r7 M8 => zrI r7 fun x11 => wp_X4_why_B26 Z K x11 M8)) else (zty Z M3 this fun t => t = 16 ∧ wp_X4_whyOf Z this p0 M3 (fun r12 M13 => zrI r12 fun x16 => wp_X4_why_B26 Z K x16 M13)))
theorem ok_X4_why_B26 {G : zzX} (C : zz_C G cX4_why "DebateHallModel" 2) {K : Option Value → zzM → Prop} (E : zz_E G (some .int) K (fun _ _ _ => False)) (hH : zz_H G []) (hR : zz_Rm G 3) {s0 : Int32} {M : zzM} {bc bs : Nat} (hw : wp_X4_why_B26 (zz_Zof G) K s0 M) : zz_T G 2 M bc bs 26 [] [.int s0] := by
  unfold wp_X4_why_B26 at hw
  exact zz_iret C E dX4_why_26 hw
theorem ok_X4_why {Z : zzG} {l : Launch} (hl : l.stackTraces = false) {this : Option Nat} {p0 : Int32} {M : zzM} {mc ms : Nat} {K : Option Value → zzM → Prop} (hw : wp_X4_why Z this p0 M K) : zz_Met Z l yX4_why (zz_ws yX4_why cX4_why 2 (some .int) none) 3 [va_rf this, .int p0] M mc ms K (fun _ _ _ => False) := by
  refine zz_ofW hl (plainFor_of_name (by decide)) (by simp only [zz_sl0, zz_slI, zz_slJ, zz_slA] <;> decide) (fun G hZ hll C E hH hR hin => ?_)
  subst hZ
  subst hll
  rw [show lv_args 0 [va_rf this, .int p0] = [(0, va_rf this), (1, .int p0)] by simp only [zz_la0, zz_laI, zz_laJ, zz_laA]]
  unfold wp_X4_why at hw
  refine zz_aload_n C dX4_why_0 rfl 0 rfl ?_
  refine zz_iconst (v := (0 : Int32)) C dX4_why_1 (by decide) ?_
  refine zz_put C dX4_why_2 (Or.inl q2436) zf_16_0_ebateHallModel zp_16_0 (zz_hn1 ⟨rfl, rfl⟩) hw (fun M1 hw => ?_)
  refine zz_aload_n C dX4_why_5 rfl 0 rfl ?_
  refine zz_iload_n C dX4_why_6 rfl 1 rfl ?_
  obtain ⟨a9, t9, b9, fs9, hro, hL, rfl, hw⟩ := ztyS hw
  refine zz_callV (r := (zR_16, zT_16, 24)) (As := [.int p0]) (rest := []) (mc := 0) (ms := 0) C hR hro dX4_why_7 (Or.inl q2758) q2760 (Or.inl qs69) zl_DebateHallModel zk_X4_isItem (Or.inl rfl) zy_X4_isItem rfl (by decide) (by decide) hL (ok_X4_isItem (zz_hl C) hw) (Nat.zero_le _) (Nat.zero_le _) (zz_cat10 _ (Nat.le_of_ble_eq_true rfl)) (fun r2 M3 hw => zz_kI hw (fun x6 hw => ?_)) (fun _ _ _ h9 => h9.elim) rfl
  refine zz_if_eq (tgt := 21) C dX4_why_10 (by decide) hw (fun hw => ?_) (fun hw => ?_)
  · refine zz_aload_n C dX4_why_21 rfl 0 rfl ?_
    refine zz_iconst (v := (1 : Int32)) C dX4_why_22 (by decide) ?_
    obtain ⟨a9, t9, b9, fs9, hro, hL, rfl, hw⟩ := ztyS hw
    refine zz_callV (r := (zR_16, zT_16, 24)) (As := [.int (1 : Int32)]) (rest := []) (mc := 0) (ms := 0) C hR hro dX4_why_23 (Or.inl q2517) q2519 (Or.inl qs32) zl_DebateHallModel zk_X4_no (Or.inl rfl) zy_X4_no rfl (by decide) (by decide) hL (ok_X4_no (zz_hl C) hw) (Nat.zero_le _) (Nat.zero_le _) (zz_cat10 _ (Nat.le_of_ble_eq_true rfl)) (fun r7 M8 hw => zz_kI hw (fun x11 hw => ?_)) (fun _ _ _ h9 => h9.elim) rfl
    refine zz_subP [] rfl ?_
    exact ok_X4_why_B26 C E hH hR hw
  · refine zz_aload_n C dX4_why_13 rfl 0 rfl ?_
    refine zz_iload_n C dX4_why_14 rfl 1 rfl ?_
    obtain ⟨a9, t9, b9, fs9, hro, hL, rfl, hw⟩ := ztyS hw
    refine zz_callV (r := (zR_16, zT_16, 24)) (As := [.int p0]) (rest := []) (mc := 0) (ms := 0) C hR hro dX4_why_15 (Or.inl q2778) q2780 (Or.inl qs72) zl_DebateHallModel zk_X4_whyOf (Or.inl rfl) zy_X4_whyOf rfl (by decide) (by decide) hL (ok_X4_whyOf (zz_hl C) hw) (Nat.zero_le _) (Nat.zero_le _) (zz_cat10 _ (Nat.le_of_ble_eq_true rfl)) (fun r12 M13 hw => zz_kI hw (fun x16 hw => ?_)) (fun _ _ _ h9 => h9.elim) rfl
    refine zz_goto (tgt := 26) C dX4_why_18 (by decide) ?_
    refine zz_subP [] rfl ?_
    exact ok_X4_why_B26 C E hH hR hw
abbrev cX1_give : ByteArray := prog_1_method_20_code
def yX1_give : MethodName := ⟨"DebateHall", "give", "(II)I"⟩
def dkwX1_give_1 : List UInt8 := [192, 0, 178, 78, 45, 89, 180, 0, 180, 28, 96, 181, 0, 180, 45, 180, 0, 180, 172]
abbrev dktX1_give_1 : List UInt8 := dkwX1_give_1 ++ []
def dkwX1_give_0 : List UInt8 := [42, 27, 182, 0, 189, 4, 17, 14, 16, 28, 184, 0, 79, 42, 180, 0, 36, 180, 0, 47, 27, 182, 0, 64]
abbrev dktX1_give_0 : List UInt8 := dkwX1_give_0 ++ dktX1_give_1
theorem dksX1_give_0 : cX1_give.data.toList.drop 0 = dktX1_give_0 := by decide +kernel
theorem dksX1_give_1 : cX1_give.data.toList.drop 24 = dktX1_give_1 := dk_seg dksX1_give_0 24 rfl rfl
theorem dX1_give_0 : decode cX1_give 0 = .ok (.aload_n 0, 1) := dk_42 (dk_at dksX1_give_0 0 rfl rfl)
theorem dX1_give_1 : decode cX1_give 1 = .ok (.iload_n 1, 1) := dk_27 (dk_at dksX1_give_0 1 rfl rfl)
theorem dX1_give_2 : decode cX1_give 2 = .ok (.invokevirtual 189, 3) := dk_182 0 189 (dk_at dksX1_give_0 2 rfl rfl)
theorem dX1_give_5 : decode cX1_give 5 = .ok (.iconst 1, 1) := dk_4 (dk_at dksX1_give_0 5 rfl rfl)
theorem dX1_give_6 : decode cX1_give 6 = .ok (.sipush 3600, 3) := dk_17 14 16 (dk_at dksX1_give_0 6 rfl rfl)
theorem dX1_give_9 : decode cX1_give 9 = .ok (.iload_n 2, 1) := dk_28 (dk_at dksX1_give_0 9 rfl rfl)
theorem dX1_give_10 : decode cX1_give 10 = .ok (.invokestatic 79, 3) := dk_184 0 79 (dk_at dksX1_give_0 10 rfl rfl)
theorem dX1_give_13 : decode cX1_give 13 = .ok (.aload_n 0, 1) := dk_42 (dk_at dksX1_give_0 13 rfl rfl)
theorem dX1_give_14 : decode cX1_give 14 = .ok (.getfield 36, 3) := dk_180 0 36 (dk_at dksX1_give_0 14 rfl rfl)
theorem dX1_give_17 : decode cX1_give 17 = .ok (.getfield 47, 3) := dk_180 0 47 (dk_at dksX1_give_0 17 rfl rfl)
theorem dX1_give_20 : decode cX1_give 20 = .ok (.iload_n 1, 1) := dk_27 (dk_at dksX1_give_0 20 rfl rfl)
theorem dX1_give_21 : decode cX1_give 21 = .ok (.invokevirtual 64, 3) := dk_182 0 64 (dk_at dksX1_give_0 21 rfl rfl)
theorem dX1_give_24 : decode cX1_give 24 = .ok (.checkcast 178, 3) := dk_192 0 178 (dk_at dksX1_give_1 0 rfl rfl)
theorem dX1_give_27 : decode cX1_give 27 = .ok (.astore_n 3, 1) := dk_78 (dk_at dksX1_give_1 3 rfl rfl)
theorem dX1_give_28 : decode cX1_give 28 = .ok (.aload_n 3, 1) := dk_45 (dk_at dksX1_give_1 4 rfl rfl)
theorem dX1_give_29 : decode cX1_give 29 = .ok (.dup, 1) := dk_89 (dk_at dksX1_give_1 5 rfl rfl)
theorem dX1_give_30 : decode cX1_give 30 = .ok (.getfield 180, 3) := dk_180 0 180 (dk_at dksX1_give_1 6 rfl rfl)
theorem dX1_give_33 : decode cX1_give 33 = .ok (.iload_n 2, 1) := dk_28 (dk_at dksX1_give_1 9 rfl rfl)
theorem dX1_give_34 : decode cX1_give 34 = .ok (.iadd, 1) := dk_96 (dk_at dksX1_give_1 10 rfl rfl)
theorem dX1_give_35 : decode cX1_give 35 = .ok (.putfield 180, 3) := dk_181 0 180 (dk_at dksX1_give_1 11 rfl rfl)
theorem dX1_give_38 : decode cX1_give 38 = .ok (.aload_n 3, 1) := dk_45 (dk_at dksX1_give_1 14 rfl rfl)
theorem dX1_give_39 : decode cX1_give 39 = .ok (.getfield 180, 3) := dk_180 0 180 (dk_at dksX1_give_1 15 rfl rfl)
theorem dX1_give_42 : decode cX1_give 42 = .ok (.ireturn, 1) := dk_172 (dk_at dksX1_give_1 18 rfl rfl)
theorem zp_14_2 : zz_pok [14] 2 := zz_pok1 (zR_14, zT_14, 3) (by decide) rfl rfl
def wp_X1_give (Z : zzG) (this : Option Nat) (p0 : Int32) (p1 : Int32) (M : zzM) (bc bs : Nat) (K : Option Value → zzM → Prop) (X : Nat → Nat → zzM → Prop) : Prop := zty Z M this fun t => t = 0 ∧ zcx bc bs (fun c s k x => wp_X1_requireSpeaker Z this p0 M c s k x) (fun r1 M2 bc3 bs4 => zrV r1 (zcx bc3 bs4 (fun c s k x => wp_X1_requireFrom Z (1 : Int32) (3600 : Int32) p1 M2 c s k x) (fun r5 M6 bc7 bs8 => zrV r5 (zgA Z M6 this [0] 2 fun x9 => zgA Z M6 x9 [2] 0 fun x10 => zty Z M6 x10 fun t => t = 18 ∧ wp_J2_get Z x10 p0 M6 (fun r11 M12 => zrA r11 fun x15 => zcast Z M12 x15 [14] <| zgI Z M12 x15 [14] 2 fun x16 => zput Z M12 x15 [14] 2 (.int (x16 + p1)) fun M17 => zgI Z M17 x15 [14] 2 fun x18 => K (some (.int x18)) M17))) (fun t q M _ _ => X t q M))) (fun t q M _ _ => X t q M)
theorem ok_X1_give {Z : zzG} {l : Launch} (hl : l.stackTraces = false) {this : Option Nat} {p0 : Int32} {p1 : Int32} {M : zzM} {mc ms : Nat} {K : Option Value → zzM → Prop} {X : Nat → Nat → zzM → Prop} (hw : wp_X1_give Z this p0 p1 M mc ms K X) : zz_Met Z l yX1_give (zz_ws yX1_give cX1_give 4 (some .int) none) 8 [va_rf this, .int p0, .int p1] M mc ms K X := by
  refine zz_ofW hl (plainFor_of_name (by decide)) (by simp only [zz_sl0, zz_slI, zz_slJ, zz_slA] <;> decide) (fun G hZ hll C E hH hR hin => ?_)
  subst hZ
  subst hll
  rw [show lv_args 0 [va_rf this, .int p0, .int p1] = [(0, va_rf this), (1, .int p0), (2, .int p1)] by simp only [zz_la0, zz_laI, zz_laJ, zz_laA]]
  unfold wp_X1_give at hw
  refine zz_aload_n C dX1_give_0 rfl 0 rfl ?_
  refine zz_iload_n C dX1_give_1 rfl 1 rfl ?_
  obtain ⟨a9, t9, b9, fs9, hro, hL, rfl, hw⟩ := ztyS hw
  obtain ⟨c9, s9, hc9, hs9, hw⟩ := hw
  refine zz_callV (r := (zR_0, zT_0, 4)) (As := [.int p0]) (rest := []) C hR hro dX1_give_2 (Or.inl q2276) q2278 (Or.inl qs27) zl_DebateHall zk_X1_requireSpeaker (Or.inl rfl) zy_X1_requireSpeaker rfl (by decide) (by decide) hL (ok_X1_requireSpeaker (zz_hl C) hw) hc9 hs9 (zz_cat10 _ (Nat.le_of_ble_eq_true rfl)) (fun r1 M2 hw => zz_kV hw (fun hw => ?_)) (fun t9 q23 M24 hx => ?_) rfl
  · refine zz_iconst (v := (1 : Int32)) C dX1_give_5 (by decide) ?_
    refine zz_sipush (v := (3600 : Int32)) C dX1_give_6 (by decide) ?_
    refine zz_iload_n C dX1_give_9 rfl 2 rfl ?_
    obtain ⟨c9, s9, hc9, hs9, hw⟩ := hw
    refine zz_callS (As := [.int (1 : Int32), .int (3600 : Int32), .int p1]) (rest := []) C hR dX1_give_10 (Or.inl q2251) q2252 zl_DebateHall zk_X1_requireFrom (Or.inl rfl) zy_X1_requireFrom (by decide) (by decide) (ok_X1_requireFrom (zz_hl C) hw) hc9 hs9 (zz_cat10 _ (Nat.le_of_ble_eq_true rfl)) (fun r5 M6 hw => zz_kV hw (fun hw => ?_)) (fun t9 q19 M20 hx => ?_) rfl
    · refine zz_aload_n C dX1_give_13 rfl 0 rfl ?_
      refine zz_getA C dX1_give_14 (Or.inl q305) zf_0_2_DebateHall hw (fun x9 hw => ?_)
      refine zz_getA C dX1_give_17 (Or.inr ⟨_, q233⟩) zf_2_0_teHall_Minutes hw (fun x10 hw => ?_)
      refine zz_iload_n C dX1_give_20 rfl 1 rfl ?_
      obtain ⟨a9, t9, b9, fs9, hro, hL, rfl, hw⟩ := ztyS hw
      refine zz_callV (r := (zR_18, zT_18, 3)) (As := [.int p0]) (rest := []) (mc := 0) (ms := 0) C hR hro dX1_give_21 (Or.inl q2108) q877 (Or.inl q2872) zl_java_util_ArrayList zk_J2_get (Or.inl rfl) zy_J2_get rfl (by decide) (by decide) hL (ok_J2_get (zz_hl C) hw) (Nat.zero_le _) (Nat.zero_le _) (zz_cat10 _ (Nat.le_of_ble_eq_true rfl)) (fun r11 M12 hw => zz_kA hw (fun x15 hw => ?_)) (fun _ _ _ h9 => h9.elim) rfl
      refine zz_cast C dX1_give_24 q2109 zc_14_teHall_Speaker hw (fun hw => ?_)
      refine zz_astore_n (i := 3) (lv' := [(3, va_rf x15), (0, va_rf this), (1, .int p0), (2, .int p1)]) C dX1_give_27 rfl (by decide) rfl ?_
      refine zz_aload_n C dX1_give_28 rfl 0 rfl ?_
      refine zz_dup C dX1_give_29 (zz_cat _) ?_
      refine zz_getI C dX1_give_30 (Or.inr ⟨_, q1205⟩) zf_14_2_teHall_Speaker hw (fun x16 hw => ?_)
      refine zz_iload_n C dX1_give_33 rfl 3 rfl ?_
      refine zz_iadd C dX1_give_34 ?_
      refine zz_put C dX1_give_35 (Or.inr ⟨_, q1205⟩) zf_14_2_teHall_Speaker zp_14_2 (zz_hn1 ⟨rfl, rfl⟩) hw (fun M17 hw => ?_)
      refine zz_aload_n C dX1_give_38 rfl 0 rfl ?_
      refine zz_getI C dX1_give_39 (Or.inr ⟨_, q1205⟩) zf_14_2_teHall_Speaker hw (fun x18 hw => ?_)
      exact zz_iret C E dX1_give_42 hw
    · exact zz_out C E hH rfl hx
  · exact zz_out C E hH rfl hx
abbrev cX0_give : ByteArray := method_8_code
def yX0_give : MethodName := ⟨"DebateHallLaw", "give", "(LDebateHall;II[J)I"⟩
def dkwX0_give_0 : List UInt8 := [45, 3, 42, 27, 28, 182, 0, 33, 133, 80, 167, 0, 11, 58, 4, 4, 172, 58, 4, 5, 172, 3, 172]
abbrev dktX0_give_0 : List UInt8 := dkwX0_give_0 ++ []
theorem dksX0_give_0 : cX0_give.data.toList.drop 0 = dktX0_give_0 := by decide +kernel
theorem dX0_give_0 : decode cX0_give 0 = .ok (.aload_n 3, 1) := dk_45 (dk_at dksX0_give_0 0 rfl rfl)
theorem dX0_give_1 : decode cX0_give 1 = .ok (.iconst 0, 1) := dk_3 (dk_at dksX0_give_0 1 rfl rfl)
theorem dX0_give_2 : decode cX0_give 2 = .ok (.aload_n 0, 1) := dk_42 (dk_at dksX0_give_0 2 rfl rfl)
theorem dX0_give_3 : decode cX0_give 3 = .ok (.iload_n 1, 1) := dk_27 (dk_at dksX0_give_0 3 rfl rfl)
theorem dX0_give_4 : decode cX0_give 4 = .ok (.iload_n 2, 1) := dk_28 (dk_at dksX0_give_0 4 rfl rfl)
theorem dX0_give_5 : decode cX0_give 5 = .ok (.invokevirtual 33, 3) := dk_182 0 33 (dk_at dksX0_give_0 5 rfl rfl)
theorem dX0_give_8 : decode cX0_give 8 = .ok (.i2l, 1) := dk_133 (dk_at dksX0_give_0 8 rfl rfl)
theorem dX0_give_9 : decode cX0_give 9 = .ok (.lastore, 1) := dk_80 (dk_at dksX0_give_0 9 rfl rfl)
theorem dX0_give_10 : decode cX0_give 10 = .ok (.goto 11, 3) := dk_167 0 11 (dk_at dksX0_give_0 10 rfl rfl)
theorem dX0_give_13 : decode cX0_give 13 = .ok (.astore 4, 2) := dk_58 4 (dk_at dksX0_give_0 13 rfl rfl)
theorem dX0_give_15 : decode cX0_give 15 = .ok (.iconst 1, 1) := dk_4 (dk_at dksX0_give_0 15 rfl rfl)
theorem dX0_give_16 : decode cX0_give 16 = .ok (.ireturn, 1) := dk_172 (dk_at dksX0_give_0 16 rfl rfl)
theorem dX0_give_17 : decode cX0_give 17 = .ok (.astore 4, 2) := dk_58 4 (dk_at dksX0_give_0 17 rfl rfl)
theorem dX0_give_19 : decode cX0_give 19 = .ok (.iconst 2, 1) := dk_5 (dk_at dksX0_give_0 19 rfl rfl)
theorem dX0_give_20 : decode cX0_give 20 = .ok (.ireturn, 1) := dk_172 (dk_at dksX0_give_0 20 rfl rfl)
theorem dX0_give_21 : decode cX0_give 21 = .ok (.iconst 0, 1) := dk_3 (dk_at dksX0_give_0 21 rfl rfl)
theorem dX0_give_22 : decode cX0_give 22 = .ok (.ireturn, 1) := dk_172 (dk_at dksX0_give_0 22 rfl rfl)
theorem q2297 : (Jvm.Cond.code ({ cls := "DebateHall", name := "give", desc := "(II)I" } : Jvm.MethodName) prog_1_method_20_code (4 : Nat) (Option.some Jvm.ClassFile.FieldType.int)) ∈ lw_all := lw_g (lw_at lw_m10 57 rfl) rfl
theorem zk_X1_give : zz_cd yX1_give cX1_give 4 (some .int) none ∈ lw_all := q2297
theorem zy_X1_give : zz_yok yX1_give 2 = true := by decide +kernel
theorem q2294 : (Jvm.Cond.methodLink "DebateHallLaw" (33 : Nat) ({ cls := "DebateHall", name := "give", desc := "(II)I" } : Jvm.MethodName)) ∈ lw_all := lw_g (lw_at lw_m10 54 rfl) rfl
theorem q2295 : (Jvm.Cond.instanceMethod ({ cls := "DebateHall", name := "give", desc := "(II)I" } : Jvm.MethodName)) ∈ lw_all := lw_g (lw_at lw_m10 55 rfl) rfl
theorem q2296 : (Jvm.Cond.selects "DebateHall" ({ cls := "DebateHall", name := "give", desc := "(II)I" } : Jvm.MethodName) ({ cls := "DebateHall", name := "give", desc := "(II)I" } : Jvm.MethodName)) ∈ lw_all := lw_g (lw_at lw_m10 56 rfl) rfl
def wp_X0_give_B13 (Z : zzG) (K : Option Value → zzM → Prop) (s0 : Option Nat) (M : zzM) (bc bs : Nat) : Prop := K (some (.int (1 : Int32))) M
def wp_X0_give_B17 (Z : zzG) (K : Option Value → zzM → Prop) (s0 : Option Nat) (M : zzM) (bc bs : Nat) : Prop := K (some (.int (2 : Int32))) M
def wp_X0_give (Z : zzG) (p0 : Option Nat) (p1 : Int32) (p2 : Int32) (p3 : Option Nat) (M : zzM) (bc bs : Nat) (K : Option Value → zzM → Prop) : Prop := zty Z M p0 fun t => t = 0 ∧ zcx bc bs (fun c s k x => wp_X1_give Z p0 p1 p2 M c s k x) (fun r1 M2 bc3 bs4 => zrI r1 fun x5 => zast Z M2 p3 [102] (0 : Int32) (.long x5.toInt64) fun M6 => K (some (.int (0 : Int32))) M6) (fun t q7 M8 bc9 bs10 => if t = 27 then (wp_X0_give_B17 Z K (some q7) M8 bc9 bs10) else if t = 28 then (wp_X0_give_B13 Z K (some q7) M8 bc9 bs10) else False)
theorem ok_X0_give_B13 {G : zzX} (C : zz_C G cX0_give "DebateHallLaw" 5) {K : Option Value → zzM → Prop} (E : zz_E G (some .int) K (fun _ _ _ => False)) (hH : zz_H G [(0, 10, 13, 24), (0, 10, 17, 19)]) (hR : zz_Rm G 9) {s0 : Option Nat} {M : zzM} {bc bs : Nat} (hw : wp_X0_give_B13 (zz_Zof G) K s0 M bc bs) : zz_T G 5 M bc bs 13 [] [va_rf s0] := by
  unfold wp_X0_give_B13 at hw
  refine zz_astore (lv' := [(4, va_rf s0)]) C dX0_give_13 (by decide) rfl ?_
  refine zz_iconst (v := (1 : Int32)) C dX0_give_15 (by decide) ?_
  exact zz_iret C E dX0_give_16 hw
theorem ok_X0_give_B17 {G : zzX} (C : zz_C G cX0_give "DebateHallLaw" 5) {K : Option Value → zzM → Prop} (E : zz_E G (some .int) K (fun _ _ _ => False)) (hH : zz_H G [(0, 10, 13, 24), (0, 10, 17, 19)]) (hR : zz_Rm G 9) {s0 : Option Nat} {M : zzM} {bc bs : Nat} (hw : wp_X0_give_B17 (zz_Zof G) K s0 M bc bs) : zz_T G 5 M bc bs 17 [] [va_rf s0] := by
  unfold wp_X0_give_B17 at hw
  refine zz_astore (lv' := [(4, va_rf s0)]) C dX0_give_17 (by decide) rfl ?_
  refine zz_iconst (v := (2 : Int32)) C dX0_give_19 (by decide) ?_
  exact zz_iret C E dX0_give_20 hw
theorem ok_X0_give {Z : zzG} {l : Launch} (hl : l.stackTraces = false) {p0 : Option Nat} {p1 : Int32} {p2 : Int32} {p3 : Option Nat} {M : zzM} {mc ms : Nat} {K : Option Value → zzM → Prop} (hw : wp_X0_give Z p0 p1 p2 p3 M mc ms K) : zz_Met Z l yX0_give (zz_ws yX0_give cX0_give 5 (some .int) (some [(0, 10, 13, 24), (0, 10, 17, 19)])) 9 [va_rf p0, .int p1, .int p2, va_rf p3] M mc ms K (fun _ _ _ => False) := by
  refine zz_ofW hl (plainFor_of_name (by decide)) (by simp only [zz_sl0, zz_slI, zz_slJ, zz_slA] <;> decide) (fun G hZ hll C E hH hR hin => ?_)
  subst hZ
  subst hll
  rw [show lv_args 0 [va_rf p0, .int p1, .int p2, va_rf p3] = [(0, va_rf p0), (1, .int p1), (2, .int p2), (3, va_rf p3)] by simp only [zz_la0, zz_laI, zz_laJ, zz_laA]]
  unfold wp_X0_give at hw
  refine zz_aload_n C dX0_give_0 rfl 3 rfl ?_
  refine zz_iconst (v := (0 : Int32)) C dX0_give_1 (by decide) ?_
  refine zz_aload_n C dX0_give_2 rfl 0 rfl ?_
  refine zz_iload_n C dX0_give_3 rfl 1 rfl ?_
  refine zz_iload_n C dX0_give_4 rfl 2 rfl ?_
  obtain ⟨a9, t9, b9, fs9, hro, hL, rfl, hw⟩ := ztyS hw
  obtain ⟨c9, s9, hc9, hs9, hw⟩ := hw
  refine zz_callV (r := (zR_0, zT_0, 4)) (As := [.int p1, .int p2]) (rest := [.int (0 : Int32), va_rf p3]) C hR hro dX0_give_5 (Or.inl q2294) q2295 (Or.inl q2296) zl_DebateHall zk_X1_give (Or.inl rfl) zy_X1_give rfl (by decide) (by decide) hL (ok_X1_give (zz_hl C) hw) hc9 hs9 (zz_cat10 _ (Nat.le_of_ble_eq_true rfl)) (fun r1 M2 hw => zz_kI hw (fun x5 hw => ?_)) (fun t9 q7 M8 hw => ?_) rfl
  · refine zz_i2l C dX0_give_8 ?_
    refine zz_last C dX0_give_9 hw (fun M6 hw => ?_)
    refine zz_goto (tgt := 21) C dX0_give_10 (by decide) ?_
    refine zz_iconst (v := (0 : Int32)) C dX0_give_21 (by decide) ?_
    exact zz_iret C E dX0_give_22 hw
  · by_cases e27 : t9 = 27
    · replace hw := zz_ifp e27 hw
      subst e27
      refine zz_catch (r := (zR_27, zT_27, 0)) C hH rfl [(0, 10, 13, 24)] (0, 10, 17, 19) [] rfl (fun z h9 => by rw [List.mem_singleton] at h9; subst h9; exact Or.inr ⟨by decide, _, q2265, by decide +kernel⟩) rfl (by decide) q2246 q533 ?_
      refine zz_subP [] rfl ?_
      exact ok_X0_give_B17 C E hH hR hw
    · replace hw := zz_ifn e27 hw
      by_cases e28 : t9 = 28
      · replace hw := zz_ifp e28 hw
        subst e28
        refine zz_catch (r := (zR_28, zT_28, 0)) C hH rfl [] (0, 10, 13, 24) [(0, 10, 17, 19)] rfl (fun _ h9 => absurd h9 List.not_mem_nil) rfl (by decide) q2265 q2137 ?_
        refine zz_subP [] rfl ?_
        exact ok_X0_give_B13 C E hH hR hw
      · replace hw := zz_ifn e28 hw
        exact hw.elim
abbrev cX4_give : ByteArray := prog_25_method_54_code
def yX4_give : MethodName := ⟨"DebateHallModel", "give", "(II)I"⟩
def dkwX4_give_2 : List UInt8 := [79, 42, 180, 0, 48, 180, 0, 118, 27, 46, 172]
abbrev dktX4_give_2 : List UInt8 := dkwX4_give_2 ++ []
def dkwX4_give_1 : List UInt8 := [184, 0, 91, 154, 0, 9, 42, 5, 182, 1, 56, 172, 42, 180, 0, 48, 180, 0, 118, 27, 92, 46, 28, 96]
abbrev dktX4_give_1 : List UInt8 := dkwX4_give_1 ++ dktX4_give_2
def dkwX4_give_0 : List UInt8 := [42, 3, 181, 0, 85, 42, 27, 182, 1, 84, 154, 0, 9, 42, 4, 182, 1, 56, 172, 28, 4, 17, 14, 16]
abbrev dktX4_give_0 : List UInt8 := dkwX4_give_0 ++ dktX4_give_1
theorem dksX4_give_0 : cX4_give.data.toList.drop 0 = dktX4_give_0 := by decide +kernel
theorem dksX4_give_1 : cX4_give.data.toList.drop 24 = dktX4_give_1 := dk_seg dksX4_give_0 24 rfl rfl
theorem dksX4_give_2 : cX4_give.data.toList.drop 48 = dktX4_give_2 := dk_seg dksX4_give_1 24 rfl rfl
theorem dX4_give_0 : decode cX4_give 0 = .ok (.aload_n 0, 1) := dk_42 (dk_at dksX4_give_0 0 rfl rfl)
theorem dX4_give_1 : decode cX4_give 1 = .ok (.iconst 0, 1) := dk_3 (dk_at dksX4_give_0 1 rfl rfl)
theorem dX4_give_2 : decode cX4_give 2 = .ok (.putfield 85, 3) := dk_181 0 85 (dk_at dksX4_give_0 2 rfl rfl)
theorem dX4_give_5 : decode cX4_give 5 = .ok (.aload_n 0, 1) := dk_42 (dk_at dksX4_give_0 5 rfl rfl)
theorem dX4_give_6 : decode cX4_give 6 = .ok (.iload_n 1, 1) := dk_27 (dk_at dksX4_give_0 6 rfl rfl)
theorem dX4_give_7 : decode cX4_give 7 = .ok (.invokevirtual 340, 3) := dk_182 1 84 (dk_at dksX4_give_0 7 rfl rfl)
theorem dX4_give_10 : decode cX4_give 10 = .ok (.ifCond .ne 9, 3) := dk_154 0 9 (dk_at dksX4_give_0 10 rfl rfl)
theorem dX4_give_13 : decode cX4_give 13 = .ok (.aload_n 0, 1) := dk_42 (dk_at dksX4_give_0 13 rfl rfl)
theorem dX4_give_14 : decode cX4_give 14 = .ok (.iconst 1, 1) := dk_4 (dk_at dksX4_give_0 14 rfl rfl)
theorem dX4_give_15 : decode cX4_give 15 = .ok (.invokevirtual 312, 3) := dk_182 1 56 (dk_at dksX4_give_0 15 rfl rfl)
theorem dX4_give_18 : decode cX4_give 18 = .ok (.ireturn, 1) := dk_172 (dk_at dksX4_give_0 18 rfl rfl)
theorem dX4_give_19 : decode cX4_give 19 = .ok (.iload_n 2, 1) := dk_28 (dk_at dksX4_give_0 19 rfl rfl)
theorem dX4_give_20 : decode cX4_give 20 = .ok (.iconst 1, 1) := dk_4 (dk_at dksX4_give_0 20 rfl rfl)
theorem dX4_give_21 : decode cX4_give 21 = .ok (.sipush 3600, 3) := dk_17 14 16 (dk_at dksX4_give_0 21 rfl rfl)
theorem dX4_give_24 : decode cX4_give 24 = .ok (.invokestatic 91, 3) := dk_184 0 91 (dk_at dksX4_give_1 0 rfl rfl)
theorem dX4_give_27 : decode cX4_give 27 = .ok (.ifCond .ne 9, 3) := dk_154 0 9 (dk_at dksX4_give_1 3 rfl rfl)
theorem dX4_give_30 : decode cX4_give 30 = .ok (.aload_n 0, 1) := dk_42 (dk_at dksX4_give_1 6 rfl rfl)
theorem dX4_give_31 : decode cX4_give 31 = .ok (.iconst 2, 1) := dk_5 (dk_at dksX4_give_1 7 rfl rfl)
theorem dX4_give_32 : decode cX4_give 32 = .ok (.invokevirtual 312, 3) := dk_182 1 56 (dk_at dksX4_give_1 8 rfl rfl)
theorem dX4_give_35 : decode cX4_give 35 = .ok (.ireturn, 1) := dk_172 (dk_at dksX4_give_1 11 rfl rfl)
theorem dX4_give_36 : decode cX4_give 36 = .ok (.aload_n 0, 1) := dk_42 (dk_at dksX4_give_1 12 rfl rfl)
theorem dX4_give_37 : decode cX4_give 37 = .ok (.getfield 48, 3) := dk_180 0 48 (dk_at dksX4_give_1 13 rfl rfl)
theorem dX4_give_40 : decode cX4_give 40 = .ok (.getfield 118, 3) := dk_180 0 118 (dk_at dksX4_give_1 16 rfl rfl)
theorem dX4_give_43 : decode cX4_give 43 = .ok (.iload_n 1, 1) := dk_27 (dk_at dksX4_give_1 19 rfl rfl)
theorem dX4_give_44 : decode cX4_give 44 = .ok (.dup2, 1) := dk_92 (dk_at dksX4_give_1 20 rfl rfl)
theorem dX4_give_45 : decode cX4_give 45 = .ok (.iaload, 1) := dk_46 (dk_at dksX4_give_1 21 rfl rfl)
theorem dX4_give_46 : decode cX4_give 46 = .ok (.iload_n 2, 1) := dk_28 (dk_at dksX4_give_1 22 rfl rfl)
theorem dX4_give_47 : decode cX4_give 47 = .ok (.iadd, 1) := dk_96 (dk_at dksX4_give_1 23 rfl rfl)
theorem dX4_give_48 : decode cX4_give 48 = .ok (.iastore, 1) := dk_79 (dk_at dksX4_give_2 0 rfl rfl)
theorem dX4_give_49 : decode cX4_give 49 = .ok (.aload_n 0, 1) := dk_42 (dk_at dksX4_give_2 1 rfl rfl)
theorem dX4_give_50 : decode cX4_give 50 = .ok (.getfield 48, 3) := dk_180 0 48 (dk_at dksX4_give_2 2 rfl rfl)
theorem dX4_give_53 : decode cX4_give 53 = .ok (.getfield 118, 3) := dk_180 0 118 (dk_at dksX4_give_2 5 rfl rfl)
theorem dX4_give_56 : decode cX4_give 56 = .ok (.iload_n 1, 1) := dk_27 (dk_at dksX4_give_2 8 rfl rfl)
theorem dX4_give_57 : decode cX4_give 57 = .ok (.iaload, 1) := dk_46 (dk_at dksX4_give_2 9 rfl rfl)
theorem dX4_give_58 : decode cX4_give 58 = .ok (.ireturn, 1) := dk_172 (dk_at dksX4_give_2 10 rfl rfl)
def wp_X4_give (Z : zzG) (this : Option Nat) (p0 : Int32) (p1 : Int32) (M : zzM) (K : Option Value → zzM → Prop) : Prop := zput Z M this [16] 0 (.int (0 : Int32)) fun M1 => zty Z M1 this fun t => t = 16 ∧ wp_X4_isSpeaker Z this p0 M1 (fun r2 M3 => zrI r2 fun x6 => if x6 = 0 then (zty Z M3 this fun t => t = 16 ∧ wp_X4_no Z this (1 : Int32) M3 (fun r24 M25 => zrI r24 fun x28 => K (some (.int x28)) M25)) else (wp_X4_isIn Z p1 (1 : Int32) (3600 : Int32) M3 (fun r7 M8 => zrI r7 fun x11 => if x11 = 0 then (zty Z M8 this fun t => t = 16 ∧ wp_X4_no Z this (2 : Int32) M8 (fun r19 M20 => zrI r19 fun x23 => K (some (.int x23)) M20)) else (zgA Z M8 this [16] 11 fun x12 => zgA Z M8 x12 [17] 2 fun x13 => zaI Z M8 x13 [100] p0 fun x14 => zast Z M8 x13 [100] p0 (.int (x14 + p1)) fun M15 => zgA Z M15 this [16] 11 fun x16 => zgA Z M15 x16 [17] 2 fun x17 => zaI Z M15 x17 [100] p0 fun x18 => K (some (.int x18)) M15))))
theorem ok_X4_give {Z : zzG} {l : Launch} (hl : l.stackTraces = false) {this : Option Nat} {p0 : Int32} {p1 : Int32} {M : zzM} {mc ms : Nat} {K : Option Value → zzM → Prop} (hw : wp_X4_give Z this p0 p1 M K) : zz_Met Z l yX4_give (zz_ws yX4_give cX4_give 3 (some .int) none) 3 [va_rf this, .int p0, .int p1] M mc ms K (fun _ _ _ => False) := by
  refine zz_ofW hl (plainFor_of_name (by decide)) (by simp only [zz_sl0, zz_slI, zz_slJ, zz_slA] <;> decide) (fun G hZ hll C E hH hR hin => ?_)
  subst hZ
  subst hll
  rw [show lv_args 0 [va_rf this, .int p0, .int p1] = [(0, va_rf this), (1, .int p0), (2, .int p1)] by simp only [zz_la0, zz_laI, zz_laJ, zz_laA]]
  unfold wp_X4_give at hw
  refine zz_aload_n C dX4_give_0 rfl 0 rfl ?_
  refine zz_iconst (v := (0 : Int32)) C dX4_give_1 (by decide) ?_
  refine zz_put C dX4_give_2 (Or.inl q2436) zf_16_0_ebateHallModel zp_16_0 (zz_hn1 ⟨rfl, rfl⟩) hw (fun M1 hw => ?_)
  refine zz_aload_n C dX4_give_5 rfl 0 rfl ?_
  refine zz_iload_n C dX4_give_6 rfl 1 rfl ?_
  obtain ⟨a9, t9, b9, fs9, hro, hL, rfl, hw⟩ := ztyS hw
  refine zz_callV (r := (zR_16, zT_16, 24)) (As := [.int p0]) (rest := []) (mc := 0) (ms := 0) C hR hro dX4_give_7 (Or.inl q2736) q2738 (Or.inl qs65) zl_DebateHallModel zk_X4_isSpeaker (Or.inl rfl) zy_X4_isSpeaker rfl (by decide) (by decide) hL (ok_X4_isSpeaker (zz_hl C) hw) (Nat.zero_le _) (Nat.zero_le _) (zz_cat10 _ (Nat.le_of_ble_eq_true rfl)) (fun r2 M3 hw => zz_kI hw (fun x6 hw => ?_)) (fun _ _ _ h9 => h9.elim) rfl
  refine zz_if_ne (tgt := 19) C dX4_give_10 (by decide) hw (fun hw => ?_) (fun hw => ?_)
  · refine zz_iload_n C dX4_give_19 rfl 2 rfl ?_
    refine zz_iconst (v := (1 : Int32)) C dX4_give_20 (by decide) ?_
    refine zz_sipush (v := (3600 : Int32)) C dX4_give_21 (by decide) ?_
    refine zz_callS (As := [.int p1, .int (1 : Int32), .int (3600 : Int32)]) (rest := []) (mc := 0) (ms := 0) C hR dX4_give_24 (Or.inl q2525) q2526 zl_DebateHallModel zk_X4_isIn (Or.inl rfl) zy_X4_isIn (by decide) (by decide) (ok_X4_isIn (zz_hl C) hw) (Nat.zero_le _) (Nat.zero_le _) (zz_cat10 _ (Nat.le_of_ble_eq_true rfl)) (fun r7 M8 hw => zz_kI hw (fun x11 hw => ?_)) (fun _ _ _ h9 => h9.elim) rfl
    refine zz_if_ne (tgt := 36) C dX4_give_27 (by decide) hw (fun hw => ?_) (fun hw => ?_)
    · refine zz_aload_n C dX4_give_36 rfl 0 rfl ?_
      refine zz_getA C dX4_give_37 (Or.inl q2447) zf_16_11_ebateHallModel hw (fun x12 hw => ?_)
      refine zz_getA C dX4_give_40 (Or.inr ⟨_, q2392⟩) zf_17_2_allModel_State hw (fun x13 hw => ?_)
      refine zz_iload_n C dX4_give_43 rfl 1 rfl ?_
      refine zz_dup2 C dX4_give_44 rfl (zz_cat _) ?_
      refine zz_iald C dX4_give_45 hw (fun x14 hw => ?_)
      refine zz_iload_n C dX4_give_46 rfl 2 rfl ?_
      refine zz_iadd C dX4_give_47 ?_
      refine zz_iast C dX4_give_48 hw (fun M15 hw => ?_)
      refine zz_aload_n C dX4_give_49 rfl 0 rfl ?_
      refine zz_getA C dX4_give_50 (Or.inl q2447) zf_16_11_ebateHallModel hw (fun x16 hw => ?_)
      refine zz_getA C dX4_give_53 (Or.inr ⟨_, q2392⟩) zf_17_2_allModel_State hw (fun x17 hw => ?_)
      refine zz_iload_n C dX4_give_56 rfl 1 rfl ?_
      refine zz_iald C dX4_give_57 hw (fun x18 hw => ?_)
      exact zz_iret C E dX4_give_58 hw
    · refine zz_aload_n C dX4_give_30 rfl 0 rfl ?_
      refine zz_iconst (v := (2 : Int32)) C dX4_give_31 (by decide) ?_
      obtain ⟨a9, t9, b9, fs9, hro, hL, rfl, hw⟩ := ztyS hw
      refine zz_callV (r := (zR_16, zT_16, 24)) (As := [.int (2 : Int32)]) (rest := []) (mc := 0) (ms := 0) C hR hro dX4_give_32 (Or.inl q2517) q2519 (Or.inl qs32) zl_DebateHallModel zk_X4_no (Or.inl rfl) zy_X4_no rfl (by decide) (by decide) hL (ok_X4_no (zz_hl C) hw) (Nat.zero_le _) (Nat.zero_le _) (zz_cat10 _ (Nat.le_of_ble_eq_true rfl)) (fun r19 M20 hw => zz_kI hw (fun x23 hw => ?_)) (fun _ _ _ h9 => h9.elim) rfl
      exact zz_iret C E dX4_give_35 hw
  · refine zz_aload_n C dX4_give_13 rfl 0 rfl ?_
    refine zz_iconst (v := (1 : Int32)) C dX4_give_14 (by decide) ?_
    obtain ⟨a9, t9, b9, fs9, hro, hL, rfl, hw⟩ := ztyS hw
    refine zz_callV (r := (zR_16, zT_16, 24)) (As := [.int (1 : Int32)]) (rest := []) (mc := 0) (ms := 0) C hR hro dX4_give_15 (Or.inl q2517) q2519 (Or.inl qs32) zl_DebateHallModel zk_X4_no (Or.inl rfl) zy_X4_no rfl (by decide) (by decide) hL (ok_X4_no (zz_hl C) hw) (Nat.zero_le _) (Nat.zero_le _) (zz_cat10 _ (Nat.le_of_ble_eq_true rfl)) (fun r24 M25 hw => zz_kI hw (fun x28 hw => ?_)) (fun _ _ _ h9 => h9.elim) rfl
    exact zz_iret C E dX4_give_18 hw
abbrev cX1_item : ByteArray := prog_1_method_19_code
def yX1_item : MethodName := ⟨"DebateHall", "item", "(II)I"⟩
def dkwX1_item_0 : List UInt8 := [42, 27, 182, 0, 228, 78, 28, 16, 11, 184, 0, 57, 42, 45, 28, 182, 0, 232, 172]
abbrev dktX1_item_0 : List UInt8 := dkwX1_item_0 ++ []
theorem dksX1_item_0 : cX1_item.data.toList.drop 0 = dktX1_item_0 := by decide +kernel
theorem dX1_item_0 : decode cX1_item 0 = .ok (.aload_n 0, 1) := dk_42 (dk_at dksX1_item_0 0 rfl rfl)
theorem dX1_item_1 : decode cX1_item 1 = .ok (.iload_n 1, 1) := dk_27 (dk_at dksX1_item_0 1 rfl rfl)
theorem dX1_item_2 : decode cX1_item 2 = .ok (.invokevirtual 228, 3) := dk_182 0 228 (dk_at dksX1_item_0 2 rfl rfl)
theorem dX1_item_5 : decode cX1_item 5 = .ok (.astore_n 3, 1) := dk_78 (dk_at dksX1_item_0 5 rfl rfl)
theorem dX1_item_6 : decode cX1_item 6 = .ok (.iload_n 2, 1) := dk_28 (dk_at dksX1_item_0 6 rfl rfl)
theorem dX1_item_7 : decode cX1_item 7 = .ok (.bipush 11, 2) := dk_16 11 (dk_at dksX1_item_0 7 rfl rfl)
theorem dX1_item_9 : decode cX1_item 9 = .ok (.invokestatic 57, 3) := dk_184 0 57 (dk_at dksX1_item_0 9 rfl rfl)
theorem dX1_item_12 : decode cX1_item 12 = .ok (.aload_n 0, 1) := dk_42 (dk_at dksX1_item_0 12 rfl rfl)
theorem dX1_item_13 : decode cX1_item 13 = .ok (.aload_n 3, 1) := dk_45 (dk_at dksX1_item_0 13 rfl rfl)
theorem dX1_item_14 : decode cX1_item 14 = .ok (.iload_n 2, 1) := dk_28 (dk_at dksX1_item_0 14 rfl rfl)
theorem dX1_item_15 : decode cX1_item 15 = .ok (.invokevirtual 232, 3) := dk_182 0 232 (dk_at dksX1_item_0 15 rfl rfl)
theorem dX1_item_18 : decode cX1_item 18 = .ok (.ireturn, 1) := dk_172 (dk_at dksX1_item_0 18 rfl rfl)
def wp_X1_item (Z : zzG) (this : Option Nat) (p0 : Int32) (p1 : Int32) (M : zzM) (bc bs : Nat) (K : Option Value → zzM → Prop) (X : Nat → Nat → zzM → Prop) : Prop := zty Z M this fun t => t = 0 ∧ zcx bc bs (fun c s k x => wp_X1_itemAt Z this p0 M c s k x) (fun r1 M2 bc3 bs4 => zrA r1 fun x5 => zcx bc3 bs4 (fun c s k x => wp_X1_requireIndex Z p1 (11 : Int32) M2 c s k x) (fun r6 M7 bc8 bs9 => zrV r6 (zty Z M7 this fun t => t = 0 ∧ zcc bc8 bs9 (fun c s k => wp_X1_itemGet Z this x5 p1 M7 c s k) fun r10 M11 bc12 bs13 => zrI r10 fun x14 => K (some (.int x14)) M11)) (fun t q M _ _ => X t q M)) (fun t q M _ _ => X t q M)
theorem ok_X1_item {Z : zzG} {l : Launch} (hl : l.stackTraces = false) {this : Option Nat} {p0 : Int32} {p1 : Int32} {M : zzM} {mc ms : Nat} {K : Option Value → zzM → Prop} {X : Nat → Nat → zzM → Prop} (hw : wp_X1_item Z this p0 p1 M mc ms K X) : zz_Met Z l yX1_item (zz_ws yX1_item cX1_item 4 (some .int) none) 8 [va_rf this, .int p0, .int p1] M mc ms K X := by
  refine zz_ofW hl (plainFor_of_name (by decide)) (by simp only [zz_sl0, zz_slI, zz_slJ, zz_slA] <;> decide) (fun G hZ hll C E hH hR hin => ?_)
  subst hZ
  subst hll
  rw [show lv_args 0 [va_rf this, .int p0, .int p1] = [(0, va_rf this), (1, .int p0), (2, .int p1)] by simp only [zz_la0, zz_laI, zz_laJ, zz_laA]]
  unfold wp_X1_item at hw
  refine zz_aload_n C dX1_item_0 rfl 0 rfl ?_
  refine zz_iload_n C dX1_item_1 rfl 1 rfl ?_
  obtain ⟨a9, t9, b9, fs9, hro, hL, rfl, hw⟩ := ztyS hw
  obtain ⟨c9, s9, hc9, hs9, hw⟩ := hw
  refine zz_callV (r := (zR_0, zT_0, 4)) (As := [.int p0]) (rest := []) C hR hro dX1_item_2 (Or.inl q2287) q2289 (Or.inl qs28) zl_DebateHall zk_X1_itemAt (Or.inl rfl) zy_X1_itemAt rfl (by decide) (by decide) hL (ok_X1_itemAt (zz_hl C) hw) hc9 hs9 (zz_cat10 _ (Nat.le_of_ble_eq_true rfl)) (fun r1 M2 hw => zz_kA hw (fun x5 hw => ?_)) (fun t9 q19 M20 hx => ?_) rfl
  · refine zz_astore_n (i := 3) (lv' := [(3, va_rf x5), (0, va_rf this), (1, .int p0), (2, .int p1)]) C dX1_item_5 rfl (by decide) rfl ?_
    refine zz_iload_n C dX1_item_6 rfl 3 rfl ?_
    refine zz_bipush (v := (11 : Int32)) C dX1_item_7 (by decide) ?_
    obtain ⟨c9, s9, hc9, hs9, hw⟩ := hw
    refine zz_callS (As := [.int p1, .int (11 : Int32)]) (rest := []) C hR dX1_item_9 (Or.inl q2132) q2133 zl_DebateHall zk_X1_requireIndex (Or.inl rfl) zy_X1_requireIndex (by decide) (by decide) (ok_X1_requireIndex (zz_hl C) hw) hc9 hs9 (zz_cat10 _ (Nat.le_of_ble_eq_true rfl)) (fun r6 M7 hw => zz_kV hw (fun hw => ?_)) (fun t9 q15 M16 hx => ?_) rfl
    · refine zz_aload_n C dX1_item_12 rfl 1 rfl ?_
      refine zz_aload_n C dX1_item_13 rfl 0 rfl ?_
      refine zz_iload_n C dX1_item_14 rfl 3 rfl ?_
      obtain ⟨a9, t9, b9, fs9, hro, hL, rfl, hw⟩ := ztyS hw
      obtain ⟨c9, s9, hc9, hs9, hw⟩ := hw
      refine zz_callV (r := (zR_0, zT_0, 4)) (As := [va_rf x5, .int p1]) (rest := []) C hR hro dX1_item_15 (Or.inl q2174) q2176 (Or.inl qs25) zl_DebateHall zk_X1_itemGet (Or.inl rfl) zy_X1_itemGet rfl (by decide) (by decide) hL (ok_X1_itemGet (zz_hl C) hw) hc9 hs9 (zz_cat10 _ (Nat.le_of_ble_eq_true rfl)) (fun r10 M11 hw => zz_kI hw (fun x14 hw => ?_)) (fun _ _ _ h9 => h9.elim) rfl
      exact zz_iret C E dX1_item_18 hw
    · exact zz_out C E hH rfl hx
  · exact zz_out C E hH rfl hx
abbrev cX0_item : ByteArray := method_7_code
def yX0_item : MethodName := ⟨"DebateHallLaw", "item", "(LDebateHall;II[J)I"⟩
def dkwX0_item_0 : List UInt8 := [45, 3, 42, 27, 28, 182, 0, 30, 133, 80, 167, 0, 7, 58, 4, 4, 172, 3, 172]
abbrev dktX0_item_0 : List UInt8 := dkwX0_item_0 ++ []
theorem dksX0_item_0 : cX0_item.data.toList.drop 0 = dktX0_item_0 := by decide +kernel
theorem dX0_item_0 : decode cX0_item 0 = .ok (.aload_n 3, 1) := dk_45 (dk_at dksX0_item_0 0 rfl rfl)
theorem dX0_item_1 : decode cX0_item 1 = .ok (.iconst 0, 1) := dk_3 (dk_at dksX0_item_0 1 rfl rfl)
theorem dX0_item_2 : decode cX0_item 2 = .ok (.aload_n 0, 1) := dk_42 (dk_at dksX0_item_0 2 rfl rfl)
theorem dX0_item_3 : decode cX0_item 3 = .ok (.iload_n 1, 1) := dk_27 (dk_at dksX0_item_0 3 rfl rfl)
theorem dX0_item_4 : decode cX0_item 4 = .ok (.iload_n 2, 1) := dk_28 (dk_at dksX0_item_0 4 rfl rfl)
theorem dX0_item_5 : decode cX0_item 5 = .ok (.invokevirtual 30, 3) := dk_182 0 30 (dk_at dksX0_item_0 5 rfl rfl)
theorem dX0_item_8 : decode cX0_item 8 = .ok (.i2l, 1) := dk_133 (dk_at dksX0_item_0 8 rfl rfl)
theorem dX0_item_9 : decode cX0_item 9 = .ok (.lastore, 1) := dk_80 (dk_at dksX0_item_0 9 rfl rfl)
theorem dX0_item_10 : decode cX0_item 10 = .ok (.goto 7, 3) := dk_167 0 7 (dk_at dksX0_item_0 10 rfl rfl)
theorem dX0_item_13 : decode cX0_item 13 = .ok (.astore 4, 2) := dk_58 4 (dk_at dksX0_item_0 13 rfl rfl)
theorem dX0_item_15 : decode cX0_item 15 = .ok (.iconst 1, 1) := dk_4 (dk_at dksX0_item_0 15 rfl rfl)
theorem dX0_item_16 : decode cX0_item 16 = .ok (.ireturn, 1) := dk_172 (dk_at dksX0_item_0 16 rfl rfl)
theorem dX0_item_17 : decode cX0_item 17 = .ok (.iconst 0, 1) := dk_3 (dk_at dksX0_item_0 17 rfl rfl)
theorem dX0_item_18 : decode cX0_item 18 = .ok (.ireturn, 1) := dk_172 (dk_at dksX0_item_0 18 rfl rfl)
theorem q2286 : (Jvm.Cond.code ({ cls := "DebateHall", name := "item", desc := "(II)I" } : Jvm.MethodName) prog_1_method_19_code (4 : Nat) (Option.some Jvm.ClassFile.FieldType.int)) ∈ lw_all := lw_g (lw_at lw_m10 46 rfl) rfl
theorem zk_X1_item : zz_cd yX1_item cX1_item 4 (some .int) none ∈ lw_all := q2286
theorem zy_X1_item : zz_yok yX1_item 2 = true := by decide +kernel
theorem q2283 : (Jvm.Cond.methodLink "DebateHallLaw" (30 : Nat) ({ cls := "DebateHall", name := "item", desc := "(II)I" } : Jvm.MethodName)) ∈ lw_all := lw_g (lw_at lw_m10 43 rfl) rfl
theorem q2284 : (Jvm.Cond.instanceMethod ({ cls := "DebateHall", name := "item", desc := "(II)I" } : Jvm.MethodName)) ∈ lw_all := lw_g (lw_at lw_m10 44 rfl) rfl
theorem q2285 : (Jvm.Cond.selects "DebateHall" ({ cls := "DebateHall", name := "item", desc := "(II)I" } : Jvm.MethodName) ({ cls := "DebateHall", name := "item", desc := "(II)I" } : Jvm.MethodName)) ∈ lw_all := lw_g (lw_at lw_m10 45 rfl) rfl
def wp_X0_item_B13 (Z : zzG) (K : Option Value → zzM → Prop) (s0 : Option Nat) (M : zzM) (bc bs : Nat) : Prop := K (some (.int (1 : Int32))) M
def wp_X0_item (Z : zzG) (p0 : Option Nat) (p1 : Int32) (p2 : Int32) (p3 : Option Nat) (M : zzM) (bc bs : Nat) (K : Option Value → zzM → Prop) : Prop := zty Z M p0 fun t => t = 0 ∧ zcx bc bs (fun c s k x => wp_X1_item Z p0 p1 p2 M c s k x) (fun r1 M2 bc3 bs4 => zrI r1 fun x5 => zast Z M2 p3 [102] (0 : Int32) (.long x5.toInt64) fun M6 => K (some (.int (0 : Int32))) M6) (fun t q7 M8 bc9 bs10 => if t = 28 then (wp_X0_item_B13 Z K (some q7) M8 bc9 bs10) else False)
theorem ok_X0_item_B13 {G : zzX} (C : zz_C G cX0_item "DebateHallLaw" 5) {K : Option Value → zzM → Prop} (E : zz_E G (some .int) K (fun _ _ _ => False)) (hH : zz_H G [(0, 10, 13, 24)]) (hR : zz_Rm G 9) {s0 : Option Nat} {M : zzM} {bc bs : Nat} (hw : wp_X0_item_B13 (zz_Zof G) K s0 M bc bs) : zz_T G 5 M bc bs 13 [] [va_rf s0] := by
  unfold wp_X0_item_B13 at hw
  refine zz_astore (lv' := [(4, va_rf s0)]) C dX0_item_13 (by decide) rfl ?_
  refine zz_iconst (v := (1 : Int32)) C dX0_item_15 (by decide) ?_
  exact zz_iret C E dX0_item_16 hw
theorem ok_X0_item {Z : zzG} {l : Launch} (hl : l.stackTraces = false) {p0 : Option Nat} {p1 : Int32} {p2 : Int32} {p3 : Option Nat} {M : zzM} {mc ms : Nat} {K : Option Value → zzM → Prop} (hw : wp_X0_item Z p0 p1 p2 p3 M mc ms K) : zz_Met Z l yX0_item (zz_ws yX0_item cX0_item 5 (some .int) (some [(0, 10, 13, 24)])) 9 [va_rf p0, .int p1, .int p2, va_rf p3] M mc ms K (fun _ _ _ => False) := by
  refine zz_ofW hl (plainFor_of_name (by decide)) (by simp only [zz_sl0, zz_slI, zz_slJ, zz_slA] <;> decide) (fun G hZ hll C E hH hR hin => ?_)
  subst hZ
  subst hll
  rw [show lv_args 0 [va_rf p0, .int p1, .int p2, va_rf p3] = [(0, va_rf p0), (1, .int p1), (2, .int p2), (3, va_rf p3)] by simp only [zz_la0, zz_laI, zz_laJ, zz_laA]]
  unfold wp_X0_item at hw
  refine zz_aload_n C dX0_item_0 rfl 3 rfl ?_
  refine zz_iconst (v := (0 : Int32)) C dX0_item_1 (by decide) ?_
  refine zz_aload_n C dX0_item_2 rfl 0 rfl ?_
  refine zz_iload_n C dX0_item_3 rfl 1 rfl ?_
  refine zz_iload_n C dX0_item_4 rfl 2 rfl ?_
  obtain ⟨a9, t9, b9, fs9, hro, hL, rfl, hw⟩ := ztyS hw
  obtain ⟨c9, s9, hc9, hs9, hw⟩ := hw
  refine zz_callV (r := (zR_0, zT_0, 4)) (As := [.int p1, .int p2]) (rest := [.int (0 : Int32), va_rf p3]) C hR hro dX0_item_5 (Or.inl q2283) q2284 (Or.inl q2285) zl_DebateHall zk_X1_item (Or.inl rfl) zy_X1_item rfl (by decide) (by decide) hL (ok_X1_item (zz_hl C) hw) hc9 hs9 (zz_cat10 _ (Nat.le_of_ble_eq_true rfl)) (fun r1 M2 hw => zz_kI hw (fun x5 hw => ?_)) (fun t9 q7 M8 hw => ?_) rfl
  · refine zz_i2l C dX0_item_8 ?_
    refine zz_last C dX0_item_9 hw (fun M6 hw => ?_)
    refine zz_goto (tgt := 17) C dX0_item_10 (by decide) ?_
    refine zz_iconst (v := (0 : Int32)) C dX0_item_17 (by decide) ?_
    exact zz_iret C E dX0_item_18 hw
  · by_cases e28 : t9 = 28
    · replace hw := zz_ifp e28 hw
      subst e28
      refine zz_catch (r := (zR_28, zT_28, 0)) C hH rfl [] (0, 10, 13, 24) [] rfl (fun _ h9 => absurd h9 List.not_mem_nil) rfl (by decide) q2265 q2137 ?_
      refine zz_subP [] rfl ?_
      exact ok_X0_item_B13 C E hH hR hw
    · replace hw := zz_ifn e28 hw
      exact hw.elim
abbrev cX4_item : ByteArray := prog_25_method_53_code
def yX4_item : MethodName := ⟨"DebateHallModel", "item", "(II)I"⟩
def dkwX4_item_1 : List UInt8 := [27, 28, 182, 1, 95, 167, 0, 8, 42, 4, 182, 1, 56, 172]
abbrev dktX4_item_1 : List UInt8 := dkwX4_item_1 ++ []
def dkwX4_item_0 : List UInt8 := [42, 3, 181, 0, 85, 42, 27, 182, 1, 92, 153, 0, 22, 28, 3, 16, 10, 184, 0, 91, 153, 0, 12, 42]
abbrev dktX4_item_0 : List UInt8 := dkwX4_item_0 ++ dktX4_item_1
theorem dksX4_item_0 : cX4_item.data.toList.drop 0 = dktX4_item_0 := by decide +kernel
theorem dksX4_item_1 : cX4_item.data.toList.drop 24 = dktX4_item_1 := dk_seg dksX4_item_0 24 rfl rfl
theorem dX4_item_0 : decode cX4_item 0 = .ok (.aload_n 0, 1) := dk_42 (dk_at dksX4_item_0 0 rfl rfl)
theorem dX4_item_1 : decode cX4_item 1 = .ok (.iconst 0, 1) := dk_3 (dk_at dksX4_item_0 1 rfl rfl)
theorem dX4_item_2 : decode cX4_item 2 = .ok (.putfield 85, 3) := dk_181 0 85 (dk_at dksX4_item_0 2 rfl rfl)
theorem dX4_item_5 : decode cX4_item 5 = .ok (.aload_n 0, 1) := dk_42 (dk_at dksX4_item_0 5 rfl rfl)
theorem dX4_item_6 : decode cX4_item 6 = .ok (.iload_n 1, 1) := dk_27 (dk_at dksX4_item_0 6 rfl rfl)
theorem dX4_item_7 : decode cX4_item 7 = .ok (.invokevirtual 348, 3) := dk_182 1 92 (dk_at dksX4_item_0 7 rfl rfl)
theorem dX4_item_10 : decode cX4_item 10 = .ok (.ifCond .eq 22, 3) := dk_153 0 22 (dk_at dksX4_item_0 10 rfl rfl)
theorem dX4_item_13 : decode cX4_item 13 = .ok (.iload_n 2, 1) := dk_28 (dk_at dksX4_item_0 13 rfl rfl)
theorem dX4_item_14 : decode cX4_item 14 = .ok (.iconst 0, 1) := dk_3 (dk_at dksX4_item_0 14 rfl rfl)
theorem dX4_item_15 : decode cX4_item 15 = .ok (.bipush 10, 2) := dk_16 10 (dk_at dksX4_item_0 15 rfl rfl)
theorem dX4_item_17 : decode cX4_item 17 = .ok (.invokestatic 91, 3) := dk_184 0 91 (dk_at dksX4_item_0 17 rfl rfl)
theorem dX4_item_20 : decode cX4_item 20 = .ok (.ifCond .eq 12, 3) := dk_153 0 12 (dk_at dksX4_item_0 20 rfl rfl)
theorem dX4_item_23 : decode cX4_item 23 = .ok (.aload_n 0, 1) := dk_42 (dk_at dksX4_item_0 23 rfl rfl)
theorem dX4_item_24 : decode cX4_item 24 = .ok (.iload_n 1, 1) := dk_27 (dk_at dksX4_item_1 0 rfl rfl)
theorem dX4_item_25 : decode cX4_item 25 = .ok (.iload_n 2, 1) := dk_28 (dk_at dksX4_item_1 1 rfl rfl)
theorem dX4_item_26 : decode cX4_item 26 = .ok (.invokevirtual 351, 3) := dk_182 1 95 (dk_at dksX4_item_1 2 rfl rfl)
theorem dX4_item_29 : decode cX4_item 29 = .ok (.goto 8, 3) := dk_167 0 8 (dk_at dksX4_item_1 5 rfl rfl)
theorem dX4_item_32 : decode cX4_item 32 = .ok (.aload_n 0, 1) := dk_42 (dk_at dksX4_item_1 8 rfl rfl)
theorem dX4_item_33 : decode cX4_item 33 = .ok (.iconst 1, 1) := dk_4 (dk_at dksX4_item_1 9 rfl rfl)
theorem dX4_item_34 : decode cX4_item 34 = .ok (.invokevirtual 312, 3) := dk_182 1 56 (dk_at dksX4_item_1 10 rfl rfl)
theorem dX4_item_37 : decode cX4_item 37 = .ok (.ireturn, 1) := dk_172 (dk_at dksX4_item_1 13 rfl rfl)
def wp_X4_item_B37 (Z : zzG) (K : Option Value → zzM → Prop) (s0 : Int32) (M : zzM) : Prop := K (some (.int s0)) M
def wp_X4_item_B32 (Z : zzG) (K : Option Value → zzM → Prop) (v0 : Option Nat) (M : zzM) : Prop := zty Z M v0 fun t => t = 16 ∧ wp_X4_no Z v0 (1 : Int32) M (fun r17 M18 => zrI r17 fun x21 => wp_X4_item_B37 Z K x21 M18)
def wp_X4_item (Z : zzG) (this : Option Nat) (p0 : Int32) (p1 : Int32) (M : zzM) (K : Option Value → zzM → Prop) : Prop := zput Z M this [16] 0 (.int (0 : Int32)) fun M1 => zty Z M1 this fun t => t = 16 ∧ wp_X4_isItem Z this p0 M1 (fun r2 M3 => zrI r2 fun x6 => if x6 = 0 then (wp_X4_item_B32 Z K this M3) else (wp_X4_isIn Z p1 (0 : Int32) (10 : Int32) M3 (fun r7 M8 => zrI r7 fun x11 => if x11 = 0 then (wp_X4_item_B32 Z K this M8) else (zty Z M8 this fun t => t = 16 ∧ wp_X4_itemTold Z this p0 p1 M8 (fun r12 M13 => zrI r12 fun x16 => wp_X4_item_B37 Z K x16 M13)))))
theorem ok_X4_item_B37 {G : zzX} (C : zz_C G cX4_item "DebateHallModel" 3) {K : Option Value → zzM → Prop} (E : zz_E G (some .int) K (fun _ _ _ => False)) (hH : zz_H G []) (hR : zz_Rm G 3) {s0 : Int32} {M : zzM} {bc bs : Nat} (hw : wp_X4_item_B37 (zz_Zof G) K s0 M) : zz_T G 3 M bc bs 37 [] [.int s0] := by
  unfold wp_X4_item_B37 at hw
  exact zz_iret C E dX4_item_37 hw
theorem ok_X4_item_B32 {G : zzX} (C : zz_C G cX4_item "DebateHallModel" 3) {K : Option Value → zzM → Prop} (E : zz_E G (some .int) K (fun _ _ _ => False)) (hH : zz_H G []) (hR : zz_Rm G 3) {v0 : Option Nat} {M : zzM} {bc bs : Nat} (hw : wp_X4_item_B32 (zz_Zof G) K v0 M) : zz_T G 3 M bc bs 32 [(0, va_rf v0)] [] := by
  unfold wp_X4_item_B32 at hw
  refine zz_aload_n C dX4_item_32 rfl 0 rfl ?_
  refine zz_iconst (v := (1 : Int32)) C dX4_item_33 (by decide) ?_
  obtain ⟨a9, t9, b9, fs9, hro, hL, rfl, hw⟩ := ztyS hw
  refine zz_callV (r := (zR_16, zT_16, 24)) (As := [.int (1 : Int32)]) (rest := []) (mc := 0) (ms := 0) C hR hro dX4_item_34 (Or.inl q2517) q2519 (Or.inl qs32) zl_DebateHallModel zk_X4_no (Or.inl rfl) zy_X4_no rfl (by decide) (by decide) hL (ok_X4_no (zz_hl C) hw) (Nat.zero_le _) (Nat.zero_le _) (zz_cat10 _ (Nat.le_of_ble_eq_true rfl)) (fun r17 M18 hw => zz_kI hw (fun x21 hw => ?_)) (fun _ _ _ h9 => h9.elim) rfl
  refine zz_subP [] rfl ?_
  exact ok_X4_item_B37 C E hH hR hw
theorem ok_X4_item {Z : zzG} {l : Launch} (hl : l.stackTraces = false) {this : Option Nat} {p0 : Int32} {p1 : Int32} {M : zzM} {mc ms : Nat} {K : Option Value → zzM → Prop} (hw : wp_X4_item Z this p0 p1 M K) : zz_Met Z l yX4_item (zz_ws yX4_item cX4_item 3 (some .int) none) 3 [va_rf this, .int p0, .int p1] M mc ms K (fun _ _ _ => False) := by
  refine zz_ofW hl (plainFor_of_name (by decide)) (by simp only [zz_sl0, zz_slI, zz_slJ, zz_slA] <;> decide) (fun G hZ hll C E hH hR hin => ?_)
  subst hZ
  subst hll
  rw [show lv_args 0 [va_rf this, .int p0, .int p1] = [(0, va_rf this), (1, .int p0), (2, .int p1)] by simp only [zz_la0, zz_laI, zz_laJ, zz_laA]]
  unfold wp_X4_item at hw
  refine zz_aload_n C dX4_item_0 rfl 0 rfl ?_
  refine zz_iconst (v := (0 : Int32)) C dX4_item_1 (by decide) ?_
  refine zz_put C dX4_item_2 (Or.inl q2436) zf_16_0_ebateHallModel zp_16_0 (zz_hn1 ⟨rfl, rfl⟩) hw (fun M1 hw => ?_)
  refine zz_aload_n C dX4_item_5 rfl 0 rfl ?_
  refine zz_iload_n C dX4_item_6 rfl 1 rfl ?_
  obtain ⟨a9, t9, b9, fs9, hro, hL, rfl, hw⟩ := ztyS hw
  refine zz_callV (r := (zR_16, zT_16, 24)) (As := [.int p0]) (rest := []) (mc := 0) (ms := 0) C hR hro dX4_item_7 (Or.inl q2758) q2760 (Or.inl qs69) zl_DebateHallModel zk_X4_isItem (Or.inl rfl) zy_X4_isItem rfl (by decide) (by decide) hL (ok_X4_isItem (zz_hl C) hw) (Nat.zero_le _) (Nat.zero_le _) (zz_cat10 _ (Nat.le_of_ble_eq_true rfl)) (fun r2 M3 hw => zz_kI hw (fun x6 hw => ?_)) (fun _ _ _ h9 => h9.elim) rfl
  refine zz_if_eq (tgt := 32) C dX4_item_10 (by decide) hw (fun hw => ?_) (fun hw => ?_)
  · refine zz_subP [0] rfl ?_
    exact ok_X4_item_B32 C E hH hR hw
  · refine zz_iload_n C dX4_item_13 rfl 2 rfl ?_
    refine zz_iconst (v := (0 : Int32)) C dX4_item_14 (by decide) ?_
    refine zz_bipush (v := (10 : Int32)) C dX4_item_15 (by decide) ?_
    refine zz_callS (As := [.int p1, .int (0 : Int32), .int (10 : Int32)]) (rest := []) (mc := 0) (ms := 0) C hR dX4_item_17 (Or.inl q2525) q2526 zl_DebateHallModel zk_X4_isIn (Or.inl rfl) zy_X4_isIn (by decide) (by decide) (ok_X4_isIn (zz_hl C) hw) (Nat.zero_le _) (Nat.zero_le _) (zz_cat10 _ (Nat.le_of_ble_eq_true rfl)) (fun r7 M8 hw => zz_kI hw (fun x11 hw => ?_)) (fun _ _ _ h9 => h9.elim) rfl
    refine zz_if_eq (tgt := 32) C dX4_item_20 (by decide) hw (fun hw => ?_) (fun hw => ?_)
    · refine zz_subP [0] rfl ?_
      exact ok_X4_item_B32 C E hH hR hw
    · refine zz_aload_n C dX4_item_23 rfl 0 rfl ?_
      refine zz_iload_n C dX4_item_24 rfl 1 rfl ?_
      refine zz_iload_n C dX4_item_25 rfl 2 rfl ?_
      obtain ⟨a9, t9, b9, fs9, hro, hL, rfl, hw⟩ := ztyS hw
      refine zz_callV (r := (zR_16, zT_16, 24)) (As := [.int p0, .int p1]) (rest := []) (mc := 0) (ms := 0) C hR hro dX4_item_26 (Or.inl q2762) q2764 (Or.inl qs70) zl_DebateHallModel zk_X4_itemTold (Or.inl rfl) zy_X4_itemTold rfl (by decide) (by decide) hL (ok_X4_itemTold (zz_hl C) hw) (Nat.zero_le _) (Nat.zero_le _) (zz_cat10 _ (Nat.le_of_ble_eq_true rfl)) (fun r12 M13 hw => zz_kI hw (fun x16 hw => ?_)) (fun _ _ _ h9 => h9.elim) rfl
      refine zz_goto (tgt := 37) C dX4_item_29 (by decide) ?_
      refine zz_subP [] rfl ?_
      exact ok_X4_item_B37 C E hH hR hw
abbrev cX1_speaker : ByteArray := prog_1_method_16_code
def yX1_speaker : MethodName := ⟨"DebateHall", "speaker", "(II)I"⟩
def dkwX1_speaker_0 : List UInt8 := [42, 27, 182, 0, 189, 28, 16, 7, 184, 0, 57, 42, 27, 28, 182, 0, 192, 172]
abbrev dktX1_speaker_0 : List UInt8 := dkwX1_speaker_0 ++ []
theorem dksX1_speaker_0 : cX1_speaker.data.toList.drop 0 = dktX1_speaker_0 := by decide +kernel
theorem dX1_speaker_0 : decode cX1_speaker 0 = .ok (.aload_n 0, 1) := dk_42 (dk_at dksX1_speaker_0 0 rfl rfl)
theorem dX1_speaker_1 : decode cX1_speaker 1 = .ok (.iload_n 1, 1) := dk_27 (dk_at dksX1_speaker_0 1 rfl rfl)
theorem dX1_speaker_2 : decode cX1_speaker 2 = .ok (.invokevirtual 189, 3) := dk_182 0 189 (dk_at dksX1_speaker_0 2 rfl rfl)
theorem dX1_speaker_5 : decode cX1_speaker 5 = .ok (.iload_n 2, 1) := dk_28 (dk_at dksX1_speaker_0 5 rfl rfl)
theorem dX1_speaker_6 : decode cX1_speaker 6 = .ok (.bipush 7, 2) := dk_16 7 (dk_at dksX1_speaker_0 6 rfl rfl)
theorem dX1_speaker_8 : decode cX1_speaker 8 = .ok (.invokestatic 57, 3) := dk_184 0 57 (dk_at dksX1_speaker_0 8 rfl rfl)
theorem dX1_speaker_11 : decode cX1_speaker 11 = .ok (.aload_n 0, 1) := dk_42 (dk_at dksX1_speaker_0 11 rfl rfl)
theorem dX1_speaker_12 : decode cX1_speaker 12 = .ok (.iload_n 1, 1) := dk_27 (dk_at dksX1_speaker_0 12 rfl rfl)
theorem dX1_speaker_13 : decode cX1_speaker 13 = .ok (.iload_n 2, 1) := dk_28 (dk_at dksX1_speaker_0 13 rfl rfl)
theorem dX1_speaker_14 : decode cX1_speaker 14 = .ok (.invokevirtual 192, 3) := dk_182 0 192 (dk_at dksX1_speaker_0 14 rfl rfl)
theorem dX1_speaker_17 : decode cX1_speaker 17 = .ok (.ireturn, 1) := dk_172 (dk_at dksX1_speaker_0 17 rfl rfl)
def wp_X1_speaker (Z : zzG) (this : Option Nat) (p0 : Int32) (p1 : Int32) (M : zzM) (bc bs : Nat) (K : Option Value → zzM → Prop) (X : Nat → Nat → zzM → Prop) : Prop := zty Z M this fun t => t = 0 ∧ zcx bc bs (fun c s k x => wp_X1_requireSpeaker Z this p0 M c s k x) (fun r1 M2 bc3 bs4 => zrV r1 (zcx bc3 bs4 (fun c s k x => wp_X1_requireIndex Z p1 (7 : Int32) M2 c s k x) (fun r5 M6 bc7 bs8 => zrV r5 (zty Z M6 this fun t => t = 0 ∧ zcc bc7 bs8 (fun c s k => wp_X1_speakerGet Z this p0 p1 M6 c s k) fun r9 M10 bc11 bs12 => zrI r9 fun x13 => K (some (.int x13)) M10)) (fun t q M _ _ => X t q M))) (fun t q M _ _ => X t q M)
theorem ok_X1_speaker {Z : zzG} {l : Launch} (hl : l.stackTraces = false) {this : Option Nat} {p0 : Int32} {p1 : Int32} {M : zzM} {mc ms : Nat} {K : Option Value → zzM → Prop} {X : Nat → Nat → zzM → Prop} (hw : wp_X1_speaker Z this p0 p1 M mc ms K X) : zz_Met Z l yX1_speaker (zz_ws yX1_speaker cX1_speaker 3 (some .int) none) 9 [va_rf this, .int p0, .int p1] M mc ms K X := by
  refine zz_ofW hl (plainFor_of_name (by decide)) (by simp only [zz_sl0, zz_slI, zz_slJ, zz_slA] <;> decide) (fun G hZ hll C E hH hR hin => ?_)
  subst hZ
  subst hll
  rw [show lv_args 0 [va_rf this, .int p0, .int p1] = [(0, va_rf this), (1, .int p0), (2, .int p1)] by simp only [zz_la0, zz_laI, zz_laJ, zz_laA]]
  unfold wp_X1_speaker at hw
  refine zz_aload_n C dX1_speaker_0 rfl 0 rfl ?_
  refine zz_iload_n C dX1_speaker_1 rfl 1 rfl ?_
  obtain ⟨a9, t9, b9, fs9, hro, hL, rfl, hw⟩ := ztyS hw
  obtain ⟨c9, s9, hc9, hs9, hw⟩ := hw
  refine zz_callV (r := (zR_0, zT_0, 4)) (As := [.int p0]) (rest := []) C hR hro dX1_speaker_2 (Or.inl q2276) q2278 (Or.inl qs27) zl_DebateHall zk_X1_requireSpeaker (Or.inl rfl) zy_X1_requireSpeaker rfl (by decide) (by decide) hL (ok_X1_requireSpeaker (zz_hl C) hw) hc9 hs9 (zz_cat10 _ (Nat.le_of_ble_eq_true rfl)) (fun r1 M2 hw => zz_kV hw (fun hw => ?_)) (fun t9 q18 M19 hx => ?_) rfl
  · refine zz_iload_n C dX1_speaker_5 rfl 2 rfl ?_
    refine zz_bipush (v := (7 : Int32)) C dX1_speaker_6 (by decide) ?_
    obtain ⟨c9, s9, hc9, hs9, hw⟩ := hw
    refine zz_callS (As := [.int p1, .int (7 : Int32)]) (rest := []) C hR dX1_speaker_8 (Or.inl q2132) q2133 zl_DebateHall zk_X1_requireIndex (Or.inl rfl) zy_X1_requireIndex (by decide) (by decide) (ok_X1_requireIndex (zz_hl C) hw) hc9 hs9 (zz_cat10 _ (Nat.le_of_ble_eq_true rfl)) (fun r5 M6 hw => zz_kV hw (fun hw => ?_)) (fun t9 q14 M15 hx => ?_) rfl
    · refine zz_aload_n C dX1_speaker_11 rfl 0 rfl ?_
      refine zz_iload_n C dX1_speaker_12 rfl 1 rfl ?_
      refine zz_iload_n C dX1_speaker_13 rfl 2 rfl ?_
      obtain ⟨a9, t9, b9, fs9, hro, hL, rfl, hw⟩ := ztyS hw
      obtain ⟨c9, s9, hc9, hs9, hw⟩ := hw
      refine zz_callV (r := (zR_0, zT_0, 4)) (As := [.int p0, .int p1]) (rest := []) C hR hro dX1_speaker_14 (Or.inl q2163) q2165 (Or.inl qs24) zl_DebateHall zk_X1_speakerGet (Or.inl rfl) zy_X1_speakerGet rfl (by decide) (by decide) hL (ok_X1_speakerGet (zz_hl C) hw) hc9 hs9 (zz_cat10 _ (Nat.le_of_ble_eq_true rfl)) (fun r9 M10 hw => zz_kI hw (fun x13 hw => ?_)) (fun _ _ _ h9 => h9.elim) rfl
      exact zz_iret C E dX1_speaker_17 hw
    · exact zz_out C E hH rfl hx
  · exact zz_out C E hH rfl hx
abbrev cX0_speaker : ByteArray := method_6_code
def yX0_speaker : MethodName := ⟨"DebateHallLaw", "speaker", "(LDebateHall;II[J)I"⟩
def dkwX0_speaker_0 : List UInt8 := [45, 3, 42, 27, 28, 182, 0, 26, 133, 80, 167, 0, 7, 58, 4, 4, 172, 3, 172]
abbrev dktX0_speaker_0 : List UInt8 := dkwX0_speaker_0 ++ []
theorem dksX0_speaker_0 : cX0_speaker.data.toList.drop 0 = dktX0_speaker_0 := by decide +kernel
theorem dX0_speaker_0 : decode cX0_speaker 0 = .ok (.aload_n 3, 1) := dk_45 (dk_at dksX0_speaker_0 0 rfl rfl)
theorem dX0_speaker_1 : decode cX0_speaker 1 = .ok (.iconst 0, 1) := dk_3 (dk_at dksX0_speaker_0 1 rfl rfl)
theorem dX0_speaker_2 : decode cX0_speaker 2 = .ok (.aload_n 0, 1) := dk_42 (dk_at dksX0_speaker_0 2 rfl rfl)
theorem dX0_speaker_3 : decode cX0_speaker 3 = .ok (.iload_n 1, 1) := dk_27 (dk_at dksX0_speaker_0 3 rfl rfl)
theorem dX0_speaker_4 : decode cX0_speaker 4 = .ok (.iload_n 2, 1) := dk_28 (dk_at dksX0_speaker_0 4 rfl rfl)
theorem dX0_speaker_5 : decode cX0_speaker 5 = .ok (.invokevirtual 26, 3) := dk_182 0 26 (dk_at dksX0_speaker_0 5 rfl rfl)
theorem dX0_speaker_8 : decode cX0_speaker 8 = .ok (.i2l, 1) := dk_133 (dk_at dksX0_speaker_0 8 rfl rfl)
theorem dX0_speaker_9 : decode cX0_speaker 9 = .ok (.lastore, 1) := dk_80 (dk_at dksX0_speaker_0 9 rfl rfl)
theorem dX0_speaker_10 : decode cX0_speaker 10 = .ok (.goto 7, 3) := dk_167 0 7 (dk_at dksX0_speaker_0 10 rfl rfl)
theorem dX0_speaker_13 : decode cX0_speaker 13 = .ok (.astore 4, 2) := dk_58 4 (dk_at dksX0_speaker_0 13 rfl rfl)
theorem dX0_speaker_15 : decode cX0_speaker 15 = .ok (.iconst 1, 1) := dk_4 (dk_at dksX0_speaker_0 15 rfl rfl)
theorem dX0_speaker_16 : decode cX0_speaker 16 = .ok (.ireturn, 1) := dk_172 (dk_at dksX0_speaker_0 16 rfl rfl)
theorem dX0_speaker_17 : decode cX0_speaker 17 = .ok (.iconst 0, 1) := dk_3 (dk_at dksX0_speaker_0 17 rfl rfl)
theorem dX0_speaker_18 : decode cX0_speaker 18 = .ok (.ireturn, 1) := dk_172 (dk_at dksX0_speaker_0 18 rfl rfl)
theorem q2275 : (Jvm.Cond.code ({ cls := "DebateHall", name := "speaker", desc := "(II)I" } : Jvm.MethodName) prog_1_method_16_code (3 : Nat) (Option.some Jvm.ClassFile.FieldType.int)) ∈ lw_all := lw_g (lw_at lw_m10 35 rfl) rfl
theorem zk_X1_speaker : zz_cd yX1_speaker cX1_speaker 3 (some .int) none ∈ lw_all := q2275
theorem zy_X1_speaker : zz_yok yX1_speaker 2 = true := by decide +kernel
theorem q2272 : (Jvm.Cond.methodLink "DebateHallLaw" (26 : Nat) ({ cls := "DebateHall", name := "speaker", desc := "(II)I" } : Jvm.MethodName)) ∈ lw_all := lw_g (lw_at lw_m10 32 rfl) rfl
theorem q2273 : (Jvm.Cond.instanceMethod ({ cls := "DebateHall", name := "speaker", desc := "(II)I" } : Jvm.MethodName)) ∈ lw_all := lw_g (lw_at lw_m10 33 rfl) rfl
theorem q2274 : (Jvm.Cond.selects "DebateHall" ({ cls := "DebateHall", name := "speaker", desc := "(II)I" } : Jvm.MethodName) ({ cls := "DebateHall", name := "speaker", desc := "(II)I" } : Jvm.MethodName)) ∈ lw_all := lw_g (lw_at lw_m10 34 rfl) rfl
def wp_X0_speaker_B13 (Z : zzG) (K : Option Value → zzM → Prop) (s0 : Option Nat) (M : zzM) (bc bs : Nat) : Prop := K (some (.int (1 : Int32))) M
def wp_X0_speaker (Z : zzG) (p0 : Option Nat) (p1 : Int32) (p2 : Int32) (p3 : Option Nat) (M : zzM) (bc bs : Nat) (K : Option Value → zzM → Prop) : Prop := zty Z M p0 fun t => t = 0 ∧ zcx bc bs (fun c s k x => wp_X1_speaker Z p0 p1 p2 M c s k x) (fun r1 M2 bc3 bs4 => zrI r1 fun x5 => zast Z M2 p3 [102] (0 : Int32) (.long x5.toInt64) fun M6 => K (some (.int (0 : Int32))) M6) (fun t q7 M8 bc9 bs10 => if t = 28 then (wp_X0_speaker_B13 Z K (some q7) M8 bc9 bs10) else False)
theorem ok_X0_speaker_B13 {G : zzX} (C : zz_C G cX0_speaker "DebateHallLaw" 5) {K : Option Value → zzM → Prop} (E : zz_E G (some .int) K (fun _ _ _ => False)) (hH : zz_H G [(0, 10, 13, 24)]) (hR : zz_Rm G 10) {s0 : Option Nat} {M : zzM} {bc bs : Nat} (hw : wp_X0_speaker_B13 (zz_Zof G) K s0 M bc bs) : zz_T G 5 M bc bs 13 [] [va_rf s0] := by
  unfold wp_X0_speaker_B13 at hw
  refine zz_astore (lv' := [(4, va_rf s0)]) C dX0_speaker_13 (by decide) rfl ?_
  refine zz_iconst (v := (1 : Int32)) C dX0_speaker_15 (by decide) ?_
  exact zz_iret C E dX0_speaker_16 hw
theorem ok_X0_speaker {Z : zzG} {l : Launch} (hl : l.stackTraces = false) {p0 : Option Nat} {p1 : Int32} {p2 : Int32} {p3 : Option Nat} {M : zzM} {mc ms : Nat} {K : Option Value → zzM → Prop} (hw : wp_X0_speaker Z p0 p1 p2 p3 M mc ms K) : zz_Met Z l yX0_speaker (zz_ws yX0_speaker cX0_speaker 5 (some .int) (some [(0, 10, 13, 24)])) 10 [va_rf p0, .int p1, .int p2, va_rf p3] M mc ms K (fun _ _ _ => False) := by
  refine zz_ofW hl (plainFor_of_name (by decide)) (by simp only [zz_sl0, zz_slI, zz_slJ, zz_slA] <;> decide) (fun G hZ hll C E hH hR hin => ?_)
  subst hZ
  subst hll
  rw [show lv_args 0 [va_rf p0, .int p1, .int p2, va_rf p3] = [(0, va_rf p0), (1, .int p1), (2, .int p2), (3, va_rf p3)] by simp only [zz_la0, zz_laI, zz_laJ, zz_laA]]
  unfold wp_X0_speaker at hw
  refine zz_aload_n C dX0_speaker_0 rfl 3 rfl ?_
  refine zz_iconst (v := (0 : Int32)) C dX0_speaker_1 (by decide) ?_
  refine zz_aload_n C dX0_speaker_2 rfl 0 rfl ?_
  refine zz_iload_n C dX0_speaker_3 rfl 1 rfl ?_
  refine zz_iload_n C dX0_speaker_4 rfl 2 rfl ?_
  obtain ⟨a9, t9, b9, fs9, hro, hL, rfl, hw⟩ := ztyS hw
  obtain ⟨c9, s9, hc9, hs9, hw⟩ := hw
  refine zz_callV (r := (zR_0, zT_0, 4)) (As := [.int p1, .int p2]) (rest := [.int (0 : Int32), va_rf p3]) C hR hro dX0_speaker_5 (Or.inl q2272) q2273 (Or.inl q2274) zl_DebateHall zk_X1_speaker (Or.inl rfl) zy_X1_speaker rfl (by decide) (by decide) hL (ok_X1_speaker (zz_hl C) hw) hc9 hs9 (zz_cat10 _ (Nat.le_of_ble_eq_true rfl)) (fun r1 M2 hw => zz_kI hw (fun x5 hw => ?_)) (fun t9 q7 M8 hw => ?_) rfl
  · refine zz_i2l C dX0_speaker_8 ?_
    refine zz_last C dX0_speaker_9 hw (fun M6 hw => ?_)
    refine zz_goto (tgt := 17) C dX0_speaker_10 (by decide) ?_
    refine zz_iconst (v := (0 : Int32)) C dX0_speaker_17 (by decide) ?_
    exact zz_iret C E dX0_speaker_18 hw
  · by_cases e28 : t9 = 28
    · replace hw := zz_ifp e28 hw
      subst e28
      refine zz_catch (r := (zR_28, zT_28, 0)) C hH rfl [] (0, 10, 13, 24) [] rfl (fun _ h9 => absurd h9 List.not_mem_nil) rfl (by decide) q2265 q2137 ?_
      refine zz_subP [] rfl ?_
      exact ok_X0_speaker_B13 C E hH hR hw
    · replace hw := zz_ifn e28 hw
      exact hw.elim
abbrev cX4_speaker : ByteArray := prog_25_method_50_code
def yX4_speaker : MethodName := ⟨"DebateHallModel", "speaker", "(II)I"⟩
def dkwX4_speaker_1 : List UInt8 := [27, 28, 182, 1, 87, 167, 0, 8, 42, 4, 182, 1, 56, 172]
abbrev dktX4_speaker_1 : List UInt8 := dkwX4_speaker_1 ++ []
def dkwX4_speaker_0 : List UInt8 := [42, 3, 181, 0, 85, 42, 27, 182, 1, 84, 153, 0, 22, 28, 3, 16, 6, 184, 0, 91, 153, 0, 12, 42]
abbrev dktX4_speaker_0 : List UInt8 := dkwX4_speaker_0 ++ dktX4_speaker_1
theorem dksX4_speaker_0 : cX4_speaker.data.toList.drop 0 = dktX4_speaker_0 := by decide +kernel
theorem dksX4_speaker_1 : cX4_speaker.data.toList.drop 24 = dktX4_speaker_1 := dk_seg dksX4_speaker_0 24 rfl rfl
theorem dX4_speaker_0 : decode cX4_speaker 0 = .ok (.aload_n 0, 1) := dk_42 (dk_at dksX4_speaker_0 0 rfl rfl)
theorem dX4_speaker_1 : decode cX4_speaker 1 = .ok (.iconst 0, 1) := dk_3 (dk_at dksX4_speaker_0 1 rfl rfl)
theorem dX4_speaker_2 : decode cX4_speaker 2 = .ok (.putfield 85, 3) := dk_181 0 85 (dk_at dksX4_speaker_0 2 rfl rfl)
theorem dX4_speaker_5 : decode cX4_speaker 5 = .ok (.aload_n 0, 1) := dk_42 (dk_at dksX4_speaker_0 5 rfl rfl)
theorem dX4_speaker_6 : decode cX4_speaker 6 = .ok (.iload_n 1, 1) := dk_27 (dk_at dksX4_speaker_0 6 rfl rfl)
theorem dX4_speaker_7 : decode cX4_speaker 7 = .ok (.invokevirtual 340, 3) := dk_182 1 84 (dk_at dksX4_speaker_0 7 rfl rfl)
theorem dX4_speaker_10 : decode cX4_speaker 10 = .ok (.ifCond .eq 22, 3) := dk_153 0 22 (dk_at dksX4_speaker_0 10 rfl rfl)
theorem dX4_speaker_13 : decode cX4_speaker 13 = .ok (.iload_n 2, 1) := dk_28 (dk_at dksX4_speaker_0 13 rfl rfl)
theorem dX4_speaker_14 : decode cX4_speaker 14 = .ok (.iconst 0, 1) := dk_3 (dk_at dksX4_speaker_0 14 rfl rfl)
theorem dX4_speaker_15 : decode cX4_speaker 15 = .ok (.bipush 6, 2) := dk_16 6 (dk_at dksX4_speaker_0 15 rfl rfl)
theorem dX4_speaker_17 : decode cX4_speaker 17 = .ok (.invokestatic 91, 3) := dk_184 0 91 (dk_at dksX4_speaker_0 17 rfl rfl)
theorem dX4_speaker_20 : decode cX4_speaker 20 = .ok (.ifCond .eq 12, 3) := dk_153 0 12 (dk_at dksX4_speaker_0 20 rfl rfl)
theorem dX4_speaker_23 : decode cX4_speaker 23 = .ok (.aload_n 0, 1) := dk_42 (dk_at dksX4_speaker_0 23 rfl rfl)
theorem dX4_speaker_24 : decode cX4_speaker 24 = .ok (.iload_n 1, 1) := dk_27 (dk_at dksX4_speaker_1 0 rfl rfl)
theorem dX4_speaker_25 : decode cX4_speaker 25 = .ok (.iload_n 2, 1) := dk_28 (dk_at dksX4_speaker_1 1 rfl rfl)
theorem dX4_speaker_26 : decode cX4_speaker 26 = .ok (.invokevirtual 343, 3) := dk_182 1 87 (dk_at dksX4_speaker_1 2 rfl rfl)
theorem dX4_speaker_29 : decode cX4_speaker 29 = .ok (.goto 8, 3) := dk_167 0 8 (dk_at dksX4_speaker_1 5 rfl rfl)
theorem dX4_speaker_32 : decode cX4_speaker 32 = .ok (.aload_n 0, 1) := dk_42 (dk_at dksX4_speaker_1 8 rfl rfl)
theorem dX4_speaker_33 : decode cX4_speaker 33 = .ok (.iconst 1, 1) := dk_4 (dk_at dksX4_speaker_1 9 rfl rfl)
theorem dX4_speaker_34 : decode cX4_speaker 34 = .ok (.invokevirtual 312, 3) := dk_182 1 56 (dk_at dksX4_speaker_1 10 rfl rfl)
theorem dX4_speaker_37 : decode cX4_speaker 37 = .ok (.ireturn, 1) := dk_172 (dk_at dksX4_speaker_1 13 rfl rfl)
def wp_X4_speaker_B37 (Z : zzG) (K : Option Value → zzM → Prop) (s0 : Int32) (M : zzM) (bc bs : Nat) : Prop := K (some (.int s0)) M
def wp_X4_speaker_B32 (Z : zzG) (K : Option Value → zzM → Prop) (v0 : Option Nat) (M : zzM) (bc bs : Nat) : Prop := zty Z M v0 fun t => t = 16 ∧ wp_X4_no Z v0 (1 : Int32) M (fun r17 M18 => zrI r17 fun x21 => wp_X4_speaker_B37 Z K x21 M18 bc bs)
def wp_X4_speaker (Z : zzG) (this : Option Nat) (p0 : Int32) (p1 : Int32) (M : zzM) (bc bs : Nat) (K : Option Value → zzM → Prop) : Prop := zput Z M this [16] 0 (.int (0 : Int32)) fun M1 => zty Z M1 this fun t => t = 16 ∧ wp_X4_isSpeaker Z this p0 M1 (fun r2 M3 => zrI r2 fun x6 => if x6 = 0 then (wp_X4_speaker_B32 Z K this M3 bc bs) else (wp_X4_isIn Z p1 (0 : Int32) (6 : Int32) M3 (fun r7 M8 => zrI r7 fun x11 => if x11 = 0 then (wp_X4_speaker_B32 Z K this M8 bc bs) else (zty Z M8 this fun t => t = 16 ∧ zcc bc bs (fun c s k => wp_X4_speakerTold Z this p0 p1 M8 c s k) fun r12 M13 bc14 bs15 => zrI r12 fun x16 => wp_X4_speaker_B37 Z K x16 M13 bc14 bs15))))
theorem ok_X4_speaker_B37 {G : zzX} (C : zz_C G cX4_speaker "DebateHallModel" 3) {K : Option Value → zzM → Prop} (E : zz_E G (some .int) K (fun _ _ _ => False)) (hH : zz_H G []) (hR : zz_Rm G 5) {s0 : Int32} {M : zzM} {bc bs : Nat} (hw : wp_X4_speaker_B37 (zz_Zof G) K s0 M bc bs) : zz_T G 3 M bc bs 37 [] [.int s0] := by
  unfold wp_X4_speaker_B37 at hw
  exact zz_iret C E dX4_speaker_37 hw
theorem ok_X4_speaker_B32 {G : zzX} (C : zz_C G cX4_speaker "DebateHallModel" 3) {K : Option Value → zzM → Prop} (E : zz_E G (some .int) K (fun _ _ _ => False)) (hH : zz_H G []) (hR : zz_Rm G 5) {v0 : Option Nat} {M : zzM} {bc bs : Nat} (hw : wp_X4_speaker_B32 (zz_Zof G) K v0 M bc bs) : zz_T G 3 M bc bs 32 [(0, va_rf v0)] [] := by
  unfold wp_X4_speaker_B32 at hw
  refine zz_aload_n C dX4_speaker_32 rfl 0 rfl ?_
  refine zz_iconst (v := (1 : Int32)) C dX4_speaker_33 (by decide) ?_
  obtain ⟨a9, t9, b9, fs9, hro, hL, rfl, hw⟩ := ztyS hw
  refine zz_callV (r := (zR_16, zT_16, 24)) (As := [.int (1 : Int32)]) (rest := []) (mc := 0) (ms := 0) C hR hro dX4_speaker_34 (Or.inl q2517) q2519 (Or.inl qs32) zl_DebateHallModel zk_X4_no (Or.inl rfl) zy_X4_no rfl (by decide) (by decide) hL (ok_X4_no (zz_hl C) hw) (Nat.zero_le _) (Nat.zero_le _) (zz_cat10 _ (Nat.le_of_ble_eq_true rfl)) (fun r17 M18 hw => zz_kI hw (fun x21 hw => ?_)) (fun _ _ _ h9 => h9.elim) rfl
  refine zz_subP [] rfl ?_
  exact ok_X4_speaker_B37 C E hH hR hw
theorem ok_X4_speaker {Z : zzG} {l : Launch} (hl : l.stackTraces = false) {this : Option Nat} {p0 : Int32} {p1 : Int32} {M : zzM} {mc ms : Nat} {K : Option Value → zzM → Prop} (hw : wp_X4_speaker Z this p0 p1 M mc ms K) : zz_Met Z l yX4_speaker (zz_ws yX4_speaker cX4_speaker 3 (some .int) none) 5 [va_rf this, .int p0, .int p1] M mc ms K (fun _ _ _ => False) := by
  refine zz_ofW hl (plainFor_of_name (by decide)) (by simp only [zz_sl0, zz_slI, zz_slJ, zz_slA] <;> decide) (fun G hZ hll C E hH hR hin => ?_)
  subst hZ
  subst hll
  rw [show lv_args 0 [va_rf this, .int p0, .int p1] = [(0, va_rf this), (1, .int p0), (2, .int p1)] by simp only [zz_la0, zz_laI, zz_laJ, zz_laA]]
  unfold wp_X4_speaker at hw
  refine zz_aload_n C dX4_speaker_0 rfl 0 rfl ?_
  refine zz_iconst (v := (0 : Int32)) C dX4_speaker_1 (by decide) ?_
  refine zz_put C dX4_speaker_2 (Or.inl q2436) zf_16_0_ebateHallModel zp_16_0 (zz_hn1 ⟨rfl, rfl⟩) hw (fun M1 hw => ?_)
  refine zz_aload_n C dX4_speaker_5 rfl 0 rfl ?_
  refine zz_iload_n C dX4_speaker_6 rfl 1 rfl ?_
  obtain ⟨a9, t9, b9, fs9, hro, hL, rfl, hw⟩ := ztyS hw
  refine zz_callV (r := (zR_16, zT_16, 24)) (As := [.int p0]) (rest := []) (mc := 0) (ms := 0) C hR hro dX4_speaker_7 (Or.inl q2736) q2738 (Or.inl qs65) zl_DebateHallModel zk_X4_isSpeaker (Or.inl rfl) zy_X4_isSpeaker rfl (by decide) (by decide) hL (ok_X4_isSpeaker (zz_hl C) hw) (Nat.zero_le _) (Nat.zero_le _) (zz_cat10 _ (Nat.le_of_ble_eq_true rfl)) (fun r2 M3 hw => zz_kI hw (fun x6 hw => ?_)) (fun _ _ _ h9 => h9.elim) rfl
  refine zz_if_eq (tgt := 32) C dX4_speaker_10 (by decide) hw (fun hw => ?_) (fun hw => ?_)
  · refine zz_subP [0] rfl ?_
    exact ok_X4_speaker_B32 C E hH hR hw
  · refine zz_iload_n C dX4_speaker_13 rfl 2 rfl ?_
    refine zz_iconst (v := (0 : Int32)) C dX4_speaker_14 (by decide) ?_
    refine zz_bipush (v := (6 : Int32)) C dX4_speaker_15 (by decide) ?_
    refine zz_callS (As := [.int p1, .int (0 : Int32), .int (6 : Int32)]) (rest := []) (mc := 0) (ms := 0) C hR dX4_speaker_17 (Or.inl q2525) q2526 zl_DebateHallModel zk_X4_isIn (Or.inl rfl) zy_X4_isIn (by decide) (by decide) (ok_X4_isIn (zz_hl C) hw) (Nat.zero_le _) (Nat.zero_le _) (zz_cat10 _ (Nat.le_of_ble_eq_true rfl)) (fun r7 M8 hw => zz_kI hw (fun x11 hw => ?_)) (fun _ _ _ h9 => h9.elim) rfl
    refine zz_if_eq (tgt := 32) C dX4_speaker_20 (by decide) hw (fun hw => ?_) (fun hw => ?_)
    · refine zz_subP [0] rfl ?_
      exact ok_X4_speaker_B32 C E hH hR hw
    · refine zz_aload_n C dX4_speaker_23 rfl 0 rfl ?_
      refine zz_iload_n C dX4_speaker_24 rfl 1 rfl ?_
      refine zz_iload_n C dX4_speaker_25 rfl 2 rfl ?_
      obtain ⟨a9, t9, b9, fs9, hro, hL, rfl, hw⟩ := ztyS hw
      obtain ⟨c9, s9, hc9, hs9, hw⟩ := hw
      refine zz_callV (r := (zR_16, zT_16, 24)) (As := [.int p0, .int p1]) (rest := []) C hR hro dX4_speaker_26 (Or.inl q2740) q2742 (Or.inl qs66) zl_DebateHallModel zk_X4_speakerTold (Or.inl rfl) zy_X4_speakerTold rfl (by decide) (by decide) hL (ok_X4_speakerTold (zz_hl C) hw) hc9 hs9 (zz_cat10 _ (Nat.le_of_ble_eq_true rfl)) (fun r12 M13 hw => zz_kI hw (fun x16 hw => ?_)) (fun _ _ _ h9 => h9.elim) rfl
      refine zz_goto (tgt := 37) C dX4_speaker_29 (by decide) ?_
      refine zz_subP [] rfl ?_
      exact ok_X4_speaker_B37 C E hH hR hw
