set_option maxRecDepth 100000
abbrev cJ2_size : ByteArray := prog_59_method_8_code
def yJ2_size : MethodName := ⟨"java/util/ArrayList", "size", "()I"⟩
theorem dJ2_size_0 : decode cJ2_size 0 = .ok (.aload_n 0, 1) := by decide +kernel
theorem dJ2_size_1 : decode cJ2_size 1 = .ok (.getfield 48, 3) := by decide +kernel
theorem dJ2_size_4 : decode cJ2_size 4 = .ok (.ireturn, 1) := by decide +kernel
theorem q187 : (Jvm.Cond.fieldLink "java/util/ArrayList" (48 : Nat) "java/util/ArrayList" "size" "I") ∈ lw_all := lw_g (lw_at lw_m1 107 rfl) rfl
def wp_J2_size (Z : zzG) (this : Option Nat) (M : zzM) (K : Option Value → zzM → Prop) : Prop := zgI Z M this [18] 2 fun x1 => K (some (.int x1)) M
theorem ok_J2_size {Z : zzG} {l : Launch} (hl : l.stackTraces = false) {this : Option Nat} {M : zzM} {mc ms : Nat} {K : Option Value → zzM → Prop} (hw : wp_J2_size Z this M K) : zz_Met Z l yJ2_size (zz_ws yJ2_size cJ2_size 1 (some .int) none) 1 [va_rf this] M mc ms K (fun _ _ _ => False) := by
  refine zz_ofW hl (plainFor_of_name (by decide)) (by simp only [zz_sl0, zz_slI, zz_slJ, zz_slA] <;> decide) (fun G hZ hll C E hH hR hin => ?_)
  subst hZ
  subst hll
  rw [show lv_args 0 [va_rf this] = [(0, va_rf this)] by simp only [zz_la0, zz_laI, zz_laJ, zz_laA]]
  unfold wp_J2_size at hw
  refine zz_aload_n C dJ2_size_0 rfl 0 rfl ?_
  refine zz_getI C dJ2_size_1 (Or.inl q187) zf_18_2_util_ArrayList hw (fun x1 hw => ?_)
  exact zz_iret C E dJ2_size_4 hw
abbrev cX3_with : ByteArray := prog_12_method_13_code
def yX3_with : MethodName := ⟨"DebateHall$Minutes", "with", "(I)I"⟩
def dkwX3_with_1 : List UInt8 := [160, 0, 7, 4, 167, 0, 4, 3, 96, 61, 132, 3, 1, 167, 255, 224, 28, 172]
abbrev dktX3_with_1 : List UInt8 := dkwX3_with_1 ++ []
def dkwX3_with_0 : List UInt8 := [3, 61, 3, 62, 29, 42, 180, 0, 18, 182, 0, 124, 162, 0, 27, 28, 42, 180, 0, 31, 29, 46, 27]
abbrev dktX3_with_0 : List UInt8 := dkwX3_with_0 ++ dktX3_with_1
theorem dksX3_with_0 : cX3_with.data.toList.drop 0 = dktX3_with_0 := by decide +kernel
theorem dksX3_with_1 : cX3_with.data.toList.drop 23 = dktX3_with_1 := dk_seg dksX3_with_0 23 rfl rfl
theorem dX3_with_0 : decode cX3_with 0 = .ok (.iconst 0, 1) := dk_3 (dk_at dksX3_with_0 0 rfl rfl)
theorem dX3_with_1 : decode cX3_with 1 = .ok (.istore_n 2, 1) := dk_61 (dk_at dksX3_with_0 1 rfl rfl)
theorem dX3_with_2 : decode cX3_with 2 = .ok (.iconst 0, 1) := dk_3 (dk_at dksX3_with_0 2 rfl rfl)
theorem dX3_with_3 : decode cX3_with 3 = .ok (.istore_n 3, 1) := dk_62 (dk_at dksX3_with_0 3 rfl rfl)
theorem dX3_with_4 : decode cX3_with 4 = .ok (.iload_n 3, 1) := dk_29 (dk_at dksX3_with_0 4 rfl rfl)
theorem dX3_with_5 : decode cX3_with 5 = .ok (.aload_n 0, 1) := dk_42 (dk_at dksX3_with_0 5 rfl rfl)
theorem dX3_with_6 : decode cX3_with 6 = .ok (.getfield 18, 3) := dk_180 0 18 (dk_at dksX3_with_0 6 rfl rfl)
theorem dX3_with_9 : decode cX3_with 9 = .ok (.invokevirtual 124, 3) := dk_182 0 124 (dk_at dksX3_with_0 9 rfl rfl)
theorem dX3_with_12 : decode cX3_with 12 = .ok (.if_icmp .ge 27, 3) := dk_162 0 27 (dk_at dksX3_with_0 12 rfl rfl)
theorem dX3_with_15 : decode cX3_with 15 = .ok (.iload_n 2, 1) := dk_28 (dk_at dksX3_with_0 15 rfl rfl)
theorem dX3_with_16 : decode cX3_with 16 = .ok (.aload_n 0, 1) := dk_42 (dk_at dksX3_with_0 16 rfl rfl)
theorem dX3_with_17 : decode cX3_with 17 = .ok (.getfield 31, 3) := dk_180 0 31 (dk_at dksX3_with_0 17 rfl rfl)
theorem dX3_with_20 : decode cX3_with 20 = .ok (.iload_n 3, 1) := dk_29 (dk_at dksX3_with_0 20 rfl rfl)
theorem dX3_with_21 : decode cX3_with 21 = .ok (.iaload, 1) := dk_46 (dk_at dksX3_with_0 21 rfl rfl)
theorem dX3_with_22 : decode cX3_with 22 = .ok (.iload_n 1, 1) := dk_27 (dk_at dksX3_with_0 22 rfl rfl)
theorem dX3_with_23 : decode cX3_with 23 = .ok (.if_icmp .ne 7, 3) := dk_160 0 7 (dk_at dksX3_with_1 0 rfl rfl)
theorem dX3_with_26 : decode cX3_with 26 = .ok (.iconst 1, 1) := dk_4 (dk_at dksX3_with_1 3 rfl rfl)
theorem dX3_with_27 : decode cX3_with 27 = .ok (.goto 4, 3) := dk_167 0 4 (dk_at dksX3_with_1 4 rfl rfl)
theorem dX3_with_30 : decode cX3_with 30 = .ok (.iconst 0, 1) := dk_3 (dk_at dksX3_with_1 7 rfl rfl)
theorem dX3_with_31 : decode cX3_with 31 = .ok (.iadd, 1) := dk_96 (dk_at dksX3_with_1 8 rfl rfl)
theorem dX3_with_32 : decode cX3_with 32 = .ok (.istore_n 2, 1) := dk_61 (dk_at dksX3_with_1 9 rfl rfl)
theorem dX3_with_33 : decode cX3_with 33 = .ok (.iinc 3 1, 3) := dk_132 3 1 (dk_at dksX3_with_1 10 rfl rfl)
theorem dX3_with_36 : decode cX3_with 36 = .ok (.goto (-32), 3) := dk_167 255 224 (dk_at dksX3_with_1 13 rfl rfl)
theorem dX3_with_39 : decode cX3_with 39 = .ok (.iload_n 2, 1) := dk_28 (dk_at dksX3_with_1 16 rfl rfl)
theorem dX3_with_40 : decode cX3_with 40 = .ok (.ireturn, 1) := dk_172 (dk_at dksX3_with_1 17 rfl rfl)
theorem q356 : (Jvm.Cond.code ({ cls := "java/util/ArrayList", name := "size", desc := "()I" } : Jvm.MethodName) prog_59_method_8_code (1 : Nat) (Option.some Jvm.ClassFile.FieldType.int)) ∈ lw_all := lw_g (lw_at lw_m2 36 rfl) rfl
theorem zk_J2_size : zz_cd yJ2_size cJ2_size 1 (some .int) none ∈ lw_all := q356
theorem zy_J2_size : zz_yok yJ2_size 0 = true := by decide +kernel
theorem q1933 : (Jvm.Cond.methodLink "DebateHall$Minutes" (124 : Nat) ({ cls := "java/util/ArrayList", name := "size", desc := "()I" } : Jvm.MethodName)) ∈ lw_all := lw_g (lw_at lw_m8 173 rfl) rfl
theorem q354 : (Jvm.Cond.instanceMethod ({ cls := "java/util/ArrayList", name := "size", desc := "()I" } : Jvm.MethodName)) ∈ lw_all := lw_g (lw_at lw_m2 34 rfl) rfl
theorem q355 : (Jvm.Cond.selects "java/util/ArrayList" ({ cls := "java/util/ArrayList", name := "size", desc := "()I" } : Jvm.MethodName) ({ cls := "java/util/ArrayList", name := "size", desc := "()I" } : Jvm.MethodName)) ∈ lw_all := lw_g (lw_at lw_m2 35 rfl) rfl
def wp_X3_with_B31 (Z : zzG) (k4 : Option Nat → Int32 → Int32 → Int32 → zzM → Prop) (K : Option Value → zzM → Prop) (v0 : Option Nat) (v1 : Int32) (v3 : Int32) (s0 : Int32) (s1 : Int32) (M : zzM) : Prop := k4 v0 v1 (s1 + s0) (v3 + 1) M
def wp_X3_with_L4 (Z : zzG) (K : Option Value → zzM → Prop) : Nat → Option Nat → Int32 → Int32 → Int32 → zzM → Prop
  | 0, _, _, _, _, _ => False
  | n + 1, v0, v1, v2, v3, M => zgA Z M v0 [2] 1 fun x1 => zty Z M x1 fun t => t = 18 ∧ wp_J2_size Z x1 M (fun r2 M3 => zrI r2 fun x6 => if x6 ≤ v3 then (K (some (.int v2)) M3) else (zgA Z M3 v0 [2] 4 fun x7 => zaI Z M3 x7 [100] v3 fun x8 => if x8 = v1 then (wp_X3_with_B31 Z (wp_X3_with_L4 Z K n) K v0 v1 v3 (1 : Int32) v2 M3) else (wp_X3_with_B31 Z (wp_X3_with_L4 Z K n) K v0 v1 v3 (0 : Int32) v2 M3)))
def wp_X3_with (Z : zzG) (this : Option Nat) (p0 : Int32) (M : zzM) (K : Option Value → zzM → Prop) : Prop := ∃ n4 : Nat, wp_X3_with_L4 Z K n4 this p0 (0 : Int32) (0 : Int32) M
theorem ok_X3_with_B31 {G : zzX} (C : zz_C G cX3_with "DebateHall$Minutes" 4) {K : Option Value → zzM → Prop} (E : zz_E G (some .int) K (fun _ _ _ => False)) (hH : zz_H G []) (hR : zz_Rm G 2) {k4 : Option Nat → Int32 → Int32 → Int32 → zzM → Prop} (hk4 : ∀ (z0 : Option Nat) (z1 : Int32) (z2 : Int32) (z3 : Int32) (M : zzM) (bc bs : Nat), k4 z0 z1 z2 z3 M → zz_T G 4 M bc bs 4 [(0, va_rf z0), (1, .int z1), (2, .int z2), (3, .int z3)] []) {v0 : Option Nat} {v1 : Int32} {v3 : Int32} {s0 : Int32} {s1 : Int32} {M : zzM} {bc bs : Nat} (hw : wp_X3_with_B31 (zz_Zof G) k4 K v0 v1 v3 s0 s1 M) : zz_T G 4 M bc bs 31 [(0, va_rf v0), (1, .int v1), (3, .int v3)] [.int s0, .int s1] := by
  unfold wp_X3_with_B31 at hw
  refine zz_iadd C dX3_with_31 ?_
  refine zz_istore_n (i := 2) (lv' := [(2, .int (s1 + s0)), (0, va_rf v0), (1, .int v1), (3, .int v3)]) C dX3_with_32 rfl (by decide) rfl ?_
  refine zz_iinc (lv' := [(3, .int (v3 + 1)), (2, .int (s1 + s0)), (0, va_rf v0), (1, .int v1)]) C dX3_with_33 3 rfl (by rfl) (by decide) rfl ?_
  refine zz_goto (tgt := 4) C dX3_with_36 (by decide) ?_
  refine zz_subP [2, 3, 1, 0] rfl ?_
  exact hk4 _ _ _ _ _ _ _ hw
theorem ok_X3_with_L4 {G : zzX} (C : zz_C G cX3_with "DebateHall$Minutes" 4) {K : Option Value → zzM → Prop} (E : zz_E G (some .int) K (fun _ _ _ => False)) (hH : zz_H G []) (hR : zz_Rm G 2) : ∀ (n : Nat) (v0 : Option Nat) (v1 : Int32) (v2 : Int32) (v3 : Int32) (M : zzM) (bc bs : Nat), wp_X3_with_L4 (zz_Zof G) K n v0 v1 v2 v3 M → zz_T G 4 M bc bs 4 [(0, va_rf v0), (1, .int v1), (2, .int v2), (3, .int v3)] [] := by
  intro n
  induction n with
  | zero =>
    intro v0 v1 v2 v3 M bc bs hw
    exact False.elim hw
  | succ n ih =>
    intro v0 v1 v2 v3 M bc bs hw
    refine zz_iload_n C dX3_with_4 rfl 3 rfl ?_
    refine zz_aload_n C dX3_with_5 rfl 0 rfl ?_
    refine zz_getA C dX3_with_6 (Or.inl q235) zf_2_1_teHall_Minutes hw (fun x1 hw => ?_)
    obtain ⟨a9, t9, b9, fs9, hro, hL, rfl, hw⟩ := ztyS hw
    refine zz_callV (r := (zR_18, zT_18, 3)) (As := []) (rest := [.int v3]) (mc := 0) (ms := 0) C hR hro dX3_with_9 (Or.inl q1933) q354 (Or.inl q355) zl_java_util_ArrayList zk_J2_size (Or.inl rfl) zy_J2_size rfl (by decide) (by decide) hL (ok_J2_size (zz_hl C) hw) (Nat.zero_le _) (Nat.zero_le _) (zz_cat10 _ (Nat.le_of_ble_eq_true rfl)) (fun r2 M3 hw => zz_kI hw (fun x6 hw => ?_)) (fun _ _ _ h9 => h9.elim) rfl
    refine zz_icmp_ge (tgt := 39) C dX3_with_12 (by decide) hw (fun hw => ?_) (fun hw => ?_)
    · refine zz_iload_n C dX3_with_39 rfl 2 rfl ?_
      exact zz_iret C E dX3_with_40 hw
    · refine zz_iload_n C dX3_with_15 rfl 2 rfl ?_
      refine zz_aload_n C dX3_with_16 rfl 0 rfl ?_
      refine zz_getA C dX3_with_17 (Or.inl q246) zf_2_4_teHall_Minutes hw (fun x7 hw => ?_)
      refine zz_iload_n C dX3_with_20 rfl 3 rfl ?_
      refine zz_iald C dX3_with_21 hw (fun x8 hw => ?_)
      refine zz_iload_n C dX3_with_22 rfl 1 rfl ?_
      refine zz_icmp_ne (tgt := 30) C dX3_with_23 (by decide) hw (fun hw => ?_) (fun hw => ?_)
      · refine zz_iconst (v := (0 : Int32)) C dX3_with_30 (by decide) ?_
        refine zz_subP [0, 1, 3] rfl ?_
        exact ok_X3_with_B31 C E hH hR (fun z0 z1 z2 z3 z4 z5 z6 hw => ih z0 z1 z2 z3 z4 z5 z6 hw) hw
      · refine zz_iconst (v := (1 : Int32)) C dX3_with_26 (by decide) ?_
        refine zz_goto (tgt := 31) C dX3_with_27 (by decide) ?_
        refine zz_subP [0, 1, 3] rfl ?_
        exact ok_X3_with_B31 C E hH hR (fun z0 z1 z2 z3 z4 z5 z6 hw => ih z0 z1 z2 z3 z4 z5 z6 hw) hw
theorem ok_X3_with {Z : zzG} {l : Launch} (hl : l.stackTraces = false) {this : Option Nat} {p0 : Int32} {M : zzM} {mc ms : Nat} {K : Option Value → zzM → Prop} (hw : wp_X3_with Z this p0 M K) : zz_Met Z l yX3_with (zz_ws yX3_with cX3_with 4 (some .int) none) 2 [va_rf this, .int p0] M mc ms K (fun _ _ _ => False) := by
  refine zz_ofW hl (plainFor_of_name (by decide)) (by simp only [zz_sl0, zz_slI, zz_slJ, zz_slA] <;> decide) (fun G hZ hll C E hH hR hin => ?_)
  subst hZ
  subst hll
  rw [show lv_args 0 [va_rf this, .int p0] = [(0, va_rf this), (1, .int p0)] by simp only [zz_la0, zz_laI, zz_laJ, zz_laA]]
  unfold wp_X3_with at hw
  refine zz_iconst (v := (0 : Int32)) C dX3_with_0 (by decide) ?_
  refine zz_istore_n (i := 2) (lv' := [(2, .int (0 : Int32)), (0, va_rf this), (1, .int p0)]) C dX3_with_1 rfl (by decide) rfl ?_
  refine zz_iconst (v := (0 : Int32)) C dX3_with_2 (by decide) ?_
  refine zz_istore_n (i := 3) (lv' := [(3, .int (0 : Int32)), (2, .int (0 : Int32)), (0, va_rf this), (1, .int p0)]) C dX3_with_3 rfl (by decide) rfl ?_
  refine zz_subP [2, 3, 1, 0] rfl ?_
  obtain ⟨n4, hw⟩ := hw
  exact ok_X3_with_L4 C E hH hR n4 _ _ _ _ _ _ _ hw
abbrev cX1_of : ByteArray := prog_1_method_12_code
def yX1_of : MethodName := ⟨"DebateHall", "of", "(LDebateHall$Kind;I)I"⟩
def dkwX1_of_2 : List UInt8 := [159, 0, 12, 25, 5, 180, 0, 143, 28, 160, 0, 7, 4, 167, 0, 4, 3, 96, 62, 167, 255, 203, 29, 172]
abbrev dktX1_of_2 : List UInt8 := dkwX1_of_2 ++ []
def dkwX1_of_1 : List UInt8 := [25, 4, 185, 0, 116, 1, 0, 192, 0, 68, 58, 5, 29, 25, 5, 180, 0, 139, 43, 166, 0, 21, 28, 2]
abbrev dktX1_of_1 : List UInt8 := dkwX1_of_1 ++ dktX1_of_2
def dkwX1_of_0 : List UInt8 := [3, 62, 42, 180, 0, 36, 180, 0, 61, 182, 0, 138, 58, 4, 25, 4, 185, 0, 110, 1, 0, 153, 0, 49]
abbrev dktX1_of_0 : List UInt8 := dkwX1_of_0 ++ dktX1_of_1
theorem dksX1_of_0 : cX1_of.data.toList.drop 0 = dktX1_of_0 := by decide +kernel
theorem dksX1_of_1 : cX1_of.data.toList.drop 24 = dktX1_of_1 := dk_seg dksX1_of_0 24 rfl rfl
theorem dksX1_of_2 : cX1_of.data.toList.drop 48 = dktX1_of_2 := dk_seg dksX1_of_1 24 rfl rfl
theorem dX1_of_0 : decode cX1_of 0 = .ok (.iconst 0, 1) := dk_3 (dk_at dksX1_of_0 0 rfl rfl)
theorem dX1_of_1 : decode cX1_of 1 = .ok (.istore_n 3, 1) := dk_62 (dk_at dksX1_of_0 1 rfl rfl)
theorem dX1_of_2 : decode cX1_of 2 = .ok (.aload_n 0, 1) := dk_42 (dk_at dksX1_of_0 2 rfl rfl)
theorem dX1_of_3 : decode cX1_of 3 = .ok (.getfield 36, 3) := dk_180 0 36 (dk_at dksX1_of_0 3 rfl rfl)
theorem dX1_of_6 : decode cX1_of 6 = .ok (.getfield 61, 3) := dk_180 0 61 (dk_at dksX1_of_0 6 rfl rfl)
theorem dX1_of_9 : decode cX1_of 9 = .ok (.invokevirtual 138, 3) := dk_182 0 138 (dk_at dksX1_of_0 9 rfl rfl)
theorem dX1_of_12 : decode cX1_of 12 = .ok (.astore 4, 2) := dk_58 4 (dk_at dksX1_of_0 12 rfl rfl)
theorem dX1_of_14 : decode cX1_of 14 = .ok (.aload 4, 2) := dk_25 4 (dk_at dksX1_of_0 14 rfl rfl)
theorem dX1_of_16 : decode cX1_of 16 = .ok (.invokeinterface 110 1, 5) := by decide +kernel
theorem dX1_of_21 : decode cX1_of 21 = .ok (.ifCond .eq 49, 3) := dk_153 0 49 (dk_at dksX1_of_0 21 rfl rfl)
theorem dX1_of_24 : decode cX1_of 24 = .ok (.aload 4, 2) := dk_25 4 (dk_at dksX1_of_1 0 rfl rfl)
theorem dX1_of_26 : decode cX1_of 26 = .ok (.invokeinterface 116 1, 5) := by decide +kernel
theorem dX1_of_31 : decode cX1_of 31 = .ok (.checkcast 68, 3) := dk_192 0 68 (dk_at dksX1_of_1 7 rfl rfl)
theorem dX1_of_34 : decode cX1_of 34 = .ok (.astore 5, 2) := dk_58 5 (dk_at dksX1_of_1 10 rfl rfl)
theorem dX1_of_36 : decode cX1_of 36 = .ok (.iload_n 3, 1) := dk_29 (dk_at dksX1_of_1 12 rfl rfl)
theorem dX1_of_37 : decode cX1_of 37 = .ok (.aload 5, 2) := dk_25 5 (dk_at dksX1_of_1 13 rfl rfl)
theorem dX1_of_39 : decode cX1_of 39 = .ok (.getfield 139, 3) := dk_180 0 139 (dk_at dksX1_of_1 15 rfl rfl)
theorem dX1_of_42 : decode cX1_of 42 = .ok (.aload_n 1, 1) := dk_43 (dk_at dksX1_of_1 18 rfl rfl)
theorem dX1_of_43 : decode cX1_of 43 = .ok (.if_acmp .ne 21, 3) := dk_166 0 21 (dk_at dksX1_of_1 19 rfl rfl)
theorem dX1_of_46 : decode cX1_of 46 = .ok (.iload_n 2, 1) := dk_28 (dk_at dksX1_of_1 22 rfl rfl)
theorem dX1_of_47 : decode cX1_of 47 = .ok (.iconst (-1), 1) := dk_2 (dk_at dksX1_of_1 23 rfl rfl)
theorem dX1_of_48 : decode cX1_of 48 = .ok (.if_icmp .eq 12, 3) := dk_159 0 12 (dk_at dksX1_of_2 0 rfl rfl)
theorem dX1_of_51 : decode cX1_of 51 = .ok (.aload 5, 2) := dk_25 5 (dk_at dksX1_of_2 3 rfl rfl)
theorem dX1_of_53 : decode cX1_of 53 = .ok (.getfield 143, 3) := dk_180 0 143 (dk_at dksX1_of_2 5 rfl rfl)
theorem dX1_of_56 : decode cX1_of 56 = .ok (.iload_n 2, 1) := dk_28 (dk_at dksX1_of_2 8 rfl rfl)
theorem dX1_of_57 : decode cX1_of 57 = .ok (.if_icmp .ne 7, 3) := dk_160 0 7 (dk_at dksX1_of_2 9 rfl rfl)
theorem dX1_of_60 : decode cX1_of 60 = .ok (.iconst 1, 1) := dk_4 (dk_at dksX1_of_2 12 rfl rfl)
theorem dX1_of_61 : decode cX1_of 61 = .ok (.goto 4, 3) := dk_167 0 4 (dk_at dksX1_of_2 13 rfl rfl)
theorem dX1_of_64 : decode cX1_of 64 = .ok (.iconst 0, 1) := dk_3 (dk_at dksX1_of_2 16 rfl rfl)
theorem dX1_of_65 : decode cX1_of 65 = .ok (.iadd, 1) := dk_96 (dk_at dksX1_of_2 17 rfl rfl)
theorem dX1_of_66 : decode cX1_of 66 = .ok (.istore_n 3, 1) := dk_62 (dk_at dksX1_of_2 18 rfl rfl)
theorem dX1_of_67 : decode cX1_of 67 = .ok (.goto (-53), 3) := dk_167 255 203 (dk_at dksX1_of_2 19 rfl rfl)
theorem dX1_of_70 : decode cX1_of 70 = .ok (.iload_n 3, 1) := dk_29 (dk_at dksX1_of_2 22 rfl rfl)
theorem dX1_of_71 : decode cX1_of 71 = .ok (.ireturn, 1) := dk_172 (dk_at dksX1_of_2 23 rfl rfl)
theorem zf_15_1_ebateHall_Item : zz_fok [15] 1 "DebateHall$Item" "kind" "LDebateHall$Kind;" := zz_fok1 (zR_15, zT_15, 8) rfl (by decide) rfl rfl (Or.inl rfl)
theorem q1741 : (Jvm.Cond.fieldLinkNest "DebateHall" (139 : Nat) "DebateHall$Item" "kind" "LDebateHall$Kind;" "DebateHall") ∈ lw_tbl := lw_at lw_m7 221 rfl
def wp_X1_of_B65 (Z : zzG) (k14 : Option Nat → Int32 → Int32 → Option Nat → zzM → Nat → Nat → Prop) (K : Option Value → zzM → Prop) (v1 : Option Nat) (v2 : Int32) (v4 : Option Nat) (s0 : Int32) (s1 : Int32) (M : zzM) (bc bs : Nat) : Prop := k14 v1 v2 (s1 + s0) v4 M bc bs
def wp_X1_of_B60 (Z : zzG) (k14 : Option Nat → Int32 → Int32 → Option Nat → zzM → Nat → Nat → Prop) (K : Option Value → zzM → Prop) (v1 : Option Nat) (v2 : Int32) (v4 : Option Nat) (s0 : Int32) (M : zzM) (bc bs : Nat) : Prop := wp_X1_of_B65 Z k14 K v1 v2 v4 (1 : Int32) s0 M bc bs
def wp_X1_of_B64 (Z : zzG) (k14 : Option Nat → Int32 → Int32 → Option Nat → zzM → Nat → Nat → Prop) (K : Option Value → zzM → Prop) (v1 : Option Nat) (v2 : Int32) (v4 : Option Nat) (s0 : Int32) (M : zzM) (bc bs : Nat) : Prop := wp_X1_of_B65 Z k14 K v1 v2 v4 (0 : Int32) s0 M bc bs
def wp_X1_of_L14 (Z : zzG) (K : Option Value → zzM → Prop) : Nat → Option Nat → Int32 → Int32 → Option Nat → zzM → Nat → Nat → Prop
  | 0, _, _, _, _, _, _, _ => False
  | n + 1, v1, v2, v3, v4, M, bc, bs => zty Z M v4 fun t => t = 23 ∧ wp_J24_hasNext Z v4 M (fun r8 M9 => zrI r8 fun x12 => if x12 = 0 then (K (some (.int v3)) M9) else (zty Z M9 v4 fun t => t = 23 ∧ wp_J24_next Z v4 M9 (fun r13 M14 => zrA r13 fun x17 => zcast Z M14 x17 [15] <| zgA Z M14 x17 [15] 1 fun x18 => if x18 = v1 then (if v2 = (-1 : Int32) then (wp_X1_of_B60 Z (wp_X1_of_L14 Z K n) K v1 v2 v4 v3 M14 bc bs) else (zgI Z M14 x17 [15] 3 fun x19 => if x19 = v2 then (wp_X1_of_B60 Z (wp_X1_of_L14 Z K n) K v1 v2 v4 v3 M14 bc bs) else (wp_X1_of_B64 Z (wp_X1_of_L14 Z K n) K v1 v2 v4 v3 M14 bc bs))) else (wp_X1_of_B64 Z (wp_X1_of_L14 Z K n) K v1 v2 v4 v3 M14 bc bs))))
def wp_X1_of (Z : zzG) (this : Option Nat) (p0 : Option Nat) (p1 : Int32) (M : zzM) (bc bs : Nat) (K : Option Value → zzM → Prop) : Prop := zgA Z M this [0] 2 fun x1 => zgA Z M x1 [2] 1 fun x2 => zty Z M x2 fun t => t = 18 ∧ zcc bc bs (fun c s k => wp_J2_iterator Z x2 M c s k) fun r3 M4 bc5 bs6 => zrA r3 fun x7 => ∃ n14 : Nat, wp_X1_of_L14 Z K n14 p0 p1 (0 : Int32) x7 M4 bc5 bs6
theorem ok_X1_of_B65 {G : zzX} (C : zz_C G cX1_of "DebateHall" 6) {K : Option Value → zzM → Prop} (E : zz_E G (some .int) K (fun _ _ _ => False)) (hH : zz_H G []) (hR : zz_Rm G 4) {k14 : Option Nat → Int32 → Int32 → Option Nat → zzM → Nat → Nat → Prop} (hk14 : ∀ (z0 : Option Nat) (z1 : Int32) (z2 : Int32) (z3 : Option Nat) (M : zzM) (bc bs : Nat), k14 z0 z1 z2 z3 M bc bs → zz_T G 6 M bc bs 14 [(1, va_rf z0), (2, .int z1), (3, .int z2), (4, va_rf z3)] []) {v1 : Option Nat} {v2 : Int32} {v4 : Option Nat} {s0 : Int32} {s1 : Int32} {M : zzM} {bc bs : Nat} (hw : wp_X1_of_B65 (zz_Zof G) k14 K v1 v2 v4 s0 s1 M bc bs) : zz_T G 6 M bc bs 65 [(1, va_rf v1), (2, .int v2), (4, va_rf v4)] [.int s0, .int s1] := by
  unfold wp_X1_of_B65 at hw
  refine zz_iadd C dX1_of_65 ?_
  refine zz_istore_n (i := 3) (lv' := [(3, .int (s1 + s0)), (1, va_rf v1), (2, .int v2), (4, va_rf v4)]) C dX1_of_66 rfl (by decide) rfl ?_
  refine zz_goto (tgt := 14) C dX1_of_67 (by decide) ?_
  refine zz_subP [1, 2, 0, 3] rfl ?_
  exact hk14 _ _ _ _ _ _ _ hw
theorem ok_X1_of_B60 {G : zzX} (C : zz_C G cX1_of "DebateHall" 6) {K : Option Value → zzM → Prop} (E : zz_E G (some .int) K (fun _ _ _ => False)) (hH : zz_H G []) (hR : zz_Rm G 4) {k14 : Option Nat → Int32 → Int32 → Option Nat → zzM → Nat → Nat → Prop} (hk14 : ∀ (z0 : Option Nat) (z1 : Int32) (z2 : Int32) (z3 : Option Nat) (M : zzM) (bc bs : Nat), k14 z0 z1 z2 z3 M bc bs → zz_T G 6 M bc bs 14 [(1, va_rf z0), (2, .int z1), (3, .int z2), (4, va_rf z3)] []) {v1 : Option Nat} {v2 : Int32} {v4 : Option Nat} {s0 : Int32} {M : zzM} {bc bs : Nat} (hw : wp_X1_of_B60 (zz_Zof G) k14 K v1 v2 v4 s0 M bc bs) : zz_T G 6 M bc bs 60 [(1, va_rf v1), (2, .int v2), (4, va_rf v4)] [.int s0] := by
  unfold wp_X1_of_B60 at hw
  refine zz_iconst (v := (1 : Int32)) C dX1_of_60 (by decide) ?_
  refine zz_goto (tgt := 65) C dX1_of_61 (by decide) ?_
  refine zz_subP [0, 1, 2] rfl ?_
  exact ok_X1_of_B65 C E hH hR hk14 hw
theorem ok_X1_of_B64 {G : zzX} (C : zz_C G cX1_of "DebateHall" 6) {K : Option Value → zzM → Prop} (E : zz_E G (some .int) K (fun _ _ _ => False)) (hH : zz_H G []) (hR : zz_Rm G 4) {k14 : Option Nat → Int32 → Int32 → Option Nat → zzM → Nat → Nat → Prop} (hk14 : ∀ (z0 : Option Nat) (z1 : Int32) (z2 : Int32) (z3 : Option Nat) (M : zzM) (bc bs : Nat), k14 z0 z1 z2 z3 M bc bs → zz_T G 6 M bc bs 14 [(1, va_rf z0), (2, .int z1), (3, .int z2), (4, va_rf z3)] []) {v1 : Option Nat} {v2 : Int32} {v4 : Option Nat} {s0 : Int32} {M : zzM} {bc bs : Nat} (hw : wp_X1_of_B64 (zz_Zof G) k14 K v1 v2 v4 s0 M bc bs) : zz_T G 6 M bc bs 64 [(1, va_rf v1), (2, .int v2), (4, va_rf v4)] [.int s0] := by
  unfold wp_X1_of_B64 at hw
  refine zz_iconst (v := (0 : Int32)) C dX1_of_64 (by decide) ?_
  refine zz_subP [0, 1, 2] rfl ?_
  exact ok_X1_of_B65 C E hH hR hk14 hw
theorem ok_X1_of_L14 {G : zzX} (C : zz_C G cX1_of "DebateHall" 6) {K : Option Value → zzM → Prop} (E : zz_E G (some .int) K (fun _ _ _ => False)) (hH : zz_H G []) (hR : zz_Rm G 4) : ∀ (n : Nat) (v1 : Option Nat) (v2 : Int32) (v3 : Int32) (v4 : Option Nat) (M : zzM) (bc bs : Nat), wp_X1_of_L14 (zz_Zof G) K n v1 v2 v3 v4 M bc bs → zz_T G 6 M bc bs 14 [(1, va_rf v1), (2, .int v2), (3, .int v3), (4, va_rf v4)] [] := by
  intro n
  induction n with
  | zero =>
    intro v1 v2 v3 v4 M bc bs hw
    exact False.elim hw
  | succ n ih =>
    intro v1 v2 v3 v4 M bc bs hw
    refine zz_aload C dX1_of_14 3 rfl ?_
    obtain ⟨a9, t9, b9, fs9, hro, hL, rfl, hw⟩ := ztyS hw
    refine zz_callF (r := (zR_23, zT_23, 4)) (x := ⟨"java/util/Iterator", "hasNext", "()Z"⟩) (As := []) (rest := []) (mc := 0) (ms := 0) C hR hro dX1_of_16 q1793 (by decide +kernel) q1174 q1172 zl_java_util_ArrayList_Itr zk_J24_hasNext zyo_java_util_Iterator_hasNext___Z rfl (by decide) (by decide) hL (ok_J24_hasNext (zz_hl C) hw) (Nat.zero_le _) (Nat.zero_le _) (zz_cat10 _ (Nat.le_of_ble_eq_true rfl)) (fun r8 M9 hw => zz_kI hw (fun x12 hw => ?_)) (fun _ _ _ h9 => h9.elim) rfl
    refine zz_if_eq (tgt := 70) C dX1_of_21 (by decide) hw (fun hw => ?_) (fun hw => ?_)
    · refine zz_iload_n C dX1_of_70 rfl 2 rfl ?_
      exact zz_iret C E dX1_of_71 hw
    · refine zz_aload C dX1_of_24 3 rfl ?_
      obtain ⟨a9, t9, b9, fs9, hro, hL, rfl, hw⟩ := ztyS hw
      refine zz_callF (r := (zR_23, zT_23, 4)) (x := ⟨"java/util/Iterator", "next", "()Ljava/lang/Object;"⟩) (As := []) (rest := []) (mc := 0) (ms := 0) C hR hro dX1_of_26 q1795 (by decide +kernel) q1183 q1181 zl_java_util_ArrayList_Itr zk_J24_next zyo_java_util_Iterator_next___Ljava_lang_Object_ rfl (by decide) (by decide) hL (ok_J24_next (zz_hl C) hw) (Nat.zero_le _) (Nat.zero_le _) (zz_cat10 _ (Nat.le_of_ble_eq_true rfl)) (fun r13 M14 hw => zz_kA hw (fun x17 hw => ?_)) (fun _ _ _ h9 => h9.elim) rfl
      refine zz_cast C dX1_of_31 q2105 zc_15_ebateHall_Item hw (fun hw => ?_)
      refine zz_astore (lv' := [(5, va_rf x17), (1, va_rf v1), (2, .int v2), (3, .int v3), (4, va_rf v4)]) C dX1_of_34 (by decide) (by simp [zz_cat, zz_catI, zz_catJ, zz_catD]) ?_
      refine zz_iload_n C dX1_of_36 rfl 3 rfl ?_
      refine zz_aload C dX1_of_37 0 rfl ?_
      refine zz_getA C dX1_of_39 (Or.inr ⟨_, q1741⟩) zf_15_1_ebateHall_Item hw (fun x18 hw => ?_)
      refine zz_aload_n C dX1_of_42 rfl 1 rfl ?_
      refine zz_acmp_ne (tgt := 64) C dX1_of_43 (by decide) hw (fun hw => ?_) (fun hw => ?_)
      · refine zz_subP [1, 2, 4] rfl ?_
        exact ok_X1_of_B64 C E hH hR (fun z0 z1 z2 z3 z4 z5 z6 hw => ih z0 z1 z2 z3 z4 z5 z6 hw) hw
      · refine zz_iload_n C dX1_of_46 rfl 2 rfl ?_
        refine zz_iconst (v := (-1 : Int32)) C dX1_of_47 (by decide) ?_
        refine zz_icmp_eq (tgt := 60) C dX1_of_48 (by decide) hw (fun hw => ?_) (fun hw => ?_)
        · refine zz_subP [1, 2, 4] rfl ?_
          exact ok_X1_of_B60 C E hH hR (fun z0 z1 z2 z3 z4 z5 z6 hw => ih z0 z1 z2 z3 z4 z5 z6 hw) hw
        · refine zz_aload C dX1_of_51 0 rfl ?_
          refine zz_getI C dX1_of_53 (Or.inr ⟨_, q1749⟩) zf_15_3_ebateHall_Item hw (fun x19 hw => ?_)
          refine zz_iload_n C dX1_of_56 rfl 2 rfl ?_
          refine zz_icmp_ne (tgt := 64) C dX1_of_57 (by decide) hw (fun hw => ?_) (fun hw => ?_)
          · refine zz_subP [1, 2, 4] rfl ?_
            exact ok_X1_of_B64 C E hH hR (fun z0 z1 z2 z3 z4 z5 z6 hw => ih z0 z1 z2 z3 z4 z5 z6 hw) hw
          · refine zz_subP [1, 2, 4] rfl ?_
            exact ok_X1_of_B60 C E hH hR (fun z0 z1 z2 z3 z4 z5 z6 hw => ih z0 z1 z2 z3 z4 z5 z6 hw) hw
theorem ok_X1_of {Z : zzG} {l : Launch} (hl : l.stackTraces = false) {this : Option Nat} {p0 : Option Nat} {p1 : Int32} {M : zzM} {mc ms : Nat} {K : Option Value → zzM → Prop} (hw : wp_X1_of Z this p0 p1 M mc ms K) : zz_Met Z l yX1_of (zz_ws yX1_of cX1_of 6 (some .int) none) 4 [va_rf this, va_rf p0, .int p1] M mc ms K (fun _ _ _ => False) := by
  refine zz_ofW hl (plainFor_of_name (by decide)) (by simp only [zz_sl0, zz_slI, zz_slJ, zz_slA] <;> decide) (fun G hZ hll C E hH hR hin => ?_)
  subst hZ
  subst hll
  rw [show lv_args 0 [va_rf this, va_rf p0, .int p1] = [(0, va_rf this), (1, va_rf p0), (2, .int p1)] by simp only [zz_la0, zz_laI, zz_laJ, zz_laA]]
  unfold wp_X1_of at hw
  refine zz_iconst (v := (0 : Int32)) C dX1_of_0 (by decide) ?_
  refine zz_istore_n (i := 3) (lv' := [(3, .int (0 : Int32)), (0, va_rf this), (1, va_rf p0), (2, .int p1)]) C dX1_of_1 rfl (by decide) rfl ?_
  refine zz_aload_n C dX1_of_2 rfl 1 rfl ?_
  refine zz_getA C dX1_of_3 (Or.inl q305) zf_0_2_DebateHall hw (fun x1 hw => ?_)
  refine zz_getA C dX1_of_6 (Or.inr ⟨_, q239⟩) zf_2_1_teHall_Minutes hw (fun x2 hw => ?_)
  obtain ⟨a9, t9, b9, fs9, hro, hL, rfl, hw⟩ := ztyS hw
  obtain ⟨c9, s9, hc9, hs9, hw⟩ := hw
  refine zz_callV (r := (zR_18, zT_18, 3)) (As := []) (rest := []) C hR hro dX1_of_9 (Or.inl q2104) q1145 (Or.inl q1146) zl_java_util_ArrayList zk_J2_iterator (Or.inl rfl) zy_J2_iterator rfl (by decide) (by decide) hL (ok_J2_iterator (zz_hl C) hw) hc9 hs9 (zz_cat10 _ (Nat.le_of_ble_eq_true rfl)) (fun r3 M4 hw => zz_kA hw (fun x7 hw => ?_)) (fun _ _ _ h9 => h9.elim) rfl
  refine zz_astore (lv' := [(4, va_rf x7), (3, .int (0 : Int32)), (0, va_rf this), (1, va_rf p0), (2, .int p1)]) C dX1_of_12 (by decide) rfl ?_
  refine zz_subP [3, 4, 1, 0] rfl ?_
  obtain ⟨n14, hw⟩ := hw
  exact ok_X1_of_L14 C E hH hR n14 _ _ _ _ _ _ _ hw
abbrev cX1_count : ByteArray := prog_1_method_14_code
def yX1_count : MethodName := ⟨"DebateHall", "count", "(I)I"⟩
def dkwX1_count_6 : List UInt8 := [180, 0, 25, 180, 0, 70, 172, 42, 180, 0, 43, 182, 0, 175, 172]
abbrev dktX1_count_6 : List UInt8 := dkwX1_count_6 ++ []
def dkwX1_count_5 : List UInt8 := [180, 0, 36, 3, 182, 0, 165, 172, 42, 2, 182, 0, 169, 172, 42, 180, 0, 36, 180, 0, 172, 172, 42]
abbrev dktX1_count_5 : List UInt8 := dkwX1_count_5 ++ dktX1_count_6
def dkwX1_count_4 : List UInt8 := [182, 0, 155, 172, 42, 180, 0, 36, 4, 182, 0, 165, 172, 42, 180, 0, 36, 5, 182, 0, 165, 172, 42]
abbrev dktX1_count_4 : List UInt8 := dkwX1_count_4 ++ dktX1_count_5
def dkwX1_count_3 : List UInt8 := [178, 0, 150, 2, 182, 0, 155, 172, 42, 178, 0, 159, 2, 182, 0, 155, 172, 42, 178, 0, 162, 2]
abbrev dktX1_count_3 : List UInt8 := dkwX1_count_3 ++ dktX1_count_4
def dkwX1_count_2 : List UInt8 := [42, 180, 0, 36, 180, 0, 47, 182, 0, 51, 172, 42, 180, 0, 36, 180, 0, 61, 182, 0, 51, 172, 42]
abbrev dktX1_count_2 : List UInt8 := dkwX1_count_2 ++ dktX1_count_3
def dkwX1_count_1 : List UInt8 := [170, 0, 0, 0, 155, 0, 0, 0, 0, 0, 0, 0, 10, 0, 0, 0, 57, 0, 0, 0, 68, 0, 0, 0, 79, 0, 0, 0, 88, 0, 0, 0, 97, 0, 0, 0, 106, 0, 0, 0, 115, 0, 0, 0, 124, 0, 0, 0, 133, 0, 0, 0, 139, 0, 0, 0, 147]
abbrev dktX1_count_1 : List UInt8 := dkwX1_count_1 ++ dktX1_count_2
def dkwX1_count_0 : List UInt8 := [27, 16, 12, 184, 0, 57, 27]
abbrev dktX1_count_0 : List UInt8 := dkwX1_count_0 ++ dktX1_count_1
theorem dksX1_count_0 : cX1_count.data.toList.drop 0 = dktX1_count_0 := by decide +kernel
theorem dksX1_count_1 : cX1_count.data.toList.drop 7 = dktX1_count_1 := dk_seg dksX1_count_0 7 rfl rfl
theorem dksX1_count_2 : cX1_count.data.toList.drop 64 = dktX1_count_2 := dk_seg dksX1_count_1 57 rfl rfl
theorem dksX1_count_3 : cX1_count.data.toList.drop 87 = dktX1_count_3 := dk_seg dksX1_count_2 23 rfl rfl
theorem dksX1_count_4 : cX1_count.data.toList.drop 109 = dktX1_count_4 := dk_seg dksX1_count_3 22 rfl rfl
theorem dksX1_count_5 : cX1_count.data.toList.drop 132 = dktX1_count_5 := dk_seg dksX1_count_4 23 rfl rfl
theorem dksX1_count_6 : cX1_count.data.toList.drop 155 = dktX1_count_6 := dk_seg dksX1_count_5 23 rfl rfl
theorem dX1_count_0 : decode cX1_count 0 = .ok (.iload_n 1, 1) := dk_27 (dk_at dksX1_count_0 0 rfl rfl)
theorem dX1_count_1 : decode cX1_count 1 = .ok (.bipush 12, 2) := dk_16 12 (dk_at dksX1_count_0 1 rfl rfl)
theorem dX1_count_3 : decode cX1_count 3 = .ok (.invokestatic 57, 3) := dk_184 0 57 (dk_at dksX1_count_0 3 rfl rfl)
theorem dX1_count_6 : decode cX1_count 6 = .ok (.iload_n 1, 1) := dk_27 (dk_at dksX1_count_0 6 rfl rfl)
theorem dX1_count_7 : decode cX1_count 7 = .ok (.tableswitch 155 0 10 #[57, 68, 79, 88, 97, 106, 115, 124, 133, 139, 147], 57) := by decide +kernel
theorem dX1_count_64 : decode cX1_count 64 = .ok (.aload_n 0, 1) := dk_42 (dk_at dksX1_count_2 0 rfl rfl)
theorem dX1_count_65 : decode cX1_count 65 = .ok (.getfield 36, 3) := dk_180 0 36 (dk_at dksX1_count_2 1 rfl rfl)
theorem dX1_count_68 : decode cX1_count 68 = .ok (.getfield 47, 3) := dk_180 0 47 (dk_at dksX1_count_2 4 rfl rfl)
theorem dX1_count_71 : decode cX1_count 71 = .ok (.invokevirtual 51, 3) := dk_182 0 51 (dk_at dksX1_count_2 7 rfl rfl)
theorem dX1_count_74 : decode cX1_count 74 = .ok (.ireturn, 1) := dk_172 (dk_at dksX1_count_2 10 rfl rfl)
theorem dX1_count_75 : decode cX1_count 75 = .ok (.aload_n 0, 1) := dk_42 (dk_at dksX1_count_2 11 rfl rfl)
theorem dX1_count_76 : decode cX1_count 76 = .ok (.getfield 36, 3) := dk_180 0 36 (dk_at dksX1_count_2 12 rfl rfl)
theorem dX1_count_79 : decode cX1_count 79 = .ok (.getfield 61, 3) := dk_180 0 61 (dk_at dksX1_count_2 15 rfl rfl)
theorem dX1_count_82 : decode cX1_count 82 = .ok (.invokevirtual 51, 3) := dk_182 0 51 (dk_at dksX1_count_2 18 rfl rfl)
theorem dX1_count_85 : decode cX1_count 85 = .ok (.ireturn, 1) := dk_172 (dk_at dksX1_count_2 21 rfl rfl)
theorem dX1_count_86 : decode cX1_count 86 = .ok (.aload_n 0, 1) := dk_42 (dk_at dksX1_count_2 22 rfl rfl)
theorem dX1_count_87 : decode cX1_count 87 = .ok (.getstatic 150, 3) := dk_178 0 150 (dk_at dksX1_count_3 0 rfl rfl)
theorem dX1_count_90 : decode cX1_count 90 = .ok (.iconst (-1), 1) := dk_2 (dk_at dksX1_count_3 3 rfl rfl)
theorem dX1_count_91 : decode cX1_count 91 = .ok (.invokevirtual 155, 3) := dk_182 0 155 (dk_at dksX1_count_3 4 rfl rfl)
theorem dX1_count_94 : decode cX1_count 94 = .ok (.ireturn, 1) := dk_172 (dk_at dksX1_count_3 7 rfl rfl)
theorem dX1_count_95 : decode cX1_count 95 = .ok (.aload_n 0, 1) := dk_42 (dk_at dksX1_count_3 8 rfl rfl)
theorem dX1_count_96 : decode cX1_count 96 = .ok (.getstatic 159, 3) := dk_178 0 159 (dk_at dksX1_count_3 9 rfl rfl)
theorem dX1_count_99 : decode cX1_count 99 = .ok (.iconst (-1), 1) := dk_2 (dk_at dksX1_count_3 12 rfl rfl)
theorem dX1_count_100 : decode cX1_count 100 = .ok (.invokevirtual 155, 3) := dk_182 0 155 (dk_at dksX1_count_3 13 rfl rfl)
theorem dX1_count_103 : decode cX1_count 103 = .ok (.ireturn, 1) := dk_172 (dk_at dksX1_count_3 16 rfl rfl)
theorem dX1_count_104 : decode cX1_count 104 = .ok (.aload_n 0, 1) := dk_42 (dk_at dksX1_count_3 17 rfl rfl)
theorem dX1_count_105 : decode cX1_count 105 = .ok (.getstatic 162, 3) := dk_178 0 162 (dk_at dksX1_count_3 18 rfl rfl)
theorem dX1_count_108 : decode cX1_count 108 = .ok (.iconst (-1), 1) := dk_2 (dk_at dksX1_count_3 21 rfl rfl)
theorem dX1_count_109 : decode cX1_count 109 = .ok (.invokevirtual 155, 3) := dk_182 0 155 (dk_at dksX1_count_4 0 rfl rfl)
theorem dX1_count_112 : decode cX1_count 112 = .ok (.ireturn, 1) := dk_172 (dk_at dksX1_count_4 3 rfl rfl)
theorem dX1_count_113 : decode cX1_count 113 = .ok (.aload_n 0, 1) := dk_42 (dk_at dksX1_count_4 4 rfl rfl)
theorem dX1_count_114 : decode cX1_count 114 = .ok (.getfield 36, 3) := dk_180 0 36 (dk_at dksX1_count_4 5 rfl rfl)
theorem dX1_count_117 : decode cX1_count 117 = .ok (.iconst 1, 1) := dk_4 (dk_at dksX1_count_4 8 rfl rfl)
theorem dX1_count_118 : decode cX1_count 118 = .ok (.invokevirtual 165, 3) := dk_182 0 165 (dk_at dksX1_count_4 9 rfl rfl)
theorem dX1_count_121 : decode cX1_count 121 = .ok (.ireturn, 1) := dk_172 (dk_at dksX1_count_4 12 rfl rfl)
theorem dX1_count_122 : decode cX1_count 122 = .ok (.aload_n 0, 1) := dk_42 (dk_at dksX1_count_4 13 rfl rfl)
theorem dX1_count_123 : decode cX1_count 123 = .ok (.getfield 36, 3) := dk_180 0 36 (dk_at dksX1_count_4 14 rfl rfl)
theorem dX1_count_126 : decode cX1_count 126 = .ok (.iconst 2, 1) := dk_5 (dk_at dksX1_count_4 17 rfl rfl)
theorem dX1_count_127 : decode cX1_count 127 = .ok (.invokevirtual 165, 3) := dk_182 0 165 (dk_at dksX1_count_4 18 rfl rfl)
theorem dX1_count_130 : decode cX1_count 130 = .ok (.ireturn, 1) := dk_172 (dk_at dksX1_count_4 21 rfl rfl)
theorem dX1_count_131 : decode cX1_count 131 = .ok (.aload_n 0, 1) := dk_42 (dk_at dksX1_count_4 22 rfl rfl)
theorem dX1_count_132 : decode cX1_count 132 = .ok (.getfield 36, 3) := dk_180 0 36 (dk_at dksX1_count_5 0 rfl rfl)
theorem dX1_count_135 : decode cX1_count 135 = .ok (.iconst 0, 1) := dk_3 (dk_at dksX1_count_5 3 rfl rfl)
theorem dX1_count_136 : decode cX1_count 136 = .ok (.invokevirtual 165, 3) := dk_182 0 165 (dk_at dksX1_count_5 4 rfl rfl)
theorem dX1_count_139 : decode cX1_count 139 = .ok (.ireturn, 1) := dk_172 (dk_at dksX1_count_5 7 rfl rfl)
theorem dX1_count_140 : decode cX1_count 140 = .ok (.aload_n 0, 1) := dk_42 (dk_at dksX1_count_5 8 rfl rfl)
theorem dX1_count_141 : decode cX1_count 141 = .ok (.iconst (-1), 1) := dk_2 (dk_at dksX1_count_5 9 rfl rfl)
theorem dX1_count_142 : decode cX1_count 142 = .ok (.invokevirtual 169, 3) := dk_182 0 169 (dk_at dksX1_count_5 10 rfl rfl)
theorem dX1_count_145 : decode cX1_count 145 = .ok (.ireturn, 1) := dk_172 (dk_at dksX1_count_5 13 rfl rfl)
theorem dX1_count_146 : decode cX1_count 146 = .ok (.aload_n 0, 1) := dk_42 (dk_at dksX1_count_5 14 rfl rfl)
theorem dX1_count_147 : decode cX1_count 147 = .ok (.getfield 36, 3) := dk_180 0 36 (dk_at dksX1_count_5 15 rfl rfl)
theorem dX1_count_150 : decode cX1_count 150 = .ok (.getfield 172, 3) := dk_180 0 172 (dk_at dksX1_count_5 18 rfl rfl)
theorem dX1_count_153 : decode cX1_count 153 = .ok (.ireturn, 1) := dk_172 (dk_at dksX1_count_5 21 rfl rfl)
theorem dX1_count_154 : decode cX1_count 154 = .ok (.aload_n 0, 1) := dk_42 (dk_at dksX1_count_5 22 rfl rfl)
theorem dX1_count_155 : decode cX1_count 155 = .ok (.getfield 25, 3) := dk_180 0 25 (dk_at dksX1_count_6 0 rfl rfl)
theorem dX1_count_158 : decode cX1_count 158 = .ok (.getfield 70, 3) := dk_180 0 70 (dk_at dksX1_count_6 3 rfl rfl)
theorem dX1_count_161 : decode cX1_count 161 = .ok (.ireturn, 1) := dk_172 (dk_at dksX1_count_6 6 rfl rfl)
theorem dX1_count_162 : decode cX1_count 162 = .ok (.aload_n 0, 1) := dk_42 (dk_at dksX1_count_6 7 rfl rfl)
theorem dX1_count_163 : decode cX1_count 163 = .ok (.getfield 43, 3) := dk_180 0 43 (dk_at dksX1_count_6 8 rfl rfl)
theorem dX1_count_166 : decode cX1_count 166 = .ok (.invokevirtual 175, 3) := dk_182 0 175 (dk_at dksX1_count_6 11 rfl rfl)
theorem dX1_count_169 : decode cX1_count 169 = .ok (.ireturn, 1) := dk_172 (dk_at dksX1_count_6 14 rfl rfl)
theorem q2134 : (Jvm.Cond.code ({ cls := "DebateHall", name := "requireIndex", desc := "(II)V" } : Jvm.MethodName) prog_1_method_3_code (2 : Nat) (Option.none : Option Jvm.ClassFile.FieldType)) ∈ lw_all := lw_g (lw_at lw_m9 134 rfl) rfl
theorem zk_X1_requireIndex : zz_cd yX1_requireIndex cX1_requireIndex 2 none none ∈ lw_all := q2134
theorem zy_X1_requireIndex : zz_yok yX1_requireIndex 2 = true := by decide +kernel
theorem q518 : (Jvm.Cond.code ({ cls := "java/lang/StringBuilder", name := "length", desc := "()I" } : Jvm.MethodName) prog_47_method_93_code (1 : Nat) (Option.some Jvm.ClassFile.FieldType.int)) ∈ lw_all := lw_g (lw_at lw_m2 198 rfl) rfl
theorem zk_J6_length : zz_cd yJ6_length cJ6_length 1 (some .int) none ∈ lw_all := q518
theorem zy_J6_length : zz_yok yJ6_length 0 = true := by decide +kernel
theorem q2111 : (Jvm.Cond.methodLink "DebateHall" (175 : Nat) ({ cls := "java/lang/StringBuilder", name := "length", desc := "()I" } : Jvm.MethodName)) ∈ lw_all := lw_g (lw_at lw_m9 111 rfl) rfl
theorem q517 : (Jvm.Cond.instanceMethod ({ cls := "java/lang/StringBuilder", name := "length", desc := "()I" } : Jvm.MethodName)) ∈ lw_all := lw_g (lw_at lw_m2 197 rfl) rfl
theorem q2874 : (Jvm.Cond.selects "java/lang/StringBuilder" ({ cls := "java/lang/StringBuilder", name := "length", desc := "()I" } : Jvm.MethodName) ({ cls := "java/lang/StringBuilder", name := "length", desc := "()I" } : Jvm.MethodName)) ∈ lw_all := lw_g (lw_at lw_m12 154 rfl) rfl
theorem q233 : (Jvm.Cond.fieldLinkNest "DebateHall" (47 : Nat) "DebateHall$Minutes" "speakers" "Ljava/util/ArrayList;" "DebateHall") ∈ lw_tbl := lw_at lw_m1 153 rfl
theorem q2017 : (Jvm.Cond.methodLink "DebateHall" (51 : Nat) ({ cls := "java/util/ArrayList", name := "size", desc := "()I" } : Jvm.MethodName)) ∈ lw_all := lw_g (lw_at lw_m9 17 rfl) rfl
theorem q2116 : (Jvm.Cond.fieldLink "DebateHall" (150 : Nat) "DebateHall$Kind" "CLAIM" "LDebateHall$Kind;") ∈ lw_all := lw_g (lw_at lw_m9 116 rfl) rfl
theorem q2121 : (Jvm.Cond.code ({ cls := "DebateHall", name := "of", desc := "(LDebateHall$Kind;I)I" } : Jvm.MethodName) prog_1_method_12_code (6 : Nat) (Option.some Jvm.ClassFile.FieldType.int)) ∈ lw_all := lw_g (lw_at lw_m9 121 rfl) rfl
theorem zk_X1_of : zz_cd yX1_of cX1_of 6 (some .int) none ∈ lw_all := q2121
theorem zy_X1_of : zz_yok yX1_of 2 = true := by decide +kernel
theorem q2118 : (Jvm.Cond.methodLink "DebateHall" (155 : Nat) ({ cls := "DebateHall", name := "of", desc := "(LDebateHall$Kind;I)I" } : Jvm.MethodName)) ∈ lw_all := lw_g (lw_at lw_m9 118 rfl) rfl
theorem q81 : (Jvm.Cond.initialized "DebateHall") ∈ lw_all := lw_g (lw_at lw_m1 1 rfl) rfl
theorem zl_DebateHall : Cond.initialized "DebateHall" ∈ lw_all := q81
theorem q2120 : (Jvm.Cond.instanceMethod ({ cls := "DebateHall", name := "of", desc := "(LDebateHall$Kind;I)I" } : Jvm.MethodName)) ∈ lw_all := lw_g (lw_at lw_m9 120 rfl) rfl
theorem q2153 : (Jvm.Cond.fieldLink "DebateHall" (159 : Nat) "DebateHall$Kind" "ATTACK" "LDebateHall$Kind;") ∈ lw_all := lw_g (lw_at lw_m9 153 rfl) rfl
theorem q2154 : (Jvm.Cond.fieldLink "DebateHall" (162 : Nat) "DebateHall$Kind" "SUPPORT" "LDebateHall$Kind;") ∈ lw_all := lw_g (lw_at lw_m9 154 rfl) rfl
theorem q2158 : (Jvm.Cond.code ({ cls := "DebateHall$Minutes", name := "with", desc := "(I)I" } : Jvm.MethodName) prog_12_method_13_code (4 : Nat) (Option.some Jvm.ClassFile.FieldType.int)) ∈ lw_all := lw_g (lw_at lw_m9 158 rfl) rfl
theorem zk_X3_with : zz_cd yX3_with cX3_with 4 (some .int) none ∈ lw_all := q2158
theorem zy_X3_with : zz_yok yX3_with 1 = true := by decide +kernel
theorem q2155 : (Jvm.Cond.methodLink "DebateHall" (165 : Nat) ({ cls := "DebateHall$Minutes", name := "with", desc := "(I)I" } : Jvm.MethodName)) ∈ lw_all := lw_g (lw_at lw_m9 155 rfl) rfl
theorem q2156 : (Jvm.Cond.instanceMethod ({ cls := "DebateHall$Minutes", name := "with", desc := "(I)I" } : Jvm.MethodName)) ∈ lw_all := lw_g (lw_at lw_m9 156 rfl) rfl
theorem q2157 : (Jvm.Cond.selects "DebateHall$Minutes" ({ cls := "DebateHall$Minutes", name := "with", desc := "(I)I" } : Jvm.MethodName) ({ cls := "DebateHall$Minutes", name := "with", desc := "(I)I" } : Jvm.MethodName)) ∈ lw_all := lw_g (lw_at lw_m9 157 rfl) rfl
theorem q2162 : (Jvm.Cond.code ({ cls := "DebateHall", name := "conceded", desc := "(I)I" } : Jvm.MethodName) prog_1_method_13_code (5 : Nat) (Option.some Jvm.ClassFile.FieldType.int)) ∈ lw_all := lw_g (lw_at lw_m9 162 rfl) rfl
theorem zk_X1_conceded : zz_cd yX1_conceded cX1_conceded 5 (some .int) none ∈ lw_all := q2162
theorem zy_X1_conceded : zz_yok yX1_conceded 1 = true := by decide +kernel
theorem q2159 : (Jvm.Cond.methodLink "DebateHall" (169 : Nat) ({ cls := "DebateHall", name := "conceded", desc := "(I)I" } : Jvm.MethodName)) ∈ lw_all := lw_g (lw_at lw_m9 159 rfl) rfl
theorem q2161 : (Jvm.Cond.instanceMethod ({ cls := "DebateHall", name := "conceded", desc := "(I)I" } : Jvm.MethodName)) ∈ lw_all := lw_g (lw_at lw_m9 161 rfl) rfl
theorem zf_2_7_teHall_Minutes : zz_fok [2] 7 "DebateHall$Minutes" "rounds" "I" := zz_fok1 (zR_2, zT_2, 8) rfl (by decide) rfl rfl (Or.inl rfl)
theorem q252 : (Jvm.Cond.fieldLinkNest "DebateHall" (172 : Nat) "DebateHall$Minutes" "rounds" "I" "DebateHall") ∈ lw_tbl := lw_at lw_m1 172 rfl
theorem zf_1_1_ebateHall_Tape : zz_fok [1] 1 "DebateHall$Tape" "size" "I" := zz_fok1 (zR_1, zT_1, 2) rfl (by decide) rfl rfl (Or.inl rfl)
theorem q157 : (Jvm.Cond.fieldLinkNest "DebateHall" (70 : Nat) "DebateHall$Tape" "size" "I" "DebateHall") ∈ lw_tbl := lw_at lw_m1 77 rfl
theorem q2132 : (Jvm.Cond.methodLink "DebateHall" (57 : Nat) ({ cls := "DebateHall", name := "requireIndex", desc := "(II)V" } : Jvm.MethodName)) ∈ lw_all := lw_g (lw_at lw_m9 132 rfl) rfl
theorem q2133 : (Jvm.Cond.static ({ cls := "DebateHall", name := "requireIndex", desc := "(II)V" } : Jvm.MethodName)) ∈ lw_all := lw_g (lw_at lw_m9 133 rfl) rfl
def wp_X1_count (Z : zzG) (this : Option Nat) (p0 : Int32) (M : zzM) (bc bs : Nat) (K : Option Value → zzM → Prop) (X : Nat → Nat → zzM → Prop) : Prop := zcx bc bs (fun c s k x => wp_X1_requireIndex Z p0 (12 : Int32) M c s k x) (fun r1 M2 bc3 bs4 => zrV r1 (if p0 = (0 : Int32) then (zgA Z M2 this [0] 2 fun x11 => zgA Z M2 x11 [2] 0 fun x12 => zty Z M2 x12 fun t => t = 18 ∧ wp_J2_size Z x12 M2 (fun r13 M14 => zrI r13 fun x17 => K (some (.int x17)) M14)) else if p0 = (1 : Int32) then (zgA Z M2 this [0] 2 fun x18 => zgA Z M2 x18 [2] 1 fun x19 => zty Z M2 x19 fun t => t = 18 ∧ wp_J2_size Z x19 M2 (fun r20 M21 => zrI r20 fun x24 => K (some (.int x24)) M21)) else if p0 = (2 : Int32) then (zty Z M2 this fun t => t = 0 ∧ zcc bc3 bs4 (fun c s k => wp_X1_of Z this (some (zz_ad Z 8)) (-1 : Int32) M2 c s k) fun r25 M26 bc27 bs28 => zrI r25 fun x29 => K (some (.int x29)) M26) else if p0 = (3 : Int32) then (zty Z M2 this fun t => t = 0 ∧ zcc bc3 bs4 (fun c s k => wp_X1_of Z this (some (zz_ad Z 9)) (-1 : Int32) M2 c s k) fun r30 M31 bc32 bs33 => zrI r30 fun x34 => K (some (.int x34)) M31) else if p0 = (4 : Int32) then (zty Z M2 this fun t => t = 0 ∧ zcc bc3 bs4 (fun c s k => wp_X1_of Z this (some (zz_ad Z 10)) (-1 : Int32) M2 c s k) fun r35 M36 bc37 bs38 => zrI r35 fun x39 => K (some (.int x39)) M36) else if p0 = (5 : Int32) then (zgA Z M2 this [0] 2 fun x40 => zty Z M2 x40 fun t => t = 2 ∧ wp_X3_with Z x40 (1 : Int32) M2 (fun r41 M42 => zrI r41 fun x45 => K (some (.int x45)) M42)) else if p0 = (6 : Int32) then (zgA Z M2 this [0] 2 fun x46 => zty Z M2 x46 fun t => t = 2 ∧ wp_X3_with Z x46 (2 : Int32) M2 (fun r47 M48 => zrI r47 fun x51 => K (some (.int x51)) M48)) else if p0 = (7 : Int32) then (zgA Z M2 this [0] 2 fun x52 => zty Z M2 x52 fun t => t = 2 ∧ wp_X3_with Z x52 (0 : Int32) M2 (fun r53 M54 => zrI r53 fun x57 => K (some (.int x57)) M54)) else if p0 = (8 : Int32) then (zty Z M2 this fun t => t = 0 ∧ zcc bc3 bs4 (fun c s k => wp_X1_conceded Z this (-1 : Int32) M2 c s k) fun r58 M59 bc60 bs61 => zrI r58 fun x62 => K (some (.int x62)) M59) else if p0 = (9 : Int32) then (zgA Z M2 this [0] 2 fun x63 => zgI Z M2 x63 [2] 7 fun x64 => K (some (.int x64)) M2) else if p0 = (10 : Int32) then (zgA Z M2 this [0] 0 fun x65 => zgI Z M2 x65 [1] 1 fun x66 => K (some (.int x66)) M2) else (zgA Z M2 this [0] 3 fun x5 => zty Z M2 x5 fun t => t = 20 ∧ wp_J6_length Z x5 M2 (fun r6 M7 => zrI r6 fun x10 => K (some (.int x10)) M7)))) (fun t q M _ _ => X t q M)
theorem ok_X1_count {Z : zzG} {l : Launch} (hl : l.stackTraces = false) {this : Option Nat} {p0 : Int32} {M : zzM} {mc ms : Nat} {K : Option Value → zzM → Prop} {X : Nat → Nat → zzM → Prop} (hw : wp_X1_count Z this p0 M mc ms K X) : zz_Met Z l yX1_count (zz_ws yX1_count cX1_count 2 (some .int) none) 7 [va_rf this, .int p0] M mc ms K X := by
  refine zz_ofW hl (plainFor_of_name (by decide)) (by simp only [zz_sl0, zz_slI, zz_slJ, zz_slA] <;> decide) (fun G hZ hll C E hH hR hin => ?_)
  subst hZ
  subst hll
  rw [show lv_args 0 [va_rf this, .int p0] = [(0, va_rf this), (1, .int p0)] by simp only [zz_la0, zz_laI, zz_laJ, zz_laA]]
  unfold wp_X1_count at hw
  refine zz_iload_n C dX1_count_0 rfl 1 rfl ?_
  refine zz_bipush (v := (12 : Int32)) C dX1_count_1 (by decide) ?_
  obtain ⟨c9, s9, hc9, hs9, hw⟩ := hw
  refine zz_callS (As := [.int p0, .int (12 : Int32)]) (rest := []) C hR dX1_count_3 (Or.inl q2132) q2133 zl_DebateHall zk_X1_requireIndex (Or.inl rfl) zy_X1_requireIndex (by decide) (by decide) (ok_X1_requireIndex (zz_hl C) hw) hc9 hs9 (zz_cat10 _ (Nat.le_of_ble_eq_true rfl)) (fun r1 M2 hw => zz_kV hw (fun hw => ?_)) (fun t9 q67 M68 hx => ?_) rfl
  · refine zz_iload_n C dX1_count_6 rfl 1 rfl ?_
    by_cases e0 : p0 = (0 : Int32)
    · replace hw := zz_ifp e0 hw
      refine zz_tin (j := 0) (off := 57) (tgt := 64) C dX1_count_7 e0 (by decide) (by decide) (by decide) rfl (by decide) ?_
      refine zz_aload_n C dX1_count_64 rfl 0 rfl ?_
      refine zz_getA C dX1_count_65 (Or.inl q305) zf_0_2_DebateHall hw (fun x11 hw => ?_)
      refine zz_getA C dX1_count_68 (Or.inr ⟨_, q233⟩) zf_2_0_teHall_Minutes hw (fun x12 hw => ?_)
      obtain ⟨a9, t9, b9, fs9, hro, hL, rfl, hw⟩ := ztyS hw
      refine zz_callV (r := (zR_18, zT_18, 3)) (As := []) (rest := []) (mc := 0) (ms := 0) C hR hro dX1_count_71 (Or.inl q2017) q354 (Or.inl q355) zl_java_util_ArrayList zk_J2_size (Or.inl rfl) zy_J2_size rfl (by decide) (by decide) hL (ok_J2_size (zz_hl C) hw) (Nat.zero_le _) (Nat.zero_le _) (zz_cat10 _ (Nat.le_of_ble_eq_true rfl)) (fun r13 M14 hw => zz_kI hw (fun x17 hw => ?_)) (fun _ _ _ h9 => h9.elim) rfl
      exact zz_iret C E dX1_count_74 hw
    · replace hw := zz_ifn e0 hw
      by_cases e1 : p0 = (1 : Int32)
      · replace hw := zz_ifp e1 hw
        refine zz_tin (j := 1) (off := 68) (tgt := 75) C dX1_count_7 e1 (by decide) (by decide) (by decide) rfl (by decide) ?_
        refine zz_aload_n C dX1_count_75 rfl 0 rfl ?_
        refine zz_getA C dX1_count_76 (Or.inl q305) zf_0_2_DebateHall hw (fun x18 hw => ?_)
        refine zz_getA C dX1_count_79 (Or.inr ⟨_, q239⟩) zf_2_1_teHall_Minutes hw (fun x19 hw => ?_)
        obtain ⟨a9, t9, b9, fs9, hro, hL, rfl, hw⟩ := ztyS hw
        refine zz_callV (r := (zR_18, zT_18, 3)) (As := []) (rest := []) (mc := 0) (ms := 0) C hR hro dX1_count_82 (Or.inl q2017) q354 (Or.inl q355) zl_java_util_ArrayList zk_J2_size (Or.inl rfl) zy_J2_size rfl (by decide) (by decide) hL (ok_J2_size (zz_hl C) hw) (Nat.zero_le _) (Nat.zero_le _) (zz_cat10 _ (Nat.le_of_ble_eq_true rfl)) (fun r20 M21 hw => zz_kI hw (fun x24 hw => ?_)) (fun _ _ _ h9 => h9.elim) rfl
        exact zz_iret C E dX1_count_85 hw
      · replace hw := zz_ifn e1 hw
        by_cases e2 : p0 = (2 : Int32)
        · replace hw := zz_ifp e2 hw
          refine zz_tin (j := 2) (off := 79) (tgt := 86) C dX1_count_7 e2 (by decide) (by decide) (by decide) rfl (by decide) ?_
          refine zz_aload_n C dX1_count_86 rfl 0 rfl ?_
          refine zz_gets (j := 8) (v := va_rf (some (zz_ad (zz_Zof G) 8))) C dX1_count_87 (Or.inl q2116) rfl (Or.inl rfl) rfl ?_
          refine zz_iconst (v := (-1 : Int32)) C dX1_count_90 (by decide) ?_
          obtain ⟨a9, t9, b9, fs9, hro, hL, rfl, hw⟩ := ztyS hw
          obtain ⟨c9, s9, hc9, hs9, hw⟩ := hw
          refine zz_callV (r := (zR_0, zT_0, 4)) (As := [va_rf (some (zz_ad (zz_Zof G) 8)), .int (-1 : Int32)]) (rest := []) C hR hro dX1_count_91 (Or.inl q2118) q2120 (Or.inl qs22) zl_DebateHall zk_X1_of (Or.inl rfl) zy_X1_of rfl (by decide) (by decide) hL (ok_X1_of (zz_hl C) hw) hc9 hs9 (zz_cat10 _ (Nat.le_of_ble_eq_true rfl)) (fun r25 M26 hw => zz_kI hw (fun x29 hw => ?_)) (fun _ _ _ h9 => h9.elim) rfl
          exact zz_iret C E dX1_count_94 hw
        · replace hw := zz_ifn e2 hw
          by_cases e3 : p0 = (3 : Int32)
          · replace hw := zz_ifp e3 hw
            refine zz_tin (j := 3) (off := 88) (tgt := 95) C dX1_count_7 e3 (by decide) (by decide) (by decide) rfl (by decide) ?_
            refine zz_aload_n C dX1_count_95 rfl 0 rfl ?_
            refine zz_gets (j := 9) (v := va_rf (some (zz_ad (zz_Zof G) 9))) C dX1_count_96 (Or.inl q2153) rfl (Or.inl rfl) rfl ?_
            refine zz_iconst (v := (-1 : Int32)) C dX1_count_99 (by decide) ?_
            obtain ⟨a9, t9, b9, fs9, hro, hL, rfl, hw⟩ := ztyS hw
            obtain ⟨c9, s9, hc9, hs9, hw⟩ := hw
            refine zz_callV (r := (zR_0, zT_0, 4)) (As := [va_rf (some (zz_ad (zz_Zof G) 9)), .int (-1 : Int32)]) (rest := []) C hR hro dX1_count_100 (Or.inl q2118) q2120 (Or.inl qs22) zl_DebateHall zk_X1_of (Or.inl rfl) zy_X1_of rfl (by decide) (by decide) hL (ok_X1_of (zz_hl C) hw) hc9 hs9 (zz_cat10 _ (Nat.le_of_ble_eq_true rfl)) (fun r30 M31 hw => zz_kI hw (fun x34 hw => ?_)) (fun _ _ _ h9 => h9.elim) rfl
            exact zz_iret C E dX1_count_103 hw
          · replace hw := zz_ifn e3 hw
            by_cases e4 : p0 = (4 : Int32)
            · replace hw := zz_ifp e4 hw
              refine zz_tin (j := 4) (off := 97) (tgt := 104) C dX1_count_7 e4 (by decide) (by decide) (by decide) rfl (by decide) ?_
              refine zz_aload_n C dX1_count_104 rfl 0 rfl ?_
              refine zz_gets (j := 10) (v := va_rf (some (zz_ad (zz_Zof G) 10))) C dX1_count_105 (Or.inl q2154) rfl (Or.inl rfl) rfl ?_
              refine zz_iconst (v := (-1 : Int32)) C dX1_count_108 (by decide) ?_
              obtain ⟨a9, t9, b9, fs9, hro, hL, rfl, hw⟩ := ztyS hw
              obtain ⟨c9, s9, hc9, hs9, hw⟩ := hw
              refine zz_callV (r := (zR_0, zT_0, 4)) (As := [va_rf (some (zz_ad (zz_Zof G) 10)), .int (-1 : Int32)]) (rest := []) C hR hro dX1_count_109 (Or.inl q2118) q2120 (Or.inl qs22) zl_DebateHall zk_X1_of (Or.inl rfl) zy_X1_of rfl (by decide) (by decide) hL (ok_X1_of (zz_hl C) hw) hc9 hs9 (zz_cat10 _ (Nat.le_of_ble_eq_true rfl)) (fun r35 M36 hw => zz_kI hw (fun x39 hw => ?_)) (fun _ _ _ h9 => h9.elim) rfl
              exact zz_iret C E dX1_count_112 hw
            · replace hw := zz_ifn e4 hw
              by_cases e5 : p0 = (5 : Int32)
              · replace hw := zz_ifp e5 hw
                refine zz_tin (j := 5) (off := 106) (tgt := 113) C dX1_count_7 e5 (by decide) (by decide) (by decide) rfl (by decide) ?_
                refine zz_aload_n C dX1_count_113 rfl 0 rfl ?_
                refine zz_getA C dX1_count_114 (Or.inl q305) zf_0_2_DebateHall hw (fun x40 hw => ?_)
                refine zz_iconst (v := (1 : Int32)) C dX1_count_117 (by decide) ?_
                obtain ⟨a9, t9, b9, fs9, hro, hL, rfl, hw⟩ := ztyS hw
                refine zz_callV (r := (zR_2, zT_2, 8)) (As := [.int (1 : Int32)]) (rest := []) (mc := 0) (ms := 0) C hR hro dX1_count_118 (Or.inl q2155) q2156 (Or.inl q2157) zl_DebateHall_Minutes zk_X3_with (Or.inl rfl) zy_X3_with rfl (by decide) (by decide) hL (ok_X3_with (zz_hl C) hw) (Nat.zero_le _) (Nat.zero_le _) (zz_cat10 _ (Nat.le_of_ble_eq_true rfl)) (fun r41 M42 hw => zz_kI hw (fun x45 hw => ?_)) (fun _ _ _ h9 => h9.elim) rfl
                exact zz_iret C E dX1_count_121 hw
              · replace hw := zz_ifn e5 hw
                by_cases e6 : p0 = (6 : Int32)
                · replace hw := zz_ifp e6 hw
                  refine zz_tin (j := 6) (off := 115) (tgt := 122) C dX1_count_7 e6 (by decide) (by decide) (by decide) rfl (by decide) ?_
                  refine zz_aload_n C dX1_count_122 rfl 0 rfl ?_
                  refine zz_getA C dX1_count_123 (Or.inl q305) zf_0_2_DebateHall hw (fun x46 hw => ?_)
                  refine zz_iconst (v := (2 : Int32)) C dX1_count_126 (by decide) ?_
                  obtain ⟨a9, t9, b9, fs9, hro, hL, rfl, hw⟩ := ztyS hw
                  refine zz_callV (r := (zR_2, zT_2, 8)) (As := [.int (2 : Int32)]) (rest := []) (mc := 0) (ms := 0) C hR hro dX1_count_127 (Or.inl q2155) q2156 (Or.inl q2157) zl_DebateHall_Minutes zk_X3_with (Or.inl rfl) zy_X3_with rfl (by decide) (by decide) hL (ok_X3_with (zz_hl C) hw) (Nat.zero_le _) (Nat.zero_le _) (zz_cat10 _ (Nat.le_of_ble_eq_true rfl)) (fun r47 M48 hw => zz_kI hw (fun x51 hw => ?_)) (fun _ _ _ h9 => h9.elim) rfl
                  exact zz_iret C E dX1_count_130 hw
                · replace hw := zz_ifn e6 hw
                  by_cases e7 : p0 = (7 : Int32)
                  · replace hw := zz_ifp e7 hw
                    refine zz_tin (j := 7) (off := 124) (tgt := 131) C dX1_count_7 e7 (by decide) (by decide) (by decide) rfl (by decide) ?_
                    refine zz_aload_n C dX1_count_131 rfl 0 rfl ?_
                    refine zz_getA C dX1_count_132 (Or.inl q305) zf_0_2_DebateHall hw (fun x52 hw => ?_)
                    refine zz_iconst (v := (0 : Int32)) C dX1_count_135 (by decide) ?_
                    obtain ⟨a9, t9, b9, fs9, hro, hL, rfl, hw⟩ := ztyS hw
                    refine zz_callV (r := (zR_2, zT_2, 8)) (As := [.int (0 : Int32)]) (rest := []) (mc := 0) (ms := 0) C hR hro dX1_count_136 (Or.inl q2155) q2156 (Or.inl q2157) zl_DebateHall_Minutes zk_X3_with (Or.inl rfl) zy_X3_with rfl (by decide) (by decide) hL (ok_X3_with (zz_hl C) hw) (Nat.zero_le _) (Nat.zero_le _) (zz_cat10 _ (Nat.le_of_ble_eq_true rfl)) (fun r53 M54 hw => zz_kI hw (fun x57 hw => ?_)) (fun _ _ _ h9 => h9.elim) rfl
                    exact zz_iret C E dX1_count_139 hw
                  · replace hw := zz_ifn e7 hw
                    by_cases e8 : p0 = (8 : Int32)
                    · replace hw := zz_ifp e8 hw
                      refine zz_tin (j := 8) (off := 133) (tgt := 140) C dX1_count_7 e8 (by decide) (by decide) (by decide) rfl (by decide) ?_
                      refine zz_aload_n C dX1_count_140 rfl 0 rfl ?_
                      refine zz_iconst (v := (-1 : Int32)) C dX1_count_141 (by decide) ?_
                      obtain ⟨a9, t9, b9, fs9, hro, hL, rfl, hw⟩ := ztyS hw
                      obtain ⟨c9, s9, hc9, hs9, hw⟩ := hw
                      refine zz_callV (r := (zR_0, zT_0, 4)) (As := [.int (-1 : Int32)]) (rest := []) C hR hro dX1_count_142 (Or.inl q2159) q2161 (Or.inl qs23) zl_DebateHall zk_X1_conceded (Or.inl rfl) zy_X1_conceded rfl (by decide) (by decide) hL (ok_X1_conceded (zz_hl C) hw) hc9 hs9 (zz_cat10 _ (Nat.le_of_ble_eq_true rfl)) (fun r58 M59 hw => zz_kI hw (fun x62 hw => ?_)) (fun _ _ _ h9 => h9.elim) rfl
                      exact zz_iret C E dX1_count_145 hw
                    · replace hw := zz_ifn e8 hw
                      by_cases e9 : p0 = (9 : Int32)
                      · replace hw := zz_ifp e9 hw
                        refine zz_tin (j := 9) (off := 139) (tgt := 146) C dX1_count_7 e9 (by decide) (by decide) (by decide) rfl (by decide) ?_
                        refine zz_aload_n C dX1_count_146 rfl 0 rfl ?_
                        refine zz_getA C dX1_count_147 (Or.inl q305) zf_0_2_DebateHall hw (fun x63 hw => ?_)
                        refine zz_getI C dX1_count_150 (Or.inr ⟨_, q252⟩) zf_2_7_teHall_Minutes hw (fun x64 hw => ?_)
                        exact zz_iret C E dX1_count_153 hw
                      · replace hw := zz_ifn e9 hw
                        by_cases e10 : p0 = (10 : Int32)
                        · replace hw := zz_ifp e10 hw
                          refine zz_tin (j := 10) (off := 147) (tgt := 154) C dX1_count_7 e10 (by decide) (by decide) (by decide) rfl (by decide) ?_
                          refine zz_aload_n C dX1_count_154 rfl 0 rfl ?_
                          refine zz_getA C dX1_count_155 (Or.inl q303) zf_0_0_DebateHall hw (fun x65 hw => ?_)
                          refine zz_getI C dX1_count_158 (Or.inr ⟨_, q157⟩) zf_1_1_ebateHall_Tape hw (fun x66 hw => ?_)
                          exact zz_iret C E dX1_count_161 hw
                        · replace hw := zz_ifn e10 hw
                          refine zz_tout (tgt := 162) C dX1_count_7 (by decide) (by decide) (fun j hj => ?_) ?_
                          · match j, hj with
                            | 0, _ => exact Or.inl (zz_ne e0 (by decide))
                            | 1, _ => exact Or.inl (zz_ne e1 (by decide))
                            | 2, _ => exact Or.inl (zz_ne e2 (by decide))
                            | 3, _ => exact Or.inl (zz_ne e3 (by decide))
                            | 4, _ => exact Or.inl (zz_ne e4 (by decide))
                            | 5, _ => exact Or.inl (zz_ne e5 (by decide))
                            | 6, _ => exact Or.inl (zz_ne e6 (by decide))
                            | 7, _ => exact Or.inl (zz_ne e7 (by decide))
                            | 8, _ => exact Or.inl (zz_ne e8 (by decide))
                            | 9, _ => exact Or.inl (zz_ne e9 (by decide))
                            | 10, _ => exact Or.inl (zz_ne e10 (by decide))
                            | n + 11, hj => exact absurd hj (Nat.not_lt.mpr (Nat.le_add_left _ _))
                          · refine zz_aload_n C dX1_count_162 rfl 0 rfl ?_
                            refine zz_getA C dX1_count_163 (Or.inl q306) zf_0_3_DebateHall hw (fun x5 hw => ?_)
                            obtain ⟨a9, t9, b9, fs9, hro, hL, rfl, hw⟩ := ztyS hw
                            refine zz_callV (r := (zR_20, zT_20, 4)) (As := []) (rest := []) (mc := 0) (ms := 0) C hR hro dX1_count_166 (Or.inl q2111) q517 (Or.inl q2874) zl_java_lang_StringBuilder zk_J6_length (Or.inl rfl) zy_J6_length rfl (by decide) (by decide) hL (ok_J6_length (zz_hl C) hw) (Nat.zero_le _) (Nat.zero_le _) (zz_cat10 _ (Nat.le_of_ble_eq_true rfl)) (fun r6 M7 hw => zz_kI hw (fun x10 hw => ?_)) (fun _ _ _ h9 => h9.elim) rfl
                            exact zz_iret C E dX1_count_169 hw
  · exact zz_out C E hH rfl hx
abbrev cJ19_checkIndex : ByteArray := prog_79_method_11_code
def yJ19_checkIndex : MethodName := ⟨"jdk/internal/util/Preconditions", "checkIndex", "(IILjava/util/function/BiFunction;)I"⟩
def dkwJ19_checkIndex_0 : List UInt8 := [26, 155, 0, 8, 26, 27, 161, 0, 10, 44, 26, 27, 184, 0, 95, 191, 26, 172]
abbrev dktJ19_checkIndex_0 : List UInt8 := dkwJ19_checkIndex_0 ++ []
theorem dksJ19_checkIndex_0 : cJ19_checkIndex.data.toList.drop 0 = dktJ19_checkIndex_0 := by decide +kernel
theorem dJ19_checkIndex_0 : decode cJ19_checkIndex 0 = .ok (.iload_n 0, 1) := dk_26 (dk_at dksJ19_checkIndex_0 0 rfl rfl)
theorem dJ19_checkIndex_1 : decode cJ19_checkIndex 1 = .ok (.ifCond .lt 8, 3) := dk_155 0 8 (dk_at dksJ19_checkIndex_0 1 rfl rfl)
theorem dJ19_checkIndex_4 : decode cJ19_checkIndex 4 = .ok (.iload_n 0, 1) := dk_26 (dk_at dksJ19_checkIndex_0 4 rfl rfl)
theorem dJ19_checkIndex_5 : decode cJ19_checkIndex 5 = .ok (.iload_n 1, 1) := dk_27 (dk_at dksJ19_checkIndex_0 5 rfl rfl)
theorem dJ19_checkIndex_6 : decode cJ19_checkIndex 6 = .ok (.if_icmp .lt 10, 3) := dk_161 0 10 (dk_at dksJ19_checkIndex_0 6 rfl rfl)
theorem dJ19_checkIndex_9 : decode cJ19_checkIndex 9 = .ok (.aload_n 2, 1) := dk_44 (dk_at dksJ19_checkIndex_0 9 rfl rfl)
theorem dJ19_checkIndex_10 : decode cJ19_checkIndex 10 = .ok (.iload_n 0, 1) := dk_26 (dk_at dksJ19_checkIndex_0 10 rfl rfl)
theorem dJ19_checkIndex_11 : decode cJ19_checkIndex 11 = .ok (.iload_n 1, 1) := dk_27 (dk_at dksJ19_checkIndex_0 11 rfl rfl)
theorem dJ19_checkIndex_12 : decode cJ19_checkIndex 12 = .ok (.invokestatic 95, 3) := dk_184 0 95 (dk_at dksJ19_checkIndex_0 12 rfl rfl)
theorem dJ19_checkIndex_16 : decode cJ19_checkIndex 16 = .ok (.iload_n 0, 1) := dk_26 (dk_at dksJ19_checkIndex_0 16 rfl rfl)
theorem dJ19_checkIndex_17 : decode cJ19_checkIndex 17 = .ok (.ireturn, 1) := dk_172 (dk_at dksJ19_checkIndex_0 17 rfl rfl)
def wp_J19_checkIndex_B9 (Z : zzG) (K : Option Value → zzM → Prop) (v0 : Int32) (v1 : Int32) (v2 : Option Nat) (M : zzM) : Prop := False
def wp_J19_checkIndex (Z : zzG) (p0 : Int32) (p1 : Int32) (p2 : Option Nat) (M : zzM) (K : Option Value → zzM → Prop) : Prop := if p0 < 0 then (wp_J19_checkIndex_B9 Z K p0 p1 p2 M) else (if p0 < p1 then (K (some (.int p0)) M) else (wp_J19_checkIndex_B9 Z K p0 p1 p2 M))
theorem ok_J19_checkIndex_B9 {G : zzX} (C : zz_C G cJ19_checkIndex "jdk/internal/util/Preconditions" 3) {K : Option Value → zzM → Prop} (E : zz_E G (some .int) K (fun _ _ _ => False)) (hH : zz_H G []) (hR : zz_Rm G 1) {v0 : Int32} {v1 : Int32} {v2 : Option Nat} {M : zzM} {bc bs : Nat} (hw : wp_J19_checkIndex_B9 (zz_Zof G) K v0 v1 v2 M) : zz_T G 3 M bc bs 9 [(0, .int v0), (1, .int v1), (2, va_rf v2)] [] := by
  unfold wp_J19_checkIndex_B9 at hw
  refine zz_aload_n C dJ19_checkIndex_9 rfl 2 rfl ?_
  refine zz_iload_n C dJ19_checkIndex_10 rfl 0 rfl ?_
  refine zz_iload_n C dJ19_checkIndex_11 rfl 1 rfl ?_
  exact hw.elim
theorem ok_J19_checkIndex {Z : zzG} {l : Launch} (hl : l.stackTraces = false) {p0 : Int32} {p1 : Int32} {p2 : Option Nat} {M : zzM} {mc ms : Nat} {K : Option Value → zzM → Prop} (hw : wp_J19_checkIndex Z p0 p1 p2 M K) : zz_Met Z l yJ19_checkIndex (zz_ws yJ19_checkIndex cJ19_checkIndex 3 (some .int) none) 1 [.int p0, .int p1, va_rf p2] M mc ms K (fun _ _ _ => False) := by
  refine zz_ofW hl (plainFor_of_name (by decide)) (by simp only [zz_sl0, zz_slI, zz_slJ, zz_slA] <;> decide) (fun G hZ hll C E hH hR hin => ?_)
  subst hZ
  subst hll
  rw [show lv_args 0 [.int p0, .int p1, va_rf p2] = [(0, .int p0), (1, .int p1), (2, va_rf p2)] by simp only [zz_la0, zz_laI, zz_laJ, zz_laA]]
  unfold wp_J19_checkIndex at hw
  refine zz_iload_n C dJ19_checkIndex_0 rfl 0 rfl ?_
  refine zz_if_lt (tgt := 9) C dJ19_checkIndex_1 (by decide) hw (fun hw => ?_) (fun hw => ?_)
  · refine zz_subP [0, 1, 2] rfl ?_
    exact ok_J19_checkIndex_B9 C E hH hR hw
  · refine zz_iload_n C dJ19_checkIndex_4 rfl 0 rfl ?_
    refine zz_iload_n C dJ19_checkIndex_5 rfl 1 rfl ?_
    refine zz_icmp_lt (tgt := 16) C dJ19_checkIndex_6 (by decide) hw (fun hw => ?_) (fun hw => ?_)
    · refine zz_iload_n C dJ19_checkIndex_16 rfl 0 rfl ?_
      exact zz_iret C E dJ19_checkIndex_17 hw
    · refine zz_subP [0, 1, 2] rfl ?_
      exact ok_J19_checkIndex_B9 C E hH hR hw
abbrev cJ22_checkIndex : ByteArray := prog_71_method_17_code
def yJ22_checkIndex : MethodName := ⟨"java/util/Objects", "checkIndex", "(II)I"⟩
def dkwJ22_checkIndex_0 : List UInt8 := [26, 27, 1, 184, 0, 105, 172]
abbrev dktJ22_checkIndex_0 : List UInt8 := dkwJ22_checkIndex_0 ++ []
theorem dksJ22_checkIndex_0 : cJ22_checkIndex.data.toList.drop 0 = dktJ22_checkIndex_0 := by decide +kernel
theorem dJ22_checkIndex_0 : decode cJ22_checkIndex 0 = .ok (.iload_n 0, 1) := dk_26 (dk_at dksJ22_checkIndex_0 0 rfl rfl)
theorem dJ22_checkIndex_1 : decode cJ22_checkIndex 1 = .ok (.iload_n 1, 1) := dk_27 (dk_at dksJ22_checkIndex_0 1 rfl rfl)
theorem dJ22_checkIndex_2 : decode cJ22_checkIndex 2 = .ok (.aconst_null, 1) := dk_1 (dk_at dksJ22_checkIndex_0 2 rfl rfl)
theorem dJ22_checkIndex_3 : decode cJ22_checkIndex 3 = .ok (.invokestatic 105, 3) := dk_184 0 105 (dk_at dksJ22_checkIndex_0 3 rfl rfl)
theorem dJ22_checkIndex_6 : decode cJ22_checkIndex 6 = .ok (.ireturn, 1) := dk_172 (dk_at dksJ22_checkIndex_0 6 rfl rfl)
theorem q494 : (Jvm.Cond.code ({ cls := "jdk/internal/util/Preconditions", name := "checkIndex", desc := "(IILjava/util/function/BiFunction;)I" } : Jvm.MethodName) prog_79_method_11_code (3 : Nat) (Option.some Jvm.ClassFile.FieldType.int)) ∈ lw_all := lw_g (lw_at lw_m2 174 rfl) rfl
theorem zk_J19_checkIndex : zz_cd yJ19_checkIndex cJ19_checkIndex 3 (some .int) none ∈ lw_all := q494
theorem zy_J19_checkIndex : zz_yok yJ19_checkIndex 3 = true := by decide +kernel
theorem q883 : (Jvm.Cond.methodLink "java/util/Objects" (105 : Nat) ({ cls := "jdk/internal/util/Preconditions", name := "checkIndex", desc := "(IILjava/util/function/BiFunction;)I" } : Jvm.MethodName)) ∈ lw_all := lw_g (lw_at lw_m4 83 rfl) rfl
theorem zl_jdk_internal_util_Preconditions : Cond.initialized "jdk/internal/util/Preconditions" ∈ lw_all := q110
theorem q493 : (Jvm.Cond.static ({ cls := "jdk/internal/util/Preconditions", name := "checkIndex", desc := "(IILjava/util/function/BiFunction;)I" } : Jvm.MethodName)) ∈ lw_all := lw_g (lw_at lw_m2 173 rfl) rfl
def wp_J22_checkIndex (Z : zzG) (p0 : Int32) (p1 : Int32) (M : zzM) (K : Option Value → zzM → Prop) : Prop := wp_J19_checkIndex Z p0 p1 none M (fun r1 M2 => zrI r1 fun x5 => K (some (.int x5)) M2)
theorem ok_J22_checkIndex {Z : zzG} {l : Launch} (hl : l.stackTraces = false) {p0 : Int32} {p1 : Int32} {M : zzM} {mc ms : Nat} {K : Option Value → zzM → Prop} (hw : wp_J22_checkIndex Z p0 p1 M K) : zz_Met Z l yJ22_checkIndex (zz_ws yJ22_checkIndex cJ22_checkIndex 2 (some .int) none) 2 [.int p0, .int p1] M mc ms K (fun _ _ _ => False) := by
  refine zz_ofW hl (plainFor_of_name (by decide)) (by simp only [zz_sl0, zz_slI, zz_slJ, zz_slA] <;> decide) (fun G hZ hll C E hH hR hin => ?_)
  subst hZ
  subst hll
  rw [show lv_args 0 [.int p0, .int p1] = [(0, .int p0), (1, .int p1)] by simp only [zz_la0, zz_laI, zz_laJ, zz_laA]]
  unfold wp_J22_checkIndex at hw
  refine zz_iload_n C dJ22_checkIndex_0 rfl 0 rfl ?_
  refine zz_iload_n C dJ22_checkIndex_1 rfl 1 rfl ?_
  refine zz_null C dJ22_checkIndex_2 ?_
  refine zz_callS (As := [.int p0, .int p1, va_rf none]) (rest := []) (mc := 0) (ms := 0) C hR dJ22_checkIndex_3 (Or.inl q883) q493 zl_jdk_internal_util_Preconditions zk_J19_checkIndex (Or.inl rfl) zy_J19_checkIndex (by decide) (by decide) (ok_J19_checkIndex (zz_hl C) hw) (Nat.zero_le _) (Nat.zero_le _) (zz_cat10 _ (Nat.le_of_ble_eq_true rfl)) (fun r1 M2 hw => zz_kI hw (fun x5 hw => ?_)) (fun _ _ _ h9 => h9.elim) rfl
  exact zz_iret C E dJ22_checkIndex_6 hw
abbrev cJ2_elementData : ByteArray := prog_59_method_18_code
def yJ2_elementData : MethodName := ⟨"java/util/ArrayList", "elementData", "(I)Ljava/lang/Object;"⟩
def dkwJ2_elementData_0 : List UInt8 := [42, 180, 0, 9, 27, 50, 176]
abbrev dktJ2_elementData_0 : List UInt8 := dkwJ2_elementData_0 ++ []
theorem dksJ2_elementData_0 : cJ2_elementData.data.toList.drop 0 = dktJ2_elementData_0 := by decide +kernel
theorem dJ2_elementData_0 : decode cJ2_elementData 0 = .ok (.aload_n 0, 1) := dk_42 (dk_at dksJ2_elementData_0 0 rfl rfl)
theorem dJ2_elementData_1 : decode cJ2_elementData 1 = .ok (.getfield 9, 3) := dk_180 0 9 (dk_at dksJ2_elementData_0 1 rfl rfl)
theorem dJ2_elementData_4 : decode cJ2_elementData 4 = .ok (.iload_n 1, 1) := dk_27 (dk_at dksJ2_elementData_0 4 rfl rfl)
theorem dJ2_elementData_5 : decode cJ2_elementData 5 = .ok (.aaload, 1) := dk_50 (dk_at dksJ2_elementData_0 5 rfl rfl)
theorem dJ2_elementData_6 : decode cJ2_elementData 6 = .ok (.areturn, 1) := dk_176 (dk_at dksJ2_elementData_0 6 rfl rfl)
def wp_J2_elementData (Z : zzG) (this : Option Nat) (p0 : Int32) (M : zzM) (K : Option Value → zzM → Prop) : Prop := zgA Z M this [18] 1 fun x1 => zaA Z M x1 [103, 104, 105] p0 fun x2 => K (some (va_rf x2)) M
theorem ok_J2_elementData {Z : zzG} {l : Launch} (hl : l.stackTraces = false) {this : Option Nat} {p0 : Int32} {M : zzM} {mc ms : Nat} {K : Option Value → zzM → Prop} (hw : wp_J2_elementData Z this p0 M K) : zz_Met Z l yJ2_elementData (zz_ws yJ2_elementData cJ2_elementData 2 (some (.object "java/lang/Object")) none) 1 [va_rf this, .int p0] M mc ms K (fun _ _ _ => False) := by
  refine zz_ofW hl (plainFor_of_name (by decide)) (by simp only [zz_sl0, zz_slI, zz_slJ, zz_slA] <;> decide) (fun G hZ hll C E hH hR hin => ?_)
  subst hZ
  subst hll
  rw [show lv_args 0 [va_rf this, .int p0] = [(0, va_rf this), (1, .int p0)] by simp only [zz_la0, zz_laI, zz_laJ, zz_laA]]
  unfold wp_J2_elementData at hw
  refine zz_aload_n C dJ2_elementData_0 rfl 0 rfl ?_
  refine zz_getA C dJ2_elementData_1 (Or.inl q184) zf_18_1_util_ArrayList hw (fun x1 hw => ?_)
  refine zz_iload_n C dJ2_elementData_4 rfl 1 rfl ?_
  refine zz_aald C dJ2_elementData_5 hw (fun x2 hw => ?_)
  exact zz_aret C E (Or.inl ⟨_, rfl⟩) dJ2_elementData_6 hw
abbrev cJ2_get : ByteArray := prog_59_method_20_code
def yJ2_get : MethodName := ⟨"java/util/ArrayList", "get", "(I)Ljava/lang/Object;"⟩
def dkwJ2_get_0 : List UInt8 := [27, 42, 180, 0, 48, 184, 0, 118, 87, 42, 27, 182, 0, 123, 176]
abbrev dktJ2_get_0 : List UInt8 := dkwJ2_get_0 ++ []
theorem dksJ2_get_0 : cJ2_get.data.toList.drop 0 = dktJ2_get_0 := by decide +kernel
theorem dJ2_get_0 : decode cJ2_get 0 = .ok (.iload_n 1, 1) := dk_27 (dk_at dksJ2_get_0 0 rfl rfl)
theorem dJ2_get_1 : decode cJ2_get 1 = .ok (.aload_n 0, 1) := dk_42 (dk_at dksJ2_get_0 1 rfl rfl)
theorem dJ2_get_2 : decode cJ2_get 2 = .ok (.getfield 48, 3) := dk_180 0 48 (dk_at dksJ2_get_0 2 rfl rfl)
theorem dJ2_get_5 : decode cJ2_get 5 = .ok (.invokestatic 118, 3) := dk_184 0 118 (dk_at dksJ2_get_0 5 rfl rfl)
theorem dJ2_get_8 : decode cJ2_get 8 = .ok (.pop, 1) := dk_87 (dk_at dksJ2_get_0 8 rfl rfl)
theorem dJ2_get_9 : decode cJ2_get 9 = .ok (.aload_n 0, 1) := dk_42 (dk_at dksJ2_get_0 9 rfl rfl)
theorem dJ2_get_10 : decode cJ2_get 10 = .ok (.iload_n 1, 1) := dk_27 (dk_at dksJ2_get_0 10 rfl rfl)
theorem dJ2_get_11 : decode cJ2_get 11 = .ok (.invokevirtual 123, 3) := dk_182 0 123 (dk_at dksJ2_get_0 11 rfl rfl)
theorem dJ2_get_14 : decode cJ2_get 14 = .ok (.areturn, 1) := dk_176 (dk_at dksJ2_get_0 14 rfl rfl)
theorem q882 : (Jvm.Cond.code ({ cls := "java/util/Objects", name := "checkIndex", desc := "(II)I" } : Jvm.MethodName) prog_71_method_17_code (2 : Nat) (Option.some Jvm.ClassFile.FieldType.int)) ∈ lw_all := lw_g (lw_at lw_m4 82 rfl) rfl
theorem zk_J22_checkIndex : zz_cd yJ22_checkIndex cJ22_checkIndex 2 (some .int) none ∈ lw_all := q882
theorem zy_J22_checkIndex : zz_yok yJ22_checkIndex 2 = true := by decide +kernel
theorem q887 : (Jvm.Cond.code ({ cls := "java/util/ArrayList", name := "elementData", desc := "(I)Ljava/lang/Object;" } : Jvm.MethodName) prog_59_method_18_code (2 : Nat) (Option.some (Jvm.ClassFile.FieldType.object "java/lang/Object"))) ∈ lw_all := lw_g (lw_at lw_m4 87 rfl) rfl
theorem zk_J2_elementData : zz_cd yJ2_elementData cJ2_elementData 2 (some (.object "java/lang/Object")) none ∈ lw_all := q887
theorem zy_J2_elementData : zz_yok yJ2_elementData 1 = true := by decide +kernel
theorem q884 : (Jvm.Cond.methodLink "java/util/ArrayList" (123 : Nat) ({ cls := "java/util/ArrayList", name := "elementData", desc := "(I)Ljava/lang/Object;" } : Jvm.MethodName)) ∈ lw_all := lw_g (lw_at lw_m4 84 rfl) rfl
theorem q885 : (Jvm.Cond.instanceMethod ({ cls := "java/util/ArrayList", name := "elementData", desc := "(I)Ljava/lang/Object;" } : Jvm.MethodName)) ∈ lw_all := lw_g (lw_at lw_m4 85 rfl) rfl
theorem q886 : (Jvm.Cond.selects "java/util/ArrayList" ({ cls := "java/util/ArrayList", name := "elementData", desc := "(I)Ljava/lang/Object;" } : Jvm.MethodName) ({ cls := "java/util/ArrayList", name := "elementData", desc := "(I)Ljava/lang/Object;" } : Jvm.MethodName)) ∈ lw_all := lw_g (lw_at lw_m4 86 rfl) rfl
theorem q880 : (Jvm.Cond.methodLink "java/util/ArrayList" (118 : Nat) ({ cls := "java/util/Objects", name := "checkIndex", desc := "(II)I" } : Jvm.MethodName)) ∈ lw_all := lw_g (lw_at lw_m4 80 rfl) rfl
theorem q114 : (Jvm.Cond.initialized "java/util/Objects") ∈ lw_all := lw_g (lw_at lw_m1 34 rfl) rfl
theorem zl_java_util_Objects : Cond.initialized "java/util/Objects" ∈ lw_all := q114
theorem q881 : (Jvm.Cond.static ({ cls := "java/util/Objects", name := "checkIndex", desc := "(II)I" } : Jvm.MethodName)) ∈ lw_all := lw_g (lw_at lw_m4 81 rfl) rfl
def wp_J2_get (Z : zzG) (this : Option Nat) (p0 : Int32) (M : zzM) (K : Option Value → zzM → Prop) : Prop := zgI Z M this [18] 2 fun x1 => wp_J22_checkIndex Z p0 x1 M (fun r2 M3 => zrI r2 fun x6 => zty Z M3 this fun t => t = 18 ∧ wp_J2_elementData Z this p0 M3 (fun r7 M8 => zrA r7 fun x11 => K (some (va_rf x11)) M8))
theorem ok_J2_get {Z : zzG} {l : Launch} (hl : l.stackTraces = false) {this : Option Nat} {p0 : Int32} {M : zzM} {mc ms : Nat} {K : Option Value → zzM → Prop} (hw : wp_J2_get Z this p0 M K) : zz_Met Z l yJ2_get (zz_ws yJ2_get cJ2_get 2 (some (.object "java/lang/Object")) none) 3 [va_rf this, .int p0] M mc ms K (fun _ _ _ => False) := by
  refine zz_ofW hl (plainFor_of_name (by decide)) (by simp only [zz_sl0, zz_slI, zz_slJ, zz_slA] <;> decide) (fun G hZ hll C E hH hR hin => ?_)
  subst hZ
  subst hll
  rw [show lv_args 0 [va_rf this, .int p0] = [(0, va_rf this), (1, .int p0)] by simp only [zz_la0, zz_laI, zz_laJ, zz_laA]]
  unfold wp_J2_get at hw
  refine zz_iload_n C dJ2_get_0 rfl 1 rfl ?_
  refine zz_aload_n C dJ2_get_1 rfl 0 rfl ?_
  refine zz_getI C dJ2_get_2 (Or.inl q187) zf_18_2_util_ArrayList hw (fun x1 hw => ?_)
  refine zz_callS (As := [.int p0, .int x1]) (rest := []) (mc := 0) (ms := 0) C hR dJ2_get_5 (Or.inl q880) q881 zl_java_util_Objects zk_J22_checkIndex (Or.inl rfl) zy_J22_checkIndex (by decide) (by decide) (ok_J22_checkIndex (zz_hl C) hw) (Nat.zero_le _) (Nat.zero_le _) (zz_cat10 _ (Nat.le_of_ble_eq_true rfl)) (fun r2 M3 hw => zz_kI hw (fun x6 hw => ?_)) (fun _ _ _ h9 => h9.elim) rfl
  refine zz_pop C dJ2_get_8 rfl ?_
  refine zz_aload_n C dJ2_get_9 rfl 0 rfl ?_
  refine zz_iload_n C dJ2_get_10 rfl 1 rfl ?_
  obtain ⟨a9, t9, b9, fs9, hro, hL, rfl, hw⟩ := ztyS hw
  refine zz_callV (r := (zR_18, zT_18, 3)) (As := [.int p0]) (rest := []) (mc := 0) (ms := 0) C hR hro dJ2_get_11 (Or.inl q884) q885 (Or.inl q886) zl_java_util_ArrayList zk_J2_elementData (Or.inl rfl) zy_J2_elementData rfl (by decide) (by decide) hL (ok_J2_elementData (zz_hl C) hw) (Nat.zero_le _) (Nat.zero_le _) (zz_cat10 _ (Nat.le_of_ble_eq_true rfl)) (fun r7 M8 hw => zz_kA hw (fun x11 hw => ?_)) (fun _ _ _ h9 => h9.elim) rfl
  exact zz_aret C E (Or.inl ⟨_, rfl⟩) dJ2_get_14 hw
abbrev cX3_isIn : ByteArray := prog_12_method_5_code
def yX3_isIn : MethodName := ⟨"DebateHall$Minutes", "isIn", "(LDebateHall$Item;)Z"⟩
def dkwX3_isIn_0 : List UInt8 := [42, 180, 0, 31, 43, 180, 0, 81, 46, 4, 160, 0, 7, 4, 167, 0, 4, 3, 172]
abbrev dktX3_isIn_0 : List UInt8 := dkwX3_isIn_0 ++ []
theorem dksX3_isIn_0 : cX3_isIn.data.toList.drop 0 = dktX3_isIn_0 := by decide +kernel
theorem dX3_isIn_0 : decode cX3_isIn 0 = .ok (.aload_n 0, 1) := dk_42 (dk_at dksX3_isIn_0 0 rfl rfl)
theorem dX3_isIn_1 : decode cX3_isIn 1 = .ok (.getfield 31, 3) := dk_180 0 31 (dk_at dksX3_isIn_0 1 rfl rfl)
theorem dX3_isIn_4 : decode cX3_isIn 4 = .ok (.aload_n 1, 1) := dk_43 (dk_at dksX3_isIn_0 4 rfl rfl)
theorem dX3_isIn_5 : decode cX3_isIn 5 = .ok (.getfield 81, 3) := dk_180 0 81 (dk_at dksX3_isIn_0 5 rfl rfl)
theorem dX3_isIn_8 : decode cX3_isIn 8 = .ok (.iaload, 1) := dk_46 (dk_at dksX3_isIn_0 8 rfl rfl)
theorem dX3_isIn_9 : decode cX3_isIn 9 = .ok (.iconst 1, 1) := dk_4 (dk_at dksX3_isIn_0 9 rfl rfl)
theorem dX3_isIn_10 : decode cX3_isIn 10 = .ok (.if_icmp .ne 7, 3) := dk_160 0 7 (dk_at dksX3_isIn_0 10 rfl rfl)
theorem dX3_isIn_13 : decode cX3_isIn 13 = .ok (.iconst 1, 1) := dk_4 (dk_at dksX3_isIn_0 13 rfl rfl)
theorem dX3_isIn_14 : decode cX3_isIn 14 = .ok (.goto 4, 3) := dk_167 0 4 (dk_at dksX3_isIn_0 14 rfl rfl)
theorem dX3_isIn_17 : decode cX3_isIn 17 = .ok (.iconst 0, 1) := dk_3 (dk_at dksX3_isIn_0 17 rfl rfl)
theorem dX3_isIn_18 : decode cX3_isIn 18 = .ok (.ireturn, 1) := dk_172 (dk_at dksX3_isIn_0 18 rfl rfl)
theorem zf_15_0_ebateHall_Item : zz_fok [15] 0 "DebateHall$Item" "number" "I" := zz_fok1 (zR_15, zT_15, 8) rfl (by decide) rfl rfl (Or.inl rfl)
theorem q1735 : (Jvm.Cond.fieldLinkNest "DebateHall$Minutes" (81 : Nat) "DebateHall$Item" "number" "I" "DebateHall") ∈ lw_tbl := lw_at lw_m7 215 rfl
def wp_X3_isIn_B18 (Z : zzG) (K : Option Value → zzM → Prop) (s0 : Int32) (M : zzM) : Prop := narrow .boolean (.int s0) = .int s0 ∧ K (some (.int s0)) M
def wp_X3_isIn (Z : zzG) (this : Option Nat) (p0 : Option Nat) (M : zzM) (K : Option Value → zzM → Prop) : Prop := zgA Z M this [2] 4 fun x1 => zgI Z M p0 [15] 0 fun x2 => zaI Z M x1 [100] x2 fun x3 => if x3 = (1 : Int32) then (wp_X3_isIn_B18 Z K (1 : Int32) M) else (wp_X3_isIn_B18 Z K (0 : Int32) M)
theorem ok_X3_isIn_B18 {G : zzX} (C : zz_C G cX3_isIn "DebateHall$Minutes" 2) {K : Option Value → zzM → Prop} (E : zz_E G (some .boolean) K (fun _ _ _ => False)) (hH : zz_H G []) (hR : zz_Rm G 1) {s0 : Int32} {M : zzM} {bc bs : Nat} (hw : wp_X3_isIn_B18 (zz_Zof G) K s0 M) : zz_T G 2 M bc bs 18 [] [.int s0] := by
  unfold wp_X3_isIn_B18 at hw
  exact zz_zret C E dX3_isIn_18 hw
theorem ok_X3_isIn {Z : zzG} {l : Launch} (hl : l.stackTraces = false) {this : Option Nat} {p0 : Option Nat} {M : zzM} {mc ms : Nat} {K : Option Value → zzM → Prop} (hw : wp_X3_isIn Z this p0 M K) : zz_Met Z l yX3_isIn (zz_ws yX3_isIn cX3_isIn 2 (some .boolean) none) 1 [va_rf this, va_rf p0] M mc ms K (fun _ _ _ => False) := by
  refine zz_ofW hl (plainFor_of_name (by decide)) (by simp only [zz_sl0, zz_slI, zz_slJ, zz_slA] <;> decide) (fun G hZ hll C E hH hR hin => ?_)
  subst hZ
  subst hll
  rw [show lv_args 0 [va_rf this, va_rf p0] = [(0, va_rf this), (1, va_rf p0)] by simp only [zz_la0, zz_laI, zz_laJ, zz_laA]]
  unfold wp_X3_isIn at hw
  refine zz_aload_n C dX3_isIn_0 rfl 0 rfl ?_
  refine zz_getA C dX3_isIn_1 (Or.inl q246) zf_2_4_teHall_Minutes hw (fun x1 hw => ?_)
  refine zz_aload_n C dX3_isIn_4 rfl 1 rfl ?_
  refine zz_getI C dX3_isIn_5 (Or.inr ⟨_, q1735⟩) zf_15_0_ebateHall_Item hw (fun x2 hw => ?_)
  refine zz_iald C dX3_isIn_8 hw (fun x3 hw => ?_)
  refine zz_iconst (v := (1 : Int32)) C dX3_isIn_9 (by decide) ?_
  refine zz_icmp_ne (tgt := 17) C dX3_isIn_10 (by decide) hw (fun hw => ?_) (fun hw => ?_)
  · refine zz_iconst (v := (0 : Int32)) C dX3_isIn_17 (by decide) ?_
    refine zz_subP [] rfl ?_
    exact ok_X3_isIn_B18 C E hH hR hw
  · refine zz_iconst (v := (1 : Int32)) C dX3_isIn_13 (by decide) ?_
    refine zz_goto (tgt := 18) C dX3_isIn_14 (by decide) ?_
    refine zz_subP [] rfl ?_
    exact ok_X3_isIn_B18 C E hH hR hw
abbrev cX3_forces : ByteArray := prog_12_method_9_code
def yX3_forces : MethodName := ⟨"DebateHall$Minutes", "forces", "(LDebateHall$Item;)I"⟩
def dkwX3_forces_3 : List UInt8 := [167, 255, 192, 28, 172]
abbrev dktX3_forces_3 : List UInt8 := dkwX3_forces_3 ++ []
def dkwX3_forces_2 : List UInt8 := [166, 0, 20, 42, 25, 4, 182, 0, 121, 153, 0, 11, 28, 25, 4, 180, 0, 97, 96, 61, 132, 3, 1]
abbrev dktX3_forces_2 : List UInt8 := dkwX3_forces_2 ++ dktX3_forces_3
def dkwX3_forces_1 : List UInt8 := [192, 0, 75, 58, 4, 25, 4, 180, 0, 89, 178, 0, 140, 166, 0, 29, 25, 4, 180, 0, 86, 43]
abbrev dktX3_forces_1 : List UInt8 := dkwX3_forces_1 ++ dktX3_forces_2
def dkwX3_forces_0 : List UInt8 := [3, 61, 3, 62, 29, 42, 180, 0, 18, 182, 0, 124, 162, 0, 59, 42, 180, 0, 18, 29, 182, 0, 82]
abbrev dktX3_forces_0 : List UInt8 := dkwX3_forces_0 ++ dktX3_forces_1
theorem dksX3_forces_0 : cX3_forces.data.toList.drop 0 = dktX3_forces_0 := by decide +kernel
theorem dksX3_forces_1 : cX3_forces.data.toList.drop 23 = dktX3_forces_1 := dk_seg dksX3_forces_0 23 rfl rfl
theorem dksX3_forces_2 : cX3_forces.data.toList.drop 45 = dktX3_forces_2 := dk_seg dksX3_forces_1 22 rfl rfl
theorem dksX3_forces_3 : cX3_forces.data.toList.drop 68 = dktX3_forces_3 := dk_seg dksX3_forces_2 23 rfl rfl
theorem dX3_forces_0 : decode cX3_forces 0 = .ok (.iconst 0, 1) := dk_3 (dk_at dksX3_forces_0 0 rfl rfl)
theorem dX3_forces_1 : decode cX3_forces 1 = .ok (.istore_n 2, 1) := dk_61 (dk_at dksX3_forces_0 1 rfl rfl)
theorem dX3_forces_2 : decode cX3_forces 2 = .ok (.iconst 0, 1) := dk_3 (dk_at dksX3_forces_0 2 rfl rfl)
theorem dX3_forces_3 : decode cX3_forces 3 = .ok (.istore_n 3, 1) := dk_62 (dk_at dksX3_forces_0 3 rfl rfl)
theorem dX3_forces_4 : decode cX3_forces 4 = .ok (.iload_n 3, 1) := dk_29 (dk_at dksX3_forces_0 4 rfl rfl)
theorem dX3_forces_5 : decode cX3_forces 5 = .ok (.aload_n 0, 1) := dk_42 (dk_at dksX3_forces_0 5 rfl rfl)
theorem dX3_forces_6 : decode cX3_forces 6 = .ok (.getfield 18, 3) := dk_180 0 18 (dk_at dksX3_forces_0 6 rfl rfl)
theorem dX3_forces_9 : decode cX3_forces 9 = .ok (.invokevirtual 124, 3) := dk_182 0 124 (dk_at dksX3_forces_0 9 rfl rfl)
theorem dX3_forces_12 : decode cX3_forces 12 = .ok (.if_icmp .ge 59, 3) := dk_162 0 59 (dk_at dksX3_forces_0 12 rfl rfl)
theorem dX3_forces_15 : decode cX3_forces 15 = .ok (.aload_n 0, 1) := dk_42 (dk_at dksX3_forces_0 15 rfl rfl)
theorem dX3_forces_16 : decode cX3_forces 16 = .ok (.getfield 18, 3) := dk_180 0 18 (dk_at dksX3_forces_0 16 rfl rfl)
theorem dX3_forces_19 : decode cX3_forces 19 = .ok (.iload_n 3, 1) := dk_29 (dk_at dksX3_forces_0 19 rfl rfl)
theorem dX3_forces_20 : decode cX3_forces 20 = .ok (.invokevirtual 82, 3) := dk_182 0 82 (dk_at dksX3_forces_0 20 rfl rfl)
theorem dX3_forces_23 : decode cX3_forces 23 = .ok (.checkcast 75, 3) := dk_192 0 75 (dk_at dksX3_forces_1 0 rfl rfl)
theorem dX3_forces_26 : decode cX3_forces 26 = .ok (.astore 4, 2) := dk_58 4 (dk_at dksX3_forces_1 3 rfl rfl)
theorem dX3_forces_28 : decode cX3_forces 28 = .ok (.aload 4, 2) := dk_25 4 (dk_at dksX3_forces_1 5 rfl rfl)
theorem dX3_forces_30 : decode cX3_forces 30 = .ok (.getfield 89, 3) := dk_180 0 89 (dk_at dksX3_forces_1 7 rfl rfl)
theorem dX3_forces_33 : decode cX3_forces 33 = .ok (.getstatic 140, 3) := dk_178 0 140 (dk_at dksX3_forces_1 10 rfl rfl)
theorem dX3_forces_36 : decode cX3_forces 36 = .ok (.if_acmp .ne 29, 3) := dk_166 0 29 (dk_at dksX3_forces_1 13 rfl rfl)
theorem dX3_forces_39 : decode cX3_forces 39 = .ok (.aload 4, 2) := dk_25 4 (dk_at dksX3_forces_1 16 rfl rfl)
theorem dX3_forces_41 : decode cX3_forces 41 = .ok (.getfield 86, 3) := dk_180 0 86 (dk_at dksX3_forces_1 18 rfl rfl)
theorem dX3_forces_44 : decode cX3_forces 44 = .ok (.aload_n 1, 1) := dk_43 (dk_at dksX3_forces_1 21 rfl rfl)
theorem dX3_forces_45 : decode cX3_forces 45 = .ok (.if_acmp .ne 20, 3) := dk_166 0 20 (dk_at dksX3_forces_2 0 rfl rfl)
theorem dX3_forces_48 : decode cX3_forces 48 = .ok (.aload_n 0, 1) := dk_42 (dk_at dksX3_forces_2 3 rfl rfl)
theorem dX3_forces_49 : decode cX3_forces 49 = .ok (.aload 4, 2) := dk_25 4 (dk_at dksX3_forces_2 4 rfl rfl)
theorem dX3_forces_51 : decode cX3_forces 51 = .ok (.invokevirtual 121, 3) := dk_182 0 121 (dk_at dksX3_forces_2 6 rfl rfl)
theorem dX3_forces_54 : decode cX3_forces 54 = .ok (.ifCond .eq 11, 3) := dk_153 0 11 (dk_at dksX3_forces_2 9 rfl rfl)
theorem dX3_forces_57 : decode cX3_forces 57 = .ok (.iload_n 2, 1) := dk_28 (dk_at dksX3_forces_2 12 rfl rfl)
theorem dX3_forces_58 : decode cX3_forces 58 = .ok (.aload 4, 2) := dk_25 4 (dk_at dksX3_forces_2 13 rfl rfl)
theorem dX3_forces_60 : decode cX3_forces 60 = .ok (.getfield 97, 3) := dk_180 0 97 (dk_at dksX3_forces_2 15 rfl rfl)
theorem dX3_forces_63 : decode cX3_forces 63 = .ok (.iadd, 1) := dk_96 (dk_at dksX3_forces_2 18 rfl rfl)
theorem dX3_forces_64 : decode cX3_forces 64 = .ok (.istore_n 2, 1) := dk_61 (dk_at dksX3_forces_2 19 rfl rfl)
theorem dX3_forces_65 : decode cX3_forces 65 = .ok (.iinc 3 1, 3) := dk_132 3 1 (dk_at dksX3_forces_2 20 rfl rfl)
theorem dX3_forces_68 : decode cX3_forces 68 = .ok (.goto (-64), 3) := dk_167 255 192 (dk_at dksX3_forces_3 0 rfl rfl)
theorem dX3_forces_71 : decode cX3_forces 71 = .ok (.iload_n 2, 1) := dk_28 (dk_at dksX3_forces_3 3 rfl rfl)
theorem dX3_forces_72 : decode cX3_forces 72 = .ok (.ireturn, 1) := dk_172 (dk_at dksX3_forces_3 4 rfl rfl)
theorem q879 : (Jvm.Cond.code ({ cls := "java/util/ArrayList", name := "get", desc := "(I)Ljava/lang/Object;" } : Jvm.MethodName) prog_59_method_20_code (2 : Nat) (Option.some (Jvm.ClassFile.FieldType.object "java/lang/Object"))) ∈ lw_all := lw_g (lw_at lw_m4 79 rfl) rfl
theorem zk_J2_get : zz_cd yJ2_get cJ2_get 2 (some (.object "java/lang/Object")) none ∈ lw_all := q879
theorem zy_J2_get : zz_yok yJ2_get 1 = true := by decide +kernel
theorem q1727 : (Jvm.Cond.classLink "DebateHall$Minutes" (75 : Nat) "DebateHall$Item") ∈ lw_all := lw_g (lw_at lw_m7 207 rfl) rfl
theorem q1740 : (Jvm.Cond.fieldLinkNest "DebateHall$Minutes" (89 : Nat) "DebateHall$Item" "kind" "LDebateHall$Kind;" "DebateHall") ∈ lw_tbl := lw_at lw_m7 220 rfl
theorem q2031 : (Jvm.Cond.fieldLink "DebateHall$Minutes" (140 : Nat) "DebateHall$Kind" "SUPPORT" "LDebateHall$Kind;") ∈ lw_all := lw_g (lw_at lw_m9 31 rfl) rfl
theorem zf_15_6_ebateHall_Item : zz_fok [15] 6 "DebateHall$Item" "target" "LDebateHall$Item;" := zz_fok1 (zR_15, zT_15, 8) rfl (by decide) rfl rfl (Or.inl rfl)
theorem q1758 : (Jvm.Cond.fieldLinkNest "DebateHall$Minutes" (86 : Nat) "DebateHall$Item" "target" "LDebateHall$Item;" "DebateHall") ∈ lw_tbl := lw_at lw_m7 238 rfl
theorem q1945 : (Jvm.Cond.code ({ cls := "DebateHall$Minutes", name := "isIn", desc := "(LDebateHall$Item;)Z" } : Jvm.MethodName) prog_12_method_5_code (2 : Nat) (Option.some Jvm.ClassFile.FieldType.boolean)) ∈ lw_all := lw_g (lw_at lw_m8 185 rfl) rfl
theorem zk_X3_isIn : zz_cd yX3_isIn cX3_isIn 2 (some .boolean) none ∈ lw_all := q1945
theorem zy_X3_isIn : zz_yok yX3_isIn 1 = true := by decide +kernel
theorem zf_15_4_ebateHall_Item : zz_fok [15] 4 "DebateHall$Item" "size" "I" := zz_fok1 (zR_15, zT_15, 8) rfl (by decide) rfl rfl (Or.inl rfl)
theorem q1752 : (Jvm.Cond.fieldLinkNest "DebateHall$Minutes" (97 : Nat) "DebateHall$Item" "size" "I" "DebateHall") ∈ lw_tbl := lw_at lw_m7 232 rfl
theorem q1942 : (Jvm.Cond.methodLink "DebateHall$Minutes" (121 : Nat) ({ cls := "DebateHall$Minutes", name := "isIn", desc := "(LDebateHall$Item;)Z" } : Jvm.MethodName)) ∈ lw_all := lw_g (lw_at lw_m8 182 rfl) rfl
theorem q1944 : (Jvm.Cond.instanceMethod ({ cls := "DebateHall$Minutes", name := "isIn", desc := "(LDebateHall$Item;)Z" } : Jvm.MethodName)) ∈ lw_all := lw_g (lw_at lw_m8 184 rfl) rfl
theorem q1728 : (Jvm.Cond.methodLink "DebateHall$Minutes" (82 : Nat) ({ cls := "java/util/ArrayList", name := "get", desc := "(I)Ljava/lang/Object;" } : Jvm.MethodName)) ∈ lw_all := lw_g (lw_at lw_m7 208 rfl) rfl
theorem q877 : (Jvm.Cond.instanceMethod ({ cls := "java/util/ArrayList", name := "get", desc := "(I)Ljava/lang/Object;" } : Jvm.MethodName)) ∈ lw_all := lw_g (lw_at lw_m4 77 rfl) rfl
theorem q2872 : (Jvm.Cond.selects "java/util/ArrayList" ({ cls := "java/util/ArrayList", name := "get", desc := "(I)Ljava/lang/Object;" } : Jvm.MethodName) ({ cls := "java/util/ArrayList", name := "get", desc := "(I)Ljava/lang/Object;" } : Jvm.MethodName)) ∈ lw_all := lw_g (lw_at lw_m12 152 rfl) rfl
def wp_X3_forces_B65 (Z : zzG) (k4 : Option Nat → Option Nat → Int32 → Int32 → zzM → Prop) (K : Option Value → zzM → Prop) (v0 : Option Nat) (v1 : Option Nat) (v2 : Int32) (v3 : Int32) (M : zzM) : Prop := k4 v0 v1 v2 (v3 + 1) M
def wp_X3_forces_L4 (Z : zzG) (K : Option Value → zzM → Prop) : Nat → Option Nat → Option Nat → Int32 → Int32 → zzM → Prop
  | 0, _, _, _, _, _ => False
  | n + 1, v0, v1, v2, v3, M => zgA Z M v0 [2] 1 fun x1 => zty Z M x1 fun t => t = 18 ∧ wp_J2_size Z x1 M (fun r2 M3 => zrI r2 fun x6 => if x6 ≤ v3 then (K (some (.int v2)) M3) else (zgA Z M3 v0 [2] 1 fun x7 => zty Z M3 x7 fun t => t = 18 ∧ wp_J2_get Z x7 v3 M3 (fun r8 M9 => zrA r8 fun x12 => zcast Z M9 x12 [15] <| zgA Z M9 x12 [15] 1 fun x13 => if x13 = (some (zz_ad Z 10)) then (zgA Z M9 x12 [15] 6 fun x14 => if x14 = v1 then (zty Z M9 v0 fun t => t = 2 ∧ wp_X3_isIn Z v0 x12 M9 (fun r15 M16 => zrI r15 fun x19 => if x19 = 0 then (wp_X3_forces_B65 Z (wp_X3_forces_L4 Z K n) K v0 v1 v2 v3 M16) else (zgI Z M16 x12 [15] 4 fun x20 => wp_X3_forces_B65 Z (wp_X3_forces_L4 Z K n) K v0 v1 (v2 + x20) v3 M16))) else (wp_X3_forces_B65 Z (wp_X3_forces_L4 Z K n) K v0 v1 v2 v3 M9)) else (wp_X3_forces_B65 Z (wp_X3_forces_L4 Z K n) K v0 v1 v2 v3 M9))))
def wp_X3_forces (Z : zzG) (this : Option Nat) (p0 : Option Nat) (M : zzM) (K : Option Value → zzM → Prop) : Prop := ∃ n4 : Nat, wp_X3_forces_L4 Z K n4 this p0 (0 : Int32) (0 : Int32) M
theorem ok_X3_forces_B65 {G : zzX} (C : zz_C G cX3_forces "DebateHall$Minutes" 5) {K : Option Value → zzM → Prop} (E : zz_E G (some .int) K (fun _ _ _ => False)) (hH : zz_H G []) (hR : zz_Rm G 4) {k4 : Option Nat → Option Nat → Int32 → Int32 → zzM → Prop} (hk4 : ∀ (z0 : Option Nat) (z1 : Option Nat) (z2 : Int32) (z3 : Int32) (M : zzM) (bc bs : Nat), k4 z0 z1 z2 z3 M → zz_T G 5 M bc bs 4 [(0, va_rf z0), (1, va_rf z1), (2, .int z2), (3, .int z3)] []) {v0 : Option Nat} {v1 : Option Nat} {v2 : Int32} {v3 : Int32} {M : zzM} {bc bs : Nat} (hw : wp_X3_forces_B65 (zz_Zof G) k4 K v0 v1 v2 v3 M) : zz_T G 5 M bc bs 65 [(0, va_rf v0), (1, va_rf v1), (2, .int v2), (3, .int v3)] [] := by
  unfold wp_X3_forces_B65 at hw
  refine zz_iinc (lv' := [(3, .int (v3 + 1)), (0, va_rf v0), (1, va_rf v1), (2, .int v2)]) C dX3_forces_65 3 rfl (by rfl) (by decide) rfl ?_
  refine zz_goto (tgt := 4) C dX3_forces_68 (by decide) ?_
  refine zz_subP [1, 2, 3, 0] rfl ?_
  exact hk4 _ _ _ _ _ _ _ hw
theorem ok_X3_forces_L4 {G : zzX} (C : zz_C G cX3_forces "DebateHall$Minutes" 5) {K : Option Value → zzM → Prop} (E : zz_E G (some .int) K (fun _ _ _ => False)) (hH : zz_H G []) (hR : zz_Rm G 4) : ∀ (n : Nat) (v0 : Option Nat) (v1 : Option Nat) (v2 : Int32) (v3 : Int32) (M : zzM) (bc bs : Nat), wp_X3_forces_L4 (zz_Zof G) K n v0 v1 v2 v3 M → zz_T G 5 M bc bs 4 [(0, va_rf v0), (1, va_rf v1), (2, .int v2), (3, .int v3)] [] := by
  intro n
  induction n with
  | zero =>
    intro v0 v1 v2 v3 M bc bs hw
    exact False.elim hw
  | succ n ih =>
    intro v0 v1 v2 v3 M bc bs hw
    refine zz_iload_n C dX3_forces_4 rfl 3 rfl ?_
    refine zz_aload_n C dX3_forces_5 rfl 0 rfl ?_
    refine zz_getA C dX3_forces_6 (Or.inl q235) zf_2_1_teHall_Minutes hw (fun x1 hw => ?_)
    obtain ⟨a9, t9, b9, fs9, hro, hL, rfl, hw⟩ := ztyS hw
    refine zz_callV (r := (zR_18, zT_18, 3)) (As := []) (rest := [.int v3]) (mc := 0) (ms := 0) C hR hro dX3_forces_9 (Or.inl q1933) q354 (Or.inl q355) zl_java_util_ArrayList zk_J2_size (Or.inl rfl) zy_J2_size rfl (by decide) (by decide) hL (ok_J2_size (zz_hl C) hw) (Nat.zero_le _) (Nat.zero_le _) (zz_cat10 _ (Nat.le_of_ble_eq_true rfl)) (fun r2 M3 hw => zz_kI hw (fun x6 hw => ?_)) (fun _ _ _ h9 => h9.elim) rfl
    refine zz_icmp_ge (tgt := 71) C dX3_forces_12 (by decide) hw (fun hw => ?_) (fun hw => ?_)
    · refine zz_iload_n C dX3_forces_71 rfl 2 rfl ?_
      exact zz_iret C E dX3_forces_72 hw
    · refine zz_aload_n C dX3_forces_15 rfl 0 rfl ?_
      refine zz_getA C dX3_forces_16 (Or.inl q235) zf_2_1_teHall_Minutes hw (fun x7 hw => ?_)
      refine zz_iload_n C dX3_forces_19 rfl 3 rfl ?_
      obtain ⟨a9, t9, b9, fs9, hro, hL, rfl, hw⟩ := ztyS hw
      refine zz_callV (r := (zR_18, zT_18, 3)) (As := [.int v3]) (rest := []) (mc := 0) (ms := 0) C hR hro dX3_forces_20 (Or.inl q1728) q877 (Or.inl q2872) zl_java_util_ArrayList zk_J2_get (Or.inl rfl) zy_J2_get rfl (by decide) (by decide) hL (ok_J2_get (zz_hl C) hw) (Nat.zero_le _) (Nat.zero_le _) (zz_cat10 _ (Nat.le_of_ble_eq_true rfl)) (fun r8 M9 hw => zz_kA hw (fun x12 hw => ?_)) (fun _ _ _ h9 => h9.elim) rfl
      refine zz_cast C dX3_forces_23 q1727 zc_15_ebateHall_Item hw (fun hw => ?_)
      refine zz_astore (lv' := [(4, va_rf x12), (0, va_rf v0), (1, va_rf v1), (2, .int v2), (3, .int v3)]) C dX3_forces_26 (by decide) rfl ?_
      refine zz_aload C dX3_forces_28 0 rfl ?_
      refine zz_getA C dX3_forces_30 (Or.inr ⟨_, q1740⟩) zf_15_1_ebateHall_Item hw (fun x13 hw => ?_)
      refine zz_gets (j := 10) (v := va_rf (some (zz_ad (zz_Zof G) 10))) C dX3_forces_33 (Or.inl q2031) rfl (Or.inl rfl) rfl ?_
      refine zz_acmp_ne (tgt := 65) C dX3_forces_36 (by decide) hw (fun hw => ?_) (fun hw => ?_)
      · refine zz_subP [1, 2, 3, 4] rfl ?_
        exact ok_X3_forces_B65 C E hH hR (fun z0 z1 z2 z3 z4 z5 z6 hw => ih z0 z1 z2 z3 z4 z5 z6 hw) hw
      · refine zz_aload C dX3_forces_39 0 rfl ?_
        refine zz_getA C dX3_forces_41 (Or.inr ⟨_, q1758⟩) zf_15_6_ebateHall_Item hw (fun x14 hw => ?_)
        refine zz_aload_n C dX3_forces_44 rfl 2 rfl ?_
        refine zz_acmp_ne (tgt := 65) C dX3_forces_45 (by decide) hw (fun hw => ?_) (fun hw => ?_)
        · refine zz_subP [1, 2, 3, 4] rfl ?_
          exact ok_X3_forces_B65 C E hH hR (fun z0 z1 z2 z3 z4 z5 z6 hw => ih z0 z1 z2 z3 z4 z5 z6 hw) hw
        · refine zz_aload_n C dX3_forces_48 rfl 1 rfl ?_
          refine zz_aload C dX3_forces_49 0 rfl ?_
          obtain ⟨a9, t9, b9, fs9, hro, hL, rfl, hw⟩ := ztyS hw
          refine zz_callV (r := (zR_2, zT_2, 8)) (As := [va_rf x12]) (rest := []) (mc := 0) (ms := 0) C hR hro dX3_forces_51 (Or.inl q1942) q1944 (Or.inl qs19) zl_DebateHall_Minutes zk_X3_isIn (Or.inl rfl) zy_X3_isIn rfl (by decide) (by decide) hL (ok_X3_isIn (zz_hl C) hw) (Nat.zero_le _) (Nat.zero_le _) (zz_cat10 _ (Nat.le_of_ble_eq_true rfl)) (fun r15 M16 hw => zz_kI hw (fun x19 hw => ?_)) (fun _ _ _ h9 => h9.elim) rfl
          refine zz_if_eq (tgt := 65) C dX3_forces_54 (by decide) hw (fun hw => ?_) (fun hw => ?_)
          · refine zz_subP [1, 2, 3, 4] rfl ?_
            exact ok_X3_forces_B65 C E hH hR (fun z0 z1 z2 z3 z4 z5 z6 hw => ih z0 z1 z2 z3 z4 z5 z6 hw) hw
          · refine zz_iload_n C dX3_forces_57 rfl 3 rfl ?_
            refine zz_aload C dX3_forces_58 0 rfl ?_
            refine zz_getI C dX3_forces_60 (Or.inr ⟨_, q1752⟩) zf_15_4_ebateHall_Item hw (fun x20 hw => ?_)
            refine zz_iadd C dX3_forces_63 ?_
            refine zz_istore_n (i := 2) (lv' := [(2, .int (v2 + x20)), (4, va_rf x12), (0, va_rf v0), (1, va_rf v1), (3, .int v3)]) C dX3_forces_64 rfl (by decide) (by simp [zz_cat, zz_catI, zz_catJ, zz_catD]) ?_
            refine zz_subP [2, 3, 0, 4] rfl ?_
            exact ok_X3_forces_B65 C E hH hR (fun z0 z1 z2 z3 z4 z5 z6 hw => ih z0 z1 z2 z3 z4 z5 z6 hw) hw
theorem ok_X3_forces {Z : zzG} {l : Launch} (hl : l.stackTraces = false) {this : Option Nat} {p0 : Option Nat} {M : zzM} {mc ms : Nat} {K : Option Value → zzM → Prop} (hw : wp_X3_forces Z this p0 M K) : zz_Met Z l yX3_forces (zz_ws yX3_forces cX3_forces 5 (some .int) none) 4 [va_rf this, va_rf p0] M mc ms K (fun _ _ _ => False) := by
  refine zz_ofW hl (plainFor_of_name (by decide)) (by simp only [zz_sl0, zz_slI, zz_slJ, zz_slA] <;> decide) (fun G hZ hll C E hH hR hin => ?_)
  subst hZ
  subst hll
  rw [show lv_args 0 [va_rf this, va_rf p0] = [(0, va_rf this), (1, va_rf p0)] by simp only [zz_la0, zz_laI, zz_laJ, zz_laA]]
  unfold wp_X3_forces at hw
  refine zz_iconst (v := (0 : Int32)) C dX3_forces_0 (by decide) ?_
  refine zz_istore_n (i := 2) (lv' := [(2, .int (0 : Int32)), (0, va_rf this), (1, va_rf p0)]) C dX3_forces_1 rfl (by decide) (by simp [zz_cat, zz_catI, zz_catJ, zz_catD]) ?_
  refine zz_iconst (v := (0 : Int32)) C dX3_forces_2 (by decide) ?_
  refine zz_istore_n (i := 3) (lv' := [(3, .int (0 : Int32)), (2, .int (0 : Int32)), (0, va_rf this), (1, va_rf p0)]) C dX3_forces_3 rfl (by decide) rfl ?_
  refine zz_subP [2, 3, 1, 0] rfl ?_
  obtain ⟨n4, hw⟩ := hw
  exact ok_X3_forces_L4 C E hH hR n4 _ _ _ _ _ _ _ hw
abbrev cX3_isOut : ByteArray := prog_12_method_6_code
def yX3_isOut : MethodName := ⟨"DebateHall$Minutes", "isOut", "(LDebateHall$Item;)Z"⟩
def dkwX3_isOut_0 : List UInt8 := [42, 180, 0, 31, 43, 180, 0, 81, 46, 5, 160, 0, 7, 4, 167, 0, 4, 3, 172]
abbrev dktX3_isOut_0 : List UInt8 := dkwX3_isOut_0 ++ []
theorem dksX3_isOut_0 : cX3_isOut.data.toList.drop 0 = dktX3_isOut_0 := by decide +kernel
theorem dX3_isOut_0 : decode cX3_isOut 0 = .ok (.aload_n 0, 1) := dk_42 (dk_at dksX3_isOut_0 0 rfl rfl)
theorem dX3_isOut_1 : decode cX3_isOut 1 = .ok (.getfield 31, 3) := dk_180 0 31 (dk_at dksX3_isOut_0 1 rfl rfl)
theorem dX3_isOut_4 : decode cX3_isOut 4 = .ok (.aload_n 1, 1) := dk_43 (dk_at dksX3_isOut_0 4 rfl rfl)
theorem dX3_isOut_5 : decode cX3_isOut 5 = .ok (.getfield 81, 3) := dk_180 0 81 (dk_at dksX3_isOut_0 5 rfl rfl)
theorem dX3_isOut_8 : decode cX3_isOut 8 = .ok (.iaload, 1) := dk_46 (dk_at dksX3_isOut_0 8 rfl rfl)
theorem dX3_isOut_9 : decode cX3_isOut 9 = .ok (.iconst 2, 1) := dk_5 (dk_at dksX3_isOut_0 9 rfl rfl)
theorem dX3_isOut_10 : decode cX3_isOut 10 = .ok (.if_icmp .ne 7, 3) := dk_160 0 7 (dk_at dksX3_isOut_0 10 rfl rfl)
theorem dX3_isOut_13 : decode cX3_isOut 13 = .ok (.iconst 1, 1) := dk_4 (dk_at dksX3_isOut_0 13 rfl rfl)
theorem dX3_isOut_14 : decode cX3_isOut 14 = .ok (.goto 4, 3) := dk_167 0 4 (dk_at dksX3_isOut_0 14 rfl rfl)
theorem dX3_isOut_17 : decode cX3_isOut 17 = .ok (.iconst 0, 1) := dk_3 (dk_at dksX3_isOut_0 17 rfl rfl)
theorem dX3_isOut_18 : decode cX3_isOut 18 = .ok (.ireturn, 1) := dk_172 (dk_at dksX3_isOut_0 18 rfl rfl)
def wp_X3_isOut_B18 (Z : zzG) (K : Option Value → zzM → Prop) (s0 : Int32) (M : zzM) : Prop := narrow .boolean (.int s0) = .int s0 ∧ K (some (.int s0)) M
def wp_X3_isOut (Z : zzG) (this : Option Nat) (p0 : Option Nat) (M : zzM) (K : Option Value → zzM → Prop) : Prop := zgA Z M this [2] 4 fun x1 => zgI Z M p0 [15] 0 fun x2 => zaI Z M x1 [100] x2 fun x3 => if x3 = (2 : Int32) then (wp_X3_isOut_B18 Z K (1 : Int32) M) else (wp_X3_isOut_B18 Z K (0 : Int32) M)
theorem ok_X3_isOut_B18 {G : zzX} (C : zz_C G cX3_isOut "DebateHall$Minutes" 2) {K : Option Value → zzM → Prop} (E : zz_E G (some .boolean) K (fun _ _ _ => False)) (hH : zz_H G []) (hR : zz_Rm G 1) {s0 : Int32} {M : zzM} {bc bs : Nat} (hw : wp_X3_isOut_B18 (zz_Zof G) K s0 M) : zz_T G 2 M bc bs 18 [] [.int s0] := by
  unfold wp_X3_isOut_B18 at hw
  exact zz_zret C E dX3_isOut_18 hw
theorem ok_X3_isOut {Z : zzG} {l : Launch} (hl : l.stackTraces = false) {this : Option Nat} {p0 : Option Nat} {M : zzM} {mc ms : Nat} {K : Option Value → zzM → Prop} (hw : wp_X3_isOut Z this p0 M K) : zz_Met Z l yX3_isOut (zz_ws yX3_isOut cX3_isOut 2 (some .boolean) none) 1 [va_rf this, va_rf p0] M mc ms K (fun _ _ _ => False) := by
  refine zz_ofW hl (plainFor_of_name (by decide)) (by simp only [zz_sl0, zz_slI, zz_slJ, zz_slA] <;> decide) (fun G hZ hll C E hH hR hin => ?_)
  subst hZ
  subst hll
  rw [show lv_args 0 [va_rf this, va_rf p0] = [(0, va_rf this), (1, va_rf p0)] by simp only [zz_la0, zz_laI, zz_laJ, zz_laA]]
  unfold wp_X3_isOut at hw
  refine zz_aload_n C dX3_isOut_0 rfl 0 rfl ?_
  refine zz_getA C dX3_isOut_1 (Or.inl q246) zf_2_4_teHall_Minutes hw (fun x1 hw => ?_)
  refine zz_aload_n C dX3_isOut_4 rfl 1 rfl ?_
  refine zz_getI C dX3_isOut_5 (Or.inr ⟨_, q1735⟩) zf_15_0_ebateHall_Item hw (fun x2 hw => ?_)
  refine zz_iald C dX3_isOut_8 hw (fun x3 hw => ?_)
  refine zz_iconst (v := (2 : Int32)) C dX3_isOut_9 (by decide) ?_
  refine zz_icmp_ne (tgt := 17) C dX3_isOut_10 (by decide) hw (fun hw => ?_) (fun hw => ?_)
  · refine zz_iconst (v := (0 : Int32)) C dX3_isOut_17 (by decide) ?_
    refine zz_subP [] rfl ?_
    exact ok_X3_isOut_B18 C E hH hR hw
  · refine zz_iconst (v := (1 : Int32)) C dX3_isOut_13 (by decide) ?_
    refine zz_goto (tgt := 18) C dX3_isOut_14 (by decide) ?_
    refine zz_subP [] rfl ?_
    exact ok_X3_isOut_B18 C E hH hR hw
abbrev cX21_isStrong : ByteArray := prog_9_method_2_code
def yX21_isStrong : MethodName := ⟨"DebateHall$Kind$2", "isStrong", "(ILDebateHall$Item;)Z"⟩
def dkwX21_isStrong_1 : List UInt8 := [3, 167, 0, 16, 44, 180, 0, 18, 27, 163, 0, 7, 4, 167, 0, 4, 3, 172]
abbrev dktX21_isStrong_1 : List UInt8 := dkwX21_isStrong_1 ++ []
def dkwX21_isStrong_0 : List UInt8 := [44, 180, 0, 7, 178, 0, 13, 166, 0, 21, 44, 180, 0, 18, 5, 27, 104, 163, 0, 7, 4, 167, 0, 20]
abbrev dktX21_isStrong_0 : List UInt8 := dkwX21_isStrong_0 ++ dktX21_isStrong_1
theorem dksX21_isStrong_0 : cX21_isStrong.data.toList.drop 0 = dktX21_isStrong_0 := by decide +kernel
theorem dksX21_isStrong_1 : cX21_isStrong.data.toList.drop 24 = dktX21_isStrong_1 := dk_seg dksX21_isStrong_0 24 rfl rfl
theorem dX21_isStrong_0 : decode cX21_isStrong 0 = .ok (.aload_n 2, 1) := dk_44 (dk_at dksX21_isStrong_0 0 rfl rfl)
theorem dX21_isStrong_1 : decode cX21_isStrong 1 = .ok (.getfield 7, 3) := dk_180 0 7 (dk_at dksX21_isStrong_0 1 rfl rfl)
theorem dX21_isStrong_4 : decode cX21_isStrong 4 = .ok (.getstatic 13, 3) := dk_178 0 13 (dk_at dksX21_isStrong_0 4 rfl rfl)
theorem dX21_isStrong_7 : decode cX21_isStrong 7 = .ok (.if_acmp .ne 21, 3) := dk_166 0 21 (dk_at dksX21_isStrong_0 7 rfl rfl)
theorem dX21_isStrong_10 : decode cX21_isStrong 10 = .ok (.aload_n 2, 1) := dk_44 (dk_at dksX21_isStrong_0 10 rfl rfl)
theorem dX21_isStrong_11 : decode cX21_isStrong 11 = .ok (.getfield 18, 3) := dk_180 0 18 (dk_at dksX21_isStrong_0 11 rfl rfl)
theorem dX21_isStrong_14 : decode cX21_isStrong 14 = .ok (.iconst 2, 1) := dk_5 (dk_at dksX21_isStrong_0 14 rfl rfl)
theorem dX21_isStrong_15 : decode cX21_isStrong 15 = .ok (.iload_n 1, 1) := dk_27 (dk_at dksX21_isStrong_0 15 rfl rfl)
theorem dX21_isStrong_16 : decode cX21_isStrong 16 = .ok (.imul, 1) := dk_104 (dk_at dksX21_isStrong_0 16 rfl rfl)
theorem dX21_isStrong_17 : decode cX21_isStrong 17 = .ok (.if_icmp .gt 7, 3) := dk_163 0 7 (dk_at dksX21_isStrong_0 17 rfl rfl)
theorem dX21_isStrong_20 : decode cX21_isStrong 20 = .ok (.iconst 1, 1) := dk_4 (dk_at dksX21_isStrong_0 20 rfl rfl)
theorem dX21_isStrong_21 : decode cX21_isStrong 21 = .ok (.goto 20, 3) := dk_167 0 20 (dk_at dksX21_isStrong_0 21 rfl rfl)
theorem dX21_isStrong_24 : decode cX21_isStrong 24 = .ok (.iconst 0, 1) := dk_3 (dk_at dksX21_isStrong_1 0 rfl rfl)
theorem dX21_isStrong_25 : decode cX21_isStrong 25 = .ok (.goto 16, 3) := dk_167 0 16 (dk_at dksX21_isStrong_1 1 rfl rfl)
theorem dX21_isStrong_28 : decode cX21_isStrong 28 = .ok (.aload_n 2, 1) := dk_44 (dk_at dksX21_isStrong_1 4 rfl rfl)
theorem dX21_isStrong_29 : decode cX21_isStrong 29 = .ok (.getfield 18, 3) := dk_180 0 18 (dk_at dksX21_isStrong_1 5 rfl rfl)
theorem dX21_isStrong_32 : decode cX21_isStrong 32 = .ok (.iload_n 1, 1) := dk_27 (dk_at dksX21_isStrong_1 8 rfl rfl)
theorem dX21_isStrong_33 : decode cX21_isStrong 33 = .ok (.if_icmp .gt 7, 3) := dk_163 0 7 (dk_at dksX21_isStrong_1 9 rfl rfl)
theorem dX21_isStrong_36 : decode cX21_isStrong 36 = .ok (.iconst 1, 1) := dk_4 (dk_at dksX21_isStrong_1 12 rfl rfl)
theorem dX21_isStrong_37 : decode cX21_isStrong 37 = .ok (.goto 4, 3) := dk_167 0 4 (dk_at dksX21_isStrong_1 13 rfl rfl)
theorem dX21_isStrong_40 : decode cX21_isStrong 40 = .ok (.iconst 0, 1) := dk_3 (dk_at dksX21_isStrong_1 16 rfl rfl)
theorem dX21_isStrong_41 : decode cX21_isStrong 41 = .ok (.ireturn, 1) := dk_172 (dk_at dksX21_isStrong_1 17 rfl rfl)
theorem q1738 : (Jvm.Cond.fieldLinkNest "DebateHall$Kind$2" (7 : Nat) "DebateHall$Item" "kind" "LDebateHall$Kind;" "DebateHall") ∈ lw_tbl := lw_at lw_m7 218 rfl
theorem q1965 : (Jvm.Cond.sameField "DebateHall$Kind$2" "DebateHall$Kind" "CLAIM" "LDebateHall$Kind;") ∈ lw_all := lw_g (lw_at lw_m8 205 rfl) rfl
theorem q1964 : (Jvm.Cond.fieldLink "DebateHall$Kind$2" (13 : Nat) "DebateHall$Kind$2" "CLAIM" "LDebateHall$Kind;") ∈ lw_all := lw_g (lw_at lw_m8 204 rfl) rfl
theorem q1751 : (Jvm.Cond.fieldLinkNest "DebateHall$Kind$2" (18 : Nat) "DebateHall$Item" "size" "I" "DebateHall") ∈ lw_tbl := lw_at lw_m7 231 rfl
def wp_X21_isStrong_B41 (Z : zzG) (K : Option Value → zzM → Prop) (s0 : Int32) (M : zzM) : Prop := narrow .boolean (.int s0) = .int s0 ∧ K (some (.int s0)) M
def wp_X21_isStrong (Z : zzG) (this : Option Nat) (p0 : Int32) (p1 : Option Nat) (M : zzM) (K : Option Value → zzM → Prop) : Prop := zgA Z M p1 [15] 1 fun x1 => if x1 = (some (zz_ad Z 8)) then (zgI Z M p1 [15] 4 fun x3 => if ((2 : Int32) * p0) < x3 then (wp_X21_isStrong_B41 Z K (0 : Int32) M) else (wp_X21_isStrong_B41 Z K (1 : Int32) M)) else (zgI Z M p1 [15] 4 fun x2 => if p0 < x2 then (wp_X21_isStrong_B41 Z K (0 : Int32) M) else (wp_X21_isStrong_B41 Z K (1 : Int32) M))
theorem ok_X21_isStrong_B41 {G : zzX} (C : zz_C G cX21_isStrong "DebateHall$Kind$2" 3) {K : Option Value → zzM → Prop} (E : zz_E G (some .boolean) K (fun _ _ _ => False)) (hH : zz_H G []) (hR : zz_Rm G 1) {s0 : Int32} {M : zzM} {bc bs : Nat} (hw : wp_X21_isStrong_B41 (zz_Zof G) K s0 M) : zz_T G 3 M bc bs 41 [] [.int s0] := by
  unfold wp_X21_isStrong_B41 at hw
  exact zz_zret C E dX21_isStrong_41 hw
theorem ok_X21_isStrong {Z : zzG} {l : Launch} (hl : l.stackTraces = false) {this : Option Nat} {p0 : Int32} {p1 : Option Nat} {M : zzM} {mc ms : Nat} {K : Option Value → zzM → Prop} (hw : wp_X21_isStrong Z this p0 p1 M K) : zz_Met Z l yX21_isStrong (zz_ws yX21_isStrong cX21_isStrong 3 (some .boolean) none) 1 [va_rf this, .int p0, va_rf p1] M mc ms K (fun _ _ _ => False) := by
  refine zz_ofW hl (plainFor_of_name (by decide)) (by simp only [zz_sl0, zz_slI, zz_slJ, zz_slA] <;> decide) (fun G hZ hll C E hH hR hin => ?_)
  subst hZ
  subst hll
  rw [show lv_args 0 [va_rf this, .int p0, va_rf p1] = [(0, va_rf this), (1, .int p0), (2, va_rf p1)] by simp only [zz_la0, zz_laI, zz_laJ, zz_laA]]
  unfold wp_X21_isStrong at hw
  refine zz_aload_n C dX21_isStrong_0 rfl 2 rfl ?_
  refine zz_getA C dX21_isStrong_1 (Or.inr ⟨_, q1738⟩) zf_15_1_ebateHall_Item hw (fun x1 hw => ?_)
  refine zz_gets (j := 8) (v := va_rf (some (zz_ad (zz_Zof G) 8))) C dX21_isStrong_4 (Or.inl q1964) rfl (Or.inr q1965) rfl ?_
  refine zz_acmp_ne (tgt := 28) C dX21_isStrong_7 (by decide) hw (fun hw => ?_) (fun hw => ?_)
  · refine zz_aload_n C dX21_isStrong_28 rfl 2 rfl ?_
    refine zz_getI C dX21_isStrong_29 (Or.inr ⟨_, q1751⟩) zf_15_4_ebateHall_Item hw (fun x2 hw => ?_)
    refine zz_iload_n C dX21_isStrong_32 rfl 1 rfl ?_
    refine zz_icmp_gt (tgt := 40) C dX21_isStrong_33 (by decide) hw (fun hw => ?_) (fun hw => ?_)
    · refine zz_iconst (v := (0 : Int32)) C dX21_isStrong_40 (by decide) ?_
      refine zz_subP [] rfl ?_
      exact ok_X21_isStrong_B41 C E hH hR hw
    · refine zz_iconst (v := (1 : Int32)) C dX21_isStrong_36 (by decide) ?_
      refine zz_goto (tgt := 41) C dX21_isStrong_37 (by decide) ?_
      refine zz_subP [] rfl ?_
      exact ok_X21_isStrong_B41 C E hH hR hw
  · refine zz_aload_n C dX21_isStrong_10 rfl 2 rfl ?_
    refine zz_getI C dX21_isStrong_11 (Or.inr ⟨_, q1751⟩) zf_15_4_ebateHall_Item hw (fun x3 hw => ?_)
    refine zz_iconst (v := (2 : Int32)) C dX21_isStrong_14 (by decide) ?_
    refine zz_iload_n C dX21_isStrong_15 rfl 1 rfl ?_
    refine zz_imul C dX21_isStrong_16 ?_
    refine zz_icmp_gt (tgt := 24) C dX21_isStrong_17 (by decide) hw (fun hw => ?_) (fun hw => ?_)
    · refine zz_iconst (v := (0 : Int32)) C dX21_isStrong_24 (by decide) ?_
      refine zz_goto (tgt := 41) C dX21_isStrong_25 (by decide) ?_
      refine zz_subP [] rfl ?_
      exact ok_X21_isStrong_B41 C E hH hR hw
    · refine zz_iconst (v := (1 : Int32)) C dX21_isStrong_20 (by decide) ?_
      refine zz_goto (tgt := 41) C dX21_isStrong_21 (by decide) ?_
      refine zz_subP [] rfl ?_
      exact ok_X21_isStrong_B41 C E hH hR hw
abbrev cX22_isStrong : ByteArray := prog_8_method_2_code
def yX22_isStrong : MethodName := ⟨"DebateHall$Kind$1", "isStrong", "(ILDebateHall$Item;)Z"⟩
theorem dX22_isStrong_0 : decode cX22_isStrong 0 = .ok (.iconst 0, 1) := by decide +kernel
theorem dX22_isStrong_1 : decode cX22_isStrong 1 = .ok (.ireturn, 1) := by decide +kernel
def wp_X22_isStrong (Z : zzG) (this : Option Nat) (p0 : Int32) (p1 : Option Nat) (M : zzM) (K : Option Value → zzM → Prop) : Prop := narrow .boolean (.int (0 : Int32)) = .int (0 : Int32) ∧ K (some (.int (0 : Int32))) M
theorem ok_X22_isStrong {Z : zzG} {l : Launch} (hl : l.stackTraces = false) {this : Option Nat} {p0 : Int32} {p1 : Option Nat} {M : zzM} {mc ms : Nat} {K : Option Value → zzM → Prop} (hw : wp_X22_isStrong Z this p0 p1 M K) : zz_MetU Z l yX22_isStrong (zz_ws yX22_isStrong cX22_isStrong 3 (some .boolean) none) 1 [va_rf this, .int p0, va_rf p1] M mc ms K (fun _ _ _ => False) := by
  refine zz_ofWU hl (plainFor_of_name (by decide)) (by simp only [zz_sl0, zz_slI, zz_slJ, zz_slA] <;> decide) (fun G hZ hll C E hH hR hin => ?_)
  subst hZ
  subst hll
  rw [show lv_args 0 [va_rf this, .int p0, va_rf p1] = [(0, va_rf this), (1, .int p0), (2, va_rf p1)] by simp only [zz_la0, zz_laI, zz_laJ, zz_laA]]
  unfold wp_X22_isStrong at hw
  refine zz_iconst (v := (0 : Int32)) C dX22_isStrong_0 (by decide) ?_
  exact zz_zret C E dX22_isStrong_1 hw
abbrev cX23_isStrong : ByteArray := prog_10_method_2_code
def yX23_isStrong : MethodName := ⟨"DebateHall$Kind$3", "isStrong", "(ILDebateHall$Item;)Z"⟩
theorem dX23_isStrong_0 : decode cX23_isStrong 0 = .ok (.iconst 0, 1) := by decide +kernel
theorem dX23_isStrong_1 : decode cX23_isStrong 1 = .ok (.ireturn, 1) := by decide +kernel
def wp_X23_isStrong (Z : zzG) (this : Option Nat) (p0 : Int32) (p1 : Option Nat) (M : zzM) (K : Option Value → zzM → Prop) : Prop := narrow .boolean (.int (0 : Int32)) = .int (0 : Int32) ∧ K (some (.int (0 : Int32))) M
theorem ok_X23_isStrong {Z : zzG} {l : Launch} (hl : l.stackTraces = false) {this : Option Nat} {p0 : Int32} {p1 : Option Nat} {M : zzM} {mc ms : Nat} {K : Option Value → zzM → Prop} (hw : wp_X23_isStrong Z this p0 p1 M K) : zz_MetU Z l yX23_isStrong (zz_ws yX23_isStrong cX23_isStrong 3 (some .boolean) none) 1 [va_rf this, .int p0, va_rf p1] M mc ms K (fun _ _ _ => False) := by
  refine zz_ofWU hl (plainFor_of_name (by decide)) (by simp only [zz_sl0, zz_slI, zz_slJ, zz_slA] <;> decide) (fun G hZ hll C E hH hR hin => ?_)
  subst hZ
  subst hll
  rw [show lv_args 0 [va_rf this, .int p0, va_rf p1] = [(0, va_rf this), (1, .int p0), (2, va_rf p1)] by simp only [zz_la0, zz_laI, zz_laJ, zz_laA]]
  unfold wp_X23_isStrong at hw
  refine zz_iconst (v := (0 : Int32)) C dX23_isStrong_0 (by decide) ?_
  exact zz_zret C E dX23_isStrong_1 hw
abbrev cX20_isStrong : ByteArray := prog_6_method_2_code
def yX20_isStrong : MethodName := ⟨"DebateHall$Item", "isStrong", "()Z"⟩
def dkwX20_isStrong_1 : List UInt8 := [153, 0, 7, 4, 167, 0, 4, 3, 172]
abbrev dktX20_isStrong_1 : List UInt8 := dkwX20_isStrong_1 ++ []
def dkwX20_isStrong_0 : List UInt8 := [42, 180, 0, 33, 198, 0, 25, 42, 180, 0, 15, 42, 180, 0, 26, 42, 180, 0, 33, 182, 0, 36]
abbrev dktX20_isStrong_0 : List UInt8 := dkwX20_isStrong_0 ++ dktX20_isStrong_1
theorem dksX20_isStrong_0 : cX20_isStrong.data.toList.drop 0 = dktX20_isStrong_0 := by decide +kernel
theorem dksX20_isStrong_1 : cX20_isStrong.data.toList.drop 22 = dktX20_isStrong_1 := dk_seg dksX20_isStrong_0 22 rfl rfl
theorem dX20_isStrong_0 : decode cX20_isStrong 0 = .ok (.aload_n 0, 1) := dk_42 (dk_at dksX20_isStrong_0 0 rfl rfl)
theorem dX20_isStrong_1 : decode cX20_isStrong 1 = .ok (.getfield 33, 3) := dk_180 0 33 (dk_at dksX20_isStrong_0 1 rfl rfl)
theorem dX20_isStrong_4 : decode cX20_isStrong 4 = .ok (.ifnull 25, 3) := dk_198 0 25 (dk_at dksX20_isStrong_0 4 rfl rfl)
theorem dX20_isStrong_7 : decode cX20_isStrong 7 = .ok (.aload_n 0, 1) := dk_42 (dk_at dksX20_isStrong_0 7 rfl rfl)
theorem dX20_isStrong_8 : decode cX20_isStrong 8 = .ok (.getfield 15, 3) := dk_180 0 15 (dk_at dksX20_isStrong_0 8 rfl rfl)
theorem dX20_isStrong_11 : decode cX20_isStrong 11 = .ok (.aload_n 0, 1) := dk_42 (dk_at dksX20_isStrong_0 11 rfl rfl)
theorem dX20_isStrong_12 : decode cX20_isStrong 12 = .ok (.getfield 26, 3) := dk_180 0 26 (dk_at dksX20_isStrong_0 12 rfl rfl)
theorem dX20_isStrong_15 : decode cX20_isStrong 15 = .ok (.aload_n 0, 1) := dk_42 (dk_at dksX20_isStrong_0 15 rfl rfl)
theorem dX20_isStrong_16 : decode cX20_isStrong 16 = .ok (.getfield 33, 3) := dk_180 0 33 (dk_at dksX20_isStrong_0 16 rfl rfl)
theorem dX20_isStrong_19 : decode cX20_isStrong 19 = .ok (.invokevirtual 36, 3) := dk_182 0 36 (dk_at dksX20_isStrong_0 19 rfl rfl)
theorem dX20_isStrong_22 : decode cX20_isStrong 22 = .ok (.ifCond .eq 7, 3) := dk_153 0 7 (dk_at dksX20_isStrong_1 0 rfl rfl)
theorem dX20_isStrong_25 : decode cX20_isStrong 25 = .ok (.iconst 1, 1) := dk_4 (dk_at dksX20_isStrong_1 3 rfl rfl)
theorem dX20_isStrong_26 : decode cX20_isStrong 26 = .ok (.goto 4, 3) := dk_167 0 4 (dk_at dksX20_isStrong_1 4 rfl rfl)
theorem dX20_isStrong_29 : decode cX20_isStrong 29 = .ok (.iconst 0, 1) := dk_3 (dk_at dksX20_isStrong_1 7 rfl rfl)
theorem dX20_isStrong_30 : decode cX20_isStrong 30 = .ok (.ireturn, 1) := dk_172 (dk_at dksX20_isStrong_1 8 rfl rfl)
theorem q1757 : (Jvm.Cond.fieldLink "DebateHall$Item" (33 : Nat) "DebateHall$Item" "target" "LDebateHall$Item;") ∈ lw_all := lw_g (lw_at lw_m7 237 rfl) rfl
theorem q1737 : (Jvm.Cond.fieldLink "DebateHall$Item" (15 : Nat) "DebateHall$Item" "kind" "LDebateHall$Kind;") ∈ lw_all := lw_g (lw_at lw_m7 217 rfl) rfl
theorem q1750 : (Jvm.Cond.fieldLink "DebateHall$Item" (26 : Nat) "DebateHall$Item" "size" "I") ∈ lw_all := lw_g (lw_at lw_m7 230 rfl) rfl
theorem q1963 : (Jvm.Cond.code ({ cls := "DebateHall$Kind$2", name := "isStrong", desc := "(ILDebateHall$Item;)Z" } : Jvm.MethodName) prog_9_method_2_code (3 : Nat) (Option.some Jvm.ClassFile.FieldType.boolean)) ∈ lw_all := lw_g (lw_at lw_m8 203 rfl) rfl
theorem zk_X21_isStrong : zz_cd yX21_isStrong cX21_isStrong 3 (some .boolean) none ∈ lw_all := q1963
theorem zy_X21_isStrong : zz_yok yX21_isStrong 2 = true := by decide +kernel
theorem q1955 : (Jvm.Cond.methodLink "DebateHall$Item" (36 : Nat) ({ cls := "DebateHall$Kind", name := "isStrong", desc := "(ILDebateHall$Item;)Z" } : Jvm.MethodName)) ∈ lw_all := lw_g (lw_at lw_m8 195 rfl) rfl
theorem q136 : (Jvm.Cond.initialized "DebateHall$Kind$2") ∈ lw_all := lw_g (lw_at lw_m1 56 rfl) rfl
theorem zl_DebateHall_Kind_2 : Cond.initialized "DebateHall$Kind$2" ∈ lw_all := q136
theorem q1956 : (Jvm.Cond.declares ({ cls := "DebateHall$Kind", name := "isStrong", desc := "(ILDebateHall$Item;)Z" } : Jvm.MethodName)) ∈ lw_tbl := lw_at lw_m8 196 rfl
theorem q1957 : (Jvm.Cond.sameMethod "DebateHall$Kind" "DebateHall$Kind" "isStrong" "(ILDebateHall$Item;)Z") ∈ lw_all := lw_g (lw_at lw_m8 197 rfl) rfl
theorem q1962 : (Jvm.Cond.instanceMethod ({ cls := "DebateHall$Kind$2", name := "isStrong", desc := "(ILDebateHall$Item;)Z" } : Jvm.MethodName)) ∈ lw_all := lw_g (lw_at lw_m8 202 rfl) rfl
theorem q1961 : (Jvm.Cond.selects "DebateHall$Kind$2" ({ cls := "DebateHall$Kind", name := "isStrong", desc := "(ILDebateHall$Item;)Z" } : Jvm.MethodName) ({ cls := "DebateHall$Kind$2", name := "isStrong", desc := "(ILDebateHall$Item;)Z" } : Jvm.MethodName)) ∈ lw_all := lw_g (lw_at lw_m8 201 rfl) rfl
theorem zyo_DebateHall_Kind_isStrong__ILDebateHall_Item__Z : zz_yok ⟨"DebateHall$Kind", "isStrong", "(ILDebateHall$Item;)Z"⟩ 2 = true := by decide +kernel
theorem q1960 : (Jvm.Cond.code ({ cls := "DebateHall$Kind$1", name := "isStrong", desc := "(ILDebateHall$Item;)Z" } : Jvm.MethodName) prog_8_method_2_code (3 : Nat) (Option.some Jvm.ClassFile.FieldType.boolean)) ∈ lw_all := lw_g (lw_at lw_m8 200 rfl) rfl
theorem zk_X22_isStrong : zz_cd yX22_isStrong cX22_isStrong 3 (some .boolean) none ∈ lw_all := q1960
theorem zy_X22_isStrong : zz_yok yX22_isStrong 2 = true := by decide +kernel
theorem q1959 : (Jvm.Cond.instanceMethod ({ cls := "DebateHall$Kind$1", name := "isStrong", desc := "(ILDebateHall$Item;)Z" } : Jvm.MethodName)) ∈ lw_all := lw_g (lw_at lw_m8 199 rfl) rfl
theorem q1958 : (Jvm.Cond.selects "DebateHall$Kind$1" ({ cls := "DebateHall$Kind", name := "isStrong", desc := "(ILDebateHall$Item;)Z" } : Jvm.MethodName) ({ cls := "DebateHall$Kind$1", name := "isStrong", desc := "(ILDebateHall$Item;)Z" } : Jvm.MethodName)) ∈ lw_all := lw_g (lw_at lw_m8 198 rfl) rfl
theorem q1968 : (Jvm.Cond.code ({ cls := "DebateHall$Kind$3", name := "isStrong", desc := "(ILDebateHall$Item;)Z" } : Jvm.MethodName) prog_10_method_2_code (3 : Nat) (Option.some Jvm.ClassFile.FieldType.boolean)) ∈ lw_all := lw_g (lw_at lw_m8 208 rfl) rfl
theorem zk_X23_isStrong : zz_cd yX23_isStrong cX23_isStrong 3 (some .boolean) none ∈ lw_all := q1968
theorem zy_X23_isStrong : zz_yok yX23_isStrong 2 = true := by decide +kernel
theorem q1967 : (Jvm.Cond.instanceMethod ({ cls := "DebateHall$Kind$3", name := "isStrong", desc := "(ILDebateHall$Item;)Z" } : Jvm.MethodName)) ∈ lw_all := lw_g (lw_at lw_m8 207 rfl) rfl
theorem q1966 : (Jvm.Cond.selects "DebateHall$Kind$3" ({ cls := "DebateHall$Kind", name := "isStrong", desc := "(ILDebateHall$Item;)Z" } : Jvm.MethodName) ({ cls := "DebateHall$Kind$3", name := "isStrong", desc := "(ILDebateHall$Item;)Z" } : Jvm.MethodName)) ∈ lw_all := lw_g (lw_at lw_m8 206 rfl) rfl
def wp_X20_isStrong_B30 (Z : zzG) (K : Option Value → zzM → Prop) (s0 : Int32) (M : zzM) : Prop := narrow .boolean (.int s0) = .int s0 ∧ K (some (.int s0)) M
def wp_X20_isStrong_B29 (Z : zzG) (K : Option Value → zzM → Prop) (M : zzM) : Prop := wp_X20_isStrong_B30 Z K (0 : Int32) M
def wp_X20_isStrong_B22 (Z : zzG) (K : Option Value → zzM → Prop) (s0 : Int32) (M : zzM) : Prop := if s0 = 0 then (wp_X20_isStrong_B29 Z K M) else (wp_X20_isStrong_B30 Z K (1 : Int32) M)
def wp_X20_isStrong (Z : zzG) (this : Option Nat) (M : zzM) (K : Option Value → zzM → Prop) : Prop := zgA Z M this [15] 6 fun x1 => if x1 = none then (wp_X20_isStrong_B29 Z K M) else (zgA Z M this [15] 1 fun x2 => zgI Z M this [15] 4 fun x3 => zgA Z M this [15] 6 fun x4 => zty Z M x2 fun t => if t = 31 then (wp_X21_isStrong Z x2 x3 x4 M (fun r5 M6 => zrI r5 fun x9 => wp_X20_isStrong_B22 Z K x9 M6)) else if t = 30 then (wp_X22_isStrong Z x2 x3 x4 M (fun r10 M11 => zrI r10 fun x14 => wp_X20_isStrong_B22 Z K x14 M11)) else if t = 32 then (wp_X23_isStrong Z x2 x3 x4 M (fun r15 M16 => zrI r15 fun x19 => wp_X20_isStrong_B22 Z K x19 M16)) else False)
theorem ok_X20_isStrong_B30 {G : zzX} (C : zz_C G cX20_isStrong "DebateHall$Item" 1) {K : Option Value → zzM → Prop} (E : zz_E G (some .boolean) K (fun _ _ _ => False)) (hH : zz_H G []) (hR : zz_Rm G 2) {s0 : Int32} {M : zzM} {bc bs : Nat} (hw : wp_X20_isStrong_B30 (zz_Zof G) K s0 M) : zz_T G 1 M bc bs 30 [] [.int s0] := by
  unfold wp_X20_isStrong_B30 at hw
  exact zz_zret C E dX20_isStrong_30 hw
theorem ok_X20_isStrong_B29 {G : zzX} (C : zz_C G cX20_isStrong "DebateHall$Item" 1) {K : Option Value → zzM → Prop} (E : zz_E G (some .boolean) K (fun _ _ _ => False)) (hH : zz_H G []) (hR : zz_Rm G 2) {M : zzM} {bc bs : Nat} (hw : wp_X20_isStrong_B29 (zz_Zof G) K M) : zz_T G 1 M bc bs 29 [] [] := by
  unfold wp_X20_isStrong_B29 at hw
  refine zz_iconst (v := (0 : Int32)) C dX20_isStrong_29 (by decide) ?_
  refine zz_subP [] rfl ?_
  exact ok_X20_isStrong_B30 C E hH hR hw
theorem ok_X20_isStrong_B22 {G : zzX} (C : zz_C G cX20_isStrong "DebateHall$Item" 1) {K : Option Value → zzM → Prop} (E : zz_E G (some .boolean) K (fun _ _ _ => False)) (hH : zz_H G []) (hR : zz_Rm G 2) {s0 : Int32} {M : zzM} {bc bs : Nat} (hw : wp_X20_isStrong_B22 (zz_Zof G) K s0 M) : zz_T G 1 M bc bs 22 [] [.int s0] := by
  unfold wp_X20_isStrong_B22 at hw
  refine zz_if_eq (tgt := 29) C dX20_isStrong_22 (by decide) hw (fun hw => ?_) (fun hw => ?_)
  · refine zz_subP [] rfl ?_
    exact ok_X20_isStrong_B29 C E hH hR hw
  · refine zz_iconst (v := (1 : Int32)) C dX20_isStrong_25 (by decide) ?_
    refine zz_goto (tgt := 30) C dX20_isStrong_26 (by decide) ?_
    refine zz_subP [] rfl ?_
    exact ok_X20_isStrong_B30 C E hH hR hw
theorem ok_X20_isStrong {Z : zzG} {l : Launch} (hl : l.stackTraces = false) {this : Option Nat} {M : zzM} {mc ms : Nat} {K : Option Value → zzM → Prop} (hw : wp_X20_isStrong Z this M K) : zz_Met Z l yX20_isStrong (zz_ws yX20_isStrong cX20_isStrong 1 (some .boolean) none) 2 [va_rf this] M mc ms K (fun _ _ _ => False) := by
  refine zz_ofW hl (plainFor_of_name (by decide)) (by simp only [zz_sl0, zz_slI, zz_slJ, zz_slA] <;> decide) (fun G hZ hll C E hH hR hin => ?_)
  subst hZ
  subst hll
  rw [show lv_args 0 [va_rf this] = [(0, va_rf this)] by simp only [zz_la0, zz_laI, zz_laJ, zz_laA]]
  unfold wp_X20_isStrong at hw
  refine zz_aload_n C dX20_isStrong_0 rfl 0 rfl ?_
  refine zz_getA C dX20_isStrong_1 (Or.inl q1757) zf_15_6_ebateHall_Item hw (fun x1 hw => ?_)
  refine zz_ifnull (tgt := 29) C dX20_isStrong_4 (by decide) hw (fun hw => ?_) (fun hw => ?_)
  · refine zz_subP [] rfl ?_
    exact ok_X20_isStrong_B29 C E hH hR hw
  · refine zz_aload_n C dX20_isStrong_7 rfl 0 rfl ?_
    refine zz_getA C dX20_isStrong_8 (Or.inl q1737) zf_15_1_ebateHall_Item hw (fun x2 hw => ?_)
    refine zz_aload_n C dX20_isStrong_11 rfl 0 rfl ?_
    refine zz_getI C dX20_isStrong_12 (Or.inl q1750) zf_15_4_ebateHall_Item hw (fun x3 hw => ?_)
    refine zz_aload_n C dX20_isStrong_15 rfl 0 rfl ?_
    refine zz_getA C dX20_isStrong_16 (Or.inl q1757) zf_15_6_ebateHall_Item hw (fun x4 hw => ?_)
    obtain ⟨a9, t9, b9, fs9, hro, hL, hw⟩ := ztyS hw
    by_cases e31 : t9 = 31
    · replace hw := zz_ifp e31 hw
      subst e31
      refine zz_callU (r := (zR_31, zT_31, 3)) (x := ⟨"DebateHall$Kind", "isStrong", "(ILDebateHall$Item;)Z"⟩) (owner := "DebateHall$Kind") (As := [.int x3, va_rf x4]) (rest := []) (mc := 0) (ms := 0) C hR hro dX20_isStrong_19 q1955 q1957 (Or.inl q1956) q1962 q1961 zl_DebateHall_Kind_2 zk_X21_isStrong zyo_DebateHall_Kind_isStrong__ILDebateHall_Item__Z rfl (by decide) (by decide) hL (ok_X21_isStrong (zz_hl C) hw) (Nat.zero_le _) (Nat.zero_le _) (zz_cat10 _ (Nat.le_of_ble_eq_true rfl)) (fun r5 M6 hw => zz_kI hw (fun x9 hw => ?_)) (fun _ _ _ h9 => h9.elim) rfl
      refine zz_subP [] rfl ?_
      exact ok_X20_isStrong_B22 C E hH hR hw
    · replace hw := zz_ifn e31 hw
      by_cases e30 : t9 = 30
      · replace hw := zz_ifp e30 hw
        subst e30
        refine zz_callUU (r := (zR_30, zT_30, 3)) (x := ⟨"DebateHall$Kind", "isStrong", "(ILDebateHall$Item;)Z"⟩) (owner := "DebateHall$Kind") (As := [.int x3, va_rf x4]) (rest := []) (mc := 0) (ms := 0) C hR hro dX20_isStrong_19 q1955 q1957 (Or.inl q1956) q1959 q1958  zk_X22_isStrong zyo_DebateHall_Kind_isStrong__ILDebateHall_Item__Z rfl (by decide) (by decide) hL (ok_X22_isStrong (zz_hl C) hw) (Nat.zero_le _) (Nat.zero_le _) (zz_cat10 _ (Nat.le_of_ble_eq_true rfl)) (fun r10 M11 hw => zz_kI hw (fun x14 hw => ?_)) (fun _ _ _ h9 => h9.elim) rfl
        refine zz_subP [] rfl ?_
        exact ok_X20_isStrong_B22 C E hH hR hw
      · replace hw := zz_ifn e30 hw
        by_cases e32 : t9 = 32
        · replace hw := zz_ifp e32 hw
          subst e32
          refine zz_callUU (r := (zR_32, zT_32, 3)) (x := ⟨"DebateHall$Kind", "isStrong", "(ILDebateHall$Item;)Z"⟩) (owner := "DebateHall$Kind") (As := [.int x3, va_rf x4]) (rest := []) (mc := 0) (ms := 0) C hR hro dX20_isStrong_19 q1955 q1957 (Or.inl q1956) q1967 q1966  zk_X23_isStrong zyo_DebateHall_Kind_isStrong__ILDebateHall_Item__Z rfl (by decide) (by decide) hL (ok_X23_isStrong (zz_hl C) hw) (Nat.zero_le _) (Nat.zero_le _) (zz_cat10 _ (Nat.le_of_ble_eq_true rfl)) (fun r15 M16 hw => zz_kI hw (fun x19 hw => ?_)) (fun _ _ _ h9 => h9.elim) rfl
          refine zz_subP [] rfl ?_
          exact ok_X20_isStrong_B22 C E hH hR hw
        · replace hw := zz_ifn e32 hw
          exact hw.elim
abbrev cX3_worth : ByteArray := prog_12_method_10_code
def yX3_worth : MethodName := ⟨"DebateHall$Minutes", "worth", "(LDebateHall$Item;)I"⟩
def dkwX3_worth_3 : List UInt8 := [167, 0, 20, 43, 182, 0, 130, 153, 0, 12, 43, 180, 0, 97, 5, 108, 167, 0, 4, 3, 172]
abbrev dktX3_worth_3 : List UInt8 := dkwX3_worth_3 ++ []
def dkwX3_worth_2 : List UInt8 := [108, 172, 42, 43, 182, 0, 121, 154, 0, 5, 3, 172, 43, 180, 0, 89, 178, 0, 140, 166, 0, 7, 4]
abbrev dktX3_worth_2 : List UInt8 := dkwX3_worth_2 ++ dktX3_worth_3
def dkwX3_worth_1 : List UInt8 := [182, 0, 148, 96, 167, 0, 21, 42, 43, 182, 0, 117, 153, 0, 7, 3, 167, 0, 9, 43, 180, 0, 97, 5]
abbrev dktX3_worth_1 : List UInt8 := dkwX3_worth_1 ++ dktX3_worth_2
def dkwX3_worth_0 : List UInt8 := [43, 180, 0, 89, 178, 0, 145, 166, 0, 43, 42, 43, 182, 0, 121, 153, 0, 16, 43, 180, 0, 97, 42, 43]
abbrev dktX3_worth_0 : List UInt8 := dkwX3_worth_0 ++ dktX3_worth_1
theorem dksX3_worth_0 : cX3_worth.data.toList.drop 0 = dktX3_worth_0 := by decide +kernel
theorem dksX3_worth_1 : cX3_worth.data.toList.drop 24 = dktX3_worth_1 := dk_seg dksX3_worth_0 24 rfl rfl
theorem dksX3_worth_2 : cX3_worth.data.toList.drop 48 = dktX3_worth_2 := dk_seg dksX3_worth_1 24 rfl rfl
theorem dksX3_worth_3 : cX3_worth.data.toList.drop 71 = dktX3_worth_3 := dk_seg dksX3_worth_2 23 rfl rfl
theorem dX3_worth_0 : decode cX3_worth 0 = .ok (.aload_n 1, 1) := dk_43 (dk_at dksX3_worth_0 0 rfl rfl)
theorem dX3_worth_1 : decode cX3_worth 1 = .ok (.getfield 89, 3) := dk_180 0 89 (dk_at dksX3_worth_0 1 rfl rfl)
theorem dX3_worth_4 : decode cX3_worth 4 = .ok (.getstatic 145, 3) := dk_178 0 145 (dk_at dksX3_worth_0 4 rfl rfl)
theorem dX3_worth_7 : decode cX3_worth 7 = .ok (.if_acmp .ne 43, 3) := dk_166 0 43 (dk_at dksX3_worth_0 7 rfl rfl)
theorem dX3_worth_10 : decode cX3_worth 10 = .ok (.aload_n 0, 1) := dk_42 (dk_at dksX3_worth_0 10 rfl rfl)
theorem dX3_worth_11 : decode cX3_worth 11 = .ok (.aload_n 1, 1) := dk_43 (dk_at dksX3_worth_0 11 rfl rfl)
theorem dX3_worth_12 : decode cX3_worth 12 = .ok (.invokevirtual 121, 3) := dk_182 0 121 (dk_at dksX3_worth_0 12 rfl rfl)
theorem dX3_worth_15 : decode cX3_worth 15 = .ok (.ifCond .eq 16, 3) := dk_153 0 16 (dk_at dksX3_worth_0 15 rfl rfl)
theorem dX3_worth_18 : decode cX3_worth 18 = .ok (.aload_n 1, 1) := dk_43 (dk_at dksX3_worth_0 18 rfl rfl)
theorem dX3_worth_19 : decode cX3_worth 19 = .ok (.getfield 97, 3) := dk_180 0 97 (dk_at dksX3_worth_0 19 rfl rfl)
theorem dX3_worth_22 : decode cX3_worth 22 = .ok (.aload_n 0, 1) := dk_42 (dk_at dksX3_worth_0 22 rfl rfl)
theorem dX3_worth_23 : decode cX3_worth 23 = .ok (.aload_n 1, 1) := dk_43 (dk_at dksX3_worth_0 23 rfl rfl)
theorem dX3_worth_24 : decode cX3_worth 24 = .ok (.invokevirtual 148, 3) := dk_182 0 148 (dk_at dksX3_worth_1 0 rfl rfl)
theorem dX3_worth_27 : decode cX3_worth 27 = .ok (.iadd, 1) := dk_96 (dk_at dksX3_worth_1 3 rfl rfl)
theorem dX3_worth_28 : decode cX3_worth 28 = .ok (.goto 21, 3) := dk_167 0 21 (dk_at dksX3_worth_1 4 rfl rfl)
theorem dX3_worth_31 : decode cX3_worth 31 = .ok (.aload_n 0, 1) := dk_42 (dk_at dksX3_worth_1 7 rfl rfl)
theorem dX3_worth_32 : decode cX3_worth 32 = .ok (.aload_n 1, 1) := dk_43 (dk_at dksX3_worth_1 8 rfl rfl)
theorem dX3_worth_33 : decode cX3_worth 33 = .ok (.invokevirtual 117, 3) := dk_182 0 117 (dk_at dksX3_worth_1 9 rfl rfl)
theorem dX3_worth_36 : decode cX3_worth 36 = .ok (.ifCond .eq 7, 3) := dk_153 0 7 (dk_at dksX3_worth_1 12 rfl rfl)
theorem dX3_worth_39 : decode cX3_worth 39 = .ok (.iconst 0, 1) := dk_3 (dk_at dksX3_worth_1 15 rfl rfl)
theorem dX3_worth_40 : decode cX3_worth 40 = .ok (.goto 9, 3) := dk_167 0 9 (dk_at dksX3_worth_1 16 rfl rfl)
theorem dX3_worth_43 : decode cX3_worth 43 = .ok (.aload_n 1, 1) := dk_43 (dk_at dksX3_worth_1 19 rfl rfl)
theorem dX3_worth_44 : decode cX3_worth 44 = .ok (.getfield 97, 3) := dk_180 0 97 (dk_at dksX3_worth_1 20 rfl rfl)
theorem dX3_worth_47 : decode cX3_worth 47 = .ok (.iconst 2, 1) := dk_5 (dk_at dksX3_worth_1 23 rfl rfl)
theorem dX3_worth_48 : decode cX3_worth 48 = .ok (.idiv, 1) := dk_108 (dk_at dksX3_worth_2 0 rfl rfl)
theorem dX3_worth_49 : decode cX3_worth 49 = .ok (.ireturn, 1) := dk_172 (dk_at dksX3_worth_2 1 rfl rfl)
theorem dX3_worth_50 : decode cX3_worth 50 = .ok (.aload_n 0, 1) := dk_42 (dk_at dksX3_worth_2 2 rfl rfl)
theorem dX3_worth_51 : decode cX3_worth 51 = .ok (.aload_n 1, 1) := dk_43 (dk_at dksX3_worth_2 3 rfl rfl)
theorem dX3_worth_52 : decode cX3_worth 52 = .ok (.invokevirtual 121, 3) := dk_182 0 121 (dk_at dksX3_worth_2 4 rfl rfl)
theorem dX3_worth_55 : decode cX3_worth 55 = .ok (.ifCond .ne 5, 3) := dk_154 0 5 (dk_at dksX3_worth_2 7 rfl rfl)
theorem dX3_worth_58 : decode cX3_worth 58 = .ok (.iconst 0, 1) := dk_3 (dk_at dksX3_worth_2 10 rfl rfl)
theorem dX3_worth_59 : decode cX3_worth 59 = .ok (.ireturn, 1) := dk_172 (dk_at dksX3_worth_2 11 rfl rfl)
theorem dX3_worth_60 : decode cX3_worth 60 = .ok (.aload_n 1, 1) := dk_43 (dk_at dksX3_worth_2 12 rfl rfl)
theorem dX3_worth_61 : decode cX3_worth 61 = .ok (.getfield 89, 3) := dk_180 0 89 (dk_at dksX3_worth_2 13 rfl rfl)
theorem dX3_worth_64 : decode cX3_worth 64 = .ok (.getstatic 140, 3) := dk_178 0 140 (dk_at dksX3_worth_2 16 rfl rfl)
theorem dX3_worth_67 : decode cX3_worth 67 = .ok (.if_acmp .ne 7, 3) := dk_166 0 7 (dk_at dksX3_worth_2 19 rfl rfl)
theorem dX3_worth_70 : decode cX3_worth 70 = .ok (.iconst 1, 1) := dk_4 (dk_at dksX3_worth_2 22 rfl rfl)
theorem dX3_worth_71 : decode cX3_worth 71 = .ok (.goto 20, 3) := dk_167 0 20 (dk_at dksX3_worth_3 0 rfl rfl)
theorem dX3_worth_74 : decode cX3_worth 74 = .ok (.aload_n 1, 1) := dk_43 (dk_at dksX3_worth_3 3 rfl rfl)
theorem dX3_worth_75 : decode cX3_worth 75 = .ok (.invokevirtual 130, 3) := dk_182 0 130 (dk_at dksX3_worth_3 4 rfl rfl)
theorem dX3_worth_78 : decode cX3_worth 78 = .ok (.ifCond .eq 12, 3) := dk_153 0 12 (dk_at dksX3_worth_3 7 rfl rfl)
theorem dX3_worth_81 : decode cX3_worth 81 = .ok (.aload_n 1, 1) := dk_43 (dk_at dksX3_worth_3 10 rfl rfl)
theorem dX3_worth_82 : decode cX3_worth 82 = .ok (.getfield 97, 3) := dk_180 0 97 (dk_at dksX3_worth_3 11 rfl rfl)
theorem dX3_worth_85 : decode cX3_worth 85 = .ok (.iconst 2, 1) := dk_5 (dk_at dksX3_worth_3 14 rfl rfl)
theorem dX3_worth_86 : decode cX3_worth 86 = .ok (.idiv, 1) := dk_108 (dk_at dksX3_worth_3 15 rfl rfl)
theorem dX3_worth_87 : decode cX3_worth 87 = .ok (.goto 4, 3) := dk_167 0 4 (dk_at dksX3_worth_3 16 rfl rfl)
theorem dX3_worth_90 : decode cX3_worth 90 = .ok (.iconst 0, 1) := dk_3 (dk_at dksX3_worth_3 19 rfl rfl)
theorem dX3_worth_91 : decode cX3_worth 91 = .ok (.ireturn, 1) := dk_172 (dk_at dksX3_worth_3 20 rfl rfl)
theorem q2026 : (Jvm.Cond.fieldLink "DebateHall$Minutes" (145 : Nat) "DebateHall$Kind" "CLAIM" "LDebateHall$Kind;") ∈ lw_all := lw_g (lw_at lw_m9 26 rfl) rfl
theorem q1954 : (Jvm.Cond.code ({ cls := "DebateHall$Item", name := "isStrong", desc := "()Z" } : Jvm.MethodName) prog_6_method_2_code (1 : Nat) (Option.some Jvm.ClassFile.FieldType.boolean)) ∈ lw_all := lw_g (lw_at lw_m8 194 rfl) rfl
theorem zk_X20_isStrong : zz_cd yX20_isStrong cX20_isStrong 1 (some .boolean) none ∈ lw_all := q1954
theorem zy_X20_isStrong : zz_yok yX20_isStrong 0 = true := by decide +kernel
theorem q1951 : (Jvm.Cond.methodLink "DebateHall$Minutes" (130 : Nat) ({ cls := "DebateHall$Item", name := "isStrong", desc := "()Z" } : Jvm.MethodName)) ∈ lw_all := lw_g (lw_at lw_m8 191 rfl) rfl
theorem q135 : (Jvm.Cond.initialized "DebateHall$Item") ∈ lw_all := lw_g (lw_at lw_m1 55 rfl) rfl
theorem zl_DebateHall_Item : Cond.initialized "DebateHall$Item" ∈ lw_all := q135
theorem q1952 : (Jvm.Cond.instanceMethod ({ cls := "DebateHall$Item", name := "isStrong", desc := "()Z" } : Jvm.MethodName)) ∈ lw_all := lw_g (lw_at lw_m8 192 rfl) rfl
theorem q1953 : (Jvm.Cond.selects "DebateHall$Item" ({ cls := "DebateHall$Item", name := "isStrong", desc := "()Z" } : Jvm.MethodName) ({ cls := "DebateHall$Item", name := "isStrong", desc := "()Z" } : Jvm.MethodName)) ∈ lw_all := lw_g (lw_at lw_m8 193 rfl) rfl
theorem q1941 : (Jvm.Cond.code ({ cls := "DebateHall$Minutes", name := "isOut", desc := "(LDebateHall$Item;)Z" } : Jvm.MethodName) prog_12_method_6_code (2 : Nat) (Option.some Jvm.ClassFile.FieldType.boolean)) ∈ lw_all := lw_g (lw_at lw_m8 181 rfl) rfl
theorem zk_X3_isOut : zz_cd yX3_isOut cX3_isOut 2 (some .boolean) none ∈ lw_all := q1941
theorem zy_X3_isOut : zz_yok yX3_isOut 1 = true := by decide +kernel
theorem q1938 : (Jvm.Cond.methodLink "DebateHall$Minutes" (117 : Nat) ({ cls := "DebateHall$Minutes", name := "isOut", desc := "(LDebateHall$Item;)Z" } : Jvm.MethodName)) ∈ lw_all := lw_g (lw_at lw_m8 178 rfl) rfl
theorem q1940 : (Jvm.Cond.instanceMethod ({ cls := "DebateHall$Minutes", name := "isOut", desc := "(LDebateHall$Item;)Z" } : Jvm.MethodName)) ∈ lw_all := lw_g (lw_at lw_m8 180 rfl) rfl
theorem q2030 : (Jvm.Cond.code ({ cls := "DebateHall$Minutes", name := "forces", desc := "(LDebateHall$Item;)I" } : Jvm.MethodName) prog_12_method_9_code (5 : Nat) (Option.some Jvm.ClassFile.FieldType.int)) ∈ lw_all := lw_g (lw_at lw_m9 30 rfl) rfl
theorem zk_X3_forces : zz_cd yX3_forces cX3_forces 5 (some .int) none ∈ lw_all := q2030
theorem zy_X3_forces : zz_yok yX3_forces 1 = true := by decide +kernel
theorem q2027 : (Jvm.Cond.methodLink "DebateHall$Minutes" (148 : Nat) ({ cls := "DebateHall$Minutes", name := "forces", desc := "(LDebateHall$Item;)I" } : Jvm.MethodName)) ∈ lw_all := lw_g (lw_at lw_m9 27 rfl) rfl
theorem q2029 : (Jvm.Cond.instanceMethod ({ cls := "DebateHall$Minutes", name := "forces", desc := "(LDebateHall$Item;)I" } : Jvm.MethodName)) ∈ lw_all := lw_g (lw_at lw_m9 29 rfl) rfl
def wp_X3_worth_B49 (Z : zzG) (K : Option Value → zzM → Prop) (s0 : Int32) (M : zzM) : Prop := K (some (.int s0)) M
def wp_X3_worth_B91 (Z : zzG) (K : Option Value → zzM → Prop) (s0 : Int32) (M : zzM) : Prop := K (some (.int s0)) M
def wp_X3_worth (Z : zzG) (this : Option Nat) (p0 : Option Nat) (M : zzM) (K : Option Value → zzM → Prop) : Prop := zgA Z M p0 [15] 1 fun x1 => if x1 = (some (zz_ad Z 8)) then (zty Z M this fun t => t = 2 ∧ wp_X3_isIn Z this p0 M (fun r14 M15 => zrI r14 fun x18 => if x18 = 0 then (zty Z M15 this fun t => t = 2 ∧ wp_X3_isOut Z this p0 M15 (fun r19 M20 => zrI r19 fun x23 => if x23 = 0 then (zgI Z M20 p0 [15] 4 fun x24 => ¬ (2 : Int32) = 0 ∧ wp_X3_worth_B49 Z K (x24 / (2 : Int32)) M20) else (wp_X3_worth_B49 Z K (0 : Int32) M20))) else (zgI Z M15 p0 [15] 4 fun x25 => zty Z M15 this fun t => t = 2 ∧ wp_X3_forces Z this p0 M15 (fun r26 M27 => zrI r26 fun x30 => wp_X3_worth_B49 Z K (x25 + x30) M27)))) else (zty Z M this fun t => t = 2 ∧ wp_X3_isIn Z this p0 M (fun r2 M3 => zrI r2 fun x6 => if x6 = 0 then (K (some (.int (0 : Int32))) M3) else (zgA Z M3 p0 [15] 1 fun x7 => if x7 = (some (zz_ad Z 10)) then (wp_X3_worth_B91 Z K (1 : Int32) M3) else (zty Z M3 p0 fun t => t = 15 ∧ wp_X20_isStrong Z p0 M3 (fun r8 M9 => zrI r8 fun x12 => if x12 = 0 then (wp_X3_worth_B91 Z K (0 : Int32) M9) else (zgI Z M9 p0 [15] 4 fun x13 => ¬ (2 : Int32) = 0 ∧ wp_X3_worth_B91 Z K (x13 / (2 : Int32)) M9))))))
theorem ok_X3_worth_B49 {G : zzX} (C : zz_C G cX3_worth "DebateHall$Minutes" 2) {K : Option Value → zzM → Prop} (E : zz_E G (some .int) K (fun _ _ _ => False)) (hH : zz_H G []) (hR : zz_Rm G 5) {s0 : Int32} {M : zzM} {bc bs : Nat} (hw : wp_X3_worth_B49 (zz_Zof G) K s0 M) : zz_T G 2 M bc bs 49 [] [.int s0] := by
  unfold wp_X3_worth_B49 at hw
  exact zz_iret C E dX3_worth_49 hw
theorem ok_X3_worth_B91 {G : zzX} (C : zz_C G cX3_worth "DebateHall$Minutes" 2) {K : Option Value → zzM → Prop} (E : zz_E G (some .int) K (fun _ _ _ => False)) (hH : zz_H G []) (hR : zz_Rm G 5) {s0 : Int32} {M : zzM} {bc bs : Nat} (hw : wp_X3_worth_B91 (zz_Zof G) K s0 M) : zz_T G 2 M bc bs 91 [] [.int s0] := by
  unfold wp_X3_worth_B91 at hw
  exact zz_iret C E dX3_worth_91 hw
theorem ok_X3_worth {Z : zzG} {l : Launch} (hl : l.stackTraces = false) {this : Option Nat} {p0 : Option Nat} {M : zzM} {mc ms : Nat} {K : Option Value → zzM → Prop} (hw : wp_X3_worth Z this p0 M K) : zz_Met Z l yX3_worth (zz_ws yX3_worth cX3_worth 2 (some .int) none) 5 [va_rf this, va_rf p0] M mc ms K (fun _ _ _ => False) := by
  refine zz_ofW hl (plainFor_of_name (by decide)) (by simp only [zz_sl0, zz_slI, zz_slJ, zz_slA] <;> decide) (fun G hZ hll C E hH hR hin => ?_)
  subst hZ
  subst hll
  rw [show lv_args 0 [va_rf this, va_rf p0] = [(0, va_rf this), (1, va_rf p0)] by simp only [zz_la0, zz_laI, zz_laJ, zz_laA]]
  unfold wp_X3_worth at hw
  refine zz_aload_n C dX3_worth_0 rfl 1 rfl ?_
  refine zz_getA C dX3_worth_1 (Or.inr ⟨_, q1740⟩) zf_15_1_ebateHall_Item hw (fun x1 hw => ?_)
  refine zz_gets (j := 8) (v := va_rf (some (zz_ad (zz_Zof G) 8))) C dX3_worth_4 (Or.inl q2026) rfl (Or.inl rfl) rfl ?_
  refine zz_acmp_ne (tgt := 50) C dX3_worth_7 (by decide) hw (fun hw => ?_) (fun hw => ?_)
  · refine zz_aload_n C dX3_worth_50 rfl 0 rfl ?_
    refine zz_aload_n C dX3_worth_51 rfl 1 rfl ?_
    obtain ⟨a9, t9, b9, fs9, hro, hL, rfl, hw⟩ := ztyS hw
    refine zz_callV (r := (zR_2, zT_2, 8)) (As := [va_rf p0]) (rest := []) (mc := 0) (ms := 0) C hR hro dX3_worth_52 (Or.inl q1942) q1944 (Or.inl qs19) zl_DebateHall_Minutes zk_X3_isIn (Or.inl rfl) zy_X3_isIn rfl (by decide) (by decide) hL (ok_X3_isIn (zz_hl C) hw) (Nat.zero_le _) (Nat.zero_le _) (zz_cat10 _ (Nat.le_of_ble_eq_true rfl)) (fun r2 M3 hw => zz_kI hw (fun x6 hw => ?_)) (fun _ _ _ h9 => h9.elim) rfl
    refine zz_if_ne (tgt := 60) C dX3_worth_55 (by decide) hw (fun hw => ?_) (fun hw => ?_)
    · refine zz_aload_n C dX3_worth_60 rfl 1 rfl ?_
      refine zz_getA C dX3_worth_61 (Or.inr ⟨_, q1740⟩) zf_15_1_ebateHall_Item hw (fun x7 hw => ?_)
      refine zz_gets (j := 10) (v := va_rf (some (zz_ad (zz_Zof G) 10))) C dX3_worth_64 (Or.inl q2031) rfl (Or.inl rfl) rfl ?_
      refine zz_acmp_ne (tgt := 74) C dX3_worth_67 (by decide) hw (fun hw => ?_) (fun hw => ?_)
      · refine zz_aload_n C dX3_worth_74 rfl 1 rfl ?_
        obtain ⟨a9, t9, b9, fs9, hro, hL, rfl, hw⟩ := ztyS hw
        refine zz_callV (r := (zR_15, zT_15, 8)) (As := []) (rest := []) (mc := 0) (ms := 0) C hR hro dX3_worth_75 (Or.inl q1951) q1952 (Or.inl q1953) zl_DebateHall_Item zk_X20_isStrong (Or.inl rfl) zy_X20_isStrong rfl (by decide) (by decide) hL (ok_X20_isStrong (zz_hl C) hw) (Nat.zero_le _) (Nat.zero_le _) (zz_cat10 _ (Nat.le_of_ble_eq_true rfl)) (fun r8 M9 hw => zz_kI hw (fun x12 hw => ?_)) (fun _ _ _ h9 => h9.elim) rfl
        refine zz_if_eq (tgt := 90) C dX3_worth_78 (by decide) hw (fun hw => ?_) (fun hw => ?_)
        · refine zz_iconst (v := (0 : Int32)) C dX3_worth_90 (by decide) ?_
          refine zz_subP [] rfl ?_
          exact ok_X3_worth_B91 C E hH hR hw
        · refine zz_aload_n C dX3_worth_81 rfl 1 rfl ?_
          refine zz_getI C dX3_worth_82 (Or.inr ⟨_, q1752⟩) zf_15_4_ebateHall_Item hw (fun x13 hw => ?_)
          refine zz_iconst (v := (2 : Int32)) C dX3_worth_85 (by decide) ?_
          obtain ⟨hne, hw⟩ := hw
          refine zz_idiv C dX3_worth_86 hne ?_
          refine zz_goto (tgt := 91) C dX3_worth_87 (by decide) ?_
          refine zz_subP [] rfl ?_
          exact ok_X3_worth_B91 C E hH hR hw
      · refine zz_iconst (v := (1 : Int32)) C dX3_worth_70 (by decide) ?_
        refine zz_goto (tgt := 91) C dX3_worth_71 (by decide) ?_
        refine zz_subP [] rfl ?_
        exact ok_X3_worth_B91 C E hH hR hw
    · refine zz_iconst (v := (0 : Int32)) C dX3_worth_58 (by decide) ?_
      exact zz_iret C E dX3_worth_59 hw
  · refine zz_aload_n C dX3_worth_10 rfl 0 rfl ?_
    refine zz_aload_n C dX3_worth_11 rfl 1 rfl ?_
    obtain ⟨a9, t9, b9, fs9, hro, hL, rfl, hw⟩ := ztyS hw
    refine zz_callV (r := (zR_2, zT_2, 8)) (As := [va_rf p0]) (rest := []) (mc := 0) (ms := 0) C hR hro dX3_worth_12 (Or.inl q1942) q1944 (Or.inl qs19) zl_DebateHall_Minutes zk_X3_isIn (Or.inl rfl) zy_X3_isIn rfl (by decide) (by decide) hL (ok_X3_isIn (zz_hl C) hw) (Nat.zero_le _) (Nat.zero_le _) (zz_cat10 _ (Nat.le_of_ble_eq_true rfl)) (fun r14 M15 hw => zz_kI hw (fun x18 hw => ?_)) (fun _ _ _ h9 => h9.elim) rfl
    refine zz_if_eq (tgt := 31) C dX3_worth_15 (by decide) hw (fun hw => ?_) (fun hw => ?_)
    · refine zz_aload_n C dX3_worth_31 rfl 0 rfl ?_
      refine zz_aload_n C dX3_worth_32 rfl 1 rfl ?_
      obtain ⟨a9, t9, b9, fs9, hro, hL, rfl, hw⟩ := ztyS hw
      refine zz_callV (r := (zR_2, zT_2, 8)) (As := [va_rf p0]) (rest := []) (mc := 0) (ms := 0) C hR hro dX3_worth_33 (Or.inl q1938) q1940 (Or.inl qs18) zl_DebateHall_Minutes zk_X3_isOut (Or.inl rfl) zy_X3_isOut rfl (by decide) (by decide) hL (ok_X3_isOut (zz_hl C) hw) (Nat.zero_le _) (Nat.zero_le _) (zz_cat10 _ (Nat.le_of_ble_eq_true rfl)) (fun r19 M20 hw => zz_kI hw (fun x23 hw => ?_)) (fun _ _ _ h9 => h9.elim) rfl
      refine zz_if_eq (tgt := 43) C dX3_worth_36 (by decide) hw (fun hw => ?_) (fun hw => ?_)
      · refine zz_aload_n C dX3_worth_43 rfl 1 rfl ?_
        refine zz_getI C dX3_worth_44 (Or.inr ⟨_, q1752⟩) zf_15_4_ebateHall_Item hw (fun x24 hw => ?_)
        refine zz_iconst (v := (2 : Int32)) C dX3_worth_47 (by decide) ?_
        obtain ⟨hne, hw⟩ := hw
        refine zz_idiv C dX3_worth_48 hne ?_
        refine zz_subP [] rfl ?_
        exact ok_X3_worth_B49 C E hH hR hw
      · refine zz_iconst (v := (0 : Int32)) C dX3_worth_39 (by decide) ?_
        refine zz_goto (tgt := 49) C dX3_worth_40 (by decide) ?_
        refine zz_subP [] rfl ?_
        exact ok_X3_worth_B49 C E hH hR hw
    · refine zz_aload_n C dX3_worth_18 rfl 1 rfl ?_
      refine zz_getI C dX3_worth_19 (Or.inr ⟨_, q1752⟩) zf_15_4_ebateHall_Item hw (fun x25 hw => ?_)
      refine zz_aload_n C dX3_worth_22 rfl 0 rfl ?_
      refine zz_aload_n C dX3_worth_23 rfl 1 rfl ?_
      obtain ⟨a9, t9, b9, fs9, hro, hL, rfl, hw⟩ := ztyS hw
      refine zz_callV (r := (zR_2, zT_2, 8)) (As := [va_rf p0]) (rest := [.int x25]) (mc := 0) (ms := 0) C hR hro dX3_worth_24 (Or.inl q2027) q2029 (Or.inl qs21) zl_DebateHall_Minutes zk_X3_forces (Or.inl rfl) zy_X3_forces rfl (by decide) (by decide) hL (ok_X3_forces (zz_hl C) hw) (Nat.zero_le _) (Nat.zero_le _) (zz_cat10 _ (Nat.le_of_ble_eq_true rfl)) (fun r26 M27 hw => zz_kI hw (fun x30 hw => ?_)) (fun _ _ _ h9 => h9.elim) rfl
      refine zz_iadd C dX3_worth_27 ?_
      refine zz_goto (tgt := 49) C dX3_worth_28 (by decide) ?_
      refine zz_subP [] rfl ?_
      exact ok_X3_worth_B49 C E hH hR hw
abbrev cX3_score : ByteArray := prog_12_method_11_code
def yX3_score : MethodName := ⟨"DebateHall$Minutes", "score", "(I)I"⟩
def dkwX3_score_3 : List UInt8 := [167, 0, 4, 3, 100, 96, 61, 132, 3, 1, 167, 255, 197, 28, 172]
abbrev dktX3_score_3 : List UInt8 := dkwX3_score_3 ++ []
def dkwX3_score_2 : List UInt8 := [180, 0, 94, 27, 160, 0, 26, 28, 42, 25, 4, 182, 0, 152, 25, 4, 180, 0, 103, 153, 0, 7, 4]
abbrev dktX3_score_2 : List UInt8 := dkwX3_score_2 ++ dktX3_score_3
def dkwX3_score_1 : List UInt8 := [180, 0, 18, 182, 0, 124, 162, 0, 54, 42, 180, 0, 18, 29, 182, 0, 82, 192, 0, 75, 58, 4, 25, 4]
abbrev dktX3_score_1 : List UInt8 := dkwX3_score_1 ++ dktX3_score_2
def dkwX3_score_0 : List UInt8 := [42, 180, 0, 12, 27, 182, 0, 82, 192, 0, 55, 180, 0, 65, 16, 60, 108, 61, 3, 62, 29, 42]
abbrev dktX3_score_0 : List UInt8 := dkwX3_score_0 ++ dktX3_score_1
theorem dksX3_score_0 : cX3_score.data.toList.drop 0 = dktX3_score_0 := by decide +kernel
theorem dksX3_score_1 : cX3_score.data.toList.drop 22 = dktX3_score_1 := dk_seg dksX3_score_0 22 rfl rfl
theorem dksX3_score_2 : cX3_score.data.toList.drop 46 = dktX3_score_2 := dk_seg dksX3_score_1 24 rfl rfl
theorem dksX3_score_3 : cX3_score.data.toList.drop 69 = dktX3_score_3 := dk_seg dksX3_score_2 23 rfl rfl
theorem dX3_score_0 : decode cX3_score 0 = .ok (.aload_n 0, 1) := dk_42 (dk_at dksX3_score_0 0 rfl rfl)
theorem dX3_score_1 : decode cX3_score 1 = .ok (.getfield 12, 3) := dk_180 0 12 (dk_at dksX3_score_0 1 rfl rfl)
theorem dX3_score_4 : decode cX3_score 4 = .ok (.iload_n 1, 1) := dk_27 (dk_at dksX3_score_0 4 rfl rfl)
theorem dX3_score_5 : decode cX3_score 5 = .ok (.invokevirtual 82, 3) := dk_182 0 82 (dk_at dksX3_score_0 5 rfl rfl)
theorem dX3_score_8 : decode cX3_score 8 = .ok (.checkcast 55, 3) := dk_192 0 55 (dk_at dksX3_score_0 8 rfl rfl)
theorem dX3_score_11 : decode cX3_score 11 = .ok (.getfield 65, 3) := dk_180 0 65 (dk_at dksX3_score_0 11 rfl rfl)
theorem dX3_score_14 : decode cX3_score 14 = .ok (.bipush 60, 2) := dk_16 60 (dk_at dksX3_score_0 14 rfl rfl)
theorem dX3_score_16 : decode cX3_score 16 = .ok (.idiv, 1) := dk_108 (dk_at dksX3_score_0 16 rfl rfl)
theorem dX3_score_17 : decode cX3_score 17 = .ok (.istore_n 2, 1) := dk_61 (dk_at dksX3_score_0 17 rfl rfl)
theorem dX3_score_18 : decode cX3_score 18 = .ok (.iconst 0, 1) := dk_3 (dk_at dksX3_score_0 18 rfl rfl)
theorem dX3_score_19 : decode cX3_score 19 = .ok (.istore_n 3, 1) := dk_62 (dk_at dksX3_score_0 19 rfl rfl)
theorem dX3_score_20 : decode cX3_score 20 = .ok (.iload_n 3, 1) := dk_29 (dk_at dksX3_score_0 20 rfl rfl)
theorem dX3_score_21 : decode cX3_score 21 = .ok (.aload_n 0, 1) := dk_42 (dk_at dksX3_score_0 21 rfl rfl)
theorem dX3_score_22 : decode cX3_score 22 = .ok (.getfield 18, 3) := dk_180 0 18 (dk_at dksX3_score_1 0 rfl rfl)
theorem dX3_score_25 : decode cX3_score 25 = .ok (.invokevirtual 124, 3) := dk_182 0 124 (dk_at dksX3_score_1 3 rfl rfl)
theorem dX3_score_28 : decode cX3_score 28 = .ok (.if_icmp .ge 54, 3) := dk_162 0 54 (dk_at dksX3_score_1 6 rfl rfl)
theorem dX3_score_31 : decode cX3_score 31 = .ok (.aload_n 0, 1) := dk_42 (dk_at dksX3_score_1 9 rfl rfl)
theorem dX3_score_32 : decode cX3_score 32 = .ok (.getfield 18, 3) := dk_180 0 18 (dk_at dksX3_score_1 10 rfl rfl)
theorem dX3_score_35 : decode cX3_score 35 = .ok (.iload_n 3, 1) := dk_29 (dk_at dksX3_score_1 13 rfl rfl)
theorem dX3_score_36 : decode cX3_score 36 = .ok (.invokevirtual 82, 3) := dk_182 0 82 (dk_at dksX3_score_1 14 rfl rfl)
theorem dX3_score_39 : decode cX3_score 39 = .ok (.checkcast 75, 3) := dk_192 0 75 (dk_at dksX3_score_1 17 rfl rfl)
theorem dX3_score_42 : decode cX3_score 42 = .ok (.astore 4, 2) := dk_58 4 (dk_at dksX3_score_1 20 rfl rfl)
theorem dX3_score_44 : decode cX3_score 44 = .ok (.aload 4, 2) := dk_25 4 (dk_at dksX3_score_1 22 rfl rfl)
theorem dX3_score_46 : decode cX3_score 46 = .ok (.getfield 94, 3) := dk_180 0 94 (dk_at dksX3_score_2 0 rfl rfl)
theorem dX3_score_49 : decode cX3_score 49 = .ok (.iload_n 1, 1) := dk_27 (dk_at dksX3_score_2 3 rfl rfl)
theorem dX3_score_50 : decode cX3_score 50 = .ok (.if_icmp .ne 26, 3) := dk_160 0 26 (dk_at dksX3_score_2 4 rfl rfl)
theorem dX3_score_53 : decode cX3_score 53 = .ok (.iload_n 2, 1) := dk_28 (dk_at dksX3_score_2 7 rfl rfl)
theorem dX3_score_54 : decode cX3_score 54 = .ok (.aload_n 0, 1) := dk_42 (dk_at dksX3_score_2 8 rfl rfl)
theorem dX3_score_55 : decode cX3_score 55 = .ok (.aload 4, 2) := dk_25 4 (dk_at dksX3_score_2 9 rfl rfl)
theorem dX3_score_57 : decode cX3_score 57 = .ok (.invokevirtual 152, 3) := dk_182 0 152 (dk_at dksX3_score_2 11 rfl rfl)
theorem dX3_score_60 : decode cX3_score 60 = .ok (.aload 4, 2) := dk_25 4 (dk_at dksX3_score_2 14 rfl rfl)
theorem dX3_score_62 : decode cX3_score 62 = .ok (.getfield 103, 3) := dk_180 0 103 (dk_at dksX3_score_2 16 rfl rfl)
theorem dX3_score_65 : decode cX3_score 65 = .ok (.ifCond .eq 7, 3) := dk_153 0 7 (dk_at dksX3_score_2 19 rfl rfl)
theorem dX3_score_68 : decode cX3_score 68 = .ok (.iconst 1, 1) := dk_4 (dk_at dksX3_score_2 22 rfl rfl)
theorem dX3_score_69 : decode cX3_score 69 = .ok (.goto 4, 3) := dk_167 0 4 (dk_at dksX3_score_3 0 rfl rfl)
theorem dX3_score_72 : decode cX3_score 72 = .ok (.iconst 0, 1) := dk_3 (dk_at dksX3_score_3 3 rfl rfl)
theorem dX3_score_73 : decode cX3_score 73 = .ok (.isub, 1) := dk_100 (dk_at dksX3_score_3 4 rfl rfl)
theorem dX3_score_74 : decode cX3_score 74 = .ok (.iadd, 1) := dk_96 (dk_at dksX3_score_3 5 rfl rfl)
theorem dX3_score_75 : decode cX3_score 75 = .ok (.istore_n 2, 1) := dk_61 (dk_at dksX3_score_3 6 rfl rfl)
theorem dX3_score_76 : decode cX3_score 76 = .ok (.iinc 3 1, 3) := dk_132 3 1 (dk_at dksX3_score_3 7 rfl rfl)
theorem dX3_score_79 : decode cX3_score 79 = .ok (.goto (-59), 3) := dk_167 255 197 (dk_at dksX3_score_3 10 rfl rfl)
theorem dX3_score_82 : decode cX3_score 82 = .ok (.iload_n 2, 1) := dk_28 (dk_at dksX3_score_3 13 rfl rfl)
theorem dX3_score_83 : decode cX3_score 83 = .ok (.ireturn, 1) := dk_172 (dk_at dksX3_score_3 14 rfl rfl)
theorem q1190 : (Jvm.Cond.classLink "DebateHall$Minutes" (55 : Nat) "DebateHall$Speaker") ∈ lw_all := lw_g (lw_at lw_m5 150 rfl) rfl
theorem zc_14_teHall_Speaker : zz_cok [14] "DebateHall$Speaker" := by
  intro t ht
  simp only [List.mem_cons, List.not_mem_nil, or_false] at ht
  rcases ht with rfl
  · exact ⟨(zR_14, zT_14, 3), rfl, Or.inl rfl⟩
theorem zf_14_2_teHall_Speaker : zz_fok [14] 2 "DebateHall$Speaker" "time" "I" := zz_fok1 (zR_14, zT_14, 3) rfl (by decide) rfl rfl (Or.inl rfl)
theorem q1203 : (Jvm.Cond.fieldLinkNest "DebateHall$Minutes" (65 : Nat) "DebateHall$Speaker" "time" "I" "DebateHall") ∈ lw_tbl := lw_at lw_m5 163 rfl
theorem q1748 : (Jvm.Cond.fieldLinkNest "DebateHall$Minutes" (94 : Nat) "DebateHall$Item" "speaker" "I" "DebateHall") ∈ lw_tbl := lw_at lw_m7 228 rfl
theorem q2025 : (Jvm.Cond.code ({ cls := "DebateHall$Minutes", name := "worth", desc := "(LDebateHall$Item;)I" } : Jvm.MethodName) prog_12_method_10_code (2 : Nat) (Option.some Jvm.ClassFile.FieldType.int)) ∈ lw_all := lw_g (lw_at lw_m9 25 rfl) rfl
theorem zk_X3_worth : zz_cd yX3_worth cX3_worth 2 (some .int) none ∈ lw_all := q2025
theorem zy_X3_worth : zz_yok yX3_worth 1 = true := by decide +kernel
theorem q1761 : (Jvm.Cond.fieldLinkNest "DebateHall$Minutes" (103 : Nat) "DebateHall$Item" "isConceded" "Z" "DebateHall") ∈ lw_tbl := lw_at lw_m8 1 rfl
theorem q2022 : (Jvm.Cond.methodLink "DebateHall$Minutes" (152 : Nat) ({ cls := "DebateHall$Minutes", name := "worth", desc := "(LDebateHall$Item;)I" } : Jvm.MethodName)) ∈ lw_all := lw_g (lw_at lw_m9 22 rfl) rfl
theorem q2024 : (Jvm.Cond.instanceMethod ({ cls := "DebateHall$Minutes", name := "worth", desc := "(LDebateHall$Item;)I" } : Jvm.MethodName)) ∈ lw_all := lw_g (lw_at lw_m9 24 rfl) rfl
def wp_X3_score_B76 (Z : zzG) (k20 : Option Nat → Int32 → Int32 → Int32 → zzM → Prop) (K : Option Value → zzM → Prop) (v0 : Option Nat) (v1 : Int32) (v2 : Int32) (v3 : Int32) (M : zzM) : Prop := k20 v0 v1 v2 (v3 + 1) M
def wp_X3_score_B73 (Z : zzG) (k20 : Option Nat → Int32 → Int32 → Int32 → zzM → Prop) (K : Option Value → zzM → Prop) (v0 : Option Nat) (v1 : Int32) (v3 : Int32) (s0 : Int32) (s1 : Int32) (s2 : Int32) (M : zzM) : Prop := wp_X3_score_B76 Z k20 K v0 v1 (s2 + (s1 - s0)) v3 M
def wp_X3_score_L20 (Z : zzG) (K : Option Value → zzM → Prop) : Nat → Option Nat → Int32 → Int32 → Int32 → zzM → Prop
  | 0, _, _, _, _, _ => False
  | n + 1, v0, v1, v2, v3, M => zgA Z M v0 [2] 1 fun x8 => zty Z M x8 fun t => t = 18 ∧ wp_J2_size Z x8 M (fun r9 M10 => zrI r9 fun x13 => if x13 ≤ v3 then (K (some (.int v2)) M10) else (zgA Z M10 v0 [2] 1 fun x14 => zty Z M10 x14 fun t => t = 18 ∧ wp_J2_get Z x14 v3 M10 (fun r15 M16 => zrA r15 fun x19 => zcast Z M16 x19 [15] <| zgI Z M16 x19 [15] 3 fun x20 => if x20 = v1 then (zty Z M16 v0 fun t => t = 2 ∧ wp_X3_worth Z v0 x19 M16 (fun r21 M22 => zrI r21 fun x25 => zgI Z M22 x19 [15] 7 fun x26 => if x26 = 0 then (wp_X3_score_B73 Z (wp_X3_score_L20 Z K n) K v0 v1 v3 (0 : Int32) x25 v2 M22) else (wp_X3_score_B73 Z (wp_X3_score_L20 Z K n) K v0 v1 v3 (1 : Int32) x25 v2 M22))) else (wp_X3_score_B76 Z (wp_X3_score_L20 Z K n) K v0 v1 v2 v3 M16))))
def wp_X3_score (Z : zzG) (this : Option Nat) (p0 : Int32) (M : zzM) (K : Option Value → zzM → Prop) : Prop := zgA Z M this [2] 0 fun x1 => zty Z M x1 fun t => t = 18 ∧ wp_J2_get Z x1 p0 M (fun r2 M3 => zrA r2 fun x6 => zcast Z M3 x6 [14] <| zgI Z M3 x6 [14] 2 fun x7 => ¬ (60 : Int32) = 0 ∧ ∃ n20 : Nat, wp_X3_score_L20 Z K n20 this p0 (x7 / (60 : Int32)) (0 : Int32) M3)
theorem ok_X3_score_B76 {G : zzX} (C : zz_C G cX3_score "DebateHall$Minutes" 5) {K : Option Value → zzM → Prop} (E : zz_E G (some .int) K (fun _ _ _ => False)) (hH : zz_H G []) (hR : zz_Rm G 6) {k20 : Option Nat → Int32 → Int32 → Int32 → zzM → Prop} (hk20 : ∀ (z0 : Option Nat) (z1 : Int32) (z2 : Int32) (z3 : Int32) (M : zzM) (bc bs : Nat), k20 z0 z1 z2 z3 M → zz_T G 5 M bc bs 20 [(0, va_rf z0), (1, .int z1), (2, .int z2), (3, .int z3)] []) {v0 : Option Nat} {v1 : Int32} {v2 : Int32} {v3 : Int32} {M : zzM} {bc bs : Nat} (hw : wp_X3_score_B76 (zz_Zof G) k20 K v0 v1 v2 v3 M) : zz_T G 5 M bc bs 76 [(0, va_rf v0), (1, .int v1), (2, .int v2), (3, .int v3)] [] := by
  unfold wp_X3_score_B76 at hw
  refine zz_iinc (lv' := [(3, .int (v3 + 1)), (0, va_rf v0), (1, .int v1), (2, .int v2)]) C dX3_score_76 3 rfl (by rfl) (by decide) rfl ?_
  refine zz_goto (tgt := 20) C dX3_score_79 (by decide) ?_
  refine zz_subP [1, 2, 3, 0] rfl ?_
  exact hk20 _ _ _ _ _ _ _ hw
theorem ok_X3_score_B73 {G : zzX} (C : zz_C G cX3_score "DebateHall$Minutes" 5) {K : Option Value → zzM → Prop} (E : zz_E G (some .int) K (fun _ _ _ => False)) (hH : zz_H G []) (hR : zz_Rm G 6) {k20 : Option Nat → Int32 → Int32 → Int32 → zzM → Prop} (hk20 : ∀ (z0 : Option Nat) (z1 : Int32) (z2 : Int32) (z3 : Int32) (M : zzM) (bc bs : Nat), k20 z0 z1 z2 z3 M → zz_T G 5 M bc bs 20 [(0, va_rf z0), (1, .int z1), (2, .int z2), (3, .int z3)] []) {v0 : Option Nat} {v1 : Int32} {v3 : Int32} {s0 : Int32} {s1 : Int32} {s2 : Int32} {M : zzM} {bc bs : Nat} (hw : wp_X3_score_B73 (zz_Zof G) k20 K v0 v1 v3 s0 s1 s2 M) : zz_T G 5 M bc bs 73 [(0, va_rf v0), (1, .int v1), (3, .int v3)] [.int s0, .int s1, .int s2] := by
  unfold wp_X3_score_B73 at hw
  refine zz_isub C dX3_score_73 ?_
  refine zz_iadd C dX3_score_74 ?_
  refine zz_istore_n (i := 2) (lv' := [(2, .int (s2 + (s1 - s0))), (0, va_rf v0), (1, .int v1), (3, .int v3)]) C dX3_score_75 rfl (by decide) rfl ?_
  refine zz_subP [1, 2, 0, 3] rfl ?_
  exact ok_X3_score_B76 C E hH hR hk20 hw
theorem ok_X3_score_L20 {G : zzX} (C : zz_C G cX3_score "DebateHall$Minutes" 5) {K : Option Value → zzM → Prop} (E : zz_E G (some .int) K (fun _ _ _ => False)) (hH : zz_H G []) (hR : zz_Rm G 6) : ∀ (n : Nat) (v0 : Option Nat) (v1 : Int32) (v2 : Int32) (v3 : Int32) (M : zzM) (bc bs : Nat), wp_X3_score_L20 (zz_Zof G) K n v0 v1 v2 v3 M → zz_T G 5 M bc bs 20 [(0, va_rf v0), (1, .int v1), (2, .int v2), (3, .int v3)] [] := by
  intro n
  induction n with
  | zero =>
    intro v0 v1 v2 v3 M bc bs hw
    exact False.elim hw
  | succ n ih =>
    intro v0 v1 v2 v3 M bc bs hw
    refine zz_iload_n C dX3_score_20 rfl 3 rfl ?_
    refine zz_aload_n C dX3_score_21 rfl 0 rfl ?_
    refine zz_getA C dX3_score_22 (Or.inl q235) zf_2_1_teHall_Minutes hw (fun x8 hw => ?_)
    obtain ⟨a9, t9, b9, fs9, hro, hL, rfl, hw⟩ := ztyS hw
    refine zz_callV (r := (zR_18, zT_18, 3)) (As := []) (rest := [.int v3]) (mc := 0) (ms := 0) C hR hro dX3_score_25 (Or.inl q1933) q354 (Or.inl q355) zl_java_util_ArrayList zk_J2_size (Or.inl rfl) zy_J2_size rfl (by decide) (by decide) hL (ok_J2_size (zz_hl C) hw) (Nat.zero_le _) (Nat.zero_le _) (zz_cat10 _ (Nat.le_of_ble_eq_true rfl)) (fun r9 M10 hw => zz_kI hw (fun x13 hw => ?_)) (fun _ _ _ h9 => h9.elim) rfl
    refine zz_icmp_ge (tgt := 82) C dX3_score_28 (by decide) hw (fun hw => ?_) (fun hw => ?_)
    · refine zz_iload_n C dX3_score_82 rfl 2 rfl ?_
      exact zz_iret C E dX3_score_83 hw
    · refine zz_aload_n C dX3_score_31 rfl 0 rfl ?_
      refine zz_getA C dX3_score_32 (Or.inl q235) zf_2_1_teHall_Minutes hw (fun x14 hw => ?_)
      refine zz_iload_n C dX3_score_35 rfl 3 rfl ?_
      obtain ⟨a9, t9, b9, fs9, hro, hL, rfl, hw⟩ := ztyS hw
      refine zz_callV (r := (zR_18, zT_18, 3)) (As := [.int v3]) (rest := []) (mc := 0) (ms := 0) C hR hro dX3_score_36 (Or.inl q1728) q877 (Or.inl q2872) zl_java_util_ArrayList zk_J2_get (Or.inl rfl) zy_J2_get rfl (by decide) (by decide) hL (ok_J2_get (zz_hl C) hw) (Nat.zero_le _) (Nat.zero_le _) (zz_cat10 _ (Nat.le_of_ble_eq_true rfl)) (fun r15 M16 hw => zz_kA hw (fun x19 hw => ?_)) (fun _ _ _ h9 => h9.elim) rfl
      refine zz_cast C dX3_score_39 q1727 zc_15_ebateHall_Item hw (fun hw => ?_)
      refine zz_astore (lv' := [(4, va_rf x19), (0, va_rf v0), (1, .int v1), (2, .int v2), (3, .int v3)]) C dX3_score_42 (by decide) rfl ?_
      refine zz_aload C dX3_score_44 0 rfl ?_
      refine zz_getI C dX3_score_46 (Or.inr ⟨_, q1748⟩) zf_15_3_ebateHall_Item hw (fun x20 hw => ?_)
      refine zz_iload_n C dX3_score_49 rfl 2 rfl ?_
      refine zz_icmp_ne (tgt := 76) C dX3_score_50 (by decide) hw (fun hw => ?_) (fun hw => ?_)
      · refine zz_subP [1, 2, 3, 4] rfl ?_
        exact ok_X3_score_B76 C E hH hR (fun z0 z1 z2 z3 z4 z5 z6 hw => ih z0 z1 z2 z3 z4 z5 z6 hw) hw
      · refine zz_iload_n C dX3_score_53 rfl 3 rfl ?_
        refine zz_aload_n C dX3_score_54 rfl 1 rfl ?_
        refine zz_aload C dX3_score_55 0 rfl ?_
        obtain ⟨a9, t9, b9, fs9, hro, hL, rfl, hw⟩ := ztyS hw
        refine zz_callV (r := (zR_2, zT_2, 8)) (As := [va_rf x19]) (rest := [.int v2]) (mc := 0) (ms := 0) C hR hro dX3_score_57 (Or.inl q2022) q2024 (Or.inl qs20) zl_DebateHall_Minutes zk_X3_worth (Or.inl rfl) zy_X3_worth rfl (by decide) (by decide) hL (ok_X3_worth (zz_hl C) hw) (Nat.zero_le _) (Nat.zero_le _) (zz_cat10 _ (Nat.le_of_ble_eq_true rfl)) (fun r21 M22 hw => zz_kI hw (fun x25 hw => ?_)) (fun _ _ _ h9 => h9.elim) rfl
        refine zz_aload C dX3_score_60 0 rfl ?_
        refine zz_getI C dX3_score_62 (Or.inr ⟨_, q1761⟩) zf_15_7_ebateHall_Item hw (fun x26 hw => ?_)
        refine zz_if_eq (tgt := 72) C dX3_score_65 (by decide) hw (fun hw => ?_) (fun hw => ?_)
        · refine zz_iconst (v := (0 : Int32)) C dX3_score_72 (by decide) ?_
          refine zz_subP [1, 2, 4] rfl ?_
          exact ok_X3_score_B73 C E hH hR (fun z0 z1 z2 z3 z4 z5 z6 hw => ih z0 z1 z2 z3 z4 z5 z6 hw) hw
        · refine zz_iconst (v := (1 : Int32)) C dX3_score_68 (by decide) ?_
          refine zz_goto (tgt := 73) C dX3_score_69 (by decide) ?_
          refine zz_subP [1, 2, 4] rfl ?_
          exact ok_X3_score_B73 C E hH hR (fun z0 z1 z2 z3 z4 z5 z6 hw => ih z0 z1 z2 z3 z4 z5 z6 hw) hw
theorem ok_X3_score {Z : zzG} {l : Launch} (hl : l.stackTraces = false) {this : Option Nat} {p0 : Int32} {M : zzM} {mc ms : Nat} {K : Option Value → zzM → Prop} (hw : wp_X3_score Z this p0 M K) : zz_Met Z l yX3_score (zz_ws yX3_score cX3_score 5 (some .int) none) 6 [va_rf this, .int p0] M mc ms K (fun _ _ _ => False) := by
  refine zz_ofW hl (plainFor_of_name (by decide)) (by simp only [zz_sl0, zz_slI, zz_slJ, zz_slA] <;> decide) (fun G hZ hll C E hH hR hin => ?_)
  subst hZ
  subst hll
  rw [show lv_args 0 [va_rf this, .int p0] = [(0, va_rf this), (1, .int p0)] by simp only [zz_la0, zz_laI, zz_laJ, zz_laA]]
  unfold wp_X3_score at hw
  refine zz_aload_n C dX3_score_0 rfl 0 rfl ?_
  refine zz_getA C dX3_score_1 (Or.inl q231) zf_2_0_teHall_Minutes hw (fun x1 hw => ?_)
  refine zz_iload_n C dX3_score_4 rfl 1 rfl ?_
  obtain ⟨a9, t9, b9, fs9, hro, hL, rfl, hw⟩ := ztyS hw
  refine zz_callV (r := (zR_18, zT_18, 3)) (As := [.int p0]) (rest := []) (mc := 0) (ms := 0) C hR hro dX3_score_5 (Or.inl q1728) q877 (Or.inl q2872) zl_java_util_ArrayList zk_J2_get (Or.inl rfl) zy_J2_get rfl (by decide) (by decide) hL (ok_J2_get (zz_hl C) hw) (Nat.zero_le _) (Nat.zero_le _) (zz_cat10 _ (Nat.le_of_ble_eq_true rfl)) (fun r2 M3 hw => zz_kA hw (fun x6 hw => ?_)) (fun _ _ _ h9 => h9.elim) rfl
  refine zz_cast C dX3_score_8 q1190 zc_14_teHall_Speaker hw (fun hw => ?_)
  refine zz_getI C dX3_score_11 (Or.inr ⟨_, q1203⟩) zf_14_2_teHall_Speaker hw (fun x7 hw => ?_)
  refine zz_bipush (v := (60 : Int32)) C dX3_score_14 (by decide) ?_
  obtain ⟨hne, hw⟩ := hw
  refine zz_idiv C dX3_score_16 hne ?_
  refine zz_istore_n (i := 2) (lv' := [(2, .int (x7 / (60 : Int32))), (0, va_rf this), (1, .int p0)]) C dX3_score_17 rfl (by decide) rfl ?_
  refine zz_iconst (v := (0 : Int32)) C dX3_score_18 (by decide) ?_
  refine zz_istore_n (i := 3) (lv' := [(3, .int (0 : Int32)), (2, .int (x7 / (60 : Int32))), (0, va_rf this), (1, .int p0)]) C dX3_score_19 rfl (by decide) rfl ?_
  refine zz_subP [2, 3, 1, 0] rfl ?_
  obtain ⟨n20, hw⟩ := hw
  exact ok_X3_score_L20 C E hH hR n20 _ _ _ _ _ _ _ hw
abbrev cJ16_max : ByteArray := prog_43_method_65_code
def yJ16_max : MethodName := ⟨"java/lang/Math", "max", "(II)I"⟩
def dkwJ16_max_0 : List UInt8 := [26, 27, 161, 0, 7, 26, 167, 0, 4, 27, 172]
abbrev dktJ16_max_0 : List UInt8 := dkwJ16_max_0 ++ []
theorem dksJ16_max_0 : cJ16_max.data.toList.drop 0 = dktJ16_max_0 := by decide +kernel
theorem dJ16_max_0 : decode cJ16_max 0 = .ok (.iload_n 0, 1) := dk_26 (dk_at dksJ16_max_0 0 rfl rfl)
theorem dJ16_max_1 : decode cJ16_max 1 = .ok (.iload_n 1, 1) := dk_27 (dk_at dksJ16_max_0 1 rfl rfl)
theorem dJ16_max_2 : decode cJ16_max 2 = .ok (.if_icmp .lt 7, 3) := dk_161 0 7 (dk_at dksJ16_max_0 2 rfl rfl)
theorem dJ16_max_5 : decode cJ16_max 5 = .ok (.iload_n 0, 1) := dk_26 (dk_at dksJ16_max_0 5 rfl rfl)
theorem dJ16_max_6 : decode cJ16_max 6 = .ok (.goto 4, 3) := dk_167 0 4 (dk_at dksJ16_max_0 6 rfl rfl)
theorem dJ16_max_9 : decode cJ16_max 9 = .ok (.iload_n 1, 1) := dk_27 (dk_at dksJ16_max_0 9 rfl rfl)
theorem dJ16_max_10 : decode cJ16_max 10 = .ok (.ireturn, 1) := dk_172 (dk_at dksJ16_max_0 10 rfl rfl)
def wp_J16_max_B10 (Z : zzG) (K : Option Value → zzM → Prop) (s0 : Int32) (M : zzM) : Prop := K (some (.int s0)) M
def wp_J16_max (Z : zzG) (p0 : Int32) (p1 : Int32) (M : zzM) (K : Option Value → zzM → Prop) : Prop := if p0 < p1 then (wp_J16_max_B10 Z K p1 M) else (wp_J16_max_B10 Z K p0 M)
theorem ok_J16_max_B10 {G : zzX} (C : zz_C G cJ16_max "java/lang/Math" 2) {K : Option Value → zzM → Prop} (E : zz_E G (some .int) K (fun _ _ _ => False)) (hH : zz_H G []) (hR : zz_Rm G 1) {s0 : Int32} {M : zzM} {bc bs : Nat} (hw : wp_J16_max_B10 (zz_Zof G) K s0 M) : zz_T G 2 M bc bs 10 [] [.int s0] := by
  unfold wp_J16_max_B10 at hw
  exact zz_iret C E dJ16_max_10 hw
theorem ok_J16_max {Z : zzG} {l : Launch} (hl : l.stackTraces = false) {p0 : Int32} {p1 : Int32} {M : zzM} {mc ms : Nat} {K : Option Value → zzM → Prop} (hw : wp_J16_max Z p0 p1 M K) : zz_Met Z l yJ16_max (zz_ws yJ16_max cJ16_max 2 (some .int) none) 1 [.int p0, .int p1] M mc ms K (fun _ _ _ => False) := by
  refine zz_ofW hl (by decide +kernel) (by simp only [zz_sl0, zz_slI, zz_slJ, zz_slA] <;> decide) (fun G hZ hll C E hH hR hin => ?_)
  subst hZ
  subst hll
  rw [show lv_args 0 [.int p0, .int p1] = [(0, .int p0), (1, .int p1)] by simp only [zz_la0, zz_laI, zz_laJ, zz_laA]]
  unfold wp_J16_max at hw
  refine zz_iload_n C dJ16_max_0 rfl 0 rfl ?_
  refine zz_iload_n C dJ16_max_1 rfl 1 rfl ?_
  refine zz_icmp_lt (tgt := 9) C dJ16_max_2 (by decide) hw (fun hw => ?_) (fun hw => ?_)
  · refine zz_iload_n C dJ16_max_9 rfl 1 rfl ?_
    refine zz_subP [] rfl ?_
    exact ok_J16_max_B10 C E hH hR hw
  · refine zz_iload_n C dJ16_max_5 rfl 0 rfl ?_
    refine zz_goto (tgt := 10) C dJ16_max_6 (by decide) ?_
    refine zz_subP [] rfl ?_
    exact ok_J16_max_B10 C E hH hR hw
abbrev cX3_lead : ByteArray := prog_12_method_12_code
def yX3_lead : MethodName := ⟨"DebateHall$Minutes", "lead", "(I)I"⟩
def dkwX3_lead_2 : List UInt8 := [167, 0, 10, 42, 27, 182, 0, 158, 28, 100, 172]
abbrev dktX3_lead_2 : List UInt8 := dkwX3_lead_2 ++ []
def dkwX3_lead_1 : List UInt8 := [182, 0, 158, 184, 0, 162, 61, 132, 3, 1, 167, 255, 227, 28, 18, 157, 160, 0, 11, 42, 27, 182, 0, 158]
abbrev dktX3_lead_1 : List UInt8 := dkwX3_lead_1 ++ dktX3_lead_2
def dkwX3_lead_0 : List UInt8 := [18, 157, 61, 3, 62, 29, 42, 180, 0, 12, 182, 0, 124, 162, 0, 24, 29, 27, 159, 0, 13, 28, 42, 29]
abbrev dktX3_lead_0 : List UInt8 := dkwX3_lead_0 ++ dktX3_lead_1
theorem dksX3_lead_0 : cX3_lead.data.toList.drop 0 = dktX3_lead_0 := by decide +kernel
theorem dksX3_lead_1 : cX3_lead.data.toList.drop 24 = dktX3_lead_1 := dk_seg dksX3_lead_0 24 rfl rfl
theorem dksX3_lead_2 : cX3_lead.data.toList.drop 48 = dktX3_lead_2 := dk_seg dksX3_lead_1 24 rfl rfl
theorem dX3_lead_0 : decode cX3_lead 0 = .ok (.ldc 157, 2) := dk_18 157 (dk_at dksX3_lead_0 0 rfl rfl)
theorem dX3_lead_2 : decode cX3_lead 2 = .ok (.istore_n 2, 1) := dk_61 (dk_at dksX3_lead_0 2 rfl rfl)
theorem dX3_lead_3 : decode cX3_lead 3 = .ok (.iconst 0, 1) := dk_3 (dk_at dksX3_lead_0 3 rfl rfl)
theorem dX3_lead_4 : decode cX3_lead 4 = .ok (.istore_n 3, 1) := dk_62 (dk_at dksX3_lead_0 4 rfl rfl)
theorem dX3_lead_5 : decode cX3_lead 5 = .ok (.iload_n 3, 1) := dk_29 (dk_at dksX3_lead_0 5 rfl rfl)
theorem dX3_lead_6 : decode cX3_lead 6 = .ok (.aload_n 0, 1) := dk_42 (dk_at dksX3_lead_0 6 rfl rfl)
theorem dX3_lead_7 : decode cX3_lead 7 = .ok (.getfield 12, 3) := dk_180 0 12 (dk_at dksX3_lead_0 7 rfl rfl)
theorem dX3_lead_10 : decode cX3_lead 10 = .ok (.invokevirtual 124, 3) := dk_182 0 124 (dk_at dksX3_lead_0 10 rfl rfl)
theorem dX3_lead_13 : decode cX3_lead 13 = .ok (.if_icmp .ge 24, 3) := dk_162 0 24 (dk_at dksX3_lead_0 13 rfl rfl)
theorem dX3_lead_16 : decode cX3_lead 16 = .ok (.iload_n 3, 1) := dk_29 (dk_at dksX3_lead_0 16 rfl rfl)
theorem dX3_lead_17 : decode cX3_lead 17 = .ok (.iload_n 1, 1) := dk_27 (dk_at dksX3_lead_0 17 rfl rfl)
theorem dX3_lead_18 : decode cX3_lead 18 = .ok (.if_icmp .eq 13, 3) := dk_159 0 13 (dk_at dksX3_lead_0 18 rfl rfl)
theorem dX3_lead_21 : decode cX3_lead 21 = .ok (.iload_n 2, 1) := dk_28 (dk_at dksX3_lead_0 21 rfl rfl)
theorem dX3_lead_22 : decode cX3_lead 22 = .ok (.aload_n 0, 1) := dk_42 (dk_at dksX3_lead_0 22 rfl rfl)
theorem dX3_lead_23 : decode cX3_lead 23 = .ok (.iload_n 3, 1) := dk_29 (dk_at dksX3_lead_0 23 rfl rfl)
theorem dX3_lead_24 : decode cX3_lead 24 = .ok (.invokevirtual 158, 3) := dk_182 0 158 (dk_at dksX3_lead_1 0 rfl rfl)
theorem dX3_lead_27 : decode cX3_lead 27 = .ok (.invokestatic 162, 3) := dk_184 0 162 (dk_at dksX3_lead_1 3 rfl rfl)
theorem dX3_lead_30 : decode cX3_lead 30 = .ok (.istore_n 2, 1) := dk_61 (dk_at dksX3_lead_1 6 rfl rfl)
theorem dX3_lead_31 : decode cX3_lead 31 = .ok (.iinc 3 1, 3) := dk_132 3 1 (dk_at dksX3_lead_1 7 rfl rfl)
theorem dX3_lead_34 : decode cX3_lead 34 = .ok (.goto (-29), 3) := dk_167 255 227 (dk_at dksX3_lead_1 10 rfl rfl)
theorem dX3_lead_37 : decode cX3_lead 37 = .ok (.iload_n 2, 1) := dk_28 (dk_at dksX3_lead_1 13 rfl rfl)
theorem dX3_lead_38 : decode cX3_lead 38 = .ok (.ldc 157, 2) := dk_18 157 (dk_at dksX3_lead_1 14 rfl rfl)
theorem dX3_lead_40 : decode cX3_lead 40 = .ok (.if_icmp .ne 11, 3) := dk_160 0 11 (dk_at dksX3_lead_1 16 rfl rfl)
theorem dX3_lead_43 : decode cX3_lead 43 = .ok (.aload_n 0, 1) := dk_42 (dk_at dksX3_lead_1 19 rfl rfl)
theorem dX3_lead_44 : decode cX3_lead 44 = .ok (.iload_n 1, 1) := dk_27 (dk_at dksX3_lead_1 20 rfl rfl)
theorem dX3_lead_45 : decode cX3_lead 45 = .ok (.invokevirtual 158, 3) := dk_182 0 158 (dk_at dksX3_lead_1 21 rfl rfl)
theorem dX3_lead_48 : decode cX3_lead 48 = .ok (.goto 10, 3) := dk_167 0 10 (dk_at dksX3_lead_2 0 rfl rfl)
theorem dX3_lead_51 : decode cX3_lead 51 = .ok (.aload_n 0, 1) := dk_42 (dk_at dksX3_lead_2 3 rfl rfl)
theorem dX3_lead_52 : decode cX3_lead 52 = .ok (.iload_n 1, 1) := dk_27 (dk_at dksX3_lead_2 4 rfl rfl)
theorem dX3_lead_53 : decode cX3_lead 53 = .ok (.invokevirtual 158, 3) := dk_182 0 158 (dk_at dksX3_lead_2 5 rfl rfl)
theorem dX3_lead_56 : decode cX3_lead 56 = .ok (.iload_n 2, 1) := dk_28 (dk_at dksX3_lead_2 8 rfl rfl)
theorem dX3_lead_57 : decode cX3_lead 57 = .ok (.isub, 1) := dk_100 (dk_at dksX3_lead_2 9 rfl rfl)
theorem dX3_lead_58 : decode cX3_lead 58 = .ok (.ireturn, 1) := dk_172 (dk_at dksX3_lead_2 10 rfl rfl)
theorem q2171 : (Jvm.Cond.constant "DebateHall$Minutes" (157 : Nat) (-2147483648 : Int32)) ∈ lw_all := lw_g (lw_at lw_m9 171 rfl) rfl
theorem q2021 : (Jvm.Cond.code ({ cls := "DebateHall$Minutes", name := "score", desc := "(I)I" } : Jvm.MethodName) prog_12_method_11_code (5 : Nat) (Option.some Jvm.ClassFile.FieldType.int)) ∈ lw_all := lw_g (lw_at lw_m9 21 rfl) rfl
theorem zk_X3_score : zz_cd yX3_score cX3_score 5 (some .int) none ∈ lw_all := q2021
theorem zy_X3_score : zz_yok yX3_score 1 = true := by decide +kernel
theorem q2172 : (Jvm.Cond.methodLink "DebateHall$Minutes" (158 : Nat) ({ cls := "DebateHall$Minutes", name := "score", desc := "(I)I" } : Jvm.MethodName)) ∈ lw_all := lw_g (lw_at lw_m9 172 rfl) rfl
theorem q2019 : (Jvm.Cond.instanceMethod ({ cls := "DebateHall$Minutes", name := "score", desc := "(I)I" } : Jvm.MethodName)) ∈ lw_all := lw_g (lw_at lw_m9 19 rfl) rfl
theorem q2020 : (Jvm.Cond.selects "DebateHall$Minutes" ({ cls := "DebateHall$Minutes", name := "score", desc := "(I)I" } : Jvm.MethodName) ({ cls := "DebateHall$Minutes", name := "score", desc := "(I)I" } : Jvm.MethodName)) ∈ lw_all := lw_g (lw_at lw_m9 20 rfl) rfl
theorem q420 : (Jvm.Cond.code ({ cls := "java/lang/Math", name := "max", desc := "(II)I" } : Jvm.MethodName) prog_43_method_65_code (2 : Nat) (Option.some Jvm.ClassFile.FieldType.int)) ∈ lw_all := lw_g (lw_at lw_m2 100 rfl) rfl
theorem zk_J16_max : zz_cd yJ16_max cJ16_max 2 (some .int) none ∈ lw_all := q420
theorem zy_J16_max : zz_yok yJ16_max 2 = true := by decide +kernel
theorem q2173 : (Jvm.Cond.methodLink "DebateHall$Minutes" (162 : Nat) ({ cls := "java/lang/Math", name := "max", desc := "(II)I" } : Jvm.MethodName)) ∈ lw_all := lw_g (lw_at lw_m9 173 rfl) rfl
theorem q106 : (Jvm.Cond.initialized "java/lang/Math") ∈ lw_all := lw_g (lw_at lw_m1 26 rfl) rfl
theorem zl_java_lang_Math : Cond.initialized "java/lang/Math" ∈ lw_all := q106
theorem q419 : (Jvm.Cond.static ({ cls := "java/lang/Math", name := "max", desc := "(II)I" } : Jvm.MethodName)) ∈ lw_all := lw_g (lw_at lw_m2 99 rfl) rfl
def wp_X3_lead_B31 (Z : zzG) (k5 : Option Nat → Int32 → Int32 → Int32 → zzM → Prop) (K : Option Value → zzM → Prop) (v0 : Option Nat) (v1 : Int32) (v2 : Int32) (v3 : Int32) (M : zzM) : Prop := k5 v0 v1 v2 (v3 + 1) M
def wp_X3_lead_B58 (Z : zzG) (K : Option Value → zzM → Prop) (s0 : Int32) (M : zzM) : Prop := K (some (.int s0)) M
def wp_X3_lead_L5 (Z : zzG) (K : Option Value → zzM → Prop) : Nat → Option Nat → Int32 → Int32 → Int32 → zzM → Prop
  | 0, _, _, _, _, _ => False
  | n + 1, v0, v1, v2, v3, M => zgA Z M v0 [2] 0 fun x1 => zty Z M x1 fun t => t = 18 ∧ wp_J2_size Z x1 M (fun r2 M3 => zrI r2 fun x6 => if x6 ≤ v3 then (if v2 = (-2147483648 : Int32) then (zty Z M3 v0 fun t => t = 2 ∧ wp_X3_score Z v0 v1 M3 (fun r12 M13 => zrI r12 fun x16 => wp_X3_lead_B58 Z K x16 M13)) else (zty Z M3 v0 fun t => t = 2 ∧ wp_X3_score Z v0 v1 M3 (fun r7 M8 => zrI r7 fun x11 => wp_X3_lead_B58 Z K (x11 - v2) M8))) else (if v3 = v1 then (wp_X3_lead_B31 Z (wp_X3_lead_L5 Z K n) K v0 v1 v2 v3 M3) else (zty Z M3 v0 fun t => t = 2 ∧ wp_X3_score Z v0 v3 M3 (fun r17 M18 => zrI r17 fun x21 => wp_J16_max Z v2 x21 M18 (fun r22 M23 => zrI r22 fun x26 => wp_X3_lead_B31 Z (wp_X3_lead_L5 Z K n) K v0 v1 x26 v3 M23)))))
def wp_X3_lead (Z : zzG) (this : Option Nat) (p0 : Int32) (M : zzM) (K : Option Value → zzM → Prop) : Prop := ∃ n5 : Nat, wp_X3_lead_L5 Z K n5 this p0 (-2147483648 : Int32) (0 : Int32) M
theorem ok_X3_lead_B31 {G : zzX} (C : zz_C G cX3_lead "DebateHall$Minutes" 4) {K : Option Value → zzM → Prop} (E : zz_E G (some .int) K (fun _ _ _ => False)) (hH : zz_H G []) (hR : zz_Rm G 7) {k5 : Option Nat → Int32 → Int32 → Int32 → zzM → Prop} (hk5 : ∀ (z0 : Option Nat) (z1 : Int32) (z2 : Int32) (z3 : Int32) (M : zzM) (bc bs : Nat), k5 z0 z1 z2 z3 M → zz_T G 4 M bc bs 5 [(0, va_rf z0), (1, .int z1), (2, .int z2), (3, .int z3)] []) {v0 : Option Nat} {v1 : Int32} {v2 : Int32} {v3 : Int32} {M : zzM} {bc bs : Nat} (hw : wp_X3_lead_B31 (zz_Zof G) k5 K v0 v1 v2 v3 M) : zz_T G 4 M bc bs 31 [(0, va_rf v0), (1, .int v1), (2, .int v2), (3, .int v3)] [] := by
  unfold wp_X3_lead_B31 at hw
  refine zz_iinc (lv' := [(3, .int (v3 + 1)), (0, va_rf v0), (1, .int v1), (2, .int v2)]) C dX3_lead_31 3 rfl (by rfl) (by decide) rfl ?_
  refine zz_goto (tgt := 5) C dX3_lead_34 (by decide) ?_
  refine zz_subP [1, 2, 3, 0] rfl ?_
  exact hk5 _ _ _ _ _ _ _ hw
theorem ok_X3_lead_B58 {G : zzX} (C : zz_C G cX3_lead "DebateHall$Minutes" 4) {K : Option Value → zzM → Prop} (E : zz_E G (some .int) K (fun _ _ _ => False)) (hH : zz_H G []) (hR : zz_Rm G 7) {s0 : Int32} {M : zzM} {bc bs : Nat} (hw : wp_X3_lead_B58 (zz_Zof G) K s0 M) : zz_T G 4 M bc bs 58 [] [.int s0] := by
  unfold wp_X3_lead_B58 at hw
  exact zz_iret C E dX3_lead_58 hw
theorem ok_X3_lead_L5 {G : zzX} (C : zz_C G cX3_lead "DebateHall$Minutes" 4) {K : Option Value → zzM → Prop} (E : zz_E G (some .int) K (fun _ _ _ => False)) (hH : zz_H G []) (hR : zz_Rm G 7) : ∀ (n : Nat) (v0 : Option Nat) (v1 : Int32) (v2 : Int32) (v3 : Int32) (M : zzM) (bc bs : Nat), wp_X3_lead_L5 (zz_Zof G) K n v0 v1 v2 v3 M → zz_T G 4 M bc bs 5 [(0, va_rf v0), (1, .int v1), (2, .int v2), (3, .int v3)] [] := by
  intro n
  induction n with
  | zero =>
    intro v0 v1 v2 v3 M bc bs hw
    exact False.elim hw
  | succ n ih =>
    intro v0 v1 v2 v3 M bc bs hw
    refine zz_iload_n C dX3_lead_5 rfl 3 rfl ?_
    refine zz_aload_n C dX3_lead_6 rfl 0 rfl ?_
    refine zz_getA C dX3_lead_7 (Or.inl q231) zf_2_0_teHall_Minutes hw (fun x1 hw => ?_)
    obtain ⟨a9, t9, b9, fs9, hro, hL, rfl, hw⟩ := ztyS hw
    refine zz_callV (r := (zR_18, zT_18, 3)) (As := []) (rest := [.int v3]) (mc := 0) (ms := 0) C hR hro dX3_lead_10 (Or.inl q1933) q354 (Or.inl q355) zl_java_util_ArrayList zk_J2_size (Or.inl rfl) zy_J2_size rfl (by decide) (by decide) hL (ok_J2_size (zz_hl C) hw) (Nat.zero_le _) (Nat.zero_le _) (zz_cat10 _ (Nat.le_of_ble_eq_true rfl)) (fun r2 M3 hw => zz_kI hw (fun x6 hw => ?_)) (fun _ _ _ h9 => h9.elim) rfl
    refine zz_icmp_ge (tgt := 37) C dX3_lead_13 (by decide) hw (fun hw => ?_) (fun hw => ?_)
    · refine zz_iload_n C dX3_lead_37 rfl 2 rfl ?_
      refine zz_ldci C dX3_lead_38 q2171 ?_
      refine zz_icmp_ne (tgt := 51) C dX3_lead_40 (by decide) hw (fun hw => ?_) (fun hw => ?_)
      · refine zz_aload_n C dX3_lead_51 rfl 0 rfl ?_
        refine zz_iload_n C dX3_lead_52 rfl 1 rfl ?_
        obtain ⟨a9, t9, b9, fs9, hro, hL, rfl, hw⟩ := ztyS hw
        refine zz_callV (r := (zR_2, zT_2, 8)) (As := [.int v1]) (rest := []) (mc := 0) (ms := 0) C hR hro dX3_lead_53 (Or.inl q2172) q2019 (Or.inl q2020) zl_DebateHall_Minutes zk_X3_score (Or.inl rfl) zy_X3_score rfl (by decide) (by decide) hL (ok_X3_score (zz_hl C) hw) (Nat.zero_le _) (Nat.zero_le _) (zz_cat10 _ (Nat.le_of_ble_eq_true rfl)) (fun r7 M8 hw => zz_kI hw (fun x11 hw => ?_)) (fun _ _ _ h9 => h9.elim) rfl
        refine zz_iload_n C dX3_lead_56 rfl 2 rfl ?_
        refine zz_isub C dX3_lead_57 ?_
        refine zz_subP [] rfl ?_
        exact ok_X3_lead_B58 C E hH hR hw
      · refine zz_aload_n C dX3_lead_43 rfl 0 rfl ?_
        refine zz_iload_n C dX3_lead_44 rfl 1 rfl ?_
        obtain ⟨a9, t9, b9, fs9, hro, hL, rfl, hw⟩ := ztyS hw
        refine zz_callV (r := (zR_2, zT_2, 8)) (As := [.int v1]) (rest := []) (mc := 0) (ms := 0) C hR hro dX3_lead_45 (Or.inl q2172) q2019 (Or.inl q2020) zl_DebateHall_Minutes zk_X3_score (Or.inl rfl) zy_X3_score rfl (by decide) (by decide) hL (ok_X3_score (zz_hl C) hw) (Nat.zero_le _) (Nat.zero_le _) (zz_cat10 _ (Nat.le_of_ble_eq_true rfl)) (fun r12 M13 hw => zz_kI hw (fun x16 hw => ?_)) (fun _ _ _ h9 => h9.elim) rfl
        refine zz_goto (tgt := 58) C dX3_lead_48 (by decide) ?_
        refine zz_subP [] rfl ?_
        exact ok_X3_lead_B58 C E hH hR hw
    · refine zz_iload_n C dX3_lead_16 rfl 3 rfl ?_
      refine zz_iload_n C dX3_lead_17 rfl 1 rfl ?_
      refine zz_icmp_eq (tgt := 31) C dX3_lead_18 (by decide) hw (fun hw => ?_) (fun hw => ?_)
      · refine zz_subP [0, 1, 2, 3] rfl ?_
        exact ok_X3_lead_B31 C E hH hR (fun z0 z1 z2 z3 z4 z5 z6 hw => ih z0 z1 z2 z3 z4 z5 z6 hw) hw
      · refine zz_iload_n C dX3_lead_21 rfl 2 rfl ?_
        refine zz_aload_n C dX3_lead_22 rfl 0 rfl ?_
        refine zz_iload_n C dX3_lead_23 rfl 3 rfl ?_
        obtain ⟨a9, t9, b9, fs9, hro, hL, rfl, hw⟩ := ztyS hw
        refine zz_callV (r := (zR_2, zT_2, 8)) (As := [.int v3]) (rest := [.int v2]) (mc := 0) (ms := 0) C hR hro dX3_lead_24 (Or.inl q2172) q2019 (Or.inl q2020) zl_DebateHall_Minutes zk_X3_score (Or.inl rfl) zy_X3_score rfl (by decide) (by decide) hL (ok_X3_score (zz_hl C) hw) (Nat.zero_le _) (Nat.zero_le _) (zz_cat10 _ (Nat.le_of_ble_eq_true rfl)) (fun r17 M18 hw => zz_kI hw (fun x21 hw => ?_)) (fun _ _ _ h9 => h9.elim) rfl
        refine zz_callS (As := [.int v2, .int x21]) (rest := []) (mc := 0) (ms := 0) C hR dX3_lead_27 (Or.inl q2173) q419 zl_java_lang_Math zk_J16_max (Or.inl rfl) zy_J16_max (by decide) (by decide) (ok_J16_max (zz_hl C) hw) (Nat.zero_le _) (Nat.zero_le _) (zz_cat10 _ (Nat.le_of_ble_eq_true rfl)) (fun r22 M23 hw => zz_kI hw (fun x26 hw => ?_)) (fun _ _ _ h9 => h9.elim) rfl
        refine zz_istore_n (i := 2) (lv' := [(2, .int x26), (0, va_rf v0), (1, .int v1), (3, .int v3)]) C dX3_lead_30 rfl (by decide) rfl ?_
        refine zz_subP [1, 2, 0, 3] rfl ?_
        exact ok_X3_lead_B31 C E hH hR (fun z0 z1 z2 z3 z4 z5 z6 hw => ih z0 z1 z2 z3 z4 z5 z6 hw) hw
theorem ok_X3_lead {Z : zzG} {l : Launch} (hl : l.stackTraces = false) {this : Option Nat} {p0 : Int32} {M : zzM} {mc ms : Nat} {K : Option Value → zzM → Prop} (hw : wp_X3_lead Z this p0 M K) : zz_Met Z l yX3_lead (zz_ws yX3_lead cX3_lead 4 (some .int) none) 7 [va_rf this, .int p0] M mc ms K (fun _ _ _ => False) := by
  refine zz_ofW hl (plainFor_of_name (by decide)) (by simp only [zz_sl0, zz_slI, zz_slJ, zz_slA] <;> decide) (fun G hZ hll C E hH hR hin => ?_)
  subst hZ
  subst hll
  rw [show lv_args 0 [va_rf this, .int p0] = [(0, va_rf this), (1, .int p0)] by simp only [zz_la0, zz_laI, zz_laJ, zz_laA]]
  unfold wp_X3_lead at hw
  refine zz_ldci C dX3_lead_0 q2171 ?_
  refine zz_istore_n (i := 2) (lv' := [(2, .int (-2147483648 : Int32)), (0, va_rf this), (1, .int p0)]) C dX3_lead_2 rfl (by decide) rfl ?_
  refine zz_iconst (v := (0 : Int32)) C dX3_lead_3 (by decide) ?_
  refine zz_istore_n (i := 3) (lv' := [(3, .int (0 : Int32)), (2, .int (-2147483648 : Int32)), (0, va_rf this), (1, .int p0)]) C dX3_lead_4 rfl (by decide) rfl ?_
  refine zz_subP [2, 3, 1, 0] rfl ?_
  obtain ⟨n5, hw⟩ := hw
  exact ok_X3_lead_L5 C E hH hR n5 _ _ _ _ _ _ _ hw
abbrev cX1_speakerGet : ByteArray := prog_1_method_15_code
def yX1_speakerGet : MethodName := ⟨"DebateHall", "speakerGet", "(II)I"⟩
def dkwX1_speakerGet_4 : List UInt8 := [178, 0, 159, 27, 182, 0, 155, 172, 42, 178, 0, 162, 27, 182, 0, 155, 172, 42, 27, 182, 0, 169, 172]
abbrev dktX1_speakerGet_4 : List UInt8 := dkwX1_speakerGet_4 ++ []
def dkwX1_speakerGet_3 : List UInt8 := [182, 0, 183, 172, 42, 180, 0, 36, 27, 182, 0, 186, 172, 42, 178, 0, 150, 27, 182, 0, 155, 172, 42]
abbrev dktX1_speakerGet_3 : List UInt8 := dkwX1_speakerGet_3 ++ dktX1_speakerGet_4
def dkwX1_speakerGet_2 : List UInt8 := [42, 180, 0, 36, 180, 0, 47, 27, 182, 0, 64, 192, 0, 178, 180, 0, 180, 172, 42, 180, 0, 36, 27]
abbrev dktX1_speakerGet_2 : List UInt8 := dkwX1_speakerGet_2 ++ dktX1_speakerGet_3
def dkwX1_speakerGet_1 : List UInt8 := [170, 0, 0, 0, 0, 0, 102, 0, 0, 0, 0, 0, 0, 0, 5, 0, 0, 0, 39, 0, 0, 0, 57, 0, 0, 0, 66, 0, 0, 0, 75, 0, 0, 0, 84, 0, 0, 0, 93]
abbrev dktX1_speakerGet_1 : List UInt8 := dkwX1_speakerGet_1 ++ dktX1_speakerGet_2
def dkwX1_speakerGet_0 : List UInt8 := [28]
abbrev dktX1_speakerGet_0 : List UInt8 := dkwX1_speakerGet_0 ++ dktX1_speakerGet_1
theorem dksX1_speakerGet_0 : cX1_speakerGet.data.toList.drop 0 = dktX1_speakerGet_0 := by decide +kernel
theorem dksX1_speakerGet_1 : cX1_speakerGet.data.toList.drop 1 = dktX1_speakerGet_1 := dk_seg dksX1_speakerGet_0 1 rfl rfl
theorem dksX1_speakerGet_2 : cX1_speakerGet.data.toList.drop 40 = dktX1_speakerGet_2 := dk_seg dksX1_speakerGet_1 39 rfl rfl
theorem dksX1_speakerGet_3 : cX1_speakerGet.data.toList.drop 63 = dktX1_speakerGet_3 := dk_seg dksX1_speakerGet_2 23 rfl rfl
theorem dksX1_speakerGet_4 : cX1_speakerGet.data.toList.drop 86 = dktX1_speakerGet_4 := dk_seg dksX1_speakerGet_3 23 rfl rfl
theorem dX1_speakerGet_0 : decode cX1_speakerGet 0 = .ok (.iload_n 2, 1) := dk_28 (dk_at dksX1_speakerGet_0 0 rfl rfl)
theorem dX1_speakerGet_1 : decode cX1_speakerGet 1 = .ok (.tableswitch 102 0 5 #[39, 57, 66, 75, 84, 93], 39) := by decide +kernel
theorem dX1_speakerGet_40 : decode cX1_speakerGet 40 = .ok (.aload_n 0, 1) := dk_42 (dk_at dksX1_speakerGet_2 0 rfl rfl)
theorem dX1_speakerGet_41 : decode cX1_speakerGet 41 = .ok (.getfield 36, 3) := dk_180 0 36 (dk_at dksX1_speakerGet_2 1 rfl rfl)
theorem dX1_speakerGet_44 : decode cX1_speakerGet 44 = .ok (.getfield 47, 3) := dk_180 0 47 (dk_at dksX1_speakerGet_2 4 rfl rfl)
theorem dX1_speakerGet_47 : decode cX1_speakerGet 47 = .ok (.iload_n 1, 1) := dk_27 (dk_at dksX1_speakerGet_2 7 rfl rfl)
theorem dX1_speakerGet_48 : decode cX1_speakerGet 48 = .ok (.invokevirtual 64, 3) := dk_182 0 64 (dk_at dksX1_speakerGet_2 8 rfl rfl)
theorem dX1_speakerGet_51 : decode cX1_speakerGet 51 = .ok (.checkcast 178, 3) := dk_192 0 178 (dk_at dksX1_speakerGet_2 11 rfl rfl)
theorem dX1_speakerGet_54 : decode cX1_speakerGet 54 = .ok (.getfield 180, 3) := dk_180 0 180 (dk_at dksX1_speakerGet_2 14 rfl rfl)
theorem dX1_speakerGet_57 : decode cX1_speakerGet 57 = .ok (.ireturn, 1) := dk_172 (dk_at dksX1_speakerGet_2 17 rfl rfl)
theorem dX1_speakerGet_58 : decode cX1_speakerGet 58 = .ok (.aload_n 0, 1) := dk_42 (dk_at dksX1_speakerGet_2 18 rfl rfl)
theorem dX1_speakerGet_59 : decode cX1_speakerGet 59 = .ok (.getfield 36, 3) := dk_180 0 36 (dk_at dksX1_speakerGet_2 19 rfl rfl)
theorem dX1_speakerGet_62 : decode cX1_speakerGet 62 = .ok (.iload_n 1, 1) := dk_27 (dk_at dksX1_speakerGet_2 22 rfl rfl)
theorem dX1_speakerGet_63 : decode cX1_speakerGet 63 = .ok (.invokevirtual 183, 3) := dk_182 0 183 (dk_at dksX1_speakerGet_3 0 rfl rfl)
theorem dX1_speakerGet_66 : decode cX1_speakerGet 66 = .ok (.ireturn, 1) := dk_172 (dk_at dksX1_speakerGet_3 3 rfl rfl)
theorem dX1_speakerGet_67 : decode cX1_speakerGet 67 = .ok (.aload_n 0, 1) := dk_42 (dk_at dksX1_speakerGet_3 4 rfl rfl)
theorem dX1_speakerGet_68 : decode cX1_speakerGet 68 = .ok (.getfield 36, 3) := dk_180 0 36 (dk_at dksX1_speakerGet_3 5 rfl rfl)
theorem dX1_speakerGet_71 : decode cX1_speakerGet 71 = .ok (.iload_n 1, 1) := dk_27 (dk_at dksX1_speakerGet_3 8 rfl rfl)
theorem dX1_speakerGet_72 : decode cX1_speakerGet 72 = .ok (.invokevirtual 186, 3) := dk_182 0 186 (dk_at dksX1_speakerGet_3 9 rfl rfl)
theorem dX1_speakerGet_75 : decode cX1_speakerGet 75 = .ok (.ireturn, 1) := dk_172 (dk_at dksX1_speakerGet_3 12 rfl rfl)
theorem dX1_speakerGet_76 : decode cX1_speakerGet 76 = .ok (.aload_n 0, 1) := dk_42 (dk_at dksX1_speakerGet_3 13 rfl rfl)
theorem dX1_speakerGet_77 : decode cX1_speakerGet 77 = .ok (.getstatic 150, 3) := dk_178 0 150 (dk_at dksX1_speakerGet_3 14 rfl rfl)
theorem dX1_speakerGet_80 : decode cX1_speakerGet 80 = .ok (.iload_n 1, 1) := dk_27 (dk_at dksX1_speakerGet_3 17 rfl rfl)
theorem dX1_speakerGet_81 : decode cX1_speakerGet 81 = .ok (.invokevirtual 155, 3) := dk_182 0 155 (dk_at dksX1_speakerGet_3 18 rfl rfl)
theorem dX1_speakerGet_84 : decode cX1_speakerGet 84 = .ok (.ireturn, 1) := dk_172 (dk_at dksX1_speakerGet_3 21 rfl rfl)
theorem dX1_speakerGet_85 : decode cX1_speakerGet 85 = .ok (.aload_n 0, 1) := dk_42 (dk_at dksX1_speakerGet_3 22 rfl rfl)
theorem dX1_speakerGet_86 : decode cX1_speakerGet 86 = .ok (.getstatic 159, 3) := dk_178 0 159 (dk_at dksX1_speakerGet_4 0 rfl rfl)
theorem dX1_speakerGet_89 : decode cX1_speakerGet 89 = .ok (.iload_n 1, 1) := dk_27 (dk_at dksX1_speakerGet_4 3 rfl rfl)
theorem dX1_speakerGet_90 : decode cX1_speakerGet 90 = .ok (.invokevirtual 155, 3) := dk_182 0 155 (dk_at dksX1_speakerGet_4 4 rfl rfl)
theorem dX1_speakerGet_93 : decode cX1_speakerGet 93 = .ok (.ireturn, 1) := dk_172 (dk_at dksX1_speakerGet_4 7 rfl rfl)
theorem dX1_speakerGet_94 : decode cX1_speakerGet 94 = .ok (.aload_n 0, 1) := dk_42 (dk_at dksX1_speakerGet_4 8 rfl rfl)
theorem dX1_speakerGet_95 : decode cX1_speakerGet 95 = .ok (.getstatic 162, 3) := dk_178 0 162 (dk_at dksX1_speakerGet_4 9 rfl rfl)
theorem dX1_speakerGet_98 : decode cX1_speakerGet 98 = .ok (.iload_n 1, 1) := dk_27 (dk_at dksX1_speakerGet_4 12 rfl rfl)
theorem dX1_speakerGet_99 : decode cX1_speakerGet 99 = .ok (.invokevirtual 155, 3) := dk_182 0 155 (dk_at dksX1_speakerGet_4 13 rfl rfl)
theorem dX1_speakerGet_102 : decode cX1_speakerGet 102 = .ok (.ireturn, 1) := dk_172 (dk_at dksX1_speakerGet_4 16 rfl rfl)
theorem dX1_speakerGet_103 : decode cX1_speakerGet 103 = .ok (.aload_n 0, 1) := dk_42 (dk_at dksX1_speakerGet_4 17 rfl rfl)
theorem dX1_speakerGet_104 : decode cX1_speakerGet 104 = .ok (.iload_n 1, 1) := dk_27 (dk_at dksX1_speakerGet_4 18 rfl rfl)
theorem dX1_speakerGet_105 : decode cX1_speakerGet 105 = .ok (.invokevirtual 169, 3) := dk_182 0 169 (dk_at dksX1_speakerGet_4 19 rfl rfl)
theorem dX1_speakerGet_108 : decode cX1_speakerGet 108 = .ok (.ireturn, 1) := dk_172 (dk_at dksX1_speakerGet_4 22 rfl rfl)
theorem q2109 : (Jvm.Cond.classLink "DebateHall" (178 : Nat) "DebateHall$Speaker") ∈ lw_all := lw_g (lw_at lw_m9 109 rfl) rfl
theorem q1205 : (Jvm.Cond.fieldLinkNest "DebateHall" (180 : Nat) "DebateHall$Speaker" "time" "I" "DebateHall") ∈ lw_tbl := lw_at lw_m5 165 rfl
theorem q2108 : (Jvm.Cond.methodLink "DebateHall" (64 : Nat) ({ cls := "java/util/ArrayList", name := "get", desc := "(I)Ljava/lang/Object;" } : Jvm.MethodName)) ∈ lw_all := lw_g (lw_at lw_m9 108 rfl) rfl
theorem q2018 : (Jvm.Cond.methodLink "DebateHall" (183 : Nat) ({ cls := "DebateHall$Minutes", name := "score", desc := "(I)I" } : Jvm.MethodName)) ∈ lw_all := lw_g (lw_at lw_m9 18 rfl) rfl
theorem q2170 : (Jvm.Cond.code ({ cls := "DebateHall$Minutes", name := "lead", desc := "(I)I" } : Jvm.MethodName) prog_12_method_12_code (4 : Nat) (Option.some Jvm.ClassFile.FieldType.int)) ∈ lw_all := lw_g (lw_at lw_m9 170 rfl) rfl
theorem zk_X3_lead : zz_cd yX3_lead cX3_lead 4 (some .int) none ∈ lw_all := q2170
theorem zy_X3_lead : zz_yok yX3_lead 1 = true := by decide +kernel
theorem q2167 : (Jvm.Cond.methodLink "DebateHall" (186 : Nat) ({ cls := "DebateHall$Minutes", name := "lead", desc := "(I)I" } : Jvm.MethodName)) ∈ lw_all := lw_g (lw_at lw_m9 167 rfl) rfl
theorem q2168 : (Jvm.Cond.instanceMethod ({ cls := "DebateHall$Minutes", name := "lead", desc := "(I)I" } : Jvm.MethodName)) ∈ lw_all := lw_g (lw_at lw_m9 168 rfl) rfl
theorem q2169 : (Jvm.Cond.selects "DebateHall$Minutes" ({ cls := "DebateHall$Minutes", name := "lead", desc := "(I)I" } : Jvm.MethodName) ({ cls := "DebateHall$Minutes", name := "lead", desc := "(I)I" } : Jvm.MethodName)) ∈ lw_all := lw_g (lw_at lw_m9 169 rfl) rfl
def wp_X1_speakerGet (Z : zzG) (this : Option Nat) (p0 : Int32) (p1 : Int32) (M : zzM) (bc bs : Nat) (K : Option Value → zzM → Prop) : Prop := if p1 = (0 : Int32) then (zgA Z M this [0] 2 fun x6 => zgA Z M x6 [2] 0 fun x7 => zty Z M x7 fun t => t = 18 ∧ wp_J2_get Z x7 p0 M (fun r8 M9 => zrA r8 fun x12 => zcast Z M9 x12 [14] <| zgI Z M9 x12 [14] 2 fun x13 => K (some (.int x13)) M9)) else if p1 = (1 : Int32) then (zgA Z M this [0] 2 fun x14 => zty Z M x14 fun t => t = 2 ∧ wp_X3_score Z x14 p0 M (fun r15 M16 => zrI r15 fun x19 => K (some (.int x19)) M16)) else if p1 = (2 : Int32) then (zgA Z M this [0] 2 fun x20 => zty Z M x20 fun t => t = 2 ∧ wp_X3_lead Z x20 p0 M (fun r21 M22 => zrI r21 fun x25 => K (some (.int x25)) M22)) else if p1 = (3 : Int32) then (zty Z M this fun t => t = 0 ∧ zcc bc bs (fun c s k => wp_X1_of Z this (some (zz_ad Z 8)) p0 M c s k) fun r26 M27 bc28 bs29 => zrI r26 fun x30 => K (some (.int x30)) M27) else if p1 = (4 : Int32) then (zty Z M this fun t => t = 0 ∧ zcc bc bs (fun c s k => wp_X1_of Z this (some (zz_ad Z 9)) p0 M c s k) fun r31 M32 bc33 bs34 => zrI r31 fun x35 => K (some (.int x35)) M32) else if p1 = (5 : Int32) then (zty Z M this fun t => t = 0 ∧ zcc bc bs (fun c s k => wp_X1_of Z this (some (zz_ad Z 10)) p0 M c s k) fun r36 M37 bc38 bs39 => zrI r36 fun x40 => K (some (.int x40)) M37) else (zty Z M this fun t => t = 0 ∧ zcc bc bs (fun c s k => wp_X1_conceded Z this p0 M c s k) fun r1 M2 bc3 bs4 => zrI r1 fun x5 => K (some (.int x5)) M2)
theorem ok_X1_speakerGet {Z : zzG} {l : Launch} (hl : l.stackTraces = false) {this : Option Nat} {p0 : Int32} {p1 : Int32} {M : zzM} {mc ms : Nat} {K : Option Value → zzM → Prop} (hw : wp_X1_speakerGet Z this p0 p1 M mc ms K) : zz_Met Z l yX1_speakerGet (zz_ws yX1_speakerGet cX1_speakerGet 3 (some .int) none) 8 [va_rf this, .int p0, .int p1] M mc ms K (fun _ _ _ => False) := by
  refine zz_ofW hl (plainFor_of_name (by decide)) (by simp only [zz_sl0, zz_slI, zz_slJ, zz_slA] <;> decide) (fun G hZ hll C E hH hR hin => ?_)
  subst hZ
  subst hll
  rw [show lv_args 0 [va_rf this, .int p0, .int p1] = [(0, va_rf this), (1, .int p0), (2, .int p1)] by simp only [zz_la0, zz_laI, zz_laJ, zz_laA]]
  unfold wp_X1_speakerGet at hw
  refine zz_iload_n C dX1_speakerGet_0 rfl 2 rfl ?_
  by_cases e0 : p1 = (0 : Int32)
  · replace hw := zz_ifp e0 hw
    refine zz_tin (j := 0) (off := 39) (tgt := 40) C dX1_speakerGet_1 e0 (by decide) (by decide) (by decide) rfl (by decide) ?_
    refine zz_aload_n C dX1_speakerGet_40 rfl 0 rfl ?_
    refine zz_getA C dX1_speakerGet_41 (Or.inl q305) zf_0_2_DebateHall hw (fun x6 hw => ?_)
    refine zz_getA C dX1_speakerGet_44 (Or.inr ⟨_, q233⟩) zf_2_0_teHall_Minutes hw (fun x7 hw => ?_)
    refine zz_iload_n C dX1_speakerGet_47 rfl 1 rfl ?_
    obtain ⟨a9, t9, b9, fs9, hro, hL, rfl, hw⟩ := ztyS hw
    refine zz_callV (r := (zR_18, zT_18, 3)) (As := [.int p0]) (rest := []) (mc := 0) (ms := 0) C hR hro dX1_speakerGet_48 (Or.inl q2108) q877 (Or.inl q2872) zl_java_util_ArrayList zk_J2_get (Or.inl rfl) zy_J2_get rfl (by decide) (by decide) hL (ok_J2_get (zz_hl C) hw) (Nat.zero_le _) (Nat.zero_le _) (zz_cat10 _ (Nat.le_of_ble_eq_true rfl)) (fun r8 M9 hw => zz_kA hw (fun x12 hw => ?_)) (fun _ _ _ h9 => h9.elim) rfl
    refine zz_cast C dX1_speakerGet_51 q2109 zc_14_teHall_Speaker hw (fun hw => ?_)
    refine zz_getI C dX1_speakerGet_54 (Or.inr ⟨_, q1205⟩) zf_14_2_teHall_Speaker hw (fun x13 hw => ?_)
    exact zz_iret C E dX1_speakerGet_57 hw
  · replace hw := zz_ifn e0 hw
    by_cases e1 : p1 = (1 : Int32)
    · replace hw := zz_ifp e1 hw
      refine zz_tin (j := 1) (off := 57) (tgt := 58) C dX1_speakerGet_1 e1 (by decide) (by decide) (by decide) rfl (by decide) ?_
      refine zz_aload_n C dX1_speakerGet_58 rfl 0 rfl ?_
      refine zz_getA C dX1_speakerGet_59 (Or.inl q305) zf_0_2_DebateHall hw (fun x14 hw => ?_)
      refine zz_iload_n C dX1_speakerGet_62 rfl 1 rfl ?_
      obtain ⟨a9, t9, b9, fs9, hro, hL, rfl, hw⟩ := ztyS hw
      refine zz_callV (r := (zR_2, zT_2, 8)) (As := [.int p0]) (rest := []) (mc := 0) (ms := 0) C hR hro dX1_speakerGet_63 (Or.inl q2018) q2019 (Or.inl q2020) zl_DebateHall_Minutes zk_X3_score (Or.inl rfl) zy_X3_score rfl (by decide) (by decide) hL (ok_X3_score (zz_hl C) hw) (Nat.zero_le _) (Nat.zero_le _) (zz_cat10 _ (Nat.le_of_ble_eq_true rfl)) (fun r15 M16 hw => zz_kI hw (fun x19 hw => ?_)) (fun _ _ _ h9 => h9.elim) rfl
      exact zz_iret C E dX1_speakerGet_66 hw
    · replace hw := zz_ifn e1 hw
      by_cases e2 : p1 = (2 : Int32)
      · replace hw := zz_ifp e2 hw
        refine zz_tin (j := 2) (off := 66) (tgt := 67) C dX1_speakerGet_1 e2 (by decide) (by decide) (by decide) rfl (by decide) ?_
        refine zz_aload_n C dX1_speakerGet_67 rfl 0 rfl ?_
        refine zz_getA C dX1_speakerGet_68 (Or.inl q305) zf_0_2_DebateHall hw (fun x20 hw => ?_)
        refine zz_iload_n C dX1_speakerGet_71 rfl 1 rfl ?_
        obtain ⟨a9, t9, b9, fs9, hro, hL, rfl, hw⟩ := ztyS hw
        refine zz_callV (r := (zR_2, zT_2, 8)) (As := [.int p0]) (rest := []) (mc := 0) (ms := 0) C hR hro dX1_speakerGet_72 (Or.inl q2167) q2168 (Or.inl q2169) zl_DebateHall_Minutes zk_X3_lead (Or.inl rfl) zy_X3_lead rfl (by decide) (by decide) hL (ok_X3_lead (zz_hl C) hw) (Nat.zero_le _) (Nat.zero_le _) (zz_cat10 _ (Nat.le_of_ble_eq_true rfl)) (fun r21 M22 hw => zz_kI hw (fun x25 hw => ?_)) (fun _ _ _ h9 => h9.elim) rfl
        exact zz_iret C E dX1_speakerGet_75 hw
      · replace hw := zz_ifn e2 hw
        by_cases e3 : p1 = (3 : Int32)
        · replace hw := zz_ifp e3 hw
          refine zz_tin (j := 3) (off := 75) (tgt := 76) C dX1_speakerGet_1 e3 (by decide) (by decide) (by decide) rfl (by decide) ?_
          refine zz_aload_n C dX1_speakerGet_76 rfl 0 rfl ?_
          refine zz_gets (j := 8) (v := va_rf (some (zz_ad (zz_Zof G) 8))) C dX1_speakerGet_77 (Or.inl q2116) rfl (Or.inl rfl) rfl ?_
          refine zz_iload_n C dX1_speakerGet_80 rfl 1 rfl ?_
          obtain ⟨a9, t9, b9, fs9, hro, hL, rfl, hw⟩ := ztyS hw
          obtain ⟨c9, s9, hc9, hs9, hw⟩ := hw
          refine zz_callV (r := (zR_0, zT_0, 4)) (As := [va_rf (some (zz_ad (zz_Zof G) 8)), .int p0]) (rest := []) C hR hro dX1_speakerGet_81 (Or.inl q2118) q2120 (Or.inl qs22) zl_DebateHall zk_X1_of (Or.inl rfl) zy_X1_of rfl (by decide) (by decide) hL (ok_X1_of (zz_hl C) hw) hc9 hs9 (zz_cat10 _ (Nat.le_of_ble_eq_true rfl)) (fun r26 M27 hw => zz_kI hw (fun x30 hw => ?_)) (fun _ _ _ h9 => h9.elim) rfl
          exact zz_iret C E dX1_speakerGet_84 hw
        · replace hw := zz_ifn e3 hw
          by_cases e4 : p1 = (4 : Int32)
          · replace hw := zz_ifp e4 hw
            refine zz_tin (j := 4) (off := 84) (tgt := 85) C dX1_speakerGet_1 e4 (by decide) (by decide) (by decide) rfl (by decide) ?_
            refine zz_aload_n C dX1_speakerGet_85 rfl 0 rfl ?_
            refine zz_gets (j := 9) (v := va_rf (some (zz_ad (zz_Zof G) 9))) C dX1_speakerGet_86 (Or.inl q2153) rfl (Or.inl rfl) rfl ?_
            refine zz_iload_n C dX1_speakerGet_89 rfl 1 rfl ?_
            obtain ⟨a9, t9, b9, fs9, hro, hL, rfl, hw⟩ := ztyS hw
            obtain ⟨c9, s9, hc9, hs9, hw⟩ := hw
            refine zz_callV (r := (zR_0, zT_0, 4)) (As := [va_rf (some (zz_ad (zz_Zof G) 9)), .int p0]) (rest := []) C hR hro dX1_speakerGet_90 (Or.inl q2118) q2120 (Or.inl qs22) zl_DebateHall zk_X1_of (Or.inl rfl) zy_X1_of rfl (by decide) (by decide) hL (ok_X1_of (zz_hl C) hw) hc9 hs9 (zz_cat10 _ (Nat.le_of_ble_eq_true rfl)) (fun r31 M32 hw => zz_kI hw (fun x35 hw => ?_)) (fun _ _ _ h9 => h9.elim) rfl
            exact zz_iret C E dX1_speakerGet_93 hw
          · replace hw := zz_ifn e4 hw
            by_cases e5 : p1 = (5 : Int32)
            · replace hw := zz_ifp e5 hw
              refine zz_tin (j := 5) (off := 93) (tgt := 94) C dX1_speakerGet_1 e5 (by decide) (by decide) (by decide) rfl (by decide) ?_
              refine zz_aload_n C dX1_speakerGet_94 rfl 0 rfl ?_
              refine zz_gets (j := 10) (v := va_rf (some (zz_ad (zz_Zof G) 10))) C dX1_speakerGet_95 (Or.inl q2154) rfl (Or.inl rfl) rfl ?_
              refine zz_iload_n C dX1_speakerGet_98 rfl 1 rfl ?_
              obtain ⟨a9, t9, b9, fs9, hro, hL, rfl, hw⟩ := ztyS hw
              obtain ⟨c9, s9, hc9, hs9, hw⟩ := hw
              refine zz_callV (r := (zR_0, zT_0, 4)) (As := [va_rf (some (zz_ad (zz_Zof G) 10)), .int p0]) (rest := []) C hR hro dX1_speakerGet_99 (Or.inl q2118) q2120 (Or.inl qs22) zl_DebateHall zk_X1_of (Or.inl rfl) zy_X1_of rfl (by decide) (by decide) hL (ok_X1_of (zz_hl C) hw) hc9 hs9 (zz_cat10 _ (Nat.le_of_ble_eq_true rfl)) (fun r36 M37 hw => zz_kI hw (fun x40 hw => ?_)) (fun _ _ _ h9 => h9.elim) rfl
              exact zz_iret C E dX1_speakerGet_102 hw
            · replace hw := zz_ifn e5 hw
              refine zz_tout (tgt := 103) C dX1_speakerGet_1 (by decide) (by decide) (fun j hj => ?_) ?_
              · match j, hj with
                | 0, _ => exact Or.inl (zz_ne e0 (by decide))
                | 1, _ => exact Or.inl (zz_ne e1 (by decide))
                | 2, _ => exact Or.inl (zz_ne e2 (by decide))
                | 3, _ => exact Or.inl (zz_ne e3 (by decide))
                | 4, _ => exact Or.inl (zz_ne e4 (by decide))
                | 5, _ => exact Or.inl (zz_ne e5 (by decide))
                | n + 6, hj => exact absurd hj (Nat.not_lt.mpr (Nat.le_add_left _ _))
              · refine zz_aload_n C dX1_speakerGet_103 rfl 0 rfl ?_
                refine zz_iload_n C dX1_speakerGet_104 rfl 1 rfl ?_
                obtain ⟨a9, t9, b9, fs9, hro, hL, rfl, hw⟩ := ztyS hw
                obtain ⟨c9, s9, hc9, hs9, hw⟩ := hw
                refine zz_callV (r := (zR_0, zT_0, 4)) (As := [.int p0]) (rest := []) C hR hro dX1_speakerGet_105 (Or.inl q2159) q2161 (Or.inl qs23) zl_DebateHall zk_X1_conceded (Or.inl rfl) zy_X1_conceded rfl (by decide) (by decide) hL (ok_X1_conceded (zz_hl C) hw) hc9 hs9 (zz_cat10 _ (Nat.le_of_ble_eq_true rfl)) (fun r1 M2 hw => zz_kI hw (fun x5 hw => ?_)) (fun _ _ _ h9 => h9.elim) rfl
                exact zz_iret C E dX1_speakerGet_108 hw
abbrev cX1_on : ByteArray := prog_1_method_17_code
def yX1_on : MethodName := ⟨"DebateHall", "on", "(LDebateHall$Item;LDebateHall$Kind;)I"⟩
def dkwX1_on_2 : List UInt8 := [180, 0, 196, 43, 166, 0, 7, 4, 167, 0, 4, 3, 96, 62, 167, 255, 208, 29, 172]
abbrev dktX1_on_2 : List UInt8 := dkwX1_on_2 ++ []
def dkwX1_on_1 : List UInt8 := [25, 4, 185, 0, 116, 1, 0, 192, 0, 68, 58, 5, 29, 25, 5, 180, 0, 139, 44, 166, 0, 16, 25, 5]
abbrev dktX1_on_1 : List UInt8 := dkwX1_on_1 ++ dktX1_on_2
def dkwX1_on_0 : List UInt8 := [3, 62, 42, 180, 0, 36, 180, 0, 61, 182, 0, 138, 58, 4, 25, 4, 185, 0, 110, 1, 0, 153, 0, 44]
abbrev dktX1_on_0 : List UInt8 := dkwX1_on_0 ++ dktX1_on_1
theorem dksX1_on_0 : cX1_on.data.toList.drop 0 = dktX1_on_0 := by decide +kernel
theorem dksX1_on_1 : cX1_on.data.toList.drop 24 = dktX1_on_1 := dk_seg dksX1_on_0 24 rfl rfl
theorem dksX1_on_2 : cX1_on.data.toList.drop 48 = dktX1_on_2 := dk_seg dksX1_on_1 24 rfl rfl
theorem dX1_on_0 : decode cX1_on 0 = .ok (.iconst 0, 1) := dk_3 (dk_at dksX1_on_0 0 rfl rfl)
theorem dX1_on_1 : decode cX1_on 1 = .ok (.istore_n 3, 1) := dk_62 (dk_at dksX1_on_0 1 rfl rfl)
theorem dX1_on_2 : decode cX1_on 2 = .ok (.aload_n 0, 1) := dk_42 (dk_at dksX1_on_0 2 rfl rfl)
theorem dX1_on_3 : decode cX1_on 3 = .ok (.getfield 36, 3) := dk_180 0 36 (dk_at dksX1_on_0 3 rfl rfl)
theorem dX1_on_6 : decode cX1_on 6 = .ok (.getfield 61, 3) := dk_180 0 61 (dk_at dksX1_on_0 6 rfl rfl)
theorem dX1_on_9 : decode cX1_on 9 = .ok (.invokevirtual 138, 3) := dk_182 0 138 (dk_at dksX1_on_0 9 rfl rfl)
theorem dX1_on_12 : decode cX1_on 12 = .ok (.astore 4, 2) := dk_58 4 (dk_at dksX1_on_0 12 rfl rfl)
theorem dX1_on_14 : decode cX1_on 14 = .ok (.aload 4, 2) := dk_25 4 (dk_at dksX1_on_0 14 rfl rfl)
theorem dX1_on_16 : decode cX1_on 16 = .ok (.invokeinterface 110 1, 5) := by decide +kernel
theorem dX1_on_21 : decode cX1_on 21 = .ok (.ifCond .eq 44, 3) := dk_153 0 44 (dk_at dksX1_on_0 21 rfl rfl)
theorem dX1_on_24 : decode cX1_on 24 = .ok (.aload 4, 2) := dk_25 4 (dk_at dksX1_on_1 0 rfl rfl)
theorem dX1_on_26 : decode cX1_on 26 = .ok (.invokeinterface 116 1, 5) := by decide +kernel
theorem dX1_on_31 : decode cX1_on 31 = .ok (.checkcast 68, 3) := dk_192 0 68 (dk_at dksX1_on_1 7 rfl rfl)
theorem dX1_on_34 : decode cX1_on 34 = .ok (.astore 5, 2) := dk_58 5 (dk_at dksX1_on_1 10 rfl rfl)
theorem dX1_on_36 : decode cX1_on 36 = .ok (.iload_n 3, 1) := dk_29 (dk_at dksX1_on_1 12 rfl rfl)
theorem dX1_on_37 : decode cX1_on 37 = .ok (.aload 5, 2) := dk_25 5 (dk_at dksX1_on_1 13 rfl rfl)
theorem dX1_on_39 : decode cX1_on 39 = .ok (.getfield 139, 3) := dk_180 0 139 (dk_at dksX1_on_1 15 rfl rfl)
theorem dX1_on_42 : decode cX1_on 42 = .ok (.aload_n 2, 1) := dk_44 (dk_at dksX1_on_1 18 rfl rfl)
theorem dX1_on_43 : decode cX1_on 43 = .ok (.if_acmp .ne 16, 3) := dk_166 0 16 (dk_at dksX1_on_1 19 rfl rfl)
theorem dX1_on_46 : decode cX1_on 46 = .ok (.aload 5, 2) := dk_25 5 (dk_at dksX1_on_1 22 rfl rfl)
theorem dX1_on_48 : decode cX1_on 48 = .ok (.getfield 196, 3) := dk_180 0 196 (dk_at dksX1_on_2 0 rfl rfl)
theorem dX1_on_51 : decode cX1_on 51 = .ok (.aload_n 1, 1) := dk_43 (dk_at dksX1_on_2 3 rfl rfl)
theorem dX1_on_52 : decode cX1_on 52 = .ok (.if_acmp .ne 7, 3) := dk_166 0 7 (dk_at dksX1_on_2 4 rfl rfl)
theorem dX1_on_55 : decode cX1_on 55 = .ok (.iconst 1, 1) := dk_4 (dk_at dksX1_on_2 7 rfl rfl)
theorem dX1_on_56 : decode cX1_on 56 = .ok (.goto 4, 3) := dk_167 0 4 (dk_at dksX1_on_2 8 rfl rfl)
theorem dX1_on_59 : decode cX1_on 59 = .ok (.iconst 0, 1) := dk_3 (dk_at dksX1_on_2 11 rfl rfl)
theorem dX1_on_60 : decode cX1_on 60 = .ok (.iadd, 1) := dk_96 (dk_at dksX1_on_2 12 rfl rfl)
theorem dX1_on_61 : decode cX1_on 61 = .ok (.istore_n 3, 1) := dk_62 (dk_at dksX1_on_2 13 rfl rfl)
theorem dX1_on_62 : decode cX1_on 62 = .ok (.goto (-48), 3) := dk_167 255 208 (dk_at dksX1_on_2 14 rfl rfl)
theorem dX1_on_65 : decode cX1_on 65 = .ok (.iload_n 3, 1) := dk_29 (dk_at dksX1_on_2 17 rfl rfl)
theorem dX1_on_66 : decode cX1_on 66 = .ok (.ireturn, 1) := dk_172 (dk_at dksX1_on_2 18 rfl rfl)
theorem q1759 : (Jvm.Cond.fieldLinkNest "DebateHall" (196 : Nat) "DebateHall$Item" "target" "LDebateHall$Item;" "DebateHall") ∈ lw_tbl := lw_at lw_m7 239 rfl
def wp_X1_on_B60 (Z : zzG) (k14 : Option Nat → Option Nat → Int32 → Option Nat → zzM → Nat → Nat → Prop) (K : Option Value → zzM → Prop) (v1 : Option Nat) (v2 : Option Nat) (v4 : Option Nat) (s0 : Int32) (s1 : Int32) (M : zzM) (bc bs : Nat) : Prop := k14 v1 v2 (s1 + s0) v4 M bc bs
def wp_X1_on_B59 (Z : zzG) (k14 : Option Nat → Option Nat → Int32 → Option Nat → zzM → Nat → Nat → Prop) (K : Option Value → zzM → Prop) (v1 : Option Nat) (v2 : Option Nat) (v4 : Option Nat) (s0 : Int32) (M : zzM) (bc bs : Nat) : Prop := wp_X1_on_B60 Z k14 K v1 v2 v4 (0 : Int32) s0 M bc bs
def wp_X1_on_L14 (Z : zzG) (K : Option Value → zzM → Prop) : Nat → Option Nat → Option Nat → Int32 → Option Nat → zzM → Nat → Nat → Prop
  | 0, _, _, _, _, _, _, _ => False
  | n + 1, v1, v2, v3, v4, M, bc, bs => zty Z M v4 fun t => t = 23 ∧ wp_J24_hasNext Z v4 M (fun r8 M9 => zrI r8 fun x12 => if x12 = 0 then (K (some (.int v3)) M9) else (zty Z M9 v4 fun t => t = 23 ∧ wp_J24_next Z v4 M9 (fun r13 M14 => zrA r13 fun x17 => zcast Z M14 x17 [15] <| zgA Z M14 x17 [15] 1 fun x18 => if x18 = v2 then (zgA Z M14 x17 [15] 6 fun x19 => if x19 = v1 then (wp_X1_on_B60 Z (wp_X1_on_L14 Z K n) K v1 v2 v4 (1 : Int32) v3 M14 bc bs) else (wp_X1_on_B59 Z (wp_X1_on_L14 Z K n) K v1 v2 v4 v3 M14 bc bs)) else (wp_X1_on_B59 Z (wp_X1_on_L14 Z K n) K v1 v2 v4 v3 M14 bc bs))))
def wp_X1_on (Z : zzG) (this : Option Nat) (p0 : Option Nat) (p1 : Option Nat) (M : zzM) (bc bs : Nat) (K : Option Value → zzM → Prop) : Prop := zgA Z M this [0] 2 fun x1 => zgA Z M x1 [2] 1 fun x2 => zty Z M x2 fun t => t = 18 ∧ zcc bc bs (fun c s k => wp_J2_iterator Z x2 M c s k) fun r3 M4 bc5 bs6 => zrA r3 fun x7 => ∃ n14 : Nat, wp_X1_on_L14 Z K n14 p0 p1 (0 : Int32) x7 M4 bc5 bs6
theorem ok_X1_on_B60 {G : zzX} (C : zz_C G cX1_on "DebateHall" 6) {K : Option Value → zzM → Prop} (E : zz_E G (some .int) K (fun _ _ _ => False)) (hH : zz_H G []) (hR : zz_Rm G 4) {k14 : Option Nat → Option Nat → Int32 → Option Nat → zzM → Nat → Nat → Prop} (hk14 : ∀ (z0 : Option Nat) (z1 : Option Nat) (z2 : Int32) (z3 : Option Nat) (M : zzM) (bc bs : Nat), k14 z0 z1 z2 z3 M bc bs → zz_T G 6 M bc bs 14 [(1, va_rf z0), (2, va_rf z1), (3, .int z2), (4, va_rf z3)] []) {v1 : Option Nat} {v2 : Option Nat} {v4 : Option Nat} {s0 : Int32} {s1 : Int32} {M : zzM} {bc bs : Nat} (hw : wp_X1_on_B60 (zz_Zof G) k14 K v1 v2 v4 s0 s1 M bc bs) : zz_T G 6 M bc bs 60 [(1, va_rf v1), (2, va_rf v2), (4, va_rf v4)] [.int s0, .int s1] := by
  unfold wp_X1_on_B60 at hw
  refine zz_iadd C dX1_on_60 ?_
  refine zz_istore_n (i := 3) (lv' := [(3, .int (s1 + s0)), (1, va_rf v1), (2, va_rf v2), (4, va_rf v4)]) C dX1_on_61 rfl (by decide) (by simp [zz_cat, zz_catI, zz_catJ, zz_catD]) ?_
  refine zz_goto (tgt := 14) C dX1_on_62 (by decide) ?_
  refine zz_subP [1, 2, 0, 3] rfl ?_
  exact hk14 _ _ _ _ _ _ _ hw
theorem ok_X1_on_B59 {G : zzX} (C : zz_C G cX1_on "DebateHall" 6) {K : Option Value → zzM → Prop} (E : zz_E G (some .int) K (fun _ _ _ => False)) (hH : zz_H G []) (hR : zz_Rm G 4) {k14 : Option Nat → Option Nat → Int32 → Option Nat → zzM → Nat → Nat → Prop} (hk14 : ∀ (z0 : Option Nat) (z1 : Option Nat) (z2 : Int32) (z3 : Option Nat) (M : zzM) (bc bs : Nat), k14 z0 z1 z2 z3 M bc bs → zz_T G 6 M bc bs 14 [(1, va_rf z0), (2, va_rf z1), (3, .int z2), (4, va_rf z3)] []) {v1 : Option Nat} {v2 : Option Nat} {v4 : Option Nat} {s0 : Int32} {M : zzM} {bc bs : Nat} (hw : wp_X1_on_B59 (zz_Zof G) k14 K v1 v2 v4 s0 M bc bs) : zz_T G 6 M bc bs 59 [(1, va_rf v1), (2, va_rf v2), (4, va_rf v4)] [.int s0] := by
  unfold wp_X1_on_B59 at hw
  refine zz_iconst (v := (0 : Int32)) C dX1_on_59 (by decide) ?_
  refine zz_subP [0, 1, 2] rfl ?_
  exact ok_X1_on_B60 C E hH hR hk14 hw
theorem ok_X1_on_L14 {G : zzX} (C : zz_C G cX1_on "DebateHall" 6) {K : Option Value → zzM → Prop} (E : zz_E G (some .int) K (fun _ _ _ => False)) (hH : zz_H G []) (hR : zz_Rm G 4) : ∀ (n : Nat) (v1 : Option Nat) (v2 : Option Nat) (v3 : Int32) (v4 : Option Nat) (M : zzM) (bc bs : Nat), wp_X1_on_L14 (zz_Zof G) K n v1 v2 v3 v4 M bc bs → zz_T G 6 M bc bs 14 [(1, va_rf v1), (2, va_rf v2), (3, .int v3), (4, va_rf v4)] [] := by
  intro n
  induction n with
  | zero =>
    intro v1 v2 v3 v4 M bc bs hw
    exact False.elim hw
  | succ n ih =>
    intro v1 v2 v3 v4 M bc bs hw
    refine zz_aload C dX1_on_14 3 rfl ?_
    obtain ⟨a9, t9, b9, fs9, hro, hL, rfl, hw⟩ := ztyS hw
    refine zz_callF (r := (zR_23, zT_23, 4)) (x := ⟨"java/util/Iterator", "hasNext", "()Z"⟩) (As := []) (rest := []) (mc := 0) (ms := 0) C hR hro dX1_on_16 q1793 (by decide +kernel) q1174 q1172 zl_java_util_ArrayList_Itr zk_J24_hasNext zyo_java_util_Iterator_hasNext___Z rfl (by decide) (by decide) hL (ok_J24_hasNext (zz_hl C) hw) (Nat.zero_le _) (Nat.zero_le _) (zz_cat10 _ (Nat.le_of_ble_eq_true rfl)) (fun r8 M9 hw => zz_kI hw (fun x12 hw => ?_)) (fun _ _ _ h9 => h9.elim) rfl
    refine zz_if_eq (tgt := 65) C dX1_on_21 (by decide) hw (fun hw => ?_) (fun hw => ?_)
    · refine zz_iload_n C dX1_on_65 rfl 2 rfl ?_
      exact zz_iret C E dX1_on_66 hw
    · refine zz_aload C dX1_on_24 3 rfl ?_
      obtain ⟨a9, t9, b9, fs9, hro, hL, rfl, hw⟩ := ztyS hw
      refine zz_callF (r := (zR_23, zT_23, 4)) (x := ⟨"java/util/Iterator", "next", "()Ljava/lang/Object;"⟩) (As := []) (rest := []) (mc := 0) (ms := 0) C hR hro dX1_on_26 q1795 (by decide +kernel) q1183 q1181 zl_java_util_ArrayList_Itr zk_J24_next zyo_java_util_Iterator_next___Ljava_lang_Object_ rfl (by decide) (by decide) hL (ok_J24_next (zz_hl C) hw) (Nat.zero_le _) (Nat.zero_le _) (zz_cat10 _ (Nat.le_of_ble_eq_true rfl)) (fun r13 M14 hw => zz_kA hw (fun x17 hw => ?_)) (fun _ _ _ h9 => h9.elim) rfl
      refine zz_cast C dX1_on_31 q2105 zc_15_ebateHall_Item hw (fun hw => ?_)
      refine zz_astore (lv' := [(5, va_rf x17), (1, va_rf v1), (2, va_rf v2), (3, .int v3), (4, va_rf v4)]) C dX1_on_34 (by decide) (by simp [zz_cat, zz_catI, zz_catJ, zz_catD]) ?_
      refine zz_iload_n C dX1_on_36 rfl 3 rfl ?_
      refine zz_aload C dX1_on_37 0 rfl ?_
      refine zz_getA C dX1_on_39 (Or.inr ⟨_, q1741⟩) zf_15_1_ebateHall_Item hw (fun x18 hw => ?_)
      refine zz_aload_n C dX1_on_42 rfl 2 rfl ?_
      refine zz_acmp_ne (tgt := 59) C dX1_on_43 (by decide) hw (fun hw => ?_) (fun hw => ?_)
      · refine zz_subP [1, 2, 4] rfl ?_
        exact ok_X1_on_B59 C E hH hR (fun z0 z1 z2 z3 z4 z5 z6 hw => ih z0 z1 z2 z3 z4 z5 z6 hw) hw
      · refine zz_aload C dX1_on_46 0 rfl ?_
        refine zz_getA C dX1_on_48 (Or.inr ⟨_, q1759⟩) zf_15_6_ebateHall_Item hw (fun x19 hw => ?_)
        refine zz_aload_n C dX1_on_51 rfl 1 rfl ?_
        refine zz_acmp_ne (tgt := 59) C dX1_on_52 (by decide) hw (fun hw => ?_) (fun hw => ?_)
        · refine zz_subP [1, 2, 4] rfl ?_
          exact ok_X1_on_B59 C E hH hR (fun z0 z1 z2 z3 z4 z5 z6 hw => ih z0 z1 z2 z3 z4 z5 z6 hw) hw
        · refine zz_iconst (v := (1 : Int32)) C dX1_on_55 (by decide) ?_
          refine zz_goto (tgt := 60) C dX1_on_56 (by decide) ?_
          refine zz_subP [1, 2, 4] rfl ?_
          exact ok_X1_on_B60 C E hH hR (fun z0 z1 z2 z3 z4 z5 z6 hw => ih z0 z1 z2 z3 z4 z5 z6 hw) hw
theorem ok_X1_on {Z : zzG} {l : Launch} (hl : l.stackTraces = false) {this : Option Nat} {p0 : Option Nat} {p1 : Option Nat} {M : zzM} {mc ms : Nat} {K : Option Value → zzM → Prop} (hw : wp_X1_on Z this p0 p1 M mc ms K) : zz_Met Z l yX1_on (zz_ws yX1_on cX1_on 6 (some .int) none) 4 [va_rf this, va_rf p0, va_rf p1] M mc ms K (fun _ _ _ => False) := by
  refine zz_ofW hl (plainFor_of_name (by decide)) (by simp only [zz_sl0, zz_slI, zz_slJ, zz_slA] <;> decide) (fun G hZ hll C E hH hR hin => ?_)
  subst hZ
  subst hll
  rw [show lv_args 0 [va_rf this, va_rf p0, va_rf p1] = [(0, va_rf this), (1, va_rf p0), (2, va_rf p1)] by simp only [zz_la0, zz_laI, zz_laJ, zz_laA]]
  unfold wp_X1_on at hw
  refine zz_iconst (v := (0 : Int32)) C dX1_on_0 (by decide) ?_
  refine zz_istore_n (i := 3) (lv' := [(3, .int (0 : Int32)), (0, va_rf this), (1, va_rf p0), (2, va_rf p1)]) C dX1_on_1 rfl (by decide) (by simp [zz_cat, zz_catI, zz_catJ, zz_catD]) ?_
  refine zz_aload_n C dX1_on_2 rfl 1 rfl ?_
  refine zz_getA C dX1_on_3 (Or.inl q305) zf_0_2_DebateHall hw (fun x1 hw => ?_)
  refine zz_getA C dX1_on_6 (Or.inr ⟨_, q239⟩) zf_2_1_teHall_Minutes hw (fun x2 hw => ?_)
  obtain ⟨a9, t9, b9, fs9, hro, hL, rfl, hw⟩ := ztyS hw
  obtain ⟨c9, s9, hc9, hs9, hw⟩ := hw
  refine zz_callV (r := (zR_18, zT_18, 3)) (As := []) (rest := []) C hR hro dX1_on_9 (Or.inl q2104) q1145 (Or.inl q1146) zl_java_util_ArrayList zk_J2_iterator (Or.inl rfl) zy_J2_iterator rfl (by decide) (by decide) hL (ok_J2_iterator (zz_hl C) hw) hc9 hs9 (zz_cat10 _ (Nat.le_of_ble_eq_true rfl)) (fun r3 M4 hw => zz_kA hw (fun x7 hw => ?_)) (fun _ _ _ h9 => h9.elim) rfl
  refine zz_astore (lv' := [(4, va_rf x7), (3, .int (0 : Int32)), (0, va_rf this), (1, va_rf p0), (2, va_rf p1)]) C dX1_on_12 (by decide) rfl ?_
  refine zz_subP [3, 4, 1, 0] rfl ?_
  obtain ⟨n14, hw⟩ := hw
  exact ok_X1_on_L14 C E hH hR n14 _ _ _ _ _ _ _ hw
abbrev cX20_numberOf : ByteArray := prog_6_method_5_code
def yX20_numberOf : MethodName := ⟨"DebateHall$Item", "numberOf", "(LDebateHall$Item;)I"⟩
def dkwX20_numberOf_0 : List UInt8 := [42, 199, 0, 7, 2, 167, 0, 7, 42, 180, 0, 9, 172]
abbrev dktX20_numberOf_0 : List UInt8 := dkwX20_numberOf_0 ++ []
theorem dksX20_numberOf_0 : cX20_numberOf.data.toList.drop 0 = dktX20_numberOf_0 := by decide +kernel
theorem dX20_numberOf_0 : decode cX20_numberOf 0 = .ok (.aload_n 0, 1) := dk_42 (dk_at dksX20_numberOf_0 0 rfl rfl)
theorem dX20_numberOf_1 : decode cX20_numberOf 1 = .ok (.ifnonnull 7, 3) := dk_199 0 7 (dk_at dksX20_numberOf_0 1 rfl rfl)
theorem dX20_numberOf_4 : decode cX20_numberOf 4 = .ok (.iconst (-1), 1) := dk_2 (dk_at dksX20_numberOf_0 4 rfl rfl)
theorem dX20_numberOf_5 : decode cX20_numberOf 5 = .ok (.goto 7, 3) := dk_167 0 7 (dk_at dksX20_numberOf_0 5 rfl rfl)
theorem dX20_numberOf_8 : decode cX20_numberOf 8 = .ok (.aload_n 0, 1) := dk_42 (dk_at dksX20_numberOf_0 8 rfl rfl)
theorem dX20_numberOf_9 : decode cX20_numberOf 9 = .ok (.getfield 9, 3) := dk_180 0 9 (dk_at dksX20_numberOf_0 9 rfl rfl)
theorem dX20_numberOf_12 : decode cX20_numberOf 12 = .ok (.ireturn, 1) := dk_172 (dk_at dksX20_numberOf_0 12 rfl rfl)
theorem q1734 : (Jvm.Cond.fieldLink "DebateHall$Item" (9 : Nat) "DebateHall$Item" "number" "I") ∈ lw_all := lw_g (lw_at lw_m7 214 rfl) rfl
def wp_X20_numberOf_B12 (Z : zzG) (K : Option Value → zzM → Prop) (s0 : Int32) (M : zzM) : Prop := K (some (.int s0)) M
def wp_X20_numberOf (Z : zzG) (p0 : Option Nat) (M : zzM) (K : Option Value → zzM → Prop) : Prop := if p0 = none then (wp_X20_numberOf_B12 Z K (-1 : Int32) M) else (zgI Z M p0 [15] 0 fun x1 => wp_X20_numberOf_B12 Z K x1 M)
theorem ok_X20_numberOf_B12 {G : zzX} (C : zz_C G cX20_numberOf "DebateHall$Item" 1) {K : Option Value → zzM → Prop} (E : zz_E G (some .int) K (fun _ _ _ => False)) (hH : zz_H G []) (hR : zz_Rm G 1) {s0 : Int32} {M : zzM} {bc bs : Nat} (hw : wp_X20_numberOf_B12 (zz_Zof G) K s0 M) : zz_T G 1 M bc bs 12 [] [.int s0] := by
  unfold wp_X20_numberOf_B12 at hw
  exact zz_iret C E dX20_numberOf_12 hw
theorem ok_X20_numberOf {Z : zzG} {l : Launch} (hl : l.stackTraces = false) {p0 : Option Nat} {M : zzM} {mc ms : Nat} {K : Option Value → zzM → Prop} (hw : wp_X20_numberOf Z p0 M K) : zz_Met Z l yX20_numberOf (zz_ws yX20_numberOf cX20_numberOf 1 (some .int) none) 1 [va_rf p0] M mc ms K (fun _ _ _ => False) := by
  refine zz_ofW hl (plainFor_of_name (by decide)) (by simp only [zz_sl0, zz_slI, zz_slJ, zz_slA] <;> decide) (fun G hZ hll C E hH hR hin => ?_)
  subst hZ
  subst hll
  rw [show lv_args 0 [va_rf p0] = [(0, va_rf p0)] by simp only [zz_la0, zz_laI, zz_laJ, zz_laA]]
  unfold wp_X20_numberOf at hw
  refine zz_aload_n C dX20_numberOf_0 rfl 0 rfl ?_
  refine zz_ifnonnull (tgt := 8) C dX20_numberOf_1 (by decide) hw (fun hw => ?_) (fun hw => ?_)
  · refine zz_aload_n C dX20_numberOf_8 rfl 0 rfl ?_
    refine zz_getI C dX20_numberOf_9 (Or.inl q1734) zf_15_0_ebateHall_Item hw (fun x1 hw => ?_)
    refine zz_subP [] rfl ?_
    exact ok_X20_numberOf_B12 C E hH hR hw
  · refine zz_iconst (v := (-1 : Int32)) C dX20_numberOf_4 (by decide) ?_
    refine zz_goto (tgt := 12) C dX20_numberOf_5 (by decide) ?_
    refine zz_subP [] rfl ?_
    exact ok_X20_numberOf_B12 C E hH hR hw
abbrev cJ14_ordinal : ByteArray := prog_35_method_2_code
def yJ14_ordinal : MethodName := ⟨"java/lang/Enum", "ordinal", "()I"⟩
theorem dJ14_ordinal_0 : decode cJ14_ordinal 0 = .ok (.aload_n 0, 1) := by decide +kernel
theorem dJ14_ordinal_1 : decode cJ14_ordinal 1 = .ok (.getfield 7, 3) := by decide +kernel
theorem dJ14_ordinal_4 : decode cJ14_ordinal 4 = .ok (.ireturn, 1) := by decide +kernel
theorem zf_30_31_32_33_0_java_lang_Enum : zz_fok [30, 31, 32, 33] 0 "java/lang/Enum" "ordinal" "I" := zz_fokC (zz_fok1 (zR_30, zT_30, 3) rfl (by decide) rfl rfl (Or.inl rfl)) (zz_fokC (zz_fok1 (zR_31, zT_31, 3) rfl (by decide) rfl rfl (Or.inl rfl)) (zz_fokC (zz_fok1 (zR_32, zT_32, 3) rfl (by decide) rfl rfl (Or.inl rfl)) (zz_fok1 (zR_33, zT_33, 1) rfl (by decide) rfl rfl (Or.inl rfl))))
theorem q2942 : (Jvm.Cond.fieldLink "java/lang/Enum" (7 : Nat) "java/lang/Enum" "ordinal" "I") ∈ lw_all := lw_g (lw_at lw_m12 222 rfl) rfl
def wp_J14_ordinal (Z : zzG) (this : Option Nat) (M : zzM) (K : Option Value → zzM → Prop) : Prop := zgI Z M this [30, 31, 32, 33] 0 fun x1 => K (some (.int x1)) M
theorem ok_J14_ordinal {Z : zzG} {l : Launch} (hl : l.stackTraces = false) {this : Option Nat} {M : zzM} {mc ms : Nat} {K : Option Value → zzM → Prop} (hw : wp_J14_ordinal Z this M K) : zz_Met Z l yJ14_ordinal (zz_ws yJ14_ordinal cJ14_ordinal 1 (some .int) none) 1 [va_rf this] M mc ms K (fun _ _ _ => False) := by
  refine zz_ofW hl (plainFor_of_name (by decide)) (by simp only [zz_sl0, zz_slI, zz_slJ, zz_slA] <;> decide) (fun G hZ hll C E hH hR hin => ?_)
  subst hZ
  subst hll
  rw [show lv_args 0 [va_rf this] = [(0, va_rf this)] by simp only [zz_la0, zz_laI, zz_laJ, zz_laA]]
  unfold wp_J14_ordinal at hw
  refine zz_aload_n C dJ14_ordinal_0 rfl 0 rfl ?_
  refine zz_getI C dJ14_ordinal_1 (Or.inl q2942) zf_30_31_32_33_0_java_lang_Enum hw (fun x1 hw => ?_)
  exact zz_iret C E dJ14_ordinal_4 hw
abbrev cX1_itemGet : ByteArray := prog_1_method_18_code
def yX1_itemGet : MethodName := ⟨"DebateHall", "itemGet", "(LDebateHall$Item;I)I"⟩
def dkwX1_itemGet_6 : List UInt8 := [182, 0, 224, 172, 42, 43, 178, 0, 162, 182, 0, 224, 172]
abbrev dktX1_itemGet_6 : List UInt8 := dkwX1_itemGet_6 ++ []
def dkwX1_itemGet_5 : List UInt8 := [167, 0, 4, 3, 172, 43, 182, 0, 221, 153, 0, 7, 4, 167, 0, 4, 3, 172, 42, 43, 178, 0, 159]
abbrev dktX1_itemGet_5 : List UInt8 := dkwX1_itemGet_5 ++ dktX1_itemGet_6
def dkwX1_itemGet_4 : List UInt8 := [172, 42, 180, 0, 36, 180, 0, 218, 43, 180, 0, 215, 46, 172, 43, 180, 0, 146, 153, 0, 7, 4]
abbrev dktX1_itemGet_4 : List UInt8 := dkwX1_itemGet_4 ++ dktX1_itemGet_5
def dkwX1_itemGet_3 : List UInt8 := [184, 0, 207, 172, 43, 180, 0, 196, 184, 0, 207, 172, 42, 180, 0, 36, 180, 0, 211, 43, 180, 0, 215, 46]
abbrev dktX1_itemGet_3 : List UInt8 := dkwX1_itemGet_3 ++ dktX1_itemGet_4
def dkwX1_itemGet_2 : List UInt8 := [43, 180, 0, 139, 182, 0, 200, 172, 43, 180, 0, 143, 172, 43, 180, 0, 203, 172, 43, 180, 0, 204]
abbrev dktX1_itemGet_2 : List UInt8 := dkwX1_itemGet_2 ++ dktX1_itemGet_3
def dkwX1_itemGet_1 : List UInt8 := [170, 0, 0, 0, 0, 0, 150, 0, 0, 0, 0, 0, 0, 0, 9, 0, 0, 0, 55, 0, 0, 0, 63, 0, 0, 0, 68, 0, 0, 0, 73, 0, 0, 0, 81, 0, 0, 0, 89, 0, 0, 0, 102, 0, 0, 0, 115, 0, 0, 0, 128, 0, 0, 0, 141]
abbrev dktX1_itemGet_1 : List UInt8 := dkwX1_itemGet_1 ++ dktX1_itemGet_2
def dkwX1_itemGet_0 : List UInt8 := [28]
abbrev dktX1_itemGet_0 : List UInt8 := dkwX1_itemGet_0 ++ dktX1_itemGet_1
theorem dksX1_itemGet_0 : cX1_itemGet.data.toList.drop 0 = dktX1_itemGet_0 := by decide +kernel
theorem dksX1_itemGet_1 : cX1_itemGet.data.toList.drop 1 = dktX1_itemGet_1 := dk_seg dksX1_itemGet_0 1 rfl rfl
theorem dksX1_itemGet_2 : cX1_itemGet.data.toList.drop 56 = dktX1_itemGet_2 := dk_seg dksX1_itemGet_1 55 rfl rfl
theorem dksX1_itemGet_3 : cX1_itemGet.data.toList.drop 78 = dktX1_itemGet_3 := dk_seg dksX1_itemGet_2 22 rfl rfl
theorem dksX1_itemGet_4 : cX1_itemGet.data.toList.drop 102 = dktX1_itemGet_4 := dk_seg dksX1_itemGet_3 24 rfl rfl
theorem dksX1_itemGet_5 : cX1_itemGet.data.toList.drop 124 = dktX1_itemGet_5 := dk_seg dksX1_itemGet_4 22 rfl rfl
theorem dksX1_itemGet_6 : cX1_itemGet.data.toList.drop 147 = dktX1_itemGet_6 := dk_seg dksX1_itemGet_5 23 rfl rfl
theorem dX1_itemGet_0 : decode cX1_itemGet 0 = .ok (.iload_n 2, 1) := dk_28 (dk_at dksX1_itemGet_0 0 rfl rfl)
theorem dX1_itemGet_1 : decode cX1_itemGet 1 = .ok (.tableswitch 150 0 9 #[55, 63, 68, 73, 81, 89, 102, 115, 128, 141], 55) := by decide +kernel
theorem dX1_itemGet_56 : decode cX1_itemGet 56 = .ok (.aload_n 1, 1) := dk_43 (dk_at dksX1_itemGet_2 0 rfl rfl)
theorem dX1_itemGet_57 : decode cX1_itemGet 57 = .ok (.getfield 139, 3) := dk_180 0 139 (dk_at dksX1_itemGet_2 1 rfl rfl)
theorem dX1_itemGet_60 : decode cX1_itemGet 60 = .ok (.invokevirtual 200, 3) := dk_182 0 200 (dk_at dksX1_itemGet_2 4 rfl rfl)
theorem dX1_itemGet_63 : decode cX1_itemGet 63 = .ok (.ireturn, 1) := dk_172 (dk_at dksX1_itemGet_2 7 rfl rfl)
theorem dX1_itemGet_64 : decode cX1_itemGet 64 = .ok (.aload_n 1, 1) := dk_43 (dk_at dksX1_itemGet_2 8 rfl rfl)
theorem dX1_itemGet_65 : decode cX1_itemGet 65 = .ok (.getfield 143, 3) := dk_180 0 143 (dk_at dksX1_itemGet_2 9 rfl rfl)
theorem dX1_itemGet_68 : decode cX1_itemGet 68 = .ok (.ireturn, 1) := dk_172 (dk_at dksX1_itemGet_2 12 rfl rfl)
theorem dX1_itemGet_69 : decode cX1_itemGet 69 = .ok (.aload_n 1, 1) := dk_43 (dk_at dksX1_itemGet_2 13 rfl rfl)
theorem dX1_itemGet_70 : decode cX1_itemGet 70 = .ok (.getfield 203, 3) := dk_180 0 203 (dk_at dksX1_itemGet_2 14 rfl rfl)
theorem dX1_itemGet_73 : decode cX1_itemGet 73 = .ok (.ireturn, 1) := dk_172 (dk_at dksX1_itemGet_2 17 rfl rfl)
theorem dX1_itemGet_74 : decode cX1_itemGet 74 = .ok (.aload_n 1, 1) := dk_43 (dk_at dksX1_itemGet_2 18 rfl rfl)
theorem dX1_itemGet_75 : decode cX1_itemGet 75 = .ok (.getfield 204, 3) := dk_180 0 204 (dk_at dksX1_itemGet_2 19 rfl rfl)
theorem dX1_itemGet_78 : decode cX1_itemGet 78 = .ok (.invokestatic 207, 3) := dk_184 0 207 (dk_at dksX1_itemGet_3 0 rfl rfl)
theorem dX1_itemGet_81 : decode cX1_itemGet 81 = .ok (.ireturn, 1) := dk_172 (dk_at dksX1_itemGet_3 3 rfl rfl)
theorem dX1_itemGet_82 : decode cX1_itemGet 82 = .ok (.aload_n 1, 1) := dk_43 (dk_at dksX1_itemGet_3 4 rfl rfl)
theorem dX1_itemGet_83 : decode cX1_itemGet 83 = .ok (.getfield 196, 3) := dk_180 0 196 (dk_at dksX1_itemGet_3 5 rfl rfl)
theorem dX1_itemGet_86 : decode cX1_itemGet 86 = .ok (.invokestatic 207, 3) := dk_184 0 207 (dk_at dksX1_itemGet_3 8 rfl rfl)
theorem dX1_itemGet_89 : decode cX1_itemGet 89 = .ok (.ireturn, 1) := dk_172 (dk_at dksX1_itemGet_3 11 rfl rfl)
theorem dX1_itemGet_90 : decode cX1_itemGet 90 = .ok (.aload_n 0, 1) := dk_42 (dk_at dksX1_itemGet_3 12 rfl rfl)
theorem dX1_itemGet_91 : decode cX1_itemGet 91 = .ok (.getfield 36, 3) := dk_180 0 36 (dk_at dksX1_itemGet_3 13 rfl rfl)
theorem dX1_itemGet_94 : decode cX1_itemGet 94 = .ok (.getfield 211, 3) := dk_180 0 211 (dk_at dksX1_itemGet_3 16 rfl rfl)
theorem dX1_itemGet_97 : decode cX1_itemGet 97 = .ok (.aload_n 1, 1) := dk_43 (dk_at dksX1_itemGet_3 19 rfl rfl)
theorem dX1_itemGet_98 : decode cX1_itemGet 98 = .ok (.getfield 215, 3) := dk_180 0 215 (dk_at dksX1_itemGet_3 20 rfl rfl)
theorem dX1_itemGet_101 : decode cX1_itemGet 101 = .ok (.iaload, 1) := dk_46 (dk_at dksX1_itemGet_3 23 rfl rfl)
theorem dX1_itemGet_102 : decode cX1_itemGet 102 = .ok (.ireturn, 1) := dk_172 (dk_at dksX1_itemGet_4 0 rfl rfl)
theorem dX1_itemGet_103 : decode cX1_itemGet 103 = .ok (.aload_n 0, 1) := dk_42 (dk_at dksX1_itemGet_4 1 rfl rfl)
theorem dX1_itemGet_104 : decode cX1_itemGet 104 = .ok (.getfield 36, 3) := dk_180 0 36 (dk_at dksX1_itemGet_4 2 rfl rfl)
theorem dX1_itemGet_107 : decode cX1_itemGet 107 = .ok (.getfield 218, 3) := dk_180 0 218 (dk_at dksX1_itemGet_4 5 rfl rfl)
theorem dX1_itemGet_110 : decode cX1_itemGet 110 = .ok (.aload_n 1, 1) := dk_43 (dk_at dksX1_itemGet_4 8 rfl rfl)
theorem dX1_itemGet_111 : decode cX1_itemGet 111 = .ok (.getfield 215, 3) := dk_180 0 215 (dk_at dksX1_itemGet_4 9 rfl rfl)
theorem dX1_itemGet_114 : decode cX1_itemGet 114 = .ok (.iaload, 1) := dk_46 (dk_at dksX1_itemGet_4 12 rfl rfl)
theorem dX1_itemGet_115 : decode cX1_itemGet 115 = .ok (.ireturn, 1) := dk_172 (dk_at dksX1_itemGet_4 13 rfl rfl)
theorem dX1_itemGet_116 : decode cX1_itemGet 116 = .ok (.aload_n 1, 1) := dk_43 (dk_at dksX1_itemGet_4 14 rfl rfl)
theorem dX1_itemGet_117 : decode cX1_itemGet 117 = .ok (.getfield 146, 3) := dk_180 0 146 (dk_at dksX1_itemGet_4 15 rfl rfl)
theorem dX1_itemGet_120 : decode cX1_itemGet 120 = .ok (.ifCond .eq 7, 3) := dk_153 0 7 (dk_at dksX1_itemGet_4 18 rfl rfl)
theorem dX1_itemGet_123 : decode cX1_itemGet 123 = .ok (.iconst 1, 1) := dk_4 (dk_at dksX1_itemGet_4 21 rfl rfl)
theorem dX1_itemGet_124 : decode cX1_itemGet 124 = .ok (.goto 4, 3) := dk_167 0 4 (dk_at dksX1_itemGet_5 0 rfl rfl)
theorem dX1_itemGet_127 : decode cX1_itemGet 127 = .ok (.iconst 0, 1) := dk_3 (dk_at dksX1_itemGet_5 3 rfl rfl)
theorem dX1_itemGet_128 : decode cX1_itemGet 128 = .ok (.ireturn, 1) := dk_172 (dk_at dksX1_itemGet_5 4 rfl rfl)
theorem dX1_itemGet_129 : decode cX1_itemGet 129 = .ok (.aload_n 1, 1) := dk_43 (dk_at dksX1_itemGet_5 5 rfl rfl)
theorem dX1_itemGet_130 : decode cX1_itemGet 130 = .ok (.invokevirtual 221, 3) := dk_182 0 221 (dk_at dksX1_itemGet_5 6 rfl rfl)
theorem dX1_itemGet_133 : decode cX1_itemGet 133 = .ok (.ifCond .eq 7, 3) := dk_153 0 7 (dk_at dksX1_itemGet_5 9 rfl rfl)
theorem dX1_itemGet_136 : decode cX1_itemGet 136 = .ok (.iconst 1, 1) := dk_4 (dk_at dksX1_itemGet_5 12 rfl rfl)
theorem dX1_itemGet_137 : decode cX1_itemGet 137 = .ok (.goto 4, 3) := dk_167 0 4 (dk_at dksX1_itemGet_5 13 rfl rfl)
theorem dX1_itemGet_140 : decode cX1_itemGet 140 = .ok (.iconst 0, 1) := dk_3 (dk_at dksX1_itemGet_5 16 rfl rfl)
theorem dX1_itemGet_141 : decode cX1_itemGet 141 = .ok (.ireturn, 1) := dk_172 (dk_at dksX1_itemGet_5 17 rfl rfl)
theorem dX1_itemGet_142 : decode cX1_itemGet 142 = .ok (.aload_n 0, 1) := dk_42 (dk_at dksX1_itemGet_5 18 rfl rfl)
theorem dX1_itemGet_143 : decode cX1_itemGet 143 = .ok (.aload_n 1, 1) := dk_43 (dk_at dksX1_itemGet_5 19 rfl rfl)
theorem dX1_itemGet_144 : decode cX1_itemGet 144 = .ok (.getstatic 159, 3) := dk_178 0 159 (dk_at dksX1_itemGet_5 20 rfl rfl)
theorem dX1_itemGet_147 : decode cX1_itemGet 147 = .ok (.invokevirtual 224, 3) := dk_182 0 224 (dk_at dksX1_itemGet_6 0 rfl rfl)
theorem dX1_itemGet_150 : decode cX1_itemGet 150 = .ok (.ireturn, 1) := dk_172 (dk_at dksX1_itemGet_6 3 rfl rfl)
theorem dX1_itemGet_151 : decode cX1_itemGet 151 = .ok (.aload_n 0, 1) := dk_42 (dk_at dksX1_itemGet_6 4 rfl rfl)
theorem dX1_itemGet_152 : decode cX1_itemGet 152 = .ok (.aload_n 1, 1) := dk_43 (dk_at dksX1_itemGet_6 5 rfl rfl)
theorem dX1_itemGet_153 : decode cX1_itemGet 153 = .ok (.getstatic 162, 3) := dk_178 0 162 (dk_at dksX1_itemGet_6 6 rfl rfl)
theorem dX1_itemGet_156 : decode cX1_itemGet 156 = .ok (.invokevirtual 224, 3) := dk_182 0 224 (dk_at dksX1_itemGet_6 9 rfl rfl)
theorem dX1_itemGet_159 : decode cX1_itemGet 159 = .ok (.ireturn, 1) := dk_172 (dk_at dksX1_itemGet_6 12 rfl rfl)
theorem q2193 : (Jvm.Cond.code ({ cls := "DebateHall", name := "on", desc := "(LDebateHall$Item;LDebateHall$Kind;)I" } : Jvm.MethodName) prog_1_method_17_code (6 : Nat) (Option.some Jvm.ClassFile.FieldType.int)) ∈ lw_all := lw_g (lw_at lw_m9 193 rfl) rfl
theorem zk_X1_on : zz_cd yX1_on cX1_on 6 (some .int) none ∈ lw_all := q2193
theorem zy_X1_on : zz_yok yX1_on 2 = true := by decide +kernel
theorem q2190 : (Jvm.Cond.methodLink "DebateHall" (224 : Nat) ({ cls := "DebateHall", name := "on", desc := "(LDebateHall$Item;LDebateHall$Kind;)I" } : Jvm.MethodName)) ∈ lw_all := lw_g (lw_at lw_m9 190 rfl) rfl
theorem q2192 : (Jvm.Cond.instanceMethod ({ cls := "DebateHall", name := "on", desc := "(LDebateHall$Item;LDebateHall$Kind;)I" } : Jvm.MethodName)) ∈ lw_all := lw_g (lw_at lw_m9 192 rfl) rfl
theorem q2185 : (Jvm.Cond.code ({ cls := "java/lang/Enum", name := "ordinal", desc := "()I" } : Jvm.MethodName) prog_35_method_2_code (1 : Nat) (Option.some Jvm.ClassFile.FieldType.int)) ∈ lw_all := lw_g (lw_at lw_m9 185 rfl) rfl
theorem zk_J14_ordinal : zz_cd yJ14_ordinal cJ14_ordinal 1 (some .int) none ∈ lw_all := q2185
theorem zy_J14_ordinal : zz_yok yJ14_ordinal 0 = true := by decide +kernel
theorem q2178 : (Jvm.Cond.methodLink "DebateHall" (200 : Nat) ({ cls := "DebateHall$Kind", name := "ordinal", desc := "()I" } : Jvm.MethodName)) ∈ lw_all := lw_g (lw_at lw_m9 178 rfl) rfl
theorem q103 : (Jvm.Cond.initialized "java/lang/Enum") ∈ lw_all := lw_g (lw_at lw_m1 23 rfl) rfl
theorem zl_java_lang_Enum : Cond.initialized "java/lang/Enum" ∈ lw_all := q103
theorem q2180 : (Jvm.Cond.declares ({ cls := "java/lang/Enum", name := "ordinal", desc := "()I" } : Jvm.MethodName)) ∈ lw_tbl := lw_at lw_m9 180 rfl
theorem q2179 : (Jvm.Cond.sameMethod "DebateHall$Kind" "java/lang/Enum" "ordinal" "()I") ∈ lw_all := lw_g (lw_at lw_m9 179 rfl) rfl
theorem q2184 : (Jvm.Cond.instanceMethod ({ cls := "java/lang/Enum", name := "ordinal", desc := "()I" } : Jvm.MethodName)) ∈ lw_all := lw_g (lw_at lw_m9 184 rfl) rfl
theorem q2182 : (Jvm.Cond.selects "DebateHall$Kind$2" ({ cls := "DebateHall$Kind", name := "ordinal", desc := "()I" } : Jvm.MethodName) ({ cls := "java/lang/Enum", name := "ordinal", desc := "()I" } : Jvm.MethodName)) ∈ lw_all := lw_g (lw_at lw_m9 182 rfl) rfl
theorem zyo_java_lang_Enum_ordinal___I : zz_yok ⟨"java/lang/Enum", "ordinal", "()I"⟩ 0 = true := by decide +kernel
theorem q2181 : (Jvm.Cond.selects "DebateHall$Kind$1" ({ cls := "DebateHall$Kind", name := "ordinal", desc := "()I" } : Jvm.MethodName) ({ cls := "java/lang/Enum", name := "ordinal", desc := "()I" } : Jvm.MethodName)) ∈ lw_all := lw_g (lw_at lw_m9 181 rfl) rfl
theorem q2183 : (Jvm.Cond.selects "DebateHall$Kind$3" ({ cls := "DebateHall$Kind", name := "ordinal", desc := "()I" } : Jvm.MethodName) ({ cls := "java/lang/Enum", name := "ordinal", desc := "()I" } : Jvm.MethodName)) ∈ lw_all := lw_g (lw_at lw_m9 183 rfl) rfl
theorem q1753 : (Jvm.Cond.fieldLinkNest "DebateHall" (203 : Nat) "DebateHall$Item" "size" "I" "DebateHall") ∈ lw_tbl := lw_at lw_m7 233 rfl
theorem zf_15_5_ebateHall_Item : zz_fok [15] 5 "DebateHall$Item" "source" "LDebateHall$Item;" := zz_fok1 (zR_15, zT_15, 8) rfl (by decide) rfl rfl (Or.inl rfl)
theorem q1756 : (Jvm.Cond.fieldLinkNest "DebateHall" (204 : Nat) "DebateHall$Item" "source" "LDebateHall$Item;" "DebateHall") ∈ lw_tbl := lw_at lw_m7 236 rfl
theorem q2188 : (Jvm.Cond.code ({ cls := "DebateHall$Item", name := "numberOf", desc := "(LDebateHall$Item;)I" } : Jvm.MethodName) prog_6_method_5_code (1 : Nat) (Option.some Jvm.ClassFile.FieldType.int)) ∈ lw_all := lw_g (lw_at lw_m9 188 rfl) rfl
theorem zk_X20_numberOf : zz_cd yX20_numberOf cX20_numberOf 1 (some .int) none ∈ lw_all := q2188
theorem zy_X20_numberOf : zz_yok yX20_numberOf 1 = true := by decide +kernel
theorem q2186 : (Jvm.Cond.methodLink "DebateHall" (207 : Nat) ({ cls := "DebateHall$Item", name := "numberOf", desc := "(LDebateHall$Item;)I" } : Jvm.MethodName)) ∈ lw_all := lw_g (lw_at lw_m9 186 rfl) rfl
theorem q2187 : (Jvm.Cond.static ({ cls := "DebateHall$Item", name := "numberOf", desc := "(LDebateHall$Item;)I" } : Jvm.MethodName)) ∈ lw_all := lw_g (lw_at lw_m9 187 rfl) rfl
theorem q247 : (Jvm.Cond.fieldLinkNest "DebateHall" (211 : Nat) "DebateHall$Minutes" "state" "[I" "DebateHall") ∈ lw_tbl := lw_at lw_m1 167 rfl
theorem q1736 : (Jvm.Cond.fieldLinkNest "DebateHall" (215 : Nat) "DebateHall$Item" "number" "I" "DebateHall") ∈ lw_tbl := lw_at lw_m7 216 rfl
theorem q250 : (Jvm.Cond.fieldLinkNest "DebateHall" (218 : Nat) "DebateHall$Minutes" "round" "[I" "DebateHall") ∈ lw_tbl := lw_at lw_m1 170 rfl
theorem q2189 : (Jvm.Cond.methodLink "DebateHall" (221 : Nat) ({ cls := "DebateHall$Item", name := "isStrong", desc := "()Z" } : Jvm.MethodName)) ∈ lw_all := lw_g (lw_at lw_m9 189 rfl) rfl
def wp_X1_itemGet_B63 (Z : zzG) (K : Option Value → zzM → Prop) (s0 : Int32) (M : zzM) (bc bs : Nat) : Prop := K (some (.int s0)) M
def wp_X1_itemGet_B128 (Z : zzG) (K : Option Value → zzM → Prop) (s0 : Int32) (M : zzM) (bc bs : Nat) : Prop := K (some (.int s0)) M
def wp_X1_itemGet_B141 (Z : zzG) (K : Option Value → zzM → Prop) (s0 : Int32) (M : zzM) (bc bs : Nat) : Prop := K (some (.int s0)) M
def wp_X1_itemGet (Z : zzG) (this : Option Nat) (p0 : Option Nat) (p1 : Int32) (M : zzM) (bc bs : Nat) (K : Option Value → zzM → Prop) : Prop := if p1 = (0 : Int32) then (zgA Z M p0 [15] 1 fun x6 => zty Z M x6 fun t => if t = 31 then (wp_J14_ordinal Z x6 M (fun r7 M8 => zrI r7 fun x11 => wp_X1_itemGet_B63 Z K x11 M8 bc bs)) else if t = 30 then (wp_J14_ordinal Z x6 M (fun r12 M13 => zrI r12 fun x16 => wp_X1_itemGet_B63 Z K x16 M13 bc bs)) else if t = 32 then (wp_J14_ordinal Z x6 M (fun r17 M18 => zrI r17 fun x21 => wp_X1_itemGet_B63 Z K x21 M18 bc bs)) else False) else if p1 = (1 : Int32) then (zgI Z M p0 [15] 3 fun x22 => K (some (.int x22)) M) else if p1 = (2 : Int32) then (zgI Z M p0 [15] 4 fun x23 => K (some (.int x23)) M) else if p1 = (3 : Int32) then (zgA Z M p0 [15] 5 fun x24 => wp_X20_numberOf Z x24 M (fun r25 M26 => zrI r25 fun x29 => K (some (.int x29)) M26)) else if p1 = (4 : Int32) then (zgA Z M p0 [15] 6 fun x30 => wp_X20_numberOf Z x30 M (fun r31 M32 => zrI r31 fun x35 => K (some (.int x35)) M32)) else if p1 = (5 : Int32) then (zgA Z M this [0] 2 fun x36 => zgA Z M x36 [2] 4 fun x37 => zgI Z M p0 [15] 0 fun x38 => zaI Z M x37 [100] x38 fun x39 => K (some (.int x39)) M) else if p1 = (6 : Int32) then (zgA Z M this [0] 2 fun x40 => zgA Z M x40 [2] 6 fun x41 => zgI Z M p0 [15] 0 fun x42 => zaI Z M x41 [100] x42 fun x43 => K (some (.int x43)) M) else if p1 = (7 : Int32) then (zgI Z M p0 [15] 7 fun x44 => if x44 = 0 then (wp_X1_itemGet_B128 Z K (0 : Int32) M bc bs) else (wp_X1_itemGet_B128 Z K (1 : Int32) M bc bs)) else if p1 = (8 : Int32) then (zty Z M p0 fun t => t = 15 ∧ wp_X20_isStrong Z p0 M (fun r45 M46 => zrI r45 fun x49 => if x49 = 0 then (wp_X1_itemGet_B141 Z K (0 : Int32) M46 bc bs) else (wp_X1_itemGet_B141 Z K (1 : Int32) M46 bc bs))) else if p1 = (9 : Int32) then (zty Z M this fun t => t = 0 ∧ zcc bc bs (fun c s k => wp_X1_on Z this p0 (some (zz_ad Z 9)) M c s k) fun r50 M51 bc52 bs53 => zrI r50 fun x54 => K (some (.int x54)) M51) else (zty Z M this fun t => t = 0 ∧ zcc bc bs (fun c s k => wp_X1_on Z this p0 (some (zz_ad Z 10)) M c s k) fun r1 M2 bc3 bs4 => zrI r1 fun x5 => K (some (.int x5)) M2)
theorem ok_X1_itemGet_B63 {G : zzX} (C : zz_C G cX1_itemGet "DebateHall" 3) {K : Option Value → zzM → Prop} (E : zz_E G (some .int) K (fun _ _ _ => False)) (hH : zz_H G []) (hR : zz_Rm G 5) {s0 : Int32} {M : zzM} {bc bs : Nat} (hw : wp_X1_itemGet_B63 (zz_Zof G) K s0 M bc bs) : zz_T G 3 M bc bs 63 [] [.int s0] := by
  unfold wp_X1_itemGet_B63 at hw
  exact zz_iret C E dX1_itemGet_63 hw
theorem ok_X1_itemGet_B128 {G : zzX} (C : zz_C G cX1_itemGet "DebateHall" 3) {K : Option Value → zzM → Prop} (E : zz_E G (some .int) K (fun _ _ _ => False)) (hH : zz_H G []) (hR : zz_Rm G 5) {s0 : Int32} {M : zzM} {bc bs : Nat} (hw : wp_X1_itemGet_B128 (zz_Zof G) K s0 M bc bs) : zz_T G 3 M bc bs 128 [] [.int s0] := by
  unfold wp_X1_itemGet_B128 at hw
  exact zz_iret C E dX1_itemGet_128 hw
theorem ok_X1_itemGet_B141 {G : zzX} (C : zz_C G cX1_itemGet "DebateHall" 3) {K : Option Value → zzM → Prop} (E : zz_E G (some .int) K (fun _ _ _ => False)) (hH : zz_H G []) (hR : zz_Rm G 5) {s0 : Int32} {M : zzM} {bc bs : Nat} (hw : wp_X1_itemGet_B141 (zz_Zof G) K s0 M bc bs) : zz_T G 3 M bc bs 141 [] [.int s0] := by
  unfold wp_X1_itemGet_B141 at hw
  exact zz_iret C E dX1_itemGet_141 hw
theorem ok_X1_itemGet {Z : zzG} {l : Launch} (hl : l.stackTraces = false) {this : Option Nat} {p0 : Option Nat} {p1 : Int32} {M : zzM} {mc ms : Nat} {K : Option Value → zzM → Prop} (hw : wp_X1_itemGet Z this p0 p1 M mc ms K) : zz_Met Z l yX1_itemGet (zz_ws yX1_itemGet cX1_itemGet 3 (some .int) none) 5 [va_rf this, va_rf p0, .int p1] M mc ms K (fun _ _ _ => False) := by
  refine zz_ofW hl (plainFor_of_name (by decide)) (by simp only [zz_sl0, zz_slI, zz_slJ, zz_slA] <;> decide) (fun G hZ hll C E hH hR hin => ?_)
  subst hZ
  subst hll
  rw [show lv_args 0 [va_rf this, va_rf p0, .int p1] = [(0, va_rf this), (1, va_rf p0), (2, .int p1)] by simp only [zz_la0, zz_laI, zz_laJ, zz_laA]]
  unfold wp_X1_itemGet at hw
  refine zz_iload_n C dX1_itemGet_0 rfl 2 rfl ?_
  by_cases e0 : p1 = (0 : Int32)
  · replace hw := zz_ifp e0 hw
    refine zz_tin (j := 0) (off := 55) (tgt := 56) C dX1_itemGet_1 e0 (by decide) (by decide) (by decide) rfl (by decide) ?_
    refine zz_aload_n C dX1_itemGet_56 rfl 1 rfl ?_
    refine zz_getA C dX1_itemGet_57 (Or.inr ⟨_, q1741⟩) zf_15_1_ebateHall_Item hw (fun x6 hw => ?_)
    obtain ⟨a9, t9, b9, fs9, hro, hL, hw⟩ := ztyS hw
    by_cases e31 : t9 = 31
    · replace hw := zz_ifp e31 hw
      subst e31
      refine zz_callU (r := (zR_31, zT_31, 3)) (x := ⟨"DebateHall$Kind", "ordinal", "()I"⟩) (owner := "java/lang/Enum") (As := []) (rest := []) (mc := 0) (ms := 0) C hR hro dX1_itemGet_60 q2178 q2179 (Or.inl q2180) q2184 q2182 zl_java_lang_Enum zk_J14_ordinal zyo_java_lang_Enum_ordinal___I rfl (by decide) (by decide) hL (ok_J14_ordinal (zz_hl C) hw) (Nat.zero_le _) (Nat.zero_le _) (zz_cat10 _ (Nat.le_of_ble_eq_true rfl)) (fun r7 M8 hw => zz_kI hw (fun x11 hw => ?_)) (fun _ _ _ h9 => h9.elim) rfl
      refine zz_subP [] rfl ?_
      exact ok_X1_itemGet_B63 C E hH hR hw
    · replace hw := zz_ifn e31 hw
      by_cases e30 : t9 = 30
      · replace hw := zz_ifp e30 hw
        subst e30
        refine zz_callU (r := (zR_30, zT_30, 3)) (x := ⟨"DebateHall$Kind", "ordinal", "()I"⟩) (owner := "java/lang/Enum") (As := []) (rest := []) (mc := 0) (ms := 0) C hR hro dX1_itemGet_60 q2178 q2179 (Or.inl q2180) q2184 q2181 zl_java_lang_Enum zk_J14_ordinal zyo_java_lang_Enum_ordinal___I rfl (by decide) (by decide) hL (ok_J14_ordinal (zz_hl C) hw) (Nat.zero_le _) (Nat.zero_le _) (zz_cat10 _ (Nat.le_of_ble_eq_true rfl)) (fun r12 M13 hw => zz_kI hw (fun x16 hw => ?_)) (fun _ _ _ h9 => h9.elim) rfl
        refine zz_subP [] rfl ?_
        exact ok_X1_itemGet_B63 C E hH hR hw
      · replace hw := zz_ifn e30 hw
        by_cases e32 : t9 = 32
        · replace hw := zz_ifp e32 hw
          subst e32
          refine zz_callU (r := (zR_32, zT_32, 3)) (x := ⟨"DebateHall$Kind", "ordinal", "()I"⟩) (owner := "java/lang/Enum") (As := []) (rest := []) (mc := 0) (ms := 0) C hR hro dX1_itemGet_60 q2178 q2179 (Or.inl q2180) q2184 q2183 zl_java_lang_Enum zk_J14_ordinal zyo_java_lang_Enum_ordinal___I rfl (by decide) (by decide) hL (ok_J14_ordinal (zz_hl C) hw) (Nat.zero_le _) (Nat.zero_le _) (zz_cat10 _ (Nat.le_of_ble_eq_true rfl)) (fun r17 M18 hw => zz_kI hw (fun x21 hw => ?_)) (fun _ _ _ h9 => h9.elim) rfl
          refine zz_subP [] rfl ?_
          exact ok_X1_itemGet_B63 C E hH hR hw
        · replace hw := zz_ifn e32 hw
          exact hw.elim
  · replace hw := zz_ifn e0 hw
    by_cases e1 : p1 = (1 : Int32)
    · replace hw := zz_ifp e1 hw
      refine zz_tin (j := 1) (off := 63) (tgt := 64) C dX1_itemGet_1 e1 (by decide) (by decide) (by decide) rfl (by decide) ?_
      refine zz_aload_n C dX1_itemGet_64 rfl 1 rfl ?_
      refine zz_getI C dX1_itemGet_65 (Or.inr ⟨_, q1749⟩) zf_15_3_ebateHall_Item hw (fun x22 hw => ?_)
      exact zz_iret C E dX1_itemGet_68 hw
    · replace hw := zz_ifn e1 hw
      by_cases e2 : p1 = (2 : Int32)
      · replace hw := zz_ifp e2 hw
        refine zz_tin (j := 2) (off := 68) (tgt := 69) C dX1_itemGet_1 e2 (by decide) (by decide) (by decide) rfl (by decide) ?_
        refine zz_aload_n C dX1_itemGet_69 rfl 1 rfl ?_
        refine zz_getI C dX1_itemGet_70 (Or.inr ⟨_, q1753⟩) zf_15_4_ebateHall_Item hw (fun x23 hw => ?_)
        exact zz_iret C E dX1_itemGet_73 hw
      · replace hw := zz_ifn e2 hw
        by_cases e3 : p1 = (3 : Int32)
        · replace hw := zz_ifp e3 hw
          refine zz_tin (j := 3) (off := 73) (tgt := 74) C dX1_itemGet_1 e3 (by decide) (by decide) (by decide) rfl (by decide) ?_
          refine zz_aload_n C dX1_itemGet_74 rfl 1 rfl ?_
          refine zz_getA C dX1_itemGet_75 (Or.inr ⟨_, q1756⟩) zf_15_5_ebateHall_Item hw (fun x24 hw => ?_)
          refine zz_callS (As := [va_rf x24]) (rest := []) (mc := 0) (ms := 0) C hR dX1_itemGet_78 (Or.inl q2186) q2187 zl_DebateHall_Item zk_X20_numberOf (Or.inl rfl) zy_X20_numberOf (by decide) (by decide) (ok_X20_numberOf (zz_hl C) hw) (Nat.zero_le _) (Nat.zero_le _) (zz_cat10 _ (Nat.le_of_ble_eq_true rfl)) (fun r25 M26 hw => zz_kI hw (fun x29 hw => ?_)) (fun _ _ _ h9 => h9.elim) rfl
          exact zz_iret C E dX1_itemGet_81 hw
        · replace hw := zz_ifn e3 hw
          by_cases e4 : p1 = (4 : Int32)
          · replace hw := zz_ifp e4 hw
            refine zz_tin (j := 4) (off := 81) (tgt := 82) C dX1_itemGet_1 e4 (by decide) (by decide) (by decide) rfl (by decide) ?_
            refine zz_aload_n C dX1_itemGet_82 rfl 1 rfl ?_
            refine zz_getA C dX1_itemGet_83 (Or.inr ⟨_, q1759⟩) zf_15_6_ebateHall_Item hw (fun x30 hw => ?_)
            refine zz_callS (As := [va_rf x30]) (rest := []) (mc := 0) (ms := 0) C hR dX1_itemGet_86 (Or.inl q2186) q2187 zl_DebateHall_Item zk_X20_numberOf (Or.inl rfl) zy_X20_numberOf (by decide) (by decide) (ok_X20_numberOf (zz_hl C) hw) (Nat.zero_le _) (Nat.zero_le _) (zz_cat10 _ (Nat.le_of_ble_eq_true rfl)) (fun r31 M32 hw => zz_kI hw (fun x35 hw => ?_)) (fun _ _ _ h9 => h9.elim) rfl
            exact zz_iret C E dX1_itemGet_89 hw
          · replace hw := zz_ifn e4 hw
            by_cases e5 : p1 = (5 : Int32)
            · replace hw := zz_ifp e5 hw
              refine zz_tin (j := 5) (off := 89) (tgt := 90) C dX1_itemGet_1 e5 (by decide) (by decide) (by decide) rfl (by decide) ?_
              refine zz_aload_n C dX1_itemGet_90 rfl 0 rfl ?_
              refine zz_getA C dX1_itemGet_91 (Or.inl q305) zf_0_2_DebateHall hw (fun x36 hw => ?_)
              refine zz_getA C dX1_itemGet_94 (Or.inr ⟨_, q247⟩) zf_2_4_teHall_Minutes hw (fun x37 hw => ?_)
              refine zz_aload_n C dX1_itemGet_97 rfl 1 rfl ?_
              refine zz_getI C dX1_itemGet_98 (Or.inr ⟨_, q1736⟩) zf_15_0_ebateHall_Item hw (fun x38 hw => ?_)
              refine zz_iald C dX1_itemGet_101 hw (fun x39 hw => ?_)
              exact zz_iret C E dX1_itemGet_102 hw
            · replace hw := zz_ifn e5 hw
              by_cases e6 : p1 = (6 : Int32)
              · replace hw := zz_ifp e6 hw
                refine zz_tin (j := 6) (off := 102) (tgt := 103) C dX1_itemGet_1 e6 (by decide) (by decide) (by decide) rfl (by decide) ?_
                refine zz_aload_n C dX1_itemGet_103 rfl 0 rfl ?_
                refine zz_getA C dX1_itemGet_104 (Or.inl q305) zf_0_2_DebateHall hw (fun x40 hw => ?_)
                refine zz_getA C dX1_itemGet_107 (Or.inr ⟨_, q250⟩) zf_2_6_teHall_Minutes hw (fun x41 hw => ?_)
                refine zz_aload_n C dX1_itemGet_110 rfl 1 rfl ?_
                refine zz_getI C dX1_itemGet_111 (Or.inr ⟨_, q1736⟩) zf_15_0_ebateHall_Item hw (fun x42 hw => ?_)
                refine zz_iald C dX1_itemGet_114 hw (fun x43 hw => ?_)
                exact zz_iret C E dX1_itemGet_115 hw
              · replace hw := zz_ifn e6 hw
                by_cases e7 : p1 = (7 : Int32)
                · replace hw := zz_ifp e7 hw
                  refine zz_tin (j := 7) (off := 115) (tgt := 116) C dX1_itemGet_1 e7 (by decide) (by decide) (by decide) rfl (by decide) ?_
                  refine zz_aload_n C dX1_itemGet_116 rfl 1 rfl ?_
                  refine zz_getI C dX1_itemGet_117 (Or.inr ⟨_, q1763⟩) zf_15_7_ebateHall_Item hw (fun x44 hw => ?_)
                  refine zz_if_eq (tgt := 127) C dX1_itemGet_120 (by decide) hw (fun hw => ?_) (fun hw => ?_)
                  · refine zz_iconst (v := (0 : Int32)) C dX1_itemGet_127 (by decide) ?_
                    refine zz_subP [] rfl ?_
                    exact ok_X1_itemGet_B128 C E hH hR hw
                  · refine zz_iconst (v := (1 : Int32)) C dX1_itemGet_123 (by decide) ?_
                    refine zz_goto (tgt := 128) C dX1_itemGet_124 (by decide) ?_
                    refine zz_subP [] rfl ?_
                    exact ok_X1_itemGet_B128 C E hH hR hw
                · replace hw := zz_ifn e7 hw
                  by_cases e8 : p1 = (8 : Int32)
                  · replace hw := zz_ifp e8 hw
                    refine zz_tin (j := 8) (off := 128) (tgt := 129) C dX1_itemGet_1 e8 (by decide) (by decide) (by decide) rfl (by decide) ?_
                    refine zz_aload_n C dX1_itemGet_129 rfl 1 rfl ?_
                    obtain ⟨a9, t9, b9, fs9, hro, hL, rfl, hw⟩ := ztyS hw
                    refine zz_callV (r := (zR_15, zT_15, 8)) (As := []) (rest := []) (mc := 0) (ms := 0) C hR hro dX1_itemGet_130 (Or.inl q2189) q1952 (Or.inl q1953) zl_DebateHall_Item zk_X20_isStrong (Or.inl rfl) zy_X20_isStrong rfl (by decide) (by decide) hL (ok_X20_isStrong (zz_hl C) hw) (Nat.zero_le _) (Nat.zero_le _) (zz_cat10 _ (Nat.le_of_ble_eq_true rfl)) (fun r45 M46 hw => zz_kI hw (fun x49 hw => ?_)) (fun _ _ _ h9 => h9.elim) rfl
                    refine zz_if_eq (tgt := 140) C dX1_itemGet_133 (by decide) hw (fun hw => ?_) (fun hw => ?_)
                    · refine zz_iconst (v := (0 : Int32)) C dX1_itemGet_140 (by decide) ?_
                      refine zz_subP [] rfl ?_
                      exact ok_X1_itemGet_B141 C E hH hR hw
                    · refine zz_iconst (v := (1 : Int32)) C dX1_itemGet_136 (by decide) ?_
                      refine zz_goto (tgt := 141) C dX1_itemGet_137 (by decide) ?_
                      refine zz_subP [] rfl ?_
                      exact ok_X1_itemGet_B141 C E hH hR hw
                  · replace hw := zz_ifn e8 hw
                    by_cases e9 : p1 = (9 : Int32)
                    · replace hw := zz_ifp e9 hw
                      refine zz_tin (j := 9) (off := 141) (tgt := 142) C dX1_itemGet_1 e9 (by decide) (by decide) (by decide) rfl (by decide) ?_
                      refine zz_aload_n C dX1_itemGet_142 rfl 0 rfl ?_
                      refine zz_aload_n C dX1_itemGet_143 rfl 1 rfl ?_
                      refine zz_gets (j := 9) (v := va_rf (some (zz_ad (zz_Zof G) 9))) C dX1_itemGet_144 (Or.inl q2153) rfl (Or.inl rfl) rfl ?_
                      obtain ⟨a9, t9, b9, fs9, hro, hL, rfl, hw⟩ := ztyS hw
                      obtain ⟨c9, s9, hc9, hs9, hw⟩ := hw
                      refine zz_callV (r := (zR_0, zT_0, 4)) (As := [va_rf p0, va_rf (some (zz_ad (zz_Zof G) 9))]) (rest := []) C hR hro dX1_itemGet_147 (Or.inl q2190) q2192 (Or.inl qs26) zl_DebateHall zk_X1_on (Or.inl rfl) zy_X1_on rfl (by decide) (by decide) hL (ok_X1_on (zz_hl C) hw) hc9 hs9 (zz_cat10 _ (Nat.le_of_ble_eq_true rfl)) (fun r50 M51 hw => zz_kI hw (fun x54 hw => ?_)) (fun _ _ _ h9 => h9.elim) rfl
                      exact zz_iret C E dX1_itemGet_150 hw
                    · replace hw := zz_ifn e9 hw
                      refine zz_tout (tgt := 151) C dX1_itemGet_1 (by decide) (by decide) (fun j hj => ?_) ?_
                      · match j, hj with
                        | 0, _ => exact Or.inl (zz_ne e0 (by decide))
                        | 1, _ => exact Or.inl (zz_ne e1 (by decide))
                        | 2, _ => exact Or.inl (zz_ne e2 (by decide))
                        | 3, _ => exact Or.inl (zz_ne e3 (by decide))
                        | 4, _ => exact Or.inl (zz_ne e4 (by decide))
                        | 5, _ => exact Or.inl (zz_ne e5 (by decide))
                        | 6, _ => exact Or.inl (zz_ne e6 (by decide))
                        | 7, _ => exact Or.inl (zz_ne e7 (by decide))
                        | 8, _ => exact Or.inl (zz_ne e8 (by decide))
                        | 9, _ => exact Or.inl (zz_ne e9 (by decide))
                        | n + 10, hj => exact absurd hj (Nat.not_lt.mpr (Nat.le_add_left _ _))
                      · refine zz_aload_n C dX1_itemGet_151 rfl 0 rfl ?_
                        refine zz_aload_n C dX1_itemGet_152 rfl 1 rfl ?_
                        refine zz_gets (j := 10) (v := va_rf (some (zz_ad (zz_Zof G) 10))) C dX1_itemGet_153 (Or.inl q2154) rfl (Or.inl rfl) rfl ?_
                        obtain ⟨a9, t9, b9, fs9, hro, hL, rfl, hw⟩ := ztyS hw
                        obtain ⟨c9, s9, hc9, hs9, hw⟩ := hw
                        refine zz_callV (r := (zR_0, zT_0, 4)) (As := [va_rf p0, va_rf (some (zz_ad (zz_Zof G) 10))]) (rest := []) C hR hro dX1_itemGet_156 (Or.inl q2190) q2192 (Or.inl qs26) zl_DebateHall zk_X1_on (Or.inl rfl) zy_X1_on rfl (by decide) (by decide) hL (ok_X1_on (zz_hl C) hw) hc9 hs9 (zz_cat10 _ (Nat.le_of_ble_eq_true rfl)) (fun r1 M2 hw => zz_kI hw (fun x5 hw => ?_)) (fun _ _ _ h9 => h9.elim) rfl
                        exact zz_iret C E dX1_itemGet_159 hw
abbrev cX20_isOn : ByteArray := prog_6_method_3_code
def yX20_isOn : MethodName := ⟨"DebateHall$Item", "isOn", "(LDebateHall$Item;)Z"⟩
def dkwX20_isOn_0 : List UInt8 := [42, 180, 0, 33, 43, 166, 0, 17, 42, 180, 0, 15, 178, 0, 42, 166, 0, 7, 4, 167, 0, 4, 3, 172]
abbrev dktX20_isOn_0 : List UInt8 := dkwX20_isOn_0 ++ []
theorem dksX20_isOn_0 : cX20_isOn.data.toList.drop 0 = dktX20_isOn_0 := by decide +kernel
theorem dX20_isOn_0 : decode cX20_isOn 0 = .ok (.aload_n 0, 1) := dk_42 (dk_at dksX20_isOn_0 0 rfl rfl)
theorem dX20_isOn_1 : decode cX20_isOn 1 = .ok (.getfield 33, 3) := dk_180 0 33 (dk_at dksX20_isOn_0 1 rfl rfl)
theorem dX20_isOn_4 : decode cX20_isOn 4 = .ok (.aload_n 1, 1) := dk_43 (dk_at dksX20_isOn_0 4 rfl rfl)
theorem dX20_isOn_5 : decode cX20_isOn 5 = .ok (.if_acmp .ne 17, 3) := dk_166 0 17 (dk_at dksX20_isOn_0 5 rfl rfl)
theorem dX20_isOn_8 : decode cX20_isOn 8 = .ok (.aload_n 0, 1) := dk_42 (dk_at dksX20_isOn_0 8 rfl rfl)
theorem dX20_isOn_9 : decode cX20_isOn 9 = .ok (.getfield 15, 3) := dk_180 0 15 (dk_at dksX20_isOn_0 9 rfl rfl)
theorem dX20_isOn_12 : decode cX20_isOn 12 = .ok (.getstatic 42, 3) := dk_178 0 42 (dk_at dksX20_isOn_0 12 rfl rfl)
theorem dX20_isOn_15 : decode cX20_isOn 15 = .ok (.if_acmp .ne 7, 3) := dk_166 0 7 (dk_at dksX20_isOn_0 15 rfl rfl)
theorem dX20_isOn_18 : decode cX20_isOn 18 = .ok (.iconst 1, 1) := dk_4 (dk_at dksX20_isOn_0 18 rfl rfl)
theorem dX20_isOn_19 : decode cX20_isOn 19 = .ok (.goto 4, 3) := dk_167 0 4 (dk_at dksX20_isOn_0 19 rfl rfl)
theorem dX20_isOn_22 : decode cX20_isOn 22 = .ok (.iconst 0, 1) := dk_3 (dk_at dksX20_isOn_0 22 rfl rfl)
theorem dX20_isOn_23 : decode cX20_isOn 23 = .ok (.ireturn, 1) := dk_172 (dk_at dksX20_isOn_0 23 rfl rfl)
theorem q1950 : (Jvm.Cond.fieldLink "DebateHall$Item" (42 : Nat) "DebateHall$Kind" "ATTACK" "LDebateHall$Kind;") ∈ lw_all := lw_g (lw_at lw_m8 190 rfl) rfl
def wp_X20_isOn_B23 (Z : zzG) (K : Option Value → zzM → Prop) (s0 : Int32) (M : zzM) : Prop := narrow .boolean (.int s0) = .int s0 ∧ K (some (.int s0)) M
def wp_X20_isOn_B22 (Z : zzG) (K : Option Value → zzM → Prop) (M : zzM) : Prop := wp_X20_isOn_B23 Z K (0 : Int32) M
def wp_X20_isOn (Z : zzG) (this : Option Nat) (p0 : Option Nat) (M : zzM) (K : Option Value → zzM → Prop) : Prop := zgA Z M this [15] 6 fun x1 => if x1 = p0 then (zgA Z M this [15] 1 fun x2 => if x2 = (some (zz_ad Z 9)) then (wp_X20_isOn_B23 Z K (1 : Int32) M) else (wp_X20_isOn_B22 Z K M)) else (wp_X20_isOn_B22 Z K M)
theorem ok_X20_isOn_B23 {G : zzX} (C : zz_C G cX20_isOn "DebateHall$Item" 2) {K : Option Value → zzM → Prop} (E : zz_E G (some .boolean) K (fun _ _ _ => False)) (hH : zz_H G []) (hR : zz_Rm G 1) {s0 : Int32} {M : zzM} {bc bs : Nat} (hw : wp_X20_isOn_B23 (zz_Zof G) K s0 M) : zz_T G 2 M bc bs 23 [] [.int s0] := by
  unfold wp_X20_isOn_B23 at hw
  exact zz_zret C E dX20_isOn_23 hw
theorem ok_X20_isOn_B22 {G : zzX} (C : zz_C G cX20_isOn "DebateHall$Item" 2) {K : Option Value → zzM → Prop} (E : zz_E G (some .boolean) K (fun _ _ _ => False)) (hH : zz_H G []) (hR : zz_Rm G 1) {M : zzM} {bc bs : Nat} (hw : wp_X20_isOn_B22 (zz_Zof G) K M) : zz_T G 2 M bc bs 22 [] [] := by
  unfold wp_X20_isOn_B22 at hw
  refine zz_iconst (v := (0 : Int32)) C dX20_isOn_22 (by decide) ?_
  refine zz_subP [] rfl ?_
  exact ok_X20_isOn_B23 C E hH hR hw
theorem ok_X20_isOn {Z : zzG} {l : Launch} (hl : l.stackTraces = false) {this : Option Nat} {p0 : Option Nat} {M : zzM} {mc ms : Nat} {K : Option Value → zzM → Prop} (hw : wp_X20_isOn Z this p0 M K) : zz_Met Z l yX20_isOn (zz_ws yX20_isOn cX20_isOn 2 (some .boolean) none) 1 [va_rf this, va_rf p0] M mc ms K (fun _ _ _ => False) := by
  refine zz_ofW hl (plainFor_of_name (by decide)) (by simp only [zz_sl0, zz_slI, zz_slJ, zz_slA] <;> decide) (fun G hZ hll C E hH hR hin => ?_)
  subst hZ
  subst hll
  rw [show lv_args 0 [va_rf this, va_rf p0] = [(0, va_rf this), (1, va_rf p0)] by simp only [zz_la0, zz_laI, zz_laJ, zz_laA]]
  unfold wp_X20_isOn at hw
  refine zz_aload_n C dX20_isOn_0 rfl 0 rfl ?_
  refine zz_getA C dX20_isOn_1 (Or.inl q1757) zf_15_6_ebateHall_Item hw (fun x1 hw => ?_)
  refine zz_aload_n C dX20_isOn_4 rfl 1 rfl ?_
  refine zz_acmp_ne (tgt := 22) C dX20_isOn_5 (by decide) hw (fun hw => ?_) (fun hw => ?_)
  · refine zz_subP [] rfl ?_
    exact ok_X20_isOn_B22 C E hH hR hw
  · refine zz_aload_n C dX20_isOn_8 rfl 0 rfl ?_
    refine zz_getA C dX20_isOn_9 (Or.inl q1737) zf_15_1_ebateHall_Item hw (fun x2 hw => ?_)
    refine zz_gets (j := 9) (v := va_rf (some (zz_ad (zz_Zof G) 9))) C dX20_isOn_12 (Or.inl q1950) rfl (Or.inl rfl) rfl ?_
    refine zz_acmp_ne (tgt := 22) C dX20_isOn_15 (by decide) hw (fun hw => ?_) (fun hw => ?_)
    · refine zz_subP [] rfl ?_
      exact ok_X20_isOn_B22 C E hH hR hw
    · refine zz_iconst (v := (1 : Int32)) C dX20_isOn_18 (by decide) ?_
      refine zz_goto (tgt := 23) C dX20_isOn_19 (by decide) ?_
      refine zz_subP [] rfl ?_
      exact ok_X20_isOn_B23 C E hH hR hw
abbrev cX3_why : ByteArray := prog_12_method_14_code
def yX3_why : MethodName := ⟨"DebateHall$Minutes", "why", "(LDebateHall$Item;)I"⟩
def dkwX3_why_3 : List UInt8 := [180, 0, 103, 153, 0, 8, 16, 254, 167, 0, 5, 16, 253, 172]
abbrev dktX3_why_3 : List UInt8 := dkwX3_why_3 ++ []
def dkwX3_why_2 : List UInt8 := [182, 0, 130, 153, 0, 16, 42, 45, 182, 0, 121, 153, 0, 8, 45, 180, 0, 81, 172, 167, 255, 209, 43]
abbrev dktX3_why_2 : List UInt8 := dkwX3_why_2 ++ dktX3_why_3
def dkwX3_why_1 : List UInt8 := [153, 0, 44, 44, 185, 0, 52, 1, 0, 192, 0, 75, 78, 45, 43, 182, 0, 127, 153, 0, 23, 45]
abbrev dktX3_why_1 : List UInt8 := dkwX3_why_1 ++ dktX3_why_2
def dkwX3_why_0 : List UInt8 := [42, 43, 182, 0, 117, 154, 0, 5, 2, 172, 42, 180, 0, 18, 182, 0, 42, 77, 44, 185, 0, 46, 1, 0]
abbrev dktX3_why_0 : List UInt8 := dkwX3_why_0 ++ dktX3_why_1
theorem dksX3_why_0 : cX3_why.data.toList.drop 0 = dktX3_why_0 := by decide +kernel
theorem dksX3_why_1 : cX3_why.data.toList.drop 24 = dktX3_why_1 := dk_seg dksX3_why_0 24 rfl rfl
theorem dksX3_why_2 : cX3_why.data.toList.drop 46 = dktX3_why_2 := dk_seg dksX3_why_1 22 rfl rfl
theorem dksX3_why_3 : cX3_why.data.toList.drop 69 = dktX3_why_3 := dk_seg dksX3_why_2 23 rfl rfl
theorem dX3_why_0 : decode cX3_why 0 = .ok (.aload_n 0, 1) := dk_42 (dk_at dksX3_why_0 0 rfl rfl)
theorem dX3_why_1 : decode cX3_why 1 = .ok (.aload_n 1, 1) := dk_43 (dk_at dksX3_why_0 1 rfl rfl)
theorem dX3_why_2 : decode cX3_why 2 = .ok (.invokevirtual 117, 3) := dk_182 0 117 (dk_at dksX3_why_0 2 rfl rfl)
theorem dX3_why_5 : decode cX3_why 5 = .ok (.ifCond .ne 5, 3) := dk_154 0 5 (dk_at dksX3_why_0 5 rfl rfl)
theorem dX3_why_8 : decode cX3_why 8 = .ok (.iconst (-1), 1) := dk_2 (dk_at dksX3_why_0 8 rfl rfl)
theorem dX3_why_9 : decode cX3_why 9 = .ok (.ireturn, 1) := dk_172 (dk_at dksX3_why_0 9 rfl rfl)
theorem dX3_why_10 : decode cX3_why 10 = .ok (.aload_n 0, 1) := dk_42 (dk_at dksX3_why_0 10 rfl rfl)
theorem dX3_why_11 : decode cX3_why 11 = .ok (.getfield 18, 3) := dk_180 0 18 (dk_at dksX3_why_0 11 rfl rfl)
theorem dX3_why_14 : decode cX3_why 14 = .ok (.invokevirtual 42, 3) := dk_182 0 42 (dk_at dksX3_why_0 14 rfl rfl)
theorem dX3_why_17 : decode cX3_why 17 = .ok (.astore_n 2, 1) := dk_77 (dk_at dksX3_why_0 17 rfl rfl)
theorem dX3_why_18 : decode cX3_why 18 = .ok (.aload_n 2, 1) := dk_44 (dk_at dksX3_why_0 18 rfl rfl)
theorem dX3_why_19 : decode cX3_why 19 = .ok (.invokeinterface 46 1, 5) := by decide +kernel
theorem dX3_why_24 : decode cX3_why 24 = .ok (.ifCond .eq 44, 3) := dk_153 0 44 (dk_at dksX3_why_1 0 rfl rfl)
theorem dX3_why_27 : decode cX3_why 27 = .ok (.aload_n 2, 1) := dk_44 (dk_at dksX3_why_1 3 rfl rfl)
theorem dX3_why_28 : decode cX3_why 28 = .ok (.invokeinterface 52 1, 5) := by decide +kernel
theorem dX3_why_33 : decode cX3_why 33 = .ok (.checkcast 75, 3) := dk_192 0 75 (dk_at dksX3_why_1 9 rfl rfl)
theorem dX3_why_36 : decode cX3_why 36 = .ok (.astore_n 3, 1) := dk_78 (dk_at dksX3_why_1 12 rfl rfl)
theorem dX3_why_37 : decode cX3_why 37 = .ok (.aload_n 3, 1) := dk_45 (dk_at dksX3_why_1 13 rfl rfl)
theorem dX3_why_38 : decode cX3_why 38 = .ok (.aload_n 1, 1) := dk_43 (dk_at dksX3_why_1 14 rfl rfl)
theorem dX3_why_39 : decode cX3_why 39 = .ok (.invokevirtual 127, 3) := dk_182 0 127 (dk_at dksX3_why_1 15 rfl rfl)
theorem dX3_why_42 : decode cX3_why 42 = .ok (.ifCond .eq 23, 3) := dk_153 0 23 (dk_at dksX3_why_1 18 rfl rfl)
theorem dX3_why_45 : decode cX3_why 45 = .ok (.aload_n 3, 1) := dk_45 (dk_at dksX3_why_1 21 rfl rfl)
theorem dX3_why_46 : decode cX3_why 46 = .ok (.invokevirtual 130, 3) := dk_182 0 130 (dk_at dksX3_why_2 0 rfl rfl)
theorem dX3_why_49 : decode cX3_why 49 = .ok (.ifCond .eq 16, 3) := dk_153 0 16 (dk_at dksX3_why_2 3 rfl rfl)
theorem dX3_why_52 : decode cX3_why 52 = .ok (.aload_n 0, 1) := dk_42 (dk_at dksX3_why_2 6 rfl rfl)
theorem dX3_why_53 : decode cX3_why 53 = .ok (.aload_n 3, 1) := dk_45 (dk_at dksX3_why_2 7 rfl rfl)
theorem dX3_why_54 : decode cX3_why 54 = .ok (.invokevirtual 121, 3) := dk_182 0 121 (dk_at dksX3_why_2 8 rfl rfl)
theorem dX3_why_57 : decode cX3_why 57 = .ok (.ifCond .eq 8, 3) := dk_153 0 8 (dk_at dksX3_why_2 11 rfl rfl)
theorem dX3_why_60 : decode cX3_why 60 = .ok (.aload_n 3, 1) := dk_45 (dk_at dksX3_why_2 14 rfl rfl)
theorem dX3_why_61 : decode cX3_why 61 = .ok (.getfield 81, 3) := dk_180 0 81 (dk_at dksX3_why_2 15 rfl rfl)
theorem dX3_why_64 : decode cX3_why 64 = .ok (.ireturn, 1) := dk_172 (dk_at dksX3_why_2 18 rfl rfl)
theorem dX3_why_65 : decode cX3_why 65 = .ok (.goto (-47), 3) := dk_167 255 209 (dk_at dksX3_why_2 19 rfl rfl)
theorem dX3_why_68 : decode cX3_why 68 = .ok (.aload_n 1, 1) := dk_43 (dk_at dksX3_why_2 22 rfl rfl)
theorem dX3_why_69 : decode cX3_why 69 = .ok (.getfield 103, 3) := dk_180 0 103 (dk_at dksX3_why_3 0 rfl rfl)
theorem dX3_why_72 : decode cX3_why 72 = .ok (.ifCond .eq 8, 3) := dk_153 0 8 (dk_at dksX3_why_3 3 rfl rfl)
theorem dX3_why_75 : decode cX3_why 75 = .ok (.bipush (-2), 2) := dk_16 254 (dk_at dksX3_why_3 6 rfl rfl)
theorem dX3_why_77 : decode cX3_why 77 = .ok (.goto 5, 3) := dk_167 0 5 (dk_at dksX3_why_3 8 rfl rfl)
theorem dX3_why_80 : decode cX3_why 80 = .ok (.bipush (-3), 2) := dk_16 253 (dk_at dksX3_why_3 11 rfl rfl)
theorem dX3_why_82 : decode cX3_why 82 = .ok (.ireturn, 1) := dk_172 (dk_at dksX3_why_3 13 rfl rfl)
theorem q1144 : (Jvm.Cond.methodLink "DebateHall$Minutes" (42 : Nat) ({ cls := "java/util/ArrayList", name := "iterator", desc := "()Ljava/util/Iterator;" } : Jvm.MethodName)) ∈ lw_all := lw_g (lw_at lw_m5 104 rfl) rfl
theorem q1949 : (Jvm.Cond.code ({ cls := "DebateHall$Item", name := "isOn", desc := "(LDebateHall$Item;)Z" } : Jvm.MethodName) prog_6_method_3_code (2 : Nat) (Option.some Jvm.ClassFile.FieldType.boolean)) ∈ lw_all := lw_g (lw_at lw_m8 189 rfl) rfl
theorem zk_X20_isOn : zz_cd yX20_isOn cX20_isOn 2 (some .boolean) none ∈ lw_all := q1949
theorem zy_X20_isOn : zz_yok yX20_isOn 1 = true := by decide +kernel
theorem q1946 : (Jvm.Cond.methodLink "DebateHall$Minutes" (127 : Nat) ({ cls := "DebateHall$Item", name := "isOn", desc := "(LDebateHall$Item;)Z" } : Jvm.MethodName)) ∈ lw_all := lw_g (lw_at lw_m8 186 rfl) rfl
theorem q1947 : (Jvm.Cond.instanceMethod ({ cls := "DebateHall$Item", name := "isOn", desc := "(LDebateHall$Item;)Z" } : Jvm.MethodName)) ∈ lw_all := lw_g (lw_at lw_m8 187 rfl) rfl
theorem q1948 : (Jvm.Cond.selects "DebateHall$Item" ({ cls := "DebateHall$Item", name := "isOn", desc := "(LDebateHall$Item;)Z" } : Jvm.MethodName) ({ cls := "DebateHall$Item", name := "isOn", desc := "(LDebateHall$Item;)Z" } : Jvm.MethodName)) ∈ lw_all := lw_g (lw_at lw_m8 188 rfl) rfl
theorem q1178 : (Jvm.Cond.methodLink "DebateHall$Minutes" (52 : Nat) ({ cls := "java/util/Iterator", name := "next", desc := "()Ljava/lang/Object;" } : Jvm.MethodName)) ∈ lw_all := lw_g (lw_at lw_m5 138 rfl) rfl
theorem q1168 : (Jvm.Cond.methodLink "DebateHall$Minutes" (46 : Nat) ({ cls := "java/util/Iterator", name := "hasNext", desc := "()Z" } : Jvm.MethodName)) ∈ lw_all := lw_g (lw_at lw_m5 128 rfl) rfl
def wp_X3_why_B65 (Z : zzG) (k18 : Option Nat → Option Nat → Option Nat → zzM → Nat → Nat → Prop) (K : Option Value → zzM → Prop) (v0 : Option Nat) (v1 : Option Nat) (v2 : Option Nat) (M : zzM) (bc bs : Nat) : Prop := k18 v0 v1 v2 M bc bs
def wp_X3_why_B82 (Z : zzG) (K : Option Value → zzM → Prop) (s0 : Int32) (M : zzM) (bc bs : Nat) : Prop := K (some (.int s0)) M
def wp_X3_why_L18 (Z : zzG) (K : Option Value → zzM → Prop) : Nat → Option Nat → Option Nat → Option Nat → zzM → Nat → Nat → Prop
  | 0, _, _, _, _, _, _ => False
  | n + 1, v0, v1, v2, M, bc, bs => zty Z M v2 fun t => t = 23 ∧ wp_J24_hasNext Z v2 M (fun r12 M13 => zrI r12 fun x16 => if x16 = 0 then (zgI Z M13 v1 [15] 7 fun x17 => if x17 = 0 then (wp_X3_why_B82 Z K (-3 : Int32) M13 bc bs) else (wp_X3_why_B82 Z K (-2 : Int32) M13 bc bs)) else (zty Z M13 v2 fun t => t = 23 ∧ wp_J24_next Z v2 M13 (fun r18 M19 => zrA r18 fun x22 => zcast Z M19 x22 [15] <| zty Z M19 x22 fun t => t = 15 ∧ wp_X20_isOn Z x22 v1 M19 (fun r23 M24 => zrI r23 fun x27 => if x27 = 0 then (wp_X3_why_B65 Z (wp_X3_why_L18 Z K n) K v0 v1 v2 M24 bc bs) else (zty Z M24 x22 fun t => t = 15 ∧ wp_X20_isStrong Z x22 M24 (fun r28 M29 => zrI r28 fun x32 => if x32 = 0 then (wp_X3_why_B65 Z (wp_X3_why_L18 Z K n) K v0 v1 v2 M29 bc bs) else (zty Z M29 v0 fun t => t = 2 ∧ wp_X3_isIn Z v0 x22 M29 (fun r33 M34 => zrI r33 fun x37 => if x37 = 0 then (wp_X3_why_B65 Z (wp_X3_why_L18 Z K n) K v0 v1 v2 M34 bc bs) else (zgI Z M34 x22 [15] 0 fun x38 => K (some (.int x38)) M34)))))))))
def wp_X3_why (Z : zzG) (this : Option Nat) (p0 : Option Nat) (M : zzM) (bc bs : Nat) (K : Option Value → zzM → Prop) : Prop := zty Z M this fun t => t = 2 ∧ wp_X3_isOut Z this p0 M (fun r1 M2 => zrI r1 fun x5 => if x5 = 0 then (K (some (.int (-1 : Int32))) M2) else (zgA Z M2 this [2] 1 fun x6 => zty Z M2 x6 fun t => t = 18 ∧ zcc bc bs (fun c s k => wp_J2_iterator Z x6 M2 c s k) fun r7 M8 bc9 bs10 => zrA r7 fun x11 => ∃ n18 : Nat, wp_X3_why_L18 Z K n18 this p0 x11 M8 bc9 bs10))
theorem ok_X3_why_B65 {G : zzX} (C : zz_C G cX3_why "DebateHall$Minutes" 4) {K : Option Value → zzM → Prop} (E : zz_E G (some .int) K (fun _ _ _ => False)) (hH : zz_H G []) (hR : zz_Rm G 4) {k18 : Option Nat → Option Nat → Option Nat → zzM → Nat → Nat → Prop} (hk18 : ∀ (z0 : Option Nat) (z1 : Option Nat) (z2 : Option Nat) (M : zzM) (bc bs : Nat), k18 z0 z1 z2 M bc bs → zz_T G 4 M bc bs 18 [(0, va_rf z0), (1, va_rf z1), (2, va_rf z2)] []) {v0 : Option Nat} {v1 : Option Nat} {v2 : Option Nat} {M : zzM} {bc bs : Nat} (hw : wp_X3_why_B65 (zz_Zof G) k18 K v0 v1 v2 M bc bs) : zz_T G 4 M bc bs 65 [(0, va_rf v0), (1, va_rf v1), (2, va_rf v2)] [] := by
  unfold wp_X3_why_B65 at hw
  refine zz_goto (tgt := 18) C dX3_why_65 (by decide) ?_
  refine zz_subP [0, 1, 2] rfl ?_
  exact hk18 _ _ _ _ _ _ hw
theorem ok_X3_why_B82 {G : zzX} (C : zz_C G cX3_why "DebateHall$Minutes" 4) {K : Option Value → zzM → Prop} (E : zz_E G (some .int) K (fun _ _ _ => False)) (hH : zz_H G []) (hR : zz_Rm G 4) {s0 : Int32} {M : zzM} {bc bs : Nat} (hw : wp_X3_why_B82 (zz_Zof G) K s0 M bc bs) : zz_T G 4 M bc bs 82 [] [.int s0] := by
  unfold wp_X3_why_B82 at hw
  exact zz_iret C E dX3_why_82 hw
theorem ok_X3_why_L18 {G : zzX} (C : zz_C G cX3_why "DebateHall$Minutes" 4) {K : Option Value → zzM → Prop} (E : zz_E G (some .int) K (fun _ _ _ => False)) (hH : zz_H G []) (hR : zz_Rm G 4) : ∀ (n : Nat) (v0 : Option Nat) (v1 : Option Nat) (v2 : Option Nat) (M : zzM) (bc bs : Nat), wp_X3_why_L18 (zz_Zof G) K n v0 v1 v2 M bc bs → zz_T G 4 M bc bs 18 [(0, va_rf v0), (1, va_rf v1), (2, va_rf v2)] [] := by
  intro n
  induction n with
  | zero =>
    intro v0 v1 v2 M bc bs hw
    exact False.elim hw
  | succ n ih =>
    intro v0 v1 v2 M bc bs hw
    refine zz_aload_n C dX3_why_18 rfl 2 rfl ?_
    obtain ⟨a9, t9, b9, fs9, hro, hL, rfl, hw⟩ := ztyS hw
    refine zz_callF (r := (zR_23, zT_23, 4)) (x := ⟨"java/util/Iterator", "hasNext", "()Z"⟩) (As := []) (rest := []) (mc := 0) (ms := 0) C hR hro dX3_why_19 q1168 (by decide +kernel) q1174 q1172 zl_java_util_ArrayList_Itr zk_J24_hasNext zyo_java_util_Iterator_hasNext___Z rfl (by decide) (by decide) hL (ok_J24_hasNext (zz_hl C) hw) (Nat.zero_le _) (Nat.zero_le _) (zz_cat10 _ (Nat.le_of_ble_eq_true rfl)) (fun r12 M13 hw => zz_kI hw (fun x16 hw => ?_)) (fun _ _ _ h9 => h9.elim) rfl
    refine zz_if_eq (tgt := 68) C dX3_why_24 (by decide) hw (fun hw => ?_) (fun hw => ?_)
    · refine zz_aload_n C dX3_why_68 rfl 1 rfl ?_
      refine zz_getI C dX3_why_69 (Or.inr ⟨_, q1761⟩) zf_15_7_ebateHall_Item hw (fun x17 hw => ?_)
      refine zz_if_eq (tgt := 80) C dX3_why_72 (by decide) hw (fun hw => ?_) (fun hw => ?_)
      · refine zz_bipush (v := (-3 : Int32)) C dX3_why_80 (by decide) ?_
        refine zz_subP [] rfl ?_
        exact ok_X3_why_B82 C E hH hR hw
      · refine zz_bipush (v := (-2 : Int32)) C dX3_why_75 (by decide) ?_
        refine zz_goto (tgt := 82) C dX3_why_77 (by decide) ?_
        refine zz_subP [] rfl ?_
        exact ok_X3_why_B82 C E hH hR hw
    · refine zz_aload_n C dX3_why_27 rfl 2 rfl ?_
      obtain ⟨a9, t9, b9, fs9, hro, hL, rfl, hw⟩ := ztyS hw
      refine zz_callF (r := (zR_23, zT_23, 4)) (x := ⟨"java/util/Iterator", "next", "()Ljava/lang/Object;"⟩) (As := []) (rest := []) (mc := 0) (ms := 0) C hR hro dX3_why_28 q1178 (by decide +kernel) q1183 q1181 zl_java_util_ArrayList_Itr zk_J24_next zyo_java_util_Iterator_next___Ljava_lang_Object_ rfl (by decide) (by decide) hL (ok_J24_next (zz_hl C) hw) (Nat.zero_le _) (Nat.zero_le _) (zz_cat10 _ (Nat.le_of_ble_eq_true rfl)) (fun r18 M19 hw => zz_kA hw (fun x22 hw => ?_)) (fun _ _ _ h9 => h9.elim) rfl
      refine zz_cast C dX3_why_33 q1727 zc_15_ebateHall_Item hw (fun hw => ?_)
      refine zz_astore_n (i := 3) (lv' := [(3, va_rf x22), (0, va_rf v0), (1, va_rf v1), (2, va_rf v2)]) C dX3_why_36 rfl (by decide) (by simp [zz_cat, zz_catI, zz_catJ, zz_catD]) ?_
      refine zz_aload_n C dX3_why_37 rfl 0 rfl ?_
      refine zz_aload_n C dX3_why_38 rfl 2 rfl ?_
      obtain ⟨a9, t9, b9, fs9, hro, hL, rfl, hw⟩ := ztyS hw
      refine zz_callV (r := (zR_15, zT_15, 8)) (As := [va_rf v1]) (rest := []) (mc := 0) (ms := 0) C hR hro dX3_why_39 (Or.inl q1946) q1947 (Or.inl q1948) zl_DebateHall_Item zk_X20_isOn (Or.inl rfl) zy_X20_isOn rfl (by decide) (by decide) hL (ok_X20_isOn (zz_hl C) hw) (Nat.zero_le _) (Nat.zero_le _) (zz_cat10 _ (Nat.le_of_ble_eq_true rfl)) (fun r23 M24 hw => zz_kI hw (fun x27 hw => ?_)) (fun _ _ _ h9 => h9.elim) rfl
      refine zz_if_eq (tgt := 65) C dX3_why_42 (by decide) hw (fun hw => ?_) (fun hw => ?_)
      · refine zz_subP [1, 2, 3] rfl ?_
        exact ok_X3_why_B65 C E hH hR (fun z0 z1 z2 z3 z4 z5 hw => ih z0 z1 z2 z3 z4 z5 hw) hw
      · refine zz_aload_n C dX3_why_45 rfl 0 rfl ?_
        obtain ⟨a9, t9, b9, fs9, hro, hL, rfl, hw⟩ := ztyS hw
        refine zz_callV (r := (zR_15, zT_15, 8)) (As := []) (rest := []) (mc := 0) (ms := 0) C hR hro dX3_why_46 (Or.inl q1951) q1952 (Or.inl q1953) zl_DebateHall_Item zk_X20_isStrong (Or.inl rfl) zy_X20_isStrong rfl (by decide) (by decide) hL (ok_X20_isStrong (zz_hl C) hw) (Nat.zero_le _) (Nat.zero_le _) (zz_cat10 _ (Nat.le_of_ble_eq_true rfl)) (fun r28 M29 hw => zz_kI hw (fun x32 hw => ?_)) (fun _ _ _ h9 => h9.elim) rfl
        refine zz_if_eq (tgt := 65) C dX3_why_49 (by decide) hw (fun hw => ?_) (fun hw => ?_)
        · refine zz_subP [1, 2, 3] rfl ?_
          exact ok_X3_why_B65 C E hH hR (fun z0 z1 z2 z3 z4 z5 hw => ih z0 z1 z2 z3 z4 z5 hw) hw
        · refine zz_aload_n C dX3_why_52 rfl 1 rfl ?_
          refine zz_aload_n C dX3_why_53 rfl 0 rfl ?_
          obtain ⟨a9, t9, b9, fs9, hro, hL, rfl, hw⟩ := ztyS hw
          refine zz_callV (r := (zR_2, zT_2, 8)) (As := [va_rf x22]) (rest := []) (mc := 0) (ms := 0) C hR hro dX3_why_54 (Or.inl q1942) q1944 (Or.inl qs19) zl_DebateHall_Minutes zk_X3_isIn (Or.inl rfl) zy_X3_isIn rfl (by decide) (by decide) hL (ok_X3_isIn (zz_hl C) hw) (Nat.zero_le _) (Nat.zero_le _) (zz_cat10 _ (Nat.le_of_ble_eq_true rfl)) (fun r33 M34 hw => zz_kI hw (fun x37 hw => ?_)) (fun _ _ _ h9 => h9.elim) rfl
          refine zz_if_eq (tgt := 65) C dX3_why_57 (by decide) hw (fun hw => ?_) (fun hw => ?_)
          · refine zz_subP [1, 2, 3] rfl ?_
            exact ok_X3_why_B65 C E hH hR (fun z0 z1 z2 z3 z4 z5 hw => ih z0 z1 z2 z3 z4 z5 hw) hw
          · refine zz_aload_n C dX3_why_60 rfl 0 rfl ?_
            refine zz_getI C dX3_why_61 (Or.inr ⟨_, q1735⟩) zf_15_0_ebateHall_Item hw (fun x38 hw => ?_)
            exact zz_iret C E dX3_why_64 hw
theorem ok_X3_why {Z : zzG} {l : Launch} (hl : l.stackTraces = false) {this : Option Nat} {p0 : Option Nat} {M : zzM} {mc ms : Nat} {K : Option Value → zzM → Prop} (hw : wp_X3_why Z this p0 M mc ms K) : zz_Met Z l yX3_why (zz_ws yX3_why cX3_why 4 (some .int) none) 4 [va_rf this, va_rf p0] M mc ms K (fun _ _ _ => False) := by
  refine zz_ofW hl (plainFor_of_name (by decide)) (by simp only [zz_sl0, zz_slI, zz_slJ, zz_slA] <;> decide) (fun G hZ hll C E hH hR hin => ?_)
  subst hZ
  subst hll
  rw [show lv_args 0 [va_rf this, va_rf p0] = [(0, va_rf this), (1, va_rf p0)] by simp only [zz_la0, zz_laI, zz_laJ, zz_laA]]
  unfold wp_X3_why at hw
  refine zz_aload_n C dX3_why_0 rfl 0 rfl ?_
  refine zz_aload_n C dX3_why_1 rfl 1 rfl ?_
  obtain ⟨a9, t9, b9, fs9, hro, hL, rfl, hw⟩ := ztyS hw
  refine zz_callV (r := (zR_2, zT_2, 8)) (As := [va_rf p0]) (rest := []) (mc := 0) (ms := 0) C hR hro dX3_why_2 (Or.inl q1938) q1940 (Or.inl qs18) zl_DebateHall_Minutes zk_X3_isOut (Or.inl rfl) zy_X3_isOut rfl (by decide) (by decide) hL (ok_X3_isOut (zz_hl C) hw) (Nat.zero_le _) (Nat.zero_le _) (zz_cat10 _ (Nat.le_of_ble_eq_true rfl)) (fun r1 M2 hw => zz_kI hw (fun x5 hw => ?_)) (fun _ _ _ h9 => h9.elim) rfl
  refine zz_if_ne (tgt := 10) C dX3_why_5 (by decide) hw (fun hw => ?_) (fun hw => ?_)
  · refine zz_aload_n C dX3_why_10 rfl 0 rfl ?_
    refine zz_getA C dX3_why_11 (Or.inl q235) zf_2_1_teHall_Minutes hw (fun x6 hw => ?_)
    obtain ⟨a9, t9, b9, fs9, hro, hL, rfl, hw⟩ := ztyS hw
    obtain ⟨c9, s9, hc9, hs9, hw⟩ := hw
    refine zz_callV (r := (zR_18, zT_18, 3)) (As := []) (rest := []) C hR hro dX3_why_14 (Or.inl q1144) q1145 (Or.inl q1146) zl_java_util_ArrayList zk_J2_iterator (Or.inl rfl) zy_J2_iterator rfl (by decide) (by decide) hL (ok_J2_iterator (zz_hl C) hw) hc9 hs9 (zz_cat10 _ (Nat.le_of_ble_eq_true rfl)) (fun r7 M8 hw => zz_kA hw (fun x11 hw => ?_)) (fun _ _ _ h9 => h9.elim) rfl
    refine zz_astore_n (i := 2) (lv' := [(2, va_rf x11), (0, va_rf this), (1, va_rf p0)]) C dX3_why_17 rfl (by decide) (by simp [zz_cat, zz_catI, zz_catJ, zz_catD]) ?_
    refine zz_subP [1, 2, 0] rfl ?_
    obtain ⟨n18, hw⟩ := hw
    exact ok_X3_why_L18 C E hH hR n18 _ _ _ _ _ _ hw
  · refine zz_iconst (v := (-1 : Int32)) C dX3_why_8 (by decide) ?_
    exact zz_iret C E dX3_why_9 hw
abbrev cX20_far : ByteArray := prog_6_method_4_code
def yX20_far : MethodName := ⟨"DebateHall$Item", "far", "()I"⟩
def dkwX20_far_0 : List UInt8 := [42, 180, 0, 33, 199, 0, 7, 3, 167, 0, 12, 4, 42, 180, 0, 33, 182, 0, 45, 96, 172]
abbrev dktX20_far_0 : List UInt8 := dkwX20_far_0 ++ []
theorem dksX20_far_0 : cX20_far.data.toList.drop 0 = dktX20_far_0 := by decide +kernel
theorem dX20_far_0 : decode cX20_far 0 = .ok (.aload_n 0, 1) := dk_42 (dk_at dksX20_far_0 0 rfl rfl)
theorem dX20_far_1 : decode cX20_far 1 = .ok (.getfield 33, 3) := dk_180 0 33 (dk_at dksX20_far_0 1 rfl rfl)
theorem dX20_far_4 : decode cX20_far 4 = .ok (.ifnonnull 7, 3) := dk_199 0 7 (dk_at dksX20_far_0 4 rfl rfl)
theorem dX20_far_7 : decode cX20_far 7 = .ok (.iconst 0, 1) := dk_3 (dk_at dksX20_far_0 7 rfl rfl)
theorem dX20_far_8 : decode cX20_far 8 = .ok (.goto 12, 3) := dk_167 0 12 (dk_at dksX20_far_0 8 rfl rfl)
theorem dX20_far_11 : decode cX20_far 11 = .ok (.iconst 1, 1) := dk_4 (dk_at dksX20_far_0 11 rfl rfl)
theorem dX20_far_12 : decode cX20_far 12 = .ok (.aload_n 0, 1) := dk_42 (dk_at dksX20_far_0 12 rfl rfl)
theorem dX20_far_13 : decode cX20_far 13 = .ok (.getfield 33, 3) := dk_180 0 33 (dk_at dksX20_far_0 13 rfl rfl)
theorem dX20_far_16 : decode cX20_far 16 = .ok (.invokevirtual 45, 3) := dk_182 0 45 (dk_at dksX20_far_0 16 rfl rfl)
theorem dX20_far_19 : decode cX20_far 19 = .ok (.iadd, 1) := dk_96 (dk_at dksX20_far_0 19 rfl rfl)
theorem dX20_far_20 : decode cX20_far 20 = .ok (.ireturn, 1) := dk_172 (dk_at dksX20_far_0 20 rfl rfl)
theorem q2201 : (Jvm.Cond.code ({ cls := "DebateHall$Item", name := "far", desc := "()I" } : Jvm.MethodName) prog_6_method_4_code (1 : Nat) (Option.some Jvm.ClassFile.FieldType.int)) ∈ lw_all := lw_g (lw_at lw_m9 201 rfl) rfl
theorem zk_X20_far : zz_cd yX20_far cX20_far 1 (some .int) none ∈ lw_all := q2201
theorem zy_X20_far : zz_yok yX20_far 0 = true := by decide +kernel
theorem q2202 : (Jvm.Cond.methodLink "DebateHall$Item" (45 : Nat) ({ cls := "DebateHall$Item", name := "far", desc := "()I" } : Jvm.MethodName)) ∈ lw_all := lw_g (lw_at lw_m9 202 rfl) rfl
theorem q2199 : (Jvm.Cond.instanceMethod ({ cls := "DebateHall$Item", name := "far", desc := "()I" } : Jvm.MethodName)) ∈ lw_all := lw_g (lw_at lw_m9 199 rfl) rfl
theorem q2200 : (Jvm.Cond.selects "DebateHall$Item" ({ cls := "DebateHall$Item", name := "far", desc := "()I" } : Jvm.MethodName) ({ cls := "DebateHall$Item", name := "far", desc := "()I" } : Jvm.MethodName)) ∈ lw_all := lw_g (lw_at lw_m9 200 rfl) rfl
def wp_X20_far_B20 (Z : zzG) (r_X20_far : Option Nat → zzM → (Option Value → zzM → Prop) → Prop) (K : Option Value → zzM → Prop) (s0 : Int32) (M : zzM) : Prop := K (some (.int s0)) M
def wpb_X20_far (Z : zzG) (r_X20_far : Option Nat → zzM → (Option Value → zzM → Prop) → Prop) (this : Option Nat) (M : zzM) (K : Option Value → zzM → Prop) : Prop := zgA Z M this [15] 6 fun x1 => if x1 = none then (wp_X20_far_B20 Z r_X20_far K (0 : Int32) M) else (zgA Z M this [15] 6 fun x2 => zty Z M x2 fun t => t = 15 ∧ r_X20_far x2 M (fun r3 M4 => zrI r3 fun x7 => wp_X20_far_B20 Z r_X20_far K ((1 : Int32) + x7) M4))
theorem ok_X20_far_B20 {G : zzX} (C : zz_C G cX20_far "DebateHall$Item" 1) {K : Option Value → zzM → Prop} (E : zz_E G (some .int) K (fun _ _ _ => False)) (hH : zz_H G []) {fr frr : Nat} (hR : zz_Rm G fr) (hF : 2 ≤ fr) (hfrr : frr + 1 ≤ fr) {r_X20_far : Option Nat → zzM → (Option Value → zzM → Prop) → Prop} (h_X20_far : ∀ {u0 : Option Nat}{M : zzM} {mc ms : Nat} {K : Option Value → zzM → Prop}, r_X20_far u0 M K → zz_Met (zz_Zof G) (zz_l G) yX20_far (zz_ws yX20_far cX20_far 1 (some .int) none) frr [va_rf u0] M mc ms K (fun _ _ _ => False)) {s0 : Int32} {M : zzM} {bc bs : Nat} (hw : wp_X20_far_B20 (zz_Zof G) r_X20_far K s0 M) : zz_T G 1 M bc bs 20 [] [.int s0] := by
  unfold wp_X20_far_B20 at hw
  exact zz_iret C E dX20_far_20 hw
theorem okb_X20_far {Z : zzG} {l : Launch} (hl : l.stackTraces = false) {fr frr : Nat} (hF : 2 ≤ fr) (hfrr : frr + 1 ≤ fr) {r_X20_far : Option Nat → zzM → (Option Value → zzM → Prop) → Prop} (h_X20_far : ∀ {u0 : Option Nat}{M : zzM} {mc ms : Nat} {K : Option Value → zzM → Prop}, r_X20_far u0 M K → zz_Met Z l yX20_far (zz_ws yX20_far cX20_far 1 (some .int) none) frr [va_rf u0] M mc ms K (fun _ _ _ => False)) {this : Option Nat} {M : zzM} {mc ms : Nat} {K : Option Value → zzM → Prop} (hw : wpb_X20_far Z r_X20_far this M K) : zz_Met Z l yX20_far (zz_ws yX20_far cX20_far 1 (some .int) none) fr [va_rf this] M mc ms K (fun _ _ _ => False) := by
  refine zz_ofW hl (plainFor_of_name (by decide)) (by simp only [zz_sl0, zz_slI, zz_slJ, zz_slA] <;> decide) (fun G hZ hll C E hH hR hin => ?_)
  subst hZ
  subst hll
  rw [show lv_args 0 [va_rf this] = [(0, va_rf this)] by simp only [zz_la0, zz_laI, zz_laJ, zz_laA]]
  unfold wpb_X20_far at hw
  refine zz_aload_n C dX20_far_0 rfl 0 rfl ?_
  refine zz_getA C dX20_far_1 (Or.inl q1757) zf_15_6_ebateHall_Item hw (fun x1 hw => ?_)
  refine zz_ifnonnull (tgt := 11) C dX20_far_4 (by decide) hw (fun hw => ?_) (fun hw => ?_)
  · refine zz_iconst (v := (1 : Int32)) C dX20_far_11 (by decide) ?_
    refine zz_aload_n C dX20_far_12 rfl 0 rfl ?_
    refine zz_getA C dX20_far_13 (Or.inl q1757) zf_15_6_ebateHall_Item hw (fun x2 hw => ?_)
    obtain ⟨a9, t9, b9, fs9, hro, hL, rfl, hw⟩ := ztyS hw
    refine zz_callV (r := (zR_15, zT_15, 8)) (As := []) (rest := [.int (1 : Int32)]) (mc := 0) (ms := 0) C hR hro dX20_far_16 (Or.inl q2202) q2199 (Or.inl q2200) zl_DebateHall_Item zk_X20_far (Or.inl rfl) zy_X20_far rfl hfrr (by decide) hL (h_X20_far hw) (Nat.zero_le _) (Nat.zero_le _) (zz_cat10 _ (Nat.le_of_ble_eq_true rfl)) (fun r3 M4 hw => zz_kI hw (fun x7 hw => ?_)) (fun _ _ _ h9 => h9.elim) rfl
    refine zz_iadd C dX20_far_19 ?_
    refine zz_subP [] rfl ?_
    exact ok_X20_far_B20 C E hH hR hF hfrr h_X20_far hw
  · refine zz_iconst (v := (0 : Int32)) C dX20_far_7 (by decide) ?_
    refine zz_goto (tgt := 20) C dX20_far_8 (by decide) ?_
    refine zz_subP [] rfl ?_
    exact ok_X20_far_B20 C E hH hR hF hfrr h_X20_far hw
def wpR_X20_far (Z : zzG) : Nat → (Option Nat → zzM → (Option Value → zzM → Prop) → Prop)
  | 0 => (fun _ _ _ => False)
  | n + 1 => (wpb_X20_far Z ((wpR_X20_far Z n)))
def wp_X20_far (Z : zzG) : Option Nat → zzM → (Option Value → zzM → Prop) → Prop := (wpR_X20_far Z 60)
theorem okR_X20_far {Z : zzG} {l : Launch} (hl : l.stackTraces = false) : ∀ n : Nat, (∀ {u0 : Option Nat}{M : zzM} {mc ms : Nat} {K : Option Value → zzM → Prop}, (wpR_X20_far Z n) u0 M K → zz_Met Z l yX20_far (zz_ws yX20_far cX20_far 1 (some .int) none) (2 + n) [va_rf u0] M mc ms K (fun _ _ _ => False)) := by
  intro n
  induction n with
  | zero =>
    exact fun h => h.elim
  | succ n ih =>
    exact fun h => okb_X20_far hl (fr := 2 + (n + 1)) (frr := 2 + n) (Nat.le_add_right _ _) (Nat.le_refl _) ih h
theorem ok_X20_far {Z : zzG} {l : Launch} (hl : l.stackTraces = false) {u0 : Option Nat} {M : zzM} {mc ms : Nat} {K : Option Value → zzM → Prop} (hw : wp_X20_far Z u0 M K) : zz_Met Z l yX20_far (zz_ws yX20_far cX20_far 1 (some .int) none) 62 [va_rf u0] M mc ms K (fun _ _ _ => False) :=
  (okR_X20_far hl 60) hw
abbrev cJ16_min : ByteArray := prog_43_method_69_code
def yJ16_min : MethodName := ⟨"java/lang/Math", "min", "(II)I"⟩
def dkwJ16_min_0 : List UInt8 := [26, 27, 163, 0, 7, 26, 167, 0, 4, 27, 172]
abbrev dktJ16_min_0 : List UInt8 := dkwJ16_min_0 ++ []
theorem dksJ16_min_0 : cJ16_min.data.toList.drop 0 = dktJ16_min_0 := by decide +kernel
theorem dJ16_min_0 : decode cJ16_min 0 = .ok (.iload_n 0, 1) := dk_26 (dk_at dksJ16_min_0 0 rfl rfl)
theorem dJ16_min_1 : decode cJ16_min 1 = .ok (.iload_n 1, 1) := dk_27 (dk_at dksJ16_min_0 1 rfl rfl)
theorem dJ16_min_2 : decode cJ16_min 2 = .ok (.if_icmp .gt 7, 3) := dk_163 0 7 (dk_at dksJ16_min_0 2 rfl rfl)
theorem dJ16_min_5 : decode cJ16_min 5 = .ok (.iload_n 0, 1) := dk_26 (dk_at dksJ16_min_0 5 rfl rfl)
theorem dJ16_min_6 : decode cJ16_min 6 = .ok (.goto 4, 3) := dk_167 0 4 (dk_at dksJ16_min_0 6 rfl rfl)
theorem dJ16_min_9 : decode cJ16_min 9 = .ok (.iload_n 1, 1) := dk_27 (dk_at dksJ16_min_0 9 rfl rfl)
theorem dJ16_min_10 : decode cJ16_min 10 = .ok (.ireturn, 1) := dk_172 (dk_at dksJ16_min_0 10 rfl rfl)
def wp_J16_min_B10 (Z : zzG) (K : Option Value → zzM → Prop) (s0 : Int32) (M : zzM) : Prop := K (some (.int s0)) M
def wp_J16_min (Z : zzG) (p0 : Int32) (p1 : Int32) (M : zzM) (K : Option Value → zzM → Prop) : Prop := if p1 < p0 then (wp_J16_min_B10 Z K p1 M) else (wp_J16_min_B10 Z K p0 M)
theorem ok_J16_min_B10 {G : zzX} (C : zz_C G cJ16_min "java/lang/Math" 2) {K : Option Value → zzM → Prop} (E : zz_E G (some .int) K (fun _ _ _ => False)) (hH : zz_H G []) (hR : zz_Rm G 1) {s0 : Int32} {M : zzM} {bc bs : Nat} (hw : wp_J16_min_B10 (zz_Zof G) K s0 M) : zz_T G 2 M bc bs 10 [] [.int s0] := by
  unfold wp_J16_min_B10 at hw
  exact zz_iret C E dJ16_min_10 hw
theorem ok_J16_min {Z : zzG} {l : Launch} (hl : l.stackTraces = false) {p0 : Int32} {p1 : Int32} {M : zzM} {mc ms : Nat} {K : Option Value → zzM → Prop} (hw : wp_J16_min Z p0 p1 M K) : zz_Met Z l yJ16_min (zz_ws yJ16_min cJ16_min 2 (some .int) none) 1 [.int p0, .int p1] M mc ms K (fun _ _ _ => False) := by
  refine zz_ofW hl (by decide +kernel) (by simp only [zz_sl0, zz_slI, zz_slJ, zz_slA] <;> decide) (fun G hZ hll C E hH hR hin => ?_)
  subst hZ
  subst hll
  rw [show lv_args 0 [.int p0, .int p1] = [(0, .int p0), (1, .int p1)] by simp only [zz_la0, zz_laI, zz_laJ, zz_laA]]
  unfold wp_J16_min at hw
  refine zz_iload_n C dJ16_min_0 rfl 0 rfl ?_
  refine zz_iload_n C dJ16_min_1 rfl 1 rfl ?_
  refine zz_icmp_gt (tgt := 9) C dJ16_min_2 (by decide) hw (fun hw => ?_) (fun hw => ?_)
  · refine zz_iload_n C dJ16_min_9 rfl 1 rfl ?_
    refine zz_subP [] rfl ?_
    exact ok_J16_min_B10 C E hH hR hw
  · refine zz_iload_n C dJ16_min_5 rfl 0 rfl ?_
    refine zz_goto (tgt := 10) C dJ16_min_6 (by decide) ?_
    refine zz_subP [] rfl ?_
    exact ok_J16_min_B10 C E hH hR hw
abbrev cJ7_checkIndex : ByteArray := prog_46_method_155_code
def yJ7_checkIndex : MethodName := ⟨"java/lang/String", "checkIndex", "(II)V"⟩
def dkwJ7_checkIndex_0 : List UInt8 := [26, 27, 178, 4, 29, 184, 4, 35, 87, 177]
abbrev dktJ7_checkIndex_0 : List UInt8 := dkwJ7_checkIndex_0 ++ []
theorem dksJ7_checkIndex_0 : cJ7_checkIndex.data.toList.drop 0 = dktJ7_checkIndex_0 := by decide +kernel
theorem dJ7_checkIndex_0 : decode cJ7_checkIndex 0 = .ok (.iload_n 0, 1) := dk_26 (dk_at dksJ7_checkIndex_0 0 rfl rfl)
theorem dJ7_checkIndex_1 : decode cJ7_checkIndex 1 = .ok (.iload_n 1, 1) := dk_27 (dk_at dksJ7_checkIndex_0 1 rfl rfl)
theorem dJ7_checkIndex_2 : decode cJ7_checkIndex 2 = .ok (.getstatic 1053, 3) := dk_178 4 29 (dk_at dksJ7_checkIndex_0 2 rfl rfl)
theorem dJ7_checkIndex_5 : decode cJ7_checkIndex 5 = .ok (.invokestatic 1059, 3) := dk_184 4 35 (dk_at dksJ7_checkIndex_0 5 rfl rfl)
theorem dJ7_checkIndex_8 : decode cJ7_checkIndex 8 = .ok (.pop, 1) := dk_87 (dk_at dksJ7_checkIndex_0 8 rfl rfl)
theorem dJ7_checkIndex_9 : decode cJ7_checkIndex 9 = .ok (.return_, 1) := dk_177 (dk_at dksJ7_checkIndex_0 9 rfl rfl)
theorem q469 : (Jvm.Cond.fieldLink "java/lang/String" (1053 : Nat) "jdk/internal/util/Preconditions" "SIOOBE_FORMATTER" "Ljava/util/function/BiFunction;") ∈ lw_all := lw_g (lw_at lw_m2 149 rfl) rfl
theorem q492 : (Jvm.Cond.methodLink "java/lang/String" (1059 : Nat) ({ cls := "jdk/internal/util/Preconditions", name := "checkIndex", desc := "(IILjava/util/function/BiFunction;)I" } : Jvm.MethodName)) ∈ lw_all := lw_g (lw_at lw_m2 172 rfl) rfl
def wp_J7_checkIndex (Z : zzG) (p0 : Int32) (p1 : Int32) (M : zzM) (K : Option Value → zzM → Prop) : Prop := wp_J19_checkIndex Z p0 p1 (if zz_ad Z 526 = 0 then none else some (zz_ad Z 26)) M (fun r1 M2 => zrI r1 fun x5 => K none M2)
theorem ok_J7_checkIndex {Z : zzG} {l : Launch} (hl : l.stackTraces = false) {p0 : Int32} {p1 : Int32} {M : zzM} {mc ms : Nat} {K : Option Value → zzM → Prop} (hw : wp_J7_checkIndex Z p0 p1 M K) : zz_Met Z l yJ7_checkIndex (zz_ws yJ7_checkIndex cJ7_checkIndex 2 none none) 2 [.int p0, .int p1] M mc ms K (fun _ _ _ => False) := by
  refine zz_ofW hl (plainFor_of_name (by decide)) (by simp only [zz_sl0, zz_slI, zz_slJ, zz_slA] <;> decide) (fun G hZ hll C E hH hR hin => ?_)
  subst hZ
  subst hll
  rw [show lv_args 0 [.int p0, .int p1] = [(0, .int p0), (1, .int p1)] by simp only [zz_la0, zz_laI, zz_laJ, zz_laA]]
  unfold wp_J7_checkIndex at hw
  refine zz_iload_n C dJ7_checkIndex_0 rfl 0 rfl ?_
  refine zz_iload_n C dJ7_checkIndex_1 rfl 1 rfl ?_
  refine zz_gets (j := 26) (v := va_rf (if zz_ad (zz_Zof G) 526 = 0 then none else some (zz_ad (zz_Zof G) 26))) C dJ7_checkIndex_2 (Or.inl q469) rfl (Or.inl rfl) rfl ?_
  refine zz_callS (As := [.int p0, .int p1, va_rf (if zz_ad (zz_Zof G) 526 = 0 then none else some (zz_ad (zz_Zof G) 26))]) (rest := []) (mc := 0) (ms := 0) C hR dJ7_checkIndex_5 (Or.inl q492) q493 zl_jdk_internal_util_Preconditions zk_J19_checkIndex (Or.inl rfl) zy_J19_checkIndex (by decide) (by decide) (ok_J19_checkIndex (zz_hl C) hw) (Nat.zero_le _) (Nat.zero_le _) (zz_cat10 _ (Nat.le_of_ble_eq_true rfl)) (fun r1 M2 hw => zz_kI hw (fun x5 hw => ?_)) (fun _ _ _ h9 => h9.elim) rfl
  refine zz_pop C dJ7_checkIndex_8 rfl ?_
  exact zz_vret C E dJ7_checkIndex_9 hw
abbrev cJ5_charAt : ByteArray := prog_28_method_14_code
def yJ5_charAt : MethodName := ⟨"java/lang/AbstractStringBuilder", "charAt", "(I)C"⟩
def dkwJ5_charAt_1 : List UInt8 := [21, 4, 184, 0, 144, 28, 154, 0, 12, 45, 27, 51, 17, 0, 255, 126, 146, 172, 45, 27, 184, 0, 148, 172]
abbrev dktJ5_charAt_1 : List UInt8 := dkwJ5_charAt_1 ++ []
def dkwJ5_charAt_0 : List UInt8 := [42, 180, 0, 22, 61, 42, 180, 0, 15, 78, 42, 180, 0, 79, 45, 190, 28, 122, 184, 0, 138, 54, 4, 27]
abbrev dktJ5_charAt_0 : List UInt8 := dkwJ5_charAt_0 ++ dktJ5_charAt_1
theorem dksJ5_charAt_0 : cJ5_charAt.data.toList.drop 0 = dktJ5_charAt_0 := by decide +kernel
theorem dksJ5_charAt_1 : cJ5_charAt.data.toList.drop 24 = dktJ5_charAt_1 := dk_seg dksJ5_charAt_0 24 rfl rfl
theorem dJ5_charAt_0 : decode cJ5_charAt 0 = .ok (.aload_n 0, 1) := dk_42 (dk_at dksJ5_charAt_0 0 rfl rfl)
theorem dJ5_charAt_1 : decode cJ5_charAt 1 = .ok (.getfield 22, 3) := dk_180 0 22 (dk_at dksJ5_charAt_0 1 rfl rfl)
theorem dJ5_charAt_4 : decode cJ5_charAt 4 = .ok (.istore_n 2, 1) := dk_61 (dk_at dksJ5_charAt_0 4 rfl rfl)
theorem dJ5_charAt_5 : decode cJ5_charAt 5 = .ok (.aload_n 0, 1) := dk_42 (dk_at dksJ5_charAt_0 5 rfl rfl)
theorem dJ5_charAt_6 : decode cJ5_charAt 6 = .ok (.getfield 15, 3) := dk_180 0 15 (dk_at dksJ5_charAt_0 6 rfl rfl)
theorem dJ5_charAt_9 : decode cJ5_charAt 9 = .ok (.astore_n 3, 1) := dk_78 (dk_at dksJ5_charAt_0 9 rfl rfl)
theorem dJ5_charAt_10 : decode cJ5_charAt 10 = .ok (.aload_n 0, 1) := dk_42 (dk_at dksJ5_charAt_0 10 rfl rfl)
theorem dJ5_charAt_11 : decode cJ5_charAt 11 = .ok (.getfield 79, 3) := dk_180 0 79 (dk_at dksJ5_charAt_0 11 rfl rfl)
theorem dJ5_charAt_14 : decode cJ5_charAt 14 = .ok (.aload_n 3, 1) := dk_45 (dk_at dksJ5_charAt_0 14 rfl rfl)
theorem dJ5_charAt_15 : decode cJ5_charAt 15 = .ok (.arraylength, 1) := dk_190 (dk_at dksJ5_charAt_0 15 rfl rfl)
theorem dJ5_charAt_16 : decode cJ5_charAt 16 = .ok (.iload_n 2, 1) := dk_28 (dk_at dksJ5_charAt_0 16 rfl rfl)
theorem dJ5_charAt_17 : decode cJ5_charAt 17 = .ok (.ishr, 1) := dk_122 (dk_at dksJ5_charAt_0 17 rfl rfl)
theorem dJ5_charAt_18 : decode cJ5_charAt 18 = .ok (.invokestatic 138, 3) := dk_184 0 138 (dk_at dksJ5_charAt_0 18 rfl rfl)
theorem dJ5_charAt_21 : decode cJ5_charAt 21 = .ok (.istore 4, 2) := dk_54 4 (dk_at dksJ5_charAt_0 21 rfl rfl)
theorem dJ5_charAt_23 : decode cJ5_charAt 23 = .ok (.iload_n 1, 1) := dk_27 (dk_at dksJ5_charAt_0 23 rfl rfl)
theorem dJ5_charAt_24 : decode cJ5_charAt 24 = .ok (.iload 4, 2) := dk_21 4 (dk_at dksJ5_charAt_1 0 rfl rfl)
theorem dJ5_charAt_26 : decode cJ5_charAt 26 = .ok (.invokestatic 144, 3) := dk_184 0 144 (dk_at dksJ5_charAt_1 2 rfl rfl)
theorem dJ5_charAt_29 : decode cJ5_charAt 29 = .ok (.iload_n 2, 1) := dk_28 (dk_at dksJ5_charAt_1 5 rfl rfl)
theorem dJ5_charAt_30 : decode cJ5_charAt 30 = .ok (.ifCond .ne 12, 3) := dk_154 0 12 (dk_at dksJ5_charAt_1 6 rfl rfl)
theorem dJ5_charAt_33 : decode cJ5_charAt 33 = .ok (.aload_n 3, 1) := dk_45 (dk_at dksJ5_charAt_1 9 rfl rfl)
theorem dJ5_charAt_34 : decode cJ5_charAt 34 = .ok (.iload_n 1, 1) := dk_27 (dk_at dksJ5_charAt_1 10 rfl rfl)
theorem dJ5_charAt_35 : decode cJ5_charAt 35 = .ok (.baload, 1) := dk_51 (dk_at dksJ5_charAt_1 11 rfl rfl)
theorem dJ5_charAt_36 : decode cJ5_charAt 36 = .ok (.sipush 255, 3) := dk_17 0 255 (dk_at dksJ5_charAt_1 12 rfl rfl)
theorem dJ5_charAt_39 : decode cJ5_charAt 39 = .ok (.iand, 1) := dk_126 (dk_at dksJ5_charAt_1 15 rfl rfl)
theorem dJ5_charAt_40 : decode cJ5_charAt 40 = .ok (.i2c, 1) := dk_146 (dk_at dksJ5_charAt_1 16 rfl rfl)
theorem dJ5_charAt_41 : decode cJ5_charAt 41 = .ok (.ireturn, 1) := dk_172 (dk_at dksJ5_charAt_1 17 rfl rfl)
theorem dJ5_charAt_42 : decode cJ5_charAt 42 = .ok (.aload_n 3, 1) := dk_45 (dk_at dksJ5_charAt_1 18 rfl rfl)
theorem dJ5_charAt_43 : decode cJ5_charAt 43 = .ok (.iload_n 1, 1) := dk_27 (dk_at dksJ5_charAt_1 19 rfl rfl)
theorem dJ5_charAt_44 : decode cJ5_charAt 44 = .ok (.invokestatic 148, 3) := dk_184 0 148 (dk_at dksJ5_charAt_1 20 rfl rfl)
theorem q438 : (Jvm.Cond.code ({ cls := "java/lang/Math", name := "min", desc := "(II)I" } : Jvm.MethodName) prog_43_method_69_code (2 : Nat) (Option.some Jvm.ClassFile.FieldType.int)) ∈ lw_all := lw_g (lw_at lw_m2 118 rfl) rfl
theorem zk_J16_min : zz_cd yJ16_min cJ16_min 2 (some .int) none ∈ lw_all := q438
theorem zy_J16_min : zz_yok yJ16_min 2 = true := by decide +kernel
theorem q491 : (Jvm.Cond.code ({ cls := "java/lang/String", name := "checkIndex", desc := "(II)V" } : Jvm.MethodName) prog_46_method_155_code (2 : Nat) (Option.none : Option Jvm.ClassFile.FieldType)) ∈ lw_all := lw_g (lw_at lw_m2 171 rfl) rfl
theorem zk_J7_checkIndex : zz_cd yJ7_checkIndex cJ7_checkIndex 2 none none ∈ lw_all := q491
theorem zy_J7_checkIndex : zz_yok yJ7_checkIndex 2 = true := by decide +kernel
theorem q2211 : (Jvm.Cond.methodLink "java/lang/AbstractStringBuilder" (144 : Nat) ({ cls := "java/lang/String", name := "checkIndex", desc := "(II)V" } : Jvm.MethodName)) ∈ lw_all := lw_g (lw_at lw_m9 211 rfl) rfl
theorem zl_java_lang_String : Cond.initialized "java/lang/String" ∈ lw_all := q91
theorem q490 : (Jvm.Cond.static ({ cls := "java/lang/String", name := "checkIndex", desc := "(II)V" } : Jvm.MethodName)) ∈ lw_all := lw_g (lw_at lw_m2 170 rfl) rfl
theorem q2210 : (Jvm.Cond.methodLink "java/lang/AbstractStringBuilder" (138 : Nat) ({ cls := "java/lang/Math", name := "min", desc := "(II)I" } : Jvm.MethodName)) ∈ lw_all := lw_g (lw_at lw_m9 210 rfl) rfl
theorem q437 : (Jvm.Cond.static ({ cls := "java/lang/Math", name := "min", desc := "(II)I" } : Jvm.MethodName)) ∈ lw_all := lw_g (lw_at lw_m2 117 rfl) rfl
def wp_J5_charAt (Z : zzG) (this : Option Nat) (p0 : Int32) (M : zzM) (K : Option Value → zzM → Prop) : Prop := zgI Z M this [20] 1 fun x1 => zgA Z M this [20] 0 fun x2 => zgI Z M this [20] 3 fun x3 => zlen Z M x2 fun x4 => wp_J16_min Z x3 (x4 >>> (x1 &&& 31)) M (fun r5 M6 => zrI r5 fun x9 => wp_J7_checkIndex Z p0 x9 M6 (fun r10 M11 => zrV r10 (if x1 = 0 then (zaI Z M11 x2 [101] p0 fun x14 => narrow .char (.int (((x14 &&& (255 : Int32)).toUInt32 % 65536).toInt32)) = .int (((x14 &&& (255 : Int32)).toUInt32 % 65536).toInt32) ∧ K (some (.int (((x14 &&& (255 : Int32)).toUInt32 % 65536).toInt32))) M11) else (False))))
theorem ok_J5_charAt {Z : zzG} {l : Launch} (hl : l.stackTraces = false) {this : Option Nat} {p0 : Int32} {M : zzM} {mc ms : Nat} {K : Option Value → zzM → Prop} (hw : wp_J5_charAt Z this p0 M K) : zz_Met Z l yJ5_charAt (zz_ws yJ5_charAt cJ5_charAt 5 (some .char) none) 3 [va_rf this, .int p0] M mc ms K (fun _ _ _ => False) := by
  refine zz_ofW hl (plainFor_of_name (by decide)) (by simp only [zz_sl0, zz_slI, zz_slJ, zz_slA] <;> decide) (fun G hZ hll C E hH hR hin => ?_)
  subst hZ
  subst hll
  rw [show lv_args 0 [va_rf this, .int p0] = [(0, va_rf this), (1, .int p0)] by simp only [zz_la0, zz_laI, zz_laJ, zz_laA]]
  unfold wp_J5_charAt at hw
  refine zz_aload_n C dJ5_charAt_0 rfl 0 rfl ?_
  refine zz_getI C dJ5_charAt_1 (Or.inl q290) zf_20_1_tStringBuilder hw (fun x1 hw => ?_)
  refine zz_istore_n (i := 2) (lv' := [(2, .int x1), (0, va_rf this), (1, .int p0)]) C dJ5_charAt_4 rfl (by decide) rfl ?_
  refine zz_aload_n C dJ5_charAt_5 rfl 1 rfl ?_
  refine zz_getA C dJ5_charAt_6 (Or.inl q289) zf_20_0_tStringBuilder hw (fun x2 hw => ?_)
  refine zz_astore_n (i := 3) (lv' := [(3, va_rf x2), (2, .int x1), (0, va_rf this), (1, .int p0)]) C dJ5_charAt_9 rfl (by decide) rfl ?_
  refine zz_aload_n C dJ5_charAt_10 rfl 2 rfl ?_
  refine zz_getI C dJ5_charAt_11 (Or.inl q293) zf_20_3_tStringBuilder hw (fun x3 hw => ?_)
  refine zz_aload_n C dJ5_charAt_14 rfl 0 rfl ?_
  refine zz_alen C dJ5_charAt_15 hw (fun x4 hw => ?_)
  refine zz_iload_n C dJ5_charAt_16 rfl 1 rfl ?_
  refine zz_ishr C dJ5_charAt_17 ?_
  refine zz_callS (As := [.int x3, .int (x4 >>> (x1 &&& 31))]) (rest := []) (mc := 0) (ms := 0) C hR dJ5_charAt_18 (Or.inl q2210) q437 zl_java_lang_Math zk_J16_min (Or.inl rfl) zy_J16_min (by decide) (by decide) (ok_J16_min (zz_hl C) hw) (Nat.zero_le _) (Nat.zero_le _) (zz_cat10 _ (Nat.le_of_ble_eq_true rfl)) (fun r5 M6 hw => zz_kI hw (fun x9 hw => ?_)) (fun _ _ _ h9 => h9.elim) rfl
  refine zz_istore (lv' := [(4, .int x9), (3, va_rf x2), (2, .int x1), (0, va_rf this), (1, .int p0)]) C dJ5_charAt_21 (by decide) (by simp [zz_cat, zz_catI, zz_catJ, zz_catD]) ?_
  refine zz_iload_n C dJ5_charAt_23 rfl 4 rfl ?_
  refine zz_iload C dJ5_charAt_24 0 rfl ?_
  refine zz_callS (As := [.int p0, .int x9]) (rest := []) (mc := 0) (ms := 0) C hR dJ5_charAt_26 (Or.inl q2211) q490 zl_java_lang_String zk_J7_checkIndex (Or.inl rfl) zy_J7_checkIndex (by decide) (by decide) (ok_J7_checkIndex (zz_hl C) hw) (Nat.zero_le _) (Nat.zero_le _) (zz_cat10 _ (Nat.le_of_ble_eq_true rfl)) (fun r10 M11 hw => zz_kV hw (fun hw => ?_)) (fun _ _ _ h9 => h9.elim) rfl
  refine zz_iload_n C dJ5_charAt_29 rfl 2 rfl ?_
  refine zz_if_ne (tgt := 42) C dJ5_charAt_30 (by decide) hw (fun hw => ?_) (fun hw => ?_)
  · refine zz_aload_n C dJ5_charAt_42 rfl 1 rfl ?_
    refine zz_iload_n C dJ5_charAt_43 rfl 4 rfl ?_
    exact hw.elim
  · refine zz_aload_n C dJ5_charAt_33 rfl 1 rfl ?_
    refine zz_iload_n C dJ5_charAt_34 rfl 4 rfl ?_
    refine zz_bald C dJ5_charAt_35 hw (fun x14 hw => ?_)
    refine zz_sipush (v := (255 : Int32)) C dJ5_charAt_36 (by decide) ?_
    refine zz_iand C dJ5_charAt_39 ?_
    refine zz_i2c C dJ5_charAt_40 ?_
    exact zz_zret C E dJ5_charAt_41 hw
abbrev cJ6_charAt : ByteArray := prog_47_method_88_code
def yJ6_charAt : MethodName := ⟨"java/lang/StringBuilder", "charAt", "(I)C"⟩
def dkwJ6_charAt_0 : List UInt8 := [42, 27, 183, 1, 73, 172]
abbrev dktJ6_charAt_0 : List UInt8 := dkwJ6_charAt_0 ++ []
theorem dksJ6_charAt_0 : cJ6_charAt.data.toList.drop 0 = dktJ6_charAt_0 := by decide +kernel
theorem dJ6_charAt_0 : decode cJ6_charAt 0 = .ok (.aload_n 0, 1) := dk_42 (dk_at dksJ6_charAt_0 0 rfl rfl)
theorem dJ6_charAt_1 : decode cJ6_charAt 1 = .ok (.iload_n 1, 1) := dk_27 (dk_at dksJ6_charAt_0 1 rfl rfl)
theorem dJ6_charAt_2 : decode cJ6_charAt 2 = .ok (.invokespecial 329, 3) := dk_183 1 73 (dk_at dksJ6_charAt_0 2 rfl rfl)
theorem dJ6_charAt_5 : decode cJ6_charAt 5 = .ok (.ireturn, 1) := dk_172 (dk_at dksJ6_charAt_0 5 rfl rfl)
theorem q2209 : (Jvm.Cond.code ({ cls := "java/lang/AbstractStringBuilder", name := "charAt", desc := "(I)C" } : Jvm.MethodName) prog_28_method_14_code (5 : Nat) (Option.some Jvm.ClassFile.FieldType.char)) ∈ lw_all := lw_g (lw_at lw_m9 209 rfl) rfl
theorem zk_J5_charAt : zz_cd yJ5_charAt cJ5_charAt 5 (some .char) none ∈ lw_all := q2209
theorem zy_J5_charAt : zz_yok yJ5_charAt 1 = true := by decide +kernel
theorem q2207 : (Jvm.Cond.methodLink "java/lang/StringBuilder" (329 : Nat) ({ cls := "java/lang/AbstractStringBuilder", name := "charAt", desc := "(I)C" } : Jvm.MethodName)) ∈ lw_all := lw_g (lw_at lw_m9 207 rfl) rfl
theorem q2875 : (Jvm.Cond.sameMethod "java/lang/AbstractStringBuilder" "java/lang/AbstractStringBuilder" "charAt" "(I)C") ∈ lw_all := lw_g (lw_at lw_m12 155 rfl) rfl
theorem q2208 : (Jvm.Cond.instanceMethod ({ cls := "java/lang/AbstractStringBuilder", name := "charAt", desc := "(I)C" } : Jvm.MethodName)) ∈ lw_all := lw_g (lw_at lw_m9 208 rfl) rfl
def wp_J6_charAt (Z : zzG) (this : Option Nat) (p0 : Int32) (M : zzM) (K : Option Value → zzM → Prop) : Prop := zty Z M this fun t => t = 20 ∧ wp_J5_charAt Z this p0 M (fun r1 M2 => zrI r1 fun x5 => narrow .char (.int x5) = .int x5 ∧ K (some (.int x5)) M2)
theorem ok_J6_charAt {Z : zzG} {l : Launch} (hl : l.stackTraces = false) {this : Option Nat} {p0 : Int32} {M : zzM} {mc ms : Nat} {K : Option Value → zzM → Prop} (hw : wp_J6_charAt Z this p0 M K) : zz_Met Z l yJ6_charAt (zz_ws yJ6_charAt cJ6_charAt 2 (some .char) none) 4 [va_rf this, .int p0] M mc ms K (fun _ _ _ => False) := by
  refine zz_ofW hl (plainFor_of_name (by decide)) (by simp only [zz_sl0, zz_slI, zz_slJ, zz_slA] <;> decide) (fun G hZ hll C E hH hR hin => ?_)
  subst hZ
  subst hll
  rw [show lv_args 0 [va_rf this, .int p0] = [(0, va_rf this), (1, .int p0)] by simp only [zz_la0, zz_laI, zz_laJ, zz_laA]]
  unfold wp_J6_charAt at hw
  refine zz_aload_n C dJ6_charAt_0 rfl 0 rfl ?_
  refine zz_iload_n C dJ6_charAt_1 rfl 1 rfl ?_
  obtain ⟨a9, t9, b9, fs9, hro, hL, rfl, hw⟩ := ztyS hw
  refine zz_callSU (r := (zR_20, zT_20, 4)) (As := [.int p0]) (rest := []) (mc := 0) (ms := 0) C hR hro dJ6_charAt_2 q2207 q2875 q302 q2208 zl_java_lang_AbstractStringBuilder zk_J5_charAt (by decide) zy_J5_charAt rfl (by decide) (by decide) hL (ok_J5_charAt (zz_hl C) hw) (Nat.zero_le _) (Nat.zero_le _) (zz_cat10 _ (Nat.le_of_ble_eq_true rfl)) (fun r1 M2 hw => zz_kI hw (fun x5 hw => ?_)) (fun _ _ _ h9 => h9.elim) rfl
  exact zz_zret C E dJ6_charAt_5 hw
abbrev cX1_digest : ByteArray := prog_1_method_36_code
def yX1_digest : MethodName := ⟨"DebateHall", "digest", "()J"⟩
def dkwX1_digest_8 : List UInt8 := [31, 20, 1, 31, 105, 42, 180, 0, 43, 29, 182, 1, 25, 133, 97, 64, 132, 3, 1, 167, 255, 226, 31, 173]
abbrev dktX1_digest_8 : List UInt8 := dkwX1_digest_8 ++ []
def dkwX1_digest_7 : List UInt8 := [25, 4, 182, 0, 239, 133, 97, 64, 167, 255, 176, 3, 62, 29, 42, 180, 0, 43, 182, 0, 175, 162, 0, 25]
abbrev dktX1_digest_7 : List UInt8 := dkwX1_digest_7 ++ dktX1_digest_8
def dkwX1_digest_6 : List UInt8 := [167, 255, 230, 31, 20, 1, 31, 105, 42, 180, 0, 36, 25, 4, 182, 0, 236, 133, 97, 20, 1, 31, 105]
abbrev dktX1_digest_6 : List UInt8 := dkwX1_digest_6 ++ dktX1_digest_7
def dkwX1_digest_5 : List UInt8 := [16, 11, 162, 0, 25, 31, 20, 1, 31, 105, 42, 25, 4, 21, 5, 182, 0, 232, 133, 97, 64, 132, 5, 1]
abbrev dktX1_digest_5 : List UInt8 := dkwX1_digest_5 ++ dktX1_digest_6
def dkwX1_digest_4 : List UInt8 := [185, 0, 110, 1, 0, 153, 0, 77, 45, 185, 0, 116, 1, 0, 192, 0, 68, 58, 4, 3, 54, 5, 21, 5]
abbrev dktX1_digest_4 : List UInt8 := dkwX1_digest_4 ++ dktX1_digest_5
def dkwX1_digest_3 : List UInt8 := [132, 4, 1, 167, 255, 231, 132, 3, 1, 167, 255, 208, 42, 180, 0, 36, 180, 0, 61, 182, 0, 138, 78, 45]
abbrev dktX1_digest_3 : List UInt8 := dkwX1_digest_3 ++ dktX1_digest_4
def dkwX1_digest_2 : List UInt8 := [54, 4, 21, 4, 16, 7, 162, 0, 24, 31, 20, 1, 31, 105, 42, 29, 21, 4, 182, 0, 192, 133, 97, 64]
abbrev dktX1_digest_2 : List UInt8 := dkwX1_digest_2 ++ dktX1_digest_3
def dkwX1_digest_1 : List UInt8 := [64, 132, 3, 1, 167, 255, 234, 3, 62, 29, 42, 180, 0, 36, 180, 0, 47, 182, 0, 51, 162, 0, 40, 3]
abbrev dktX1_digest_1 : List UInt8 := dkwX1_digest_1 ++ dktX1_digest_2
def dkwX1_digest_0 : List UInt8 := [20, 1, 29, 64, 3, 62, 29, 16, 12, 162, 0, 22, 31, 20, 1, 31, 105, 42, 29, 182, 1, 33, 133, 97]
abbrev dktX1_digest_0 : List UInt8 := dkwX1_digest_0 ++ dktX1_digest_1
theorem dksX1_digest_0 : cX1_digest.data.toList.drop 0 = dktX1_digest_0 := by decide +kernel
theorem dksX1_digest_1 : cX1_digest.data.toList.drop 24 = dktX1_digest_1 := dk_seg dksX1_digest_0 24 rfl rfl
theorem dksX1_digest_2 : cX1_digest.data.toList.drop 48 = dktX1_digest_2 := dk_seg dksX1_digest_1 24 rfl rfl
theorem dksX1_digest_3 : cX1_digest.data.toList.drop 72 = dktX1_digest_3 := dk_seg dksX1_digest_2 24 rfl rfl
theorem dksX1_digest_4 : cX1_digest.data.toList.drop 96 = dktX1_digest_4 := dk_seg dksX1_digest_3 24 rfl rfl
theorem dksX1_digest_5 : cX1_digest.data.toList.drop 120 = dktX1_digest_5 := dk_seg dksX1_digest_4 24 rfl rfl
theorem dksX1_digest_6 : cX1_digest.data.toList.drop 144 = dktX1_digest_6 := dk_seg dksX1_digest_5 24 rfl rfl
theorem dksX1_digest_7 : cX1_digest.data.toList.drop 167 = dktX1_digest_7 := dk_seg dksX1_digest_6 23 rfl rfl
theorem dksX1_digest_8 : cX1_digest.data.toList.drop 191 = dktX1_digest_8 := dk_seg dksX1_digest_7 24 rfl rfl
theorem dX1_digest_0 : decode cX1_digest 0 = .ok (.ldc2_w 285, 3) := dk_20 1 29 (dk_at dksX1_digest_0 0 rfl rfl)
theorem dX1_digest_3 : decode cX1_digest 3 = .ok (.lstore_n 1, 1) := dk_64 (dk_at dksX1_digest_0 3 rfl rfl)
theorem dX1_digest_4 : decode cX1_digest 4 = .ok (.iconst 0, 1) := dk_3 (dk_at dksX1_digest_0 4 rfl rfl)
theorem dX1_digest_5 : decode cX1_digest 5 = .ok (.istore_n 3, 1) := dk_62 (dk_at dksX1_digest_0 5 rfl rfl)
theorem dX1_digest_6 : decode cX1_digest 6 = .ok (.iload_n 3, 1) := dk_29 (dk_at dksX1_digest_0 6 rfl rfl)
theorem dX1_digest_7 : decode cX1_digest 7 = .ok (.bipush 12, 2) := dk_16 12 (dk_at dksX1_digest_0 7 rfl rfl)
theorem dX1_digest_9 : decode cX1_digest 9 = .ok (.if_icmp .ge 22, 3) := dk_162 0 22 (dk_at dksX1_digest_0 9 rfl rfl)
theorem dX1_digest_12 : decode cX1_digest 12 = .ok (.lload_n 1, 1) := dk_31 (dk_at dksX1_digest_0 12 rfl rfl)
theorem dX1_digest_13 : decode cX1_digest 13 = .ok (.ldc2_w 287, 3) := dk_20 1 31 (dk_at dksX1_digest_0 13 rfl rfl)
theorem dX1_digest_16 : decode cX1_digest 16 = .ok (.lmul, 1) := dk_105 (dk_at dksX1_digest_0 16 rfl rfl)
theorem dX1_digest_17 : decode cX1_digest 17 = .ok (.aload_n 0, 1) := dk_42 (dk_at dksX1_digest_0 17 rfl rfl)
theorem dX1_digest_18 : decode cX1_digest 18 = .ok (.iload_n 3, 1) := dk_29 (dk_at dksX1_digest_0 18 rfl rfl)
theorem dX1_digest_19 : decode cX1_digest 19 = .ok (.invokevirtual 289, 3) := dk_182 1 33 (dk_at dksX1_digest_0 19 rfl rfl)
theorem dX1_digest_22 : decode cX1_digest 22 = .ok (.i2l, 1) := dk_133 (dk_at dksX1_digest_0 22 rfl rfl)
theorem dX1_digest_23 : decode cX1_digest 23 = .ok (.ladd, 1) := dk_97 (dk_at dksX1_digest_0 23 rfl rfl)
theorem dX1_digest_24 : decode cX1_digest 24 = .ok (.lstore_n 1, 1) := dk_64 (dk_at dksX1_digest_1 0 rfl rfl)
theorem dX1_digest_25 : decode cX1_digest 25 = .ok (.iinc 3 1, 3) := dk_132 3 1 (dk_at dksX1_digest_1 1 rfl rfl)
theorem dX1_digest_28 : decode cX1_digest 28 = .ok (.goto (-22), 3) := dk_167 255 234 (dk_at dksX1_digest_1 4 rfl rfl)
theorem dX1_digest_31 : decode cX1_digest 31 = .ok (.iconst 0, 1) := dk_3 (dk_at dksX1_digest_1 7 rfl rfl)
theorem dX1_digest_32 : decode cX1_digest 32 = .ok (.istore_n 3, 1) := dk_62 (dk_at dksX1_digest_1 8 rfl rfl)
theorem dX1_digest_33 : decode cX1_digest 33 = .ok (.iload_n 3, 1) := dk_29 (dk_at dksX1_digest_1 9 rfl rfl)
theorem dX1_digest_34 : decode cX1_digest 34 = .ok (.aload_n 0, 1) := dk_42 (dk_at dksX1_digest_1 10 rfl rfl)
theorem dX1_digest_35 : decode cX1_digest 35 = .ok (.getfield 36, 3) := dk_180 0 36 (dk_at dksX1_digest_1 11 rfl rfl)
theorem dX1_digest_38 : decode cX1_digest 38 = .ok (.getfield 47, 3) := dk_180 0 47 (dk_at dksX1_digest_1 14 rfl rfl)
theorem dX1_digest_41 : decode cX1_digest 41 = .ok (.invokevirtual 51, 3) := dk_182 0 51 (dk_at dksX1_digest_1 17 rfl rfl)
theorem dX1_digest_44 : decode cX1_digest 44 = .ok (.if_icmp .ge 40, 3) := dk_162 0 40 (dk_at dksX1_digest_1 20 rfl rfl)
theorem dX1_digest_47 : decode cX1_digest 47 = .ok (.iconst 0, 1) := dk_3 (dk_at dksX1_digest_1 23 rfl rfl)
theorem dX1_digest_48 : decode cX1_digest 48 = .ok (.istore 4, 2) := dk_54 4 (dk_at dksX1_digest_2 0 rfl rfl)
theorem dX1_digest_50 : decode cX1_digest 50 = .ok (.iload 4, 2) := dk_21 4 (dk_at dksX1_digest_2 2 rfl rfl)
theorem dX1_digest_52 : decode cX1_digest 52 = .ok (.bipush 7, 2) := dk_16 7 (dk_at dksX1_digest_2 4 rfl rfl)
theorem dX1_digest_54 : decode cX1_digest 54 = .ok (.if_icmp .ge 24, 3) := dk_162 0 24 (dk_at dksX1_digest_2 6 rfl rfl)
theorem dX1_digest_57 : decode cX1_digest 57 = .ok (.lload_n 1, 1) := dk_31 (dk_at dksX1_digest_2 9 rfl rfl)
theorem dX1_digest_58 : decode cX1_digest 58 = .ok (.ldc2_w 287, 3) := dk_20 1 31 (dk_at dksX1_digest_2 10 rfl rfl)
theorem dX1_digest_61 : decode cX1_digest 61 = .ok (.lmul, 1) := dk_105 (dk_at dksX1_digest_2 13 rfl rfl)
theorem dX1_digest_62 : decode cX1_digest 62 = .ok (.aload_n 0, 1) := dk_42 (dk_at dksX1_digest_2 14 rfl rfl)
theorem dX1_digest_63 : decode cX1_digest 63 = .ok (.iload_n 3, 1) := dk_29 (dk_at dksX1_digest_2 15 rfl rfl)
theorem dX1_digest_64 : decode cX1_digest 64 = .ok (.iload 4, 2) := dk_21 4 (dk_at dksX1_digest_2 16 rfl rfl)
theorem dX1_digest_66 : decode cX1_digest 66 = .ok (.invokevirtual 192, 3) := dk_182 0 192 (dk_at dksX1_digest_2 18 rfl rfl)
theorem dX1_digest_69 : decode cX1_digest 69 = .ok (.i2l, 1) := dk_133 (dk_at dksX1_digest_2 21 rfl rfl)
theorem dX1_digest_70 : decode cX1_digest 70 = .ok (.ladd, 1) := dk_97 (dk_at dksX1_digest_2 22 rfl rfl)
theorem dX1_digest_71 : decode cX1_digest 71 = .ok (.lstore_n 1, 1) := dk_64 (dk_at dksX1_digest_2 23 rfl rfl)
theorem dX1_digest_72 : decode cX1_digest 72 = .ok (.iinc 4 1, 3) := dk_132 4 1 (dk_at dksX1_digest_3 0 rfl rfl)
theorem dX1_digest_75 : decode cX1_digest 75 = .ok (.goto (-25), 3) := dk_167 255 231 (dk_at dksX1_digest_3 3 rfl rfl)
theorem dX1_digest_78 : decode cX1_digest 78 = .ok (.iinc 3 1, 3) := dk_132 3 1 (dk_at dksX1_digest_3 6 rfl rfl)
theorem dX1_digest_81 : decode cX1_digest 81 = .ok (.goto (-48), 3) := dk_167 255 208 (dk_at dksX1_digest_3 9 rfl rfl)
theorem dX1_digest_84 : decode cX1_digest 84 = .ok (.aload_n 0, 1) := dk_42 (dk_at dksX1_digest_3 12 rfl rfl)
theorem dX1_digest_85 : decode cX1_digest 85 = .ok (.getfield 36, 3) := dk_180 0 36 (dk_at dksX1_digest_3 13 rfl rfl)
theorem dX1_digest_88 : decode cX1_digest 88 = .ok (.getfield 61, 3) := dk_180 0 61 (dk_at dksX1_digest_3 16 rfl rfl)
theorem dX1_digest_91 : decode cX1_digest 91 = .ok (.invokevirtual 138, 3) := dk_182 0 138 (dk_at dksX1_digest_3 19 rfl rfl)
theorem dX1_digest_94 : decode cX1_digest 94 = .ok (.astore_n 3, 1) := dk_78 (dk_at dksX1_digest_3 22 rfl rfl)
theorem dX1_digest_95 : decode cX1_digest 95 = .ok (.aload_n 3, 1) := dk_45 (dk_at dksX1_digest_3 23 rfl rfl)
theorem dX1_digest_96 : decode cX1_digest 96 = .ok (.invokeinterface 110 1, 5) := by decide +kernel
theorem dX1_digest_101 : decode cX1_digest 101 = .ok (.ifCond .eq 77, 3) := dk_153 0 77 (dk_at dksX1_digest_4 5 rfl rfl)
theorem dX1_digest_104 : decode cX1_digest 104 = .ok (.aload_n 3, 1) := dk_45 (dk_at dksX1_digest_4 8 rfl rfl)
theorem dX1_digest_105 : decode cX1_digest 105 = .ok (.invokeinterface 116 1, 5) := by decide +kernel
theorem dX1_digest_110 : decode cX1_digest 110 = .ok (.checkcast 68, 3) := dk_192 0 68 (dk_at dksX1_digest_4 14 rfl rfl)
theorem dX1_digest_113 : decode cX1_digest 113 = .ok (.astore 4, 2) := dk_58 4 (dk_at dksX1_digest_4 17 rfl rfl)
theorem dX1_digest_115 : decode cX1_digest 115 = .ok (.iconst 0, 1) := dk_3 (dk_at dksX1_digest_4 19 rfl rfl)
theorem dX1_digest_116 : decode cX1_digest 116 = .ok (.istore 5, 2) := dk_54 5 (dk_at dksX1_digest_4 20 rfl rfl)
theorem dX1_digest_118 : decode cX1_digest 118 = .ok (.iload 5, 2) := dk_21 5 (dk_at dksX1_digest_4 22 rfl rfl)
theorem dX1_digest_120 : decode cX1_digest 120 = .ok (.bipush 11, 2) := dk_16 11 (dk_at dksX1_digest_5 0 rfl rfl)
theorem dX1_digest_122 : decode cX1_digest 122 = .ok (.if_icmp .ge 25, 3) := dk_162 0 25 (dk_at dksX1_digest_5 2 rfl rfl)
theorem dX1_digest_125 : decode cX1_digest 125 = .ok (.lload_n 1, 1) := dk_31 (dk_at dksX1_digest_5 5 rfl rfl)
theorem dX1_digest_126 : decode cX1_digest 126 = .ok (.ldc2_w 287, 3) := dk_20 1 31 (dk_at dksX1_digest_5 6 rfl rfl)
theorem dX1_digest_129 : decode cX1_digest 129 = .ok (.lmul, 1) := dk_105 (dk_at dksX1_digest_5 9 rfl rfl)
theorem dX1_digest_130 : decode cX1_digest 130 = .ok (.aload_n 0, 1) := dk_42 (dk_at dksX1_digest_5 10 rfl rfl)
theorem dX1_digest_131 : decode cX1_digest 131 = .ok (.aload 4, 2) := dk_25 4 (dk_at dksX1_digest_5 11 rfl rfl)
theorem dX1_digest_133 : decode cX1_digest 133 = .ok (.iload 5, 2) := dk_21 5 (dk_at dksX1_digest_5 13 rfl rfl)
theorem dX1_digest_135 : decode cX1_digest 135 = .ok (.invokevirtual 232, 3) := dk_182 0 232 (dk_at dksX1_digest_5 15 rfl rfl)
theorem dX1_digest_138 : decode cX1_digest 138 = .ok (.i2l, 1) := dk_133 (dk_at dksX1_digest_5 18 rfl rfl)
theorem dX1_digest_139 : decode cX1_digest 139 = .ok (.ladd, 1) := dk_97 (dk_at dksX1_digest_5 19 rfl rfl)
theorem dX1_digest_140 : decode cX1_digest 140 = .ok (.lstore_n 1, 1) := dk_64 (dk_at dksX1_digest_5 20 rfl rfl)
theorem dX1_digest_141 : decode cX1_digest 141 = .ok (.iinc 5 1, 3) := dk_132 5 1 (dk_at dksX1_digest_5 21 rfl rfl)
theorem dX1_digest_144 : decode cX1_digest 144 = .ok (.goto (-26), 3) := dk_167 255 230 (dk_at dksX1_digest_6 0 rfl rfl)
theorem dX1_digest_147 : decode cX1_digest 147 = .ok (.lload_n 1, 1) := dk_31 (dk_at dksX1_digest_6 3 rfl rfl)
theorem dX1_digest_148 : decode cX1_digest 148 = .ok (.ldc2_w 287, 3) := dk_20 1 31 (dk_at dksX1_digest_6 4 rfl rfl)
theorem dX1_digest_151 : decode cX1_digest 151 = .ok (.lmul, 1) := dk_105 (dk_at dksX1_digest_6 7 rfl rfl)
theorem dX1_digest_152 : decode cX1_digest 152 = .ok (.aload_n 0, 1) := dk_42 (dk_at dksX1_digest_6 8 rfl rfl)
theorem dX1_digest_153 : decode cX1_digest 153 = .ok (.getfield 36, 3) := dk_180 0 36 (dk_at dksX1_digest_6 9 rfl rfl)
theorem dX1_digest_156 : decode cX1_digest 156 = .ok (.aload 4, 2) := dk_25 4 (dk_at dksX1_digest_6 12 rfl rfl)
theorem dX1_digest_158 : decode cX1_digest 158 = .ok (.invokevirtual 236, 3) := dk_182 0 236 (dk_at dksX1_digest_6 14 rfl rfl)
theorem dX1_digest_161 : decode cX1_digest 161 = .ok (.i2l, 1) := dk_133 (dk_at dksX1_digest_6 17 rfl rfl)
theorem dX1_digest_162 : decode cX1_digest 162 = .ok (.ladd, 1) := dk_97 (dk_at dksX1_digest_6 18 rfl rfl)
theorem dX1_digest_163 : decode cX1_digest 163 = .ok (.ldc2_w 287, 3) := dk_20 1 31 (dk_at dksX1_digest_6 19 rfl rfl)
theorem dX1_digest_166 : decode cX1_digest 166 = .ok (.lmul, 1) := dk_105 (dk_at dksX1_digest_6 22 rfl rfl)
theorem dX1_digest_167 : decode cX1_digest 167 = .ok (.aload 4, 2) := dk_25 4 (dk_at dksX1_digest_7 0 rfl rfl)
theorem dX1_digest_169 : decode cX1_digest 169 = .ok (.invokevirtual 239, 3) := dk_182 0 239 (dk_at dksX1_digest_7 2 rfl rfl)
theorem dX1_digest_172 : decode cX1_digest 172 = .ok (.i2l, 1) := dk_133 (dk_at dksX1_digest_7 5 rfl rfl)
theorem dX1_digest_173 : decode cX1_digest 173 = .ok (.ladd, 1) := dk_97 (dk_at dksX1_digest_7 6 rfl rfl)
theorem dX1_digest_174 : decode cX1_digest 174 = .ok (.lstore_n 1, 1) := dk_64 (dk_at dksX1_digest_7 7 rfl rfl)
theorem dX1_digest_175 : decode cX1_digest 175 = .ok (.goto (-80), 3) := dk_167 255 176 (dk_at dksX1_digest_7 8 rfl rfl)
theorem dX1_digest_178 : decode cX1_digest 178 = .ok (.iconst 0, 1) := dk_3 (dk_at dksX1_digest_7 11 rfl rfl)
theorem dX1_digest_179 : decode cX1_digest 179 = .ok (.istore_n 3, 1) := dk_62 (dk_at dksX1_digest_7 12 rfl rfl)
theorem dX1_digest_180 : decode cX1_digest 180 = .ok (.iload_n 3, 1) := dk_29 (dk_at dksX1_digest_7 13 rfl rfl)
theorem dX1_digest_181 : decode cX1_digest 181 = .ok (.aload_n 0, 1) := dk_42 (dk_at dksX1_digest_7 14 rfl rfl)
theorem dX1_digest_182 : decode cX1_digest 182 = .ok (.getfield 43, 3) := dk_180 0 43 (dk_at dksX1_digest_7 15 rfl rfl)
theorem dX1_digest_185 : decode cX1_digest 185 = .ok (.invokevirtual 175, 3) := dk_182 0 175 (dk_at dksX1_digest_7 18 rfl rfl)
theorem dX1_digest_188 : decode cX1_digest 188 = .ok (.if_icmp .ge 25, 3) := dk_162 0 25 (dk_at dksX1_digest_7 21 rfl rfl)
theorem dX1_digest_191 : decode cX1_digest 191 = .ok (.lload_n 1, 1) := dk_31 (dk_at dksX1_digest_8 0 rfl rfl)
theorem dX1_digest_192 : decode cX1_digest 192 = .ok (.ldc2_w 287, 3) := dk_20 1 31 (dk_at dksX1_digest_8 1 rfl rfl)
theorem dX1_digest_195 : decode cX1_digest 195 = .ok (.lmul, 1) := dk_105 (dk_at dksX1_digest_8 4 rfl rfl)
theorem dX1_digest_196 : decode cX1_digest 196 = .ok (.aload_n 0, 1) := dk_42 (dk_at dksX1_digest_8 5 rfl rfl)
theorem dX1_digest_197 : decode cX1_digest 197 = .ok (.getfield 43, 3) := dk_180 0 43 (dk_at dksX1_digest_8 6 rfl rfl)
theorem dX1_digest_200 : decode cX1_digest 200 = .ok (.iload_n 3, 1) := dk_29 (dk_at dksX1_digest_8 9 rfl rfl)
theorem dX1_digest_201 : decode cX1_digest 201 = .ok (.invokevirtual 281, 3) := dk_182 1 25 (dk_at dksX1_digest_8 10 rfl rfl)
theorem dX1_digest_204 : decode cX1_digest 204 = .ok (.i2l, 1) := dk_133 (dk_at dksX1_digest_8 13 rfl rfl)
theorem dX1_digest_205 : decode cX1_digest 205 = .ok (.ladd, 1) := dk_97 (dk_at dksX1_digest_8 14 rfl rfl)
theorem dX1_digest_206 : decode cX1_digest 206 = .ok (.lstore_n 1, 1) := dk_64 (dk_at dksX1_digest_8 15 rfl rfl)
theorem dX1_digest_207 : decode cX1_digest 207 = .ok (.iinc 3 1, 3) := dk_132 3 1 (dk_at dksX1_digest_8 16 rfl rfl)
theorem dX1_digest_210 : decode cX1_digest 210 = .ok (.goto (-30), 3) := dk_167 255 226 (dk_at dksX1_digest_8 19 rfl rfl)
theorem dX1_digest_213 : decode cX1_digest 213 = .ok (.lload_n 1, 1) := dk_31 (dk_at dksX1_digest_8 22 rfl rfl)
theorem dX1_digest_214 : decode cX1_digest 214 = .ok (.lreturn, 1) := dk_173 (dk_at dksX1_digest_8 23 rfl rfl)
theorem q2126 : (Jvm.Cond.constantLong "DebateHall" (285 : Nat) (719 : Int64)) ∈ lw_all := lw_g (lw_at lw_m9 126 rfl) rfl
theorem q2127 : (Jvm.Cond.constantLong "DebateHall" (287 : Nat) (31 : Int64)) ∈ lw_all := lw_g (lw_at lw_m9 127 rfl) rfl
theorem q2131 : (Jvm.Cond.code ({ cls := "DebateHall", name := "count", desc := "(I)I" } : Jvm.MethodName) prog_1_method_14_code (2 : Nat) (Option.some Jvm.ClassFile.FieldType.int)) ∈ lw_all := lw_g (lw_at lw_m9 131 rfl) rfl
theorem zk_X1_count : zz_cd yX1_count cX1_count 2 (some .int) none ∈ lw_all := q2131
theorem zy_X1_count : zz_yok yX1_count 1 = true := by decide +kernel
theorem q2128 : (Jvm.Cond.methodLink "DebateHall" (289 : Nat) ({ cls := "DebateHall", name := "count", desc := "(I)I" } : Jvm.MethodName)) ∈ lw_all := lw_g (lw_at lw_m9 128 rfl) rfl
theorem q2129 : (Jvm.Cond.instanceMethod ({ cls := "DebateHall", name := "count", desc := "(I)I" } : Jvm.MethodName)) ∈ lw_all := lw_g (lw_at lw_m9 129 rfl) rfl
theorem q2130 : (Jvm.Cond.selects "DebateHall" ({ cls := "DebateHall", name := "count", desc := "(I)I" } : Jvm.MethodName) ({ cls := "DebateHall", name := "count", desc := "(I)I" } : Jvm.MethodName)) ∈ lw_all := lw_g (lw_at lw_m9 130 rfl) rfl
theorem q2166 : (Jvm.Cond.code ({ cls := "DebateHall", name := "speakerGet", desc := "(II)I" } : Jvm.MethodName) prog_1_method_15_code (3 : Nat) (Option.some Jvm.ClassFile.FieldType.int)) ∈ lw_all := lw_g (lw_at lw_m9 166 rfl) rfl
theorem zk_X1_speakerGet : zz_cd yX1_speakerGet cX1_speakerGet 3 (some .int) none ∈ lw_all := q2166
theorem zy_X1_speakerGet : zz_yok yX1_speakerGet 2 = true := by decide +kernel
theorem q2163 : (Jvm.Cond.methodLink "DebateHall" (192 : Nat) ({ cls := "DebateHall", name := "speakerGet", desc := "(II)I" } : Jvm.MethodName)) ∈ lw_all := lw_g (lw_at lw_m9 163 rfl) rfl
theorem q2165 : (Jvm.Cond.instanceMethod ({ cls := "DebateHall", name := "speakerGet", desc := "(II)I" } : Jvm.MethodName)) ∈ lw_all := lw_g (lw_at lw_m9 165 rfl) rfl
theorem q2197 : (Jvm.Cond.code ({ cls := "DebateHall$Minutes", name := "why", desc := "(LDebateHall$Item;)I" } : Jvm.MethodName) prog_12_method_14_code (4 : Nat) (Option.some Jvm.ClassFile.FieldType.int)) ∈ lw_all := lw_g (lw_at lw_m9 197 rfl) rfl
theorem zk_X3_why : zz_cd yX3_why cX3_why 4 (some .int) none ∈ lw_all := q2197
theorem zy_X3_why : zz_yok yX3_why 1 = true := by decide +kernel
theorem q2198 : (Jvm.Cond.methodLink "DebateHall" (239 : Nat) ({ cls := "DebateHall$Item", name := "far", desc := "()I" } : Jvm.MethodName)) ∈ lw_all := lw_g (lw_at lw_m9 198 rfl) rfl
theorem q2194 : (Jvm.Cond.methodLink "DebateHall" (236 : Nat) ({ cls := "DebateHall$Minutes", name := "why", desc := "(LDebateHall$Item;)I" } : Jvm.MethodName)) ∈ lw_all := lw_g (lw_at lw_m9 194 rfl) rfl
theorem q2195 : (Jvm.Cond.instanceMethod ({ cls := "DebateHall$Minutes", name := "why", desc := "(LDebateHall$Item;)I" } : Jvm.MethodName)) ∈ lw_all := lw_g (lw_at lw_m9 195 rfl) rfl
theorem q2196 : (Jvm.Cond.selects "DebateHall$Minutes" ({ cls := "DebateHall$Minutes", name := "why", desc := "(LDebateHall$Item;)I" } : Jvm.MethodName) ({ cls := "DebateHall$Minutes", name := "why", desc := "(LDebateHall$Item;)I" } : Jvm.MethodName)) ∈ lw_all := lw_g (lw_at lw_m9 196 rfl) rfl
theorem q2177 : (Jvm.Cond.code ({ cls := "DebateHall", name := "itemGet", desc := "(LDebateHall$Item;I)I" } : Jvm.MethodName) prog_1_method_18_code (3 : Nat) (Option.some Jvm.ClassFile.FieldType.int)) ∈ lw_all := lw_g (lw_at lw_m9 177 rfl) rfl
theorem zk_X1_itemGet : zz_cd yX1_itemGet cX1_itemGet 3 (some .int) none ∈ lw_all := q2177
theorem zy_X1_itemGet : zz_yok yX1_itemGet 2 = true := by decide +kernel
theorem q2174 : (Jvm.Cond.methodLink "DebateHall" (232 : Nat) ({ cls := "DebateHall", name := "itemGet", desc := "(LDebateHall$Item;I)I" } : Jvm.MethodName)) ∈ lw_all := lw_g (lw_at lw_m9 174 rfl) rfl
theorem q2176 : (Jvm.Cond.instanceMethod ({ cls := "DebateHall", name := "itemGet", desc := "(LDebateHall$Item;I)I" } : Jvm.MethodName)) ∈ lw_all := lw_g (lw_at lw_m9 176 rfl) rfl
theorem q2206 : (Jvm.Cond.code ({ cls := "java/lang/StringBuilder", name := "charAt", desc := "(I)C" } : Jvm.MethodName) prog_47_method_88_code (2 : Nat) (Option.some Jvm.ClassFile.FieldType.char)) ∈ lw_all := lw_g (lw_at lw_m9 206 rfl) rfl
theorem zk_J6_charAt : zz_cd yJ6_charAt cJ6_charAt 2 (some .char) none ∈ lw_all := q2206
theorem zy_J6_charAt : zz_yok yJ6_charAt 1 = true := by decide +kernel
theorem q2203 : (Jvm.Cond.methodLink "DebateHall" (281 : Nat) ({ cls := "java/lang/StringBuilder", name := "charAt", desc := "(I)C" } : Jvm.MethodName)) ∈ lw_all := lw_g (lw_at lw_m9 203 rfl) rfl
theorem q2204 : (Jvm.Cond.instanceMethod ({ cls := "java/lang/StringBuilder", name := "charAt", desc := "(I)C" } : Jvm.MethodName)) ∈ lw_all := lw_g (lw_at lw_m9 204 rfl) rfl
theorem q2205 : (Jvm.Cond.selects "java/lang/StringBuilder" ({ cls := "java/lang/StringBuilder", name := "charAt", desc := "(I)C" } : Jvm.MethodName) ({ cls := "java/lang/StringBuilder", name := "charAt", desc := "(I)C" } : Jvm.MethodName)) ∈ lw_all := lw_g (lw_at lw_m9 205 rfl) rfl
def wp_X1_digest_L50 (Z : zzG) (k33 : Option Nat → Int64 → Int32 → zzM → Nat → Nat → Prop) (K : Option Value → zzM → Prop) (X : Nat → Nat → zzM → Prop) : Nat → Option Nat → Int64 → Int32 → Int32 → zzM → Nat → Nat → Prop
  | 0, _, _, _, _, _, _, _ => False
  | n + 1, v0, v1, v3, v4, M, bc, bs => if (7 : Int32) ≤ v4 then (k33 v0 v1 (v3 + 1) M bc bs) else (zty Z M v0 fun t => t = 0 ∧ zcc bc bs (fun c s k => wp_X1_speakerGet Z v0 v3 v4 M c s k) fun r24 M25 bc26 bs27 => zrI r24 fun x28 => wp_X1_digest_L50 Z k33 K X n v0 ((v1 * (31 : Int64)) + x28.toInt64) v3 (v4 + 1) M25 bc26 bs27)
def wp_X1_digest_L118 (Z : zzG) (k95 : Option Nat → Int64 → Option Nat → zzM → Nat → Nat → Prop) (K : Option Value → zzM → Prop) (X : Nat → Nat → zzM → Prop) : Nat → Option Nat → Int64 → Option Nat → Option Nat → Int32 → zzM → Nat → Nat → Prop
  | 0, _, _, _, _, _, _, _, _ => False
  | n + 1, v0, v1, v3, v4, v5, M, bc, bs => if (11 : Int32) ≤ v5 then (zgA Z M v0 [0] 2 fun x39 => zty Z M x39 fun t => t = 2 ∧ zcc bc bs (fun c s k => wp_X3_why Z x39 v4 M c s k) fun r40 M41 bc42 bs43 => zrI r40 fun x44 => zty Z M41 v4 fun t => t = 15 ∧ wp_X20_far Z v4 M41 (fun r45 M46 => zrI r45 fun x49 => k95 v0 ((((v1 * (31 : Int64)) + x44.toInt64) * (31 : Int64)) + x49.toInt64) v3 M46 bc42 bs43)) else (zty Z M v0 fun t => t = 0 ∧ zcc bc bs (fun c s k => wp_X1_itemGet Z v0 v4 v5 M c s k) fun r50 M51 bc52 bs53 => zrI r50 fun x54 => wp_X1_digest_L118 Z k95 K X n v0 ((v1 * (31 : Int64)) + x54.toInt64) v3 v4 (v5 + 1) M51 bc52 bs53)
def wp_X1_digest_L180 (Z : zzG) (K : Option Value → zzM → Prop) (X : Nat → Nat → zzM → Prop) : Nat → Option Nat → Int64 → Int32 → zzM → Nat → Nat → Prop
  | 0, _, _, _, _, _, _ => False
  | n + 1, v0, v1, v3, M, bc, bs => zgA Z M v0 [0] 3 fun x55 => zty Z M x55 fun t => t = 20 ∧ wp_J6_length Z x55 M (fun r56 M57 => zrI r56 fun x60 => if x60 ≤ v3 then (K (some (.long v1)) M57) else (zgA Z M57 v0 [0] 3 fun x61 => zty Z M57 x61 fun t => t = 20 ∧ wp_J6_charAt Z x61 v3 M57 (fun r62 M63 => zrI r62 fun x66 => wp_X1_digest_L180 Z K X n v0 ((v1 * (31 : Int64)) + x66.toInt64) (v3 + 1) M63 bc bs)))
def wp_X1_digest_L95 (Z : zzG) (K : Option Value → zzM → Prop) (X : Nat → Nat → zzM → Prop) : Nat → Option Nat → Int64 → Option Nat → zzM → Nat → Nat → Prop
  | 0, _, _, _, _, _, _ => False
  | n + 1, v0, v1, v3, M, bc, bs => zty Z M v3 fun t => t = 23 ∧ wp_J24_hasNext Z v3 M (fun r29 M30 => zrI r29 fun x33 => if x33 = 0 then (∃ n180 : Nat, wp_X1_digest_L180 Z K X n180 v0 v1 (0 : Int32) M30 bc bs) else (zty Z M30 v3 fun t => t = 23 ∧ wp_J24_next Z v3 M30 (fun r34 M35 => zrA r34 fun x38 => zcast Z M35 x38 [15] <| ∃ n118 : Nat, wp_X1_digest_L118 Z (wp_X1_digest_L95 Z K X n) K X n118 v0 v1 v3 x38 (0 : Int32) M35 bc bs)))
def wp_X1_digest_L33 (Z : zzG) (K : Option Value → zzM → Prop) (X : Nat → Nat → zzM → Prop) : Nat → Option Nat → Int64 → Int32 → zzM → Nat → Nat → Prop
  | 0, _, _, _, _, _, _ => False
  | n + 1, v0, v1, v3, M, bc, bs => zgA Z M v0 [0] 2 fun x10 => zgA Z M x10 [2] 0 fun x11 => zty Z M x11 fun t => t = 18 ∧ wp_J2_size Z x11 M (fun r12 M13 => zrI r12 fun x16 => if x16 ≤ v3 then (zgA Z M13 v0 [0] 2 fun x17 => zgA Z M13 x17 [2] 1 fun x18 => zty Z M13 x18 fun t => t = 18 ∧ zcc bc bs (fun c s k => wp_J2_iterator Z x18 M13 c s k) fun r19 M20 bc21 bs22 => zrA r19 fun x23 => ∃ n95 : Nat, wp_X1_digest_L95 Z K X n95 v0 v1 x23 M20 bc21 bs22) else (∃ n50 : Nat, wp_X1_digest_L50 Z (wp_X1_digest_L33 Z K X n) K X n50 v0 v1 v3 (0 : Int32) M13 bc bs))
def wp_X1_digest_L6 (Z : zzG) (K : Option Value → zzM → Prop) (X : Nat → Nat → zzM → Prop) : Nat → Option Nat → Int64 → Int32 → zzM → Nat → Nat → Prop
  | 0, _, _, _, _, _, _ => False
  | n + 1, v0, v1, v3, M, bc, bs => if (12 : Int32) ≤ v3 then (∃ n33 : Nat, wp_X1_digest_L33 Z K X n33 v0 v1 (0 : Int32) M bc bs) else (zty Z M v0 fun t => t = 0 ∧ zcx bc bs (fun c s k x => wp_X1_count Z v0 v3 M c s k x) (fun r1 M2 bc3 bs4 => zrI r1 fun x5 => wp_X1_digest_L6 Z K X n v0 ((v1 * (31 : Int64)) + x5.toInt64) (v3 + 1) M2 bc3 bs4) (fun t q M _ _ => X t q M))
def wp_X1_digest (Z : zzG) (this : Option Nat) (M : zzM) (bc bs : Nat) (K : Option Value → zzM → Prop) (X : Nat → Nat → zzM → Prop) : Prop := ∃ n6 : Nat, wp_X1_digest_L6 Z K X n6 this (719 : Int64) (0 : Int32) M bc bs
theorem ok_X1_digest_L50 {G : zzX} (C : zz_C G cX1_digest "DebateHall" 6) {K : Option Value → zzM → Prop} {X : Nat → Nat → zzM → Prop} (E : zz_E G (some .long) K X) (hH : zz_H G []) (hR : zz_Rm G 63) {k33 : Option Nat → Int64 → Int32 → zzM → Nat → Nat → Prop} (hk33 : ∀ (z0 : Option Nat) (z1 : Int64) (z2 : Int32) (M : zzM) (bc bs : Nat), k33 z0 z1 z2 M bc bs → zz_T G 6 M bc bs 33 [(0, va_rf z0), (1, .long z1), (3, .int z2)] []) : ∀ (n : Nat) (v0 : Option Nat) (v1 : Int64) (v3 : Int32) (v4 : Int32) (M : zzM) (bc bs : Nat), wp_X1_digest_L50 (zz_Zof G) k33 K X n v0 v1 v3 v4 M bc bs → zz_T G 6 M bc bs 50 [(0, va_rf v0), (1, .long v1), (3, .int v3), (4, .int v4)] [] := by
  intro n
  induction n with
  | zero =>
    intro v0 v1 v3 v4 M bc bs hw
    exact False.elim hw
  | succ n ih =>
    intro v0 v1 v3 v4 M bc bs hw
    refine zz_iload C dX1_digest_50 3 rfl ?_
    refine zz_bipush (v := (7 : Int32)) C dX1_digest_52 (by decide) ?_
    refine zz_icmp_ge (tgt := 78) C dX1_digest_54 (by decide) hw (fun hw => ?_) (fun hw => ?_)
    · refine zz_iinc (lv' := [(3, .int (v3 + 1)), (0, va_rf v0), (1, .long v1), (4, .int v4)]) C dX1_digest_78 2 rfl (by rfl) (by decide) rfl ?_
      refine zz_goto (tgt := 33) C dX1_digest_81 (by decide) ?_
      refine zz_subP [1, 2, 0] rfl ?_
      exact hk33 _ _ _ _ _ _ hw
    · refine zz_lload_n C dX1_digest_57 rfl 1 rfl ?_
      refine zz_ldc2 C dX1_digest_58 q2127 ?_
      refine zz_lmul C dX1_digest_61 ?_
      refine zz_aload_n C dX1_digest_62 rfl 0 rfl ?_
      refine zz_iload_n C dX1_digest_63 rfl 2 rfl ?_
      refine zz_iload C dX1_digest_64 3 rfl ?_
      obtain ⟨a9, t9, b9, fs9, hro, hL, rfl, hw⟩ := ztyS hw
      obtain ⟨c9, s9, hc9, hs9, hw⟩ := hw
      refine zz_callV (r := (zR_0, zT_0, 4)) (As := [.int v3, .int v4]) (rest := [.long (v1 * (31 : Int64))]) C hR hro dX1_digest_66 (Or.inl q2163) q2165 (Or.inl qs24) zl_DebateHall zk_X1_speakerGet (Or.inl rfl) zy_X1_speakerGet rfl (by decide) (by decide) hL (ok_X1_speakerGet (zz_hl C) hw) hc9 hs9 (zz_cat10 _ (Nat.le_of_ble_eq_true rfl)) (fun r24 M25 hw => zz_kI hw (fun x28 hw => ?_)) (fun _ _ _ h9 => h9.elim) rfl
      refine zz_i2l C dX1_digest_69 ?_
      refine zz_ladd C dX1_digest_70 ?_
      refine zz_lstore_n (i := 1) (lv' := [(1, .long ((v1 * (31 : Int64)) + x28.toInt64)), (0, va_rf v0), (3, .int v3), (4, .int v4)]) C dX1_digest_71 rfl (by decide) (by simp [zz_cat, zz_catI, zz_catJ, zz_catD]) ?_
      refine zz_iinc (lv' := [(4, .int (v4 + 1)), (1, .long ((v1 * (31 : Int64)) + x28.toInt64)), (0, va_rf v0), (3, .int v3)]) C dX1_digest_72 3 rfl (by rfl) (by decide) rfl ?_
      refine zz_goto (tgt := 50) C dX1_digest_75 (by decide) ?_
      refine zz_subP [2, 1, 3, 0] rfl ?_
      exact ih _ _ _ _ _ _ _ hw
theorem ok_X1_digest_L118 {G : zzX} (C : zz_C G cX1_digest "DebateHall" 6) {K : Option Value → zzM → Prop} {X : Nat → Nat → zzM → Prop} (E : zz_E G (some .long) K X) (hH : zz_H G []) (hR : zz_Rm G 63) {k95 : Option Nat → Int64 → Option Nat → zzM → Nat → Nat → Prop} (hk95 : ∀ (z0 : Option Nat) (z1 : Int64) (z2 : Option Nat) (M : zzM) (bc bs : Nat), k95 z0 z1 z2 M bc bs → zz_T G 6 M bc bs 95 [(0, va_rf z0), (1, .long z1), (3, va_rf z2)] []) : ∀ (n : Nat) (v0 : Option Nat) (v1 : Int64) (v3 : Option Nat) (v4 : Option Nat) (v5 : Int32) (M : zzM) (bc bs : Nat), wp_X1_digest_L118 (zz_Zof G) k95 K X n v0 v1 v3 v4 v5 M bc bs → zz_T G 6 M bc bs 118 [(0, va_rf v0), (1, .long v1), (3, va_rf v3), (4, va_rf v4), (5, .int v5)] [] := by
  intro n
  induction n with
  | zero =>
    intro v0 v1 v3 v4 v5 M bc bs hw
    exact False.elim hw
  | succ n ih =>
    intro v0 v1 v3 v4 v5 M bc bs hw
    refine zz_iload C dX1_digest_118 4 rfl ?_
    refine zz_bipush (v := (11 : Int32)) C dX1_digest_120 (by decide) ?_
    refine zz_icmp_ge (tgt := 147) C dX1_digest_122 (by decide) hw (fun hw => ?_) (fun hw => ?_)
    · refine zz_lload_n C dX1_digest_147 rfl 1 rfl ?_
      refine zz_ldc2 C dX1_digest_148 q2127 ?_
      refine zz_lmul C dX1_digest_151 ?_
      refine zz_aload_n C dX1_digest_152 rfl 0 rfl ?_
      refine zz_getA C dX1_digest_153 (Or.inl q305) zf_0_2_DebateHall hw (fun x39 hw => ?_)
      refine zz_aload C dX1_digest_156 3 rfl ?_
      obtain ⟨a9, t9, b9, fs9, hro, hL, rfl, hw⟩ := ztyS hw
      obtain ⟨c9, s9, hc9, hs9, hw⟩ := hw
      refine zz_callV (r := (zR_2, zT_2, 8)) (As := [va_rf v4]) (rest := [.long (v1 * (31 : Int64))]) C hR hro dX1_digest_158 (Or.inl q2194) q2195 (Or.inl q2196) zl_DebateHall_Minutes zk_X3_why (Or.inl rfl) zy_X3_why rfl (by decide) (by decide) hL (ok_X3_why (zz_hl C) hw) hc9 hs9 (zz_cat10 _ (Nat.le_of_ble_eq_true rfl)) (fun r40 M41 hw => zz_kI hw (fun x44 hw => ?_)) (fun _ _ _ h9 => h9.elim) rfl
      refine zz_i2l C dX1_digest_161 ?_
      refine zz_ladd C dX1_digest_162 ?_
      refine zz_ldc2 C dX1_digest_163 q2127 ?_
      refine zz_lmul C dX1_digest_166 ?_
      refine zz_aload C dX1_digest_167 3 rfl ?_
      obtain ⟨a9, t9, b9, fs9, hro, hL, rfl, hw⟩ := ztyS hw
      refine zz_callV (r := (zR_15, zT_15, 8)) (As := []) (rest := [.long (((v1 * (31 : Int64)) + x44.toInt64) * (31 : Int64))]) (mc := 0) (ms := 0) C hR hro dX1_digest_169 (Or.inl q2198) q2199 (Or.inl q2200) zl_DebateHall_Item zk_X20_far (Or.inl rfl) zy_X20_far rfl (by decide) (by decide) hL (ok_X20_far (zz_hl C) hw) (Nat.zero_le _) (Nat.zero_le _) (zz_cat10 _ (Nat.le_of_ble_eq_true rfl)) (fun r45 M46 hw => zz_kI hw (fun x49 hw => ?_)) (fun _ _ _ h9 => h9.elim) rfl
      refine zz_i2l C dX1_digest_172 ?_
      refine zz_ladd C dX1_digest_173 ?_
      refine zz_lstore_n (i := 1) (lv' := [(1, .long ((((v1 * (31 : Int64)) + x44.toInt64) * (31 : Int64)) + x49.toInt64)), (0, va_rf v0), (3, va_rf v3), (4, va_rf v4), (5, .int v5)]) C dX1_digest_174 rfl (by decide) (by simp [zz_cat, zz_catI, zz_catJ, zz_catD]) ?_
      refine zz_goto (tgt := 95) C dX1_digest_175 (by decide) ?_
      refine zz_subP [1, 0, 2] rfl ?_
      exact hk95 _ _ _ _ _ _ hw
    · refine zz_lload_n C dX1_digest_125 rfl 1 rfl ?_
      refine zz_ldc2 C dX1_digest_126 q2127 ?_
      refine zz_lmul C dX1_digest_129 ?_
      refine zz_aload_n C dX1_digest_130 rfl 0 rfl ?_
      refine zz_aload C dX1_digest_131 3 rfl ?_
      refine zz_iload C dX1_digest_133 4 rfl ?_
      obtain ⟨a9, t9, b9, fs9, hro, hL, rfl, hw⟩ := ztyS hw
      obtain ⟨c9, s9, hc9, hs9, hw⟩ := hw
      refine zz_callV (r := (zR_0, zT_0, 4)) (As := [va_rf v4, .int v5]) (rest := [.long (v1 * (31 : Int64))]) C hR hro dX1_digest_135 (Or.inl q2174) q2176 (Or.inl qs25) zl_DebateHall zk_X1_itemGet (Or.inl rfl) zy_X1_itemGet rfl (by decide) (by decide) hL (ok_X1_itemGet (zz_hl C) hw) hc9 hs9 (zz_cat10 _ (Nat.le_of_ble_eq_true rfl)) (fun r50 M51 hw => zz_kI hw (fun x54 hw => ?_)) (fun _ _ _ h9 => h9.elim) rfl
      refine zz_i2l C dX1_digest_138 ?_
      refine zz_ladd C dX1_digest_139 ?_
      refine zz_lstore_n (i := 1) (lv' := [(1, .long ((v1 * (31 : Int64)) + x54.toInt64)), (0, va_rf v0), (3, va_rf v3), (4, va_rf v4), (5, .int v5)]) C dX1_digest_140 rfl (by decide) (by simp [zz_cat, zz_catI, zz_catJ, zz_catD]) ?_
      refine zz_iinc (lv' := [(5, .int (v5 + 1)), (1, .long ((v1 * (31 : Int64)) + x54.toInt64)), (0, va_rf v0), (3, va_rf v3), (4, va_rf v4)]) C dX1_digest_141 4 rfl (by rfl) (by decide) (by simp [zz_cat, zz_catI, zz_catJ, zz_catD]) ?_
      refine zz_goto (tgt := 118) C dX1_digest_144 (by decide) ?_
      refine zz_subP [2, 1, 3, 4, 0] rfl ?_
      exact ih _ _ _ _ _ _ _ _ hw
theorem ok_X1_digest_L180 {G : zzX} (C : zz_C G cX1_digest "DebateHall" 6) {K : Option Value → zzM → Prop} {X : Nat → Nat → zzM → Prop} (E : zz_E G (some .long) K X) (hH : zz_H G []) (hR : zz_Rm G 63) : ∀ (n : Nat) (v0 : Option Nat) (v1 : Int64) (v3 : Int32) (M : zzM) (bc bs : Nat), wp_X1_digest_L180 (zz_Zof G) K X n v0 v1 v3 M bc bs → zz_T G 6 M bc bs 180 [(0, va_rf v0), (1, .long v1), (3, .int v3)] [] := by
  intro n
  induction n with
  | zero =>
    intro v0 v1 v3 M bc bs hw
    exact False.elim hw
  | succ n ih =>
    intro v0 v1 v3 M bc bs hw
    refine zz_iload_n C dX1_digest_180 rfl 2 rfl ?_
    refine zz_aload_n C dX1_digest_181 rfl 0 rfl ?_
    refine zz_getA C dX1_digest_182 (Or.inl q306) zf_0_3_DebateHall hw (fun x55 hw => ?_)
    obtain ⟨a9, t9, b9, fs9, hro, hL, rfl, hw⟩ := ztyS hw
    refine zz_callV (r := (zR_20, zT_20, 4)) (As := []) (rest := [.int v3]) (mc := 0) (ms := 0) C hR hro dX1_digest_185 (Or.inl q2111) q517 (Or.inl q2874) zl_java_lang_StringBuilder zk_J6_length (Or.inl rfl) zy_J6_length rfl (by decide) (by decide) hL (ok_J6_length (zz_hl C) hw) (Nat.zero_le _) (Nat.zero_le _) (zz_cat10 _ (Nat.le_of_ble_eq_true rfl)) (fun r56 M57 hw => zz_kI hw (fun x60 hw => ?_)) (fun _ _ _ h9 => h9.elim) rfl
    refine zz_icmp_ge (tgt := 213) C dX1_digest_188 (by decide) hw (fun hw => ?_) (fun hw => ?_)
    · refine zz_lload_n C dX1_digest_213 rfl 1 rfl ?_
      exact zz_lret C E dX1_digest_214 hw
    · refine zz_lload_n C dX1_digest_191 rfl 1 rfl ?_
      refine zz_ldc2 C dX1_digest_192 q2127 ?_
      refine zz_lmul C dX1_digest_195 ?_
      refine zz_aload_n C dX1_digest_196 rfl 0 rfl ?_
      refine zz_getA C dX1_digest_197 (Or.inl q306) zf_0_3_DebateHall hw (fun x61 hw => ?_)
      refine zz_iload_n C dX1_digest_200 rfl 2 rfl ?_
      obtain ⟨a9, t9, b9, fs9, hro, hL, rfl, hw⟩ := ztyS hw
      refine zz_callV (r := (zR_20, zT_20, 4)) (As := [.int v3]) (rest := [.long (v1 * (31 : Int64))]) (mc := 0) (ms := 0) C hR hro dX1_digest_201 (Or.inl q2203) q2204 (Or.inl q2205) zl_java_lang_StringBuilder zk_J6_charAt (Or.inl rfl) zy_J6_charAt rfl (by decide) (by decide) hL (ok_J6_charAt (zz_hl C) hw) (Nat.zero_le _) (Nat.zero_le _) (zz_cat10 _ (Nat.le_of_ble_eq_true rfl)) (fun r62 M63 hw => zz_kI hw (fun x66 hw => ?_)) (fun _ _ _ h9 => h9.elim) rfl
      refine zz_i2l C dX1_digest_204 ?_
      refine zz_ladd C dX1_digest_205 ?_
      refine zz_lstore_n (i := 1) (lv' := [(1, .long ((v1 * (31 : Int64)) + x66.toInt64)), (0, va_rf v0), (3, .int v3)]) C dX1_digest_206 rfl (by decide) (by simp [zz_cat, zz_catI, zz_catJ, zz_catD]) ?_
      refine zz_iinc (lv' := [(3, .int (v3 + 1)), (1, .long ((v1 * (31 : Int64)) + x66.toInt64)), (0, va_rf v0)]) C dX1_digest_207 2 rfl (by rfl) (by decide) rfl ?_
      refine zz_goto (tgt := 180) C dX1_digest_210 (by decide) ?_
      refine zz_subP [2, 1, 0] rfl ?_
      exact ih _ _ _ _ _ _ hw
theorem ok_X1_digest_L95 {G : zzX} (C : zz_C G cX1_digest "DebateHall" 6) {K : Option Value → zzM → Prop} {X : Nat → Nat → zzM → Prop} (E : zz_E G (some .long) K X) (hH : zz_H G []) (hR : zz_Rm G 63) : ∀ (n : Nat) (v0 : Option Nat) (v1 : Int64) (v3 : Option Nat) (M : zzM) (bc bs : Nat), wp_X1_digest_L95 (zz_Zof G) K X n v0 v1 v3 M bc bs → zz_T G 6 M bc bs 95 [(0, va_rf v0), (1, .long v1), (3, va_rf v3)] [] := by
  intro n
  induction n with
  | zero =>
    intro v0 v1 v3 M bc bs hw
    exact False.elim hw
  | succ n ih =>
    intro v0 v1 v3 M bc bs hw
    refine zz_aload_n C dX1_digest_95 rfl 2 rfl ?_
    obtain ⟨a9, t9, b9, fs9, hro, hL, rfl, hw⟩ := ztyS hw
    refine zz_callF (r := (zR_23, zT_23, 4)) (x := ⟨"java/util/Iterator", "hasNext", "()Z"⟩) (As := []) (rest := []) (mc := 0) (ms := 0) C hR hro dX1_digest_96 q1793 (by decide +kernel) q1174 q1172 zl_java_util_ArrayList_Itr zk_J24_hasNext zyo_java_util_Iterator_hasNext___Z rfl (by decide) (by decide) hL (ok_J24_hasNext (zz_hl C) hw) (Nat.zero_le _) (Nat.zero_le _) (zz_cat10 _ (Nat.le_of_ble_eq_true rfl)) (fun r29 M30 hw => zz_kI hw (fun x33 hw => ?_)) (fun _ _ _ h9 => h9.elim) rfl
    refine zz_if_eq (tgt := 178) C dX1_digest_101 (by decide) hw (fun hw => ?_) (fun hw => ?_)
    · refine zz_iconst (v := (0 : Int32)) C dX1_digest_178 (by decide) ?_
      refine zz_istore_n (i := 3) (lv' := [(3, .int (0 : Int32)), (0, va_rf v0), (1, .long v1)]) C dX1_digest_179 rfl (by decide) rfl ?_
      refine zz_subP [1, 2, 0] rfl ?_
      obtain ⟨n180, hw⟩ := hw
      exact ok_X1_digest_L180 C E hH hR n180 _ _ _ _ _ _ hw
    · refine zz_aload_n C dX1_digest_104 rfl 2 rfl ?_
      obtain ⟨a9, t9, b9, fs9, hro, hL, rfl, hw⟩ := ztyS hw
      refine zz_callF (r := (zR_23, zT_23, 4)) (x := ⟨"java/util/Iterator", "next", "()Ljava/lang/Object;"⟩) (As := []) (rest := []) (mc := 0) (ms := 0) C hR hro dX1_digest_105 q1795 (by decide +kernel) q1183 q1181 zl_java_util_ArrayList_Itr zk_J24_next zyo_java_util_Iterator_next___Ljava_lang_Object_ rfl (by decide) (by decide) hL (ok_J24_next (zz_hl C) hw) (Nat.zero_le _) (Nat.zero_le _) (zz_cat10 _ (Nat.le_of_ble_eq_true rfl)) (fun r34 M35 hw => zz_kA hw (fun x38 hw => ?_)) (fun _ _ _ h9 => h9.elim) rfl
      refine zz_cast C dX1_digest_110 q2105 zc_15_ebateHall_Item hw (fun hw => ?_)
      refine zz_astore (lv' := [(4, va_rf x38), (0, va_rf v0), (1, .long v1), (3, va_rf v3)]) C dX1_digest_113 (by decide) (by simp [zz_cat, zz_catI, zz_catJ, zz_catD]) ?_
      refine zz_iconst (v := (0 : Int32)) C dX1_digest_115 (by decide) ?_
      refine zz_istore (lv' := [(5, .int (0 : Int32)), (4, va_rf x38), (0, va_rf v0), (1, .long v1), (3, va_rf v3)]) C dX1_digest_116 (by decide) (by simp [zz_cat, zz_catI, zz_catJ, zz_catD]) ?_
      refine zz_subP [2, 3, 4, 1, 0] rfl ?_
      obtain ⟨n118, hw⟩ := hw
      exact ok_X1_digest_L118 C E hH hR (fun z0 z1 z2 z3 z4 z5 hw => ih z0 z1 z2 z3 z4 z5 hw) n118 _ _ _ _ _ _ _ _ hw
theorem ok_X1_digest_L33 {G : zzX} (C : zz_C G cX1_digest "DebateHall" 6) {K : Option Value → zzM → Prop} {X : Nat → Nat → zzM → Prop} (E : zz_E G (some .long) K X) (hH : zz_H G []) (hR : zz_Rm G 63) : ∀ (n : Nat) (v0 : Option Nat) (v1 : Int64) (v3 : Int32) (M : zzM) (bc bs : Nat), wp_X1_digest_L33 (zz_Zof G) K X n v0 v1 v3 M bc bs → zz_T G 6 M bc bs 33 [(0, va_rf v0), (1, .long v1), (3, .int v3)] [] := by
  intro n
  induction n with
  | zero =>
    intro v0 v1 v3 M bc bs hw
    exact False.elim hw
  | succ n ih =>
    intro v0 v1 v3 M bc bs hw
    refine zz_iload_n C dX1_digest_33 rfl 2 rfl ?_
    refine zz_aload_n C dX1_digest_34 rfl 0 rfl ?_
    refine zz_getA C dX1_digest_35 (Or.inl q305) zf_0_2_DebateHall hw (fun x10 hw => ?_)
    refine zz_getA C dX1_digest_38 (Or.inr ⟨_, q233⟩) zf_2_0_teHall_Minutes hw (fun x11 hw => ?_)
    obtain ⟨a9, t9, b9, fs9, hro, hL, rfl, hw⟩ := ztyS hw
    refine zz_callV (r := (zR_18, zT_18, 3)) (As := []) (rest := [.int v3]) (mc := 0) (ms := 0) C hR hro dX1_digest_41 (Or.inl q2017) q354 (Or.inl q355) zl_java_util_ArrayList zk_J2_size (Or.inl rfl) zy_J2_size rfl (by decide) (by decide) hL (ok_J2_size (zz_hl C) hw) (Nat.zero_le _) (Nat.zero_le _) (zz_cat10 _ (Nat.le_of_ble_eq_true rfl)) (fun r12 M13 hw => zz_kI hw (fun x16 hw => ?_)) (fun _ _ _ h9 => h9.elim) rfl
    refine zz_icmp_ge (tgt := 84) C dX1_digest_44 (by decide) hw (fun hw => ?_) (fun hw => ?_)
    · refine zz_aload_n C dX1_digest_84 rfl 0 rfl ?_
      refine zz_getA C dX1_digest_85 (Or.inl q305) zf_0_2_DebateHall hw (fun x17 hw => ?_)
      refine zz_getA C dX1_digest_88 (Or.inr ⟨_, q239⟩) zf_2_1_teHall_Minutes hw (fun x18 hw => ?_)
      obtain ⟨a9, t9, b9, fs9, hro, hL, rfl, hw⟩ := ztyS hw
      obtain ⟨c9, s9, hc9, hs9, hw⟩ := hw
      refine zz_callV (r := (zR_18, zT_18, 3)) (As := []) (rest := []) C hR hro dX1_digest_91 (Or.inl q2104) q1145 (Or.inl q1146) zl_java_util_ArrayList zk_J2_iterator (Or.inl rfl) zy_J2_iterator rfl (by decide) (by decide) hL (ok_J2_iterator (zz_hl C) hw) hc9 hs9 (zz_cat10 _ (Nat.le_of_ble_eq_true rfl)) (fun r19 M20 hw => zz_kA hw (fun x23 hw => ?_)) (fun _ _ _ h9 => h9.elim) rfl
      refine zz_astore_n (i := 3) (lv' := [(3, va_rf x23), (0, va_rf v0), (1, .long v1)]) C dX1_digest_94 rfl (by decide) rfl ?_
      refine zz_subP [1, 2, 0] rfl ?_
      obtain ⟨n95, hw⟩ := hw
      exact ok_X1_digest_L95 C E hH hR n95 _ _ _ _ _ _ hw
    · refine zz_iconst (v := (0 : Int32)) C dX1_digest_47 (by decide) ?_
      refine zz_istore (lv' := [(4, .int (0 : Int32)), (0, va_rf v0), (1, .long v1), (3, .int v3)]) C dX1_digest_48 (by decide) rfl ?_
      refine zz_subP [1, 2, 3, 0] rfl ?_
      obtain ⟨n50, hw⟩ := hw
      exact ok_X1_digest_L50 C E hH hR (fun z0 z1 z2 z3 z4 z5 hw => ih z0 z1 z2 z3 z4 z5 hw) n50 _ _ _ _ _ _ _ hw
theorem ok_X1_digest_L6 {G : zzX} (C : zz_C G cX1_digest "DebateHall" 6) {K : Option Value → zzM → Prop} {X : Nat → Nat → zzM → Prop} (E : zz_E G (some .long) K X) (hH : zz_H G []) (hR : zz_Rm G 63) : ∀ (n : Nat) (v0 : Option Nat) (v1 : Int64) (v3 : Int32) (M : zzM) (bc bs : Nat), wp_X1_digest_L6 (zz_Zof G) K X n v0 v1 v3 M bc bs → zz_T G 6 M bc bs 6 [(0, va_rf v0), (1, .long v1), (3, .int v3)] [] := by
  intro n
  induction n with
  | zero =>
    intro v0 v1 v3 M bc bs hw
    exact False.elim hw
  | succ n ih =>
    intro v0 v1 v3 M bc bs hw
    refine zz_iload_n C dX1_digest_6 rfl 2 rfl ?_
    refine zz_bipush (v := (12 : Int32)) C dX1_digest_7 (by decide) ?_
    refine zz_icmp_ge (tgt := 31) C dX1_digest_9 (by decide) hw (fun hw => ?_) (fun hw => ?_)
    · refine zz_iconst (v := (0 : Int32)) C dX1_digest_31 (by decide) ?_
      refine zz_istore_n (i := 3) (lv' := [(3, .int (0 : Int32)), (0, va_rf v0), (1, .long v1)]) C dX1_digest_32 rfl (by decide) rfl ?_
      refine zz_subP [1, 2, 0] rfl ?_
      obtain ⟨n33, hw⟩ := hw
      exact ok_X1_digest_L33 C E hH hR n33 _ _ _ _ _ _ hw
    · refine zz_lload_n C dX1_digest_12 rfl 1 rfl ?_
      refine zz_ldc2 C dX1_digest_13 q2127 ?_
      refine zz_lmul C dX1_digest_16 ?_
      refine zz_aload_n C dX1_digest_17 rfl 0 rfl ?_
      refine zz_iload_n C dX1_digest_18 rfl 2 rfl ?_
      obtain ⟨a9, t9, b9, fs9, hro, hL, rfl, hw⟩ := ztyS hw
      obtain ⟨c9, s9, hc9, hs9, hw⟩ := hw
      refine zz_callV (r := (zR_0, zT_0, 4)) (As := [.int v3]) (rest := [.long (v1 * (31 : Int64))]) C hR hro dX1_digest_19 (Or.inl q2128) q2129 (Or.inl q2130) zl_DebateHall zk_X1_count (Or.inl rfl) zy_X1_count rfl (by decide) (by decide) hL (ok_X1_count (zz_hl C) hw) hc9 hs9 (zz_cat10 _ (Nat.le_of_ble_eq_true rfl)) (fun r1 M2 hw => zz_kI hw (fun x5 hw => ?_)) (fun t9 q6 M7 hx => ?_) rfl
      · refine zz_i2l C dX1_digest_22 ?_
        refine zz_ladd C dX1_digest_23 ?_
        refine zz_lstore_n (i := 1) (lv' := [(1, .long ((v1 * (31 : Int64)) + x5.toInt64)), (0, va_rf v0), (3, .int v3)]) C dX1_digest_24 rfl (by decide) (by simp [zz_cat, zz_catI, zz_catJ, zz_catD]) ?_
        refine zz_iinc (lv' := [(3, .int (v3 + 1)), (1, .long ((v1 * (31 : Int64)) + x5.toInt64)), (0, va_rf v0)]) C dX1_digest_25 2 rfl (by rfl) (by decide) rfl ?_
        refine zz_goto (tgt := 6) C dX1_digest_28 (by decide) ?_
        refine zz_subP [2, 1, 0] rfl ?_
        exact ih _ _ _ _ _ _ hw
      · exact zz_out C E hH rfl hx
theorem ok_X1_digest {Z : zzG} {l : Launch} (hl : l.stackTraces = false) {this : Option Nat} {M : zzM} {mc ms : Nat} {K : Option Value → zzM → Prop} {X : Nat → Nat → zzM → Prop} (hw : wp_X1_digest Z this M mc ms K X) : zz_Met Z l yX1_digest (zz_ws yX1_digest cX1_digest 6 (some .long) none) 63 [va_rf this] M mc ms K X := by
  refine zz_ofW hl (plainFor_of_name (by decide)) (by simp only [zz_sl0, zz_slI, zz_slJ, zz_slA] <;> decide) (fun G hZ hll C E hH hR hin => ?_)
  subst hZ
  subst hll
  rw [show lv_args 0 [va_rf this] = [(0, va_rf this)] by simp only [zz_la0, zz_laI, zz_laJ, zz_laA]]
  unfold wp_X1_digest at hw
  refine zz_ldc2 C dX1_digest_0 q2126 ?_
  refine zz_lstore_n (i := 1) (lv' := [(1, .long (719 : Int64)), (0, va_rf this)]) C dX1_digest_3 rfl (by decide) (by simp [zz_cat, zz_catI, zz_catJ, zz_catD]) ?_
  refine zz_iconst (v := (0 : Int32)) C dX1_digest_4 (by decide) ?_
  refine zz_istore_n (i := 3) (lv' := [(3, .int (0 : Int32)), (1, .long (719 : Int64)), (0, va_rf this)]) C dX1_digest_5 rfl (by decide) rfl ?_
  refine zz_subP [2, 1, 0] rfl ?_
  obtain ⟨n6, hw⟩ := hw
  exact ok_X1_digest_L6 C E hH hR n6 _ _ _ _ _ _ hw
