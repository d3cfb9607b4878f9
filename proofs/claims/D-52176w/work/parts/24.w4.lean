set_option maxRecDepth 100000
abbrev cX0_count : ByteArray := method_5_code
def yX0_count : MethodName := ⟨"DebateHallLaw", "count", "(LDebateHall;I[J)I"⟩
def dkwX0_count_0 : List UInt8 := [44, 3, 42, 27, 182, 0, 21, 133, 80, 167, 0, 6, 78, 4, 172, 3, 172]
abbrev dktX0_count_0 : List UInt8 := dkwX0_count_0 ++ []
theorem dksX0_count_0 : cX0_count.data.toList.drop 0 = dktX0_count_0 := by decide +kernel
theorem dX0_count_0 : decode cX0_count 0 = .ok (.aload_n 2, 1) := dk_44 (dk_at dksX0_count_0 0 rfl rfl)
theorem dX0_count_1 : decode cX0_count 1 = .ok (.iconst 0, 1) := dk_3 (dk_at dksX0_count_0 1 rfl rfl)
theorem dX0_count_2 : decode cX0_count 2 = .ok (.aload_n 0, 1) := dk_42 (dk_at dksX0_count_0 2 rfl rfl)
theorem dX0_count_3 : decode cX0_count 3 = .ok (.iload_n 1, 1) := dk_27 (dk_at dksX0_count_0 3 rfl rfl)
theorem dX0_count_4 : decode cX0_count 4 = .ok (.invokevirtual 21, 3) := dk_182 0 21 (dk_at dksX0_count_0 4 rfl rfl)
theorem dX0_count_7 : decode cX0_count 7 = .ok (.i2l, 1) := dk_133 (dk_at dksX0_count_0 7 rfl rfl)
theorem dX0_count_8 : decode cX0_count 8 = .ok (.lastore, 1) := dk_80 (dk_at dksX0_count_0 8 rfl rfl)
theorem dX0_count_9 : decode cX0_count 9 = .ok (.goto 6, 3) := dk_167 0 6 (dk_at dksX0_count_0 9 rfl rfl)
theorem dX0_count_12 : decode cX0_count 12 = .ok (.astore_n 3, 1) := dk_78 (dk_at dksX0_count_0 12 rfl rfl)
theorem dX0_count_13 : decode cX0_count 13 = .ok (.iconst 1, 1) := dk_4 (dk_at dksX0_count_0 13 rfl rfl)
theorem dX0_count_14 : decode cX0_count 14 = .ok (.ireturn, 1) := dk_172 (dk_at dksX0_count_0 14 rfl rfl)
theorem dX0_count_15 : decode cX0_count 15 = .ok (.iconst 0, 1) := dk_3 (dk_at dksX0_count_0 15 rfl rfl)
theorem dX0_count_16 : decode cX0_count 16 = .ok (.ireturn, 1) := dk_172 (dk_at dksX0_count_0 16 rfl rfl)
theorem q2268 : (Jvm.Cond.methodLink "DebateHallLaw" (21 : Nat) ({ cls := "DebateHall", name := "count", desc := "(I)I" } : Jvm.MethodName)) ∈ lw_all := lw_g (lw_at lw_m10 28 rfl) rfl
def wp_X0_count_B12 (Z : zzG) (K : Option Value → zzM → Prop) (s0 : Option Nat) (M : zzM) (bc bs : Nat) : Prop := K (some (.int (1 : Int32))) M
def wp_X0_count (Z : zzG) (p0 : Option Nat) (p1 : Int32) (p2 : Option Nat) (M : zzM) (bc bs : Nat) (K : Option Value → zzM → Prop) : Prop := zty Z M p0 fun t => t = 0 ∧ zcx bc bs (fun c s k x => wp_X1_count Z p0 p1 M c s k x) (fun r1 M2 bc3 bs4 => zrI r1 fun x5 => zast Z M2 p2 [102] (0 : Int32) (.long x5.toInt64) fun M6 => K (some (.int (0 : Int32))) M6) (fun t q7 M8 bc9 bs10 => if t = 28 then (wp_X0_count_B12 Z K (some q7) M8 bc9 bs10) else False)
theorem ok_X0_count_B12 {G : zzX} (C : zz_C G cX0_count "DebateHallLaw" 4) {K : Option Value → zzM → Prop} (E : zz_E G (some .int) K (fun _ _ _ => False)) (hH : zz_H G [(0, 9, 12, 24)]) (hR : zz_Rm G 8) {s0 : Option Nat} {M : zzM} {bc bs : Nat} (hw : wp_X0_count_B12 (zz_Zof G) K s0 M bc bs) : zz_T G 4 M bc bs 12 [] [va_rf s0] := by
  unfold wp_X0_count_B12 at hw
  refine zz_astore_n (i := 3) (lv' := [(3, va_rf s0)]) C dX0_count_12 rfl (by decide) rfl ?_
  refine zz_iconst (v := (1 : Int32)) C dX0_count_13 (by decide) ?_
  exact zz_iret C E dX0_count_14 hw
theorem ok_X0_count {Z : zzG} {l : Launch} (hl : l.stackTraces = false) {p0 : Option Nat} {p1 : Int32} {p2 : Option Nat} {M : zzM} {mc ms : Nat} {K : Option Value → zzM → Prop} (hw : wp_X0_count Z p0 p1 p2 M mc ms K) : zz_Met Z l yX0_count (zz_ws yX0_count cX0_count 4 (some .int) (some [(0, 9, 12, 24)])) 8 [va_rf p0, .int p1, va_rf p2] M mc ms K (fun _ _ _ => False) := by
  refine zz_ofW hl (plainFor_of_name (by decide)) (by simp only [zz_sl0, zz_slI, zz_slJ, zz_slA] <;> decide) (fun G hZ hll C E hH hR hin => ?_)
  subst hZ
  subst hll
  rw [show lv_args 0 [va_rf p0, .int p1, va_rf p2] = [(0, va_rf p0), (1, .int p1), (2, va_rf p2)] by simp only [zz_la0, zz_laI, zz_laJ, zz_laA]]
  unfold wp_X0_count at hw
  refine zz_aload_n C dX0_count_0 rfl 2 rfl ?_
  refine zz_iconst (v := (0 : Int32)) C dX0_count_1 (by decide) ?_
  refine zz_aload_n C dX0_count_2 rfl 0 rfl ?_
  refine zz_iload_n C dX0_count_3 rfl 1 rfl ?_
  obtain ⟨a9, t9, b9, fs9, hro, hL, rfl, hw⟩ := ztyS hw
  obtain ⟨c9, s9, hc9, hs9, hw⟩ := hw
  refine zz_callV (r := (zR_0, zT_0, 4)) (As := [.int p1]) (rest := [.int (0 : Int32), va_rf p2]) C hR hro dX0_count_4 (Or.inl q2268) q2129 (Or.inl q2130) zl_DebateHall zk_X1_count (Or.inl rfl) zy_X1_count rfl (by decide) (by decide) hL (ok_X1_count (zz_hl C) hw) hc9 hs9 (zz_cat10 _ (Nat.le_of_ble_eq_true rfl)) (fun r1 M2 hw => zz_kI hw (fun x5 hw => ?_)) (fun t9 q7 M8 hw => ?_) rfl
  · refine zz_i2l C dX0_count_7 ?_
    refine zz_last C dX0_count_8 hw (fun M6 hw => ?_)
    refine zz_goto (tgt := 15) C dX0_count_9 (by decide) ?_
    refine zz_iconst (v := (0 : Int32)) C dX0_count_15 (by decide) ?_
    exact zz_iret C E dX0_count_16 hw
  · by_cases e28 : t9 = 28
    · replace hw := zz_ifp e28 hw
      subst e28
      refine zz_catch (r := (zR_28, zT_28, 0)) C hH rfl [] (0, 9, 12, 24) [] rfl (fun _ h9 => absurd h9 List.not_mem_nil) rfl (by decide) q2265 q2137 ?_
      refine zz_subP [] rfl ?_
      exact ok_X0_count_B12 C E hH hR hw
    · replace hw := zz_ifn e28 hw
      exact hw.elim
abbrev cX4_count : ByteArray := prog_25_method_48_code
def yX4_count : MethodName := ⟨"DebateHallModel", "count", "(I)I"⟩
def dkwX4_count_1 : List UInt8 := [4, 182, 1, 56, 172]
abbrev dktX4_count_1 : List UInt8 := dkwX4_count_1 ++ []
def dkwX4_count_0 : List UInt8 := [42, 3, 181, 0, 85, 27, 3, 16, 11, 184, 0, 91, 153, 0, 11, 42, 27, 182, 1, 78, 167, 0, 8, 42]
abbrev dktX4_count_0 : List UInt8 := dkwX4_count_0 ++ dktX4_count_1
theorem dksX4_count_0 : cX4_count.data.toList.drop 0 = dktX4_count_0 := by decide +kernel
theorem dksX4_count_1 : cX4_count.data.toList.drop 24 = dktX4_count_1 := dk_seg dksX4_count_0 24 rfl rfl
theorem dX4_count_0 : decode cX4_count 0 = .ok (.aload_n 0, 1) := dk_42 (dk_at dksX4_count_0 0 rfl rfl)
theorem dX4_count_1 : decode cX4_count 1 = .ok (.iconst 0, 1) := dk_3 (dk_at dksX4_count_0 1 rfl rfl)
theorem dX4_count_2 : decode cX4_count 2 = .ok (.putfield 85, 3) := dk_181 0 85 (dk_at dksX4_count_0 2 rfl rfl)
theorem dX4_count_5 : decode cX4_count 5 = .ok (.iload_n 1, 1) := dk_27 (dk_at dksX4_count_0 5 rfl rfl)
theorem dX4_count_6 : decode cX4_count 6 = .ok (.iconst 0, 1) := dk_3 (dk_at dksX4_count_0 6 rfl rfl)
theorem dX4_count_7 : decode cX4_count 7 = .ok (.bipush 11, 2) := dk_16 11 (dk_at dksX4_count_0 7 rfl rfl)
theorem dX4_count_9 : decode cX4_count 9 = .ok (.invokestatic 91, 3) := dk_184 0 91 (dk_at dksX4_count_0 9 rfl rfl)
theorem dX4_count_12 : decode cX4_count 12 = .ok (.ifCond .eq 11, 3) := dk_153 0 11 (dk_at dksX4_count_0 12 rfl rfl)
theorem dX4_count_15 : decode cX4_count 15 = .ok (.aload_n 0, 1) := dk_42 (dk_at dksX4_count_0 15 rfl rfl)
theorem dX4_count_16 : decode cX4_count 16 = .ok (.iload_n 1, 1) := dk_27 (dk_at dksX4_count_0 16 rfl rfl)
theorem dX4_count_17 : decode cX4_count 17 = .ok (.invokevirtual 334, 3) := dk_182 1 78 (dk_at dksX4_count_0 17 rfl rfl)
theorem dX4_count_20 : decode cX4_count 20 = .ok (.goto 8, 3) := dk_167 0 8 (dk_at dksX4_count_0 20 rfl rfl)
theorem dX4_count_23 : decode cX4_count 23 = .ok (.aload_n 0, 1) := dk_42 (dk_at dksX4_count_0 23 rfl rfl)
theorem dX4_count_24 : decode cX4_count 24 = .ok (.iconst 1, 1) := dk_4 (dk_at dksX4_count_1 0 rfl rfl)
theorem dX4_count_25 : decode cX4_count 25 = .ok (.invokevirtual 312, 3) := dk_182 1 56 (dk_at dksX4_count_1 1 rfl rfl)
theorem dX4_count_28 : decode cX4_count 28 = .ok (.ireturn, 1) := dk_172 (dk_at dksX4_count_1 4 rfl rfl)
def wp_X4_count_B28 (Z : zzG) (K : Option Value → zzM → Prop) (s0 : Int32) (M : zzM) (bc bs : Nat) : Prop := K (some (.int s0)) M
def wp_X4_count (Z : zzG) (this : Option Nat) (p0 : Int32) (M : zzM) (bc bs : Nat) (K : Option Value → zzM → Prop) : Prop := zput Z M this [16] 0 (.int (0 : Int32)) fun M1 => wp_X4_isIn Z p0 (0 : Int32) (11 : Int32) M1 (fun r2 M3 => zrI r2 fun x6 => if x6 = 0 then (zty Z M3 this fun t => t = 16 ∧ wp_X4_no Z this (1 : Int32) M3 (fun r7 M8 => zrI r7 fun x11 => wp_X4_count_B28 Z K x11 M8 bc bs)) else (zty Z M3 this fun t => t = 16 ∧ zcc bc bs (fun c s k => wp_X4_counted Z this p0 M3 c s k) fun r12 M13 bc14 bs15 => zrI r12 fun x16 => wp_X4_count_B28 Z K x16 M13 bc14 bs15))
theorem ok_X4_count_B28 {G : zzX} (C : zz_C G cX4_count "DebateHallModel" 2) {K : Option Value → zzM → Prop} (E : zz_E G (some .int) K (fun _ _ _ => False)) (hH : zz_H G []) (hR : zz_Rm G 2) {s0 : Int32} {M : zzM} {bc bs : Nat} (hw : wp_X4_count_B28 (zz_Zof G) K s0 M bc bs) : zz_T G 2 M bc bs 28 [] [.int s0] := by
  unfold wp_X4_count_B28 at hw
  exact zz_iret C E dX4_count_28 hw
theorem ok_X4_count {Z : zzG} {l : Launch} (hl : l.stackTraces = false) {this : Option Nat} {p0 : Int32} {M : zzM} {mc ms : Nat} {K : Option Value → zzM → Prop} (hw : wp_X4_count Z this p0 M mc ms K) : zz_Met Z l yX4_count (zz_ws yX4_count cX4_count 2 (some .int) none) 2 [va_rf this, .int p0] M mc ms K (fun _ _ _ => False) := by
  refine zz_ofW hl (plainFor_of_name (by decide)) (by simp only [zz_sl0, zz_slI, zz_slJ, zz_slA] <;> decide) (fun G hZ hll C E hH hR hin => ?_)
  subst hZ
  subst hll
  rw [show lv_args 0 [va_rf this, .int p0] = [(0, va_rf this), (1, .int p0)] by simp only [zz_la0, zz_laI, zz_laJ, zz_laA]]
  unfold wp_X4_count at hw
  refine zz_aload_n C dX4_count_0 rfl 0 rfl ?_
  refine zz_iconst (v := (0 : Int32)) C dX4_count_1 (by decide) ?_
  refine zz_put C dX4_count_2 (Or.inl q2436) zf_16_0_ebateHallModel zp_16_0 (zz_hn1 ⟨rfl, rfl⟩) hw (fun M1 hw => ?_)
  refine zz_iload_n C dX4_count_5 rfl 1 rfl ?_
  refine zz_iconst (v := (0 : Int32)) C dX4_count_6 (by decide) ?_
  refine zz_bipush (v := (11 : Int32)) C dX4_count_7 (by decide) ?_
  refine zz_callS (As := [.int p0, .int (0 : Int32), .int (11 : Int32)]) (rest := []) (mc := 0) (ms := 0) C hR dX4_count_9 (Or.inl q2525) q2526 zl_DebateHallModel zk_X4_isIn (Or.inl rfl) zy_X4_isIn (by decide) (by decide) (ok_X4_isIn (zz_hl C) hw) (Nat.zero_le _) (Nat.zero_le _) (zz_cat10 _ (Nat.le_of_ble_eq_true rfl)) (fun r2 M3 hw => zz_kI hw (fun x6 hw => ?_)) (fun _ _ _ h9 => h9.elim) rfl
  refine zz_if_eq (tgt := 23) C dX4_count_12 (by decide) hw (fun hw => ?_) (fun hw => ?_)
  · refine zz_aload_n C dX4_count_23 rfl 0 rfl ?_
    refine zz_iconst (v := (1 : Int32)) C dX4_count_24 (by decide) ?_
    obtain ⟨a9, t9, b9, fs9, hro, hL, rfl, hw⟩ := ztyS hw
    refine zz_callV (r := (zR_16, zT_16, 24)) (As := [.int (1 : Int32)]) (rest := []) (mc := 0) (ms := 0) C hR hro dX4_count_25 (Or.inl q2517) q2519 (Or.inl qs32) zl_DebateHallModel zk_X4_no (Or.inl rfl) zy_X4_no rfl (by decide) (by decide) hL (ok_X4_no (zz_hl C) hw) (Nat.zero_le _) (Nat.zero_le _) (zz_cat10 _ (Nat.le_of_ble_eq_true rfl)) (fun r7 M8 hw => zz_kI hw (fun x11 hw => ?_)) (fun _ _ _ h9 => h9.elim) rfl
    refine zz_subP [] rfl ?_
    exact ok_X4_count_B28 C E hH hR hw
  · refine zz_aload_n C dX4_count_15 rfl 0 rfl ?_
    refine zz_iload_n C dX4_count_16 rfl 1 rfl ?_
    obtain ⟨a9, t9, b9, fs9, hro, hL, rfl, hw⟩ := ztyS hw
    obtain ⟨c9, s9, hc9, hs9, hw⟩ := hw
    refine zz_callV (r := (zR_16, zT_16, 24)) (As := [.int p0]) (rest := []) C hR hro dX4_count_17 (Or.inl q2728) q2730 (Or.inl qs64) zl_DebateHallModel zk_X4_counted (Or.inl rfl) zy_X4_counted rfl (by decide) (by decide) hL (ok_X4_counted (zz_hl C) hw) hc9 hs9 (zz_cat10 _ (Nat.le_of_ble_eq_true rfl)) (fun r12 M13 hw => zz_kI hw (fun x16 hw => ?_)) (fun _ _ _ h9 => h9.elim) rfl
    refine zz_goto (tgt := 28) C dX4_count_20 (by decide) ?_
    refine zz_subP [] rfl ?_
    exact ok_X4_count_B28 C E hH hR hw
abbrev cX1_errorAt : ByteArray := prog_1_method_11_code
def yX1_errorAt : MethodName := ⟨"DebateHall", "errorAt", "()I"⟩
theorem dX1_errorAt_0 : decode cX1_errorAt 0 = .ok (.aload_n 0, 1) := by decide +kernel
theorem dX1_errorAt_1 : decode cX1_errorAt 1 = .ok (.getfield 29, 3) := by decide +kernel
theorem dX1_errorAt_4 : decode cX1_errorAt 4 = .ok (.ireturn, 1) := by decide +kernel
def wp_X1_errorAt (Z : zzG) (this : Option Nat) (M : zzM) (K : Option Value → zzM → Prop) : Prop := zgI Z M this [0] 1 fun x1 => K (some (.int x1)) M
theorem ok_X1_errorAt {Z : zzG} {l : Launch} (hl : l.stackTraces = false) {this : Option Nat} {M : zzM} {mc ms : Nat} {K : Option Value → zzM → Prop} (hw : wp_X1_errorAt Z this M K) : zz_Met Z l yX1_errorAt (zz_ws yX1_errorAt cX1_errorAt 1 (some .int) none) 1 [va_rf this] M mc ms K (fun _ _ _ => False) := by
  refine zz_ofW hl (plainFor_of_name (by decide)) (by simp only [zz_sl0, zz_slI, zz_slJ, zz_slA] <;> decide) (fun G hZ hll C E hH hR hin => ?_)
  subst hZ
  subst hll
  rw [show lv_args 0 [va_rf this] = [(0, va_rf this)] by simp only [zz_la0, zz_laI, zz_laJ, zz_laA]]
  unfold wp_X1_errorAt at hw
  refine zz_aload_n C dX1_errorAt_0 rfl 0 rfl ?_
  refine zz_getI C dX1_errorAt_1 (Or.inl q304) zf_0_1_DebateHall hw (fun x1 hw => ?_)
  exact zz_iret C E dX1_errorAt_4 hw
abbrev cX4_errorAt : ByteArray := prog_25_method_46_code
def yX4_errorAt : MethodName := ⟨"DebateHallModel", "errorAt", "()I"⟩
def dkwX4_errorAt_0 : List UInt8 := [42, 3, 181, 0, 85, 42, 180, 0, 23, 172]
abbrev dktX4_errorAt_0 : List UInt8 := dkwX4_errorAt_0 ++ []
theorem dksX4_errorAt_0 : cX4_errorAt.data.toList.drop 0 = dktX4_errorAt_0 := by decide +kernel
theorem dX4_errorAt_0 : decode cX4_errorAt 0 = .ok (.aload_n 0, 1) := dk_42 (dk_at dksX4_errorAt_0 0 rfl rfl)
theorem dX4_errorAt_1 : decode cX4_errorAt 1 = .ok (.iconst 0, 1) := dk_3 (dk_at dksX4_errorAt_0 1 rfl rfl)
theorem dX4_errorAt_2 : decode cX4_errorAt 2 = .ok (.putfield 85, 3) := dk_181 0 85 (dk_at dksX4_errorAt_0 2 rfl rfl)
theorem dX4_errorAt_5 : decode cX4_errorAt 5 = .ok (.aload_n 0, 1) := dk_42 (dk_at dksX4_errorAt_0 5 rfl rfl)
theorem dX4_errorAt_6 : decode cX4_errorAt 6 = .ok (.getfield 23, 3) := dk_180 0 23 (dk_at dksX4_errorAt_0 6 rfl rfl)
theorem dX4_errorAt_9 : decode cX4_errorAt 9 = .ok (.ireturn, 1) := dk_172 (dk_at dksX4_errorAt_0 9 rfl rfl)
def wp_X4_errorAt (Z : zzG) (this : Option Nat) (M : zzM) (K : Option Value → zzM → Prop) : Prop := zput Z M this [16] 0 (.int (0 : Int32)) fun M1 => zgI Z M1 this [16] 1 fun x2 => K (some (.int x2)) M1
theorem ok_X4_errorAt {Z : zzG} {l : Launch} (hl : l.stackTraces = false) {this : Option Nat} {M : zzM} {mc ms : Nat} {K : Option Value → zzM → Prop} (hw : wp_X4_errorAt Z this M K) : zz_Met Z l yX4_errorAt (zz_ws yX4_errorAt cX4_errorAt 1 (some .int) none) 1 [va_rf this] M mc ms K (fun _ _ _ => False) := by
  refine zz_ofW hl (plainFor_of_name (by decide)) (by simp only [zz_sl0, zz_slI, zz_slJ, zz_slA] <;> decide) (fun G hZ hll C E hH hR hin => ?_)
  subst hZ
  subst hll
  rw [show lv_args 0 [va_rf this] = [(0, va_rf this)] by simp only [zz_la0, zz_laI, zz_laJ, zz_laA]]
  unfold wp_X4_errorAt at hw
  refine zz_aload_n C dX4_errorAt_0 rfl 0 rfl ?_
  refine zz_iconst (v := (0 : Int32)) C dX4_errorAt_1 (by decide) ?_
  refine zz_put C dX4_errorAt_2 (Or.inl q2436) zf_16_0_ebateHallModel zp_16_0 (zz_hn1 ⟨rfl, rfl⟩) hw (fun M1 hw => ?_)
  refine zz_aload_n C dX4_errorAt_5 rfl 0 rfl ?_
  refine zz_getI C dX4_errorAt_6 (Or.inl q2437) zf_16_1_ebateHallModel hw (fun x2 hw => ?_)
  exact zz_iret C E dX4_errorAt_9 hw
abbrev cX7_init : ByteArray := prog_14_method_1_code
def yX7_init : MethodName := ⟨"DebateHall$Scanner", "<init>", "(LDebateHall$Tape;)V"⟩
def dkwX7_init_0 : List UInt8 := [42, 183, 0, 3, 42, 187, 0, 9, 89, 183, 0, 11, 181, 0, 12, 42, 43, 181, 0, 18, 177]
abbrev dktX7_init_0 : List UInt8 := dkwX7_init_0 ++ []
theorem dksX7_init_0 : cX7_init.data.toList.drop 0 = dktX7_init_0 := by decide +kernel
theorem dX7_init_0 : decode cX7_init 0 = .ok (.aload_n 0, 1) := dk_42 (dk_at dksX7_init_0 0 rfl rfl)
theorem dX7_init_1 : decode cX7_init 1 = .ok (.invokespecial 3, 3) := dk_183 0 3 (dk_at dksX7_init_0 1 rfl rfl)
theorem dX7_init_4 : decode cX7_init 4 = .ok (.aload_n 0, 1) := dk_42 (dk_at dksX7_init_0 4 rfl rfl)
theorem dX7_init_5 : decode cX7_init 5 = .ok (.new 9, 3) := dk_187 0 9 (dk_at dksX7_init_0 5 rfl rfl)
theorem dX7_init_8 : decode cX7_init 8 = .ok (.dup, 1) := dk_89 (dk_at dksX7_init_0 8 rfl rfl)
theorem dX7_init_9 : decode cX7_init 9 = .ok (.invokespecial 11, 3) := dk_183 0 11 (dk_at dksX7_init_0 9 rfl rfl)
theorem dX7_init_12 : decode cX7_init 12 = .ok (.putfield 12, 3) := dk_181 0 12 (dk_at dksX7_init_0 12 rfl rfl)
theorem dX7_init_15 : decode cX7_init 15 = .ok (.aload_n 0, 1) := dk_42 (dk_at dksX7_init_0 15 rfl rfl)
theorem dX7_init_16 : decode cX7_init 16 = .ok (.aload_n 1, 1) := dk_43 (dk_at dksX7_init_0 16 rfl rfl)
theorem dX7_init_17 : decode cX7_init 17 = .ok (.putfield 18, 3) := dk_181 0 18 (dk_at dksX7_init_0 17 rfl rfl)
theorem dX7_init_20 : decode cX7_init 20 = .ok (.return_, 1) := dk_177 (dk_at dksX7_init_0 20 rfl rfl)
theorem q328 : (Jvm.Cond.methodLink "DebateHall$Scanner" (3 : Nat) ({ cls := "java/lang/Object", name := "<init>", desc := "()V" } : Jvm.MethodName)) ∈ lw_all := lw_g (lw_at lw_m2 8 rfl) rfl
theorem q329 : (Jvm.Cond.classLink "DebateHall$Scanner" (9 : Nat) "java/util/ArrayList") ∈ lw_all := lw_g (lw_at lw_m2 9 rfl) rfl
theorem zf_4_1_teHall_Scanner : zz_fok [4] 1 "DebateHall$Scanner" "tokens" "Ljava/util/ArrayList;" := zz_fok1 (zR_4, zT_4, 2) rfl (by decide) rfl rfl (Or.inl rfl)
theorem q332 : (Jvm.Cond.fieldLink "DebateHall$Scanner" (12 : Nat) "DebateHall$Scanner" "tokens" "Ljava/util/ArrayList;") ∈ lw_all := lw_g (lw_at lw_m2 12 rfl) rfl
theorem zq_4_1 : zz_pokF [4] 1 "DebateHall$Scanner" := zz_pokF1 (zR_4, zT_4, 2) (by decide) rfl rfl rfl
theorem zf_4_0_teHall_Scanner : zz_fok [4] 0 "DebateHall$Scanner" "tape" "LDebateHall$Tape;" := zz_fok1 (zR_4, zT_4, 2) rfl (by decide) rfl rfl (Or.inl rfl)
theorem q331 : (Jvm.Cond.fieldLink "DebateHall$Scanner" (18 : Nat) "DebateHall$Scanner" "tape" "LDebateHall$Tape;") ∈ lw_all := lw_g (lw_at lw_m2 11 rfl) rfl
theorem zq_4_0 : zz_pokF [4] 0 "DebateHall$Scanner" := zz_pokF1 (zR_4, zT_4, 2) (by decide) rfl rfl rfl
theorem q330 : (Jvm.Cond.methodLink "DebateHall$Scanner" (11 : Nat) ({ cls := "java/util/ArrayList", name := "<init>", desc := "()V" } : Jvm.MethodName)) ∈ lw_all := lw_g (lw_at lw_m2 10 rfl) rfl
def wp_X7_init (Z : zzG) (this : Option Nat) (p0 : Option Nat) (M : zzM) (bc bs : Nat) (K : Option Value → zzM → Prop) : Prop := zty Z M this fun _ => znew Z M bc bs 18 3 [.int 0, .null, .int 0] fun q1 M2 bc3 bs4 => wp_J2_init Z (some q1) M2 (fun r5 M6 => zrV r5 (zput Z M6 this [4] 1 (va_rf (some q1)) fun M9 => zput Z M9 this [4] 0 (va_rf p0) fun M10 => K none M10))
theorem ok_X7_init {Z : zzG} {l : Launch} (hl : l.stackTraces = false) {this : Option Nat} {p0 : Option Nat} {M : zzM} {mc ms : Nat} {K : Option Value → zzM → Prop} (hw : wp_X7_init Z this p0 M mc ms K) : zz_Met Z l yX7_init (zz_ws yX7_init cX7_init 2 none none) 5 [va_rf this, va_rf p0] M mc ms K (fun _ _ _ => False) := by
  refine zz_ofW hl (plainFor_of_name (by decide)) (by simp only [zz_sl0, zz_slI, zz_slJ, zz_slA] <;> decide) (fun G hZ hll C E hH hR hin => ?_)
  subst hZ
  subst hll
  rw [show lv_args 0 [va_rf this, va_rf p0] = [(0, va_rf this), (1, va_rf p0)] by simp only [zz_la0, zz_laI, zz_laJ, zz_laA]]
  unfold wp_X7_init at hw
  refine zz_aload_n C dX7_init_0 rfl 0 rfl ?_
  obtain ⟨a9, t9, b9, fs9, hro, hL, hw⟩ := ztyS hw
  refine zz_objInit9 C hR (by decide) hro dX7_init_1 q328 q146 q147 (zz_cat10 _ (Nat.le_of_ble_eq_true rfl)) ?_
  refine zz_aload_n C dX7_init_4 rfl 0 rfl ?_
  refine zz_new (r := (zR_18, zT_18, 3)) C dX7_init_5 rfl (by decide) q329 q171 zl_java_util_ArrayList rfl hw (fun q1 M2 bc3 bs4 hw => ?_)
  refine zz_dup C dX7_init_8 (zz_cat _) ?_
  refine zz_callI (As := []) (rest := [va_rf (some q1), va_rf this]) (mc := 0) (ms := 0) C hR rfl dX7_init_9 (Or.inl q330) q173 zl_java_util_ArrayList zk_J2_init rfl zy_J2_init (by decide) (by decide) (ok_J2_init (zz_hl C) hw) (Nat.zero_le _) (Nat.zero_le _) (zz_cat10 _ (Nat.le_of_ble_eq_true rfl)) (fun r5 M6 hw => zz_kV hw (fun hw => ?_)) (fun _ _ _ h9 => h9.elim) rfl
  refine zz_putF C hin dX7_init_12 q332 zf_4_1_teHall_Scanner zq_4_1 (zz_hn1 (zz_nA _ rfl (some q1))) hw (fun M9 hw => ?_)
  refine zz_aload_n C dX7_init_15 rfl 0 rfl ?_
  refine zz_aload_n C dX7_init_16 rfl 1 rfl ?_
  refine zz_putF C hin dX7_init_17 q331 zf_4_0_teHall_Scanner zq_4_0 (zz_hn1 (zz_nA _ rfl p0)) hw (fun M10 hw => ?_)
  exact zz_vret C E dX7_init_20 hw
abbrev cX2_at : ByteArray := prog_19_method_3_code
def yX2_at : MethodName := ⟨"DebateHall$Tape", "at", "(I)I"⟩
def dkwX2_at_0 : List UInt8 := [27, 42, 180, 0, 15, 162, 0, 16, 42, 180, 0, 9, 27, 51, 17, 0, 255, 126, 167, 0, 4, 3, 172]
abbrev dktX2_at_0 : List UInt8 := dkwX2_at_0 ++ []
theorem dksX2_at_0 : cX2_at.data.toList.drop 0 = dktX2_at_0 := by decide +kernel
theorem dX2_at_0 : decode cX2_at 0 = .ok (.iload_n 1, 1) := dk_27 (dk_at dksX2_at_0 0 rfl rfl)
theorem dX2_at_1 : decode cX2_at 1 = .ok (.aload_n 0, 1) := dk_42 (dk_at dksX2_at_0 1 rfl rfl)
theorem dX2_at_2 : decode cX2_at 2 = .ok (.getfield 15, 3) := dk_180 0 15 (dk_at dksX2_at_0 2 rfl rfl)
theorem dX2_at_5 : decode cX2_at 5 = .ok (.if_icmp .ge 16, 3) := dk_162 0 16 (dk_at dksX2_at_0 5 rfl rfl)
theorem dX2_at_8 : decode cX2_at 8 = .ok (.aload_n 0, 1) := dk_42 (dk_at dksX2_at_0 8 rfl rfl)
theorem dX2_at_9 : decode cX2_at 9 = .ok (.getfield 9, 3) := dk_180 0 9 (dk_at dksX2_at_0 9 rfl rfl)
theorem dX2_at_12 : decode cX2_at 12 = .ok (.iload_n 1, 1) := dk_27 (dk_at dksX2_at_0 12 rfl rfl)
theorem dX2_at_13 : decode cX2_at 13 = .ok (.baload, 1) := dk_51 (dk_at dksX2_at_0 13 rfl rfl)
theorem dX2_at_14 : decode cX2_at 14 = .ok (.sipush 255, 3) := dk_17 0 255 (dk_at dksX2_at_0 14 rfl rfl)
theorem dX2_at_17 : decode cX2_at 17 = .ok (.iand, 1) := dk_126 (dk_at dksX2_at_0 17 rfl rfl)
theorem dX2_at_18 : decode cX2_at 18 = .ok (.goto 4, 3) := dk_167 0 4 (dk_at dksX2_at_0 18 rfl rfl)
theorem dX2_at_21 : decode cX2_at 21 = .ok (.iconst 0, 1) := dk_3 (dk_at dksX2_at_0 21 rfl rfl)
theorem dX2_at_22 : decode cX2_at 22 = .ok (.ireturn, 1) := dk_172 (dk_at dksX2_at_0 22 rfl rfl)
theorem q155 : (Jvm.Cond.fieldLink "DebateHall$Tape" (15 : Nat) "DebateHall$Tape" "size" "I") ∈ lw_all := lw_g (lw_at lw_m1 75 rfl) rfl
def wp_X2_at_B22 (Z : zzG) (K : Option Value → zzM → Prop) (s0 : Int32) (M : zzM) : Prop := K (some (.int s0)) M
def wp_X2_at (Z : zzG) (this : Option Nat) (p0 : Int32) (M : zzM) (K : Option Value → zzM → Prop) : Prop := zgI Z M this [1] 1 fun x1 => if x1 ≤ p0 then (wp_X2_at_B22 Z K (0 : Int32) M) else (zgA Z M this [1] 0 fun x2 => zaI Z M x2 [101] p0 fun x3 => wp_X2_at_B22 Z K (x3 &&& (255 : Int32)) M)
theorem ok_X2_at_B22 {G : zzX} (C : zz_C G cX2_at "DebateHall$Tape" 2) {K : Option Value → zzM → Prop} (E : zz_E G (some .int) K (fun _ _ _ => False)) (hH : zz_H G []) (hR : zz_Rm G 1) {s0 : Int32} {M : zzM} {bc bs : Nat} (hw : wp_X2_at_B22 (zz_Zof G) K s0 M) : zz_T G 2 M bc bs 22 [] [.int s0] := by
  unfold wp_X2_at_B22 at hw
  exact zz_iret C E dX2_at_22 hw
theorem ok_X2_at {Z : zzG} {l : Launch} (hl : l.stackTraces = false) {this : Option Nat} {p0 : Int32} {M : zzM} {mc ms : Nat} {K : Option Value → zzM → Prop} (hw : wp_X2_at Z this p0 M K) : zz_Met Z l yX2_at (zz_ws yX2_at cX2_at 2 (some .int) none) 1 [va_rf this, .int p0] M mc ms K (fun _ _ _ => False) := by
  refine zz_ofW hl (plainFor_of_name (by decide)) (by simp only [zz_sl0, zz_slI, zz_slJ, zz_slA] <;> decide) (fun G hZ hll C E hH hR hin => ?_)
  subst hZ
  subst hll
  rw [show lv_args 0 [va_rf this, .int p0] = [(0, va_rf this), (1, .int p0)] by simp only [zz_la0, zz_laI, zz_laJ, zz_laA]]
  unfold wp_X2_at at hw
  refine zz_iload_n C dX2_at_0 rfl 1 rfl ?_
  refine zz_aload_n C dX2_at_1 rfl 0 rfl ?_
  refine zz_getI C dX2_at_2 (Or.inl q155) zf_1_1_ebateHall_Tape hw (fun x1 hw => ?_)
  refine zz_icmp_ge (tgt := 21) C dX2_at_5 (by decide) hw (fun hw => ?_) (fun hw => ?_)
  · refine zz_iconst (v := (0 : Int32)) C dX2_at_21 (by decide) ?_
    refine zz_subP [] rfl ?_
    exact ok_X2_at_B22 C E hH hR hw
  · refine zz_aload_n C dX2_at_8 rfl 0 rfl ?_
    refine zz_getA C dX2_at_9 (Or.inl q154) zf_1_0_ebateHall_Tape hw (fun x2 hw => ?_)
    refine zz_iload_n C dX2_at_12 rfl 1 rfl ?_
    refine zz_bald C dX2_at_13 hw (fun x3 hw => ?_)
    refine zz_sipush (v := (255 : Int32)) C dX2_at_14 (by decide) ?_
    refine zz_iand C dX2_at_17 ?_
    refine zz_goto (tgt := 22) C dX2_at_18 (by decide) ?_
    refine zz_subP [] rfl ?_
    exact ok_X2_at_B22 C E hH hR hw
abbrev cX7_isBlank : ByteArray := prog_14_method_4_code
def yX7_isBlank : MethodName := ⟨"DebateHall$Scanner", "isBlank", "(I)Z"⟩
def dkwX7_isBlank_0 : List UInt8 := [26, 16, 32, 159, 0, 9, 26, 16, 10, 160, 0, 7, 4, 167, 0, 4, 3, 172]
abbrev dktX7_isBlank_0 : List UInt8 := dkwX7_isBlank_0 ++ []
theorem dksX7_isBlank_0 : cX7_isBlank.data.toList.drop 0 = dktX7_isBlank_0 := by decide +kernel
theorem dX7_isBlank_0 : decode cX7_isBlank 0 = .ok (.iload_n 0, 1) := dk_26 (dk_at dksX7_isBlank_0 0 rfl rfl)
theorem dX7_isBlank_1 : decode cX7_isBlank 1 = .ok (.bipush 32, 2) := dk_16 32 (dk_at dksX7_isBlank_0 1 rfl rfl)
theorem dX7_isBlank_3 : decode cX7_isBlank 3 = .ok (.if_icmp .eq 9, 3) := dk_159 0 9 (dk_at dksX7_isBlank_0 3 rfl rfl)
theorem dX7_isBlank_6 : decode cX7_isBlank 6 = .ok (.iload_n 0, 1) := dk_26 (dk_at dksX7_isBlank_0 6 rfl rfl)
theorem dX7_isBlank_7 : decode cX7_isBlank 7 = .ok (.bipush 10, 2) := dk_16 10 (dk_at dksX7_isBlank_0 7 rfl rfl)
theorem dX7_isBlank_9 : decode cX7_isBlank 9 = .ok (.if_icmp .ne 7, 3) := dk_160 0 7 (dk_at dksX7_isBlank_0 9 rfl rfl)
theorem dX7_isBlank_12 : decode cX7_isBlank 12 = .ok (.iconst 1, 1) := dk_4 (dk_at dksX7_isBlank_0 12 rfl rfl)
theorem dX7_isBlank_13 : decode cX7_isBlank 13 = .ok (.goto 4, 3) := dk_167 0 4 (dk_at dksX7_isBlank_0 13 rfl rfl)
theorem dX7_isBlank_16 : decode cX7_isBlank 16 = .ok (.iconst 0, 1) := dk_3 (dk_at dksX7_isBlank_0 16 rfl rfl)
theorem dX7_isBlank_17 : decode cX7_isBlank 17 = .ok (.ireturn, 1) := dk_172 (dk_at dksX7_isBlank_0 17 rfl rfl)
def wp_X7_isBlank_B17 (Z : zzG) (K : Option Value → zzM → Prop) (s0 : Int32) (M : zzM) : Prop := narrow .boolean (.int s0) = .int s0 ∧ K (some (.int s0)) M
def wp_X7_isBlank_B12 (Z : zzG) (K : Option Value → zzM → Prop) (M : zzM) : Prop := wp_X7_isBlank_B17 Z K (1 : Int32) M
def wp_X7_isBlank (Z : zzG) (p0 : Int32) (M : zzM) (K : Option Value → zzM → Prop) : Prop := if p0 = (32 : Int32) then (wp_X7_isBlank_B12 Z K M) else (if p0 = (10 : Int32) then (wp_X7_isBlank_B12 Z K M) else (wp_X7_isBlank_B17 Z K (0 : Int32) M))
theorem ok_X7_isBlank_B17 {G : zzX} (C : zz_C G cX7_isBlank "DebateHall$Scanner" 1) {K : Option Value → zzM → Prop} (E : zz_E G (some .boolean) K (fun _ _ _ => False)) (hH : zz_H G []) (hR : zz_Rm G 1) {s0 : Int32} {M : zzM} {bc bs : Nat} (hw : wp_X7_isBlank_B17 (zz_Zof G) K s0 M) : zz_T G 1 M bc bs 17 [] [.int s0] := by
  unfold wp_X7_isBlank_B17 at hw
  exact zz_zret C E dX7_isBlank_17 hw
theorem ok_X7_isBlank_B12 {G : zzX} (C : zz_C G cX7_isBlank "DebateHall$Scanner" 1) {K : Option Value → zzM → Prop} (E : zz_E G (some .boolean) K (fun _ _ _ => False)) (hH : zz_H G []) (hR : zz_Rm G 1) {M : zzM} {bc bs : Nat} (hw : wp_X7_isBlank_B12 (zz_Zof G) K M) : zz_T G 1 M bc bs 12 [] [] := by
  unfold wp_X7_isBlank_B12 at hw
  refine zz_iconst (v := (1 : Int32)) C dX7_isBlank_12 (by decide) ?_
  refine zz_goto (tgt := 17) C dX7_isBlank_13 (by decide) ?_
  refine zz_subP [] rfl ?_
  exact ok_X7_isBlank_B17 C E hH hR hw
theorem ok_X7_isBlank {Z : zzG} {l : Launch} (hl : l.stackTraces = false) {p0 : Int32} {M : zzM} {mc ms : Nat} {K : Option Value → zzM → Prop} (hw : wp_X7_isBlank Z p0 M K) : zz_Met Z l yX7_isBlank (zz_ws yX7_isBlank cX7_isBlank 1 (some .boolean) none) 1 [.int p0] M mc ms K (fun _ _ _ => False) := by
  refine zz_ofW hl (plainFor_of_name (by decide)) (by simp only [zz_sl0, zz_slI, zz_slJ, zz_slA] <;> decide) (fun G hZ hll C E hH hR hin => ?_)
  subst hZ
  subst hll
  rw [show lv_args 0 [.int p0] = [(0, .int p0)] by simp only [zz_la0, zz_laI, zz_laJ, zz_laA]]
  unfold wp_X7_isBlank at hw
  refine zz_iload_n C dX7_isBlank_0 rfl 0 rfl ?_
  refine zz_bipush (v := (32 : Int32)) C dX7_isBlank_1 (by decide) ?_
  refine zz_icmp_eq (tgt := 12) C dX7_isBlank_3 (by decide) hw (fun hw => ?_) (fun hw => ?_)
  · refine zz_subP [] rfl ?_
    exact ok_X7_isBlank_B12 C E hH hR hw
  · refine zz_iload_n C dX7_isBlank_6 rfl 0 rfl ?_
    refine zz_bipush (v := (10 : Int32)) C dX7_isBlank_7 (by decide) ?_
    refine zz_icmp_ne (tgt := 16) C dX7_isBlank_9 (by decide) hw (fun hw => ?_) (fun hw => ?_)
    · refine zz_iconst (v := (0 : Int32)) C dX7_isBlank_16 (by decide) ?_
      refine zz_subP [] rfl ?_
      exact ok_X7_isBlank_B17 C E hH hR hw
    · refine zz_subP [] rfl ?_
      exact ok_X7_isBlank_B12 C E hH hR hw
abbrev cX8_init : ByteArray := prog_22_method_1_code
def yX8_init : MethodName := ⟨"DebateHall$Token", "<init>", "(LDebateHall$Sort;Ljava/lang/String;I)V"⟩
def dkwX8_init_0 : List UInt8 := [42, 183, 0, 1, 42, 43, 181, 0, 7, 42, 44, 181, 0, 13, 42, 29, 181, 0, 17, 177]
abbrev dktX8_init_0 : List UInt8 := dkwX8_init_0 ++ []
theorem dksX8_init_0 : cX8_init.data.toList.drop 0 = dktX8_init_0 := by decide +kernel
theorem dX8_init_0 : decode cX8_init 0 = .ok (.aload_n 0, 1) := dk_42 (dk_at dksX8_init_0 0 rfl rfl)
theorem dX8_init_1 : decode cX8_init 1 = .ok (.invokespecial 1, 3) := dk_183 0 1 (dk_at dksX8_init_0 1 rfl rfl)
theorem dX8_init_4 : decode cX8_init 4 = .ok (.aload_n 0, 1) := dk_42 (dk_at dksX8_init_0 4 rfl rfl)
theorem dX8_init_5 : decode cX8_init 5 = .ok (.aload_n 1, 1) := dk_43 (dk_at dksX8_init_0 5 rfl rfl)
theorem dX8_init_6 : decode cX8_init 6 = .ok (.putfield 7, 3) := dk_181 0 7 (dk_at dksX8_init_0 6 rfl rfl)
theorem dX8_init_9 : decode cX8_init 9 = .ok (.aload_n 0, 1) := dk_42 (dk_at dksX8_init_0 9 rfl rfl)
theorem dX8_init_10 : decode cX8_init 10 = .ok (.aload_n 2, 1) := dk_44 (dk_at dksX8_init_0 10 rfl rfl)
theorem dX8_init_11 : decode cX8_init 11 = .ok (.putfield 13, 3) := dk_181 0 13 (dk_at dksX8_init_0 11 rfl rfl)
theorem dX8_init_14 : decode cX8_init 14 = .ok (.aload_n 0, 1) := dk_42 (dk_at dksX8_init_0 14 rfl rfl)
theorem dX8_init_15 : decode cX8_init 15 = .ok (.iload_n 3, 1) := dk_29 (dk_at dksX8_init_0 15 rfl rfl)
theorem dX8_init_16 : decode cX8_init 16 = .ok (.putfield 17, 3) := dk_181 0 17 (dk_at dksX8_init_0 16 rfl rfl)
theorem dX8_init_19 : decode cX8_init 19 = .ok (.return_, 1) := dk_177 (dk_at dksX8_init_0 19 rfl rfl)
theorem q365 : (Jvm.Cond.methodLink "DebateHall$Token" (1 : Nat) ({ cls := "java/lang/Object", name := "<init>", desc := "()V" } : Jvm.MethodName)) ∈ lw_all := lw_g (lw_at lw_m2 45 rfl) rfl
theorem zf_5_0_bateHall_Token : zz_fok [5] 0 "DebateHall$Token" "sort" "LDebateHall$Sort;" := zz_fok1 (zR_5, zT_5, 3) rfl (by decide) rfl rfl (Or.inl rfl)
theorem q366 : (Jvm.Cond.fieldLink "DebateHall$Token" (7 : Nat) "DebateHall$Token" "sort" "LDebateHall$Sort;") ∈ lw_all := lw_g (lw_at lw_m2 46 rfl) rfl
theorem zq_5_0 : zz_pokF [5] 0 "DebateHall$Token" := zz_pokF1 (zR_5, zT_5, 3) (by decide) rfl rfl rfl
theorem zf_5_1_bateHall_Token : zz_fok [5] 1 "DebateHall$Token" "text" "Ljava/lang/String;" := zz_fok1 (zR_5, zT_5, 3) rfl (by decide) rfl rfl (Or.inl rfl)
theorem q369 : (Jvm.Cond.fieldLink "DebateHall$Token" (13 : Nat) "DebateHall$Token" "text" "Ljava/lang/String;") ∈ lw_all := lw_g (lw_at lw_m2 49 rfl) rfl
theorem zq_5_1 : zz_pokF [5] 1 "DebateHall$Token" := zz_pokF1 (zR_5, zT_5, 3) (by decide) rfl rfl rfl
theorem zf_5_2_bateHall_Token : zz_fok [5] 2 "DebateHall$Token" "at" "I" := zz_fok1 (zR_5, zT_5, 3) rfl (by decide) rfl rfl (Or.inl rfl)
theorem q377 : (Jvm.Cond.fieldLink "DebateHall$Token" (17 : Nat) "DebateHall$Token" "at" "I") ∈ lw_all := lw_g (lw_at lw_m2 57 rfl) rfl
theorem zq_5_2 : zz_pokF [5] 2 "DebateHall$Token" := zz_pokF1 (zR_5, zT_5, 3) (by decide) rfl rfl rfl
def wp_X8_init (Z : zzG) (this : Option Nat) (p0 : Option Nat) (p1 : Option Nat) (p2 : Int32) (M : zzM) (K : Option Value → zzM → Prop) : Prop := zty Z M this fun _ => zput Z M this [5] 0 (va_rf p0) fun M1 => zput Z M1 this [5] 1 (va_rf p1) fun M2 => zput Z M2 this [5] 2 (.int p2) fun M3 => K none M3
theorem ok_X8_init {Z : zzG} {l : Launch} (hl : l.stackTraces = false) {this : Option Nat} {p0 : Option Nat} {p1 : Option Nat} {p2 : Int32} {M : zzM} {mc ms : Nat} {K : Option Value → zzM → Prop} (hw : wp_X8_init Z this p0 p1 p2 M K) : zz_Met Z l yX8_init (zz_ws yX8_init cX8_init 4 none none) 2 [va_rf this, va_rf p0, va_rf p1, .int p2] M mc ms K (fun _ _ _ => False) := by
  refine zz_ofW hl (plainFor_of_name (by decide)) (by simp only [zz_sl0, zz_slI, zz_slJ, zz_slA] <;> decide) (fun G hZ hll C E hH hR hin => ?_)
  subst hZ
  subst hll
  rw [show lv_args 0 [va_rf this, va_rf p0, va_rf p1, .int p2] = [(0, va_rf this), (1, va_rf p0), (2, va_rf p1), (3, .int p2)] by simp only [zz_la0, zz_laI, zz_laJ, zz_laA]]
  unfold wp_X8_init at hw
  refine zz_aload_n C dX8_init_0 rfl 0 rfl ?_
  obtain ⟨a9, t9, b9, fs9, hro, hL, hw⟩ := ztyS hw
  refine zz_objInit9 C hR (by decide) hro dX8_init_1 q365 q146 q147 (zz_cat10 _ (Nat.le_of_ble_eq_true rfl)) ?_
  refine zz_aload_n C dX8_init_4 rfl 0 rfl ?_
  refine zz_aload_n C dX8_init_5 rfl 1 rfl ?_
  refine zz_putF C hin dX8_init_6 q366 zf_5_0_bateHall_Token zq_5_0 (zz_hn1 (zz_nA _ rfl p0)) hw (fun M1 hw => ?_)
  refine zz_aload_n C dX8_init_9 rfl 0 rfl ?_
  refine zz_aload_n C dX8_init_10 rfl 2 rfl ?_
  refine zz_putF C hin dX8_init_11 q369 zf_5_1_bateHall_Token zq_5_1 (zz_hn1 (zz_nA _ rfl p1)) hw (fun M2 hw => ?_)
  refine zz_aload_n C dX8_init_14 rfl 0 rfl ?_
  refine zz_iload_n C dX8_init_15 rfl 3 rfl ?_
  refine zz_putF C hin dX8_init_16 q377 zf_5_2_bateHall_Token zq_5_2 (zz_hn1 ⟨rfl, rfl⟩) hw (fun M3 hw => ?_)
  exact zz_vret C E dX8_init_19 hw
abbrev cX7_isLetter : ByteArray := prog_14_method_2_code
def yX7_isLetter : MethodName := ⟨"DebateHall$Scanner", "isLetter", "(I)Z"⟩
def dkwX7_isLetter_0 : List UInt8 := [26, 16, 97, 161, 0, 13, 26, 16, 122, 163, 0, 7, 4, 167, 0, 4, 3, 172]
abbrev dktX7_isLetter_0 : List UInt8 := dkwX7_isLetter_0 ++ []
theorem dksX7_isLetter_0 : cX7_isLetter.data.toList.drop 0 = dktX7_isLetter_0 := by decide +kernel
theorem dX7_isLetter_0 : decode cX7_isLetter 0 = .ok (.iload_n 0, 1) := dk_26 (dk_at dksX7_isLetter_0 0 rfl rfl)
theorem dX7_isLetter_1 : decode cX7_isLetter 1 = .ok (.bipush 97, 2) := dk_16 97 (dk_at dksX7_isLetter_0 1 rfl rfl)
theorem dX7_isLetter_3 : decode cX7_isLetter 3 = .ok (.if_icmp .lt 13, 3) := dk_161 0 13 (dk_at dksX7_isLetter_0 3 rfl rfl)
theorem dX7_isLetter_6 : decode cX7_isLetter 6 = .ok (.iload_n 0, 1) := dk_26 (dk_at dksX7_isLetter_0 6 rfl rfl)
theorem dX7_isLetter_7 : decode cX7_isLetter 7 = .ok (.bipush 122, 2) := dk_16 122 (dk_at dksX7_isLetter_0 7 rfl rfl)
theorem dX7_isLetter_9 : decode cX7_isLetter 9 = .ok (.if_icmp .gt 7, 3) := dk_163 0 7 (dk_at dksX7_isLetter_0 9 rfl rfl)
theorem dX7_isLetter_12 : decode cX7_isLetter 12 = .ok (.iconst 1, 1) := dk_4 (dk_at dksX7_isLetter_0 12 rfl rfl)
theorem dX7_isLetter_13 : decode cX7_isLetter 13 = .ok (.goto 4, 3) := dk_167 0 4 (dk_at dksX7_isLetter_0 13 rfl rfl)
theorem dX7_isLetter_16 : decode cX7_isLetter 16 = .ok (.iconst 0, 1) := dk_3 (dk_at dksX7_isLetter_0 16 rfl rfl)
theorem dX7_isLetter_17 : decode cX7_isLetter 17 = .ok (.ireturn, 1) := dk_172 (dk_at dksX7_isLetter_0 17 rfl rfl)
def wp_X7_isLetter_B17 (Z : zzG) (K : Option Value → zzM → Prop) (s0 : Int32) (M : zzM) : Prop := narrow .boolean (.int s0) = .int s0 ∧ K (some (.int s0)) M
def wp_X7_isLetter_B16 (Z : zzG) (K : Option Value → zzM → Prop) (M : zzM) : Prop := wp_X7_isLetter_B17 Z K (0 : Int32) M
def wp_X7_isLetter (Z : zzG) (p0 : Int32) (M : zzM) (K : Option Value → zzM → Prop) : Prop := if p0 < (97 : Int32) then (wp_X7_isLetter_B16 Z K M) else (if (122 : Int32) < p0 then (wp_X7_isLetter_B16 Z K M) else (wp_X7_isLetter_B17 Z K (1 : Int32) M))
theorem ok_X7_isLetter_B17 {G : zzX} (C : zz_C G cX7_isLetter "DebateHall$Scanner" 1) {K : Option Value → zzM → Prop} (E : zz_E G (some .boolean) K (fun _ _ _ => False)) (hH : zz_H G []) (hR : zz_Rm G 1) {s0 : Int32} {M : zzM} {bc bs : Nat} (hw : wp_X7_isLetter_B17 (zz_Zof G) K s0 M) : zz_T G 1 M bc bs 17 [] [.int s0] := by
  unfold wp_X7_isLetter_B17 at hw
  exact zz_zret C E dX7_isLetter_17 hw
theorem ok_X7_isLetter_B16 {G : zzX} (C : zz_C G cX7_isLetter "DebateHall$Scanner" 1) {K : Option Value → zzM → Prop} (E : zz_E G (some .boolean) K (fun _ _ _ => False)) (hH : zz_H G []) (hR : zz_Rm G 1) {M : zzM} {bc bs : Nat} (hw : wp_X7_isLetter_B16 (zz_Zof G) K M) : zz_T G 1 M bc bs 16 [] [] := by
  unfold wp_X7_isLetter_B16 at hw
  refine zz_iconst (v := (0 : Int32)) C dX7_isLetter_16 (by decide) ?_
  refine zz_subP [] rfl ?_
  exact ok_X7_isLetter_B17 C E hH hR hw
theorem ok_X7_isLetter {Z : zzG} {l : Launch} (hl : l.stackTraces = false) {p0 : Int32} {M : zzM} {mc ms : Nat} {K : Option Value → zzM → Prop} (hw : wp_X7_isLetter Z p0 M K) : zz_Met Z l yX7_isLetter (zz_ws yX7_isLetter cX7_isLetter 1 (some .boolean) none) 1 [.int p0] M mc ms K (fun _ _ _ => False) := by
  refine zz_ofW hl (plainFor_of_name (by decide)) (by simp only [zz_sl0, zz_slI, zz_slJ, zz_slA] <;> decide) (fun G hZ hll C E hH hR hin => ?_)
  subst hZ
  subst hll
  rw [show lv_args 0 [.int p0] = [(0, .int p0)] by simp only [zz_la0, zz_laI, zz_laJ, zz_laA]]
  unfold wp_X7_isLetter at hw
  refine zz_iload_n C dX7_isLetter_0 rfl 0 rfl ?_
  refine zz_bipush (v := (97 : Int32)) C dX7_isLetter_1 (by decide) ?_
  refine zz_icmp_lt (tgt := 16) C dX7_isLetter_3 (by decide) hw (fun hw => ?_) (fun hw => ?_)
  · refine zz_subP [] rfl ?_
    exact ok_X7_isLetter_B16 C E hH hR hw
  · refine zz_iload_n C dX7_isLetter_6 rfl 0 rfl ?_
    refine zz_bipush (v := (122 : Int32)) C dX7_isLetter_7 (by decide) ?_
    refine zz_icmp_gt (tgt := 16) C dX7_isLetter_9 (by decide) hw (fun hw => ?_) (fun hw => ?_)
    · refine zz_subP [] rfl ?_
      exact ok_X7_isLetter_B16 C E hH hR hw
    · refine zz_iconst (v := (1 : Int32)) C dX7_isLetter_12 (by decide) ?_
      refine zz_goto (tgt := 17) C dX7_isLetter_13 (by decide) ?_
      refine zz_subP [] rfl ?_
      exact ok_X7_isLetter_B17 C E hH hR hw
abbrev cX7_isDigit : ByteArray := prog_14_method_3_code
def yX7_isDigit : MethodName := ⟨"DebateHall$Scanner", "isDigit", "(I)Z"⟩
def dkwX7_isDigit_0 : List UInt8 := [26, 16, 48, 161, 0, 13, 26, 16, 57, 163, 0, 7, 4, 167, 0, 4, 3, 172]
abbrev dktX7_isDigit_0 : List UInt8 := dkwX7_isDigit_0 ++ []
theorem dksX7_isDigit_0 : cX7_isDigit.data.toList.drop 0 = dktX7_isDigit_0 := by decide +kernel
theorem dX7_isDigit_0 : decode cX7_isDigit 0 = .ok (.iload_n 0, 1) := dk_26 (dk_at dksX7_isDigit_0 0 rfl rfl)
theorem dX7_isDigit_1 : decode cX7_isDigit 1 = .ok (.bipush 48, 2) := dk_16 48 (dk_at dksX7_isDigit_0 1 rfl rfl)
theorem dX7_isDigit_3 : decode cX7_isDigit 3 = .ok (.if_icmp .lt 13, 3) := dk_161 0 13 (dk_at dksX7_isDigit_0 3 rfl rfl)
theorem dX7_isDigit_6 : decode cX7_isDigit 6 = .ok (.iload_n 0, 1) := dk_26 (dk_at dksX7_isDigit_0 6 rfl rfl)
theorem dX7_isDigit_7 : decode cX7_isDigit 7 = .ok (.bipush 57, 2) := dk_16 57 (dk_at dksX7_isDigit_0 7 rfl rfl)
theorem dX7_isDigit_9 : decode cX7_isDigit 9 = .ok (.if_icmp .gt 7, 3) := dk_163 0 7 (dk_at dksX7_isDigit_0 9 rfl rfl)
theorem dX7_isDigit_12 : decode cX7_isDigit 12 = .ok (.iconst 1, 1) := dk_4 (dk_at dksX7_isDigit_0 12 rfl rfl)
theorem dX7_isDigit_13 : decode cX7_isDigit 13 = .ok (.goto 4, 3) := dk_167 0 4 (dk_at dksX7_isDigit_0 13 rfl rfl)
theorem dX7_isDigit_16 : decode cX7_isDigit 16 = .ok (.iconst 0, 1) := dk_3 (dk_at dksX7_isDigit_0 16 rfl rfl)
theorem dX7_isDigit_17 : decode cX7_isDigit 17 = .ok (.ireturn, 1) := dk_172 (dk_at dksX7_isDigit_0 17 rfl rfl)
def wp_X7_isDigit_B17 (Z : zzG) (K : Option Value → zzM → Prop) (s0 : Int32) (M : zzM) : Prop := narrow .boolean (.int s0) = .int s0 ∧ K (some (.int s0)) M
def wp_X7_isDigit_B16 (Z : zzG) (K : Option Value → zzM → Prop) (M : zzM) : Prop := wp_X7_isDigit_B17 Z K (0 : Int32) M
def wp_X7_isDigit (Z : zzG) (p0 : Int32) (M : zzM) (K : Option Value → zzM → Prop) : Prop := if p0 < (48 : Int32) then (wp_X7_isDigit_B16 Z K M) else (if (57 : Int32) < p0 then (wp_X7_isDigit_B16 Z K M) else (wp_X7_isDigit_B17 Z K (1 : Int32) M))
theorem ok_X7_isDigit_B17 {G : zzX} (C : zz_C G cX7_isDigit "DebateHall$Scanner" 1) {K : Option Value → zzM → Prop} (E : zz_E G (some .boolean) K (fun _ _ _ => False)) (hH : zz_H G []) (hR : zz_Rm G 1) {s0 : Int32} {M : zzM} {bc bs : Nat} (hw : wp_X7_isDigit_B17 (zz_Zof G) K s0 M) : zz_T G 1 M bc bs 17 [] [.int s0] := by
  unfold wp_X7_isDigit_B17 at hw
  exact zz_zret C E dX7_isDigit_17 hw
theorem ok_X7_isDigit_B16 {G : zzX} (C : zz_C G cX7_isDigit "DebateHall$Scanner" 1) {K : Option Value → zzM → Prop} (E : zz_E G (some .boolean) K (fun _ _ _ => False)) (hH : zz_H G []) (hR : zz_Rm G 1) {M : zzM} {bc bs : Nat} (hw : wp_X7_isDigit_B16 (zz_Zof G) K M) : zz_T G 1 M bc bs 16 [] [] := by
  unfold wp_X7_isDigit_B16 at hw
  refine zz_iconst (v := (0 : Int32)) C dX7_isDigit_16 (by decide) ?_
  refine zz_subP [] rfl ?_
  exact ok_X7_isDigit_B17 C E hH hR hw
theorem ok_X7_isDigit {Z : zzG} {l : Launch} (hl : l.stackTraces = false) {p0 : Int32} {M : zzM} {mc ms : Nat} {K : Option Value → zzM → Prop} (hw : wp_X7_isDigit Z p0 M K) : zz_Met Z l yX7_isDigit (zz_ws yX7_isDigit cX7_isDigit 1 (some .boolean) none) 1 [.int p0] M mc ms K (fun _ _ _ => False) := by
  refine zz_ofW hl (plainFor_of_name (by decide)) (by simp only [zz_sl0, zz_slI, zz_slJ, zz_slA] <;> decide) (fun G hZ hll C E hH hR hin => ?_)
  subst hZ
  subst hll
  rw [show lv_args 0 [.int p0] = [(0, .int p0)] by simp only [zz_la0, zz_laI, zz_laJ, zz_laA]]
  unfold wp_X7_isDigit at hw
  refine zz_iload_n C dX7_isDigit_0 rfl 0 rfl ?_
  refine zz_bipush (v := (48 : Int32)) C dX7_isDigit_1 (by decide) ?_
  refine zz_icmp_lt (tgt := 16) C dX7_isDigit_3 (by decide) hw (fun hw => ?_) (fun hw => ?_)
  · refine zz_subP [] rfl ?_
    exact ok_X7_isDigit_B16 C E hH hR hw
  · refine zz_iload_n C dX7_isDigit_6 rfl 0 rfl ?_
    refine zz_bipush (v := (57 : Int32)) C dX7_isDigit_7 (by decide) ?_
    refine zz_icmp_gt (tgt := 16) C dX7_isDigit_9 (by decide) hw (fun hw => ?_) (fun hw => ?_)
    · refine zz_subP [] rfl ?_
      exact ok_X7_isDigit_B16 C E hH hR hw
    · refine zz_iconst (v := (1 : Int32)) C dX7_isDigit_12 (by decide) ?_
      refine zz_goto (tgt := 17) C dX7_isDigit_13 (by decide) ?_
      refine zz_subP [] rfl ?_
      exact ok_X7_isDigit_B17 C E hH hR hw
abbrev cJ5_getValue : ByteArray := prog_28_method_64_code
def yJ5_getValue : MethodName := ⟨"java/lang/AbstractStringBuilder", "getValue", "()[B"⟩
theorem dJ5_getValue_0 : decode cJ5_getValue 0 = .ok (.aload_n 0, 1) := by decide +kernel
theorem dJ5_getValue_1 : decode cJ5_getValue 1 = .ok (.getfield 15, 3) := by decide +kernel
theorem dJ5_getValue_4 : decode cJ5_getValue 4 = .ok (.areturn, 1) := by decide +kernel
def wp_J5_getValue (Z : zzG) (this : Option Nat) (M : zzM) (K : Option Value → zzM → Prop) : Prop := zgA Z M this [20] 0 fun x1 => K (some (va_rf x1)) M
theorem ok_J5_getValue {Z : zzG} {l : Launch} (hl : l.stackTraces = false) {this : Option Nat} {M : zzM} {mc ms : Nat} {K : Option Value → zzM → Prop} (hw : wp_J5_getValue Z this M K) : zz_Met Z l yJ5_getValue (zz_ws yJ5_getValue cJ5_getValue 1 (some (.array .byte)) none) 1 [va_rf this] M mc ms K (fun _ _ _ => False) := by
  refine zz_ofW hl (plainFor_of_name (by decide)) (by simp only [zz_sl0, zz_slI, zz_slJ, zz_slA] <;> decide) (fun G hZ hll C E hH hR hin => ?_)
  subst hZ
  subst hll
  rw [show lv_args 0 [va_rf this] = [(0, va_rf this)] by simp only [zz_la0, zz_laI, zz_laJ, zz_laA]]
  unfold wp_J5_getValue at hw
  refine zz_aload_n C dJ5_getValue_0 rfl 0 rfl ?_
  refine zz_getA C dJ5_getValue_1 (Or.inl q289) zf_20_0_tStringBuilder hw (fun x1 hw => ?_)
  exact zz_aret C E (Or.inr ⟨_, rfl⟩) dJ5_getValue_4 hw
abbrev cJ17_checkLength : ByteArray := prog_61_method_131_code
def yJ17_checkLength : MethodName := ⟨"java/util/Arrays", "checkLength", "(II)V"⟩
def dkwJ17_checkLength_1 : List UInt8 := [182, 0, 50, 27, 182, 0, 54, 182, 0, 61, 183, 0, 65, 191, 177]
abbrev dktJ17_checkLength_1 : List UInt8 := dkwJ17_checkLength_1 ++ []
def dkwJ17_checkLength_0 : List UInt8 := [27, 26, 162, 0, 35, 187, 0, 43, 89, 187, 0, 45, 89, 183, 0, 47, 26, 182, 0, 54, 19, 1, 81]
abbrev dktJ17_checkLength_0 : List UInt8 := dkwJ17_checkLength_0 ++ dktJ17_checkLength_1
theorem dksJ17_checkLength_0 : cJ17_checkLength.data.toList.drop 0 = dktJ17_checkLength_0 := by decide +kernel
theorem dksJ17_checkLength_1 : cJ17_checkLength.data.toList.drop 23 = dktJ17_checkLength_1 := dk_seg dksJ17_checkLength_0 23 rfl rfl
theorem dJ17_checkLength_0 : decode cJ17_checkLength 0 = .ok (.iload_n 1, 1) := dk_27 (dk_at dksJ17_checkLength_0 0 rfl rfl)
theorem dJ17_checkLength_1 : decode cJ17_checkLength 1 = .ok (.iload_n 0, 1) := dk_26 (dk_at dksJ17_checkLength_0 1 rfl rfl)
theorem dJ17_checkLength_2 : decode cJ17_checkLength 2 = .ok (.if_icmp .ge 35, 3) := dk_162 0 35 (dk_at dksJ17_checkLength_0 2 rfl rfl)
theorem dJ17_checkLength_5 : decode cJ17_checkLength 5 = .ok (.new 43, 3) := dk_187 0 43 (dk_at dksJ17_checkLength_0 5 rfl rfl)
theorem dJ17_checkLength_37 : decode cJ17_checkLength 37 = .ok (.return_, 1) := dk_177 (dk_at dksJ17_checkLength_1 14 rfl rfl)
def wp_J17_checkLength (Z : zzG) (p0 : Int32) (p1 : Int32) (M : zzM) (K : Option Value → zzM → Prop) : Prop := if p0 ≤ p1 then (K none M) else (False)
theorem ok_J17_checkLength {Z : zzG} {l : Launch} (hl : l.stackTraces = false) {p0 : Int32} {p1 : Int32} {M : zzM} {mc ms : Nat} {K : Option Value → zzM → Prop} (hw : wp_J17_checkLength Z p0 p1 M K) : zz_Met Z l yJ17_checkLength (zz_ws yJ17_checkLength cJ17_checkLength 2 none none) 1 [.int p0, .int p1] M mc ms K (fun _ _ _ => False) := by
  refine zz_ofW hl (plainFor_of_name (by decide)) (by simp only [zz_sl0, zz_slI, zz_slJ, zz_slA] <;> decide) (fun G hZ hll C E hH hR hin => ?_)
  subst hZ
  subst hll
  rw [show lv_args 0 [.int p0, .int p1] = [(0, .int p0), (1, .int p1)] by simp only [zz_la0, zz_laI, zz_laJ, zz_laA]]
  unfold wp_J17_checkLength at hw
  refine zz_iload_n C dJ17_checkLength_0 rfl 1 rfl ?_
  refine zz_iload_n C dJ17_checkLength_1 rfl 0 rfl ?_
  refine zz_icmp_ge (tgt := 37) C dJ17_checkLength_2 (by decide) hw (fun hw => ?_) (fun hw => ?_)
  · exact zz_vret C E dJ17_checkLength_37 hw
  · exact hw.elim
abbrev cJ17_copyOfRangeByte : ByteArray := prog_61_method_133_code
def yJ17_copyOfRangeByte : MethodName := ⟨"java/util/Arrays", "copyOfRangeByte", "([BII)[B"⟩
def dkwJ17_copyOfRangeByte_1 : List UInt8 := [184, 1, 48, 184, 0, 150, 25, 4, 176]
abbrev dktJ17_copyOfRangeByte_1 : List UInt8 := dkwJ17_copyOfRangeByte_1 ++ []
def dkwJ17_copyOfRangeByte_0 : List UInt8 := [27, 28, 184, 1, 87, 28, 27, 100, 62, 29, 188, 8, 58, 4, 42, 27, 25, 4, 3, 42, 190, 27, 100, 29]
abbrev dktJ17_copyOfRangeByte_0 : List UInt8 := dkwJ17_copyOfRangeByte_0 ++ dktJ17_copyOfRangeByte_1
theorem dksJ17_copyOfRangeByte_0 : cJ17_copyOfRangeByte.data.toList.drop 0 = dktJ17_copyOfRangeByte_0 := by decide +kernel
theorem dksJ17_copyOfRangeByte_1 : cJ17_copyOfRangeByte.data.toList.drop 24 = dktJ17_copyOfRangeByte_1 := dk_seg dksJ17_copyOfRangeByte_0 24 rfl rfl
theorem dJ17_copyOfRangeByte_0 : decode cJ17_copyOfRangeByte 0 = .ok (.iload_n 1, 1) := dk_27 (dk_at dksJ17_copyOfRangeByte_0 0 rfl rfl)
theorem dJ17_copyOfRangeByte_1 : decode cJ17_copyOfRangeByte 1 = .ok (.iload_n 2, 1) := dk_28 (dk_at dksJ17_copyOfRangeByte_0 1 rfl rfl)
theorem dJ17_copyOfRangeByte_2 : decode cJ17_copyOfRangeByte 2 = .ok (.invokestatic 343, 3) := dk_184 1 87 (dk_at dksJ17_copyOfRangeByte_0 2 rfl rfl)
theorem dJ17_copyOfRangeByte_5 : decode cJ17_copyOfRangeByte 5 = .ok (.iload_n 2, 1) := dk_28 (dk_at dksJ17_copyOfRangeByte_0 5 rfl rfl)
theorem dJ17_copyOfRangeByte_6 : decode cJ17_copyOfRangeByte 6 = .ok (.iload_n 1, 1) := dk_27 (dk_at dksJ17_copyOfRangeByte_0 6 rfl rfl)
theorem dJ17_copyOfRangeByte_7 : decode cJ17_copyOfRangeByte 7 = .ok (.isub, 1) := dk_100 (dk_at dksJ17_copyOfRangeByte_0 7 rfl rfl)
theorem dJ17_copyOfRangeByte_8 : decode cJ17_copyOfRangeByte 8 = .ok (.istore_n 3, 1) := dk_62 (dk_at dksJ17_copyOfRangeByte_0 8 rfl rfl)
theorem dJ17_copyOfRangeByte_9 : decode cJ17_copyOfRangeByte 9 = .ok (.iload_n 3, 1) := dk_29 (dk_at dksJ17_copyOfRangeByte_0 9 rfl rfl)
theorem dJ17_copyOfRangeByte_10 : decode cJ17_copyOfRangeByte 10 = .ok (.newarray .byte, 2) := dk_188_8 (dk_at dksJ17_copyOfRangeByte_0 10 rfl rfl)
theorem dJ17_copyOfRangeByte_12 : decode cJ17_copyOfRangeByte 12 = .ok (.astore 4, 2) := dk_58 4 (dk_at dksJ17_copyOfRangeByte_0 12 rfl rfl)
theorem dJ17_copyOfRangeByte_14 : decode cJ17_copyOfRangeByte 14 = .ok (.aload_n 0, 1) := dk_42 (dk_at dksJ17_copyOfRangeByte_0 14 rfl rfl)
theorem dJ17_copyOfRangeByte_15 : decode cJ17_copyOfRangeByte 15 = .ok (.iload_n 1, 1) := dk_27 (dk_at dksJ17_copyOfRangeByte_0 15 rfl rfl)
theorem dJ17_copyOfRangeByte_16 : decode cJ17_copyOfRangeByte 16 = .ok (.aload 4, 2) := dk_25 4 (dk_at dksJ17_copyOfRangeByte_0 16 rfl rfl)
theorem dJ17_copyOfRangeByte_18 : decode cJ17_copyOfRangeByte 18 = .ok (.iconst 0, 1) := dk_3 (dk_at dksJ17_copyOfRangeByte_0 18 rfl rfl)
theorem dJ17_copyOfRangeByte_19 : decode cJ17_copyOfRangeByte 19 = .ok (.aload_n 0, 1) := dk_42 (dk_at dksJ17_copyOfRangeByte_0 19 rfl rfl)
theorem dJ17_copyOfRangeByte_20 : decode cJ17_copyOfRangeByte 20 = .ok (.arraylength, 1) := dk_190 (dk_at dksJ17_copyOfRangeByte_0 20 rfl rfl)
theorem dJ17_copyOfRangeByte_21 : decode cJ17_copyOfRangeByte 21 = .ok (.iload_n 1, 1) := dk_27 (dk_at dksJ17_copyOfRangeByte_0 21 rfl rfl)
theorem dJ17_copyOfRangeByte_22 : decode cJ17_copyOfRangeByte 22 = .ok (.isub, 1) := dk_100 (dk_at dksJ17_copyOfRangeByte_0 22 rfl rfl)
theorem dJ17_copyOfRangeByte_23 : decode cJ17_copyOfRangeByte 23 = .ok (.iload_n 3, 1) := dk_29 (dk_at dksJ17_copyOfRangeByte_0 23 rfl rfl)
theorem dJ17_copyOfRangeByte_24 : decode cJ17_copyOfRangeByte 24 = .ok (.invokestatic 304, 3) := dk_184 1 48 (dk_at dksJ17_copyOfRangeByte_1 0 rfl rfl)
theorem dJ17_copyOfRangeByte_27 : decode cJ17_copyOfRangeByte 27 = .ok (.invokestatic 150, 3) := dk_184 0 150 (dk_at dksJ17_copyOfRangeByte_1 3 rfl rfl)
theorem dJ17_copyOfRangeByte_30 : decode cJ17_copyOfRangeByte 30 = .ok (.aload 4, 2) := dk_25 4 (dk_at dksJ17_copyOfRangeByte_1 6 rfl rfl)
theorem dJ17_copyOfRangeByte_32 : decode cJ17_copyOfRangeByte 32 = .ok (.areturn, 1) := dk_176 (dk_at dksJ17_copyOfRangeByte_1 8 rfl rfl)
theorem q530 : (Jvm.Cond.code ({ cls := "java/util/Arrays", name := "checkLength", desc := "(II)V" } : Jvm.MethodName) prog_61_method_131_code (2 : Nat) (Option.none : Option Jvm.ClassFile.FieldType)) ∈ lw_all := lw_g (lw_at lw_m2 210 rfl) rfl
theorem zk_J17_checkLength : zz_cd yJ17_checkLength cJ17_checkLength 2 none none ∈ lw_all := q530
theorem zy_J17_checkLength : zz_yok yJ17_checkLength 2 = true := by decide +kernel
theorem q528 : (Jvm.Cond.methodLink "java/util/Arrays" (343 : Nat) ({ cls := "java/util/Arrays", name := "checkLength", desc := "(II)V" } : Jvm.MethodName)) ∈ lw_all := lw_g (lw_at lw_m2 208 rfl) rfl
theorem q529 : (Jvm.Cond.static ({ cls := "java/util/Arrays", name := "checkLength", desc := "(II)V" } : Jvm.MethodName)) ∈ lw_all := lw_g (lw_at lw_m2 209 rfl) rfl
def wp_J17_copyOfRangeByte (Z : zzG) (p0 : Option Nat) (p1 : Int32) (p2 : Int32) (M : zzM) (bc bs : Nat) (K : Option Value → zzM → Prop) : Prop := wp_J17_checkLength Z p1 p2 M (fun r1 M2 => zrV r1 (znar Z M2 bc bs 101 (p2 - p1) (.int 0) fun q5 M6 bc7 bs8 => zlen Z M6 p0 fun x9 => wp_J16_min Z (x9 - p1) (p2 - p1) M6 (fun r10 M11 => zrI r10 fun x14 => zcopy Z M11 p0 (some q5) p1 (0 : Int32) x14 fun M15 => K (some (va_rf (some q5))) M15)))
theorem ok_J17_copyOfRangeByte {Z : zzG} {l : Launch} (hl : l.stackTraces = false) {p0 : Option Nat} {p1 : Int32} {p2 : Int32} {M : zzM} {mc ms : Nat} {K : Option Value → zzM → Prop} (hw : wp_J17_copyOfRangeByte Z p0 p1 p2 M mc ms K) : zz_Met Z l yJ17_copyOfRangeByte (zz_ws yJ17_copyOfRangeByte cJ17_copyOfRangeByte 5 (some (.array .byte)) none) 2 [va_rf p0, .int p1, .int p2] M mc ms K (fun _ _ _ => False) := by
  refine zz_ofW hl (plainFor_of_name (by decide)) (by simp only [zz_sl0, zz_slI, zz_slJ, zz_slA] <;> decide) (fun G hZ hll C E hH hR hin => ?_)
  subst hZ
  subst hll
  rw [show lv_args 0 [va_rf p0, .int p1, .int p2] = [(0, va_rf p0), (1, .int p1), (2, .int p2)] by simp only [zz_la0, zz_laI, zz_laJ, zz_laA]]
  unfold wp_J17_copyOfRangeByte at hw
  refine zz_iload_n C dJ17_copyOfRangeByte_0 rfl 1 rfl ?_
  refine zz_iload_n C dJ17_copyOfRangeByte_1 rfl 2 rfl ?_
  refine zz_callS (As := [.int p1, .int p2]) (rest := []) (mc := 0) (ms := 0) C hR dJ17_copyOfRangeByte_2 (Or.inl q528) q529 zl_java_util_Arrays zk_J17_checkLength (Or.inl rfl) zy_J17_checkLength (by decide) (by decide) (ok_J17_checkLength (zz_hl C) hw) (Nat.zero_le _) (Nat.zero_le _) (zz_cat10 _ (Nat.le_of_ble_eq_true rfl)) (fun r1 M2 hw => zz_kV hw (fun hw => ?_)) (fun _ _ _ h9 => h9.elim) rfl
  refine zz_iload_n C dJ17_copyOfRangeByte_5 rfl 2 rfl ?_
  refine zz_iload_n C dJ17_copyOfRangeByte_6 rfl 1 rfl ?_
  refine zz_isub C dJ17_copyOfRangeByte_7 ?_
  refine zz_istore_n (i := 3) (lv' := [(3, .int (p2 - p1)), (0, va_rf p0), (1, .int p1), (2, .int p2)]) C dJ17_copyOfRangeByte_8 rfl (by decide) rfl ?_
  refine zz_iload_n C dJ17_copyOfRangeByte_9 rfl 0 rfl ?_
  refine zz_newar (t := 101) (ty := .byte) C dJ17_copyOfRangeByte_10 rfl rfl (by decide) (fun _ _ h9 => h9) rfl q163 hw (fun q5 M6 bc7 bs8 hw => ?_)
  refine zz_astore (lv' := [(4, va_rf (some q5)), (3, .int (p2 - p1)), (0, va_rf p0), (1, .int p1), (2, .int p2)]) C dJ17_copyOfRangeByte_12 (by decide) rfl ?_
  refine zz_aload_n C dJ17_copyOfRangeByte_14 rfl 2 rfl ?_
  refine zz_iload_n C dJ17_copyOfRangeByte_15 rfl 3 rfl ?_
  refine zz_aload C dJ17_copyOfRangeByte_16 0 rfl ?_
  refine zz_iconst (v := (0 : Int32)) C dJ17_copyOfRangeByte_18 (by decide) ?_
  refine zz_aload_n C dJ17_copyOfRangeByte_19 rfl 2 rfl ?_
  refine zz_alen C dJ17_copyOfRangeByte_20 hw (fun x9 hw => ?_)
  refine zz_iload_n C dJ17_copyOfRangeByte_21 rfl 3 rfl ?_
  refine zz_isub C dJ17_copyOfRangeByte_22 ?_
  refine zz_iload_n C dJ17_copyOfRangeByte_23 rfl 1 rfl ?_
  refine zz_callS (As := [.int (x9 - p1), .int (p2 - p1)]) (rest := [.int (0 : Int32), va_rf (some q5), .int p1, va_rf p0]) (mc := 0) (ms := 0) C hR dJ17_copyOfRangeByte_24 (Or.inl q436) q437 zl_java_lang_Math zk_J16_min (Or.inl rfl) zy_J16_min (by decide) (by decide) (ok_J16_min (zz_hl C) hw) (Nat.zero_le _) (Nat.zero_le _) (zz_cat10 _ (Nat.le_of_ble_eq_true rfl)) (fun r10 M11 hw => zz_kI hw (fun x14 hw => ?_)) (fun _ _ _ h9 => h9.elim) rfl
  refine zz_copy C hR (by decide) dJ17_copyOfRangeByte_27 q439 q441 q440 zl_java_lang_System (zz_cat10 _ (Nat.le_of_ble_eq_true rfl)) hw (fun M15 hw => ?_)
  refine zz_aload C dJ17_copyOfRangeByte_30 0 rfl ?_
  exact zz_aret C E (Or.inr ⟨_, rfl⟩) dJ17_copyOfRangeByte_32 hw
abbrev cJ17_copyOfRange : ByteArray := prog_61_method_132_code
def yJ17_copyOfRange : MethodName := ⟨"java/util/Arrays", "copyOfRange", "([BII)[B"⟩
def dkwJ17_copyOfRange_1 : List UInt8 := [176]
abbrev dktJ17_copyOfRange_1 : List UInt8 := dkwJ17_copyOfRange_1 ++ []
def dkwJ17_copyOfRange_0 : List UInt8 := [27, 154, 0, 9, 28, 42, 190, 159, 0, 10, 42, 27, 28, 184, 1, 83, 176, 42, 182, 1, 54, 192, 1, 55]
abbrev dktJ17_copyOfRange_0 : List UInt8 := dkwJ17_copyOfRange_0 ++ dktJ17_copyOfRange_1
theorem dksJ17_copyOfRange_0 : cJ17_copyOfRange.data.toList.drop 0 = dktJ17_copyOfRange_0 := by decide +kernel
theorem dksJ17_copyOfRange_1 : cJ17_copyOfRange.data.toList.drop 24 = dktJ17_copyOfRange_1 := dk_seg dksJ17_copyOfRange_0 24 rfl rfl
theorem dJ17_copyOfRange_0 : decode cJ17_copyOfRange 0 = .ok (.iload_n 1, 1) := dk_27 (dk_at dksJ17_copyOfRange_0 0 rfl rfl)
theorem dJ17_copyOfRange_1 : decode cJ17_copyOfRange 1 = .ok (.ifCond .ne 9, 3) := dk_154 0 9 (dk_at dksJ17_copyOfRange_0 1 rfl rfl)
theorem dJ17_copyOfRange_4 : decode cJ17_copyOfRange 4 = .ok (.iload_n 2, 1) := dk_28 (dk_at dksJ17_copyOfRange_0 4 rfl rfl)
theorem dJ17_copyOfRange_5 : decode cJ17_copyOfRange 5 = .ok (.aload_n 0, 1) := dk_42 (dk_at dksJ17_copyOfRange_0 5 rfl rfl)
theorem dJ17_copyOfRange_6 : decode cJ17_copyOfRange 6 = .ok (.arraylength, 1) := dk_190 (dk_at dksJ17_copyOfRange_0 6 rfl rfl)
theorem dJ17_copyOfRange_7 : decode cJ17_copyOfRange 7 = .ok (.if_icmp .eq 10, 3) := dk_159 0 10 (dk_at dksJ17_copyOfRange_0 7 rfl rfl)
theorem dJ17_copyOfRange_10 : decode cJ17_copyOfRange 10 = .ok (.aload_n 0, 1) := dk_42 (dk_at dksJ17_copyOfRange_0 10 rfl rfl)
theorem dJ17_copyOfRange_11 : decode cJ17_copyOfRange 11 = .ok (.iload_n 1, 1) := dk_27 (dk_at dksJ17_copyOfRange_0 11 rfl rfl)
theorem dJ17_copyOfRange_12 : decode cJ17_copyOfRange 12 = .ok (.iload_n 2, 1) := dk_28 (dk_at dksJ17_copyOfRange_0 12 rfl rfl)
theorem dJ17_copyOfRange_13 : decode cJ17_copyOfRange 13 = .ok (.invokestatic 339, 3) := dk_184 1 83 (dk_at dksJ17_copyOfRange_0 13 rfl rfl)
theorem dJ17_copyOfRange_16 : decode cJ17_copyOfRange 16 = .ok (.areturn, 1) := dk_176 (dk_at dksJ17_copyOfRange_0 16 rfl rfl)
theorem dJ17_copyOfRange_17 : decode cJ17_copyOfRange 17 = .ok (.aload_n 0, 1) := dk_42 (dk_at dksJ17_copyOfRange_0 17 rfl rfl)
theorem dJ17_copyOfRange_18 : decode cJ17_copyOfRange 18 = .ok (.invokevirtual 310, 3) := dk_182 1 54 (dk_at dksJ17_copyOfRange_0 18 rfl rfl)
theorem dJ17_copyOfRange_21 : decode cJ17_copyOfRange 21 = .ok (.checkcast 311, 3) := dk_192 1 55 (dk_at dksJ17_copyOfRange_0 21 rfl rfl)
theorem dJ17_copyOfRange_24 : decode cJ17_copyOfRange 24 = .ok (.areturn, 1) := dk_176 (dk_at dksJ17_copyOfRange_1 0 rfl rfl)
theorem q429 : (Jvm.Cond.methodLink "java/util/Arrays" (310 : Nat) ({ cls := "[B", name := "clone", desc := "()Ljava/lang/Object;" } : Jvm.MethodName)) ∈ lw_all := lw_g (lw_at lw_m2 109 rfl) rfl
theorem q430 : (Jvm.Cond.sameMethod "[B" "java/lang/Object" "clone" "()Ljava/lang/Object;") ∈ lw_all := lw_g (lw_at lw_m2 110 rfl) rfl
theorem q431 : (Jvm.Cond.native ({ cls := "java/lang/Object", name := "clone", desc := "()Ljava/lang/Object;" } : Jvm.MethodName)) ∈ lw_all := lw_g (lw_at lw_m2 111 rfl) rfl
theorem q432 : (Jvm.Cond.instanceMethod ({ cls := "java/lang/Object", name := "clone", desc := "()Ljava/lang/Object;" } : Jvm.MethodName)) ∈ lw_all := lw_g (lw_at lw_m2 112 rfl) rfl
theorem q433 : (Jvm.Cond.selects "[B" ({ cls := "[B", name := "clone", desc := "()Ljava/lang/Object;" } : Jvm.MethodName) ({ cls := "java/lang/Object", name := "clone", desc := "()Ljava/lang/Object;" } : Jvm.MethodName)) ∈ lw_all := lw_g (lw_at lw_m2 113 rfl) rfl
theorem q434 : (Jvm.Cond.castable "[B" "java/lang/Cloneable") ∈ lw_tbl := lw_at lw_m2 114 rfl
theorem q435 : (Jvm.Cond.classLink "java/util/Arrays" (311 : Nat) "[B") ∈ lw_all := lw_g (lw_at lw_m2 115 rfl) rfl
theorem q527 : (Jvm.Cond.code ({ cls := "java/util/Arrays", name := "copyOfRangeByte", desc := "([BII)[B" } : Jvm.MethodName) prog_61_method_133_code (5 : Nat) (Option.some (Jvm.ClassFile.FieldType.array Jvm.ClassFile.FieldType.byte))) ∈ lw_all := lw_g (lw_at lw_m2 207 rfl) rfl
theorem zk_J17_copyOfRangeByte : zz_cd yJ17_copyOfRangeByte cJ17_copyOfRangeByte 5 (some (.array .byte)) none ∈ lw_all := q527
theorem zy_J17_copyOfRangeByte : zz_yok yJ17_copyOfRangeByte 3 = true := by decide +kernel
theorem q525 : (Jvm.Cond.methodLink "java/util/Arrays" (339 : Nat) ({ cls := "java/util/Arrays", name := "copyOfRangeByte", desc := "([BII)[B" } : Jvm.MethodName)) ∈ lw_all := lw_g (lw_at lw_m2 205 rfl) rfl
theorem q526 : (Jvm.Cond.static ({ cls := "java/util/Arrays", name := "copyOfRangeByte", desc := "([BII)[B" } : Jvm.MethodName)) ∈ lw_all := lw_g (lw_at lw_m2 206 rfl) rfl
def wp_J17_copyOfRange_B10 (Z : zzG) (K : Option Value → zzM → Prop) (v0 : Option Nat) (v1 : Int32) (v2 : Int32) (M : zzM) (bc bs : Nat) : Prop := zcc bc bs (fun c s k => wp_J17_copyOfRangeByte Z v0 v1 v2 M c s k) fun r6 M7 bc8 bs9 => zrA r6 fun x10 => K (some (va_rf x10)) M7
def wp_J17_copyOfRange (Z : zzG) (p0 : Option Nat) (p1 : Int32) (p2 : Int32) (M : zzM) (bc bs : Nat) (K : Option Value → zzM → Prop) : Prop := if p1 = 0 then (zlen Z M p0 fun x1 => if p2 = x1 then (zclone Z M bc bs p0 fun q2 M3 bc4 bs5 => zcastA Z M3 (some q2) 101 <| K (some (va_rf (some q2))) M3) else (wp_J17_copyOfRange_B10 Z K p0 p1 p2 M bc bs)) else (wp_J17_copyOfRange_B10 Z K p0 p1 p2 M bc bs)
theorem ok_J17_copyOfRange_B10 {G : zzX} (C : zz_C G cJ17_copyOfRange "java/util/Arrays" 3) {K : Option Value → zzM → Prop} (E : zz_E G (some (.array .byte)) K (fun _ _ _ => False)) (hH : zz_H G []) (hR : zz_Rm G 3) {v0 : Option Nat} {v1 : Int32} {v2 : Int32} {M : zzM} {bc bs : Nat} (hw : wp_J17_copyOfRange_B10 (zz_Zof G) K v0 v1 v2 M bc bs) : zz_T G 3 M bc bs 10 [(0, va_rf v0), (1, .int v1), (2, .int v2)] [] := by
  unfold wp_J17_copyOfRange_B10 at hw
  refine zz_aload_n C dJ17_copyOfRange_10 rfl 0 rfl ?_
  refine zz_iload_n C dJ17_copyOfRange_11 rfl 1 rfl ?_
  refine zz_iload_n C dJ17_copyOfRange_12 rfl 2 rfl ?_
  obtain ⟨c9, s9, hc9, hs9, hw⟩ := hw
  refine zz_callS (As := [va_rf v0, .int v1, .int v2]) (rest := []) C hR dJ17_copyOfRange_13 (Or.inl q525) q526 zl_java_util_Arrays zk_J17_copyOfRangeByte (Or.inl rfl) zy_J17_copyOfRangeByte (by decide) (by decide) (ok_J17_copyOfRangeByte (zz_hl C) hw) hc9 hs9 (zz_cat10 _ (Nat.le_of_ble_eq_true rfl)) (fun r6 M7 hw => zz_kA hw (fun x10 hw => ?_)) (fun _ _ _ h9 => h9.elim) rfl
  exact zz_aret C E (Or.inr ⟨_, rfl⟩) dJ17_copyOfRange_16 hw
theorem ok_J17_copyOfRange {Z : zzG} {l : Launch} (hl : l.stackTraces = false) {p0 : Option Nat} {p1 : Int32} {p2 : Int32} {M : zzM} {mc ms : Nat} {K : Option Value → zzM → Prop} (hw : wp_J17_copyOfRange Z p0 p1 p2 M mc ms K) : zz_Met Z l yJ17_copyOfRange (zz_ws yJ17_copyOfRange cJ17_copyOfRange 3 (some (.array .byte)) none) 3 [va_rf p0, .int p1, .int p2] M mc ms K (fun _ _ _ => False) := by
  refine zz_ofW hl (plainFor_of_name (by decide)) (by simp only [zz_sl0, zz_slI, zz_slJ, zz_slA] <;> decide) (fun G hZ hll C E hH hR hin => ?_)
  subst hZ
  subst hll
  rw [show lv_args 0 [va_rf p0, .int p1, .int p2] = [(0, va_rf p0), (1, .int p1), (2, .int p2)] by simp only [zz_la0, zz_laI, zz_laJ, zz_laA]]
  unfold wp_J17_copyOfRange at hw
  refine zz_iload_n C dJ17_copyOfRange_0 rfl 1 rfl ?_
  refine zz_if_ne (tgt := 10) C dJ17_copyOfRange_1 (by decide) hw (fun hw => ?_) (fun hw => ?_)
  · refine zz_subP [0, 1, 2] rfl ?_
    exact ok_J17_copyOfRange_B10 C E hH hR hw
  · refine zz_iload_n C dJ17_copyOfRange_4 rfl 2 rfl ?_
    refine zz_aload_n C dJ17_copyOfRange_5 rfl 0 rfl ?_
    refine zz_alen C dJ17_copyOfRange_6 hw (fun x1 hw => ?_)
    refine zz_icmp_eq (tgt := 17) C dJ17_copyOfRange_7 (by decide) hw (fun hw => ?_) (fun hw => ?_)
    · refine zz_aload_n C dJ17_copyOfRange_17 rfl 0 rfl ?_
      refine zz_clone C hR (by decide) dJ17_copyOfRange_18 q429 q430 q431 q432 q433 q434 (zz_cat10 _ (Nat.le_of_ble_eq_true rfl)) hw (fun q2 M3 bc4 bs5 hw => ?_)
      refine zz_castA (t := 101) C dJ17_copyOfRange_21 q435 rfl (fun _ _ h9 => h9) hw (fun hw => ?_)
      exact zz_aret C E (Or.inr ⟨_, rfl⟩) dJ17_copyOfRange_24 hw
    · refine zz_subP [0, 1, 2] rfl ?_
      exact ok_J17_copyOfRange_B10 C E hH hR hw
abbrev cJ7_init_2 : ByteArray := prog_46_method_150_code
def yJ7_init_2 : MethodName := ⟨"java/lang/String", "<init>", "(Ljava/lang/AbstractStringBuilder;Ljava/lang/Void;)V"⟩
def dkwJ7_init_2_4 : List UInt8 := [181, 0, 9, 177]
abbrev dktJ7_init_2_4 : List UInt8 := dkwJ7_init_2_4 ++ []
def dkwJ7_init_2_3 : List UInt8 := [184, 0, 47, 181, 0, 15, 177, 42, 4, 181, 0, 15, 42, 45, 3, 21, 4, 4, 120, 184, 0, 54]
abbrev dktJ7_init_2_3 : List UInt8 := dkwJ7_init_2_3 ++ dktJ7_init_2_4
def dkwJ7_init_2_2 : List UInt8 := [180, 4, 24, 153, 0, 28, 42, 45, 3, 21, 4, 184, 4, 27, 181, 0, 9, 42, 42, 180, 0, 9, 21, 4]
abbrev dktJ7_init_2_2 : List UInt8 := dkwJ7_init_2_2 ++ dktJ7_init_2_3
def dkwJ7_init_2_1 : List UInt8 := [181, 0, 15, 42, 45, 3, 21, 4, 184, 0, 54, 181, 0, 9, 167, 0, 59, 178, 0, 38, 153, 0, 35, 43]
abbrev dktJ7_init_2_1 : List UInt8 := dkwJ7_init_2_1 ++ dktJ7_init_2_2
def dkwJ7_init_2_0 : List UInt8 := [42, 183, 0, 1, 43, 182, 2, 40, 78, 43, 182, 2, 37, 54, 4, 43, 182, 4, 23, 153, 0, 22, 42, 3]
abbrev dktJ7_init_2_0 : List UInt8 := dkwJ7_init_2_0 ++ dktJ7_init_2_1
theorem dksJ7_init_2_0 : cJ7_init_2.data.toList.drop 0 = dktJ7_init_2_0 := by decide +kernel
theorem dksJ7_init_2_1 : cJ7_init_2.data.toList.drop 24 = dktJ7_init_2_1 := dk_seg dksJ7_init_2_0 24 rfl rfl
theorem dksJ7_init_2_2 : cJ7_init_2.data.toList.drop 48 = dktJ7_init_2_2 := dk_seg dksJ7_init_2_1 24 rfl rfl
theorem dksJ7_init_2_3 : cJ7_init_2.data.toList.drop 72 = dktJ7_init_2_3 := dk_seg dksJ7_init_2_2 24 rfl rfl
theorem dksJ7_init_2_4 : cJ7_init_2.data.toList.drop 94 = dktJ7_init_2_4 := dk_seg dksJ7_init_2_3 22 rfl rfl
theorem dJ7_init_2_0 : decode cJ7_init_2 0 = .ok (.aload_n 0, 1) := dk_42 (dk_at dksJ7_init_2_0 0 rfl rfl)
theorem dJ7_init_2_1 : decode cJ7_init_2 1 = .ok (.invokespecial 1, 3) := dk_183 0 1 (dk_at dksJ7_init_2_0 1 rfl rfl)
theorem dJ7_init_2_4 : decode cJ7_init_2 4 = .ok (.aload_n 1, 1) := dk_43 (dk_at dksJ7_init_2_0 4 rfl rfl)
theorem dJ7_init_2_5 : decode cJ7_init_2 5 = .ok (.invokevirtual 552, 3) := dk_182 2 40 (dk_at dksJ7_init_2_0 5 rfl rfl)
theorem dJ7_init_2_8 : decode cJ7_init_2 8 = .ok (.astore_n 3, 1) := dk_78 (dk_at dksJ7_init_2_0 8 rfl rfl)
theorem dJ7_init_2_9 : decode cJ7_init_2 9 = .ok (.aload_n 1, 1) := dk_43 (dk_at dksJ7_init_2_0 9 rfl rfl)
theorem dJ7_init_2_10 : decode cJ7_init_2 10 = .ok (.invokevirtual 549, 3) := dk_182 2 37 (dk_at dksJ7_init_2_0 10 rfl rfl)
theorem dJ7_init_2_13 : decode cJ7_init_2 13 = .ok (.istore 4, 2) := dk_54 4 (dk_at dksJ7_init_2_0 13 rfl rfl)
theorem dJ7_init_2_15 : decode cJ7_init_2 15 = .ok (.aload_n 1, 1) := dk_43 (dk_at dksJ7_init_2_0 15 rfl rfl)
theorem dJ7_init_2_16 : decode cJ7_init_2 16 = .ok (.invokevirtual 1047, 3) := dk_182 4 23 (dk_at dksJ7_init_2_0 16 rfl rfl)
theorem dJ7_init_2_19 : decode cJ7_init_2 19 = .ok (.ifCond .eq 22, 3) := dk_153 0 22 (dk_at dksJ7_init_2_0 19 rfl rfl)
theorem dJ7_init_2_22 : decode cJ7_init_2 22 = .ok (.aload_n 0, 1) := dk_42 (dk_at dksJ7_init_2_0 22 rfl rfl)
theorem dJ7_init_2_23 : decode cJ7_init_2 23 = .ok (.iconst 0, 1) := dk_3 (dk_at dksJ7_init_2_0 23 rfl rfl)
theorem dJ7_init_2_24 : decode cJ7_init_2 24 = .ok (.putfield 15, 3) := dk_181 0 15 (dk_at dksJ7_init_2_1 0 rfl rfl)
theorem dJ7_init_2_27 : decode cJ7_init_2 27 = .ok (.aload_n 0, 1) := dk_42 (dk_at dksJ7_init_2_1 3 rfl rfl)
theorem dJ7_init_2_28 : decode cJ7_init_2 28 = .ok (.aload_n 3, 1) := dk_45 (dk_at dksJ7_init_2_1 4 rfl rfl)
theorem dJ7_init_2_29 : decode cJ7_init_2 29 = .ok (.iconst 0, 1) := dk_3 (dk_at dksJ7_init_2_1 5 rfl rfl)
theorem dJ7_init_2_30 : decode cJ7_init_2 30 = .ok (.iload 4, 2) := dk_21 4 (dk_at dksJ7_init_2_1 6 rfl rfl)
theorem dJ7_init_2_32 : decode cJ7_init_2 32 = .ok (.invokestatic 54, 3) := dk_184 0 54 (dk_at dksJ7_init_2_1 8 rfl rfl)
theorem dJ7_init_2_35 : decode cJ7_init_2 35 = .ok (.putfield 9, 3) := dk_181 0 9 (dk_at dksJ7_init_2_1 11 rfl rfl)
theorem dJ7_init_2_38 : decode cJ7_init_2 38 = .ok (.goto 59, 3) := dk_167 0 59 (dk_at dksJ7_init_2_1 14 rfl rfl)
theorem dJ7_init_2_41 : decode cJ7_init_2 41 = .ok (.getstatic 38, 3) := dk_178 0 38 (dk_at dksJ7_init_2_1 17 rfl rfl)
theorem dJ7_init_2_44 : decode cJ7_init_2 44 = .ok (.ifCond .eq 35, 3) := dk_153 0 35 (dk_at dksJ7_init_2_1 20 rfl rfl)
theorem dJ7_init_2_47 : decode cJ7_init_2 47 = .ok (.aload_n 1, 1) := dk_43 (dk_at dksJ7_init_2_1 23 rfl rfl)
theorem dJ7_init_2_48 : decode cJ7_init_2 48 = .ok (.getfield 1048, 3) := dk_180 4 24 (dk_at dksJ7_init_2_2 0 rfl rfl)
theorem dJ7_init_2_51 : decode cJ7_init_2 51 = .ok (.ifCond .eq 28, 3) := dk_153 0 28 (dk_at dksJ7_init_2_2 3 rfl rfl)
theorem dJ7_init_2_54 : decode cJ7_init_2 54 = .ok (.aload_n 0, 1) := dk_42 (dk_at dksJ7_init_2_2 6 rfl rfl)
theorem dJ7_init_2_55 : decode cJ7_init_2 55 = .ok (.aload_n 3, 1) := dk_45 (dk_at dksJ7_init_2_2 7 rfl rfl)
theorem dJ7_init_2_56 : decode cJ7_init_2 56 = .ok (.iconst 0, 1) := dk_3 (dk_at dksJ7_init_2_2 8 rfl rfl)
theorem dJ7_init_2_57 : decode cJ7_init_2 57 = .ok (.iload 4, 2) := dk_21 4 (dk_at dksJ7_init_2_2 9 rfl rfl)
theorem dJ7_init_2_59 : decode cJ7_init_2 59 = .ok (.invokestatic 1051, 3) := dk_184 4 27 (dk_at dksJ7_init_2_2 11 rfl rfl)
theorem dJ7_init_2_79 : decode cJ7_init_2 79 = .ok (.aload_n 0, 1) := dk_42 (dk_at dksJ7_init_2_3 7 rfl rfl)
theorem dJ7_init_2_80 : decode cJ7_init_2 80 = .ok (.iconst 1, 1) := dk_4 (dk_at dksJ7_init_2_3 8 rfl rfl)
theorem dJ7_init_2_81 : decode cJ7_init_2 81 = .ok (.putfield 15, 3) := dk_181 0 15 (dk_at dksJ7_init_2_3 9 rfl rfl)
theorem dJ7_init_2_84 : decode cJ7_init_2 84 = .ok (.aload_n 0, 1) := dk_42 (dk_at dksJ7_init_2_3 12 rfl rfl)
theorem dJ7_init_2_85 : decode cJ7_init_2 85 = .ok (.aload_n 3, 1) := dk_45 (dk_at dksJ7_init_2_3 13 rfl rfl)
theorem dJ7_init_2_86 : decode cJ7_init_2 86 = .ok (.iconst 0, 1) := dk_3 (dk_at dksJ7_init_2_3 14 rfl rfl)
theorem dJ7_init_2_87 : decode cJ7_init_2 87 = .ok (.iload 4, 2) := dk_21 4 (dk_at dksJ7_init_2_3 15 rfl rfl)
theorem dJ7_init_2_89 : decode cJ7_init_2 89 = .ok (.iconst 1, 1) := dk_4 (dk_at dksJ7_init_2_3 17 rfl rfl)
theorem dJ7_init_2_90 : decode cJ7_init_2 90 = .ok (.ishl, 1) := dk_120 (dk_at dksJ7_init_2_3 18 rfl rfl)
theorem dJ7_init_2_91 : decode cJ7_init_2 91 = .ok (.invokestatic 54, 3) := dk_184 0 54 (dk_at dksJ7_init_2_3 19 rfl rfl)
theorem dJ7_init_2_94 : decode cJ7_init_2 94 = .ok (.putfield 9, 3) := dk_181 0 9 (dk_at dksJ7_init_2_4 0 rfl rfl)
theorem dJ7_init_2_97 : decode cJ7_init_2 97 = .ok (.return_, 1) := dk_177 (dk_at dksJ7_init_2_4 3 rfl rfl)
theorem q507 : (Jvm.Cond.methodLink "java/lang/String" (1 : Nat) ({ cls := "java/lang/Object", name := "<init>", desc := "()V" } : Jvm.MethodName)) ∈ lw_all := lw_g (lw_at lw_m2 187 rfl) rfl
theorem q512 : (Jvm.Cond.code ({ cls := "java/lang/AbstractStringBuilder", name := "getValue", desc := "()[B" } : Jvm.MethodName) prog_28_method_64_code (1 : Nat) (Option.some (Jvm.ClassFile.FieldType.array Jvm.ClassFile.FieldType.byte))) ∈ lw_all := lw_g (lw_at lw_m2 192 rfl) rfl
theorem zk_J5_getValue : zz_cd yJ5_getValue cJ5_getValue 1 (some (.array .byte)) none ∈ lw_all := q512
theorem zy_J5_getValue : zz_yok yJ5_getValue 0 = true := by decide +kernel
theorem q292 : (Jvm.Cond.fieldLink "java/lang/String" (1048 : Nat) "java/lang/AbstractStringBuilder" "maybeLatin1" "Z") ∈ lw_all := lw_g (lw_at lw_m1 212 rfl) rfl
theorem zq_21_1 : zz_pokF [21] 1 "java/lang/String" := zz_pokF1 (zR_21, zT_21, 4) (by decide) rfl rfl rfl
theorem q524 : (Jvm.Cond.code ({ cls := "java/util/Arrays", name := "copyOfRange", desc := "([BII)[B" } : Jvm.MethodName) prog_61_method_132_code (3 : Nat) (Option.some (Jvm.ClassFile.FieldType.array Jvm.ClassFile.FieldType.byte))) ∈ lw_all := lw_g (lw_at lw_m2 204 rfl) rfl
theorem zk_J17_copyOfRange : zz_cd yJ17_copyOfRange cJ17_copyOfRange 3 (some (.array .byte)) none ∈ lw_all := q524
theorem zy_J17_copyOfRange : zz_yok yJ17_copyOfRange 3 = true := by decide +kernel
theorem zq_21_0 : zz_pokF [21] 0 "java/lang/String" := zz_pokF1 (zR_21, zT_21, 4) (by decide) rfl rfl rfl
theorem q522 : (Jvm.Cond.methodLink "java/lang/String" (54 : Nat) ({ cls := "java/util/Arrays", name := "copyOfRange", desc := "([BII)[B" } : Jvm.MethodName)) ∈ lw_all := lw_g (lw_at lw_m2 202 rfl) rfl
theorem q523 : (Jvm.Cond.static ({ cls := "java/util/Arrays", name := "copyOfRange", desc := "([BII)[B" } : Jvm.MethodName)) ∈ lw_all := lw_g (lw_at lw_m2 203 rfl) rfl
theorem q521 : (Jvm.Cond.methodLink "java/lang/String" (1047 : Nat) ({ cls := "java/lang/AbstractStringBuilder", name := "isLatin1", desc := "()Z" } : Jvm.MethodName)) ∈ lw_all := lw_g (lw_at lw_m2 201 rfl) rfl
theorem q513 : (Jvm.Cond.methodLink "java/lang/String" (549 : Nat) ({ cls := "java/lang/AbstractStringBuilder", name := "length", desc := "()I" } : Jvm.MethodName)) ∈ lw_all := lw_g (lw_at lw_m2 193 rfl) rfl
theorem q516 : (Jvm.Cond.selects "java/lang/StringBuilder" ({ cls := "java/lang/AbstractStringBuilder", name := "length", desc := "()I" } : Jvm.MethodName) ({ cls := "java/lang/StringBuilder", name := "length", desc := "()I" } : Jvm.MethodName)) ∈ lw_all := lw_g (lw_at lw_m2 196 rfl) rfl
theorem zyo_java_lang_AbstractStringBuilder_length___I : zz_yok ⟨"java/lang/AbstractStringBuilder", "length", "()I"⟩ 0 = true := by decide +kernel
theorem q508 : (Jvm.Cond.methodLink "java/lang/String" (552 : Nat) ({ cls := "java/lang/AbstractStringBuilder", name := "getValue", desc := "()[B" } : Jvm.MethodName)) ∈ lw_all := lw_g (lw_at lw_m2 188 rfl) rfl
theorem q509 : (Jvm.Cond.instanceMethod ({ cls := "java/lang/AbstractStringBuilder", name := "getValue", desc := "()[B" } : Jvm.MethodName)) ∈ lw_all := lw_g (lw_at lw_m2 189 rfl) rfl
theorem q511 : (Jvm.Cond.selects "java/lang/StringBuilder" ({ cls := "java/lang/AbstractStringBuilder", name := "getValue", desc := "()[B" } : Jvm.MethodName) ({ cls := "java/lang/AbstractStringBuilder", name := "getValue", desc := "()[B" } : Jvm.MethodName)) ∈ lw_all := lw_g (lw_at lw_m2 191 rfl) rfl
def wp_J7_init_2_B97 (Z : zzG) (K : Option Value → zzM → Prop) (M : zzM) (bc bs : Nat) : Prop := K none M
def wp_J7_init_2_B79 (Z : zzG) (K : Option Value → zzM → Prop) (v0 : Option Nat) (v3 : Option Nat) (v4 : Int32) (M : zzM) (bc bs : Nat) : Prop := zfit .byte (1 : Int32) ∧ zput Z M v0 [21] 1 (.int (1 : Int32)) fun M24 => zcc bc bs (fun c s k => wp_J17_copyOfRange Z v3 (0 : Int32) (v4 <<< ((1 : Int32) &&& 31)) M24 c s k) fun r25 M26 bc27 bs28 => zrA r25 fun x29 => zput Z M26 v0 [21] 0 (va_rf x29) fun M30 => wp_J7_init_2_B97 Z K M30 bc27 bs28
def wp_J7_init_2 (Z : zzG) (this : Option Nat) (p0 : Option Nat) (p1 : Option Nat) (M : zzM) (bc bs : Nat) (K : Option Value → zzM → Prop) : Prop := zty Z M this fun _ => zty Z M p0 fun t => t = 20 ∧ wp_J5_getValue Z p0 M (fun r1 M2 => zrA r1 fun x5 => zty Z M2 p0 fun t => t = 20 ∧ wp_J6_length Z p0 M2 (fun r6 M7 => zrI r6 fun x10 => zty Z M7 p0 fun t => t = 20 ∧ wp_J5_isLatin1 Z p0 M7 (fun r11 M12 => zrI r11 fun x15 => if x15 = 0 then (if (1 : Int32) = 0 then (wp_J7_init_2_B79 Z K this x5 x10 M12 bc bs) else (zgI Z M12 p0 [20] 2 fun x16 => if x16 = 0 then (wp_J7_init_2_B79 Z K this x5 x10 M12 bc bs) else (False))) else (zfit .byte (0 : Int32) ∧ zput Z M12 this [21] 1 (.int (0 : Int32)) fun M17 => zcc bc bs (fun c s k => wp_J17_copyOfRange Z x5 (0 : Int32) x10 M17 c s k) fun r18 M19 bc20 bs21 => zrA r18 fun x22 => zput Z M19 this [21] 0 (va_rf x22) fun M23 => wp_J7_init_2_B97 Z K M23 bc20 bs21))))
theorem ok_J7_init_2_B97 {G : zzX} (C : zz_C G cJ7_init_2 "java/lang/String" 5) {K : Option Value → zzM → Prop} (E : zz_E G none K (fun _ _ _ => False)) (hH : zz_H G []) (hR : zz_Rm G 4) (hin : (zz_meth G).name = "<init>") {M : zzM} {bc bs : Nat} (hw : wp_J7_init_2_B97 (zz_Zof G) K M bc bs) : zz_T G 5 M bc bs 97 [] [] := by
  unfold wp_J7_init_2_B97 at hw
  exact zz_vret C E dJ7_init_2_97 hw
theorem ok_J7_init_2_B79 {G : zzX} (C : zz_C G cJ7_init_2 "java/lang/String" 5) {K : Option Value → zzM → Prop} (E : zz_E G none K (fun _ _ _ => False)) (hH : zz_H G []) (hR : zz_Rm G 4) (hin : (zz_meth G).name = "<init>") {v0 : Option Nat} {v3 : Option Nat} {v4 : Int32} {M : zzM} {bc bs : Nat} (hw : wp_J7_init_2_B79 (zz_Zof G) K v0 v3 v4 M bc bs) : zz_T G 5 M bc bs 79 [(0, va_rf v0), (3, va_rf v3), (4, .int v4)] [] := by
  unfold wp_J7_init_2_B79 at hw
  refine zz_aload_n C dJ7_init_2_79 rfl 0 rfl ?_
  refine zz_iconst (v := (1 : Int32)) C dJ7_init_2_80 (by decide) ?_
  obtain ⟨hfit, hw⟩ := hw
  refine zz_putF C hin dJ7_init_2_81 q690 zf_21_1_va_lang_String zq_21_1 (zz_hn1 hfit) hw (fun M24 hw => ?_)
  refine zz_aload_n C dJ7_init_2_84 rfl 0 rfl ?_
  refine zz_aload_n C dJ7_init_2_85 rfl 1 rfl ?_
  refine zz_iconst (v := (0 : Int32)) C dJ7_init_2_86 (by decide) ?_
  refine zz_iload C dJ7_init_2_87 2 rfl ?_
  refine zz_iconst (v := (1 : Int32)) C dJ7_init_2_89 (by decide) ?_
  refine zz_ishl C dJ7_init_2_90 ?_
  obtain ⟨c9, s9, hc9, hs9, hw⟩ := hw
  refine zz_callS (As := [va_rf v3, .int (0 : Int32), .int (v4 <<< ((1 : Int32) &&& 31))]) (rest := [va_rf v0]) C hR dJ7_init_2_91 (Or.inl q522) q523 zl_java_util_Arrays zk_J17_copyOfRange (Or.inl rfl) zy_J17_copyOfRange (by decide) (by decide) (ok_J17_copyOfRange (zz_hl C) hw) hc9 hs9 (zz_cat10 _ (Nat.le_of_ble_eq_true rfl)) (fun r25 M26 hw => zz_kA hw (fun x29 hw => ?_)) (fun _ _ _ h9 => h9.elim) rfl
  refine zz_putF C hin dJ7_init_2_94 q689 zf_21_0_va_lang_String zq_21_0 (zz_hn1 (zz_nA _ rfl x29)) hw (fun M30 hw => ?_)
  refine zz_subP [] rfl ?_
  exact ok_J7_init_2_B97 C E hH hR hin hw
theorem ok_J7_init_2 {Z : zzG} {l : Launch} (hl : l.stackTraces = false) {this : Option Nat} {p0 : Option Nat} {p1 : Option Nat} {M : zzM} {mc ms : Nat} {K : Option Value → zzM → Prop} (hw : wp_J7_init_2 Z this p0 p1 M mc ms K) : zz_Met Z l yJ7_init_2 (zz_ws yJ7_init_2 cJ7_init_2 5 none none) 4 [va_rf this, va_rf p0, va_rf p1] M mc ms K (fun _ _ _ => False) := by
  refine zz_ofW hl (plainFor_of_name (by decide)) (by simp only [zz_sl0, zz_slI, zz_slJ, zz_slA] <;> decide) (fun G hZ hll C E hH hR hin => ?_)
  subst hZ
  subst hll
  rw [show lv_args 0 [va_rf this, va_rf p0, va_rf p1] = [(0, va_rf this), (1, va_rf p0), (2, va_rf p1)] by simp only [zz_la0, zz_laI, zz_laJ, zz_laA]]
  unfold wp_J7_init_2 at hw
  refine zz_aload_n C dJ7_init_2_0 rfl 0 rfl ?_
  obtain ⟨a9, t9, b9, fs9, hro, hL, hw⟩ := ztyS hw
  refine zz_objInit9 C hR (by decide) hro dJ7_init_2_1 q507 q146 q147 (zz_cat10 _ (Nat.le_of_ble_eq_true rfl)) ?_
  refine zz_aload_n C dJ7_init_2_4 rfl 1 rfl ?_
  obtain ⟨a9, t9, b9, fs9, hro, hL, rfl, hw⟩ := ztyS hw
  refine zz_callV (r := (zR_20, zT_20, 4)) (As := []) (rest := []) (mc := 0) (ms := 0) C hR hro dJ7_init_2_5 (Or.inl q508) q509 (Or.inl q511) zl_java_lang_AbstractStringBuilder zk_J5_getValue (Or.inl rfl) zy_J5_getValue rfl (by decide) (by decide) hL (ok_J5_getValue (zz_hl C) hw) (Nat.zero_le _) (Nat.zero_le _) (zz_cat10 _ (Nat.le_of_ble_eq_true rfl)) (fun r1 M2 hw => zz_kA hw (fun x5 hw => ?_)) (fun _ _ _ h9 => h9.elim) rfl
  refine zz_astore_n (i := 3) (lv' := [(3, va_rf x5), (0, va_rf this), (1, va_rf p0), (2, va_rf p1)]) C dJ7_init_2_8 rfl (by decide) (by simp [zz_cat, zz_catI, zz_catJ, zz_catD]) ?_
  refine zz_aload_n C dJ7_init_2_9 rfl 2 rfl ?_
  obtain ⟨a9, t9, b9, fs9, hro, hL, rfl, hw⟩ := ztyS hw
  refine zz_callU (r := (zR_20, zT_20, 4)) (x := ⟨"java/lang/AbstractStringBuilder", "length", "()I"⟩) (owner := "java/lang/AbstractStringBuilder") (As := []) (rest := []) (mc := 0) (ms := 0) C hR hro dJ7_init_2_10 q513 q515 (Or.inr ⟨_, _, _, q514, q520⟩) q517 q516 zl_java_lang_StringBuilder zk_J6_length zyo_java_lang_AbstractStringBuilder_length___I rfl (by decide) (by decide) hL (ok_J6_length (zz_hl C) hw) (Nat.zero_le _) (Nat.zero_le _) (zz_cat10 _ (Nat.le_of_ble_eq_true rfl)) (fun r6 M7 hw => zz_kI hw (fun x10 hw => ?_)) (fun _ _ _ h9 => h9.elim) rfl
  refine zz_istore (lv' := [(4, .int x10), (3, va_rf x5), (0, va_rf this), (1, va_rf p0), (2, va_rf p1)]) C dJ7_init_2_13 (by decide) (by simp [zz_cat, zz_catI, zz_catJ, zz_catD]) ?_
  refine zz_aload_n C dJ7_init_2_15 rfl 3 rfl ?_
  obtain ⟨a9, t9, b9, fs9, hro, hL, rfl, hw⟩ := ztyS hw
  refine zz_callV (r := (zR_20, zT_20, 4)) (As := []) (rest := []) (mc := 0) (ms := 0) C hR hro dJ7_init_2_16 (Or.inl q521) q443 (Or.inl q445) zl_java_lang_AbstractStringBuilder zk_J5_isLatin1 (Or.inl rfl) zy_J5_isLatin1 rfl (by decide) (by decide) hL (ok_J5_isLatin1 (zz_hl C) hw) (Nat.zero_le _) (Nat.zero_le _) (zz_cat10 _ (Nat.le_of_ble_eq_true rfl)) (fun r11 M12 hw => zz_kI hw (fun x15 hw => ?_)) (fun _ _ _ h9 => h9.elim) rfl
  refine zz_if_eq (tgt := 41) C dJ7_init_2_19 (by decide) hw (fun hw => ?_) (fun hw => ?_)
  · refine zz_gets (j := 14) (v := .int (1 : Int32)) C dJ7_init_2_41 (Or.inl q634) rfl (Or.inl rfl) rfl ?_
    refine zz_if_eq (tgt := 79) C dJ7_init_2_44 (by decide) hw (fun hw => ?_) (fun hw => ?_)
    · refine zz_subP [2, 1, 0] rfl ?_
      exact ok_J7_init_2_B79 C E hH hR hin hw
    · refine zz_aload_n C dJ7_init_2_47 rfl 3 rfl ?_
      refine zz_getI C dJ7_init_2_48 (Or.inl q292) zf_20_2_tStringBuilder hw (fun x16 hw => ?_)
      refine zz_if_eq (tgt := 79) C dJ7_init_2_51 (by decide) hw (fun hw => ?_) (fun hw => ?_)
      · refine zz_subP [2, 1, 0] rfl ?_
        exact ok_J7_init_2_B79 C E hH hR hin hw
      · refine zz_aload_n C dJ7_init_2_54 rfl 2 rfl ?_
        refine zz_aload_n C dJ7_init_2_55 rfl 1 rfl ?_
        refine zz_iconst (v := (0 : Int32)) C dJ7_init_2_56 (by decide) ?_
        refine zz_iload C dJ7_init_2_57 0 rfl ?_
        exact hw.elim
  · refine zz_aload_n C dJ7_init_2_22 rfl 2 rfl ?_
    refine zz_iconst (v := (0 : Int32)) C dJ7_init_2_23 (by decide) ?_
    obtain ⟨hfit, hw⟩ := hw
    refine zz_putF C hin dJ7_init_2_24 q690 zf_21_1_va_lang_String zq_21_1 (zz_hn1 hfit) hw (fun M17 hw => ?_)
    refine zz_aload_n C dJ7_init_2_27 rfl 2 rfl ?_
    refine zz_aload_n C dJ7_init_2_28 rfl 1 rfl ?_
    refine zz_iconst (v := (0 : Int32)) C dJ7_init_2_29 (by decide) ?_
    refine zz_iload C dJ7_init_2_30 0 rfl ?_
    obtain ⟨c9, s9, hc9, hs9, hw⟩ := hw
    refine zz_callS (As := [va_rf x5, .int (0 : Int32), .int x10]) (rest := [va_rf this]) C hR dJ7_init_2_32 (Or.inl q522) q523 zl_java_util_Arrays zk_J17_copyOfRange (Or.inl rfl) zy_J17_copyOfRange (by decide) (by decide) (ok_J17_copyOfRange (zz_hl C) hw) hc9 hs9 (zz_cat10 _ (Nat.le_of_ble_eq_true rfl)) (fun r18 M19 hw => zz_kA hw (fun x22 hw => ?_)) (fun _ _ _ h9 => h9.elim) rfl
    refine zz_putF C hin dJ7_init_2_35 q689 zf_21_0_va_lang_String zq_21_0 (zz_hn1 (zz_nA _ rfl x22)) hw (fun M23 hw => ?_)
    refine zz_goto (tgt := 97) C dJ7_init_2_38 (by decide) ?_
    refine zz_subP [] rfl ?_
    exact ok_J7_init_2_B97 C E hH hR hin hw
abbrev cJ7_init : ByteArray := prog_46_method_53_code
def yJ7_init : MethodName := ⟨"java/lang/String", "<init>", "(Ljava/lang/StringBuilder;)V"⟩
def dkwJ7_init_0 : List UInt8 := [42, 43, 1, 183, 1, 233, 177]
abbrev dktJ7_init_0 : List UInt8 := dkwJ7_init_0 ++ []
theorem dksJ7_init_0 : cJ7_init.data.toList.drop 0 = dktJ7_init_0 := by decide +kernel
theorem dJ7_init_0 : decode cJ7_init 0 = .ok (.aload_n 0, 1) := dk_42 (dk_at dksJ7_init_0 0 rfl rfl)
theorem dJ7_init_1 : decode cJ7_init 1 = .ok (.aload_n 1, 1) := dk_43 (dk_at dksJ7_init_0 1 rfl rfl)
theorem dJ7_init_2 : decode cJ7_init 2 = .ok (.aconst_null, 1) := dk_1 (dk_at dksJ7_init_0 2 rfl rfl)
theorem dJ7_init_3 : decode cJ7_init 3 = .ok (.invokespecial 489, 3) := dk_183 1 233 (dk_at dksJ7_init_0 3 rfl rfl)
theorem dJ7_init_6 : decode cJ7_init 6 = .ok (.return_, 1) := dk_177 (dk_at dksJ7_init_0 6 rfl rfl)
theorem q506 : (Jvm.Cond.code ({ cls := "java/lang/String", name := "<init>", desc := "(Ljava/lang/AbstractStringBuilder;Ljava/lang/Void;)V" } : Jvm.MethodName) prog_46_method_150_code (5 : Nat) (Option.none : Option Jvm.ClassFile.FieldType)) ∈ lw_all := lw_g (lw_at lw_m2 186 rfl) rfl
theorem zk_J7_init_2 : zz_cd yJ7_init_2 cJ7_init_2 5 none none ∈ lw_all := q506
theorem zy_J7_init_2 : zz_yok yJ7_init_2 2 = true := by decide +kernel
theorem q504 : (Jvm.Cond.methodLink "java/lang/String" (489 : Nat) ({ cls := "java/lang/String", name := "<init>", desc := "(Ljava/lang/AbstractStringBuilder;Ljava/lang/Void;)V" } : Jvm.MethodName)) ∈ lw_all := lw_g (lw_at lw_m2 184 rfl) rfl
theorem q505 : (Jvm.Cond.instanceMethod ({ cls := "java/lang/String", name := "<init>", desc := "(Ljava/lang/AbstractStringBuilder;Ljava/lang/Void;)V" } : Jvm.MethodName)) ∈ lw_all := lw_g (lw_at lw_m2 185 rfl) rfl
def wp_J7_init (Z : zzG) (this : Option Nat) (p0 : Option Nat) (M : zzM) (bc bs : Nat) (K : Option Value → zzM → Prop) : Prop := zty Z M this fun _ => zcc bc bs (fun c s k => wp_J7_init_2 Z this p0 none M c s k) fun r1 M2 bc3 bs4 => zrV r1 (K none M2)
theorem ok_J7_init {Z : zzG} {l : Launch} (hl : l.stackTraces = false) {this : Option Nat} {p0 : Option Nat} {M : zzM} {mc ms : Nat} {K : Option Value → zzM → Prop} (hw : wp_J7_init Z this p0 M mc ms K) : zz_Met Z l yJ7_init (zz_ws yJ7_init cJ7_init 2 none none) 5 [va_rf this, va_rf p0] M mc ms K (fun _ _ _ => False) := by
  refine zz_ofW hl (plainFor_of_name (by decide)) (by simp only [zz_sl0, zz_slI, zz_slJ, zz_slA] <;> decide) (fun G hZ hll C E hH hR hin => ?_)
  subst hZ
  subst hll
  rw [show lv_args 0 [va_rf this, va_rf p0] = [(0, va_rf this), (1, va_rf p0)] by simp only [zz_la0, zz_laI, zz_laJ, zz_laA]]
  unfold wp_J7_init at hw
  refine zz_aload_n C dJ7_init_0 rfl 0 rfl ?_
  refine zz_aload_n C dJ7_init_1 rfl 1 rfl ?_
  refine zz_null C dJ7_init_2 ?_
  obtain ⟨a9, t9, b9, fs9, hro, hL, hw⟩ := ztyS hw
  obtain ⟨c9, s9, hc9, hs9, hw⟩ := hw
  refine zz_callI (As := [va_rf p0, va_rf none]) (rest := []) C hR hro dJ7_init_3 (Or.inl q504) q505 zl_java_lang_String zk_J7_init_2 rfl zy_J7_init_2 (by decide) (by decide) (ok_J7_init_2 (zz_hl C) hw) hc9 hs9 (zz_cat10 _ (Nat.le_of_ble_eq_true rfl)) (fun r1 M2 hw => zz_kV hw (fun hw => ?_)) (fun _ _ _ h9 => h9.elim) rfl
  exact zz_vret C E dJ7_init_6 hw
abbrev cJ6_toString : ByteArray := prog_47_method_42_code
def yJ6_toString : MethodName := ⟨"java/lang/StringBuilder", "toString", "()Ljava/lang/String;"⟩
def dkwJ6_toString_0 : List UInt8 := [187, 0, 18, 89, 42, 183, 0, 137, 176]
abbrev dktJ6_toString_0 : List UInt8 := dkwJ6_toString_0 ++ []
theorem dksJ6_toString_0 : cJ6_toString.data.toList.drop 0 = dktJ6_toString_0 := by decide +kernel
theorem dJ6_toString_0 : decode cJ6_toString 0 = .ok (.new 18, 3) := dk_187 0 18 (dk_at dksJ6_toString_0 0 rfl rfl)
theorem dJ6_toString_3 : decode cJ6_toString 3 = .ok (.dup, 1) := dk_89 (dk_at dksJ6_toString_0 3 rfl rfl)
theorem dJ6_toString_4 : decode cJ6_toString 4 = .ok (.aload_n 0, 1) := dk_42 (dk_at dksJ6_toString_0 4 rfl rfl)
theorem dJ6_toString_5 : decode cJ6_toString 5 = .ok (.invokespecial 137, 3) := dk_183 0 137 (dk_at dksJ6_toString_0 5 rfl rfl)
theorem dJ6_toString_8 : decode cJ6_toString 8 = .ok (.areturn, 1) := dk_176 (dk_at dksJ6_toString_0 8 rfl rfl)
theorem q499 : (Jvm.Cond.classLink "java/lang/StringBuilder" (18 : Nat) "java/lang/String") ∈ lw_all := lw_g (lw_at lw_m2 179 rfl) rfl
theorem q503 : (Jvm.Cond.code ({ cls := "java/lang/String", name := "<init>", desc := "(Ljava/lang/StringBuilder;)V" } : Jvm.MethodName) prog_46_method_53_code (2 : Nat) (Option.none : Option Jvm.ClassFile.FieldType)) ∈ lw_all := lw_g (lw_at lw_m2 183 rfl) rfl
theorem zk_J7_init : zz_cd yJ7_init cJ7_init 2 none none ∈ lw_all := q503
theorem zy_J7_init : zz_yok yJ7_init 1 = true := by decide +kernel
theorem q501 : (Jvm.Cond.methodLink "java/lang/StringBuilder" (137 : Nat) ({ cls := "java/lang/String", name := "<init>", desc := "(Ljava/lang/StringBuilder;)V" } : Jvm.MethodName)) ∈ lw_all := lw_g (lw_at lw_m2 181 rfl) rfl
theorem q502 : (Jvm.Cond.instanceMethod ({ cls := "java/lang/String", name := "<init>", desc := "(Ljava/lang/StringBuilder;)V" } : Jvm.MethodName)) ∈ lw_all := lw_g (lw_at lw_m2 182 rfl) rfl
def wp_J6_toString (Z : zzG) (this : Option Nat) (M : zzM) (bc bs : Nat) (K : Option Value → zzM → Prop) : Prop := znew Z M bc bs 21 4 [.null, .int 0, .int 0, .int 0] fun q1 M2 bc3 bs4 => zcc bc3 bs4 (fun c s k => wp_J7_init Z (some q1) this M2 c s k) fun r5 M6 bc7 bs8 => zrV r5 (K (some (va_rf (some q1))) M6)
theorem ok_J6_toString {Z : zzG} {l : Launch} (hl : l.stackTraces = false) {this : Option Nat} {M : zzM} {mc ms : Nat} {K : Option Value → zzM → Prop} (hw : wp_J6_toString Z this M mc ms K) : zz_Met Z l yJ6_toString (zz_ws yJ6_toString cJ6_toString 1 (some (.object "java/lang/String")) none) 6 [va_rf this] M mc ms K (fun _ _ _ => False) := by
  refine zz_ofW hl (plainFor_of_name (by decide)) (by simp only [zz_sl0, zz_slI, zz_slJ, zz_slA] <;> decide) (fun G hZ hll C E hH hR hin => ?_)
  subst hZ
  subst hll
  rw [show lv_args 0 [va_rf this] = [(0, va_rf this)] by simp only [zz_la0, zz_laI, zz_laJ, zz_laA]]
  unfold wp_J6_toString at hw
  refine zz_new (r := (zR_21, zT_21, 4)) C dJ6_toString_0 rfl (by decide) q499 q500 zl_java_lang_String rfl hw (fun q1 M2 bc3 bs4 hw => ?_)
  refine zz_dup C dJ6_toString_3 (zz_cat _) ?_
  refine zz_aload_n C dJ6_toString_4 rfl 0 rfl ?_
  obtain ⟨c9, s9, hc9, hs9, hw⟩ := hw
  refine zz_callI (As := [va_rf this]) (rest := [va_rf (some q1)]) C hR rfl dJ6_toString_5 (Or.inl q501) q502 zl_java_lang_String zk_J7_init rfl zy_J7_init (by decide) (by decide) (ok_J7_init (zz_hl C) hw) hc9 hs9 (zz_cat10 _ (Nat.le_of_ble_eq_true rfl)) (fun r5 M6 hw => zz_kV hw (fun hw => ?_)) (fun _ _ _ h9 => h9.elim) rfl
  exact zz_aret C E (Or.inl ⟨_, rfl⟩) dJ6_toString_8 hw
abbrev cX2_text : ByteArray := prog_19_method_4_code
def yX2_text : MethodName := ⟨"DebateHall$Tape", "text", "(II)Ljava/lang/String;"⟩
def dkwX2_text_1 : List UInt8 := [146, 182, 0, 26, 87, 132, 4, 1, 167, 255, 235, 45, 182, 0, 30, 176]
abbrev dktX2_text_1 : List UInt8 := dkwX2_text_1 ++ []
def dkwX2_text_0 : List UInt8 := [187, 0, 19, 89, 183, 0, 21, 78, 27, 54, 4, 21, 4, 28, 162, 0, 21, 45, 42, 21, 4, 182, 0, 22]
abbrev dktX2_text_0 : List UInt8 := dkwX2_text_0 ++ dktX2_text_1
theorem dksX2_text_0 : cX2_text.data.toList.drop 0 = dktX2_text_0 := by decide +kernel
theorem dksX2_text_1 : cX2_text.data.toList.drop 24 = dktX2_text_1 := dk_seg dksX2_text_0 24 rfl rfl
theorem dX2_text_0 : decode cX2_text 0 = .ok (.new 19, 3) := dk_187 0 19 (dk_at dksX2_text_0 0 rfl rfl)
theorem dX2_text_3 : decode cX2_text 3 = .ok (.dup, 1) := dk_89 (dk_at dksX2_text_0 3 rfl rfl)
theorem dX2_text_4 : decode cX2_text 4 = .ok (.invokespecial 21, 3) := dk_183 0 21 (dk_at dksX2_text_0 4 rfl rfl)
theorem dX2_text_7 : decode cX2_text 7 = .ok (.astore_n 3, 1) := dk_78 (dk_at dksX2_text_0 7 rfl rfl)
theorem dX2_text_8 : decode cX2_text 8 = .ok (.iload_n 1, 1) := dk_27 (dk_at dksX2_text_0 8 rfl rfl)
theorem dX2_text_9 : decode cX2_text 9 = .ok (.istore 4, 2) := dk_54 4 (dk_at dksX2_text_0 9 rfl rfl)
theorem dX2_text_11 : decode cX2_text 11 = .ok (.iload 4, 2) := dk_21 4 (dk_at dksX2_text_0 11 rfl rfl)
theorem dX2_text_13 : decode cX2_text 13 = .ok (.iload_n 2, 1) := dk_28 (dk_at dksX2_text_0 13 rfl rfl)
theorem dX2_text_14 : decode cX2_text 14 = .ok (.if_icmp .ge 21, 3) := dk_162 0 21 (dk_at dksX2_text_0 14 rfl rfl)
theorem dX2_text_17 : decode cX2_text 17 = .ok (.aload_n 3, 1) := dk_45 (dk_at dksX2_text_0 17 rfl rfl)
theorem dX2_text_18 : decode cX2_text 18 = .ok (.aload_n 0, 1) := dk_42 (dk_at dksX2_text_0 18 rfl rfl)
theorem dX2_text_19 : decode cX2_text 19 = .ok (.iload 4, 2) := dk_21 4 (dk_at dksX2_text_0 19 rfl rfl)
theorem dX2_text_21 : decode cX2_text 21 = .ok (.invokevirtual 22, 3) := dk_182 0 22 (dk_at dksX2_text_0 21 rfl rfl)
theorem dX2_text_24 : decode cX2_text 24 = .ok (.i2c, 1) := dk_146 (dk_at dksX2_text_1 0 rfl rfl)
theorem dX2_text_25 : decode cX2_text 25 = .ok (.invokevirtual 26, 3) := dk_182 0 26 (dk_at dksX2_text_1 1 rfl rfl)
theorem dX2_text_28 : decode cX2_text 28 = .ok (.pop, 1) := dk_87 (dk_at dksX2_text_1 4 rfl rfl)
theorem dX2_text_29 : decode cX2_text 29 = .ok (.iinc 4 1, 3) := dk_132 4 1 (dk_at dksX2_text_1 5 rfl rfl)
theorem dX2_text_32 : decode cX2_text 32 = .ok (.goto (-21), 3) := dk_167 255 235 (dk_at dksX2_text_1 8 rfl rfl)
theorem dX2_text_35 : decode cX2_text 35 = .ok (.aload_n 3, 1) := dk_45 (dk_at dksX2_text_1 11 rfl rfl)
theorem dX2_text_36 : decode cX2_text 36 = .ok (.invokevirtual 30, 3) := dk_182 0 30 (dk_at dksX2_text_1 12 rfl rfl)
theorem dX2_text_39 : decode cX2_text 39 = .ok (.areturn, 1) := dk_176 (dk_at dksX2_text_1 15 rfl rfl)
theorem q397 : (Jvm.Cond.classLink "DebateHall$Tape" (19 : Nat) "java/lang/StringBuilder") ∈ lw_all := lw_g (lw_at lw_m2 77 rfl) rfl
theorem q398 : (Jvm.Cond.methodLink "DebateHall$Tape" (21 : Nat) ({ cls := "java/lang/StringBuilder", name := "<init>", desc := "()V" } : Jvm.MethodName)) ∈ lw_all := lw_g (lw_at lw_m2 78 rfl) rfl
theorem q498 : (Jvm.Cond.code ({ cls := "java/lang/StringBuilder", name := "toString", desc := "()Ljava/lang/String;" } : Jvm.MethodName) prog_47_method_42_code (1 : Nat) (Option.some (Jvm.ClassFile.FieldType.object "java/lang/String"))) ∈ lw_all := lw_g (lw_at lw_m2 178 rfl) rfl
theorem zk_J6_toString : zz_cd yJ6_toString cJ6_toString 1 (some (.object "java/lang/String")) none ∈ lw_all := q498
theorem zy_J6_toString : zz_yok yJ6_toString 0 = true := by decide +kernel
theorem q495 : (Jvm.Cond.methodLink "DebateHall$Tape" (30 : Nat) ({ cls := "java/lang/StringBuilder", name := "toString", desc := "()Ljava/lang/String;" } : Jvm.MethodName)) ∈ lw_all := lw_g (lw_at lw_m2 175 rfl) rfl
theorem q496 : (Jvm.Cond.instanceMethod ({ cls := "java/lang/StringBuilder", name := "toString", desc := "()Ljava/lang/String;" } : Jvm.MethodName)) ∈ lw_all := lw_g (lw_at lw_m2 176 rfl) rfl
theorem q497 : (Jvm.Cond.selects "java/lang/StringBuilder" ({ cls := "java/lang/StringBuilder", name := "toString", desc := "()Ljava/lang/String;" } : Jvm.MethodName) ({ cls := "java/lang/StringBuilder", name := "toString", desc := "()Ljava/lang/String;" } : Jvm.MethodName)) ∈ lw_all := lw_g (lw_at lw_m2 177 rfl) rfl
theorem q345 : (Jvm.Cond.code ({ cls := "DebateHall$Tape", name := "at", desc := "(I)I" } : Jvm.MethodName) prog_19_method_3_code (2 : Nat) (Option.some Jvm.ClassFile.FieldType.int)) ∈ lw_all := lw_g (lw_at lw_m2 25 rfl) rfl
theorem zk_X2_at : zz_cd yX2_at cX2_at 2 (some .int) none ∈ lw_all := q345
theorem zy_X2_at : zz_yok yX2_at 1 = true := by decide +kernel
theorem q400 : (Jvm.Cond.methodLink "DebateHall$Tape" (26 : Nat) ({ cls := "java/lang/StringBuilder", name := "append", desc := "(C)Ljava/lang/StringBuilder;" } : Jvm.MethodName)) ∈ lw_all := lw_g (lw_at lw_m2 80 rfl) rfl
theorem q399 : (Jvm.Cond.methodLink "DebateHall$Tape" (22 : Nat) ({ cls := "DebateHall$Tape", name := "at", desc := "(I)I" } : Jvm.MethodName)) ∈ lw_all := lw_g (lw_at lw_m2 79 rfl) rfl
theorem q343 : (Jvm.Cond.instanceMethod ({ cls := "DebateHall$Tape", name := "at", desc := "(I)I" } : Jvm.MethodName)) ∈ lw_all := lw_g (lw_at lw_m2 23 rfl) rfl
theorem q344 : (Jvm.Cond.selects "DebateHall$Tape" ({ cls := "DebateHall$Tape", name := "at", desc := "(I)I" } : Jvm.MethodName) ({ cls := "DebateHall$Tape", name := "at", desc := "(I)I" } : Jvm.MethodName)) ∈ lw_all := lw_g (lw_at lw_m2 24 rfl) rfl
def wp_X2_text_L11 (Z : zzG) (K : Option Value → zzM → Prop) : Nat → Option Nat → Int32 → Option Nat → Int32 → zzM → Nat → Nat → Prop
  | 0, _, _, _, _, _, _, _ => False
  | n + 1, v0, v2, v3, v4, M, bc, bs => if v2 ≤ v4 then (zty Z M v3 fun t => t = 20 ∧ zcc bc bs (fun c s k => wp_J6_toString Z v3 M c s k) fun r9 M10 bc11 bs12 => zrA r9 fun x13 => K (some (va_rf x13)) M10) else (zty Z M v0 fun t => t = 1 ∧ wp_X2_at Z v0 v4 M (fun r14 M15 => zrI r14 fun x18 => zty Z M15 v3 fun t => t = 20 ∧ zcc bc bs (fun c s k => wp_J6_append Z v3 ((x18.toUInt32 % 65536).toInt32) M15 c s k) fun r19 M20 bc21 bs22 => zrA r19 fun x23 => wp_X2_text_L11 Z K n v0 v2 v3 (v4 + 1) M20 bc21 bs22))
def wp_X2_text (Z : zzG) (this : Option Nat) (p0 : Int32) (p1 : Int32) (M : zzM) (bc bs : Nat) (K : Option Value → zzM → Prop) : Prop := znew Z M bc bs 20 4 [.null, .int 0, .int 0, .int 0] fun q1 M2 bc3 bs4 => zcc bc3 bs4 (fun c s k => wp_J6_init Z (some q1) M2 c s k) fun r5 M6 bc7 bs8 => zrV r5 (∃ n11 : Nat, wp_X2_text_L11 Z K n11 this p1 (some q1) p0 M6 bc7 bs8)
theorem ok_X2_text_L11 {G : zzX} (C : zz_C G cX2_text "DebateHall$Tape" 5) {K : Option Value → zzM → Prop} (E : zz_E G (some (.object "java/lang/String")) K (fun _ _ _ => False)) (hH : zz_H G []) (hR : zz_Rm G 7) : ∀ (n : Nat) (v0 : Option Nat) (v2 : Int32) (v3 : Option Nat) (v4 : Int32) (M : zzM) (bc bs : Nat), wp_X2_text_L11 (zz_Zof G) K n v0 v2 v3 v4 M bc bs → zz_T G 5 M bc bs 11 [(0, va_rf v0), (2, .int v2), (3, va_rf v3), (4, .int v4)] [] := by
  intro n
  induction n with
  | zero =>
    intro v0 v2 v3 v4 M bc bs hw
    exact False.elim hw
  | succ n ih =>
    intro v0 v2 v3 v4 M bc bs hw
    refine zz_iload C dX2_text_11 3 rfl ?_
    refine zz_iload_n C dX2_text_13 rfl 1 rfl ?_
    refine zz_icmp_ge (tgt := 35) C dX2_text_14 (by decide) hw (fun hw => ?_) (fun hw => ?_)
    · refine zz_aload_n C dX2_text_35 rfl 2 rfl ?_
      obtain ⟨a9, t9, b9, fs9, hro, hL, rfl, hw⟩ := ztyS hw
      obtain ⟨c9, s9, hc9, hs9, hw⟩ := hw
      refine zz_callV (r := (zR_20, zT_20, 4)) (As := []) (rest := []) C hR hro dX2_text_36 (Or.inl q495) q496 (Or.inl q497) zl_java_lang_StringBuilder zk_J6_toString (Or.inl rfl) zy_J6_toString rfl (by decide) (by decide) hL (ok_J6_toString (zz_hl C) hw) hc9 hs9 (zz_cat10 _ (Nat.le_of_ble_eq_true rfl)) (fun r9 M10 hw => zz_kA hw (fun x13 hw => ?_)) (fun _ _ _ h9 => h9.elim) rfl
      exact zz_aret C E (Or.inl ⟨_, rfl⟩) dX2_text_39 hw
    · refine zz_aload_n C dX2_text_17 rfl 2 rfl ?_
      refine zz_aload_n C dX2_text_18 rfl 0 rfl ?_
      refine zz_iload C dX2_text_19 3 rfl ?_
      obtain ⟨a9, t9, b9, fs9, hro, hL, rfl, hw⟩ := ztyS hw
      refine zz_callV (r := (zR_1, zT_1, 2)) (As := [.int v4]) (rest := [va_rf v3]) (mc := 0) (ms := 0) C hR hro dX2_text_21 (Or.inl q399) q343 (Or.inl q344) zl_DebateHall_Tape zk_X2_at (Or.inl rfl) zy_X2_at rfl (by decide) (by decide) hL (ok_X2_at (zz_hl C) hw) (Nat.zero_le _) (Nat.zero_le _) (zz_cat10 _ (Nat.le_of_ble_eq_true rfl)) (fun r14 M15 hw => zz_kI hw (fun x18 hw => ?_)) (fun _ _ _ h9 => h9.elim) rfl
      refine zz_i2c C dX2_text_24 ?_
      obtain ⟨a9, t9, b9, fs9, hro, hL, rfl, hw⟩ := ztyS hw
      obtain ⟨c9, s9, hc9, hs9, hw⟩ := hw
      refine zz_callV (r := (zR_20, zT_20, 4)) (As := [.int ((x18.toUInt32 % 65536).toInt32)]) (rest := []) C hR hro dX2_text_25 (Or.inl q400) q401 (Or.inl q402) zl_java_lang_StringBuilder zk_J6_append (Or.inl rfl) zy_J6_append rfl (by decide) (by decide) hL (ok_J6_append (zz_hl C) hw) hc9 hs9 (zz_cat10 _ (Nat.le_of_ble_eq_true rfl)) (fun r19 M20 hw => zz_kA hw (fun x23 hw => ?_)) (fun _ _ _ h9 => h9.elim) rfl
      refine zz_pop C dX2_text_28 (zz_cat _) ?_
      refine zz_iinc (lv' := [(4, .int (v4 + 1)), (0, va_rf v0), (2, .int v2), (3, va_rf v3)]) C dX2_text_29 3 rfl (by rfl) (by decide) (by simp [zz_cat, zz_catI, zz_catJ, zz_catD]) ?_
      refine zz_goto (tgt := 11) C dX2_text_32 (by decide) ?_
      refine zz_subP [1, 2, 3, 0] rfl ?_
      exact ih _ _ _ _ _ _ _ hw
theorem ok_X2_text {Z : zzG} {l : Launch} (hl : l.stackTraces = false) {this : Option Nat} {p0 : Int32} {p1 : Int32} {M : zzM} {mc ms : Nat} {K : Option Value → zzM → Prop} (hw : wp_X2_text Z this p0 p1 M mc ms K) : zz_Met Z l yX2_text (zz_ws yX2_text cX2_text 5 (some (.object "java/lang/String")) none) 7 [va_rf this, .int p0, .int p1] M mc ms K (fun _ _ _ => False) := by
  refine zz_ofW hl (plainFor_of_name (by decide)) (by simp only [zz_sl0, zz_slI, zz_slJ, zz_slA] <;> decide) (fun G hZ hll C E hH hR hin => ?_)
  subst hZ
  subst hll
  rw [show lv_args 0 [va_rf this, .int p0, .int p1] = [(0, va_rf this), (1, .int p0), (2, .int p1)] by simp only [zz_la0, zz_laI, zz_laJ, zz_laA]]
  unfold wp_X2_text at hw
  refine zz_new (r := (zR_20, zT_20, 4)) C dX2_text_0 rfl (by decide) q397 q272 zl_java_lang_StringBuilder rfl hw (fun q1 M2 bc3 bs4 hw => ?_)
  refine zz_dup C dX2_text_3 (zz_cat _) ?_
  obtain ⟨c9, s9, hc9, hs9, hw⟩ := hw
  refine zz_callI (As := []) (rest := [va_rf (some q1)]) C hR rfl dX2_text_4 (Or.inl q398) q274 zl_java_lang_StringBuilder zk_J6_init rfl zy_J6_init (by decide) (by decide) (ok_J6_init (zz_hl C) hw) hc9 hs9 (zz_cat10 _ (Nat.le_of_ble_eq_true rfl)) (fun r5 M6 hw => zz_kV hw (fun hw => ?_)) (fun _ _ _ h9 => h9.elim) rfl
  refine zz_astore_n (i := 3) (lv' := [(3, va_rf (some q1)), (0, va_rf this), (1, .int p0), (2, .int p1)]) C dX2_text_7 rfl (by decide) rfl ?_
  refine zz_iload_n C dX2_text_8 rfl 2 rfl ?_
  refine zz_istore (lv' := [(4, .int p0), (3, va_rf (some q1)), (0, va_rf this), (1, .int p0), (2, .int p1)]) C dX2_text_9 (by decide) (by simp [zz_cat, zz_catI, zz_catJ, zz_catD]) ?_
  refine zz_subP [2, 4, 1, 0] rfl ?_
  obtain ⟨n11, hw⟩ := hw
  exact ok_X2_text_L11 C E hH hR n11 _ _ _ _ _ _ _ hw
abbrev cJ18_equals : ByteArray := prog_49_method_13_code
def yJ18_equals : MethodName := ⟨"java/lang/StringLatin1", "equals", "([B[B)Z"⟩
def dkwJ18_equals_1 : List UInt8 := [3, 172, 132, 2, 1, 167, 255, 236, 4, 172, 3, 172]
abbrev dktJ18_equals_1 : List UInt8 := dkwJ18_equals_1 ++ []
def dkwJ18_equals_0 : List UInt8 := [42, 190, 43, 190, 160, 0, 30, 3, 61, 28, 42, 190, 162, 0, 20, 42, 28, 51, 43, 28, 51, 159, 0, 5]
abbrev dktJ18_equals_0 : List UInt8 := dkwJ18_equals_0 ++ dktJ18_equals_1
theorem dksJ18_equals_0 : cJ18_equals.data.toList.drop 0 = dktJ18_equals_0 := by decide +kernel
theorem dksJ18_equals_1 : cJ18_equals.data.toList.drop 24 = dktJ18_equals_1 := dk_seg dksJ18_equals_0 24 rfl rfl
theorem dJ18_equals_0 : decode cJ18_equals 0 = .ok (.aload_n 0, 1) := dk_42 (dk_at dksJ18_equals_0 0 rfl rfl)
theorem dJ18_equals_1 : decode cJ18_equals 1 = .ok (.arraylength, 1) := dk_190 (dk_at dksJ18_equals_0 1 rfl rfl)
theorem dJ18_equals_2 : decode cJ18_equals 2 = .ok (.aload_n 1, 1) := dk_43 (dk_at dksJ18_equals_0 2 rfl rfl)
theorem dJ18_equals_3 : decode cJ18_equals 3 = .ok (.arraylength, 1) := dk_190 (dk_at dksJ18_equals_0 3 rfl rfl)
theorem dJ18_equals_4 : decode cJ18_equals 4 = .ok (.if_icmp .ne 30, 3) := dk_160 0 30 (dk_at dksJ18_equals_0 4 rfl rfl)
theorem dJ18_equals_7 : decode cJ18_equals 7 = .ok (.iconst 0, 1) := dk_3 (dk_at dksJ18_equals_0 7 rfl rfl)
theorem dJ18_equals_8 : decode cJ18_equals 8 = .ok (.istore_n 2, 1) := dk_61 (dk_at dksJ18_equals_0 8 rfl rfl)
theorem dJ18_equals_9 : decode cJ18_equals 9 = .ok (.iload_n 2, 1) := dk_28 (dk_at dksJ18_equals_0 9 rfl rfl)
theorem dJ18_equals_10 : decode cJ18_equals 10 = .ok (.aload_n 0, 1) := dk_42 (dk_at dksJ18_equals_0 10 rfl rfl)
theorem dJ18_equals_11 : decode cJ18_equals 11 = .ok (.arraylength, 1) := dk_190 (dk_at dksJ18_equals_0 11 rfl rfl)
theorem dJ18_equals_12 : decode cJ18_equals 12 = .ok (.if_icmp .ge 20, 3) := dk_162 0 20 (dk_at dksJ18_equals_0 12 rfl rfl)
theorem dJ18_equals_15 : decode cJ18_equals 15 = .ok (.aload_n 0, 1) := dk_42 (dk_at dksJ18_equals_0 15 rfl rfl)
theorem dJ18_equals_16 : decode cJ18_equals 16 = .ok (.iload_n 2, 1) := dk_28 (dk_at dksJ18_equals_0 16 rfl rfl)
theorem dJ18_equals_17 : decode cJ18_equals 17 = .ok (.baload, 1) := dk_51 (dk_at dksJ18_equals_0 17 rfl rfl)
theorem dJ18_equals_18 : decode cJ18_equals 18 = .ok (.aload_n 1, 1) := dk_43 (dk_at dksJ18_equals_0 18 rfl rfl)
theorem dJ18_equals_19 : decode cJ18_equals 19 = .ok (.iload_n 2, 1) := dk_28 (dk_at dksJ18_equals_0 19 rfl rfl)
theorem dJ18_equals_20 : decode cJ18_equals 20 = .ok (.baload, 1) := dk_51 (dk_at dksJ18_equals_0 20 rfl rfl)
theorem dJ18_equals_21 : decode cJ18_equals 21 = .ok (.if_icmp .eq 5, 3) := dk_159 0 5 (dk_at dksJ18_equals_0 21 rfl rfl)
theorem dJ18_equals_24 : decode cJ18_equals 24 = .ok (.iconst 0, 1) := dk_3 (dk_at dksJ18_equals_1 0 rfl rfl)
theorem dJ18_equals_25 : decode cJ18_equals 25 = .ok (.ireturn, 1) := dk_172 (dk_at dksJ18_equals_1 1 rfl rfl)
theorem dJ18_equals_26 : decode cJ18_equals 26 = .ok (.iinc 2 1, 3) := dk_132 2 1 (dk_at dksJ18_equals_1 2 rfl rfl)
theorem dJ18_equals_29 : decode cJ18_equals 29 = .ok (.goto (-20), 3) := dk_167 255 236 (dk_at dksJ18_equals_1 5 rfl rfl)
theorem dJ18_equals_32 : decode cJ18_equals 32 = .ok (.iconst 1, 1) := dk_4 (dk_at dksJ18_equals_1 8 rfl rfl)
theorem dJ18_equals_33 : decode cJ18_equals 33 = .ok (.ireturn, 1) := dk_172 (dk_at dksJ18_equals_1 9 rfl rfl)
theorem dJ18_equals_34 : decode cJ18_equals 34 = .ok (.iconst 0, 1) := dk_3 (dk_at dksJ18_equals_1 10 rfl rfl)
theorem dJ18_equals_35 : decode cJ18_equals 35 = .ok (.ireturn, 1) := dk_172 (dk_at dksJ18_equals_1 11 rfl rfl)
def wp_J18_equals_L9 (Z : zzG) (K : Option Value → zzM → Prop) : Nat → Option Nat → Option Nat → Int32 → zzM → Prop
  | 0, _, _, _, _ => False
  | n + 1, v0, v1, v2, M => zlen Z M v0 fun x3 => if x3 ≤ v2 then (narrow .boolean (.int (1 : Int32)) = .int (1 : Int32) ∧ K (some (.int (1 : Int32))) M) else (zaI Z M v0 [101] v2 fun x4 => zaI Z M v1 [101] v2 fun x5 => if x4 = x5 then (wp_J18_equals_L9 Z K n v0 v1 (v2 + 1) M) else (narrow .boolean (.int (0 : Int32)) = .int (0 : Int32) ∧ K (some (.int (0 : Int32))) M))
def wp_J18_equals (Z : zzG) (p0 : Option Nat) (p1 : Option Nat) (M : zzM) (K : Option Value → zzM → Prop) : Prop := zlen Z M p0 fun x1 => zlen Z M p1 fun x2 => if x1 = x2 then (∃ n9 : Nat, wp_J18_equals_L9 Z K n9 p0 p1 (0 : Int32) M) else (narrow .boolean (.int (0 : Int32)) = .int (0 : Int32) ∧ K (some (.int (0 : Int32))) M)
theorem ok_J18_equals_L9 {G : zzX} (C : zz_C G cJ18_equals "java/lang/StringLatin1" 3) {K : Option Value → zzM → Prop} (E : zz_E G (some .boolean) K (fun _ _ _ => False)) (hH : zz_H G []) (hR : zz_Rm G 1) : ∀ (n : Nat) (v0 : Option Nat) (v1 : Option Nat) (v2 : Int32) (M : zzM) (bc bs : Nat), wp_J18_equals_L9 (zz_Zof G) K n v0 v1 v2 M → zz_T G 3 M bc bs 9 [(0, va_rf v0), (1, va_rf v1), (2, .int v2)] [] := by
  intro n
  induction n with
  | zero =>
    intro v0 v1 v2 M bc bs hw
    exact False.elim hw
  | succ n ih =>
    intro v0 v1 v2 M bc bs hw
    refine zz_iload_n C dJ18_equals_9 rfl 2 rfl ?_
    refine zz_aload_n C dJ18_equals_10 rfl 0 rfl ?_
    refine zz_alen C dJ18_equals_11 hw (fun x3 hw => ?_)
    refine zz_icmp_ge (tgt := 32) C dJ18_equals_12 (by decide) hw (fun hw => ?_) (fun hw => ?_)
    · refine zz_iconst (v := (1 : Int32)) C dJ18_equals_32 (by decide) ?_
      exact zz_zret C E dJ18_equals_33 hw
    · refine zz_aload_n C dJ18_equals_15 rfl 0 rfl ?_
      refine zz_iload_n C dJ18_equals_16 rfl 2 rfl ?_
      refine zz_bald C dJ18_equals_17 hw (fun x4 hw => ?_)
      refine zz_aload_n C dJ18_equals_18 rfl 1 rfl ?_
      refine zz_iload_n C dJ18_equals_19 rfl 2 rfl ?_
      refine zz_bald C dJ18_equals_20 hw (fun x5 hw => ?_)
      refine zz_icmp_eq (tgt := 26) C dJ18_equals_21 (by decide) hw (fun hw => ?_) (fun hw => ?_)
      · refine zz_iinc (lv' := [(2, .int (v2 + 1)), (0, va_rf v0), (1, va_rf v1)]) C dJ18_equals_26 2 rfl (by rfl) (by decide) (by simp [zz_cat, zz_catI, zz_catJ, zz_catD]) ?_
        refine zz_goto (tgt := 9) C dJ18_equals_29 (by decide) ?_
        refine zz_subP [1, 2, 0] rfl ?_
        exact ih _ _ _ _ _ _ hw
      · refine zz_iconst (v := (0 : Int32)) C dJ18_equals_24 (by decide) ?_
        exact zz_zret C E dJ18_equals_25 hw
theorem ok_J18_equals {Z : zzG} {l : Launch} (hl : l.stackTraces = false) {p0 : Option Nat} {p1 : Option Nat} {M : zzM} {mc ms : Nat} {K : Option Value → zzM → Prop} (hw : wp_J18_equals Z p0 p1 M K) : zz_Met Z l yJ18_equals (zz_ws yJ18_equals cJ18_equals 3 (some .boolean) none) 1 [va_rf p0, va_rf p1] M mc ms K (fun _ _ _ => False) := by
  refine zz_ofW hl (plainFor_of_name (by decide)) (by simp only [zz_sl0, zz_slI, zz_slJ, zz_slA] <;> decide) (fun G hZ hll C E hH hR hin => ?_)
  subst hZ
  subst hll
  rw [show lv_args 0 [va_rf p0, va_rf p1] = [(0, va_rf p0), (1, va_rf p1)] by simp only [zz_la0, zz_laI, zz_laJ, zz_laA]]
  unfold wp_J18_equals at hw
  refine zz_aload_n C dJ18_equals_0 rfl 0 rfl ?_
  refine zz_alen C dJ18_equals_1 hw (fun x1 hw => ?_)
  refine zz_aload_n C dJ18_equals_2 rfl 1 rfl ?_
  refine zz_alen C dJ18_equals_3 hw (fun x2 hw => ?_)
  refine zz_icmp_ne (tgt := 34) C dJ18_equals_4 (by decide) hw (fun hw => ?_) (fun hw => ?_)
  · refine zz_iconst (v := (0 : Int32)) C dJ18_equals_34 (by decide) ?_
    exact zz_zret C E dJ18_equals_35 hw
  · refine zz_iconst (v := (0 : Int32)) C dJ18_equals_7 (by decide) ?_
    refine zz_istore_n (i := 2) (lv' := [(2, .int (0 : Int32)), (0, va_rf p0), (1, va_rf p1)]) C dJ18_equals_8 rfl (by decide) (by simp [zz_cat, zz_catI, zz_catJ, zz_catD]) ?_
    refine zz_subP [1, 2, 0] rfl ?_
    obtain ⟨n9, hw⟩ := hw
    exact ok_J18_equals_L9 C E hH hR n9 _ _ _ _ _ _ hw
abbrev cJ7_equals : ByteArray := prog_46_method_66_code
def yJ7_equals : MethodName := ⟨"java/lang/String", "equals", "(Ljava/lang/Object;)Z"⟩
def dkwJ7_equals_2 : List UInt8 := [184, 2, 29, 153, 0, 7, 4, 167, 0, 4, 3, 172]
abbrev dktJ7_equals_2 : List UInt8 := dkwJ7_equals_2 ++ []
def dkwJ7_equals_1 : List UInt8 := [153, 0, 14, 42, 180, 0, 15, 44, 180, 0, 15, 160, 0, 21, 42, 180, 0, 9, 44, 180, 0, 9]
abbrev dktJ7_equals_1 : List UInt8 := dkwJ7_equals_1 ++ dktJ7_equals_2
def dkwJ7_equals_0 : List UInt8 := [42, 43, 166, 0, 5, 4, 172, 43, 193, 0, 10, 153, 0, 43, 43, 192, 0, 10, 77, 178, 0, 38]
abbrev dktJ7_equals_0 : List UInt8 := dkwJ7_equals_0 ++ dktJ7_equals_1
theorem dksJ7_equals_0 : cJ7_equals.data.toList.drop 0 = dktJ7_equals_0 := by decide +kernel
theorem dksJ7_equals_1 : cJ7_equals.data.toList.drop 22 = dktJ7_equals_1 := dk_seg dksJ7_equals_0 22 rfl rfl
theorem dksJ7_equals_2 : cJ7_equals.data.toList.drop 44 = dktJ7_equals_2 := dk_seg dksJ7_equals_1 22 rfl rfl
theorem dJ7_equals_0 : decode cJ7_equals 0 = .ok (.aload_n 0, 1) := dk_42 (dk_at dksJ7_equals_0 0 rfl rfl)
theorem dJ7_equals_1 : decode cJ7_equals 1 = .ok (.aload_n 1, 1) := dk_43 (dk_at dksJ7_equals_0 1 rfl rfl)
theorem dJ7_equals_2 : decode cJ7_equals 2 = .ok (.if_acmp .ne 5, 3) := dk_166 0 5 (dk_at dksJ7_equals_0 2 rfl rfl)
theorem dJ7_equals_5 : decode cJ7_equals 5 = .ok (.iconst 1, 1) := dk_4 (dk_at dksJ7_equals_0 5 rfl rfl)
theorem dJ7_equals_6 : decode cJ7_equals 6 = .ok (.ireturn, 1) := dk_172 (dk_at dksJ7_equals_0 6 rfl rfl)
theorem dJ7_equals_7 : decode cJ7_equals 7 = .ok (.aload_n 1, 1) := dk_43 (dk_at dksJ7_equals_0 7 rfl rfl)
theorem dJ7_equals_8 : decode cJ7_equals 8 = .ok (.instanceof 10, 3) := dk_193 0 10 (dk_at dksJ7_equals_0 8 rfl rfl)
theorem dJ7_equals_11 : decode cJ7_equals 11 = .ok (.ifCond .eq 43, 3) := dk_153 0 43 (dk_at dksJ7_equals_0 11 rfl rfl)
theorem dJ7_equals_14 : decode cJ7_equals 14 = .ok (.aload_n 1, 1) := dk_43 (dk_at dksJ7_equals_0 14 rfl rfl)
theorem dJ7_equals_15 : decode cJ7_equals 15 = .ok (.checkcast 10, 3) := dk_192 0 10 (dk_at dksJ7_equals_0 15 rfl rfl)
theorem dJ7_equals_18 : decode cJ7_equals 18 = .ok (.astore_n 2, 1) := dk_77 (dk_at dksJ7_equals_0 18 rfl rfl)
theorem dJ7_equals_19 : decode cJ7_equals 19 = .ok (.getstatic 38, 3) := dk_178 0 38 (dk_at dksJ7_equals_0 19 rfl rfl)
theorem dJ7_equals_22 : decode cJ7_equals 22 = .ok (.ifCond .eq 14, 3) := dk_153 0 14 (dk_at dksJ7_equals_1 0 rfl rfl)
theorem dJ7_equals_25 : decode cJ7_equals 25 = .ok (.aload_n 0, 1) := dk_42 (dk_at dksJ7_equals_1 3 rfl rfl)
theorem dJ7_equals_26 : decode cJ7_equals 26 = .ok (.getfield 15, 3) := dk_180 0 15 (dk_at dksJ7_equals_1 4 rfl rfl)
theorem dJ7_equals_29 : decode cJ7_equals 29 = .ok (.aload_n 2, 1) := dk_44 (dk_at dksJ7_equals_1 7 rfl rfl)
theorem dJ7_equals_30 : decode cJ7_equals 30 = .ok (.getfield 15, 3) := dk_180 0 15 (dk_at dksJ7_equals_1 8 rfl rfl)
theorem dJ7_equals_33 : decode cJ7_equals 33 = .ok (.if_icmp .ne 21, 3) := dk_160 0 21 (dk_at dksJ7_equals_1 11 rfl rfl)
theorem dJ7_equals_36 : decode cJ7_equals 36 = .ok (.aload_n 0, 1) := dk_42 (dk_at dksJ7_equals_1 14 rfl rfl)
theorem dJ7_equals_37 : decode cJ7_equals 37 = .ok (.getfield 9, 3) := dk_180 0 9 (dk_at dksJ7_equals_1 15 rfl rfl)
theorem dJ7_equals_40 : decode cJ7_equals 40 = .ok (.aload_n 2, 1) := dk_44 (dk_at dksJ7_equals_1 18 rfl rfl)
theorem dJ7_equals_41 : decode cJ7_equals 41 = .ok (.getfield 9, 3) := dk_180 0 9 (dk_at dksJ7_equals_1 19 rfl rfl)
theorem dJ7_equals_44 : decode cJ7_equals 44 = .ok (.invokestatic 541, 3) := dk_184 2 29 (dk_at dksJ7_equals_2 0 rfl rfl)
theorem dJ7_equals_47 : decode cJ7_equals 47 = .ok (.ifCond .eq 7, 3) := dk_153 0 7 (dk_at dksJ7_equals_2 3 rfl rfl)
theorem dJ7_equals_50 : decode cJ7_equals 50 = .ok (.iconst 1, 1) := dk_4 (dk_at dksJ7_equals_2 6 rfl rfl)
theorem dJ7_equals_51 : decode cJ7_equals 51 = .ok (.goto 4, 3) := dk_167 0 4 (dk_at dksJ7_equals_2 7 rfl rfl)
theorem dJ7_equals_54 : decode cJ7_equals 54 = .ok (.iconst 0, 1) := dk_3 (dk_at dksJ7_equals_2 10 rfl rfl)
theorem dJ7_equals_55 : decode cJ7_equals 55 = .ok (.ireturn, 1) := dk_172 (dk_at dksJ7_equals_2 11 rfl rfl)
theorem q712 : (Jvm.Cond.classLink "java/lang/String" (10 : Nat) "java/lang/String") ∈ lw_all := lw_g (lw_at lw_m3 152 rfl) rfl
theorem zc_21_va_lang_String : zz_cok [21] "java/lang/String" := by
  intro t ht
  simp only [List.mem_cons, List.not_mem_nil, or_false] at ht
  rcases ht with rfl
  · exact ⟨(zR_21, zT_21, 4), rfl, Or.inl rfl⟩
theorem zn_24_25_va_lang_String : zz_nok [24, 25] "java/lang/String" := by
  intro t ht
  simp only [List.mem_cons, List.not_mem_nil, or_false] at ht
  rcases ht with rfl | rfl
  · exact ⟨(zR_24, zT_24, 4), rfl, by decide +kernel⟩
  · exact ⟨(zR_25, zT_25, 11), rfl, by decide +kernel⟩
theorem q715 : (Jvm.Cond.code ({ cls := "java/lang/StringLatin1", name := "equals", desc := "([B[B)Z" } : Jvm.MethodName) prog_49_method_13_code (3 : Nat) (Option.some Jvm.ClassFile.FieldType.boolean)) ∈ lw_all := lw_g (lw_at lw_m3 155 rfl) rfl
theorem zk_J18_equals : zz_cd yJ18_equals cJ18_equals 3 (some .boolean) none ∈ lw_all := q715
theorem zy_J18_equals : zz_yok yJ18_equals 2 = true := by decide +kernel
theorem q713 : (Jvm.Cond.methodLink "java/lang/String" (541 : Nat) ({ cls := "java/lang/StringLatin1", name := "equals", desc := "([B[B)Z" } : Jvm.MethodName)) ∈ lw_all := lw_g (lw_at lw_m3 153 rfl) rfl
theorem q714 : (Jvm.Cond.static ({ cls := "java/lang/StringLatin1", name := "equals", desc := "([B[B)Z" } : Jvm.MethodName)) ∈ lw_all := lw_g (lw_at lw_m3 154 rfl) rfl
def wp_J7_equals_B55 (Z : zzG) (K : Option Value → zzM → Prop) (s0 : Int32) (M : zzM) : Prop := narrow .boolean (.int s0) = .int s0 ∧ K (some (.int s0)) M
def wp_J7_equals_B54 (Z : zzG) (K : Option Value → zzM → Prop) (M : zzM) : Prop := wp_J7_equals_B55 Z K (0 : Int32) M
def wp_J7_equals_B36 (Z : zzG) (K : Option Value → zzM → Prop) (v0 : Option Nat) (v2 : Option Nat) (M : zzM) : Prop := zgA Z M v0 [21] 0 fun x4 => zgA Z M v2 [21] 0 fun x5 => wp_J18_equals Z x4 x5 M (fun r6 M7 => zrI r6 fun x10 => if x10 = 0 then (wp_J7_equals_B54 Z K M7) else (wp_J7_equals_B55 Z K (1 : Int32) M7))
def wp_J7_equals (Z : zzG) (this : Option Nat) (p0 : Option Nat) (M : zzM) (K : Option Value → zzM → Prop) : Prop := if this = p0 then (narrow .boolean (.int (1 : Int32)) = .int (1 : Int32) ∧ K (some (.int (1 : Int32))) M) else (zinst Z M p0 [21] [24, 25] fun x1 => if x1 = 0 then (wp_J7_equals_B54 Z K M) else (zcast Z M p0 [21] <| if (1 : Int32) = 0 then (wp_J7_equals_B36 Z K this p0 M) else (zgI Z M this [21] 1 fun x2 => zgI Z M p0 [21] 1 fun x3 => if x2 = x3 then (wp_J7_equals_B36 Z K this p0 M) else (wp_J7_equals_B54 Z K M))))
theorem ok_J7_equals_B55 {G : zzX} (C : zz_C G cJ7_equals "java/lang/String" 3) {K : Option Value → zzM → Prop} (E : zz_E G (some .boolean) K (fun _ _ _ => False)) (hH : zz_H G []) (hR : zz_Rm G 2) {s0 : Int32} {M : zzM} {bc bs : Nat} (hw : wp_J7_equals_B55 (zz_Zof G) K s0 M) : zz_T G 3 M bc bs 55 [] [.int s0] := by
  unfold wp_J7_equals_B55 at hw
  exact zz_zret C E dJ7_equals_55 hw
theorem ok_J7_equals_B54 {G : zzX} (C : zz_C G cJ7_equals "java/lang/String" 3) {K : Option Value → zzM → Prop} (E : zz_E G (some .boolean) K (fun _ _ _ => False)) (hH : zz_H G []) (hR : zz_Rm G 2) {M : zzM} {bc bs : Nat} (hw : wp_J7_equals_B54 (zz_Zof G) K M) : zz_T G 3 M bc bs 54 [] [] := by
  unfold wp_J7_equals_B54 at hw
  refine zz_iconst (v := (0 : Int32)) C dJ7_equals_54 (by decide) ?_
  refine zz_subP [] rfl ?_
  exact ok_J7_equals_B55 C E hH hR hw
theorem ok_J7_equals_B36 {G : zzX} (C : zz_C G cJ7_equals "java/lang/String" 3) {K : Option Value → zzM → Prop} (E : zz_E G (some .boolean) K (fun _ _ _ => False)) (hH : zz_H G []) (hR : zz_Rm G 2) {v0 : Option Nat} {v2 : Option Nat} {M : zzM} {bc bs : Nat} (hw : wp_J7_equals_B36 (zz_Zof G) K v0 v2 M) : zz_T G 3 M bc bs 36 [(0, va_rf v0), (2, va_rf v2)] [] := by
  unfold wp_J7_equals_B36 at hw
  refine zz_aload_n C dJ7_equals_36 rfl 0 rfl ?_
  refine zz_getA C dJ7_equals_37 (Or.inl q689) zf_21_0_va_lang_String hw (fun x4 hw => ?_)
  refine zz_aload_n C dJ7_equals_40 rfl 1 rfl ?_
  refine zz_getA C dJ7_equals_41 (Or.inl q689) zf_21_0_va_lang_String hw (fun x5 hw => ?_)
  refine zz_callS (As := [va_rf x4, va_rf x5]) (rest := []) (mc := 0) (ms := 0) C hR dJ7_equals_44 (Or.inl q713) q714 zl_java_lang_StringLatin1 zk_J18_equals (Or.inl rfl) zy_J18_equals (by decide) (by decide) (ok_J18_equals (zz_hl C) hw) (Nat.zero_le _) (Nat.zero_le _) (zz_cat10 _ (Nat.le_of_ble_eq_true rfl)) (fun r6 M7 hw => zz_kI hw (fun x10 hw => ?_)) (fun _ _ _ h9 => h9.elim) rfl
  refine zz_if_eq (tgt := 54) C dJ7_equals_47 (by decide) hw (fun hw => ?_) (fun hw => ?_)
  · refine zz_subP [] rfl ?_
    exact ok_J7_equals_B54 C E hH hR hw
  · refine zz_iconst (v := (1 : Int32)) C dJ7_equals_50 (by decide) ?_
    refine zz_goto (tgt := 55) C dJ7_equals_51 (by decide) ?_
    refine zz_subP [] rfl ?_
    exact ok_J7_equals_B55 C E hH hR hw
theorem ok_J7_equals {Z : zzG} {l : Launch} (hl : l.stackTraces = false) {this : Option Nat} {p0 : Option Nat} {M : zzM} {mc ms : Nat} {K : Option Value → zzM → Prop} (hw : wp_J7_equals Z this p0 M K) : zz_Met Z l yJ7_equals (zz_ws yJ7_equals cJ7_equals 3 (some .boolean) none) 2 [va_rf this, va_rf p0] M mc ms K (fun _ _ _ => False) := by
  refine zz_ofW hl (plainFor_of_name (by decide)) (by simp only [zz_sl0, zz_slI, zz_slJ, zz_slA] <;> decide) (fun G hZ hll C E hH hR hin => ?_)
  subst hZ
  subst hll
  rw [show lv_args 0 [va_rf this, va_rf p0] = [(0, va_rf this), (1, va_rf p0)] by simp only [zz_la0, zz_laI, zz_laJ, zz_laA]]
  unfold wp_J7_equals at hw
  refine zz_aload_n C dJ7_equals_0 rfl 0 rfl ?_
  refine zz_aload_n C dJ7_equals_1 rfl 1 rfl ?_
  refine zz_acmp_ne (tgt := 7) C dJ7_equals_2 (by decide) hw (fun hw => ?_) (fun hw => ?_)
  · refine zz_aload_n C dJ7_equals_7 rfl 1 rfl ?_
    refine zz_inst C dJ7_equals_8 q712 zc_21_va_lang_String zn_24_25_va_lang_String hw (fun x1 hw => ?_)
    refine zz_if_eq (tgt := 54) C dJ7_equals_11 (by decide) hw (fun hw => ?_) (fun hw => ?_)
    · refine zz_subP [] rfl ?_
      exact ok_J7_equals_B54 C E hH hR hw
    · refine zz_aload_n C dJ7_equals_14 rfl 1 rfl ?_
      refine zz_cast C dJ7_equals_15 q712 zc_21_va_lang_String hw (fun hw => ?_)
      refine zz_astore_n (i := 2) (lv' := [(2, va_rf p0), (0, va_rf this), (1, va_rf p0)]) C dJ7_equals_18 rfl (by decide) (by simp [zz_cat, zz_catI, zz_catJ, zz_catD]) ?_
      refine zz_gets (j := 14) (v := .int (1 : Int32)) C dJ7_equals_19 (Or.inl q634) rfl (Or.inl rfl) rfl ?_
      refine zz_if_eq (tgt := 36) C dJ7_equals_22 (by decide) hw (fun hw => ?_) (fun hw => ?_)
      · refine zz_subP [1, 0] rfl ?_
        exact ok_J7_equals_B36 C E hH hR hw
      · refine zz_aload_n C dJ7_equals_25 rfl 1 rfl ?_
        refine zz_getI C dJ7_equals_26 (Or.inl q690) zf_21_1_va_lang_String hw (fun x2 hw => ?_)
        refine zz_aload_n C dJ7_equals_29 rfl 0 rfl ?_
        refine zz_getI C dJ7_equals_30 (Or.inl q690) zf_21_1_va_lang_String hw (fun x3 hw => ?_)
        refine zz_icmp_ne (tgt := 54) C dJ7_equals_33 (by decide) hw (fun hw => ?_) (fun hw => ?_)
        · refine zz_subP [] rfl ?_
          exact ok_J7_equals_B54 C E hH hR hw
        · refine zz_subP [1, 0] rfl ?_
          exact ok_J7_equals_B36 C E hH hR hw
  · refine zz_iconst (v := (1 : Int32)) C dJ7_equals_5 (by decide) ?_
    exact zz_zret C E dJ7_equals_6 hw
abbrev cX7_isKey : ByteArray := prog_14_method_5_code
def yX7_isKey : MethodName := ⟨"DebateHall$Scanner", "isKey", "(Ljava/lang/String;)Z"⟩
def dkwX7_isKey_1 : List UInt8 := [182, 0, 26, 153, 0, 5, 4, 172, 132, 3, 1, 167, 255, 232, 3, 172]
abbrev dktX7_isKey_1 : List UInt8 := dkwX7_isKey_1 ++ []
def dkwX7_isKey_0 : List UInt8 := [178, 0, 22, 76, 43, 190, 61, 3, 62, 29, 28, 162, 0, 25, 43, 29, 50, 58, 4, 25, 4, 42]
abbrev dktX7_isKey_0 : List UInt8 := dkwX7_isKey_0 ++ dktX7_isKey_1
theorem dksX7_isKey_0 : cX7_isKey.data.toList.drop 0 = dktX7_isKey_0 := by decide +kernel
theorem dksX7_isKey_1 : cX7_isKey.data.toList.drop 22 = dktX7_isKey_1 := dk_seg dksX7_isKey_0 22 rfl rfl
theorem dX7_isKey_0 : decode cX7_isKey 0 = .ok (.getstatic 22, 3) := dk_178 0 22 (dk_at dksX7_isKey_0 0 rfl rfl)
theorem dX7_isKey_3 : decode cX7_isKey 3 = .ok (.astore_n 1, 1) := dk_76 (dk_at dksX7_isKey_0 3 rfl rfl)
theorem dX7_isKey_4 : decode cX7_isKey 4 = .ok (.aload_n 1, 1) := dk_43 (dk_at dksX7_isKey_0 4 rfl rfl)
theorem dX7_isKey_5 : decode cX7_isKey 5 = .ok (.arraylength, 1) := dk_190 (dk_at dksX7_isKey_0 5 rfl rfl)
theorem dX7_isKey_6 : decode cX7_isKey 6 = .ok (.istore_n 2, 1) := dk_61 (dk_at dksX7_isKey_0 6 rfl rfl)
theorem dX7_isKey_7 : decode cX7_isKey 7 = .ok (.iconst 0, 1) := dk_3 (dk_at dksX7_isKey_0 7 rfl rfl)
theorem dX7_isKey_8 : decode cX7_isKey 8 = .ok (.istore_n 3, 1) := dk_62 (dk_at dksX7_isKey_0 8 rfl rfl)
theorem dX7_isKey_9 : decode cX7_isKey 9 = .ok (.iload_n 3, 1) := dk_29 (dk_at dksX7_isKey_0 9 rfl rfl)
theorem dX7_isKey_10 : decode cX7_isKey 10 = .ok (.iload_n 2, 1) := dk_28 (dk_at dksX7_isKey_0 10 rfl rfl)
theorem dX7_isKey_11 : decode cX7_isKey 11 = .ok (.if_icmp .ge 25, 3) := dk_162 0 25 (dk_at dksX7_isKey_0 11 rfl rfl)
theorem dX7_isKey_14 : decode cX7_isKey 14 = .ok (.aload_n 1, 1) := dk_43 (dk_at dksX7_isKey_0 14 rfl rfl)
theorem dX7_isKey_15 : decode cX7_isKey 15 = .ok (.iload_n 3, 1) := dk_29 (dk_at dksX7_isKey_0 15 rfl rfl)
theorem dX7_isKey_16 : decode cX7_isKey 16 = .ok (.aaload, 1) := dk_50 (dk_at dksX7_isKey_0 16 rfl rfl)
theorem dX7_isKey_17 : decode cX7_isKey 17 = .ok (.astore 4, 2) := dk_58 4 (dk_at dksX7_isKey_0 17 rfl rfl)
theorem dX7_isKey_19 : decode cX7_isKey 19 = .ok (.aload 4, 2) := dk_25 4 (dk_at dksX7_isKey_0 19 rfl rfl)
theorem dX7_isKey_21 : decode cX7_isKey 21 = .ok (.aload_n 0, 1) := dk_42 (dk_at dksX7_isKey_0 21 rfl rfl)
theorem dX7_isKey_22 : decode cX7_isKey 22 = .ok (.invokevirtual 26, 3) := dk_182 0 26 (dk_at dksX7_isKey_1 0 rfl rfl)
theorem dX7_isKey_25 : decode cX7_isKey 25 = .ok (.ifCond .eq 5, 3) := dk_153 0 5 (dk_at dksX7_isKey_1 3 rfl rfl)
theorem dX7_isKey_28 : decode cX7_isKey 28 = .ok (.iconst 1, 1) := dk_4 (dk_at dksX7_isKey_1 6 rfl rfl)
theorem dX7_isKey_29 : decode cX7_isKey 29 = .ok (.ireturn, 1) := dk_172 (dk_at dksX7_isKey_1 7 rfl rfl)
theorem dX7_isKey_30 : decode cX7_isKey 30 = .ok (.iinc 3 1, 3) := dk_132 3 1 (dk_at dksX7_isKey_1 8 rfl rfl)
theorem dX7_isKey_33 : decode cX7_isKey 33 = .ok (.goto (-24), 3) := dk_167 255 232 (dk_at dksX7_isKey_1 11 rfl rfl)
theorem dX7_isKey_36 : decode cX7_isKey 36 = .ok (.iconst 0, 1) := dk_3 (dk_at dksX7_isKey_1 14 rfl rfl)
theorem dX7_isKey_37 : decode cX7_isKey 37 = .ok (.ireturn, 1) := dk_172 (dk_at dksX7_isKey_1 15 rfl rfl)
theorem q706 : (Jvm.Cond.fieldLink "DebateHall$Scanner" (22 : Nat) "DebateHall$Scanner" "KEYS" "[Ljava/lang/String;") ∈ lw_all := lw_g (lw_at lw_m3 146 rfl) rfl
theorem q711 : (Jvm.Cond.code ({ cls := "java/lang/String", name := "equals", desc := "(Ljava/lang/Object;)Z" } : Jvm.MethodName) prog_46_method_66_code (3 : Nat) (Option.some Jvm.ClassFile.FieldType.boolean)) ∈ lw_all := lw_g (lw_at lw_m3 151 rfl) rfl
theorem zk_J7_equals : zz_cd yJ7_equals cJ7_equals 3 (some .boolean) none ∈ lw_all := q711
theorem zy_J7_equals : zz_yok yJ7_equals 1 = true := by decide +kernel
theorem q708 : (Jvm.Cond.methodLink "DebateHall$Scanner" (26 : Nat) ({ cls := "java/lang/String", name := "equals", desc := "(Ljava/lang/Object;)Z" } : Jvm.MethodName)) ∈ lw_all := lw_g (lw_at lw_m3 148 rfl) rfl
theorem q709 : (Jvm.Cond.instanceMethod ({ cls := "java/lang/String", name := "equals", desc := "(Ljava/lang/Object;)Z" } : Jvm.MethodName)) ∈ lw_all := lw_g (lw_at lw_m3 149 rfl) rfl
theorem q710 : (Jvm.Cond.selects "java/lang/String" ({ cls := "java/lang/String", name := "equals", desc := "(Ljava/lang/Object;)Z" } : Jvm.MethodName) ({ cls := "java/lang/String", name := "equals", desc := "(Ljava/lang/Object;)Z" } : Jvm.MethodName)) ∈ lw_all := lw_g (lw_at lw_m3 150 rfl) rfl
def wp_X7_isKey_L9 (Z : zzG) (K : Option Value → zzM → Prop) : Nat → Option Nat → Option Nat → Int32 → Int32 → zzM → Prop
  | 0, _, _, _, _, _ => False
  | n + 1, v0, v1, v2, v3, M => if v2 ≤ v3 then (narrow .boolean (.int (0 : Int32)) = .int (0 : Int32) ∧ K (some (.int (0 : Int32))) M) else (zaA Z M v1 [103, 104, 105] v3 fun x2 => zty Z M x2 fun t => t = 21 ∧ wp_J7_equals Z x2 v0 M (fun r3 M4 => zrI r3 fun x7 => if x7 = 0 then (wp_X7_isKey_L9 Z K n v0 v1 v2 (v3 + 1) M4) else (narrow .boolean (.int (1 : Int32)) = .int (1 : Int32) ∧ K (some (.int (1 : Int32))) M4)))
def wp_X7_isKey (Z : zzG) (p0 : Option Nat) (M : zzM) (K : Option Value → zzM → Prop) : Prop := zlen Z M (some (zz_ad Z 7)) fun x1 => ∃ n9 : Nat, wp_X7_isKey_L9 Z K n9 p0 (some (zz_ad Z 7)) x1 (0 : Int32) M
theorem ok_X7_isKey_L9 {G : zzX} (C : zz_C G cX7_isKey "DebateHall$Scanner" 5) {K : Option Value → zzM → Prop} (E : zz_E G (some .boolean) K (fun _ _ _ => False)) (hH : zz_H G []) (hR : zz_Rm G 3) : ∀ (n : Nat) (v0 : Option Nat) (v1 : Option Nat) (v2 : Int32) (v3 : Int32) (M : zzM) (bc bs : Nat), wp_X7_isKey_L9 (zz_Zof G) K n v0 v1 v2 v3 M → zz_T G 5 M bc bs 9 [(0, va_rf v0), (1, va_rf v1), (2, .int v2), (3, .int v3)] [] := by
  intro n
  induction n with
  | zero =>
    intro v0 v1 v2 v3 M bc bs hw
    exact False.elim hw
  | succ n ih =>
    intro v0 v1 v2 v3 M bc bs hw
    refine zz_iload_n C dX7_isKey_9 rfl 3 rfl ?_
    refine zz_iload_n C dX7_isKey_10 rfl 2 rfl ?_
    refine zz_icmp_ge (tgt := 36) C dX7_isKey_11 (by decide) hw (fun hw => ?_) (fun hw => ?_)
    · refine zz_iconst (v := (0 : Int32)) C dX7_isKey_36 (by decide) ?_
      exact zz_zret C E dX7_isKey_37 hw
    · refine zz_aload_n C dX7_isKey_14 rfl 1 rfl ?_
      refine zz_iload_n C dX7_isKey_15 rfl 3 rfl ?_
      refine zz_aald C dX7_isKey_16 hw (fun x2 hw => ?_)
      refine zz_astore (lv' := [(4, va_rf x2), (0, va_rf v0), (1, va_rf v1), (2, .int v2), (3, .int v3)]) C dX7_isKey_17 (by decide) rfl ?_
      refine zz_aload C dX7_isKey_19 0 rfl ?_
      refine zz_aload_n C dX7_isKey_21 rfl 1 rfl ?_
      obtain ⟨a9, t9, b9, fs9, hro, hL, rfl, hw⟩ := ztyS hw
      refine zz_callV (r := (zR_21, zT_21, 4)) (As := [va_rf v0]) (rest := []) (mc := 0) (ms := 0) C hR hro dX7_isKey_22 (Or.inl q708) q709 (Or.inl q710) zl_java_lang_String zk_J7_equals (Or.inl rfl) zy_J7_equals rfl (by decide) (by decide) hL (ok_J7_equals (zz_hl C) hw) (Nat.zero_le _) (Nat.zero_le _) (zz_cat10 _ (Nat.le_of_ble_eq_true rfl)) (fun r3 M4 hw => zz_kI hw (fun x7 hw => ?_)) (fun _ _ _ h9 => h9.elim) rfl
      refine zz_if_eq (tgt := 30) C dX7_isKey_25 (by decide) hw (fun hw => ?_) (fun hw => ?_)
      · refine zz_iinc (lv' := [(3, .int (v3 + 1)), (4, va_rf x2), (0, va_rf v0), (1, va_rf v1), (2, .int v2)]) C dX7_isKey_30 4 rfl (by rfl) (by decide) rfl ?_
        refine zz_goto (tgt := 9) C dX7_isKey_33 (by decide) ?_
        refine zz_subP [2, 3, 4, 0] rfl ?_
        exact ih _ _ _ _ _ _ _ hw
      · refine zz_iconst (v := (1 : Int32)) C dX7_isKey_28 (by decide) ?_
        exact zz_zret C E dX7_isKey_29 hw
theorem ok_X7_isKey {Z : zzG} {l : Launch} (hl : l.stackTraces = false) {p0 : Option Nat} {M : zzM} {mc ms : Nat} {K : Option Value → zzM → Prop} (hw : wp_X7_isKey Z p0 M K) : zz_Met Z l yX7_isKey (zz_ws yX7_isKey cX7_isKey 5 (some .boolean) none) 3 [va_rf p0] M mc ms K (fun _ _ _ => False) := by
  refine zz_ofW hl (plainFor_of_name (by decide)) (by simp only [zz_sl0, zz_slI, zz_slJ, zz_slA] <;> decide) (fun G hZ hll C E hH hR hin => ?_)
  subst hZ
  subst hll
  rw [show lv_args 0 [va_rf p0] = [(0, va_rf p0)] by simp only [zz_la0, zz_laI, zz_laJ, zz_laA]]
  unfold wp_X7_isKey at hw
  refine zz_gets (j := 7) (v := va_rf (some (zz_ad (zz_Zof G) 7))) C dX7_isKey_0 (Or.inl q706) rfl (Or.inl rfl) rfl ?_
  refine zz_astore_n (i := 1) (lv' := [(1, va_rf (some (zz_ad (zz_Zof G) 7))), (0, va_rf p0)]) C dX7_isKey_3 rfl (by decide) (by simp [zz_cat, zz_catI, zz_catJ, zz_catD]) ?_
  refine zz_aload_n C dX7_isKey_4 rfl 0 rfl ?_
  refine zz_alen C dX7_isKey_5 hw (fun x1 hw => ?_)
  refine zz_istore_n (i := 2) (lv' := [(2, .int x1), (1, va_rf (some (zz_ad (zz_Zof G) 7))), (0, va_rf p0)]) C dX7_isKey_6 rfl (by decide) (by simp [zz_cat, zz_catI, zz_catJ, zz_catD]) ?_
  refine zz_iconst (v := (0 : Int32)) C dX7_isKey_7 (by decide) ?_
  refine zz_istore_n (i := 3) (lv' := [(3, .int (0 : Int32)), (2, .int x1), (1, va_rf (some (zz_ad (zz_Zof G) 7))), (0, va_rf p0)]) C dX7_isKey_8 rfl (by decide) rfl ?_
  refine zz_subP [3, 2, 1, 0] rfl ?_
  obtain ⟨n9, hw⟩ := hw
  exact ok_X7_isKey_L9 C E hH hR n9 _ _ _ _ _ _ _ hw
abbrev cJ18_canEncode_2 : ByteArray := prog_49_method_4_code
def yJ18_canEncode_2 : MethodName := ⟨"java/lang/StringLatin1", "canEncode", "(I)Z"⟩
def dkwJ18_canEncode_2_0 : List UInt8 := [26, 155, 0, 14, 26, 17, 0, 255, 163, 0, 7, 4, 167, 0, 4, 3, 172]
abbrev dktJ18_canEncode_2_0 : List UInt8 := dkwJ18_canEncode_2_0 ++ []
theorem dksJ18_canEncode_2_0 : cJ18_canEncode_2.data.toList.drop 0 = dktJ18_canEncode_2_0 := by decide +kernel
theorem dJ18_canEncode_2_0 : decode cJ18_canEncode_2 0 = .ok (.iload_n 0, 1) := dk_26 (dk_at dksJ18_canEncode_2_0 0 rfl rfl)
theorem dJ18_canEncode_2_1 : decode cJ18_canEncode_2 1 = .ok (.ifCond .lt 14, 3) := dk_155 0 14 (dk_at dksJ18_canEncode_2_0 1 rfl rfl)
theorem dJ18_canEncode_2_4 : decode cJ18_canEncode_2 4 = .ok (.iload_n 0, 1) := dk_26 (dk_at dksJ18_canEncode_2_0 4 rfl rfl)
theorem dJ18_canEncode_2_5 : decode cJ18_canEncode_2 5 = .ok (.sipush 255, 3) := dk_17 0 255 (dk_at dksJ18_canEncode_2_0 5 rfl rfl)
theorem dJ18_canEncode_2_8 : decode cJ18_canEncode_2 8 = .ok (.if_icmp .gt 7, 3) := dk_163 0 7 (dk_at dksJ18_canEncode_2_0 8 rfl rfl)
theorem dJ18_canEncode_2_11 : decode cJ18_canEncode_2 11 = .ok (.iconst 1, 1) := dk_4 (dk_at dksJ18_canEncode_2_0 11 rfl rfl)
theorem dJ18_canEncode_2_12 : decode cJ18_canEncode_2 12 = .ok (.goto 4, 3) := dk_167 0 4 (dk_at dksJ18_canEncode_2_0 12 rfl rfl)
theorem dJ18_canEncode_2_15 : decode cJ18_canEncode_2 15 = .ok (.iconst 0, 1) := dk_3 (dk_at dksJ18_canEncode_2_0 15 rfl rfl)
theorem dJ18_canEncode_2_16 : decode cJ18_canEncode_2 16 = .ok (.ireturn, 1) := dk_172 (dk_at dksJ18_canEncode_2_0 16 rfl rfl)
def wp_J18_canEncode_2_B16 (Z : zzG) (K : Option Value → zzM → Prop) (s0 : Int32) (M : zzM) : Prop := narrow .boolean (.int s0) = .int s0 ∧ K (some (.int s0)) M
def wp_J18_canEncode_2_B15 (Z : zzG) (K : Option Value → zzM → Prop) (M : zzM) : Prop := wp_J18_canEncode_2_B16 Z K (0 : Int32) M
def wp_J18_canEncode_2 (Z : zzG) (p0 : Int32) (M : zzM) (K : Option Value → zzM → Prop) : Prop := if p0 < 0 then (wp_J18_canEncode_2_B15 Z K M) else (if (255 : Int32) < p0 then (wp_J18_canEncode_2_B15 Z K M) else (wp_J18_canEncode_2_B16 Z K (1 : Int32) M))
theorem ok_J18_canEncode_2_B16 {G : zzX} (C : zz_C G cJ18_canEncode_2 "java/lang/StringLatin1" 1) {K : Option Value → zzM → Prop} (E : zz_E G (some .boolean) K (fun _ _ _ => False)) (hH : zz_H G []) (hR : zz_Rm G 1) {s0 : Int32} {M : zzM} {bc bs : Nat} (hw : wp_J18_canEncode_2_B16 (zz_Zof G) K s0 M) : zz_T G 1 M bc bs 16 [] [.int s0] := by
  unfold wp_J18_canEncode_2_B16 at hw
  exact zz_zret C E dJ18_canEncode_2_16 hw
theorem ok_J18_canEncode_2_B15 {G : zzX} (C : zz_C G cJ18_canEncode_2 "java/lang/StringLatin1" 1) {K : Option Value → zzM → Prop} (E : zz_E G (some .boolean) K (fun _ _ _ => False)) (hH : zz_H G []) (hR : zz_Rm G 1) {M : zzM} {bc bs : Nat} (hw : wp_J18_canEncode_2_B15 (zz_Zof G) K M) : zz_T G 1 M bc bs 15 [] [] := by
  unfold wp_J18_canEncode_2_B15 at hw
  refine zz_iconst (v := (0 : Int32)) C dJ18_canEncode_2_15 (by decide) ?_
  refine zz_subP [] rfl ?_
  exact ok_J18_canEncode_2_B16 C E hH hR hw
theorem ok_J18_canEncode_2 {Z : zzG} {l : Launch} (hl : l.stackTraces = false) {p0 : Int32} {M : zzM} {mc ms : Nat} {K : Option Value → zzM → Prop} (hw : wp_J18_canEncode_2 Z p0 M K) : zz_Met Z l yJ18_canEncode_2 (zz_ws yJ18_canEncode_2 cJ18_canEncode_2 1 (some .boolean) none) 1 [.int p0] M mc ms K (fun _ _ _ => False) := by
  refine zz_ofW hl (plainFor_of_name (by decide)) (by simp only [zz_sl0, zz_slI, zz_slJ, zz_slA] <;> decide) (fun G hZ hll C E hH hR hin => ?_)
  subst hZ
  subst hll
  rw [show lv_args 0 [.int p0] = [(0, .int p0)] by simp only [zz_la0, zz_laI, zz_laJ, zz_laA]]
  unfold wp_J18_canEncode_2 at hw
  refine zz_iload_n C dJ18_canEncode_2_0 rfl 0 rfl ?_
  refine zz_if_lt (tgt := 15) C dJ18_canEncode_2_1 (by decide) hw (fun hw => ?_) (fun hw => ?_)
  · refine zz_subP [] rfl ?_
    exact ok_J18_canEncode_2_B15 C E hH hR hw
  · refine zz_iload_n C dJ18_canEncode_2_4 rfl 0 rfl ?_
    refine zz_sipush (v := (255 : Int32)) C dJ18_canEncode_2_5 (by decide) ?_
    refine zz_icmp_gt (tgt := 15) C dJ18_canEncode_2_8 (by decide) hw (fun hw => ?_) (fun hw => ?_)
    · refine zz_subP [] rfl ?_
      exact ok_J18_canEncode_2_B15 C E hH hR hw
    · refine zz_iconst (v := (1 : Int32)) C dJ18_canEncode_2_11 (by decide) ?_
      refine zz_goto (tgt := 16) C dJ18_canEncode_2_12 (by decide) ?_
      refine zz_subP [] rfl ?_
      exact ok_J18_canEncode_2_B16 C E hH hR hw
abbrev cJ18_indexOfChar : ByteArray := prog_49_method_23_code
def yJ18_indexOfChar : MethodName := ⟨"java/lang/StringLatin1", "indexOfChar", "([BIII)I"⟩
def dkwJ18_indexOfChar_1 : List UInt8 := [172, 132, 5, 1, 167, 255, 235, 2, 172]
abbrev dktJ18_indexOfChar_1 : List UInt8 := dkwJ18_indexOfChar_1 ++ []
def dkwJ18_indexOfChar_0 : List UInt8 := [27, 145, 54, 4, 28, 54, 5, 21, 5, 29, 162, 0, 21, 42, 21, 5, 51, 21, 4, 160, 0, 6, 21, 5]
abbrev dktJ18_indexOfChar_0 : List UInt8 := dkwJ18_indexOfChar_0 ++ dktJ18_indexOfChar_1
theorem dksJ18_indexOfChar_0 : cJ18_indexOfChar.data.toList.drop 0 = dktJ18_indexOfChar_0 := by decide +kernel
theorem dksJ18_indexOfChar_1 : cJ18_indexOfChar.data.toList.drop 24 = dktJ18_indexOfChar_1 := dk_seg dksJ18_indexOfChar_0 24 rfl rfl
theorem dJ18_indexOfChar_0 : decode cJ18_indexOfChar 0 = .ok (.iload_n 1, 1) := dk_27 (dk_at dksJ18_indexOfChar_0 0 rfl rfl)
theorem dJ18_indexOfChar_1 : decode cJ18_indexOfChar 1 = .ok (.i2b, 1) := dk_145 (dk_at dksJ18_indexOfChar_0 1 rfl rfl)
theorem dJ18_indexOfChar_2 : decode cJ18_indexOfChar 2 = .ok (.istore 4, 2) := dk_54 4 (dk_at dksJ18_indexOfChar_0 2 rfl rfl)
theorem dJ18_indexOfChar_4 : decode cJ18_indexOfChar 4 = .ok (.iload_n 2, 1) := dk_28 (dk_at dksJ18_indexOfChar_0 4 rfl rfl)
theorem dJ18_indexOfChar_5 : decode cJ18_indexOfChar 5 = .ok (.istore 5, 2) := dk_54 5 (dk_at dksJ18_indexOfChar_0 5 rfl rfl)
theorem dJ18_indexOfChar_7 : decode cJ18_indexOfChar 7 = .ok (.iload 5, 2) := dk_21 5 (dk_at dksJ18_indexOfChar_0 7 rfl rfl)
theorem dJ18_indexOfChar_9 : decode cJ18_indexOfChar 9 = .ok (.iload_n 3, 1) := dk_29 (dk_at dksJ18_indexOfChar_0 9 rfl rfl)
theorem dJ18_indexOfChar_10 : decode cJ18_indexOfChar 10 = .ok (.if_icmp .ge 21, 3) := dk_162 0 21 (dk_at dksJ18_indexOfChar_0 10 rfl rfl)
theorem dJ18_indexOfChar_13 : decode cJ18_indexOfChar 13 = .ok (.aload_n 0, 1) := dk_42 (dk_at dksJ18_indexOfChar_0 13 rfl rfl)
theorem dJ18_indexOfChar_14 : decode cJ18_indexOfChar 14 = .ok (.iload 5, 2) := dk_21 5 (dk_at dksJ18_indexOfChar_0 14 rfl rfl)
theorem dJ18_indexOfChar_16 : decode cJ18_indexOfChar 16 = .ok (.baload, 1) := dk_51 (dk_at dksJ18_indexOfChar_0 16 rfl rfl)
theorem dJ18_indexOfChar_17 : decode cJ18_indexOfChar 17 = .ok (.iload 4, 2) := dk_21 4 (dk_at dksJ18_indexOfChar_0 17 rfl rfl)
theorem dJ18_indexOfChar_19 : decode cJ18_indexOfChar 19 = .ok (.if_icmp .ne 6, 3) := dk_160 0 6 (dk_at dksJ18_indexOfChar_0 19 rfl rfl)
theorem dJ18_indexOfChar_22 : decode cJ18_indexOfChar 22 = .ok (.iload 5, 2) := dk_21 5 (dk_at dksJ18_indexOfChar_0 22 rfl rfl)
theorem dJ18_indexOfChar_24 : decode cJ18_indexOfChar 24 = .ok (.ireturn, 1) := dk_172 (dk_at dksJ18_indexOfChar_1 0 rfl rfl)
theorem dJ18_indexOfChar_25 : decode cJ18_indexOfChar 25 = .ok (.iinc 5 1, 3) := dk_132 5 1 (dk_at dksJ18_indexOfChar_1 1 rfl rfl)
theorem dJ18_indexOfChar_28 : decode cJ18_indexOfChar 28 = .ok (.goto (-21), 3) := dk_167 255 235 (dk_at dksJ18_indexOfChar_1 4 rfl rfl)
theorem dJ18_indexOfChar_31 : decode cJ18_indexOfChar 31 = .ok (.iconst (-1), 1) := dk_2 (dk_at dksJ18_indexOfChar_1 7 rfl rfl)
theorem dJ18_indexOfChar_32 : decode cJ18_indexOfChar 32 = .ok (.ireturn, 1) := dk_172 (dk_at dksJ18_indexOfChar_1 8 rfl rfl)
def wp_J18_indexOfChar_L7 (Z : zzG) (K : Option Value → zzM → Prop) : Nat → Option Nat → Int32 → Int32 → Int32 → zzM → Prop
  | 0, _, _, _, _, _ => False
  | n + 1, v0, v3, v4, v5, M => if v3 ≤ v5 then (K (some (.int (-1 : Int32))) M) else (zaI Z M v0 [101] v5 fun x1 => if x1 = v4 then (K (some (.int v5)) M) else (wp_J18_indexOfChar_L7 Z K n v0 v3 v4 (v5 + 1) M))
def wp_J18_indexOfChar (Z : zzG) (p0 : Option Nat) (p1 : Int32) (p2 : Int32) (p3 : Int32) (M : zzM) (K : Option Value → zzM → Prop) : Prop := ∃ n7 : Nat, wp_J18_indexOfChar_L7 Z K n7 p0 p3 p1.toInt8.toInt32 p2 M
theorem ok_J18_indexOfChar_L7 {G : zzX} (C : zz_C G cJ18_indexOfChar "java/lang/StringLatin1" 6) {K : Option Value → zzM → Prop} (E : zz_E G (some .int) K (fun _ _ _ => False)) (hH : zz_H G []) (hR : zz_Rm G 1) : ∀ (n : Nat) (v0 : Option Nat) (v3 : Int32) (v4 : Int32) (v5 : Int32) (M : zzM) (bc bs : Nat), wp_J18_indexOfChar_L7 (zz_Zof G) K n v0 v3 v4 v5 M → zz_T G 6 M bc bs 7 [(0, va_rf v0), (3, .int v3), (4, .int v4), (5, .int v5)] [] := by
  intro n
  induction n with
  | zero =>
    intro v0 v3 v4 v5 M bc bs hw
    exact False.elim hw
  | succ n ih =>
    intro v0 v3 v4 v5 M bc bs hw
    refine zz_iload C dJ18_indexOfChar_7 3 rfl ?_
    refine zz_iload_n C dJ18_indexOfChar_9 rfl 1 rfl ?_
    refine zz_icmp_ge (tgt := 31) C dJ18_indexOfChar_10 (by decide) hw (fun hw => ?_) (fun hw => ?_)
    · refine zz_iconst (v := (-1 : Int32)) C dJ18_indexOfChar_31 (by decide) ?_
      exact zz_iret C E dJ18_indexOfChar_32 hw
    · refine zz_aload_n C dJ18_indexOfChar_13 rfl 0 rfl ?_
      refine zz_iload C dJ18_indexOfChar_14 3 rfl ?_
      refine zz_bald C dJ18_indexOfChar_16 hw (fun x1 hw => ?_)
      refine zz_iload C dJ18_indexOfChar_17 2 rfl ?_
      refine zz_icmp_ne (tgt := 25) C dJ18_indexOfChar_19 (by decide) hw (fun hw => ?_) (fun hw => ?_)
      · refine zz_iinc (lv' := [(5, .int (v5 + 1)), (0, va_rf v0), (3, .int v3), (4, .int v4)]) C dJ18_indexOfChar_25 3 rfl (by rfl) (by decide) rfl ?_
        refine zz_goto (tgt := 7) C dJ18_indexOfChar_28 (by decide) ?_
        refine zz_subP [1, 2, 3, 0] rfl ?_
        exact ih _ _ _ _ _ _ _ hw
      · refine zz_iload C dJ18_indexOfChar_22 3 rfl ?_
        exact zz_iret C E dJ18_indexOfChar_24 hw
theorem ok_J18_indexOfChar {Z : zzG} {l : Launch} (hl : l.stackTraces = false) {p0 : Option Nat} {p1 : Int32} {p2 : Int32} {p3 : Int32} {M : zzM} {mc ms : Nat} {K : Option Value → zzM → Prop} (hw : wp_J18_indexOfChar Z p0 p1 p2 p3 M K) : zz_Met Z l yJ18_indexOfChar (zz_ws yJ18_indexOfChar cJ18_indexOfChar 6 (some .int) none) 1 [va_rf p0, .int p1, .int p2, .int p3] M mc ms K (fun _ _ _ => False) := by
  refine zz_ofW hl (plainFor_of_name (by decide)) (by simp only [zz_sl0, zz_slI, zz_slJ, zz_slA] <;> decide) (fun G hZ hll C E hH hR hin => ?_)
  subst hZ
  subst hll
  rw [show lv_args 0 [va_rf p0, .int p1, .int p2, .int p3] = [(0, va_rf p0), (1, .int p1), (2, .int p2), (3, .int p3)] by simp only [zz_la0, zz_laI, zz_laJ, zz_laA]]
  unfold wp_J18_indexOfChar at hw
  refine zz_iload_n C dJ18_indexOfChar_0 rfl 1 rfl ?_
  refine zz_i2b C dJ18_indexOfChar_1 ?_
  refine zz_istore (lv' := [(4, .int p1.toInt8.toInt32), (0, va_rf p0), (1, .int p1), (2, .int p2), (3, .int p3)]) C dJ18_indexOfChar_2 (by decide) rfl ?_
  refine zz_iload_n C dJ18_indexOfChar_4 rfl 3 rfl ?_
  refine zz_istore (lv' := [(5, .int p2), (4, .int p1.toInt8.toInt32), (0, va_rf p0), (1, .int p1), (2, .int p2), (3, .int p3)]) C dJ18_indexOfChar_5 (by decide) rfl ?_
  refine zz_subP [2, 5, 1, 0] rfl ?_
  obtain ⟨n7, hw⟩ := hw
  exact ok_J18_indexOfChar_L7 C E hH hR n7 _ _ _ _ _ _ _ hw
abbrev cJ18_indexOf : ByteArray := prog_49_method_22_code
def yJ18_indexOf : MethodName := ⟨"java/lang/StringLatin1", "indexOf", "([BIII)I"⟩
def dkwJ18_indexOf_1 : List UInt8 := [161, 0, 5, 2, 172, 42, 27, 28, 29, 184, 0, 95, 172]
abbrev dktJ18_indexOf_1 : List UInt8 := dkwJ18_indexOf_1 ++ []
def dkwJ18_indexOf_0 : List UInt8 := [27, 184, 0, 88, 154, 0, 5, 2, 172, 28, 3, 184, 0, 92, 61, 29, 42, 190, 184, 0, 38, 62, 28, 29]
abbrev dktJ18_indexOf_0 : List UInt8 := dkwJ18_indexOf_0 ++ dktJ18_indexOf_1
theorem dksJ18_indexOf_0 : cJ18_indexOf.data.toList.drop 0 = dktJ18_indexOf_0 := by decide +kernel
theorem dksJ18_indexOf_1 : cJ18_indexOf.data.toList.drop 24 = dktJ18_indexOf_1 := dk_seg dksJ18_indexOf_0 24 rfl rfl
theorem dJ18_indexOf_0 : decode cJ18_indexOf 0 = .ok (.iload_n 1, 1) := dk_27 (dk_at dksJ18_indexOf_0 0 rfl rfl)
theorem dJ18_indexOf_1 : decode cJ18_indexOf 1 = .ok (.invokestatic 88, 3) := dk_184 0 88 (dk_at dksJ18_indexOf_0 1 rfl rfl)
theorem dJ18_indexOf_4 : decode cJ18_indexOf 4 = .ok (.ifCond .ne 5, 3) := dk_154 0 5 (dk_at dksJ18_indexOf_0 4 rfl rfl)
theorem dJ18_indexOf_7 : decode cJ18_indexOf 7 = .ok (.iconst (-1), 1) := dk_2 (dk_at dksJ18_indexOf_0 7 rfl rfl)
theorem dJ18_indexOf_8 : decode cJ18_indexOf 8 = .ok (.ireturn, 1) := dk_172 (dk_at dksJ18_indexOf_0 8 rfl rfl)
theorem dJ18_indexOf_9 : decode cJ18_indexOf 9 = .ok (.iload_n 2, 1) := dk_28 (dk_at dksJ18_indexOf_0 9 rfl rfl)
theorem dJ18_indexOf_10 : decode cJ18_indexOf 10 = .ok (.iconst 0, 1) := dk_3 (dk_at dksJ18_indexOf_0 10 rfl rfl)
theorem dJ18_indexOf_11 : decode cJ18_indexOf 11 = .ok (.invokestatic 92, 3) := dk_184 0 92 (dk_at dksJ18_indexOf_0 11 rfl rfl)
theorem dJ18_indexOf_14 : decode cJ18_indexOf 14 = .ok (.istore_n 2, 1) := dk_61 (dk_at dksJ18_indexOf_0 14 rfl rfl)
theorem dJ18_indexOf_15 : decode cJ18_indexOf 15 = .ok (.iload_n 3, 1) := dk_29 (dk_at dksJ18_indexOf_0 15 rfl rfl)
theorem dJ18_indexOf_16 : decode cJ18_indexOf 16 = .ok (.aload_n 0, 1) := dk_42 (dk_at dksJ18_indexOf_0 16 rfl rfl)
theorem dJ18_indexOf_17 : decode cJ18_indexOf 17 = .ok (.arraylength, 1) := dk_190 (dk_at dksJ18_indexOf_0 17 rfl rfl)
theorem dJ18_indexOf_18 : decode cJ18_indexOf 18 = .ok (.invokestatic 38, 3) := dk_184 0 38 (dk_at dksJ18_indexOf_0 18 rfl rfl)
theorem dJ18_indexOf_21 : decode cJ18_indexOf 21 = .ok (.istore_n 3, 1) := dk_62 (dk_at dksJ18_indexOf_0 21 rfl rfl)
theorem dJ18_indexOf_22 : decode cJ18_indexOf 22 = .ok (.iload_n 2, 1) := dk_28 (dk_at dksJ18_indexOf_0 22 rfl rfl)
theorem dJ18_indexOf_23 : decode cJ18_indexOf 23 = .ok (.iload_n 3, 1) := dk_29 (dk_at dksJ18_indexOf_0 23 rfl rfl)
theorem dJ18_indexOf_24 : decode cJ18_indexOf 24 = .ok (.if_icmp .lt 5, 3) := dk_161 0 5 (dk_at dksJ18_indexOf_1 0 rfl rfl)
theorem dJ18_indexOf_27 : decode cJ18_indexOf 27 = .ok (.iconst (-1), 1) := dk_2 (dk_at dksJ18_indexOf_1 3 rfl rfl)
theorem dJ18_indexOf_28 : decode cJ18_indexOf 28 = .ok (.ireturn, 1) := dk_172 (dk_at dksJ18_indexOf_1 4 rfl rfl)
theorem dJ18_indexOf_29 : decode cJ18_indexOf 29 = .ok (.aload_n 0, 1) := dk_42 (dk_at dksJ18_indexOf_1 5 rfl rfl)
theorem dJ18_indexOf_30 : decode cJ18_indexOf 30 = .ok (.iload_n 1, 1) := dk_27 (dk_at dksJ18_indexOf_1 6 rfl rfl)
theorem dJ18_indexOf_31 : decode cJ18_indexOf 31 = .ok (.iload_n 2, 1) := dk_28 (dk_at dksJ18_indexOf_1 7 rfl rfl)
theorem dJ18_indexOf_32 : decode cJ18_indexOf 32 = .ok (.iload_n 3, 1) := dk_29 (dk_at dksJ18_indexOf_1 8 rfl rfl)
theorem dJ18_indexOf_33 : decode cJ18_indexOf 33 = .ok (.invokestatic 95, 3) := dk_184 0 95 (dk_at dksJ18_indexOf_1 9 rfl rfl)
theorem dJ18_indexOf_36 : decode cJ18_indexOf 36 = .ok (.ireturn, 1) := dk_172 (dk_at dksJ18_indexOf_1 12 rfl rfl)
theorem q741 : (Jvm.Cond.code ({ cls := "java/lang/StringLatin1", name := "canEncode", desc := "(I)Z" } : Jvm.MethodName) prog_49_method_4_code (1 : Nat) (Option.some Jvm.ClassFile.FieldType.boolean)) ∈ lw_all := lw_g (lw_at lw_m3 181 rfl) rfl
theorem zk_J18_canEncode_2 : zz_cd yJ18_canEncode_2 cJ18_canEncode_2 1 (some .boolean) none ∈ lw_all := q741
theorem zy_J18_canEncode_2 : zz_yok yJ18_canEncode_2 1 = true := by decide +kernel
theorem q746 : (Jvm.Cond.code ({ cls := "java/lang/StringLatin1", name := "indexOfChar", desc := "([BIII)I" } : Jvm.MethodName) prog_49_method_23_code (6 : Nat) (Option.some Jvm.ClassFile.FieldType.int)) ∈ lw_all := lw_g (lw_at lw_m3 186 rfl) rfl
theorem zk_J18_indexOfChar : zz_cd yJ18_indexOfChar cJ18_indexOfChar 6 (some .int) none ∈ lw_all := q746
theorem zy_J18_indexOfChar : zz_yok yJ18_indexOfChar 4 = true := by decide +kernel
theorem q744 : (Jvm.Cond.methodLink "java/lang/StringLatin1" (95 : Nat) ({ cls := "java/lang/StringLatin1", name := "indexOfChar", desc := "([BIII)I" } : Jvm.MethodName)) ∈ lw_all := lw_g (lw_at lw_m3 184 rfl) rfl
theorem q745 : (Jvm.Cond.static ({ cls := "java/lang/StringLatin1", name := "indexOfChar", desc := "([BIII)I" } : Jvm.MethodName)) ∈ lw_all := lw_g (lw_at lw_m3 185 rfl) rfl
theorem q743 : (Jvm.Cond.methodLink "java/lang/StringLatin1" (38 : Nat) ({ cls := "java/lang/Math", name := "min", desc := "(II)I" } : Jvm.MethodName)) ∈ lw_all := lw_g (lw_at lw_m3 183 rfl) rfl
theorem q742 : (Jvm.Cond.methodLink "java/lang/StringLatin1" (92 : Nat) ({ cls := "java/lang/Math", name := "max", desc := "(II)I" } : Jvm.MethodName)) ∈ lw_all := lw_g (lw_at lw_m3 182 rfl) rfl
theorem q739 : (Jvm.Cond.methodLink "java/lang/StringLatin1" (88 : Nat) ({ cls := "java/lang/StringLatin1", name := "canEncode", desc := "(I)Z" } : Jvm.MethodName)) ∈ lw_all := lw_g (lw_at lw_m3 179 rfl) rfl
theorem q740 : (Jvm.Cond.static ({ cls := "java/lang/StringLatin1", name := "canEncode", desc := "(I)Z" } : Jvm.MethodName)) ∈ lw_all := lw_g (lw_at lw_m3 180 rfl) rfl
def wp_J18_indexOf (Z : zzG) (p0 : Option Nat) (p1 : Int32) (p2 : Int32) (p3 : Int32) (M : zzM) (K : Option Value → zzM → Prop) : Prop := wp_J18_canEncode_2 Z p1 M (fun r1 M2 => zrI r1 fun x5 => if x5 = 0 then (K (some (.int (-1 : Int32))) M2) else (wp_J16_max Z p2 (0 : Int32) M2 (fun r6 M7 => zrI r6 fun x10 => zlen Z M7 p0 fun x11 => wp_J16_min Z p3 x11 M7 (fun r12 M13 => zrI r12 fun x16 => if x10 < x16 then (wp_J18_indexOfChar Z p0 p1 x10 x16 M13 (fun r17 M18 => zrI r17 fun x21 => K (some (.int x21)) M18)) else (K (some (.int (-1 : Int32))) M13)))))
theorem ok_J18_indexOf {Z : zzG} {l : Launch} (hl : l.stackTraces = false) {p0 : Option Nat} {p1 : Int32} {p2 : Int32} {p3 : Int32} {M : zzM} {mc ms : Nat} {K : Option Value → zzM → Prop} (hw : wp_J18_indexOf Z p0 p1 p2 p3 M K) : zz_Met Z l yJ18_indexOf (zz_ws yJ18_indexOf cJ18_indexOf 4 (some .int) none) 2 [va_rf p0, .int p1, .int p2, .int p3] M mc ms K (fun _ _ _ => False) := by
  refine zz_ofW hl (plainFor_of_name (by decide)) (by simp only [zz_sl0, zz_slI, zz_slJ, zz_slA] <;> decide) (fun G hZ hll C E hH hR hin => ?_)
  subst hZ
  subst hll
  rw [show lv_args 0 [va_rf p0, .int p1, .int p2, .int p3] = [(0, va_rf p0), (1, .int p1), (2, .int p2), (3, .int p3)] by simp only [zz_la0, zz_laI, zz_laJ, zz_laA]]
  unfold wp_J18_indexOf at hw
  refine zz_iload_n C dJ18_indexOf_0 rfl 1 rfl ?_
  refine zz_callS (As := [.int p1]) (rest := []) (mc := 0) (ms := 0) C hR dJ18_indexOf_1 (Or.inl q739) q740 zl_java_lang_StringLatin1 zk_J18_canEncode_2 (Or.inl rfl) zy_J18_canEncode_2 (by decide) (by decide) (ok_J18_canEncode_2 (zz_hl C) hw) (Nat.zero_le _) (Nat.zero_le _) (zz_cat10 _ (Nat.le_of_ble_eq_true rfl)) (fun r1 M2 hw => zz_kI hw (fun x5 hw => ?_)) (fun _ _ _ h9 => h9.elim) rfl
  refine zz_if_ne (tgt := 9) C dJ18_indexOf_4 (by decide) hw (fun hw => ?_) (fun hw => ?_)
  · refine zz_iload_n C dJ18_indexOf_9 rfl 2 rfl ?_
    refine zz_iconst (v := (0 : Int32)) C dJ18_indexOf_10 (by decide) ?_
    refine zz_callS (As := [.int p2, .int (0 : Int32)]) (rest := []) (mc := 0) (ms := 0) C hR dJ18_indexOf_11 (Or.inl q742) q419 zl_java_lang_Math zk_J16_max (Or.inl rfl) zy_J16_max (by decide) (by decide) (ok_J16_max (zz_hl C) hw) (Nat.zero_le _) (Nat.zero_le _) (zz_cat10 _ (Nat.le_of_ble_eq_true rfl)) (fun r6 M7 hw => zz_kI hw (fun x10 hw => ?_)) (fun _ _ _ h9 => h9.elim) rfl
    refine zz_istore_n (i := 2) (lv' := [(2, .int x10), (0, va_rf p0), (1, .int p1), (3, .int p3)]) C dJ18_indexOf_14 rfl (by decide) rfl ?_
    refine zz_iload_n C dJ18_indexOf_15 rfl 3 rfl ?_
    refine zz_aload_n C dJ18_indexOf_16 rfl 1 rfl ?_
    refine zz_alen C dJ18_indexOf_17 hw (fun x11 hw => ?_)
    refine zz_callS (As := [.int p3, .int x11]) (rest := []) (mc := 0) (ms := 0) C hR dJ18_indexOf_18 (Or.inl q743) q437 zl_java_lang_Math zk_J16_min (Or.inl rfl) zy_J16_min (by decide) (by decide) (ok_J16_min (zz_hl C) hw) (Nat.zero_le _) (Nat.zero_le _) (zz_cat10 _ (Nat.le_of_ble_eq_true rfl)) (fun r12 M13 hw => zz_kI hw (fun x16 hw => ?_)) (fun _ _ _ h9 => h9.elim) rfl
    refine zz_istore_n (i := 3) (lv' := [(3, .int x16), (2, .int x10), (0, va_rf p0), (1, .int p1)]) C dJ18_indexOf_21 rfl (by decide) rfl ?_
    refine zz_iload_n C dJ18_indexOf_22 rfl 1 rfl ?_
    refine zz_iload_n C dJ18_indexOf_23 rfl 0 rfl ?_
    refine zz_icmp_lt (tgt := 29) C dJ18_indexOf_24 (by decide) hw (fun hw => ?_) (fun hw => ?_)
    · refine zz_aload_n C dJ18_indexOf_29 rfl 2 rfl ?_
      refine zz_iload_n C dJ18_indexOf_30 rfl 3 rfl ?_
      refine zz_iload_n C dJ18_indexOf_31 rfl 1 rfl ?_
      refine zz_iload_n C dJ18_indexOf_32 rfl 0 rfl ?_
      refine zz_callS (As := [va_rf p0, .int p1, .int x10, .int x16]) (rest := []) (mc := 0) (ms := 0) C hR dJ18_indexOf_33 (Or.inl q744) q745 zl_java_lang_StringLatin1 zk_J18_indexOfChar (Or.inl rfl) zy_J18_indexOfChar (by decide) (by decide) (ok_J18_indexOfChar (zz_hl C) hw) (Nat.zero_le _) (Nat.zero_le _) (zz_cat10 _ (Nat.le_of_ble_eq_true rfl)) (fun r17 M18 hw => zz_kI hw (fun x21 hw => ?_)) (fun _ _ _ h9 => h9.elim) rfl
      exact zz_iret C E dJ18_indexOf_36 hw
    · refine zz_iconst (v := (-1 : Int32)) C dJ18_indexOf_27 (by decide) ?_
      exact zz_iret C E dJ18_indexOf_28 hw
  · refine zz_iconst (v := (-1 : Int32)) C dJ18_indexOf_7 (by decide) ?_
    exact zz_iret C E dJ18_indexOf_8 hw
abbrev cJ7_indexOf_2 : ByteArray := prog_46_method_80_code
def yJ7_indexOf_2 : MethodName := ⟨"java/lang/String", "indexOf", "(II)I"⟩
def dkwJ7_indexOf_2_1 : List UInt8 := [180, 0, 9, 27, 28, 42, 182, 1, 249, 184, 2, 128, 172]
abbrev dktJ7_indexOf_2_1 : List UInt8 := dkwJ7_indexOf_2_1 ++ []
def dkwJ7_indexOf_2_0 : List UInt8 := [42, 182, 1, 236, 153, 0, 19, 42, 180, 0, 9, 27, 28, 42, 182, 1, 249, 184, 2, 125, 167, 0, 16, 42]
abbrev dktJ7_indexOf_2_0 : List UInt8 := dkwJ7_indexOf_2_0 ++ dktJ7_indexOf_2_1
theorem dksJ7_indexOf_2_0 : cJ7_indexOf_2.data.toList.drop 0 = dktJ7_indexOf_2_0 := by decide +kernel
theorem dksJ7_indexOf_2_1 : cJ7_indexOf_2.data.toList.drop 24 = dktJ7_indexOf_2_1 := dk_seg dksJ7_indexOf_2_0 24 rfl rfl
theorem dJ7_indexOf_2_0 : decode cJ7_indexOf_2 0 = .ok (.aload_n 0, 1) := dk_42 (dk_at dksJ7_indexOf_2_0 0 rfl rfl)
theorem dJ7_indexOf_2_1 : decode cJ7_indexOf_2 1 = .ok (.invokevirtual 492, 3) := dk_182 1 236 (dk_at dksJ7_indexOf_2_0 1 rfl rfl)
theorem dJ7_indexOf_2_4 : decode cJ7_indexOf_2 4 = .ok (.ifCond .eq 19, 3) := dk_153 0 19 (dk_at dksJ7_indexOf_2_0 4 rfl rfl)
theorem dJ7_indexOf_2_7 : decode cJ7_indexOf_2 7 = .ok (.aload_n 0, 1) := dk_42 (dk_at dksJ7_indexOf_2_0 7 rfl rfl)
theorem dJ7_indexOf_2_8 : decode cJ7_indexOf_2 8 = .ok (.getfield 9, 3) := dk_180 0 9 (dk_at dksJ7_indexOf_2_0 8 rfl rfl)
theorem dJ7_indexOf_2_11 : decode cJ7_indexOf_2 11 = .ok (.iload_n 1, 1) := dk_27 (dk_at dksJ7_indexOf_2_0 11 rfl rfl)
theorem dJ7_indexOf_2_12 : decode cJ7_indexOf_2 12 = .ok (.iload_n 2, 1) := dk_28 (dk_at dksJ7_indexOf_2_0 12 rfl rfl)
theorem dJ7_indexOf_2_13 : decode cJ7_indexOf_2 13 = .ok (.aload_n 0, 1) := dk_42 (dk_at dksJ7_indexOf_2_0 13 rfl rfl)
theorem dJ7_indexOf_2_14 : decode cJ7_indexOf_2 14 = .ok (.invokevirtual 505, 3) := dk_182 1 249 (dk_at dksJ7_indexOf_2_0 14 rfl rfl)
theorem dJ7_indexOf_2_17 : decode cJ7_indexOf_2 17 = .ok (.invokestatic 637, 3) := dk_184 2 125 (dk_at dksJ7_indexOf_2_0 17 rfl rfl)
theorem dJ7_indexOf_2_20 : decode cJ7_indexOf_2 20 = .ok (.goto 16, 3) := dk_167 0 16 (dk_at dksJ7_indexOf_2_0 20 rfl rfl)
theorem dJ7_indexOf_2_23 : decode cJ7_indexOf_2 23 = .ok (.aload_n 0, 1) := dk_42 (dk_at dksJ7_indexOf_2_0 23 rfl rfl)
theorem dJ7_indexOf_2_24 : decode cJ7_indexOf_2 24 = .ok (.getfield 9, 3) := dk_180 0 9 (dk_at dksJ7_indexOf_2_1 0 rfl rfl)
theorem dJ7_indexOf_2_27 : decode cJ7_indexOf_2 27 = .ok (.iload_n 1, 1) := dk_27 (dk_at dksJ7_indexOf_2_1 3 rfl rfl)
theorem dJ7_indexOf_2_28 : decode cJ7_indexOf_2 28 = .ok (.iload_n 2, 1) := dk_28 (dk_at dksJ7_indexOf_2_1 4 rfl rfl)
theorem dJ7_indexOf_2_29 : decode cJ7_indexOf_2 29 = .ok (.aload_n 0, 1) := dk_42 (dk_at dksJ7_indexOf_2_1 5 rfl rfl)
theorem dJ7_indexOf_2_30 : decode cJ7_indexOf_2 30 = .ok (.invokevirtual 505, 3) := dk_182 1 249 (dk_at dksJ7_indexOf_2_1 6 rfl rfl)
theorem dJ7_indexOf_2_33 : decode cJ7_indexOf_2 33 = .ok (.invokestatic 640, 3) := dk_184 2 128 (dk_at dksJ7_indexOf_2_1 9 rfl rfl)
theorem dJ7_indexOf_2_36 : decode cJ7_indexOf_2 36 = .ok (.ireturn, 1) := dk_172 (dk_at dksJ7_indexOf_2_1 12 rfl rfl)
theorem q735 : (Jvm.Cond.methodLink "java/lang/String" (505 : Nat) ({ cls := "java/lang/String", name := "length", desc := "()I" } : Jvm.MethodName)) ∈ lw_all := lw_g (lw_at lw_m3 175 rfl) rfl
theorem q738 : (Jvm.Cond.code ({ cls := "java/lang/StringLatin1", name := "indexOf", desc := "([BIII)I" } : Jvm.MethodName) prog_49_method_22_code (4 : Nat) (Option.some Jvm.ClassFile.FieldType.int)) ∈ lw_all := lw_g (lw_at lw_m3 178 rfl) rfl
theorem zk_J18_indexOf : zz_cd yJ18_indexOf cJ18_indexOf 4 (some .int) none ∈ lw_all := q738
theorem zy_J18_indexOf : zz_yok yJ18_indexOf 4 = true := by decide +kernel
theorem q736 : (Jvm.Cond.methodLink "java/lang/String" (637 : Nat) ({ cls := "java/lang/StringLatin1", name := "indexOf", desc := "([BIII)I" } : Jvm.MethodName)) ∈ lw_all := lw_g (lw_at lw_m3 176 rfl) rfl
theorem q737 : (Jvm.Cond.static ({ cls := "java/lang/StringLatin1", name := "indexOf", desc := "([BIII)I" } : Jvm.MethodName)) ∈ lw_all := lw_g (lw_at lw_m3 177 rfl) rfl
def wp_J7_indexOf_2 (Z : zzG) (this : Option Nat) (p0 : Int32) (p1 : Int32) (M : zzM) (K : Option Value → zzM → Prop) : Prop := zty Z M this fun t => t = 21 ∧ wp_J7_isLatin1 Z this M (fun r1 M2 => zrI r1 fun x5 => if x5 = 0 then (zgA Z M2 this [21] 0 fun x6 => zty Z M2 this fun t => t = 21 ∧ wp_J7_length Z this M2 (fun r7 M8 => zrI r7 fun x11 => False)) else (zgA Z M2 this [21] 0 fun x12 => zty Z M2 this fun t => t = 21 ∧ wp_J7_length Z this M2 (fun r13 M14 => zrI r13 fun x17 => wp_J18_indexOf Z x12 p0 p1 x17 M14 (fun r18 M19 => zrI r18 fun x22 => K (some (.int x22)) M19))))
theorem ok_J7_indexOf_2 {Z : zzG} {l : Launch} (hl : l.stackTraces = false) {this : Option Nat} {p0 : Int32} {p1 : Int32} {M : zzM} {mc ms : Nat} {K : Option Value → zzM → Prop} (hw : wp_J7_indexOf_2 Z this p0 p1 M K) : zz_Met Z l yJ7_indexOf_2 (zz_ws yJ7_indexOf_2 cJ7_indexOf_2 3 (some .int) none) 3 [va_rf this, .int p0, .int p1] M mc ms K (fun _ _ _ => False) := by
  refine zz_ofW hl (plainFor_of_name (by decide)) (by simp only [zz_sl0, zz_slI, zz_slJ, zz_slA] <;> decide) (fun G hZ hll C E hH hR hin => ?_)
  subst hZ
  subst hll
  rw [show lv_args 0 [va_rf this, .int p0, .int p1] = [(0, va_rf this), (1, .int p0), (2, .int p1)] by simp only [zz_la0, zz_laI, zz_laJ, zz_laA]]
  unfold wp_J7_indexOf_2 at hw
  refine zz_aload_n C dJ7_indexOf_2_0 rfl 0 rfl ?_
  obtain ⟨a9, t9, b9, fs9, hro, hL, rfl, hw⟩ := ztyS hw
  refine zz_callV (r := (zR_21, zT_21, 4)) (As := []) (rest := []) (mc := 0) (ms := 0) C hR hro dJ7_indexOf_2_1 (Or.inl q731) q732 (Or.inl q733) zl_java_lang_String zk_J7_isLatin1 (Or.inl rfl) zy_J7_isLatin1 rfl (by decide) (by decide) hL (ok_J7_isLatin1 (zz_hl C) hw) (Nat.zero_le _) (Nat.zero_le _) (zz_cat10 _ (Nat.le_of_ble_eq_true rfl)) (fun r1 M2 hw => zz_kI hw (fun x5 hw => ?_)) (fun _ _ _ h9 => h9.elim) rfl
  refine zz_if_eq (tgt := 23) C dJ7_indexOf_2_4 (by decide) hw (fun hw => ?_) (fun hw => ?_)
  · refine zz_aload_n C dJ7_indexOf_2_23 rfl 0 rfl ?_
    refine zz_getA C dJ7_indexOf_2_24 (Or.inl q689) zf_21_0_va_lang_String hw (fun x6 hw => ?_)
    refine zz_iload_n C dJ7_indexOf_2_27 rfl 1 rfl ?_
    refine zz_iload_n C dJ7_indexOf_2_28 rfl 2 rfl ?_
    refine zz_aload_n C dJ7_indexOf_2_29 rfl 0 rfl ?_
    obtain ⟨a9, t9, b9, fs9, hro, hL, rfl, hw⟩ := ztyS hw
    refine zz_callV (r := (zR_21, zT_21, 4)) (As := []) (rest := [.int p1, .int p0, va_rf x6]) (mc := 0) (ms := 0) C hR hro dJ7_indexOf_2_30 (Or.inl q735) q627 (Or.inl q628) zl_java_lang_String zk_J7_length (Or.inl rfl) zy_J7_length rfl (by decide) (by decide) hL (ok_J7_length (zz_hl C) hw) (Nat.zero_le _) (Nat.zero_le _) (zz_cat10 _ (Nat.le_of_ble_eq_true rfl)) (fun r7 M8 hw => zz_kI hw (fun x11 hw => ?_)) (fun _ _ _ h9 => h9.elim) rfl
    exact hw.elim
  · refine zz_aload_n C dJ7_indexOf_2_7 rfl 0 rfl ?_
    refine zz_getA C dJ7_indexOf_2_8 (Or.inl q689) zf_21_0_va_lang_String hw (fun x12 hw => ?_)
    refine zz_iload_n C dJ7_indexOf_2_11 rfl 1 rfl ?_
    refine zz_iload_n C dJ7_indexOf_2_12 rfl 2 rfl ?_
    refine zz_aload_n C dJ7_indexOf_2_13 rfl 0 rfl ?_
    obtain ⟨a9, t9, b9, fs9, hro, hL, rfl, hw⟩ := ztyS hw
    refine zz_callV (r := (zR_21, zT_21, 4)) (As := []) (rest := [.int p1, .int p0, va_rf x12]) (mc := 0) (ms := 0) C hR hro dJ7_indexOf_2_14 (Or.inl q735) q627 (Or.inl q628) zl_java_lang_String zk_J7_length (Or.inl rfl) zy_J7_length rfl (by decide) (by decide) hL (ok_J7_length (zz_hl C) hw) (Nat.zero_le _) (Nat.zero_le _) (zz_cat10 _ (Nat.le_of_ble_eq_true rfl)) (fun r13 M14 hw => zz_kI hw (fun x17 hw => ?_)) (fun _ _ _ h9 => h9.elim) rfl
    refine zz_callS (As := [va_rf x12, .int p0, .int p1, .int x17]) (rest := []) (mc := 0) (ms := 0) C hR dJ7_indexOf_2_17 (Or.inl q736) q737 zl_java_lang_StringLatin1 zk_J18_indexOf (Or.inl rfl) zy_J18_indexOf (by decide) (by decide) (ok_J18_indexOf (zz_hl C) hw) (Nat.zero_le _) (Nat.zero_le _) (zz_cat10 _ (Nat.le_of_ble_eq_true rfl)) (fun r18 M19 hw => zz_kI hw (fun x22 hw => ?_)) (fun _ _ _ h9 => h9.elim) rfl
    refine zz_goto (tgt := 36) C dJ7_indexOf_2_20 (by decide) ?_
    exact zz_iret C E dJ7_indexOf_2_36 hw
abbrev cJ7_indexOf : ByteArray := prog_46_method_79_code
def yJ7_indexOf : MethodName := ⟨"java/lang/String", "indexOf", "(I)I"⟩
def dkwJ7_indexOf_0 : List UInt8 := [42, 27, 3, 182, 2, 121, 172]
abbrev dktJ7_indexOf_0 : List UInt8 := dkwJ7_indexOf_0 ++ []
theorem dksJ7_indexOf_0 : cJ7_indexOf.data.toList.drop 0 = dktJ7_indexOf_0 := by decide +kernel
theorem dJ7_indexOf_0 : decode cJ7_indexOf 0 = .ok (.aload_n 0, 1) := dk_42 (dk_at dksJ7_indexOf_0 0 rfl rfl)
theorem dJ7_indexOf_1 : decode cJ7_indexOf 1 = .ok (.iload_n 1, 1) := dk_27 (dk_at dksJ7_indexOf_0 1 rfl rfl)
theorem dJ7_indexOf_2 : decode cJ7_indexOf 2 = .ok (.iconst 0, 1) := dk_3 (dk_at dksJ7_indexOf_0 2 rfl rfl)
theorem dJ7_indexOf_3 : decode cJ7_indexOf 3 = .ok (.invokevirtual 633, 3) := dk_182 2 121 (dk_at dksJ7_indexOf_0 3 rfl rfl)
theorem dJ7_indexOf_6 : decode cJ7_indexOf 6 = .ok (.ireturn, 1) := dk_172 (dk_at dksJ7_indexOf_0 6 rfl rfl)
theorem q730 : (Jvm.Cond.code ({ cls := "java/lang/String", name := "indexOf", desc := "(II)I" } : Jvm.MethodName) prog_46_method_80_code (3 : Nat) (Option.some Jvm.ClassFile.FieldType.int)) ∈ lw_all := lw_g (lw_at lw_m3 170 rfl) rfl
theorem zk_J7_indexOf_2 : zz_cd yJ7_indexOf_2 cJ7_indexOf_2 3 (some .int) none ∈ lw_all := q730
theorem zy_J7_indexOf_2 : zz_yok yJ7_indexOf_2 2 = true := by decide +kernel
theorem q727 : (Jvm.Cond.methodLink "java/lang/String" (633 : Nat) ({ cls := "java/lang/String", name := "indexOf", desc := "(II)I" } : Jvm.MethodName)) ∈ lw_all := lw_g (lw_at lw_m3 167 rfl) rfl
theorem q728 : (Jvm.Cond.instanceMethod ({ cls := "java/lang/String", name := "indexOf", desc := "(II)I" } : Jvm.MethodName)) ∈ lw_all := lw_g (lw_at lw_m3 168 rfl) rfl
theorem q729 : (Jvm.Cond.selects "java/lang/String" ({ cls := "java/lang/String", name := "indexOf", desc := "(II)I" } : Jvm.MethodName) ({ cls := "java/lang/String", name := "indexOf", desc := "(II)I" } : Jvm.MethodName)) ∈ lw_all := lw_g (lw_at lw_m3 169 rfl) rfl
def wp_J7_indexOf (Z : zzG) (this : Option Nat) (p0 : Int32) (M : zzM) (K : Option Value → zzM → Prop) : Prop := zty Z M this fun t => t = 21 ∧ wp_J7_indexOf_2 Z this p0 (0 : Int32) M (fun r1 M2 => zrI r1 fun x5 => K (some (.int x5)) M2)
theorem ok_J7_indexOf {Z : zzG} {l : Launch} (hl : l.stackTraces = false) {this : Option Nat} {p0 : Int32} {M : zzM} {mc ms : Nat} {K : Option Value → zzM → Prop} (hw : wp_J7_indexOf Z this p0 M K) : zz_Met Z l yJ7_indexOf (zz_ws yJ7_indexOf cJ7_indexOf 2 (some .int) none) 4 [va_rf this, .int p0] M mc ms K (fun _ _ _ => False) := by
  refine zz_ofW hl (plainFor_of_name (by decide)) (by simp only [zz_sl0, zz_slI, zz_slJ, zz_slA] <;> decide) (fun G hZ hll C E hH hR hin => ?_)
  subst hZ
  subst hll
  rw [show lv_args 0 [va_rf this, .int p0] = [(0, va_rf this), (1, .int p0)] by simp only [zz_la0, zz_laI, zz_laJ, zz_laA]]
  unfold wp_J7_indexOf at hw
  refine zz_aload_n C dJ7_indexOf_0 rfl 0 rfl ?_
  refine zz_iload_n C dJ7_indexOf_1 rfl 1 rfl ?_
  refine zz_iconst (v := (0 : Int32)) C dJ7_indexOf_2 (by decide) ?_
  obtain ⟨a9, t9, b9, fs9, hro, hL, rfl, hw⟩ := ztyS hw
  refine zz_callV (r := (zR_21, zT_21, 4)) (As := [.int p0, .int (0 : Int32)]) (rest := []) (mc := 0) (ms := 0) C hR hro dJ7_indexOf_3 (Or.inl q727) q728 (Or.inl q729) zl_java_lang_String zk_J7_indexOf_2 (Or.inl rfl) zy_J7_indexOf_2 rfl (by decide) (by decide) hL (ok_J7_indexOf_2 (zz_hl C) hw) (Nat.zero_le _) (Nat.zero_le _) (zz_cat10 _ (Nat.le_of_ble_eq_true rfl)) (fun r1 M2 hw => zz_kI hw (fun x5 hw => ?_)) (fun _ _ _ h9 => h9.elim) rfl
  exact zz_iret C E dJ7_indexOf_6 hw
abbrev cX7_next : ByteArray := prog_14_method_7_code
def yX7_next : MethodName := ⟨"DebateHall$Scanner", "next", "(I)LDebateHall$Token;"⟩
def dkwX7_next_10 : List UInt8 := [182, 0, 88, 27, 183, 0, 77, 176]
abbrev dktX7_next_10 : List UInt8 := dkwX7_next_10 ++ []
def dkwX7_next_9 : List UInt8 := [28, 182, 0, 106, 155, 0, 9, 178, 0, 109, 167, 0, 6, 178, 0, 59, 42, 180, 0, 18, 27, 29]
abbrev dktX7_next_9 : List UInt8 := dkwX7_next_9 ++ dktX7_next_10
def dkwX7_next_8 : List UInt8 := [42, 180, 0, 18, 27, 29, 182, 0, 88, 27, 183, 0, 77, 176, 187, 0, 54, 89, 28, 158, 0, 18, 18, 104]
abbrev dktX7_next_8 : List UInt8 := dkwX7_next_8 ++ dktX7_next_9
def dkwX7_next_7 : List UInt8 := [167, 255, 239, 187, 0, 54, 89, 29, 27, 100, 16, 6, 164, 0, 9, 178, 0, 59, 167, 0, 6, 178, 0, 101]
abbrev dktX7_next_7 : List UInt8 := dkwX7_next_7 ++ dktX7_next_8
def dkwX7_next_6 : List UInt8 := [184, 0, 85, 153, 0, 58, 42, 180, 0, 18, 29, 182, 0, 38, 184, 0, 85, 153, 0, 9, 132, 3, 1]
abbrev dktX7_next_6 : List UInt8 := dkwX7_next_6 ++ dktX7_next_7
def dkwX7_next_5 : List UInt8 := [184, 0, 91, 153, 0, 9, 178, 0, 95, 167, 0, 6, 178, 0, 98, 25, 4, 27, 183, 0, 77, 176, 28]
abbrev dktX7_next_5 : List UInt8 := dkwX7_next_5 ++ dktX7_next_6
def dkwX7_next_4 : List UInt8 := [187, 0, 54, 89, 25, 4, 182, 0, 68, 16, 8, 164, 0, 9, 178, 0, 59, 167, 0, 20, 25, 4]
abbrev dktX7_next_4 : List UInt8 := dkwX7_next_4 ++ dktX7_next_5
def dkwX7_next_3 : List UInt8 := [184, 0, 85, 153, 0, 9, 132, 3, 1, 167, 255, 225, 42, 180, 0, 18, 27, 29, 182, 0, 88, 58, 4]
abbrev dktX7_next_3 : List UInt8 := dkwX7_next_3 ++ dktX7_next_4
def dkwX7_next_2 : List UInt8 := [42, 180, 0, 18, 29, 182, 0, 38, 184, 0, 82, 154, 0, 17, 42, 180, 0, 18, 29, 182, 0, 38]
abbrev dktX7_next_2 : List UInt8 := dkwX7_next_2 ++ dktX7_next_3
def dkwX7_next_1 : List UInt8 := [183, 0, 77, 176, 42, 180, 0, 18, 27, 182, 0, 38, 61, 27, 4, 96, 62, 28, 184, 0, 82, 153, 0, 92]
abbrev dktX7_next_1 : List UInt8 := dkwX7_next_1 ++ dktX7_next_2
def dkwX7_next_0 : List UInt8 := [42, 180, 0, 12, 182, 0, 80, 17, 1, 144, 160, 0, 17, 187, 0, 54, 89, 178, 0, 59, 18, 75, 27]
abbrev dktX7_next_0 : List UInt8 := dkwX7_next_0 ++ dktX7_next_1
theorem dksX7_next_0 : cX7_next.data.toList.drop 0 = dktX7_next_0 := by decide +kernel
theorem dksX7_next_1 : cX7_next.data.toList.drop 23 = dktX7_next_1 := dk_seg dksX7_next_0 23 rfl rfl
theorem dksX7_next_2 : cX7_next.data.toList.drop 47 = dktX7_next_2 := dk_seg dksX7_next_1 24 rfl rfl
theorem dksX7_next_3 : cX7_next.data.toList.drop 69 = dktX7_next_3 := dk_seg dksX7_next_2 22 rfl rfl
theorem dksX7_next_4 : cX7_next.data.toList.drop 92 = dktX7_next_4 := dk_seg dksX7_next_3 23 rfl rfl
theorem dksX7_next_5 : cX7_next.data.toList.drop 114 = dktX7_next_5 := dk_seg dksX7_next_4 22 rfl rfl
theorem dksX7_next_6 : cX7_next.data.toList.drop 137 = dktX7_next_6 := dk_seg dksX7_next_5 23 rfl rfl
theorem dksX7_next_7 : cX7_next.data.toList.drop 160 = dktX7_next_7 := dk_seg dksX7_next_6 23 rfl rfl
theorem dksX7_next_8 : cX7_next.data.toList.drop 184 = dktX7_next_8 := dk_seg dksX7_next_7 24 rfl rfl
theorem dksX7_next_9 : cX7_next.data.toList.drop 208 = dktX7_next_9 := dk_seg dksX7_next_8 24 rfl rfl
theorem dksX7_next_10 : cX7_next.data.toList.drop 230 = dktX7_next_10 := dk_seg dksX7_next_9 22 rfl rfl
theorem dX7_next_0 : decode cX7_next 0 = .ok (.aload_n 0, 1) := dk_42 (dk_at dksX7_next_0 0 rfl rfl)
theorem dX7_next_1 : decode cX7_next 1 = .ok (.getfield 12, 3) := dk_180 0 12 (dk_at dksX7_next_0 1 rfl rfl)
theorem dX7_next_4 : decode cX7_next 4 = .ok (.invokevirtual 80, 3) := dk_182 0 80 (dk_at dksX7_next_0 4 rfl rfl)
theorem dX7_next_7 : decode cX7_next 7 = .ok (.sipush 400, 3) := dk_17 1 144 (dk_at dksX7_next_0 7 rfl rfl)
theorem dX7_next_10 : decode cX7_next 10 = .ok (.if_icmp .ne 17, 3) := dk_160 0 17 (dk_at dksX7_next_0 10 rfl rfl)
theorem dX7_next_13 : decode cX7_next 13 = .ok (.new 54, 3) := dk_187 0 54 (dk_at dksX7_next_0 13 rfl rfl)
theorem dX7_next_16 : decode cX7_next 16 = .ok (.dup, 1) := dk_89 (dk_at dksX7_next_0 16 rfl rfl)
theorem dX7_next_17 : decode cX7_next 17 = .ok (.getstatic 59, 3) := dk_178 0 59 (dk_at dksX7_next_0 17 rfl rfl)
theorem dX7_next_20 : decode cX7_next 20 = .ok (.ldc 75, 2) := dk_18 75 (dk_at dksX7_next_0 20 rfl rfl)
theorem dX7_next_22 : decode cX7_next 22 = .ok (.iload_n 1, 1) := dk_27 (dk_at dksX7_next_0 22 rfl rfl)
theorem dX7_next_23 : decode cX7_next 23 = .ok (.invokespecial 77, 3) := dk_183 0 77 (dk_at dksX7_next_1 0 rfl rfl)
theorem dX7_next_26 : decode cX7_next 26 = .ok (.areturn, 1) := dk_176 (dk_at dksX7_next_1 3 rfl rfl)
theorem dX7_next_27 : decode cX7_next 27 = .ok (.aload_n 0, 1) := dk_42 (dk_at dksX7_next_1 4 rfl rfl)
theorem dX7_next_28 : decode cX7_next 28 = .ok (.getfield 18, 3) := dk_180 0 18 (dk_at dksX7_next_1 5 rfl rfl)
theorem dX7_next_31 : decode cX7_next 31 = .ok (.iload_n 1, 1) := dk_27 (dk_at dksX7_next_1 8 rfl rfl)
theorem dX7_next_32 : decode cX7_next 32 = .ok (.invokevirtual 38, 3) := dk_182 0 38 (dk_at dksX7_next_1 9 rfl rfl)
theorem dX7_next_35 : decode cX7_next 35 = .ok (.istore_n 2, 1) := dk_61 (dk_at dksX7_next_1 12 rfl rfl)
theorem dX7_next_36 : decode cX7_next 36 = .ok (.iload_n 1, 1) := dk_27 (dk_at dksX7_next_1 13 rfl rfl)
theorem dX7_next_37 : decode cX7_next 37 = .ok (.iconst 1, 1) := dk_4 (dk_at dksX7_next_1 14 rfl rfl)
theorem dX7_next_38 : decode cX7_next 38 = .ok (.iadd, 1) := dk_96 (dk_at dksX7_next_1 15 rfl rfl)
theorem dX7_next_39 : decode cX7_next 39 = .ok (.istore_n 3, 1) := dk_62 (dk_at dksX7_next_1 16 rfl rfl)
theorem dX7_next_40 : decode cX7_next 40 = .ok (.iload_n 2, 1) := dk_28 (dk_at dksX7_next_1 17 rfl rfl)
theorem dX7_next_41 : decode cX7_next 41 = .ok (.invokestatic 82, 3) := dk_184 0 82 (dk_at dksX7_next_1 18 rfl rfl)
theorem dX7_next_44 : decode cX7_next 44 = .ok (.ifCond .eq 92, 3) := dk_153 0 92 (dk_at dksX7_next_1 21 rfl rfl)
theorem dX7_next_47 : decode cX7_next 47 = .ok (.aload_n 0, 1) := dk_42 (dk_at dksX7_next_2 0 rfl rfl)
theorem dX7_next_48 : decode cX7_next 48 = .ok (.getfield 18, 3) := dk_180 0 18 (dk_at dksX7_next_2 1 rfl rfl)
theorem dX7_next_51 : decode cX7_next 51 = .ok (.iload_n 3, 1) := dk_29 (dk_at dksX7_next_2 4 rfl rfl)
theorem dX7_next_52 : decode cX7_next 52 = .ok (.invokevirtual 38, 3) := dk_182 0 38 (dk_at dksX7_next_2 5 rfl rfl)
theorem dX7_next_55 : decode cX7_next 55 = .ok (.invokestatic 82, 3) := dk_184 0 82 (dk_at dksX7_next_2 8 rfl rfl)
theorem dX7_next_58 : decode cX7_next 58 = .ok (.ifCond .ne 17, 3) := dk_154 0 17 (dk_at dksX7_next_2 11 rfl rfl)
theorem dX7_next_61 : decode cX7_next 61 = .ok (.aload_n 0, 1) := dk_42 (dk_at dksX7_next_2 14 rfl rfl)
theorem dX7_next_62 : decode cX7_next 62 = .ok (.getfield 18, 3) := dk_180 0 18 (dk_at dksX7_next_2 15 rfl rfl)
theorem dX7_next_65 : decode cX7_next 65 = .ok (.iload_n 3, 1) := dk_29 (dk_at dksX7_next_2 18 rfl rfl)
theorem dX7_next_66 : decode cX7_next 66 = .ok (.invokevirtual 38, 3) := dk_182 0 38 (dk_at dksX7_next_2 19 rfl rfl)
theorem dX7_next_69 : decode cX7_next 69 = .ok (.invokestatic 85, 3) := dk_184 0 85 (dk_at dksX7_next_3 0 rfl rfl)
theorem dX7_next_72 : decode cX7_next 72 = .ok (.ifCond .eq 9, 3) := dk_153 0 9 (dk_at dksX7_next_3 3 rfl rfl)
theorem dX7_next_75 : decode cX7_next 75 = .ok (.iinc 3 1, 3) := dk_132 3 1 (dk_at dksX7_next_3 6 rfl rfl)
theorem dX7_next_78 : decode cX7_next 78 = .ok (.goto (-31), 3) := dk_167 255 225 (dk_at dksX7_next_3 9 rfl rfl)
theorem dX7_next_81 : decode cX7_next 81 = .ok (.aload_n 0, 1) := dk_42 (dk_at dksX7_next_3 12 rfl rfl)
theorem dX7_next_82 : decode cX7_next 82 = .ok (.getfield 18, 3) := dk_180 0 18 (dk_at dksX7_next_3 13 rfl rfl)
theorem dX7_next_85 : decode cX7_next 85 = .ok (.iload_n 1, 1) := dk_27 (dk_at dksX7_next_3 16 rfl rfl)
theorem dX7_next_86 : decode cX7_next 86 = .ok (.iload_n 3, 1) := dk_29 (dk_at dksX7_next_3 17 rfl rfl)
theorem dX7_next_87 : decode cX7_next 87 = .ok (.invokevirtual 88, 3) := dk_182 0 88 (dk_at dksX7_next_3 18 rfl rfl)
theorem dX7_next_90 : decode cX7_next 90 = .ok (.astore 4, 2) := dk_58 4 (dk_at dksX7_next_3 21 rfl rfl)
theorem dX7_next_92 : decode cX7_next 92 = .ok (.new 54, 3) := dk_187 0 54 (dk_at dksX7_next_4 0 rfl rfl)
theorem dX7_next_95 : decode cX7_next 95 = .ok (.dup, 1) := dk_89 (dk_at dksX7_next_4 3 rfl rfl)
theorem dX7_next_96 : decode cX7_next 96 = .ok (.aload 4, 2) := dk_25 4 (dk_at dksX7_next_4 4 rfl rfl)
theorem dX7_next_98 : decode cX7_next 98 = .ok (.invokevirtual 68, 3) := dk_182 0 68 (dk_at dksX7_next_4 6 rfl rfl)
theorem dX7_next_101 : decode cX7_next 101 = .ok (.bipush 8, 2) := dk_16 8 (dk_at dksX7_next_4 9 rfl rfl)
theorem dX7_next_103 : decode cX7_next 103 = .ok (.if_icmp .le 9, 3) := dk_164 0 9 (dk_at dksX7_next_4 11 rfl rfl)
theorem dX7_next_106 : decode cX7_next 106 = .ok (.getstatic 59, 3) := dk_178 0 59 (dk_at dksX7_next_4 14 rfl rfl)
theorem dX7_next_109 : decode cX7_next 109 = .ok (.goto 20, 3) := dk_167 0 20 (dk_at dksX7_next_4 17 rfl rfl)
theorem dX7_next_112 : decode cX7_next 112 = .ok (.aload 4, 2) := dk_25 4 (dk_at dksX7_next_4 20 rfl rfl)
theorem dX7_next_114 : decode cX7_next 114 = .ok (.invokestatic 91, 3) := dk_184 0 91 (dk_at dksX7_next_5 0 rfl rfl)
theorem dX7_next_117 : decode cX7_next 117 = .ok (.ifCond .eq 9, 3) := dk_153 0 9 (dk_at dksX7_next_5 3 rfl rfl)
theorem dX7_next_120 : decode cX7_next 120 = .ok (.getstatic 95, 3) := dk_178 0 95 (dk_at dksX7_next_5 6 rfl rfl)
theorem dX7_next_123 : decode cX7_next 123 = .ok (.goto 6, 3) := dk_167 0 6 (dk_at dksX7_next_5 9 rfl rfl)
theorem dX7_next_126 : decode cX7_next 126 = .ok (.getstatic 98, 3) := dk_178 0 98 (dk_at dksX7_next_5 12 rfl rfl)
theorem dX7_next_129 : decode cX7_next 129 = .ok (.aload 4, 2) := dk_25 4 (dk_at dksX7_next_5 15 rfl rfl)
theorem dX7_next_131 : decode cX7_next 131 = .ok (.iload_n 1, 1) := dk_27 (dk_at dksX7_next_5 17 rfl rfl)
theorem dX7_next_132 : decode cX7_next 132 = .ok (.invokespecial 77, 3) := dk_183 0 77 (dk_at dksX7_next_5 18 rfl rfl)
theorem dX7_next_135 : decode cX7_next 135 = .ok (.areturn, 1) := dk_176 (dk_at dksX7_next_5 21 rfl rfl)
theorem dX7_next_136 : decode cX7_next 136 = .ok (.iload_n 2, 1) := dk_28 (dk_at dksX7_next_5 22 rfl rfl)
theorem dX7_next_137 : decode cX7_next 137 = .ok (.invokestatic 85, 3) := dk_184 0 85 (dk_at dksX7_next_6 0 rfl rfl)
theorem dX7_next_140 : decode cX7_next 140 = .ok (.ifCond .eq 58, 3) := dk_153 0 58 (dk_at dksX7_next_6 3 rfl rfl)
theorem dX7_next_143 : decode cX7_next 143 = .ok (.aload_n 0, 1) := dk_42 (dk_at dksX7_next_6 6 rfl rfl)
theorem dX7_next_144 : decode cX7_next 144 = .ok (.getfield 18, 3) := dk_180 0 18 (dk_at dksX7_next_6 7 rfl rfl)
theorem dX7_next_147 : decode cX7_next 147 = .ok (.iload_n 3, 1) := dk_29 (dk_at dksX7_next_6 10 rfl rfl)
theorem dX7_next_148 : decode cX7_next 148 = .ok (.invokevirtual 38, 3) := dk_182 0 38 (dk_at dksX7_next_6 11 rfl rfl)
theorem dX7_next_151 : decode cX7_next 151 = .ok (.invokestatic 85, 3) := dk_184 0 85 (dk_at dksX7_next_6 14 rfl rfl)
theorem dX7_next_154 : decode cX7_next 154 = .ok (.ifCond .eq 9, 3) := dk_153 0 9 (dk_at dksX7_next_6 17 rfl rfl)
theorem dX7_next_157 : decode cX7_next 157 = .ok (.iinc 3 1, 3) := dk_132 3 1 (dk_at dksX7_next_6 20 rfl rfl)
theorem dX7_next_160 : decode cX7_next 160 = .ok (.goto (-17), 3) := dk_167 255 239 (dk_at dksX7_next_7 0 rfl rfl)
theorem dX7_next_163 : decode cX7_next 163 = .ok (.new 54, 3) := dk_187 0 54 (dk_at dksX7_next_7 3 rfl rfl)
theorem dX7_next_166 : decode cX7_next 166 = .ok (.dup, 1) := dk_89 (dk_at dksX7_next_7 6 rfl rfl)
theorem dX7_next_167 : decode cX7_next 167 = .ok (.iload_n 3, 1) := dk_29 (dk_at dksX7_next_7 7 rfl rfl)
theorem dX7_next_168 : decode cX7_next 168 = .ok (.iload_n 1, 1) := dk_27 (dk_at dksX7_next_7 8 rfl rfl)
theorem dX7_next_169 : decode cX7_next 169 = .ok (.isub, 1) := dk_100 (dk_at dksX7_next_7 9 rfl rfl)
theorem dX7_next_170 : decode cX7_next 170 = .ok (.bipush 6, 2) := dk_16 6 (dk_at dksX7_next_7 10 rfl rfl)
theorem dX7_next_172 : decode cX7_next 172 = .ok (.if_icmp .le 9, 3) := dk_164 0 9 (dk_at dksX7_next_7 12 rfl rfl)
theorem dX7_next_175 : decode cX7_next 175 = .ok (.getstatic 59, 3) := dk_178 0 59 (dk_at dksX7_next_7 15 rfl rfl)
theorem dX7_next_178 : decode cX7_next 178 = .ok (.goto 6, 3) := dk_167 0 6 (dk_at dksX7_next_7 18 rfl rfl)
theorem dX7_next_181 : decode cX7_next 181 = .ok (.getstatic 101, 3) := dk_178 0 101 (dk_at dksX7_next_7 21 rfl rfl)
theorem dX7_next_184 : decode cX7_next 184 = .ok (.aload_n 0, 1) := dk_42 (dk_at dksX7_next_8 0 rfl rfl)
theorem dX7_next_185 : decode cX7_next 185 = .ok (.getfield 18, 3) := dk_180 0 18 (dk_at dksX7_next_8 1 rfl rfl)
theorem dX7_next_188 : decode cX7_next 188 = .ok (.iload_n 1, 1) := dk_27 (dk_at dksX7_next_8 4 rfl rfl)
theorem dX7_next_189 : decode cX7_next 189 = .ok (.iload_n 3, 1) := dk_29 (dk_at dksX7_next_8 5 rfl rfl)
theorem dX7_next_190 : decode cX7_next 190 = .ok (.invokevirtual 88, 3) := dk_182 0 88 (dk_at dksX7_next_8 6 rfl rfl)
theorem dX7_next_193 : decode cX7_next 193 = .ok (.iload_n 1, 1) := dk_27 (dk_at dksX7_next_8 9 rfl rfl)
theorem dX7_next_194 : decode cX7_next 194 = .ok (.invokespecial 77, 3) := dk_183 0 77 (dk_at dksX7_next_8 10 rfl rfl)
theorem dX7_next_197 : decode cX7_next 197 = .ok (.areturn, 1) := dk_176 (dk_at dksX7_next_8 13 rfl rfl)
theorem dX7_next_198 : decode cX7_next 198 = .ok (.new 54, 3) := dk_187 0 54 (dk_at dksX7_next_8 14 rfl rfl)
theorem dX7_next_201 : decode cX7_next 201 = .ok (.dup, 1) := dk_89 (dk_at dksX7_next_8 17 rfl rfl)
theorem dX7_next_202 : decode cX7_next 202 = .ok (.iload_n 2, 1) := dk_28 (dk_at dksX7_next_8 18 rfl rfl)
theorem dX7_next_203 : decode cX7_next 203 = .ok (.ifCond .le 18, 3) := dk_158 0 18 (dk_at dksX7_next_8 19 rfl rfl)
theorem dX7_next_206 : decode cX7_next 206 = .ok (.ldc 104, 2) := dk_18 104 (dk_at dksX7_next_8 22 rfl rfl)
theorem dX7_next_208 : decode cX7_next 208 = .ok (.iload_n 2, 1) := dk_28 (dk_at dksX7_next_9 0 rfl rfl)
theorem dX7_next_209 : decode cX7_next 209 = .ok (.invokevirtual 106, 3) := dk_182 0 106 (dk_at dksX7_next_9 1 rfl rfl)
theorem dX7_next_212 : decode cX7_next 212 = .ok (.ifCond .lt 9, 3) := dk_155 0 9 (dk_at dksX7_next_9 4 rfl rfl)
theorem dX7_next_215 : decode cX7_next 215 = .ok (.getstatic 109, 3) := dk_178 0 109 (dk_at dksX7_next_9 7 rfl rfl)
theorem dX7_next_218 : decode cX7_next 218 = .ok (.goto 6, 3) := dk_167 0 6 (dk_at dksX7_next_9 10 rfl rfl)
theorem dX7_next_221 : decode cX7_next 221 = .ok (.getstatic 59, 3) := dk_178 0 59 (dk_at dksX7_next_9 13 rfl rfl)
theorem dX7_next_224 : decode cX7_next 224 = .ok (.aload_n 0, 1) := dk_42 (dk_at dksX7_next_9 16 rfl rfl)
theorem dX7_next_225 : decode cX7_next 225 = .ok (.getfield 18, 3) := dk_180 0 18 (dk_at dksX7_next_9 17 rfl rfl)
theorem dX7_next_228 : decode cX7_next 228 = .ok (.iload_n 1, 1) := dk_27 (dk_at dksX7_next_9 20 rfl rfl)
theorem dX7_next_229 : decode cX7_next 229 = .ok (.iload_n 3, 1) := dk_29 (dk_at dksX7_next_9 21 rfl rfl)
theorem dX7_next_230 : decode cX7_next 230 = .ok (.invokevirtual 88, 3) := dk_182 0 88 (dk_at dksX7_next_10 0 rfl rfl)
theorem dX7_next_233 : decode cX7_next 233 = .ok (.iload_n 1, 1) := dk_27 (dk_at dksX7_next_10 3 rfl rfl)
theorem dX7_next_234 : decode cX7_next 234 = .ok (.invokespecial 77, 3) := dk_183 0 77 (dk_at dksX7_next_10 4 rfl rfl)
theorem dX7_next_237 : decode cX7_next 237 = .ok (.areturn, 1) := dk_176 (dk_at dksX7_next_10 7 rfl rfl)
theorem q389 : (Jvm.Cond.code ({ cls := "DebateHall$Scanner", name := "isLetter", desc := "(I)Z" } : Jvm.MethodName) prog_14_method_2_code (1 : Nat) (Option.some Jvm.ClassFile.FieldType.boolean)) ∈ lw_all := lw_g (lw_at lw_m2 69 rfl) rfl
theorem zk_X7_isLetter : zz_cd yX7_isLetter cX7_isLetter 1 (some .boolean) none ∈ lw_all := q389
theorem zy_X7_isLetter : zz_yok yX7_isLetter 1 = true := by decide +kernel
theorem q392 : (Jvm.Cond.code ({ cls := "DebateHall$Scanner", name := "isDigit", desc := "(I)Z" } : Jvm.MethodName) prog_14_method_3_code (1 : Nat) (Option.some Jvm.ClassFile.FieldType.boolean)) ∈ lw_all := lw_g (lw_at lw_m2 72 rfl) rfl
theorem zk_X7_isDigit : zz_cd yX7_isDigit cX7_isDigit 1 (some .boolean) none ∈ lw_all := q392
theorem zy_X7_isDigit : zz_yok yX7_isDigit 1 = true := by decide +kernel
theorem q357 : (Jvm.Cond.classLink "DebateHall$Scanner" (54 : Nat) "DebateHall$Token") ∈ lw_all := lw_g (lw_at lw_m2 37 rfl) rfl
theorem q102 : (Jvm.Cond.initialized "DebateHall$Token") ∈ lw_all := lw_g (lw_at lw_m1 22 rfl) rfl
theorem zl_DebateHall_Token : Cond.initialized "DebateHall$Token" ∈ lw_all := q102
theorem q726 : (Jvm.Cond.code ({ cls := "java/lang/String", name := "indexOf", desc := "(I)I" } : Jvm.MethodName) prog_46_method_79_code (2 : Nat) (Option.some Jvm.ClassFile.FieldType.int)) ∈ lw_all := lw_g (lw_at lw_m3 166 rfl) rfl
theorem zk_J7_indexOf : zz_cd yJ7_indexOf cJ7_indexOf 2 (some .int) none ∈ lw_all := q726
theorem zy_J7_indexOf : zz_yok yJ7_indexOf 1 = true := by decide +kernel
theorem q773 : (Jvm.Cond.fieldLink "DebateHall$Scanner" (109 : Nat) "DebateHall$Sort" "SYMBOL" "LDebateHall$Sort;") ∈ lw_all := lw_g (lw_at lw_m3 213 rfl) rfl
theorem q723 : (Jvm.Cond.methodLink "DebateHall$Scanner" (106 : Nat) ({ cls := "java/lang/String", name := "indexOf", desc := "(I)I" } : Jvm.MethodName)) ∈ lw_all := lw_g (lw_at lw_m3 163 rfl) rfl
theorem q724 : (Jvm.Cond.instanceMethod ({ cls := "java/lang/String", name := "indexOf", desc := "(I)I" } : Jvm.MethodName)) ∈ lw_all := lw_g (lw_at lw_m3 164 rfl) rfl
theorem q725 : (Jvm.Cond.selects "java/lang/String" ({ cls := "java/lang/String", name := "indexOf", desc := "(I)I" } : Jvm.MethodName) ({ cls := "java/lang/String", name := "indexOf", desc := "(I)I" } : Jvm.MethodName)) ∈ lw_all := lw_g (lw_at lw_m3 165 rfl) rfl
theorem q390 : (Jvm.Cond.methodLink "DebateHall$Scanner" (85 : Nat) ({ cls := "DebateHall$Scanner", name := "isDigit", desc := "(I)Z" } : Jvm.MethodName)) ∈ lw_all := lw_g (lw_at lw_m2 70 rfl) rfl
theorem zl_DebateHall_Scanner : Cond.initialized "DebateHall$Scanner" ∈ lw_all := q101
theorem q391 : (Jvm.Cond.static ({ cls := "DebateHall$Scanner", name := "isDigit", desc := "(I)Z" } : Jvm.MethodName)) ∈ lw_all := lw_g (lw_at lw_m2 71 rfl) rfl
theorem q387 : (Jvm.Cond.methodLink "DebateHall$Scanner" (82 : Nat) ({ cls := "DebateHall$Scanner", name := "isLetter", desc := "(I)Z" } : Jvm.MethodName)) ∈ lw_all := lw_g (lw_at lw_m2 67 rfl) rfl
theorem q388 : (Jvm.Cond.static ({ cls := "DebateHall$Scanner", name := "isLetter", desc := "(I)Z" } : Jvm.MethodName)) ∈ lw_all := lw_g (lw_at lw_m2 68 rfl) rfl
theorem q342 : (Jvm.Cond.methodLink "DebateHall$Scanner" (38 : Nat) ({ cls := "DebateHall$Tape", name := "at", desc := "(I)I" } : Jvm.MethodName)) ∈ lw_all := lw_g (lw_at lw_m2 22 rfl) rfl
theorem q359 : (Jvm.Cond.fieldLink "DebateHall$Scanner" (59 : Nat) "DebateHall$Sort" "BAD" "LDebateHall$Sort;") ∈ lw_all := lw_g (lw_at lw_m2 39 rfl) rfl
theorem q364 : (Jvm.Cond.code ({ cls := "DebateHall$Token", name := "<init>", desc := "(LDebateHall$Sort;Ljava/lang/String;I)V" } : Jvm.MethodName) prog_22_method_1_code (4 : Nat) (Option.none : Option Jvm.ClassFile.FieldType)) ∈ lw_all := lw_g (lw_at lw_m2 44 rfl) rfl
theorem zk_X8_init : zz_cd yX8_init cX8_init 4 none none ∈ lw_all := q364
theorem zy_X8_init : zz_yok yX8_init 3 = true := by decide +kernel
theorem q362 : (Jvm.Cond.methodLink "DebateHall$Scanner" (77 : Nat) ({ cls := "DebateHall$Token", name := "<init>", desc := "(LDebateHall$Sort;Ljava/lang/String;I)V" } : Jvm.MethodName)) ∈ lw_all := lw_g (lw_at lw_m2 42 rfl) rfl
theorem q363 : (Jvm.Cond.instanceMethod ({ cls := "DebateHall$Token", name := "<init>", desc := "(LDebateHall$Sort;Ljava/lang/String;I)V" } : Jvm.MethodName)) ∈ lw_all := lw_g (lw_at lw_m2 43 rfl) rfl
theorem q353 : (Jvm.Cond.methodLink "DebateHall$Scanner" (80 : Nat) ({ cls := "java/util/ArrayList", name := "size", desc := "()I" } : Jvm.MethodName)) ∈ lw_all := lw_g (lw_at lw_m2 33 rfl) rfl
theorem q396 : (Jvm.Cond.code ({ cls := "DebateHall$Tape", name := "text", desc := "(II)Ljava/lang/String;" } : Jvm.MethodName) prog_19_method_4_code (5 : Nat) (Option.some (Jvm.ClassFile.FieldType.object "java/lang/String"))) ∈ lw_all := lw_g (lw_at lw_m2 76 rfl) rfl
theorem zk_X2_text : zz_cd yX2_text cX2_text 5 (some (.object "java/lang/String")) none ∈ lw_all := q396
theorem zy_X2_text : zz_yok yX2_text 2 = true := by decide +kernel
theorem q705 : (Jvm.Cond.code ({ cls := "DebateHall$Scanner", name := "isKey", desc := "(Ljava/lang/String;)Z" } : Jvm.MethodName) prog_14_method_5_code (5 : Nat) (Option.some Jvm.ClassFile.FieldType.boolean)) ∈ lw_all := lw_g (lw_at lw_m3 145 rfl) rfl
theorem zk_X7_isKey : zz_cd yX7_isKey cX7_isKey 5 (some .boolean) none ∈ lw_all := q705
theorem zy_X7_isKey : zz_yok yX7_isKey 1 = true := by decide +kernel
theorem q718 : (Jvm.Cond.fieldLink "DebateHall$Scanner" (98 : Nat) "DebateHall$Sort" "NAME" "LDebateHall$Sort;") ∈ lw_all := lw_g (lw_at lw_m3 158 rfl) rfl
theorem q716 : (Jvm.Cond.fieldLink "DebateHall$Scanner" (95 : Nat) "DebateHall$Sort" "KEY" "LDebateHall$Sort;") ∈ lw_all := lw_g (lw_at lw_m3 156 rfl) rfl
theorem q703 : (Jvm.Cond.methodLink "DebateHall$Scanner" (91 : Nat) ({ cls := "DebateHall$Scanner", name := "isKey", desc := "(Ljava/lang/String;)Z" } : Jvm.MethodName)) ∈ lw_all := lw_g (lw_at lw_m3 143 rfl) rfl
theorem q704 : (Jvm.Cond.static ({ cls := "DebateHall$Scanner", name := "isKey", desc := "(Ljava/lang/String;)Z" } : Jvm.MethodName)) ∈ lw_all := lw_g (lw_at lw_m3 144 rfl) rfl
theorem q702 : (Jvm.Cond.methodLink "DebateHall$Scanner" (68 : Nat) ({ cls := "java/lang/String", name := "length", desc := "()I" } : Jvm.MethodName)) ∈ lw_all := lw_g (lw_at lw_m3 142 rfl) rfl
theorem q393 : (Jvm.Cond.methodLink "DebateHall$Scanner" (88 : Nat) ({ cls := "DebateHall$Tape", name := "text", desc := "(II)Ljava/lang/String;" } : Jvm.MethodName)) ∈ lw_all := lw_g (lw_at lw_m2 73 rfl) rfl
theorem q394 : (Jvm.Cond.instanceMethod ({ cls := "DebateHall$Tape", name := "text", desc := "(II)Ljava/lang/String;" } : Jvm.MethodName)) ∈ lw_all := lw_g (lw_at lw_m2 74 rfl) rfl
theorem q395 : (Jvm.Cond.selects "DebateHall$Tape" ({ cls := "DebateHall$Tape", name := "text", desc := "(II)Ljava/lang/String;" } : Jvm.MethodName) ({ cls := "DebateHall$Tape", name := "text", desc := "(II)Ljava/lang/String;" } : Jvm.MethodName)) ∈ lw_all := lw_g (lw_at lw_m2 75 rfl) rfl
theorem q720 : (Jvm.Cond.fieldLink "DebateHall$Scanner" (101 : Nat) "DebateHall$Sort" "NUMBER" "LDebateHall$Sort;") ∈ lw_all := lw_g (lw_at lw_m3 160 rfl) rfl
def wp_X7_next_B75 (Z : zzG) (k47 : Option Nat → Int32 → Int32 → zzM → Nat → Nat → Prop) (K : Option Value → zzM → Prop) (v0 : Option Nat) (v1 : Int32) (v3 : Int32) (M : zzM) (bc bs : Nat) : Prop := k47 v0 v1 (v3 + 1) M bc bs
def wp_X7_next_B129 (Z : zzG) (K : Option Value → zzM → Prop) (v1 : Int32) (v4 : Option Nat) (s0 : Option Nat) (s1 : Option Nat) (s2 : Option Nat) (M : zzM) (bc bs : Nat) : Prop := zty Z M s1 fun _ => wp_X8_init Z s1 s0 v4 v1 M (fun r82 M83 => zrV r82 (K (some (va_rf s2)) M83))
def wp_X7_next_L47 (Z : zzG) (K : Option Value → zzM → Prop) : Nat → Option Nat → Int32 → Int32 → zzM → Nat → Nat → Prop
  | 0, _, _, _, _, _, _ => False
  | n + 1, v0, v1, v3, M, bc, bs => zgA Z M v0 [4] 0 fun x40 => zty Z M x40 fun t => t = 1 ∧ wp_X2_at Z x40 v3 M (fun r41 M42 => zrI r41 fun x45 => wp_X7_isLetter Z x45 M42 (fun r46 M47 => zrI r46 fun x50 => if x50 = 0 then (zgA Z M47 v0 [4] 0 fun x51 => zty Z M47 x51 fun t => t = 1 ∧ wp_X2_at Z x51 v3 M47 (fun r52 M53 => zrI r52 fun x56 => wp_X7_isDigit Z x56 M53 (fun r57 M58 => zrI r57 fun x61 => if x61 = 0 then (zgA Z M58 v0 [4] 0 fun x62 => zty Z M58 x62 fun t => t = 1 ∧ zcc bc bs (fun c s k => wp_X2_text Z x62 v1 v3 M58 c s k) fun r63 M64 bc65 bs66 => zrA r63 fun x67 => znew Z M64 bc65 bs66 5 3 [.null, .null, .int 0] fun q68 M69 bc70 bs71 => zty Z M69 x67 fun t => t = 21 ∧ wp_J7_length Z x67 M69 (fun r72 M73 => zrI r72 fun x76 => if x76 ≤ (8 : Int32) then (wp_X7_isKey Z x67 M73 (fun r77 M78 => zrI r77 fun x81 => if x81 = 0 then (wp_X7_next_B129 Z K v1 x67 (some (zz_ad Z 1)) (some q68) (some q68) M78 bc70 bs71) else (wp_X7_next_B129 Z K v1 x67 (some (zz_ad Z 2)) (some q68) (some q68) M78 bc70 bs71))) else (wp_X7_next_B129 Z K v1 x67 (some (zz_ad Z 6)) (some q68) (some q68) M73 bc70 bs71))) else (wp_X7_next_B75 Z (wp_X7_next_L47 Z K n) K v0 v1 v3 M58 bc bs)))) else (wp_X7_next_B75 Z (wp_X7_next_L47 Z K n) K v0 v1 v3 M47 bc bs)))
def wp_X7_next_B184 (Z : zzG) (K : Option Value → zzM → Prop) (v0 : Option Nat) (v1 : Int32) (v3 : Int32) (s0 : Option Nat) (s1 : Option Nat) (s2 : Option Nat) (M : zzM) (bc bs : Nat) : Prop := zgA Z M v0 [4] 0 fun x101 => zty Z M x101 fun t => t = 1 ∧ zcc bc bs (fun c s k => wp_X2_text Z x101 v1 v3 M c s k) fun r102 M103 bc104 bs105 => zrA r102 fun x106 => zty Z M103 s1 fun _ => wp_X8_init Z s1 s0 x106 v1 M103 (fun r107 M108 => zrV r107 (K (some (va_rf s2)) M108))
def wp_X7_next_L143 (Z : zzG) (K : Option Value → zzM → Prop) : Nat → Option Nat → Int32 → Int32 → zzM → Nat → Nat → Prop
  | 0, _, _, _, _, _, _ => False
  | n + 1, v0, v1, v3, M, bc, bs => zgA Z M v0 [4] 0 fun x86 => zty Z M x86 fun t => t = 1 ∧ wp_X2_at Z x86 v3 M (fun r87 M88 => zrI r87 fun x91 => wp_X7_isDigit Z x91 M88 (fun r92 M93 => zrI r92 fun x96 => if x96 = 0 then (znew Z M93 bc bs 5 3 [.null, .null, .int 0] fun q97 M98 bc99 bs100 => if (v3 - v1) ≤ (6 : Int32) then (wp_X7_next_B184 Z K v0 v1 v3 (some (zz_ad Z 3)) (some q97) (some q97) M98 bc99 bs100) else (wp_X7_next_B184 Z K v0 v1 v3 (some (zz_ad Z 6)) (some q97) (some q97) M98 bc99 bs100)) else (wp_X7_next_L143 Z K n v0 v1 (v3 + 1) M93 bc bs)))
def wp_X7_next_B224 (Z : zzG) (K : Option Value → zzM → Prop) (v0 : Option Nat) (v1 : Int32) (v3 : Int32) (s0 : Option Nat) (s1 : Option Nat) (s2 : Option Nat) (M : zzM) (bc bs : Nat) : Prop := zgA Z M v0 [4] 0 fun x111 => zty Z M x111 fun t => t = 1 ∧ zcc bc bs (fun c s k => wp_X2_text Z x111 v1 v3 M c s k) fun r112 M113 bc114 bs115 => zrA r112 fun x116 => zty Z M113 s1 fun _ => wp_X8_init Z s1 s0 x116 v1 M113 (fun r117 M118 => zrV r117 (K (some (va_rf s2)) M118))
def wp_X7_next_B221 (Z : zzG) (K : Option Value → zzM → Prop) (v0 : Option Nat) (v1 : Int32) (v3 : Int32) (s0 : Option Nat) (s1 : Option Nat) (M : zzM) (bc bs : Nat) : Prop := wp_X7_next_B224 Z K v0 v1 v3 (some (zz_ad Z 6)) s0 s1 M bc bs
def wp_X7_next (Z : zzG) (this : Option Nat) (p0 : Int32) (M : zzM) (bc bs : Nat) (K : Option Value → zzM → Prop) : Prop := zgA Z M this [4] 1 fun x1 => zty Z M x1 fun t => t = 18 ∧ wp_J2_size Z x1 M (fun r2 M3 => zrI r2 fun x6 => if x6 = (400 : Int32) then (znew Z M3 bc bs 5 3 [.null, .null, .int 0] fun q32 M33 bc34 bs35 => wp_X8_init Z (some q32) (some (zz_ad Z 6)) (some (zz_ad Z 100)) p0 M33 (fun r36 M37 => zrV r36 (K (some (va_rf (some q32))) M37))) else (zgA Z M3 this [4] 0 fun x7 => zty Z M3 x7 fun t => t = 1 ∧ wp_X2_at Z x7 p0 M3 (fun r8 M9 => zrI r8 fun x12 => wp_X7_isLetter Z x12 M9 (fun r13 M14 => zrI r13 fun x17 => if x17 = 0 then (wp_X7_isDigit Z x12 M14 (fun r18 M19 => zrI r18 fun x22 => if x22 = 0 then (znew Z M19 bc bs 5 3 [.null, .null, .int 0] fun q23 M24 bc25 bs26 => if x12 ≤ 0 then (wp_X7_next_B221 Z K this p0 (p0 + (1 : Int32)) (some q23) (some q23) M24 bc25 bs26) else (zty Z M24 (some (zz_ad Z 108)) fun t => t = 21 ∧ wp_J7_indexOf Z (some (zz_ad Z 108)) x12 M24 (fun r27 M28 => zrI r27 fun x31 => if x31 < 0 then (wp_X7_next_B221 Z K this p0 (p0 + (1 : Int32)) (some q23) (some q23) M28 bc25 bs26) else (wp_X7_next_B224 Z K this p0 (p0 + (1 : Int32)) (some (zz_ad Z 4)) (some q23) (some q23) M28 bc25 bs26)))) else (∃ n143 : Nat, wp_X7_next_L143 Z K n143 this p0 (p0 + (1 : Int32)) M19 bc bs))) else (∃ n47 : Nat, wp_X7_next_L47 Z K n47 this p0 (p0 + (1 : Int32)) M14 bc bs)))))
theorem ok_X7_next_B75 {G : zzX} (C : zz_C G cX7_next "DebateHall$Scanner" 5) {K : Option Value → zzM → Prop} (E : zz_E G (some (.object "DebateHall$Token")) K (fun _ _ _ => False)) (hH : zz_H G []) (hR : zz_Rm G 8) {k47 : Option Nat → Int32 → Int32 → zzM → Nat → Nat → Prop} (hk47 : ∀ (z0 : Option Nat) (z1 : Int32) (z2 : Int32) (M : zzM) (bc bs : Nat), k47 z0 z1 z2 M bc bs → zz_T G 5 M bc bs 47 [(0, va_rf z0), (1, .int z1), (3, .int z2)] []) {v0 : Option Nat} {v1 : Int32} {v3 : Int32} {M : zzM} {bc bs : Nat} (hw : wp_X7_next_B75 (zz_Zof G) k47 K v0 v1 v3 M bc bs) : zz_T G 5 M bc bs 75 [(0, va_rf v0), (1, .int v1), (3, .int v3)] [] := by
  unfold wp_X7_next_B75 at hw
  refine zz_iinc (lv' := [(3, .int (v3 + 1)), (0, va_rf v0), (1, .int v1)]) C dX7_next_75 2 rfl (by rfl) (by decide) rfl ?_
  refine zz_goto (tgt := 47) C dX7_next_78 (by decide) ?_
  refine zz_subP [1, 2, 0] rfl ?_
  exact hk47 _ _ _ _ _ _ hw
theorem ok_X7_next_B129 {G : zzX} (C : zz_C G cX7_next "DebateHall$Scanner" 5) {K : Option Value → zzM → Prop} (E : zz_E G (some (.object "DebateHall$Token")) K (fun _ _ _ => False)) (hH : zz_H G []) (hR : zz_Rm G 8) {v1 : Int32} {v4 : Option Nat} {s0 : Option Nat} {s1 : Option Nat} {s2 : Option Nat} {M : zzM} {bc bs : Nat} (hw : wp_X7_next_B129 (zz_Zof G) K v1 v4 s0 s1 s2 M bc bs) : zz_T G 5 M bc bs 129 [(1, .int v1), (4, va_rf v4)] [va_rf s0, va_rf s1, va_rf s2] := by
  unfold wp_X7_next_B129 at hw
  refine zz_aload C dX7_next_129 1 rfl ?_
  refine zz_iload_n C dX7_next_131 rfl 0 rfl ?_
  obtain ⟨a9, t9, b9, fs9, hro, hL, hw⟩ := ztyS hw
  refine zz_callI (As := [va_rf s0, va_rf v4, .int v1]) (rest := [va_rf s2]) (mc := 0) (ms := 0) C hR hro dX7_next_132 (Or.inl q362) q363 zl_DebateHall_Token zk_X8_init rfl zy_X8_init (by decide) (by decide) (ok_X8_init (zz_hl C) hw) (Nat.zero_le _) (Nat.zero_le _) (zz_cat10 _ (Nat.le_of_ble_eq_true rfl)) (fun r82 M83 hw => zz_kV hw (fun hw => ?_)) (fun _ _ _ h9 => h9.elim) rfl
  exact zz_aret C E (Or.inl ⟨_, rfl⟩) dX7_next_135 hw
theorem ok_X7_next_L47 {G : zzX} (C : zz_C G cX7_next "DebateHall$Scanner" 5) {K : Option Value → zzM → Prop} (E : zz_E G (some (.object "DebateHall$Token")) K (fun _ _ _ => False)) (hH : zz_H G []) (hR : zz_Rm G 8) : ∀ (n : Nat) (v0 : Option Nat) (v1 : Int32) (v3 : Int32) (M : zzM) (bc bs : Nat), wp_X7_next_L47 (zz_Zof G) K n v0 v1 v3 M bc bs → zz_T G 5 M bc bs 47 [(0, va_rf v0), (1, .int v1), (3, .int v3)] [] := by
  intro n
  induction n with
  | zero =>
    intro v0 v1 v3 M bc bs hw
    exact False.elim hw
  | succ n ih =>
    intro v0 v1 v3 M bc bs hw
    refine zz_aload_n C dX7_next_47 rfl 0 rfl ?_
    refine zz_getA C dX7_next_48 (Or.inl q331) zf_4_0_teHall_Scanner hw (fun x40 hw => ?_)
    refine zz_iload_n C dX7_next_51 rfl 2 rfl ?_
    obtain ⟨a9, t9, b9, fs9, hro, hL, rfl, hw⟩ := ztyS hw
    refine zz_callV (r := (zR_1, zT_1, 2)) (As := [.int v3]) (rest := []) (mc := 0) (ms := 0) C hR hro dX7_next_52 (Or.inl q342) q343 (Or.inl q344) zl_DebateHall_Tape zk_X2_at (Or.inl rfl) zy_X2_at rfl (by decide) (by decide) hL (ok_X2_at (zz_hl C) hw) (Nat.zero_le _) (Nat.zero_le _) (zz_cat10 _ (Nat.le_of_ble_eq_true rfl)) (fun r41 M42 hw => zz_kI hw (fun x45 hw => ?_)) (fun _ _ _ h9 => h9.elim) rfl
    refine zz_callS (As := [.int x45]) (rest := []) (mc := 0) (ms := 0) C hR dX7_next_55 (Or.inl q387) q388 zl_DebateHall_Scanner zk_X7_isLetter (Or.inl rfl) zy_X7_isLetter (by decide) (by decide) (ok_X7_isLetter (zz_hl C) hw) (Nat.zero_le _) (Nat.zero_le _) (zz_cat10 _ (Nat.le_of_ble_eq_true rfl)) (fun r46 M47 hw => zz_kI hw (fun x50 hw => ?_)) (fun _ _ _ h9 => h9.elim) rfl
    refine zz_if_ne (tgt := 75) C dX7_next_58 (by decide) hw (fun hw => ?_) (fun hw => ?_)
    · refine zz_subP [0, 1, 2] rfl ?_
      exact ok_X7_next_B75 C E hH hR (fun z0 z1 z2 z3 z4 z5 hw => ih z0 z1 z2 z3 z4 z5 hw) hw
    · refine zz_aload_n C dX7_next_61 rfl 0 rfl ?_
      refine zz_getA C dX7_next_62 (Or.inl q331) zf_4_0_teHall_Scanner hw (fun x51 hw => ?_)
      refine zz_iload_n C dX7_next_65 rfl 2 rfl ?_
      obtain ⟨a9, t9, b9, fs9, hro, hL, rfl, hw⟩ := ztyS hw
      refine zz_callV (r := (zR_1, zT_1, 2)) (As := [.int v3]) (rest := []) (mc := 0) (ms := 0) C hR hro dX7_next_66 (Or.inl q342) q343 (Or.inl q344) zl_DebateHall_Tape zk_X2_at (Or.inl rfl) zy_X2_at rfl (by decide) (by decide) hL (ok_X2_at (zz_hl C) hw) (Nat.zero_le _) (Nat.zero_le _) (zz_cat10 _ (Nat.le_of_ble_eq_true rfl)) (fun r52 M53 hw => zz_kI hw (fun x56 hw => ?_)) (fun _ _ _ h9 => h9.elim) rfl
      refine zz_callS (As := [.int x56]) (rest := []) (mc := 0) (ms := 0) C hR dX7_next_69 (Or.inl q390) q391 zl_DebateHall_Scanner zk_X7_isDigit (Or.inl rfl) zy_X7_isDigit (by decide) (by decide) (ok_X7_isDigit (zz_hl C) hw) (Nat.zero_le _) (Nat.zero_le _) (zz_cat10 _ (Nat.le_of_ble_eq_true rfl)) (fun r57 M58 hw => zz_kI hw (fun x61 hw => ?_)) (fun _ _ _ h9 => h9.elim) rfl
      refine zz_if_eq (tgt := 81) C dX7_next_72 (by decide) hw (fun hw => ?_) (fun hw => ?_)
      · refine zz_aload_n C dX7_next_81 rfl 0 rfl ?_
        refine zz_getA C dX7_next_82 (Or.inl q331) zf_4_0_teHall_Scanner hw (fun x62 hw => ?_)
        refine zz_iload_n C dX7_next_85 rfl 1 rfl ?_
        refine zz_iload_n C dX7_next_86 rfl 2 rfl ?_
        obtain ⟨a9, t9, b9, fs9, hro, hL, rfl, hw⟩ := ztyS hw
        obtain ⟨c9, s9, hc9, hs9, hw⟩ := hw
        refine zz_callV (r := (zR_1, zT_1, 2)) (As := [.int v1, .int v3]) (rest := []) C hR hro dX7_next_87 (Or.inl q393) q394 (Or.inl q395) zl_DebateHall_Tape zk_X2_text (Or.inl rfl) zy_X2_text rfl (by decide) (by decide) hL (ok_X2_text (zz_hl C) hw) hc9 hs9 (zz_cat10 _ (Nat.le_of_ble_eq_true rfl)) (fun r63 M64 hw => zz_kA hw (fun x67 hw => ?_)) (fun _ _ _ h9 => h9.elim) rfl
        refine zz_astore (lv' := [(4, va_rf x67), (0, va_rf v0), (1, .int v1), (3, .int v3)]) C dX7_next_90 (by decide) rfl ?_
        refine zz_new (r := (zR_5, zT_5, 3)) C dX7_next_92 rfl (by decide) q357 q358 zl_DebateHall_Token rfl hw (fun q68 M69 bc70 bs71 hw => ?_)
        refine zz_dup C dX7_next_95 (zz_cat _) ?_
        refine zz_aload C dX7_next_96 0 rfl ?_
        obtain ⟨a9, t9, b9, fs9, hro, hL, rfl, hw⟩ := ztyS hw
        refine zz_callV (r := (zR_21, zT_21, 4)) (As := []) (rest := [va_rf (some q68), va_rf (some q68)]) (mc := 0) (ms := 0) C hR hro dX7_next_98 (Or.inl q702) q627 (Or.inl q628) zl_java_lang_String zk_J7_length (Or.inl rfl) zy_J7_length rfl (by decide) (by decide) hL (ok_J7_length (zz_hl C) hw) (Nat.zero_le _) (Nat.zero_le _) (zz_cat10 _ (Nat.le_of_ble_eq_true rfl)) (fun r72 M73 hw => zz_kI hw (fun x76 hw => ?_)) (fun _ _ _ h9 => h9.elim) rfl
        refine zz_bipush (v := (8 : Int32)) C dX7_next_101 (by decide) ?_
        refine zz_icmp_le (tgt := 112) C dX7_next_103 (by decide) hw (fun hw => ?_) (fun hw => ?_)
        · refine zz_aload C dX7_next_112 0 rfl ?_
          refine zz_callS (As := [va_rf x67]) (rest := [va_rf (some q68), va_rf (some q68)]) (mc := 0) (ms := 0) C hR dX7_next_114 (Or.inl q703) q704 zl_DebateHall_Scanner zk_X7_isKey (Or.inl rfl) zy_X7_isKey (by decide) (by decide) (ok_X7_isKey (zz_hl C) hw) (Nat.zero_le _) (Nat.zero_le _) (zz_cat10 _ (Nat.le_of_ble_eq_true rfl)) (fun r77 M78 hw => zz_kI hw (fun x81 hw => ?_)) (fun _ _ _ h9 => h9.elim) rfl
          refine zz_if_eq (tgt := 126) C dX7_next_117 (by decide) hw (fun hw => ?_) (fun hw => ?_)
          · refine zz_gets (j := 1) (v := va_rf (some (zz_ad (zz_Zof G) 1))) C dX7_next_126 (Or.inl q718) rfl (Or.inl rfl) rfl ?_
            refine zz_subP [2, 0] rfl ?_
            exact ok_X7_next_B129 C E hH hR hw
          · refine zz_gets (j := 2) (v := va_rf (some (zz_ad (zz_Zof G) 2))) C dX7_next_120 (Or.inl q716) rfl (Or.inl rfl) rfl ?_
            refine zz_goto (tgt := 129) C dX7_next_123 (by decide) ?_
            refine zz_subP [2, 0] rfl ?_
            exact ok_X7_next_B129 C E hH hR hw
        · refine zz_gets (j := 6) (v := va_rf (some (zz_ad (zz_Zof G) 6))) C dX7_next_106 (Or.inl q359) rfl (Or.inl rfl) rfl ?_
          refine zz_goto (tgt := 129) C dX7_next_109 (by decide) ?_
          refine zz_subP [2, 0] rfl ?_
          exact ok_X7_next_B129 C E hH hR hw
      · refine zz_subP [0, 1, 2] rfl ?_
        exact ok_X7_next_B75 C E hH hR (fun z0 z1 z2 z3 z4 z5 hw => ih z0 z1 z2 z3 z4 z5 hw) hw
theorem ok_X7_next_B184 {G : zzX} (C : zz_C G cX7_next "DebateHall$Scanner" 5) {K : Option Value → zzM → Prop} (E : zz_E G (some (.object "DebateHall$Token")) K (fun _ _ _ => False)) (hH : zz_H G []) (hR : zz_Rm G 8) {v0 : Option Nat} {v1 : Int32} {v3 : Int32} {s0 : Option Nat} {s1 : Option Nat} {s2 : Option Nat} {M : zzM} {bc bs : Nat} (hw : wp_X7_next_B184 (zz_Zof G) K v0 v1 v3 s0 s1 s2 M bc bs) : zz_T G 5 M bc bs 184 [(0, va_rf v0), (1, .int v1), (3, .int v3)] [va_rf s0, va_rf s1, va_rf s2] := by
  unfold wp_X7_next_B184 at hw
  refine zz_aload_n C dX7_next_184 rfl 0 rfl ?_
  refine zz_getA C dX7_next_185 (Or.inl q331) zf_4_0_teHall_Scanner hw (fun x101 hw => ?_)
  refine zz_iload_n C dX7_next_188 rfl 1 rfl ?_
  refine zz_iload_n C dX7_next_189 rfl 2 rfl ?_
  obtain ⟨a9, t9, b9, fs9, hro, hL, rfl, hw⟩ := ztyS hw
  obtain ⟨c9, s9, hc9, hs9, hw⟩ := hw
  refine zz_callV (r := (zR_1, zT_1, 2)) (As := [.int v1, .int v3]) (rest := [va_rf s0, va_rf s1, va_rf s2]) C hR hro dX7_next_190 (Or.inl q393) q394 (Or.inl q395) zl_DebateHall_Tape zk_X2_text (Or.inl rfl) zy_X2_text rfl (by decide) (by decide) hL (ok_X2_text (zz_hl C) hw) hc9 hs9 (zz_cat10 _ (Nat.le_of_ble_eq_true rfl)) (fun r102 M103 hw => zz_kA hw (fun x106 hw => ?_)) (fun _ _ _ h9 => h9.elim) rfl
  refine zz_iload_n C dX7_next_193 rfl 1 rfl ?_
  obtain ⟨a9, t9, b9, fs9, hro, hL, hw⟩ := ztyS hw
  refine zz_callI (As := [va_rf s0, va_rf x106, .int v1]) (rest := [va_rf s2]) (mc := 0) (ms := 0) C hR hro dX7_next_194 (Or.inl q362) q363 zl_DebateHall_Token zk_X8_init rfl zy_X8_init (by decide) (by decide) (ok_X8_init (zz_hl C) hw) (Nat.zero_le _) (Nat.zero_le _) (zz_cat10 _ (Nat.le_of_ble_eq_true rfl)) (fun r107 M108 hw => zz_kV hw (fun hw => ?_)) (fun _ _ _ h9 => h9.elim) rfl
  exact zz_aret C E (Or.inl ⟨_, rfl⟩) dX7_next_197 hw
theorem ok_X7_next_L143 {G : zzX} (C : zz_C G cX7_next "DebateHall$Scanner" 5) {K : Option Value → zzM → Prop} (E : zz_E G (some (.object "DebateHall$Token")) K (fun _ _ _ => False)) (hH : zz_H G []) (hR : zz_Rm G 8) : ∀ (n : Nat) (v0 : Option Nat) (v1 : Int32) (v3 : Int32) (M : zzM) (bc bs : Nat), wp_X7_next_L143 (zz_Zof G) K n v0 v1 v3 M bc bs → zz_T G 5 M bc bs 143 [(0, va_rf v0), (1, .int v1), (3, .int v3)] [] := by
  intro n
  induction n with
  | zero =>
    intro v0 v1 v3 M bc bs hw
    exact False.elim hw
  | succ n ih =>
    intro v0 v1 v3 M bc bs hw
    refine zz_aload_n C dX7_next_143 rfl 0 rfl ?_
    refine zz_getA C dX7_next_144 (Or.inl q331) zf_4_0_teHall_Scanner hw (fun x86 hw => ?_)
    refine zz_iload_n C dX7_next_147 rfl 2 rfl ?_
    obtain ⟨a9, t9, b9, fs9, hro, hL, rfl, hw⟩ := ztyS hw
    refine zz_callV (r := (zR_1, zT_1, 2)) (As := [.int v3]) (rest := []) (mc := 0) (ms := 0) C hR hro dX7_next_148 (Or.inl q342) q343 (Or.inl q344) zl_DebateHall_Tape zk_X2_at (Or.inl rfl) zy_X2_at rfl (by decide) (by decide) hL (ok_X2_at (zz_hl C) hw) (Nat.zero_le _) (Nat.zero_le _) (zz_cat10 _ (Nat.le_of_ble_eq_true rfl)) (fun r87 M88 hw => zz_kI hw (fun x91 hw => ?_)) (fun _ _ _ h9 => h9.elim) rfl
    refine zz_callS (As := [.int x91]) (rest := []) (mc := 0) (ms := 0) C hR dX7_next_151 (Or.inl q390) q391 zl_DebateHall_Scanner zk_X7_isDigit (Or.inl rfl) zy_X7_isDigit (by decide) (by decide) (ok_X7_isDigit (zz_hl C) hw) (Nat.zero_le _) (Nat.zero_le _) (zz_cat10 _ (Nat.le_of_ble_eq_true rfl)) (fun r92 M93 hw => zz_kI hw (fun x96 hw => ?_)) (fun _ _ _ h9 => h9.elim) rfl
    refine zz_if_eq (tgt := 163) C dX7_next_154 (by decide) hw (fun hw => ?_) (fun hw => ?_)
    · refine zz_new (r := (zR_5, zT_5, 3)) C dX7_next_163 rfl (by decide) q357 q358 zl_DebateHall_Token rfl hw (fun q97 M98 bc99 bs100 hw => ?_)
      refine zz_dup C dX7_next_166 (zz_cat _) ?_
      refine zz_iload_n C dX7_next_167 rfl 2 rfl ?_
      refine zz_iload_n C dX7_next_168 rfl 1 rfl ?_
      refine zz_isub C dX7_next_169 ?_
      refine zz_bipush (v := (6 : Int32)) C dX7_next_170 (by decide) ?_
      refine zz_icmp_le (tgt := 181) C dX7_next_172 (by decide) hw (fun hw => ?_) (fun hw => ?_)
      · refine zz_gets (j := 3) (v := va_rf (some (zz_ad (zz_Zof G) 3))) C dX7_next_181 (Or.inl q720) rfl (Or.inl rfl) rfl ?_
        refine zz_subP [0, 1, 2] rfl ?_
        exact ok_X7_next_B184 C E hH hR hw
      · refine zz_gets (j := 6) (v := va_rf (some (zz_ad (zz_Zof G) 6))) C dX7_next_175 (Or.inl q359) rfl (Or.inl rfl) rfl ?_
        refine zz_goto (tgt := 184) C dX7_next_178 (by decide) ?_
        refine zz_subP [0, 1, 2] rfl ?_
        exact ok_X7_next_B184 C E hH hR hw
    · refine zz_iinc (lv' := [(3, .int (v3 + 1)), (0, va_rf v0), (1, .int v1)]) C dX7_next_157 2 rfl (by rfl) (by decide) rfl ?_
      refine zz_goto (tgt := 143) C dX7_next_160 (by decide) ?_
      refine zz_subP [1, 2, 0] rfl ?_
      exact ih _ _ _ _ _ _ hw
theorem ok_X7_next_B224 {G : zzX} (C : zz_C G cX7_next "DebateHall$Scanner" 5) {K : Option Value → zzM → Prop} (E : zz_E G (some (.object "DebateHall$Token")) K (fun _ _ _ => False)) (hH : zz_H G []) (hR : zz_Rm G 8) {v0 : Option Nat} {v1 : Int32} {v3 : Int32} {s0 : Option Nat} {s1 : Option Nat} {s2 : Option Nat} {M : zzM} {bc bs : Nat} (hw : wp_X7_next_B224 (zz_Zof G) K v0 v1 v3 s0 s1 s2 M bc bs) : zz_T G 5 M bc bs 224 [(0, va_rf v0), (1, .int v1), (3, .int v3)] [va_rf s0, va_rf s1, va_rf s2] := by
  unfold wp_X7_next_B224 at hw
  refine zz_aload_n C dX7_next_224 rfl 0 rfl ?_
  refine zz_getA C dX7_next_225 (Or.inl q331) zf_4_0_teHall_Scanner hw (fun x111 hw => ?_)
  refine zz_iload_n C dX7_next_228 rfl 1 rfl ?_
  refine zz_iload_n C dX7_next_229 rfl 2 rfl ?_
  obtain ⟨a9, t9, b9, fs9, hro, hL, rfl, hw⟩ := ztyS hw
  obtain ⟨c9, s9, hc9, hs9, hw⟩ := hw
  refine zz_callV (r := (zR_1, zT_1, 2)) (As := [.int v1, .int v3]) (rest := [va_rf s0, va_rf s1, va_rf s2]) C hR hro dX7_next_230 (Or.inl q393) q394 (Or.inl q395) zl_DebateHall_Tape zk_X2_text (Or.inl rfl) zy_X2_text rfl (by decide) (by decide) hL (ok_X2_text (zz_hl C) hw) hc9 hs9 (zz_cat10 _ (Nat.le_of_ble_eq_true rfl)) (fun r112 M113 hw => zz_kA hw (fun x116 hw => ?_)) (fun _ _ _ h9 => h9.elim) rfl
  refine zz_iload_n C dX7_next_233 rfl 1 rfl ?_
  obtain ⟨a9, t9, b9, fs9, hro, hL, hw⟩ := ztyS hw
  refine zz_callI (As := [va_rf s0, va_rf x116, .int v1]) (rest := [va_rf s2]) (mc := 0) (ms := 0) C hR hro dX7_next_234 (Or.inl q362) q363 zl_DebateHall_Token zk_X8_init rfl zy_X8_init (by decide) (by decide) (ok_X8_init (zz_hl C) hw) (Nat.zero_le _) (Nat.zero_le _) (zz_cat10 _ (Nat.le_of_ble_eq_true rfl)) (fun r117 M118 hw => zz_kV hw (fun hw => ?_)) (fun _ _ _ h9 => h9.elim) rfl
  exact zz_aret C E (Or.inl ⟨_, rfl⟩) dX7_next_237 hw
theorem ok_X7_next_B221 {G : zzX} (C : zz_C G cX7_next "DebateHall$Scanner" 5) {K : Option Value → zzM → Prop} (E : zz_E G (some (.object "DebateHall$Token")) K (fun _ _ _ => False)) (hH : zz_H G []) (hR : zz_Rm G 8) {v0 : Option Nat} {v1 : Int32} {v3 : Int32} {s0 : Option Nat} {s1 : Option Nat} {M : zzM} {bc bs : Nat} (hw : wp_X7_next_B221 (zz_Zof G) K v0 v1 v3 s0 s1 M bc bs) : zz_T G 5 M bc bs 221 [(0, va_rf v0), (1, .int v1), (3, .int v3)] [va_rf s0, va_rf s1] := by
  unfold wp_X7_next_B221 at hw
  refine zz_gets (j := 6) (v := va_rf (some (zz_ad (zz_Zof G) 6))) C dX7_next_221 (Or.inl q359) rfl (Or.inl rfl) rfl ?_
  refine zz_subP [0, 1, 2] rfl ?_
  exact ok_X7_next_B224 C E hH hR hw
theorem ok_X7_next {Z : zzG} {l : Launch} (hl : l.stackTraces = false) {this : Option Nat} {p0 : Int32} {M : zzM} {mc ms : Nat} {K : Option Value → zzM → Prop} (hw : wp_X7_next Z this p0 M mc ms K) : zz_Met Z l yX7_next (zz_ws yX7_next cX7_next 5 (some (.object "DebateHall$Token")) none) 8 [va_rf this, .int p0] M mc ms K (fun _ _ _ => False) := by
  refine zz_ofW hl (plainFor_of_name (by decide)) (by simp only [zz_sl0, zz_slI, zz_slJ, zz_slA] <;> decide) (fun G hZ hll C E hH hR hin => ?_)
  subst hZ
  subst hll
  rw [show lv_args 0 [va_rf this, .int p0] = [(0, va_rf this), (1, .int p0)] by simp only [zz_la0, zz_laI, zz_laJ, zz_laA]]
  unfold wp_X7_next at hw
  refine zz_aload_n C dX7_next_0 rfl 0 rfl ?_
  refine zz_getA C dX7_next_1 (Or.inl q332) zf_4_1_teHall_Scanner hw (fun x1 hw => ?_)
  obtain ⟨a9, t9, b9, fs9, hro, hL, rfl, hw⟩ := ztyS hw
  refine zz_callV (r := (zR_18, zT_18, 3)) (As := []) (rest := []) (mc := 0) (ms := 0) C hR hro dX7_next_4 (Or.inl q353) q354 (Or.inl q355) zl_java_util_ArrayList zk_J2_size (Or.inl rfl) zy_J2_size rfl (by decide) (by decide) hL (ok_J2_size (zz_hl C) hw) (Nat.zero_le _) (Nat.zero_le _) (zz_cat10 _ (Nat.le_of_ble_eq_true rfl)) (fun r2 M3 hw => zz_kI hw (fun x6 hw => ?_)) (fun _ _ _ h9 => h9.elim) rfl
  refine zz_sipush (v := (400 : Int32)) C dX7_next_7 (by decide) ?_
  refine zz_icmp_ne (tgt := 27) C dX7_next_10 (by decide) hw (fun hw => ?_) (fun hw => ?_)
  · refine zz_aload_n C dX7_next_27 rfl 0 rfl ?_
    refine zz_getA C dX7_next_28 (Or.inl q331) zf_4_0_teHall_Scanner hw (fun x7 hw => ?_)
    refine zz_iload_n C dX7_next_31 rfl 1 rfl ?_
    obtain ⟨a9, t9, b9, fs9, hro, hL, rfl, hw⟩ := ztyS hw
    refine zz_callV (r := (zR_1, zT_1, 2)) (As := [.int p0]) (rest := []) (mc := 0) (ms := 0) C hR hro dX7_next_32 (Or.inl q342) q343 (Or.inl q344) zl_DebateHall_Tape zk_X2_at (Or.inl rfl) zy_X2_at rfl (by decide) (by decide) hL (ok_X2_at (zz_hl C) hw) (Nat.zero_le _) (Nat.zero_le _) (zz_cat10 _ (Nat.le_of_ble_eq_true rfl)) (fun r8 M9 hw => zz_kI hw (fun x12 hw => ?_)) (fun _ _ _ h9 => h9.elim) rfl
    refine zz_istore_n (i := 2) (lv' := [(2, .int x12), (0, va_rf this), (1, .int p0)]) C dX7_next_35 rfl (by decide) rfl ?_
    refine zz_iload_n C dX7_next_36 rfl 2 rfl ?_
    refine zz_iconst (v := (1 : Int32)) C dX7_next_37 (by decide) ?_
    refine zz_iadd C dX7_next_38 ?_
    refine zz_istore_n (i := 3) (lv' := [(3, .int (p0 + (1 : Int32))), (2, .int x12), (0, va_rf this), (1, .int p0)]) C dX7_next_39 rfl (by decide) rfl ?_
    refine zz_iload_n C dX7_next_40 rfl 1 rfl ?_
    refine zz_callS (As := [.int x12]) (rest := []) (mc := 0) (ms := 0) C hR dX7_next_41 (Or.inl q387) q388 zl_DebateHall_Scanner zk_X7_isLetter (Or.inl rfl) zy_X7_isLetter (by decide) (by decide) (ok_X7_isLetter (zz_hl C) hw) (Nat.zero_le _) (Nat.zero_le _) (zz_cat10 _ (Nat.le_of_ble_eq_true rfl)) (fun r13 M14 hw => zz_kI hw (fun x17 hw => ?_)) (fun _ _ _ h9 => h9.elim) rfl
    refine zz_if_eq (tgt := 136) C dX7_next_44 (by decide) hw (fun hw => ?_) (fun hw => ?_)
    · refine zz_iload_n C dX7_next_136 rfl 1 rfl ?_
      refine zz_callS (As := [.int x12]) (rest := []) (mc := 0) (ms := 0) C hR dX7_next_137 (Or.inl q390) q391 zl_DebateHall_Scanner zk_X7_isDigit (Or.inl rfl) zy_X7_isDigit (by decide) (by decide) (ok_X7_isDigit (zz_hl C) hw) (Nat.zero_le _) (Nat.zero_le _) (zz_cat10 _ (Nat.le_of_ble_eq_true rfl)) (fun r18 M19 hw => zz_kI hw (fun x22 hw => ?_)) (fun _ _ _ h9 => h9.elim) rfl
      refine zz_if_eq (tgt := 198) C dX7_next_140 (by decide) hw (fun hw => ?_) (fun hw => ?_)
      · refine zz_new (r := (zR_5, zT_5, 3)) C dX7_next_198 rfl (by decide) q357 q358 zl_DebateHall_Token rfl hw (fun q23 M24 bc25 bs26 hw => ?_)
        refine zz_dup C dX7_next_201 (zz_cat _) ?_
        refine zz_iload_n C dX7_next_202 rfl 1 rfl ?_
        refine zz_if_le (tgt := 221) C dX7_next_203 (by decide) hw (fun hw => ?_) (fun hw => ?_)
        · refine zz_subP [2, 3, 0] rfl ?_
          exact ok_X7_next_B221 C E hH hR hw
        · refine zz_ldcS (j := 8) C dX7_next_206 rfl ?_
          refine zz_iload_n C dX7_next_208 rfl 1 rfl ?_
          obtain ⟨a9, t9, b9, fs9, hro, hL, rfl, hw⟩ := ztyS hw
          refine zz_callV (r := (zR_21, zT_21, 4)) (As := [.int x12]) (rest := [va_rf (some q23), va_rf (some q23)]) (mc := 0) (ms := 0) C hR hro dX7_next_209 (Or.inl q723) q724 (Or.inl q725) zl_java_lang_String zk_J7_indexOf (Or.inl rfl) zy_J7_indexOf rfl (by decide) (by decide) hL (ok_J7_indexOf (zz_hl C) hw) (Nat.zero_le _) (Nat.zero_le _) (zz_cat10 _ (Nat.le_of_ble_eq_true rfl)) (fun r27 M28 hw => zz_kI hw (fun x31 hw => ?_)) (fun _ _ _ h9 => h9.elim) rfl
          refine zz_if_lt (tgt := 221) C dX7_next_212 (by decide) hw (fun hw => ?_) (fun hw => ?_)
          · refine zz_subP [2, 3, 0] rfl ?_
            exact ok_X7_next_B221 C E hH hR hw
          · refine zz_gets (j := 4) (v := va_rf (some (zz_ad (zz_Zof G) 4))) C dX7_next_215 (Or.inl q773) rfl (Or.inl rfl) rfl ?_
            refine zz_goto (tgt := 224) C dX7_next_218 (by decide) ?_
            refine zz_subP [2, 3, 0] rfl ?_
            exact ok_X7_next_B224 C E hH hR hw
      · refine zz_subP [2, 3, 0] rfl ?_
        obtain ⟨n143, hw⟩ := hw
        exact ok_X7_next_L143 C E hH hR n143 _ _ _ _ _ _ hw
    · refine zz_subP [2, 3, 0] rfl ?_
      obtain ⟨n47, hw⟩ := hw
      exact ok_X7_next_L47 C E hH hR n47 _ _ _ _ _ _ hw
  · refine zz_new (r := (zR_5, zT_5, 3)) C dX7_next_13 rfl (by decide) q357 q358 zl_DebateHall_Token rfl hw (fun q32 M33 bc34 bs35 hw => ?_)
    refine zz_dup C dX7_next_16 (zz_cat _) ?_
    refine zz_gets (j := 6) (v := va_rf (some (zz_ad (zz_Zof G) 6))) C dX7_next_17 (Or.inl q359) rfl (Or.inl rfl) rfl ?_
    refine zz_ldcS (j := 0) C dX7_next_20 rfl ?_
    refine zz_iload_n C dX7_next_22 rfl 1 rfl ?_
    refine zz_callI (As := [va_rf (some (zz_ad (zz_Zof G) 6)), va_rf (some (zz_ad (zz_Zof G) 100)), .int p0]) (rest := [va_rf (some q32)]) (mc := 0) (ms := 0) C hR rfl dX7_next_23 (Or.inl q362) q363 zl_DebateHall_Token zk_X8_init rfl zy_X8_init (by decide) (by decide) (ok_X8_init (zz_hl C) hw) (Nat.zero_le _) (Nat.zero_le _) (zz_cat10 _ (Nat.le_of_ble_eq_true rfl)) (fun r36 M37 hw => zz_kV hw (fun hw => ?_)) (fun _ _ _ h9 => h9.elim) rfl
    exact zz_aret C E (Or.inl ⟨_, rfl⟩) dX7_next_26 hw
abbrev cJ17_copyOf_3 : ByteArray := prog_61_method_120_code
def yJ17_copyOf_3 : MethodName := ⟨"java/util/Arrays", "copyOf", "([Ljava/lang/Object;ILjava/lang/Class;)[Ljava/lang/Object;"⟩
def dkwJ17_copyOf_3_1 : List UInt8 := [78, 42, 3, 45, 3, 42, 190, 27, 184, 1, 48, 184, 0, 150, 45, 176]
abbrev dktJ17_copyOf_3_1 : List UInt8 := dkwJ17_copyOf_3_1 ++ []
def dkwJ17_copyOf_3_0 : List UInt8 := [44, 18, 110, 166, 0, 10, 27, 189, 0, 2, 167, 0, 14, 44, 182, 0, 90, 27, 184, 0, 95, 192, 0, 110]
abbrev dktJ17_copyOf_3_0 : List UInt8 := dkwJ17_copyOf_3_0 ++ dktJ17_copyOf_3_1
theorem dksJ17_copyOf_3_0 : cJ17_copyOf_3.data.toList.drop 0 = dktJ17_copyOf_3_0 := by decide +kernel
theorem dksJ17_copyOf_3_1 : cJ17_copyOf_3.data.toList.drop 24 = dktJ17_copyOf_3_1 := dk_seg dksJ17_copyOf_3_0 24 rfl rfl
theorem dJ17_copyOf_3_0 : decode cJ17_copyOf_3 0 = .ok (.aload_n 2, 1) := dk_44 (dk_at dksJ17_copyOf_3_0 0 rfl rfl)
theorem dJ17_copyOf_3_1 : decode cJ17_copyOf_3 1 = .ok (.ldc 110, 2) := dk_18 110 (dk_at dksJ17_copyOf_3_0 1 rfl rfl)
theorem dJ17_copyOf_3_3 : decode cJ17_copyOf_3 3 = .ok (.if_acmp .ne 10, 3) := dk_166 0 10 (dk_at dksJ17_copyOf_3_0 3 rfl rfl)
theorem dJ17_copyOf_3_6 : decode cJ17_copyOf_3 6 = .ok (.iload_n 1, 1) := dk_27 (dk_at dksJ17_copyOf_3_0 6 rfl rfl)
theorem dJ17_copyOf_3_7 : decode cJ17_copyOf_3 7 = .ok (.anewarray 2, 3) := dk_189 0 2 (dk_at dksJ17_copyOf_3_0 7 rfl rfl)
theorem dJ17_copyOf_3_10 : decode cJ17_copyOf_3 10 = .ok (.goto 14, 3) := dk_167 0 14 (dk_at dksJ17_copyOf_3_0 10 rfl rfl)
theorem dJ17_copyOf_3_13 : decode cJ17_copyOf_3 13 = .ok (.aload_n 2, 1) := dk_44 (dk_at dksJ17_copyOf_3_0 13 rfl rfl)
theorem dJ17_copyOf_3_14 : decode cJ17_copyOf_3 14 = .ok (.invokevirtual 90, 3) := dk_182 0 90 (dk_at dksJ17_copyOf_3_0 14 rfl rfl)
theorem dJ17_copyOf_3_24 : decode cJ17_copyOf_3 24 = .ok (.astore_n 3, 1) := dk_78 (dk_at dksJ17_copyOf_3_1 0 rfl rfl)
theorem dJ17_copyOf_3_25 : decode cJ17_copyOf_3 25 = .ok (.aload_n 0, 1) := dk_42 (dk_at dksJ17_copyOf_3_1 1 rfl rfl)
theorem dJ17_copyOf_3_26 : decode cJ17_copyOf_3 26 = .ok (.iconst 0, 1) := dk_3 (dk_at dksJ17_copyOf_3_1 2 rfl rfl)
theorem dJ17_copyOf_3_27 : decode cJ17_copyOf_3 27 = .ok (.aload_n 3, 1) := dk_45 (dk_at dksJ17_copyOf_3_1 3 rfl rfl)
theorem dJ17_copyOf_3_28 : decode cJ17_copyOf_3 28 = .ok (.iconst 0, 1) := dk_3 (dk_at dksJ17_copyOf_3_1 4 rfl rfl)
theorem dJ17_copyOf_3_29 : decode cJ17_copyOf_3 29 = .ok (.aload_n 0, 1) := dk_42 (dk_at dksJ17_copyOf_3_1 5 rfl rfl)
theorem dJ17_copyOf_3_30 : decode cJ17_copyOf_3 30 = .ok (.arraylength, 1) := dk_190 (dk_at dksJ17_copyOf_3_1 6 rfl rfl)
theorem dJ17_copyOf_3_31 : decode cJ17_copyOf_3 31 = .ok (.iload_n 1, 1) := dk_27 (dk_at dksJ17_copyOf_3_1 7 rfl rfl)
theorem dJ17_copyOf_3_32 : decode cJ17_copyOf_3 32 = .ok (.invokestatic 304, 3) := dk_184 1 48 (dk_at dksJ17_copyOf_3_1 8 rfl rfl)
theorem dJ17_copyOf_3_35 : decode cJ17_copyOf_3 35 = .ok (.invokestatic 150, 3) := dk_184 0 150 (dk_at dksJ17_copyOf_3_1 11 rfl rfl)
theorem dJ17_copyOf_3_38 : decode cJ17_copyOf_3 38 = .ok (.aload_n 3, 1) := dk_45 (dk_at dksJ17_copyOf_3_1 14 rfl rfl)
theorem dJ17_copyOf_3_39 : decode cJ17_copyOf_3 39 = .ok (.areturn, 1) := dk_176 (dk_at dksJ17_copyOf_3_1 15 rfl rfl)
theorem q839 : (Jvm.Cond.classLink "java/util/Arrays" (110 : Nat) "[Ljava/lang/Object;") ∈ lw_all := lw_g (lw_at lw_m4 39 rfl) rfl
theorem q841 : (Jvm.Cond.classLink "java/util/Arrays" (2 : Nat) "java/lang/Object") ∈ lw_all := lw_g (lw_at lw_m4 41 rfl) rfl
def wp_J17_copyOf_3 (Z : zzG) (p0 : Option Nat) (p1 : Int32) (p2 : Option Nat) (M : zzM) (bc bs : Nat) (K : Option Value → zzM → Prop) : Prop := if p2 = (some (zz_ad Z 300)) then (znar Z M bc bs 103 p1 .null fun q1 M2 bc3 bs4 => zlen Z M2 p0 fun x5 => wp_J16_min Z x5 p1 M2 (fun r6 M7 => zrI r6 fun x10 => zcopy Z M7 p0 (some q1) (0 : Int32) (0 : Int32) x10 fun M11 => K (some (va_rf (some q1))) M11)) else (False)
theorem ok_J17_copyOf_3 {Z : zzG} {l : Launch} (hl : l.stackTraces = false) {p0 : Option Nat} {p1 : Int32} {p2 : Option Nat} {M : zzM} {mc ms : Nat} {K : Option Value → zzM → Prop} (hw : wp_J17_copyOf_3 Z p0 p1 p2 M mc ms K) : zz_Met Z l yJ17_copyOf_3 (zz_ws yJ17_copyOf_3 cJ17_copyOf_3 4 (some (.array (.object "java/lang/Object"))) none) 2 [va_rf p0, .int p1, va_rf p2] M mc ms K (fun _ _ _ => False) := by
  refine zz_ofW hl (plainFor_of_name (by decide)) (by simp only [zz_sl0, zz_slI, zz_slJ, zz_slA] <;> decide) (fun G hZ hll C E hH hR hin => ?_)
  subst hZ
  subst hll
  rw [show lv_args 0 [va_rf p0, .int p1, va_rf p2] = [(0, va_rf p0), (1, .int p1), (2, va_rf p2)] by simp only [zz_la0, zz_laI, zz_laJ, zz_laA]]
  unfold wp_J17_copyOf_3 at hw
  refine zz_aload_n C dJ17_copyOf_3_0 rfl 2 rfl ?_
  refine zz_ldcM (j := 0) C dJ17_copyOf_3_1 q839 rfl ?_
  refine zz_acmp_ne (tgt := 13) C dJ17_copyOf_3_3 (by decide) hw (fun hw => ?_) (fun hw => ?_)
  · refine zz_aload_n C dJ17_copyOf_3_13 rfl 2 rfl ?_
    exact hw.elim
  · refine zz_iload_n C dJ17_copyOf_3_6 rfl 1 rfl ?_
    refine zz_anewar (t := 103) C dJ17_copyOf_3_7 rfl q841 q840 hw (fun q1 M2 bc3 bs4 hw => ?_)
    refine zz_goto (tgt := 24) C dJ17_copyOf_3_10 (by decide) ?_
    refine zz_astore_n (i := 3) (lv' := [(3, va_rf (some q1)), (0, va_rf p0), (1, .int p1), (2, va_rf p2)]) C dJ17_copyOf_3_24 rfl (by decide) (by simp [zz_cat, zz_catI, zz_catJ, zz_catD]) ?_
    refine zz_aload_n C dJ17_copyOf_3_25 rfl 1 rfl ?_
    refine zz_iconst (v := (0 : Int32)) C dJ17_copyOf_3_26 (by decide) ?_
    refine zz_aload_n C dJ17_copyOf_3_27 rfl 0 rfl ?_
    refine zz_iconst (v := (0 : Int32)) C dJ17_copyOf_3_28 (by decide) ?_
    refine zz_aload_n C dJ17_copyOf_3_29 rfl 1 rfl ?_
    refine zz_alen C dJ17_copyOf_3_30 hw (fun x5 hw => ?_)
    refine zz_iload_n C dJ17_copyOf_3_31 rfl 2 rfl ?_
    refine zz_callS (As := [.int x5, .int p1]) (rest := [.int (0 : Int32), va_rf (some q1), .int (0 : Int32), va_rf p0]) (mc := 0) (ms := 0) C hR dJ17_copyOf_3_32 (Or.inl q436) q437 zl_java_lang_Math zk_J16_min (Or.inl rfl) zy_J16_min (by decide) (by decide) (ok_J16_min (zz_hl C) hw) (Nat.zero_le _) (Nat.zero_le _) (zz_cat10 _ (Nat.le_of_ble_eq_true rfl)) (fun r6 M7 hw => zz_kI hw (fun x10 hw => ?_)) (fun _ _ _ h9 => h9.elim) rfl
    refine zz_copy C hR (by decide) dJ17_copyOf_3_35 q439 q441 q440 zl_java_lang_System (zz_cat10 _ (Nat.le_of_ble_eq_true rfl)) hw (fun M11 hw => ?_)
    refine zz_aload_n C dJ17_copyOf_3_38 rfl 0 rfl ?_
    exact zz_aret C E (Or.inr ⟨_, rfl⟩) dJ17_copyOf_3_39 hw
abbrev cJ17_copyOf_2 : ByteArray := prog_61_method_119_code
def yJ17_copyOf_2 : MethodName := ⟨"java/util/Arrays", "copyOf", "([Ljava/lang/Object;I)[Ljava/lang/Object;"⟩
def dkwJ17_copyOf_2_0 : List UInt8 := [42, 27, 42, 182, 0, 86, 184, 1, 44, 176]
abbrev dktJ17_copyOf_2_0 : List UInt8 := dkwJ17_copyOf_2_0 ++ []
theorem dksJ17_copyOf_2_0 : cJ17_copyOf_2.data.toList.drop 0 = dktJ17_copyOf_2_0 := by decide +kernel
theorem dJ17_copyOf_2_0 : decode cJ17_copyOf_2 0 = .ok (.aload_n 0, 1) := dk_42 (dk_at dksJ17_copyOf_2_0 0 rfl rfl)
theorem dJ17_copyOf_2_1 : decode cJ17_copyOf_2 1 = .ok (.iload_n 1, 1) := dk_27 (dk_at dksJ17_copyOf_2_0 1 rfl rfl)
theorem dJ17_copyOf_2_2 : decode cJ17_copyOf_2 2 = .ok (.aload_n 0, 1) := dk_42 (dk_at dksJ17_copyOf_2_0 2 rfl rfl)
theorem dJ17_copyOf_2_3 : decode cJ17_copyOf_2 3 = .ok (.invokevirtual 86, 3) := dk_182 0 86 (dk_at dksJ17_copyOf_2_0 3 rfl rfl)
theorem dJ17_copyOf_2_6 : decode cJ17_copyOf_2 6 = .ok (.invokestatic 300, 3) := dk_184 1 44 (dk_at dksJ17_copyOf_2_0 6 rfl rfl)
theorem dJ17_copyOf_2_9 : decode cJ17_copyOf_2 9 = .ok (.areturn, 1) := dk_176 (dk_at dksJ17_copyOf_2_0 9 rfl rfl)
theorem q795 : (Jvm.Cond.methodLink "java/util/Arrays" (86 : Nat) ({ cls := "java/lang/Object", name := "getClass", desc := "()Ljava/lang/Class;" } : Jvm.MethodName)) ∈ lw_all := lw_g (lw_at lw_m3 235 rfl) rfl
theorem q2931 : (Jvm.Cond.declares ({ cls := "java/lang/Object", name := "getClass", desc := "()Ljava/lang/Class;" } : Jvm.MethodName)) ∈ lw_tbl := lw_at lw_m12 211 rfl
theorem q2930 : (Jvm.Cond.selects "[Ljava/lang/Object;" ({ cls := "java/lang/Object", name := "getClass", desc := "()Ljava/lang/Class;" } : Jvm.MethodName) ({ cls := "java/lang/Object", name := "getClass", desc := "()Ljava/lang/Class;" } : Jvm.MethodName)) ∈ lw_all := lw_g (lw_at lw_m12 210 rfl) rfl
theorem q796 : (Jvm.Cond.instanceMethod ({ cls := "java/lang/Object", name := "getClass", desc := "()Ljava/lang/Class;" } : Jvm.MethodName)) ∈ lw_all := lw_g (lw_at lw_m3 236 rfl) rfl
theorem q835 : (Jvm.Cond.native ({ cls := "java/lang/Object", name := "getClass", desc := "()Ljava/lang/Class;" } : Jvm.MethodName)) ∈ lw_all := lw_g (lw_at lw_m4 35 rfl) rfl
theorem q838 : (Jvm.Cond.code ({ cls := "java/util/Arrays", name := "copyOf", desc := "([Ljava/lang/Object;ILjava/lang/Class;)[Ljava/lang/Object;" } : Jvm.MethodName) prog_61_method_120_code (4 : Nat) (Option.some (Jvm.ClassFile.FieldType.array (Jvm.ClassFile.FieldType.object "java/lang/Object")))) ∈ lw_all := lw_g (lw_at lw_m4 38 rfl) rfl
theorem zk_J17_copyOf_3 : zz_cd yJ17_copyOf_3 cJ17_copyOf_3 4 (some (.array (.object "java/lang/Object"))) none ∈ lw_all := q838
theorem zy_J17_copyOf_3 : zz_yok yJ17_copyOf_3 3 = true := by decide +kernel
theorem q836 : (Jvm.Cond.methodLink "java/util/Arrays" (300 : Nat) ({ cls := "java/util/Arrays", name := "copyOf", desc := "([Ljava/lang/Object;ILjava/lang/Class;)[Ljava/lang/Object;" } : Jvm.MethodName)) ∈ lw_all := lw_g (lw_at lw_m4 36 rfl) rfl
theorem q837 : (Jvm.Cond.static ({ cls := "java/util/Arrays", name := "copyOf", desc := "([Ljava/lang/Object;ILjava/lang/Class;)[Ljava/lang/Object;" } : Jvm.MethodName)) ∈ lw_all := lw_g (lw_at lw_m4 37 rfl) rfl
def wp_J17_copyOf_2 (Z : zzG) (p0 : Option Nat) (p1 : Int32) (M : zzM) (bc bs : Nat) (K : Option Value → zzM → Prop) : Prop := ztyT Z M p0 fun t => t = 103 ∧ zcc bc bs (fun c s k => wp_J17_copyOf_3 Z p0 p1 (some (zz_ad Z 300)) M c s k) fun r1 M2 bc3 bs4 => zrA r1 fun x5 => K (some (va_rf x5)) M2
theorem ok_J17_copyOf_2 {Z : zzG} {l : Launch} (hl : l.stackTraces = false) {p0 : Option Nat} {p1 : Int32} {M : zzM} {mc ms : Nat} {K : Option Value → zzM → Prop} (hw : wp_J17_copyOf_2 Z p0 p1 M mc ms K) : zz_Met Z l yJ17_copyOf_2 (zz_ws yJ17_copyOf_2 cJ17_copyOf_2 2 (some (.array (.object "java/lang/Object"))) none) 3 [va_rf p0, .int p1] M mc ms K (fun _ _ _ => False) := by
  refine zz_ofW hl (plainFor_of_name (by decide)) (by simp only [zz_sl0, zz_slI, zz_slJ, zz_slA] <;> decide) (fun G hZ hll C E hH hR hin => ?_)
  subst hZ
  subst hll
  rw [show lv_args 0 [va_rf p0, .int p1] = [(0, va_rf p0), (1, .int p1)] by simp only [zz_la0, zz_laI, zz_laJ, zz_laA]]
  unfold wp_J17_copyOf_2 at hw
  refine zz_aload_n C dJ17_copyOf_2_0 rfl 0 rfl ?_
  refine zz_iload_n C dJ17_copyOf_2_1 rfl 1 rfl ?_
  refine zz_aload_n C dJ17_copyOf_2_2 rfl 0 rfl ?_
  obtain ⟨a9, t9, fs9, hro, hL, rfl, hw⟩ := ztyTS hw
  refine zz_getCA (j := 0) C hR (by decide) dJ17_copyOf_2_3 hro hL rfl rfl q795 q2931 q2930 q796 q835 (zz_cat10 _ (Nat.le_of_ble_eq_true rfl)) ?_
  obtain ⟨c9, s9, hc9, hs9, hw⟩ := hw
  refine zz_callS (As := [va_rf p0, .int p1, va_rf (some (zz_ad (zz_Zof G) 300))]) (rest := []) C hR dJ17_copyOf_2_6 (Or.inl q836) q837 zl_java_util_Arrays zk_J17_copyOf_3 (Or.inl rfl) zy_J17_copyOf_3 (by decide) (by decide) (ok_J17_copyOf_3 (zz_hl C) hw) hc9 hs9 (zz_cat10 _ (Nat.le_of_ble_eq_true rfl)) (fun r1 M2 hw => zz_kA hw (fun x5 hw => ?_)) (fun _ _ _ h9 => h9.elim) rfl
  exact zz_aret C E (Or.inr ⟨_, rfl⟩) dJ17_copyOf_2_9 hw
abbrev cJ2_grow_2 : ByteArray := prog_59_method_6_code
def yJ2_grow_2 : MethodName := ⟨"java/util/ArrayList", "grow", "(I)[Ljava/lang/Object;"⟩
def dkwJ2_grow_2_2 : List UInt8 := [27, 184, 0, 79, 189, 0, 7, 90, 181, 0, 9, 176]
abbrev dktJ2_grow_2_2 : List UInt8 := dkwJ2_grow_2_2 ++ []
def dkwJ2_grow_2_1 : List UInt8 := [28, 4, 122, 184, 0, 73, 62, 42, 42, 180, 0, 9, 29, 184, 0, 66, 90, 181, 0, 9, 176, 42, 16, 10]
abbrev dktJ2_grow_2_1 : List UInt8 := dkwJ2_grow_2_1 ++ dktJ2_grow_2_2
def dkwJ2_grow_2_0 : List UInt8 := [42, 180, 0, 9, 190, 61, 28, 157, 0, 13, 42, 180, 0, 9, 178, 0, 39, 165, 0, 28, 28, 27, 28, 100]
abbrev dktJ2_grow_2_0 : List UInt8 := dkwJ2_grow_2_0 ++ dktJ2_grow_2_1
theorem dksJ2_grow_2_0 : cJ2_grow_2.data.toList.drop 0 = dktJ2_grow_2_0 := by decide +kernel
theorem dksJ2_grow_2_1 : cJ2_grow_2.data.toList.drop 24 = dktJ2_grow_2_1 := dk_seg dksJ2_grow_2_0 24 rfl rfl
theorem dksJ2_grow_2_2 : cJ2_grow_2.data.toList.drop 48 = dktJ2_grow_2_2 := dk_seg dksJ2_grow_2_1 24 rfl rfl
theorem dJ2_grow_2_0 : decode cJ2_grow_2 0 = .ok (.aload_n 0, 1) := dk_42 (dk_at dksJ2_grow_2_0 0 rfl rfl)
theorem dJ2_grow_2_1 : decode cJ2_grow_2 1 = .ok (.getfield 9, 3) := dk_180 0 9 (dk_at dksJ2_grow_2_0 1 rfl rfl)
theorem dJ2_grow_2_4 : decode cJ2_grow_2 4 = .ok (.arraylength, 1) := dk_190 (dk_at dksJ2_grow_2_0 4 rfl rfl)
theorem dJ2_grow_2_5 : decode cJ2_grow_2 5 = .ok (.istore_n 2, 1) := dk_61 (dk_at dksJ2_grow_2_0 5 rfl rfl)
theorem dJ2_grow_2_6 : decode cJ2_grow_2 6 = .ok (.iload_n 2, 1) := dk_28 (dk_at dksJ2_grow_2_0 6 rfl rfl)
theorem dJ2_grow_2_7 : decode cJ2_grow_2 7 = .ok (.ifCond .gt 13, 3) := dk_157 0 13 (dk_at dksJ2_grow_2_0 7 rfl rfl)
theorem dJ2_grow_2_10 : decode cJ2_grow_2 10 = .ok (.aload_n 0, 1) := dk_42 (dk_at dksJ2_grow_2_0 10 rfl rfl)
theorem dJ2_grow_2_11 : decode cJ2_grow_2 11 = .ok (.getfield 9, 3) := dk_180 0 9 (dk_at dksJ2_grow_2_0 11 rfl rfl)
theorem dJ2_grow_2_14 : decode cJ2_grow_2 14 = .ok (.getstatic 39, 3) := dk_178 0 39 (dk_at dksJ2_grow_2_0 14 rfl rfl)
theorem dJ2_grow_2_17 : decode cJ2_grow_2 17 = .ok (.if_acmp .eq 28, 3) := dk_165 0 28 (dk_at dksJ2_grow_2_0 17 rfl rfl)
theorem dJ2_grow_2_20 : decode cJ2_grow_2 20 = .ok (.iload_n 2, 1) := dk_28 (dk_at dksJ2_grow_2_0 20 rfl rfl)
theorem dJ2_grow_2_21 : decode cJ2_grow_2 21 = .ok (.iload_n 1, 1) := dk_27 (dk_at dksJ2_grow_2_0 21 rfl rfl)
theorem dJ2_grow_2_22 : decode cJ2_grow_2 22 = .ok (.iload_n 2, 1) := dk_28 (dk_at dksJ2_grow_2_0 22 rfl rfl)
theorem dJ2_grow_2_23 : decode cJ2_grow_2 23 = .ok (.isub, 1) := dk_100 (dk_at dksJ2_grow_2_0 23 rfl rfl)
theorem dJ2_grow_2_24 : decode cJ2_grow_2 24 = .ok (.iload_n 2, 1) := dk_28 (dk_at dksJ2_grow_2_1 0 rfl rfl)
theorem dJ2_grow_2_25 : decode cJ2_grow_2 25 = .ok (.iconst 1, 1) := dk_4 (dk_at dksJ2_grow_2_1 1 rfl rfl)
theorem dJ2_grow_2_26 : decode cJ2_grow_2 26 = .ok (.ishr, 1) := dk_122 (dk_at dksJ2_grow_2_1 2 rfl rfl)
theorem dJ2_grow_2_27 : decode cJ2_grow_2 27 = .ok (.invokestatic 73, 3) := dk_184 0 73 (dk_at dksJ2_grow_2_1 3 rfl rfl)
theorem dJ2_grow_2_30 : decode cJ2_grow_2 30 = .ok (.istore_n 3, 1) := dk_62 (dk_at dksJ2_grow_2_1 6 rfl rfl)
theorem dJ2_grow_2_31 : decode cJ2_grow_2 31 = .ok (.aload_n 0, 1) := dk_42 (dk_at dksJ2_grow_2_1 7 rfl rfl)
theorem dJ2_grow_2_32 : decode cJ2_grow_2 32 = .ok (.aload_n 0, 1) := dk_42 (dk_at dksJ2_grow_2_1 8 rfl rfl)
theorem dJ2_grow_2_33 : decode cJ2_grow_2 33 = .ok (.getfield 9, 3) := dk_180 0 9 (dk_at dksJ2_grow_2_1 9 rfl rfl)
theorem dJ2_grow_2_36 : decode cJ2_grow_2 36 = .ok (.iload_n 3, 1) := dk_29 (dk_at dksJ2_grow_2_1 12 rfl rfl)
theorem dJ2_grow_2_37 : decode cJ2_grow_2 37 = .ok (.invokestatic 66, 3) := dk_184 0 66 (dk_at dksJ2_grow_2_1 13 rfl rfl)
theorem dJ2_grow_2_40 : decode cJ2_grow_2 40 = .ok (.dup_x1, 1) := dk_90 (dk_at dksJ2_grow_2_1 16 rfl rfl)
theorem dJ2_grow_2_41 : decode cJ2_grow_2 41 = .ok (.putfield 9, 3) := dk_181 0 9 (dk_at dksJ2_grow_2_1 17 rfl rfl)
theorem dJ2_grow_2_44 : decode cJ2_grow_2 44 = .ok (.areturn, 1) := dk_176 (dk_at dksJ2_grow_2_1 20 rfl rfl)
theorem dJ2_grow_2_45 : decode cJ2_grow_2 45 = .ok (.aload_n 0, 1) := dk_42 (dk_at dksJ2_grow_2_1 21 rfl rfl)
theorem dJ2_grow_2_46 : decode cJ2_grow_2 46 = .ok (.bipush 10, 2) := dk_16 10 (dk_at dksJ2_grow_2_1 22 rfl rfl)
theorem dJ2_grow_2_48 : decode cJ2_grow_2 48 = .ok (.iload_n 1, 1) := dk_27 (dk_at dksJ2_grow_2_2 0 rfl rfl)
theorem dJ2_grow_2_49 : decode cJ2_grow_2 49 = .ok (.invokestatic 79, 3) := dk_184 0 79 (dk_at dksJ2_grow_2_2 1 rfl rfl)
theorem dJ2_grow_2_52 : decode cJ2_grow_2 52 = .ok (.anewarray 7, 3) := dk_189 0 7 (dk_at dksJ2_grow_2_2 4 rfl rfl)
theorem dJ2_grow_2_55 : decode cJ2_grow_2 55 = .ok (.dup_x1, 1) := dk_90 (dk_at dksJ2_grow_2_2 7 rfl rfl)
theorem dJ2_grow_2_56 : decode cJ2_grow_2 56 = .ok (.putfield 9, 3) := dk_181 0 9 (dk_at dksJ2_grow_2_2 8 rfl rfl)
theorem dJ2_grow_2_59 : decode cJ2_grow_2 59 = .ok (.areturn, 1) := dk_176 (dk_at dksJ2_grow_2_2 11 rfl rfl)
theorem q843 : (Jvm.Cond.classLink "java/util/ArrayList" (7 : Nat) "java/lang/Object") ∈ lw_all := lw_g (lw_at lw_m4 43 rfl) rfl
theorem q842 : (Jvm.Cond.methodLink "java/util/ArrayList" (79 : Nat) ({ cls := "java/lang/Math", name := "max", desc := "(II)I" } : Jvm.MethodName)) ∈ lw_all := lw_g (lw_at lw_m4 42 rfl) rfl
theorem q794 : (Jvm.Cond.code ({ cls := "java/util/Arrays", name := "copyOf", desc := "([Ljava/lang/Object;I)[Ljava/lang/Object;" } : Jvm.MethodName) prog_61_method_119_code (2 : Nat) (Option.some (Jvm.ClassFile.FieldType.array (Jvm.ClassFile.FieldType.object "java/lang/Object")))) ∈ lw_all := lw_g (lw_at lw_m3 234 rfl) rfl
theorem zk_J17_copyOf_2 : zz_cd yJ17_copyOf_2 cJ17_copyOf_2 2 (some (.array (.object "java/lang/Object"))) none ∈ lw_all := q794
theorem zy_J17_copyOf_2 : zz_yok yJ17_copyOf_2 2 = true := by decide +kernel
theorem q792 : (Jvm.Cond.methodLink "java/util/ArrayList" (66 : Nat) ({ cls := "java/util/Arrays", name := "copyOf", desc := "([Ljava/lang/Object;I)[Ljava/lang/Object;" } : Jvm.MethodName)) ∈ lw_all := lw_g (lw_at lw_m3 232 rfl) rfl
theorem q793 : (Jvm.Cond.static ({ cls := "java/util/Arrays", name := "copyOf", desc := "([Ljava/lang/Object;I)[Ljava/lang/Object;" } : Jvm.MethodName)) ∈ lw_all := lw_g (lw_at lw_m3 233 rfl) rfl
theorem q791 : (Jvm.Cond.methodLink "java/util/ArrayList" (73 : Nat) ({ cls := "jdk/internal/util/ArraysSupport", name := "newLength", desc := "(III)I" } : Jvm.MethodName)) ∈ lw_all := lw_g (lw_at lw_m3 231 rfl) rfl
def wp_J2_grow_2_B20 (Z : zzG) (K : Option Value → zzM → Prop) (v0 : Option Nat) (v1 : Int32) (v2 : Int32) (M : zzM) (bc bs : Nat) : Prop := wp_J15_newLength Z v2 (v1 - v2) (v2 >>> ((1 : Int32) &&& 31)) M (fun r14 M15 => zrI r14 fun x18 => zgA Z M15 v0 [18] 1 fun x19 => zcc bc bs (fun c s k => wp_J17_copyOf_2 Z x19 x18 M15 c s k) fun r20 M21 bc22 bs23 => zrA r20 fun x24 => zput Z M21 v0 [18] 1 (va_rf x24) fun M25 => K (some (va_rf x24)) M25)
def wp_J2_grow_2 (Z : zzG) (this : Option Nat) (p0 : Int32) (M : zzM) (bc bs : Nat) (K : Option Value → zzM → Prop) : Prop := zgA Z M this [18] 1 fun x1 => zlen Z M x1 fun x2 => if 0 < x2 then (wp_J2_grow_2_B20 Z K this p0 x2 M bc bs) else (zgA Z M this [18] 1 fun x3 => if x3 = (some (zz_ad Z 0)) then (wp_J16_max Z (10 : Int32) p0 M (fun r4 M5 => zrI r4 fun x8 => znar Z M5 bc bs 103 x8 .null fun q9 M10 bc11 bs12 => zput Z M10 this [18] 1 (va_rf (some q9)) fun M13 => K (some (va_rf (some q9))) M13)) else (wp_J2_grow_2_B20 Z K this p0 x2 M bc bs))
theorem ok_J2_grow_2_B20 {G : zzX} (C : zz_C G cJ2_grow_2 "java/util/ArrayList" 4) {K : Option Value → zzM → Prop} (E : zz_E G (some (.array (.object "java/lang/Object"))) K (fun _ _ _ => False)) (hH : zz_H G []) (hR : zz_Rm G 4) {v0 : Option Nat} {v1 : Int32} {v2 : Int32} {M : zzM} {bc bs : Nat} (hw : wp_J2_grow_2_B20 (zz_Zof G) K v0 v1 v2 M bc bs) : zz_T G 4 M bc bs 20 [(0, va_rf v0), (1, .int v1), (2, .int v2)] [] := by
  unfold wp_J2_grow_2_B20 at hw
  refine zz_iload_n C dJ2_grow_2_20 rfl 2 rfl ?_
  refine zz_iload_n C dJ2_grow_2_21 rfl 1 rfl ?_
  refine zz_iload_n C dJ2_grow_2_22 rfl 2 rfl ?_
  refine zz_isub C dJ2_grow_2_23 ?_
  refine zz_iload_n C dJ2_grow_2_24 rfl 2 rfl ?_
  refine zz_iconst (v := (1 : Int32)) C dJ2_grow_2_25 (by decide) ?_
  refine zz_ishr C dJ2_grow_2_26 ?_
  refine zz_callS (As := [.int v2, .int (v1 - v2), .int (v2 >>> ((1 : Int32) &&& 31))]) (rest := []) (mc := 0) (ms := 0) C hR dJ2_grow_2_27 (Or.inl q791) q416 zl_jdk_internal_util_ArraysSupport zk_J15_newLength (Or.inl rfl) zy_J15_newLength (by decide) (by decide) (ok_J15_newLength (zz_hl C) hw) (Nat.zero_le _) (Nat.zero_le _) (zz_cat10 _ (Nat.le_of_ble_eq_true rfl)) (fun r14 M15 hw => zz_kI hw (fun x18 hw => ?_)) (fun _ _ _ h9 => h9.elim) rfl
  refine zz_istore_n (i := 3) (lv' := [(3, .int x18), (0, va_rf v0), (1, .int v1), (2, .int v2)]) C dJ2_grow_2_30 rfl (by decide) rfl ?_
  refine zz_aload_n C dJ2_grow_2_31 rfl 1 rfl ?_
  refine zz_aload_n C dJ2_grow_2_32 rfl 1 rfl ?_
  refine zz_getA C dJ2_grow_2_33 (Or.inl q184) zf_18_1_util_ArrayList hw (fun x19 hw => ?_)
  refine zz_iload_n C dJ2_grow_2_36 rfl 0 rfl ?_
  obtain ⟨c9, s9, hc9, hs9, hw⟩ := hw
  refine zz_callS (As := [va_rf x19, .int x18]) (rest := [va_rf v0]) C hR dJ2_grow_2_37 (Or.inl q792) q793 zl_java_util_Arrays zk_J17_copyOf_2 (Or.inl rfl) zy_J17_copyOf_2 (by decide) (by decide) (ok_J17_copyOf_2 (zz_hl C) hw) hc9 hs9 (zz_cat10 _ (Nat.le_of_ble_eq_true rfl)) (fun r20 M21 hw => zz_kA hw (fun x24 hw => ?_)) (fun _ _ _ h9 => h9.elim) rfl
  refine zz_dup_x1 C dJ2_grow_2_40 (zz_cat _) (zz_cat _) ?_
  refine zz_put C dJ2_grow_2_41 (Or.inl q184) zf_18_1_util_ArrayList zp_18_1 (zz_hn1 (zz_nA _ rfl x24)) hw (fun M25 hw => ?_)
  exact zz_aret C E (Or.inr ⟨_, rfl⟩) dJ2_grow_2_44 hw
theorem ok_J2_grow_2 {Z : zzG} {l : Launch} (hl : l.stackTraces = false) {this : Option Nat} {p0 : Int32} {M : zzM} {mc ms : Nat} {K : Option Value → zzM → Prop} (hw : wp_J2_grow_2 Z this p0 M mc ms K) : zz_Met Z l yJ2_grow_2 (zz_ws yJ2_grow_2 cJ2_grow_2 4 (some (.array (.object "java/lang/Object"))) none) 4 [va_rf this, .int p0] M mc ms K (fun _ _ _ => False) := by
  refine zz_ofW hl (plainFor_of_name (by decide)) (by simp only [zz_sl0, zz_slI, zz_slJ, zz_slA] <;> decide) (fun G hZ hll C E hH hR hin => ?_)
  subst hZ
  subst hll
  rw [show lv_args 0 [va_rf this, .int p0] = [(0, va_rf this), (1, .int p0)] by simp only [zz_la0, zz_laI, zz_laJ, zz_laA]]
  unfold wp_J2_grow_2 at hw
  refine zz_aload_n C dJ2_grow_2_0 rfl 0 rfl ?_
  refine zz_getA C dJ2_grow_2_1 (Or.inl q184) zf_18_1_util_ArrayList hw (fun x1 hw => ?_)
  refine zz_alen C dJ2_grow_2_4 hw (fun x2 hw => ?_)
  refine zz_istore_n (i := 2) (lv' := [(2, .int x2), (0, va_rf this), (1, .int p0)]) C dJ2_grow_2_5 rfl (by decide) rfl ?_
  refine zz_iload_n C dJ2_grow_2_6 rfl 0 rfl ?_
  refine zz_if_gt (tgt := 20) C dJ2_grow_2_7 (by decide) hw (fun hw => ?_) (fun hw => ?_)
  · refine zz_subP [1, 2, 0] rfl ?_
    exact ok_J2_grow_2_B20 C E hH hR hw
  · refine zz_aload_n C dJ2_grow_2_10 rfl 1 rfl ?_
    refine zz_getA C dJ2_grow_2_11 (Or.inl q184) zf_18_1_util_ArrayList hw (fun x3 hw => ?_)
    refine zz_gets (j := 0) (v := va_rf (some (zz_ad (zz_Zof G) 0))) C dJ2_grow_2_14 (Or.inl q182) rfl (Or.inl rfl) rfl ?_
    refine zz_acmp_eq (tgt := 45) C dJ2_grow_2_17 (by decide) hw (fun hw => ?_) (fun hw => ?_)
    · refine zz_aload_n C dJ2_grow_2_45 rfl 1 rfl ?_
      refine zz_bipush (v := (10 : Int32)) C dJ2_grow_2_46 (by decide) ?_
      refine zz_iload_n C dJ2_grow_2_48 rfl 2 rfl ?_
      refine zz_callS (As := [.int (10 : Int32), .int p0]) (rest := [va_rf this]) (mc := 0) (ms := 0) C hR dJ2_grow_2_49 (Or.inl q842) q419 zl_java_lang_Math zk_J16_max (Or.inl rfl) zy_J16_max (by decide) (by decide) (ok_J16_max (zz_hl C) hw) (Nat.zero_le _) (Nat.zero_le _) (zz_cat10 _ (Nat.le_of_ble_eq_true rfl)) (fun r4 M5 hw => zz_kI hw (fun x8 hw => ?_)) (fun _ _ _ h9 => h9.elim) rfl
      refine zz_anewar (t := 103) C dJ2_grow_2_52 rfl q843 q840 hw (fun q9 M10 bc11 bs12 hw => ?_)
      refine zz_dup_x1 C dJ2_grow_2_55 (zz_cat _) (zz_cat _) ?_
      refine zz_put C dJ2_grow_2_56 (Or.inl q184) zf_18_1_util_ArrayList zp_18_1 (zz_hn1 (zz_nA _ rfl (some q9))) hw (fun M13 hw => ?_)
      exact zz_aret C E (Or.inr ⟨_, rfl⟩) dJ2_grow_2_59 hw
    · refine zz_subP [1, 2, 0] rfl ?_
      exact ok_J2_grow_2_B20 C E hH hR hw
abbrev cJ2_grow : ByteArray := prog_59_method_7_code
def yJ2_grow : MethodName := ⟨"java/util/ArrayList", "grow", "()[Ljava/lang/Object;"⟩
def dkwJ2_grow_0 : List UInt8 := [42, 42, 180, 0, 48, 4, 96, 182, 0, 69, 176]
abbrev dktJ2_grow_0 : List UInt8 := dkwJ2_grow_0 ++ []
theorem dksJ2_grow_0 : cJ2_grow.data.toList.drop 0 = dktJ2_grow_0 := by decide +kernel
theorem dJ2_grow_0 : decode cJ2_grow 0 = .ok (.aload_n 0, 1) := dk_42 (dk_at dksJ2_grow_0 0 rfl rfl)
theorem dJ2_grow_1 : decode cJ2_grow 1 = .ok (.aload_n 0, 1) := dk_42 (dk_at dksJ2_grow_0 1 rfl rfl)
theorem dJ2_grow_2 : decode cJ2_grow 2 = .ok (.getfield 48, 3) := dk_180 0 48 (dk_at dksJ2_grow_0 2 rfl rfl)
theorem dJ2_grow_5 : decode cJ2_grow 5 = .ok (.iconst 1, 1) := dk_4 (dk_at dksJ2_grow_0 5 rfl rfl)
theorem dJ2_grow_6 : decode cJ2_grow 6 = .ok (.iadd, 1) := dk_96 (dk_at dksJ2_grow_0 6 rfl rfl)
theorem dJ2_grow_7 : decode cJ2_grow 7 = .ok (.invokevirtual 69, 3) := dk_182 0 69 (dk_at dksJ2_grow_0 7 rfl rfl)
theorem dJ2_grow_10 : decode cJ2_grow 10 = .ok (.areturn, 1) := dk_176 (dk_at dksJ2_grow_0 10 rfl rfl)
theorem q790 : (Jvm.Cond.code ({ cls := "java/util/ArrayList", name := "grow", desc := "(I)[Ljava/lang/Object;" } : Jvm.MethodName) prog_59_method_6_code (4 : Nat) (Option.some (Jvm.ClassFile.FieldType.array (Jvm.ClassFile.FieldType.object "java/lang/Object")))) ∈ lw_all := lw_g (lw_at lw_m3 230 rfl) rfl
theorem zk_J2_grow_2 : zz_cd yJ2_grow_2 cJ2_grow_2 4 (some (.array (.object "java/lang/Object"))) none ∈ lw_all := q790
theorem zy_J2_grow_2 : zz_yok yJ2_grow_2 1 = true := by decide +kernel
theorem q787 : (Jvm.Cond.methodLink "java/util/ArrayList" (69 : Nat) ({ cls := "java/util/ArrayList", name := "grow", desc := "(I)[Ljava/lang/Object;" } : Jvm.MethodName)) ∈ lw_all := lw_g (lw_at lw_m3 227 rfl) rfl
theorem q789 : (Jvm.Cond.instanceMethod ({ cls := "java/util/ArrayList", name := "grow", desc := "(I)[Ljava/lang/Object;" } : Jvm.MethodName)) ∈ lw_all := lw_g (lw_at lw_m3 229 rfl) rfl
def wp_J2_grow (Z : zzG) (this : Option Nat) (M : zzM) (bc bs : Nat) (K : Option Value → zzM → Prop) : Prop := zgI Z M this [18] 2 fun x1 => zty Z M this fun t => t = 18 ∧ zcc bc bs (fun c s k => wp_J2_grow_2 Z this (x1 + (1 : Int32)) M c s k) fun r2 M3 bc4 bs5 => zrA r2 fun x6 => K (some (va_rf x6)) M3
theorem ok_J2_grow {Z : zzG} {l : Launch} (hl : l.stackTraces = false) {this : Option Nat} {M : zzM} {mc ms : Nat} {K : Option Value → zzM → Prop} (hw : wp_J2_grow Z this M mc ms K) : zz_Met Z l yJ2_grow (zz_ws yJ2_grow cJ2_grow 1 (some (.array (.object "java/lang/Object"))) none) 5 [va_rf this] M mc ms K (fun _ _ _ => False) := by
  refine zz_ofW hl (plainFor_of_name (by decide)) (by simp only [zz_sl0, zz_slI, zz_slJ, zz_slA] <;> decide) (fun G hZ hll C E hH hR hin => ?_)
  subst hZ
  subst hll
  rw [show lv_args 0 [va_rf this] = [(0, va_rf this)] by simp only [zz_la0, zz_laI, zz_laJ, zz_laA]]
  unfold wp_J2_grow at hw
  refine zz_aload_n C dJ2_grow_0 rfl 0 rfl ?_
  refine zz_aload_n C dJ2_grow_1 rfl 0 rfl ?_
  refine zz_getI C dJ2_grow_2 (Or.inl q187) zf_18_2_util_ArrayList hw (fun x1 hw => ?_)
  refine zz_iconst (v := (1 : Int32)) C dJ2_grow_5 (by decide) ?_
  refine zz_iadd C dJ2_grow_6 ?_
  obtain ⟨a9, t9, b9, fs9, hro, hL, rfl, hw⟩ := ztyS hw
  obtain ⟨c9, s9, hc9, hs9, hw⟩ := hw
  refine zz_callV (r := (zR_18, zT_18, 3)) (As := [.int (x1 + (1 : Int32))]) (rest := []) C hR hro dJ2_grow_7 (Or.inl q787) q789 (Or.inl qs4) zl_java_util_ArrayList zk_J2_grow_2 (Or.inl rfl) zy_J2_grow_2 rfl (by decide) (by decide) hL (ok_J2_grow_2 (zz_hl C) hw) hc9 hs9 (zz_cat10 _ (Nat.le_of_ble_eq_true rfl)) (fun r2 M3 hw => zz_kA hw (fun x6 hw => ?_)) (fun _ _ _ h9 => h9.elim) rfl
  exact zz_aret C E (Or.inr ⟨_, rfl⟩) dJ2_grow_10 hw
abbrev cJ2_add_2 : ByteArray := prog_59_method_24_code
def yJ2_add_2 : MethodName := ⟨"java/util/ArrayList", "add", "(Ljava/lang/Object;[Ljava/lang/Object;I)V"⟩
def dkwJ2_add_2_0 : List UInt8 := [29, 44, 190, 160, 0, 8, 42, 182, 0, 129, 77, 44, 29, 43, 83, 42, 29, 4, 96, 181, 0, 48, 177]
abbrev dktJ2_add_2_0 : List UInt8 := dkwJ2_add_2_0 ++ []
theorem dksJ2_add_2_0 : cJ2_add_2.data.toList.drop 0 = dktJ2_add_2_0 := by decide +kernel
theorem dJ2_add_2_0 : decode cJ2_add_2 0 = .ok (.iload_n 3, 1) := dk_29 (dk_at dksJ2_add_2_0 0 rfl rfl)
theorem dJ2_add_2_1 : decode cJ2_add_2 1 = .ok (.aload_n 2, 1) := dk_44 (dk_at dksJ2_add_2_0 1 rfl rfl)
theorem dJ2_add_2_2 : decode cJ2_add_2 2 = .ok (.arraylength, 1) := dk_190 (dk_at dksJ2_add_2_0 2 rfl rfl)
theorem dJ2_add_2_3 : decode cJ2_add_2 3 = .ok (.if_icmp .ne 8, 3) := dk_160 0 8 (dk_at dksJ2_add_2_0 3 rfl rfl)
theorem dJ2_add_2_6 : decode cJ2_add_2 6 = .ok (.aload_n 0, 1) := dk_42 (dk_at dksJ2_add_2_0 6 rfl rfl)
theorem dJ2_add_2_7 : decode cJ2_add_2 7 = .ok (.invokevirtual 129, 3) := dk_182 0 129 (dk_at dksJ2_add_2_0 7 rfl rfl)
theorem dJ2_add_2_10 : decode cJ2_add_2 10 = .ok (.astore_n 2, 1) := dk_77 (dk_at dksJ2_add_2_0 10 rfl rfl)
theorem dJ2_add_2_11 : decode cJ2_add_2 11 = .ok (.aload_n 2, 1) := dk_44 (dk_at dksJ2_add_2_0 11 rfl rfl)
theorem dJ2_add_2_12 : decode cJ2_add_2 12 = .ok (.iload_n 3, 1) := dk_29 (dk_at dksJ2_add_2_0 12 rfl rfl)
theorem dJ2_add_2_13 : decode cJ2_add_2 13 = .ok (.aload_n 1, 1) := dk_43 (dk_at dksJ2_add_2_0 13 rfl rfl)
theorem dJ2_add_2_14 : decode cJ2_add_2 14 = .ok (.aastore, 1) := dk_83 (dk_at dksJ2_add_2_0 14 rfl rfl)
theorem dJ2_add_2_15 : decode cJ2_add_2 15 = .ok (.aload_n 0, 1) := dk_42 (dk_at dksJ2_add_2_0 15 rfl rfl)
theorem dJ2_add_2_16 : decode cJ2_add_2 16 = .ok (.iload_n 3, 1) := dk_29 (dk_at dksJ2_add_2_0 16 rfl rfl)
theorem dJ2_add_2_17 : decode cJ2_add_2 17 = .ok (.iconst 1, 1) := dk_4 (dk_at dksJ2_add_2_0 17 rfl rfl)
theorem dJ2_add_2_18 : decode cJ2_add_2 18 = .ok (.iadd, 1) := dk_96 (dk_at dksJ2_add_2_0 18 rfl rfl)
theorem dJ2_add_2_19 : decode cJ2_add_2 19 = .ok (.putfield 48, 3) := dk_181 0 48 (dk_at dksJ2_add_2_0 19 rfl rfl)
theorem dJ2_add_2_22 : decode cJ2_add_2 22 = .ok (.return_, 1) := dk_177 (dk_at dksJ2_add_2_0 22 rfl rfl)
theorem q786 : (Jvm.Cond.code ({ cls := "java/util/ArrayList", name := "grow", desc := "()[Ljava/lang/Object;" } : Jvm.MethodName) prog_59_method_7_code (1 : Nat) (Option.some (Jvm.ClassFile.FieldType.array (Jvm.ClassFile.FieldType.object "java/lang/Object")))) ∈ lw_all := lw_g (lw_at lw_m3 226 rfl) rfl
theorem zk_J2_grow : zz_cd yJ2_grow cJ2_grow 1 (some (.array (.object "java/lang/Object"))) none ∈ lw_all := q786
theorem zy_J2_grow : zz_yok yJ2_grow 0 = true := by decide +kernel
theorem q783 : (Jvm.Cond.methodLink "java/util/ArrayList" (129 : Nat) ({ cls := "java/util/ArrayList", name := "grow", desc := "()[Ljava/lang/Object;" } : Jvm.MethodName)) ∈ lw_all := lw_g (lw_at lw_m3 223 rfl) rfl
theorem q785 : (Jvm.Cond.instanceMethod ({ cls := "java/util/ArrayList", name := "grow", desc := "()[Ljava/lang/Object;" } : Jvm.MethodName)) ∈ lw_all := lw_g (lw_at lw_m3 225 rfl) rfl
theorem zp_18_2 : zz_pok [18] 2 := zz_pok1 (zR_18, zT_18, 3) (by decide) rfl rfl
def wp_J2_add_2_B11 (Z : zzG) (K : Option Value → zzM → Prop) (v0 : Option Nat) (v1 : Option Nat) (v2 : Option Nat) (v3 : Int32) (M : zzM) (bc bs : Nat) : Prop := zastA Z M v2 v3 v1 fun M7 => zput Z M7 v0 [18] 2 (.int (v3 + (1 : Int32))) fun M8 => K none M8
def wp_J2_add_2 (Z : zzG) (this : Option Nat) (p0 : Option Nat) (p1 : Option Nat) (p2 : Int32) (M : zzM) (bc bs : Nat) (K : Option Value → zzM → Prop) : Prop := zlen Z M p1 fun x1 => if p2 = x1 then (zty Z M this fun t => t = 18 ∧ zcc bc bs (fun c s k => wp_J2_grow Z this M c s k) fun r2 M3 bc4 bs5 => zrA r2 fun x6 => wp_J2_add_2_B11 Z K this p0 x6 p2 M3 bc4 bs5) else (wp_J2_add_2_B11 Z K this p0 p1 p2 M bc bs)
theorem ok_J2_add_2_B11 {G : zzX} (C : zz_C G cJ2_add_2 "java/util/ArrayList" 4) {K : Option Value → zzM → Prop} (E : zz_E G none K (fun _ _ _ => False)) (hH : zz_H G []) (hR : zz_Rm G 6) {v0 : Option Nat} {v1 : Option Nat} {v2 : Option Nat} {v3 : Int32} {M : zzM} {bc bs : Nat} (hw : wp_J2_add_2_B11 (zz_Zof G) K v0 v1 v2 v3 M bc bs) : zz_T G 4 M bc bs 11 [(0, va_rf v0), (1, va_rf v1), (2, va_rf v2), (3, .int v3)] [] := by
  unfold wp_J2_add_2_B11 at hw
  refine zz_aload_n C dJ2_add_2_11 rfl 2 rfl ?_
  refine zz_iload_n C dJ2_add_2_12 rfl 3 rfl ?_
  refine zz_aload_n C dJ2_add_2_13 rfl 1 rfl ?_
  refine zz_aast C dJ2_add_2_14 hw (fun M7 hw => ?_)
  refine zz_aload_n C dJ2_add_2_15 rfl 0 rfl ?_
  refine zz_iload_n C dJ2_add_2_16 rfl 3 rfl ?_
  refine zz_iconst (v := (1 : Int32)) C dJ2_add_2_17 (by decide) ?_
  refine zz_iadd C dJ2_add_2_18 ?_
  refine zz_put C dJ2_add_2_19 (Or.inl q187) zf_18_2_util_ArrayList zp_18_2 (zz_hn1 ⟨rfl, rfl⟩) hw (fun M8 hw => ?_)
  exact zz_vret C E dJ2_add_2_22 hw
theorem ok_J2_add_2 {Z : zzG} {l : Launch} (hl : l.stackTraces = false) {this : Option Nat} {p0 : Option Nat} {p1 : Option Nat} {p2 : Int32} {M : zzM} {mc ms : Nat} {K : Option Value → zzM → Prop} (hw : wp_J2_add_2 Z this p0 p1 p2 M mc ms K) : zz_Met Z l yJ2_add_2 (zz_ws yJ2_add_2 cJ2_add_2 4 none none) 6 [va_rf this, va_rf p0, va_rf p1, .int p2] M mc ms K (fun _ _ _ => False) := by
  refine zz_ofW hl (plainFor_of_name (by decide)) (by simp only [zz_sl0, zz_slI, zz_slJ, zz_slA] <;> decide) (fun G hZ hll C E hH hR hin => ?_)
  subst hZ
  subst hll
  rw [show lv_args 0 [va_rf this, va_rf p0, va_rf p1, .int p2] = [(0, va_rf this), (1, va_rf p0), (2, va_rf p1), (3, .int p2)] by simp only [zz_la0, zz_laI, zz_laJ, zz_laA]]
  unfold wp_J2_add_2 at hw
  refine zz_iload_n C dJ2_add_2_0 rfl 3 rfl ?_
  refine zz_aload_n C dJ2_add_2_1 rfl 2 rfl ?_
  refine zz_alen C dJ2_add_2_2 hw (fun x1 hw => ?_)
  refine zz_icmp_ne (tgt := 11) C dJ2_add_2_3 (by decide) hw (fun hw => ?_) (fun hw => ?_)
  · refine zz_subP [0, 1, 2, 3] rfl ?_
    exact ok_J2_add_2_B11 C E hH hR hw
  · refine zz_aload_n C dJ2_add_2_6 rfl 0 rfl ?_
    obtain ⟨a9, t9, b9, fs9, hro, hL, rfl, hw⟩ := ztyS hw
    obtain ⟨c9, s9, hc9, hs9, hw⟩ := hw
    refine zz_callV (r := (zR_18, zT_18, 3)) (As := []) (rest := []) C hR hro dJ2_add_2_7 (Or.inl q783) q785 (Or.inl qs3) zl_java_util_ArrayList zk_J2_grow (Or.inl rfl) zy_J2_grow rfl (by decide) (by decide) hL (ok_J2_grow (zz_hl C) hw) hc9 hs9 (zz_cat10 _ (Nat.le_of_ble_eq_true rfl)) (fun r2 M3 hw => zz_kA hw (fun x6 hw => ?_)) (fun _ _ _ h9 => h9.elim) rfl
    refine zz_astore_n (i := 2) (lv' := [(2, va_rf x6), (0, va_rf this), (1, va_rf p0), (3, .int p2)]) C dJ2_add_2_10 rfl (by decide) (by simp [zz_cat, zz_catI, zz_catJ, zz_catD]) ?_
    refine zz_subP [1, 2, 0, 3] rfl ?_
    exact ok_J2_add_2_B11 C E hH hR hw
abbrev cJ2_add : ByteArray := prog_59_method_25_code
def yJ2_add : MethodName := ⟨"java/util/ArrayList", "add", "(Ljava/lang/Object;)Z"⟩
def dkwJ2_add_1 : List UInt8 := [172]
abbrev dktJ2_add_1 : List UInt8 := dkwJ2_add_1 ++ []
def dkwJ2_add_0 : List UInt8 := [42, 89, 180, 0, 63, 4, 96, 181, 0, 63, 42, 43, 42, 180, 0, 9, 42, 180, 0, 48, 182, 0, 131, 4]
abbrev dktJ2_add_0 : List UInt8 := dkwJ2_add_0 ++ dktJ2_add_1
theorem dksJ2_add_0 : cJ2_add.data.toList.drop 0 = dktJ2_add_0 := by decide +kernel
theorem dksJ2_add_1 : cJ2_add.data.toList.drop 24 = dktJ2_add_1 := dk_seg dksJ2_add_0 24 rfl rfl
theorem dJ2_add_0 : decode cJ2_add 0 = .ok (.aload_n 0, 1) := dk_42 (dk_at dksJ2_add_0 0 rfl rfl)
theorem dJ2_add_1 : decode cJ2_add 1 = .ok (.dup, 1) := dk_89 (dk_at dksJ2_add_0 1 rfl rfl)
theorem dJ2_add_2 : decode cJ2_add 2 = .ok (.getfield 63, 3) := dk_180 0 63 (dk_at dksJ2_add_0 2 rfl rfl)
theorem dJ2_add_5 : decode cJ2_add 5 = .ok (.iconst 1, 1) := dk_4 (dk_at dksJ2_add_0 5 rfl rfl)
theorem dJ2_add_6 : decode cJ2_add 6 = .ok (.iadd, 1) := dk_96 (dk_at dksJ2_add_0 6 rfl rfl)
theorem dJ2_add_7 : decode cJ2_add 7 = .ok (.putfield 63, 3) := dk_181 0 63 (dk_at dksJ2_add_0 7 rfl rfl)
theorem dJ2_add_10 : decode cJ2_add 10 = .ok (.aload_n 0, 1) := dk_42 (dk_at dksJ2_add_0 10 rfl rfl)
theorem dJ2_add_11 : decode cJ2_add 11 = .ok (.aload_n 1, 1) := dk_43 (dk_at dksJ2_add_0 11 rfl rfl)
theorem dJ2_add_12 : decode cJ2_add 12 = .ok (.aload_n 0, 1) := dk_42 (dk_at dksJ2_add_0 12 rfl rfl)
theorem dJ2_add_13 : decode cJ2_add 13 = .ok (.getfield 9, 3) := dk_180 0 9 (dk_at dksJ2_add_0 13 rfl rfl)
theorem dJ2_add_16 : decode cJ2_add 16 = .ok (.aload_n 0, 1) := dk_42 (dk_at dksJ2_add_0 16 rfl rfl)
theorem dJ2_add_17 : decode cJ2_add 17 = .ok (.getfield 48, 3) := dk_180 0 48 (dk_at dksJ2_add_0 17 rfl rfl)
theorem dJ2_add_20 : decode cJ2_add 20 = .ok (.invokevirtual 131, 3) := dk_182 0 131 (dk_at dksJ2_add_0 20 rfl rfl)
theorem dJ2_add_23 : decode cJ2_add 23 = .ok (.iconst 1, 1) := dk_4 (dk_at dksJ2_add_0 23 rfl rfl)
theorem dJ2_add_24 : decode cJ2_add 24 = .ok (.ireturn, 1) := dk_172 (dk_at dksJ2_add_1 0 rfl rfl)
theorem q191 : (Jvm.Cond.fieldLink "java/util/ArrayList" (63 : Nat) "java/util/ArrayList" "modCount" "I") ∈ lw_all := lw_g (lw_at lw_m1 111 rfl) rfl
theorem q782 : (Jvm.Cond.code ({ cls := "java/util/ArrayList", name := "add", desc := "(Ljava/lang/Object;[Ljava/lang/Object;I)V" } : Jvm.MethodName) prog_59_method_24_code (4 : Nat) (Option.none : Option Jvm.ClassFile.FieldType)) ∈ lw_all := lw_g (lw_at lw_m3 222 rfl) rfl
theorem zk_J2_add_2 : zz_cd yJ2_add_2 cJ2_add_2 4 none none ∈ lw_all := q782
theorem zy_J2_add_2 : zz_yok yJ2_add_2 3 = true := by decide +kernel
theorem q779 : (Jvm.Cond.methodLink "java/util/ArrayList" (131 : Nat) ({ cls := "java/util/ArrayList", name := "add", desc := "(Ljava/lang/Object;[Ljava/lang/Object;I)V" } : Jvm.MethodName)) ∈ lw_all := lw_g (lw_at lw_m3 219 rfl) rfl
theorem q781 : (Jvm.Cond.instanceMethod ({ cls := "java/util/ArrayList", name := "add", desc := "(Ljava/lang/Object;[Ljava/lang/Object;I)V" } : Jvm.MethodName)) ∈ lw_all := lw_g (lw_at lw_m3 221 rfl) rfl
def wp_J2_add (Z : zzG) (this : Option Nat) (p0 : Option Nat) (M : zzM) (bc bs : Nat) (K : Option Value → zzM → Prop) : Prop := zgI Z M this [18] 0 fun x1 => zput Z M this [18] 0 (.int (x1 + (1 : Int32))) fun M2 => zgA Z M2 this [18] 1 fun x3 => zgI Z M2 this [18] 2 fun x4 => zty Z M2 this fun t => t = 18 ∧ zcc bc bs (fun c s k => wp_J2_add_2 Z this p0 x3 x4 M2 c s k) fun r5 M6 bc7 bs8 => zrV r5 (narrow .boolean (.int (1 : Int32)) = .int (1 : Int32) ∧ K (some (.int (1 : Int32))) M6)
theorem ok_J2_add {Z : zzG} {l : Launch} (hl : l.stackTraces = false) {this : Option Nat} {p0 : Option Nat} {M : zzM} {mc ms : Nat} {K : Option Value → zzM → Prop} (hw : wp_J2_add Z this p0 M mc ms K) : zz_Met Z l yJ2_add (zz_ws yJ2_add cJ2_add 2 (some .boolean) none) 7 [va_rf this, va_rf p0] M mc ms K (fun _ _ _ => False) := by
  refine zz_ofW hl (plainFor_of_name (by decide)) (by simp only [zz_sl0, zz_slI, zz_slJ, zz_slA] <;> decide) (fun G hZ hll C E hH hR hin => ?_)
  subst hZ
  subst hll
  rw [show lv_args 0 [va_rf this, va_rf p0] = [(0, va_rf this), (1, va_rf p0)] by simp only [zz_la0, zz_laI, zz_laJ, zz_laA]]
  unfold wp_J2_add at hw
  refine zz_aload_n C dJ2_add_0 rfl 0 rfl ?_
  refine zz_dup C dJ2_add_1 (zz_cat _) ?_
  refine zz_getI C dJ2_add_2 (Or.inl q191) zf_18_0_util_ArrayList hw (fun x1 hw => ?_)
  refine zz_iconst (v := (1 : Int32)) C dJ2_add_5 (by decide) ?_
  refine zz_iadd C dJ2_add_6 ?_
  refine zz_put C dJ2_add_7 (Or.inl q191) zf_18_0_util_ArrayList zp_18_0 (zz_hn1 ⟨rfl, rfl⟩) hw (fun M2 hw => ?_)
  refine zz_aload_n C dJ2_add_10 rfl 0 rfl ?_
  refine zz_aload_n C dJ2_add_11 rfl 1 rfl ?_
  refine zz_aload_n C dJ2_add_12 rfl 0 rfl ?_
  refine zz_getA C dJ2_add_13 (Or.inl q184) zf_18_1_util_ArrayList hw (fun x3 hw => ?_)
  refine zz_aload_n C dJ2_add_16 rfl 0 rfl ?_
  refine zz_getI C dJ2_add_17 (Or.inl q187) zf_18_2_util_ArrayList hw (fun x4 hw => ?_)
  obtain ⟨a9, t9, b9, fs9, hro, hL, rfl, hw⟩ := ztyS hw
  obtain ⟨c9, s9, hc9, hs9, hw⟩ := hw
  refine zz_callV (r := (zR_18, zT_18, 3)) (As := [va_rf p0, va_rf x3, .int x4]) (rest := []) C hR hro dJ2_add_20 (Or.inl q779) q781 (Or.inl qs2) zl_java_util_ArrayList zk_J2_add_2 (Or.inl rfl) zy_J2_add_2 rfl (by decide) (by decide) hL (ok_J2_add_2 (zz_hl C) hw) hc9 hs9 (zz_cat10 _ (Nat.le_of_ble_eq_true rfl)) (fun r5 M6 hw => zz_kV hw (fun hw => ?_)) (fun _ _ _ h9 => h9.elim) rfl
  refine zz_iconst (v := (1 : Int32)) C dJ2_add_23 (by decide) ?_
  exact zz_zret C E dJ2_add_24 hw
abbrev cX7_all : ByteArray := prog_14_method_6_code
def yX7_all : MethodName := ⟨"DebateHall$Scanner", "all", "()Ljava/util/List;"⟩
def dkwX7_all_4 : List UInt8 := [183, 0, 77, 182, 0, 50, 87, 42, 180, 0, 12, 176]
abbrev dktX7_all_4 : List UInt8 := dkwX7_all_4 ++ []
def dkwX7_all_3 : List UInt8 := [60, 167, 255, 185, 42, 180, 0, 12, 187, 0, 54, 89, 178, 0, 72, 18, 75, 42, 180, 0, 18, 180, 0, 32]
abbrev dktX7_all_3 : List UInt8 := dkwX7_all_3 ++ dktX7_all_4
def dkwX7_all_2 : List UInt8 := [44, 180, 0, 53, 178, 0, 59, 166, 0, 8, 42, 180, 0, 12, 176, 27, 44, 180, 0, 64, 182, 0, 68, 96]
abbrev dktX7_all_2 : List UInt8 := dkwX7_all_2 ++ dktX7_all_3
def dkwX7_all_1 : List UInt8 := [153, 0, 9, 132, 1, 1, 167, 255, 228, 42, 27, 182, 0, 46, 77, 42, 180, 0, 12, 44, 182, 0, 50, 87]
abbrev dktX7_all_1 : List UInt8 := dkwX7_all_1 ++ dktX7_all_2
def dkwX7_all_0 : List UInt8 := [3, 60, 27, 42, 180, 0, 18, 180, 0, 32, 162, 0, 66, 42, 180, 0, 18, 27, 182, 0, 38, 184, 0, 42]
abbrev dktX7_all_0 : List UInt8 := dkwX7_all_0 ++ dktX7_all_1
theorem dksX7_all_0 : cX7_all.data.toList.drop 0 = dktX7_all_0 := by decide +kernel
theorem dksX7_all_1 : cX7_all.data.toList.drop 24 = dktX7_all_1 := dk_seg dksX7_all_0 24 rfl rfl
theorem dksX7_all_2 : cX7_all.data.toList.drop 48 = dktX7_all_2 := dk_seg dksX7_all_1 24 rfl rfl
theorem dksX7_all_3 : cX7_all.data.toList.drop 72 = dktX7_all_3 := dk_seg dksX7_all_2 24 rfl rfl
theorem dksX7_all_4 : cX7_all.data.toList.drop 96 = dktX7_all_4 := dk_seg dksX7_all_3 24 rfl rfl
theorem dX7_all_0 : decode cX7_all 0 = .ok (.iconst 0, 1) := dk_3 (dk_at dksX7_all_0 0 rfl rfl)
theorem dX7_all_1 : decode cX7_all 1 = .ok (.istore_n 1, 1) := dk_60 (dk_at dksX7_all_0 1 rfl rfl)
theorem dX7_all_2 : decode cX7_all 2 = .ok (.iload_n 1, 1) := dk_27 (dk_at dksX7_all_0 2 rfl rfl)
theorem dX7_all_3 : decode cX7_all 3 = .ok (.aload_n 0, 1) := dk_42 (dk_at dksX7_all_0 3 rfl rfl)
theorem dX7_all_4 : decode cX7_all 4 = .ok (.getfield 18, 3) := dk_180 0 18 (dk_at dksX7_all_0 4 rfl rfl)
theorem dX7_all_7 : decode cX7_all 7 = .ok (.getfield 32, 3) := dk_180 0 32 (dk_at dksX7_all_0 7 rfl rfl)
theorem dX7_all_10 : decode cX7_all 10 = .ok (.if_icmp .ge 66, 3) := dk_162 0 66 (dk_at dksX7_all_0 10 rfl rfl)
theorem dX7_all_13 : decode cX7_all 13 = .ok (.aload_n 0, 1) := dk_42 (dk_at dksX7_all_0 13 rfl rfl)
theorem dX7_all_14 : decode cX7_all 14 = .ok (.getfield 18, 3) := dk_180 0 18 (dk_at dksX7_all_0 14 rfl rfl)
theorem dX7_all_17 : decode cX7_all 17 = .ok (.iload_n 1, 1) := dk_27 (dk_at dksX7_all_0 17 rfl rfl)
theorem dX7_all_18 : decode cX7_all 18 = .ok (.invokevirtual 38, 3) := dk_182 0 38 (dk_at dksX7_all_0 18 rfl rfl)
theorem dX7_all_21 : decode cX7_all 21 = .ok (.invokestatic 42, 3) := dk_184 0 42 (dk_at dksX7_all_0 21 rfl rfl)
theorem dX7_all_24 : decode cX7_all 24 = .ok (.ifCond .eq 9, 3) := dk_153 0 9 (dk_at dksX7_all_1 0 rfl rfl)
theorem dX7_all_27 : decode cX7_all 27 = .ok (.iinc 1 1, 3) := dk_132 1 1 (dk_at dksX7_all_1 3 rfl rfl)
theorem dX7_all_30 : decode cX7_all 30 = .ok (.goto (-28), 3) := dk_167 255 228 (dk_at dksX7_all_1 6 rfl rfl)
theorem dX7_all_33 : decode cX7_all 33 = .ok (.aload_n 0, 1) := dk_42 (dk_at dksX7_all_1 9 rfl rfl)
theorem dX7_all_34 : decode cX7_all 34 = .ok (.iload_n 1, 1) := dk_27 (dk_at dksX7_all_1 10 rfl rfl)
theorem dX7_all_35 : decode cX7_all 35 = .ok (.invokevirtual 46, 3) := dk_182 0 46 (dk_at dksX7_all_1 11 rfl rfl)
theorem dX7_all_38 : decode cX7_all 38 = .ok (.astore_n 2, 1) := dk_77 (dk_at dksX7_all_1 14 rfl rfl)
theorem dX7_all_39 : decode cX7_all 39 = .ok (.aload_n 0, 1) := dk_42 (dk_at dksX7_all_1 15 rfl rfl)
theorem dX7_all_40 : decode cX7_all 40 = .ok (.getfield 12, 3) := dk_180 0 12 (dk_at dksX7_all_1 16 rfl rfl)
theorem dX7_all_43 : decode cX7_all 43 = .ok (.aload_n 2, 1) := dk_44 (dk_at dksX7_all_1 19 rfl rfl)
theorem dX7_all_44 : decode cX7_all 44 = .ok (.invokevirtual 50, 3) := dk_182 0 50 (dk_at dksX7_all_1 20 rfl rfl)
theorem dX7_all_47 : decode cX7_all 47 = .ok (.pop, 1) := dk_87 (dk_at dksX7_all_1 23 rfl rfl)
theorem dX7_all_48 : decode cX7_all 48 = .ok (.aload_n 2, 1) := dk_44 (dk_at dksX7_all_2 0 rfl rfl)
theorem dX7_all_49 : decode cX7_all 49 = .ok (.getfield 53, 3) := dk_180 0 53 (dk_at dksX7_all_2 1 rfl rfl)
theorem dX7_all_52 : decode cX7_all 52 = .ok (.getstatic 59, 3) := dk_178 0 59 (dk_at dksX7_all_2 4 rfl rfl)
theorem dX7_all_55 : decode cX7_all 55 = .ok (.if_acmp .ne 8, 3) := dk_166 0 8 (dk_at dksX7_all_2 7 rfl rfl)
theorem dX7_all_58 : decode cX7_all 58 = .ok (.aload_n 0, 1) := dk_42 (dk_at dksX7_all_2 10 rfl rfl)
theorem dX7_all_59 : decode cX7_all 59 = .ok (.getfield 12, 3) := dk_180 0 12 (dk_at dksX7_all_2 11 rfl rfl)
theorem dX7_all_62 : decode cX7_all 62 = .ok (.areturn, 1) := dk_176 (dk_at dksX7_all_2 14 rfl rfl)
theorem dX7_all_63 : decode cX7_all 63 = .ok (.iload_n 1, 1) := dk_27 (dk_at dksX7_all_2 15 rfl rfl)
theorem dX7_all_64 : decode cX7_all 64 = .ok (.aload_n 2, 1) := dk_44 (dk_at dksX7_all_2 16 rfl rfl)
theorem dX7_all_65 : decode cX7_all 65 = .ok (.getfield 64, 3) := dk_180 0 64 (dk_at dksX7_all_2 17 rfl rfl)
theorem dX7_all_68 : decode cX7_all 68 = .ok (.invokevirtual 68, 3) := dk_182 0 68 (dk_at dksX7_all_2 20 rfl rfl)
theorem dX7_all_71 : decode cX7_all 71 = .ok (.iadd, 1) := dk_96 (dk_at dksX7_all_2 23 rfl rfl)
theorem dX7_all_72 : decode cX7_all 72 = .ok (.istore_n 1, 1) := dk_60 (dk_at dksX7_all_3 0 rfl rfl)
theorem dX7_all_73 : decode cX7_all 73 = .ok (.goto (-71), 3) := dk_167 255 185 (dk_at dksX7_all_3 1 rfl rfl)
theorem dX7_all_76 : decode cX7_all 76 = .ok (.aload_n 0, 1) := dk_42 (dk_at dksX7_all_3 4 rfl rfl)
theorem dX7_all_77 : decode cX7_all 77 = .ok (.getfield 12, 3) := dk_180 0 12 (dk_at dksX7_all_3 5 rfl rfl)
theorem dX7_all_80 : decode cX7_all 80 = .ok (.new 54, 3) := dk_187 0 54 (dk_at dksX7_all_3 8 rfl rfl)
theorem dX7_all_83 : decode cX7_all 83 = .ok (.dup, 1) := dk_89 (dk_at dksX7_all_3 11 rfl rfl)
theorem dX7_all_84 : decode cX7_all 84 = .ok (.getstatic 72, 3) := dk_178 0 72 (dk_at dksX7_all_3 12 rfl rfl)
theorem dX7_all_87 : decode cX7_all 87 = .ok (.ldc 75, 2) := dk_18 75 (dk_at dksX7_all_3 15 rfl rfl)
theorem dX7_all_89 : decode cX7_all 89 = .ok (.aload_n 0, 1) := dk_42 (dk_at dksX7_all_3 17 rfl rfl)
theorem dX7_all_90 : decode cX7_all 90 = .ok (.getfield 18, 3) := dk_180 0 18 (dk_at dksX7_all_3 18 rfl rfl)
theorem dX7_all_93 : decode cX7_all 93 = .ok (.getfield 32, 3) := dk_180 0 32 (dk_at dksX7_all_3 21 rfl rfl)
theorem dX7_all_96 : decode cX7_all 96 = .ok (.invokespecial 77, 3) := dk_183 0 77 (dk_at dksX7_all_4 0 rfl rfl)
theorem dX7_all_99 : decode cX7_all 99 = .ok (.invokevirtual 50, 3) := dk_182 0 50 (dk_at dksX7_all_4 3 rfl rfl)
theorem dX7_all_102 : decode cX7_all 102 = .ok (.pop, 1) := dk_87 (dk_at dksX7_all_4 6 rfl rfl)
theorem dX7_all_103 : decode cX7_all 103 = .ok (.aload_n 0, 1) := dk_42 (dk_at dksX7_all_4 7 rfl rfl)
theorem dX7_all_104 : decode cX7_all 104 = .ok (.getfield 12, 3) := dk_180 0 12 (dk_at dksX7_all_4 8 rfl rfl)
theorem dX7_all_107 : decode cX7_all 107 = .ok (.areturn, 1) := dk_176 (dk_at dksX7_all_4 11 rfl rfl)
theorem q156 : (Jvm.Cond.fieldLinkNest "DebateHall$Scanner" (32 : Nat) "DebateHall$Tape" "size" "I" "DebateHall") ∈ lw_tbl := lw_at lw_m1 76 rfl
theorem q844 : (Jvm.Cond.fieldLink "DebateHall$Scanner" (72 : Nat) "DebateHall$Sort" "END" "LDebateHall$Sort;") ∈ lw_all := lw_g (lw_at lw_m4 44 rfl) rfl
theorem q778 : (Jvm.Cond.code ({ cls := "java/util/ArrayList", name := "add", desc := "(Ljava/lang/Object;)Z" } : Jvm.MethodName) prog_59_method_25_code (2 : Nat) (Option.some Jvm.ClassFile.FieldType.boolean)) ∈ lw_all := lw_g (lw_at lw_m3 218 rfl) rfl
theorem zk_J2_add : zz_cd yJ2_add cJ2_add 2 (some .boolean) none ∈ lw_all := q778
theorem zy_J2_add : zz_yok yJ2_add 1 = true := by decide +kernel
theorem q775 : (Jvm.Cond.methodLink "DebateHall$Scanner" (50 : Nat) ({ cls := "java/util/ArrayList", name := "add", desc := "(Ljava/lang/Object;)Z" } : Jvm.MethodName)) ∈ lw_all := lw_g (lw_at lw_m3 215 rfl) rfl
theorem q776 : (Jvm.Cond.instanceMethod ({ cls := "java/util/ArrayList", name := "add", desc := "(Ljava/lang/Object;)Z" } : Jvm.MethodName)) ∈ lw_all := lw_g (lw_at lw_m3 216 rfl) rfl
theorem q777 : (Jvm.Cond.selects "java/util/ArrayList" ({ cls := "java/util/ArrayList", name := "add", desc := "(Ljava/lang/Object;)Z" } : Jvm.MethodName) ({ cls := "java/util/ArrayList", name := "add", desc := "(Ljava/lang/Object;)Z" } : Jvm.MethodName)) ∈ lw_all := lw_g (lw_at lw_m3 217 rfl) rfl
theorem q348 : (Jvm.Cond.code ({ cls := "DebateHall$Scanner", name := "isBlank", desc := "(I)Z" } : Jvm.MethodName) prog_14_method_4_code (1 : Nat) (Option.some Jvm.ClassFile.FieldType.boolean)) ∈ lw_all := lw_g (lw_at lw_m2 28 rfl) rfl
theorem zk_X7_isBlank : zz_cd yX7_isBlank cX7_isBlank 1 (some .boolean) none ∈ lw_all := q348
theorem zy_X7_isBlank : zz_yok yX7_isBlank 1 = true := by decide +kernel
theorem q352 : (Jvm.Cond.code ({ cls := "DebateHall$Scanner", name := "next", desc := "(I)LDebateHall$Token;" } : Jvm.MethodName) prog_14_method_7_code (5 : Nat) (Option.some (Jvm.ClassFile.FieldType.object "DebateHall$Token"))) ∈ lw_all := lw_g (lw_at lw_m2 32 rfl) rfl
theorem zk_X7_next : zz_cd yX7_next cX7_next 5 (some (.object "DebateHall$Token")) none ∈ lw_all := q352
theorem zy_X7_next : zz_yok yX7_next 1 = true := by decide +kernel
theorem q368 : (Jvm.Cond.fieldLinkNest "DebateHall$Scanner" (53 : Nat) "DebateHall$Token" "sort" "LDebateHall$Sort;" "DebateHall") ∈ lw_tbl := lw_at lw_m2 48 rfl
theorem q375 : (Jvm.Cond.fieldLinkNest "DebateHall$Scanner" (64 : Nat) "DebateHall$Token" "text" "Ljava/lang/String;" "DebateHall") ∈ lw_tbl := lw_at lw_m2 55 rfl
theorem q349 : (Jvm.Cond.methodLink "DebateHall$Scanner" (46 : Nat) ({ cls := "DebateHall$Scanner", name := "next", desc := "(I)LDebateHall$Token;" } : Jvm.MethodName)) ∈ lw_all := lw_g (lw_at lw_m2 29 rfl) rfl
theorem q351 : (Jvm.Cond.instanceMethod ({ cls := "DebateHall$Scanner", name := "next", desc := "(I)LDebateHall$Token;" } : Jvm.MethodName)) ∈ lw_all := lw_g (lw_at lw_m2 31 rfl) rfl
theorem q346 : (Jvm.Cond.methodLink "DebateHall$Scanner" (42 : Nat) ({ cls := "DebateHall$Scanner", name := "isBlank", desc := "(I)Z" } : Jvm.MethodName)) ∈ lw_all := lw_g (lw_at lw_m2 26 rfl) rfl
theorem q347 : (Jvm.Cond.static ({ cls := "DebateHall$Scanner", name := "isBlank", desc := "(I)Z" } : Jvm.MethodName)) ∈ lw_all := lw_g (lw_at lw_m2 27 rfl) rfl
def wp_X7_all_L2 (Z : zzG) (K : Option Value → zzM → Prop) : Nat → Option Nat → Int32 → zzM → Nat → Nat → Prop
  | 0, _, _, _, _, _ => False
  | n + 1, v0, v1, M, bc, bs => zgA Z M v0 [4] 0 fun x1 => zgI Z M x1 [1] 1 fun x2 => if x2 ≤ v1 then (zgA Z M v0 [4] 1 fun x3 => znew Z M bc bs 5 3 [.null, .null, .int 0] fun q4 M5 bc6 bs7 => zgA Z M5 v0 [4] 0 fun x8 => zgI Z M5 x8 [1] 1 fun x9 => wp_X8_init Z (some q4) (some (zz_ad Z 5)) (some (zz_ad Z 100)) x9 M5 (fun r10 M11 => zrV r10 (zty Z M11 x3 fun t => t = 18 ∧ zcc bc6 bs7 (fun c s k => wp_J2_add Z x3 (some q4) M11 c s k) fun r14 M15 bc16 bs17 => zrI r14 fun x18 => zgA Z M15 v0 [4] 1 fun x19 => K (some (va_rf x19)) M15))) else (zgA Z M v0 [4] 0 fun x20 => zty Z M x20 fun t => t = 1 ∧ wp_X2_at Z x20 v1 M (fun r21 M22 => zrI r21 fun x25 => wp_X7_isBlank Z x25 M22 (fun r26 M27 => zrI r26 fun x30 => if x30 = 0 then (zty Z M27 v0 fun t => t = 4 ∧ zcc bc bs (fun c s k => wp_X7_next Z v0 v1 M27 c s k) fun r31 M32 bc33 bs34 => zrA r31 fun x35 => zgA Z M32 v0 [4] 1 fun x36 => zty Z M32 x36 fun t => t = 18 ∧ zcc bc33 bs34 (fun c s k => wp_J2_add Z x36 x35 M32 c s k) fun r37 M38 bc39 bs40 => zrI r37 fun x41 => zgA Z M38 x35 [5] 0 fun x42 => if x42 = (some (zz_ad Z 6)) then (zgA Z M38 v0 [4] 1 fun x49 => K (some (va_rf x49)) M38) else (zgA Z M38 x35 [5] 1 fun x43 => zty Z M38 x43 fun t => t = 21 ∧ wp_J7_length Z x43 M38 (fun r44 M45 => zrI r44 fun x48 => wp_X7_all_L2 Z K n v0 (v1 + x48) M45 bc39 bs40))) else (wp_X7_all_L2 Z K n v0 (v1 + 1) M27 bc bs))))
def wp_X7_all (Z : zzG) (this : Option Nat) (M : zzM) (bc bs : Nat) (K : Option Value → zzM → Prop) : Prop := ∃ n2 : Nat, wp_X7_all_L2 Z K n2 this (0 : Int32) M bc bs
theorem ok_X7_all_L2 {G : zzX} (C : zz_C G cX7_all "DebateHall$Scanner" 3) {K : Option Value → zzM → Prop} (E : zz_E G (some (.object "java/util/List")) K (fun _ _ _ => False)) (hH : zz_H G []) (hR : zz_Rm G 9) : ∀ (n : Nat) (v0 : Option Nat) (v1 : Int32) (M : zzM) (bc bs : Nat), wp_X7_all_L2 (zz_Zof G) K n v0 v1 M bc bs → zz_T G 3 M bc bs 2 [(0, va_rf v0), (1, .int v1)] [] := by
  intro n
  induction n with
  | zero =>
    intro v0 v1 M bc bs hw
    exact False.elim hw
  | succ n ih =>
    intro v0 v1 M bc bs hw
    refine zz_iload_n C dX7_all_2 rfl 1 rfl ?_
    refine zz_aload_n C dX7_all_3 rfl 0 rfl ?_
    refine zz_getA C dX7_all_4 (Or.inl q331) zf_4_0_teHall_Scanner hw (fun x1 hw => ?_)
    refine zz_getI C dX7_all_7 (Or.inr ⟨_, q156⟩) zf_1_1_ebateHall_Tape hw (fun x2 hw => ?_)
    refine zz_icmp_ge (tgt := 76) C dX7_all_10 (by decide) hw (fun hw => ?_) (fun hw => ?_)
    · refine zz_aload_n C dX7_all_76 rfl 0 rfl ?_
      refine zz_getA C dX7_all_77 (Or.inl q332) zf_4_1_teHall_Scanner hw (fun x3 hw => ?_)
      refine zz_new (r := (zR_5, zT_5, 3)) C dX7_all_80 rfl (by decide) q357 q358 zl_DebateHall_Token rfl hw (fun q4 M5 bc6 bs7 hw => ?_)
      refine zz_dup C dX7_all_83 (zz_cat _) ?_
      refine zz_gets (j := 5) (v := va_rf (some (zz_ad (zz_Zof G) 5))) C dX7_all_84 (Or.inl q844) rfl (Or.inl rfl) rfl ?_
      refine zz_ldcS (j := 0) C dX7_all_87 rfl ?_
      refine zz_aload_n C dX7_all_89 rfl 0 rfl ?_
      refine zz_getA C dX7_all_90 (Or.inl q331) zf_4_0_teHall_Scanner hw (fun x8 hw => ?_)
      refine zz_getI C dX7_all_93 (Or.inr ⟨_, q156⟩) zf_1_1_ebateHall_Tape hw (fun x9 hw => ?_)
      refine zz_callI (As := [va_rf (some (zz_ad (zz_Zof G) 5)), va_rf (some (zz_ad (zz_Zof G) 100)), .int x9]) (rest := [va_rf (some q4), va_rf x3]) (mc := 0) (ms := 0) C hR rfl dX7_all_96 (Or.inl q362) q363 zl_DebateHall_Token zk_X8_init rfl zy_X8_init (by decide) (by decide) (ok_X8_init (zz_hl C) hw) (Nat.zero_le _) (Nat.zero_le _) (zz_cat10 _ (Nat.le_of_ble_eq_true rfl)) (fun r10 M11 hw => zz_kV hw (fun hw => ?_)) (fun _ _ _ h9 => h9.elim) rfl
      obtain ⟨a9, t9, b9, fs9, hro, hL, rfl, hw⟩ := ztyS hw
      obtain ⟨c9, s9, hc9, hs9, hw⟩ := hw
      refine zz_callV (r := (zR_18, zT_18, 3)) (As := [va_rf (some q4)]) (rest := []) C hR hro dX7_all_99 (Or.inl q775) q776 (Or.inl q777) zl_java_util_ArrayList zk_J2_add (Or.inl rfl) zy_J2_add rfl (by decide) (by decide) hL (ok_J2_add (zz_hl C) hw) hc9 hs9 (zz_cat10 _ (Nat.le_of_ble_eq_true rfl)) (fun r14 M15 hw => zz_kI hw (fun x18 hw => ?_)) (fun _ _ _ h9 => h9.elim) rfl
      refine zz_pop C dX7_all_102 rfl ?_
      refine zz_aload_n C dX7_all_103 rfl 0 rfl ?_
      refine zz_getA C dX7_all_104 (Or.inl q332) zf_4_1_teHall_Scanner hw (fun x19 hw => ?_)
      exact zz_aret C E (Or.inl ⟨_, rfl⟩) dX7_all_107 hw
    · refine zz_aload_n C dX7_all_13 rfl 0 rfl ?_
      refine zz_getA C dX7_all_14 (Or.inl q331) zf_4_0_teHall_Scanner hw (fun x20 hw => ?_)
      refine zz_iload_n C dX7_all_17 rfl 1 rfl ?_
      obtain ⟨a9, t9, b9, fs9, hro, hL, rfl, hw⟩ := ztyS hw
      refine zz_callV (r := (zR_1, zT_1, 2)) (As := [.int v1]) (rest := []) (mc := 0) (ms := 0) C hR hro dX7_all_18 (Or.inl q342) q343 (Or.inl q344) zl_DebateHall_Tape zk_X2_at (Or.inl rfl) zy_X2_at rfl (by decide) (by decide) hL (ok_X2_at (zz_hl C) hw) (Nat.zero_le _) (Nat.zero_le _) (zz_cat10 _ (Nat.le_of_ble_eq_true rfl)) (fun r21 M22 hw => zz_kI hw (fun x25 hw => ?_)) (fun _ _ _ h9 => h9.elim) rfl
      refine zz_callS (As := [.int x25]) (rest := []) (mc := 0) (ms := 0) C hR dX7_all_21 (Or.inl q346) q347 zl_DebateHall_Scanner zk_X7_isBlank (Or.inl rfl) zy_X7_isBlank (by decide) (by decide) (ok_X7_isBlank (zz_hl C) hw) (Nat.zero_le _) (Nat.zero_le _) (zz_cat10 _ (Nat.le_of_ble_eq_true rfl)) (fun r26 M27 hw => zz_kI hw (fun x30 hw => ?_)) (fun _ _ _ h9 => h9.elim) rfl
      refine zz_if_eq (tgt := 33) C dX7_all_24 (by decide) hw (fun hw => ?_) (fun hw => ?_)
      · refine zz_aload_n C dX7_all_33 rfl 0 rfl ?_
        refine zz_iload_n C dX7_all_34 rfl 1 rfl ?_
        obtain ⟨a9, t9, b9, fs9, hro, hL, rfl, hw⟩ := ztyS hw
        obtain ⟨c9, s9, hc9, hs9, hw⟩ := hw
        refine zz_callV (r := (zR_4, zT_4, 2)) (As := [.int v1]) (rest := []) C hR hro dX7_all_35 (Or.inl q349) q351 (Or.inl qs0) zl_DebateHall_Scanner zk_X7_next (Or.inl rfl) zy_X7_next rfl (by decide) (by decide) hL (ok_X7_next (zz_hl C) hw) hc9 hs9 (zz_cat10 _ (Nat.le_of_ble_eq_true rfl)) (fun r31 M32 hw => zz_kA hw (fun x35 hw => ?_)) (fun _ _ _ h9 => h9.elim) rfl
        refine zz_astore_n (i := 2) (lv' := [(2, va_rf x35), (0, va_rf v0), (1, .int v1)]) C dX7_all_38 rfl (by decide) rfl ?_
        refine zz_aload_n C dX7_all_39 rfl 1 rfl ?_
        refine zz_getA C dX7_all_40 (Or.inl q332) zf_4_1_teHall_Scanner hw (fun x36 hw => ?_)
        refine zz_aload_n C dX7_all_43 rfl 0 rfl ?_
        obtain ⟨a9, t9, b9, fs9, hro, hL, rfl, hw⟩ := ztyS hw
        obtain ⟨c9, s9, hc9, hs9, hw⟩ := hw
        refine zz_callV (r := (zR_18, zT_18, 3)) (As := [va_rf x35]) (rest := []) C hR hro dX7_all_44 (Or.inl q775) q776 (Or.inl q777) zl_java_util_ArrayList zk_J2_add (Or.inl rfl) zy_J2_add rfl (by decide) (by decide) hL (ok_J2_add (zz_hl C) hw) hc9 hs9 (zz_cat10 _ (Nat.le_of_ble_eq_true rfl)) (fun r37 M38 hw => zz_kI hw (fun x41 hw => ?_)) (fun _ _ _ h9 => h9.elim) rfl
        refine zz_pop C dX7_all_47 rfl ?_
        refine zz_aload_n C dX7_all_48 rfl 0 rfl ?_
        refine zz_getA C dX7_all_49 (Or.inr ⟨_, q368⟩) zf_5_0_bateHall_Token hw (fun x42 hw => ?_)
        refine zz_gets (j := 6) (v := va_rf (some (zz_ad (zz_Zof G) 6))) C dX7_all_52 (Or.inl q359) rfl (Or.inl rfl) rfl ?_
        refine zz_acmp_ne (tgt := 63) C dX7_all_55 (by decide) hw (fun hw => ?_) (fun hw => ?_)
        · refine zz_iload_n C dX7_all_63 rfl 2 rfl ?_
          refine zz_aload_n C dX7_all_64 rfl 0 rfl ?_
          refine zz_getA C dX7_all_65 (Or.inr ⟨_, q375⟩) zf_5_1_bateHall_Token hw (fun x43 hw => ?_)
          obtain ⟨a9, t9, b9, fs9, hro, hL, rfl, hw⟩ := ztyS hw
          refine zz_callV (r := (zR_21, zT_21, 4)) (As := []) (rest := [.int v1]) (mc := 0) (ms := 0) C hR hro dX7_all_68 (Or.inl q702) q627 (Or.inl q628) zl_java_lang_String zk_J7_length (Or.inl rfl) zy_J7_length rfl (by decide) (by decide) hL (ok_J7_length (zz_hl C) hw) (Nat.zero_le _) (Nat.zero_le _) (zz_cat10 _ (Nat.le_of_ble_eq_true rfl)) (fun r44 M45 hw => zz_kI hw (fun x48 hw => ?_)) (fun _ _ _ h9 => h9.elim) rfl
          refine zz_iadd C dX7_all_71 ?_
          refine zz_istore_n (i := 1) (lv' := [(1, .int (v1 + x48)), (2, va_rf x35), (0, va_rf v0)]) C dX7_all_72 rfl (by decide) (by simp [zz_cat, zz_catI, zz_catJ, zz_catD]) ?_
          refine zz_goto (tgt := 2) C dX7_all_73 (by decide) ?_
          refine zz_subP [2, 0] rfl ?_
          exact ih _ _ _ _ _ hw
        · refine zz_aload_n C dX7_all_58 rfl 1 rfl ?_
          refine zz_getA C dX7_all_59 (Or.inl q332) zf_4_1_teHall_Scanner hw (fun x49 hw => ?_)
          exact zz_aret C E (Or.inl ⟨_, rfl⟩) dX7_all_62 hw
      · refine zz_iinc (lv' := [(1, .int (v1 + 1)), (0, va_rf v0)]) C dX7_all_27 1 rfl (by rfl) (by decide) (by simp [zz_cat, zz_catI, zz_catJ, zz_catD]) ?_
        refine zz_goto (tgt := 2) C dX7_all_30 (by decide) ?_
        refine zz_subP [1, 0] rfl ?_
        exact ih _ _ _ _ _ hw
theorem ok_X7_all {Z : zzG} {l : Launch} (hl : l.stackTraces = false) {this : Option Nat} {M : zzM} {mc ms : Nat} {K : Option Value → zzM → Prop} (hw : wp_X7_all Z this M mc ms K) : zz_Met Z l yX7_all (zz_ws yX7_all cX7_all 3 (some (.object "java/util/List")) none) 9 [va_rf this] M mc ms K (fun _ _ _ => False) := by
  refine zz_ofW hl (plainFor_of_name (by decide)) (by simp only [zz_sl0, zz_slI, zz_slJ, zz_slA] <;> decide) (fun G hZ hll C E hH hR hin => ?_)
  subst hZ
  subst hll
  rw [show lv_args 0 [va_rf this] = [(0, va_rf this)] by simp only [zz_la0, zz_laI, zz_laJ, zz_laA]]
  unfold wp_X7_all at hw
  refine zz_iconst (v := (0 : Int32)) C dX7_all_0 (by decide) ?_
  refine zz_istore_n (i := 1) (lv' := [(1, .int (0 : Int32)), (0, va_rf this)]) C dX7_all_1 rfl (by decide) (by simp [zz_cat, zz_catI, zz_catJ, zz_catD]) ?_
  refine zz_subP [1, 0] rfl ?_
  obtain ⟨n2, hw⟩ := hw
  exact ok_X7_all_L2 C E hH hR n2 _ _ _ _ _ hw
abbrev cX6_init : ByteArray := prog_13_method_1_code
def yX6_init : MethodName := ⟨"DebateHall$Reader", "<init>", "(Ljava/util/List;)V"⟩
def dkwX6_init_0 : List UInt8 := [42, 183, 0, 3, 42, 43, 181, 0, 9, 177]
abbrev dktX6_init_0 : List UInt8 := dkwX6_init_0 ++ []
theorem dksX6_init_0 : cX6_init.data.toList.drop 0 = dktX6_init_0 := by decide +kernel
theorem dX6_init_0 : decode cX6_init 0 = .ok (.aload_n 0, 1) := dk_42 (dk_at dksX6_init_0 0 rfl rfl)
theorem dX6_init_1 : decode cX6_init 1 = .ok (.invokespecial 3, 3) := dk_183 0 3 (dk_at dksX6_init_0 1 rfl rfl)
theorem dX6_init_4 : decode cX6_init 4 = .ok (.aload_n 0, 1) := dk_42 (dk_at dksX6_init_0 4 rfl rfl)
theorem dX6_init_5 : decode cX6_init 5 = .ok (.aload_n 1, 1) := dk_43 (dk_at dksX6_init_0 5 rfl rfl)
theorem dX6_init_6 : decode cX6_init 6 = .ok (.putfield 9, 3) := dk_181 0 9 (dk_at dksX6_init_0 6 rfl rfl)
theorem dX6_init_9 : decode cX6_init 9 = .ok (.return_, 1) := dk_177 (dk_at dksX6_init_0 9 rfl rfl)
theorem q849 : (Jvm.Cond.methodLink "DebateHall$Reader" (3 : Nat) ({ cls := "java/lang/Object", name := "<init>", desc := "()V" } : Jvm.MethodName)) ∈ lw_all := lw_g (lw_at lw_m4 49 rfl) rfl
theorem zf_3_0_ateHall_Reader : zz_fok [3] 0 "DebateHall$Reader" "tokens" "Ljava/util/List;" := zz_fok1 (zR_3, zT_3, 3) rfl (by decide) rfl rfl (Or.inl rfl)
theorem q850 : (Jvm.Cond.fieldLink "DebateHall$Reader" (9 : Nat) "DebateHall$Reader" "tokens" "Ljava/util/List;") ∈ lw_all := lw_g (lw_at lw_m4 50 rfl) rfl
theorem zq_3_0 : zz_pokF [3] 0 "DebateHall$Reader" := zz_pokF1 (zR_3, zT_3, 3) (by decide) rfl rfl rfl
def wp_X6_init (Z : zzG) (this : Option Nat) (p0 : Option Nat) (M : zzM) (K : Option Value → zzM → Prop) : Prop := zty Z M this fun _ => zput Z M this [3] 0 (va_rf p0) fun M1 => K none M1
theorem ok_X6_init {Z : zzG} {l : Launch} (hl : l.stackTraces = false) {this : Option Nat} {p0 : Option Nat} {M : zzM} {mc ms : Nat} {K : Option Value → zzM → Prop} (hw : wp_X6_init Z this p0 M K) : zz_Met Z l yX6_init (zz_ws yX6_init cX6_init 2 none none) 2 [va_rf this, va_rf p0] M mc ms K (fun _ _ _ => False) := by
  refine zz_ofW hl (plainFor_of_name (by decide)) (by simp only [zz_sl0, zz_slI, zz_slJ, zz_slA] <;> decide) (fun G hZ hll C E hH hR hin => ?_)
  subst hZ
  subst hll
  rw [show lv_args 0 [va_rf this, va_rf p0] = [(0, va_rf this), (1, va_rf p0)] by simp only [zz_la0, zz_laI, zz_laJ, zz_laA]]
  unfold wp_X6_init at hw
  refine zz_aload_n C dX6_init_0 rfl 0 rfl ?_
  obtain ⟨a9, t9, b9, fs9, hro, hL, hw⟩ := ztyS hw
  refine zz_objInit9 C hR (by decide) hro dX6_init_1 q849 q146 q147 (zz_cat10 _ (Nat.le_of_ble_eq_true rfl)) ?_
  refine zz_aload_n C dX6_init_4 rfl 0 rfl ?_
  refine zz_aload_n C dX6_init_5 rfl 1 rfl ?_
  refine zz_putF C hin dX6_init_6 q850 zf_3_0_ateHall_Reader zq_3_0 (zz_hn1 (zz_nA _ rfl p0)) hw (fun M1 hw => ?_)
  exact zz_vret C E dX6_init_9 hw
abbrev cX6_now : ByteArray := prog_13_method_2_code
def yX6_now : MethodName := ⟨"DebateHall$Reader", "now", "()LDebateHall$Token;"⟩
def dkwX6_now_0 : List UInt8 := [42, 180, 0, 9, 42, 180, 0, 15, 185, 0, 19, 2, 0, 192, 0, 25, 176]
abbrev dktX6_now_0 : List UInt8 := dkwX6_now_0 ++ []
theorem dksX6_now_0 : cX6_now.data.toList.drop 0 = dktX6_now_0 := by decide +kernel
theorem dX6_now_0 : decode cX6_now 0 = .ok (.aload_n 0, 1) := dk_42 (dk_at dksX6_now_0 0 rfl rfl)
theorem dX6_now_1 : decode cX6_now 1 = .ok (.getfield 9, 3) := dk_180 0 9 (dk_at dksX6_now_0 1 rfl rfl)
theorem dX6_now_4 : decode cX6_now 4 = .ok (.aload_n 0, 1) := dk_42 (dk_at dksX6_now_0 4 rfl rfl)
theorem dX6_now_5 : decode cX6_now 5 = .ok (.getfield 15, 3) := dk_180 0 15 (dk_at dksX6_now_0 5 rfl rfl)
theorem dX6_now_8 : decode cX6_now 8 = .ok (.invokeinterface 19 2, 5) := by decide +kernel
theorem dX6_now_13 : decode cX6_now 13 = .ok (.checkcast 25, 3) := dk_192 0 25 (dk_at dksX6_now_0 13 rfl rfl)
theorem dX6_now_16 : decode cX6_now 16 = .ok (.areturn, 1) := dk_176 (dk_at dksX6_now_0 16 rfl rfl)
theorem zf_3_1_ateHall_Reader : zz_fok [3] 1 "DebateHall$Reader" "at" "I" := zz_fok1 (zR_3, zT_3, 3) rfl (by decide) rfl rfl (Or.inl rfl)
theorem q851 : (Jvm.Cond.fieldLink "DebateHall$Reader" (15 : Nat) "DebateHall$Reader" "at" "I") ∈ lw_all := lw_g (lw_at lw_m4 51 rfl) rfl
theorem q888 : (Jvm.Cond.classLink "DebateHall$Reader" (25 : Nat) "DebateHall$Token") ∈ lw_all := lw_g (lw_at lw_m4 88 rfl) rfl
theorem zc_5_bateHall_Token : zz_cok [5] "DebateHall$Token" := by
  intro t ht
  simp only [List.mem_cons, List.not_mem_nil, or_false] at ht
  rcases ht with rfl
  · exact ⟨(zR_5, zT_5, 3), rfl, Or.inl rfl⟩
theorem q871 : (Jvm.Cond.methodLink "DebateHall$Reader" (19 : Nat) ({ cls := "java/util/List", name := "get", desc := "(I)Ljava/lang/Object;" } : Jvm.MethodName)) ∈ lw_all := lw_g (lw_at lw_m4 71 rfl) rfl
theorem q875 : (Jvm.Cond.selects "java/util/ArrayList" ({ cls := "java/util/List", name := "get", desc := "(I)Ljava/lang/Object;" } : Jvm.MethodName) ({ cls := "java/util/ArrayList", name := "get", desc := "(I)Ljava/lang/Object;" } : Jvm.MethodName)) ∈ lw_all := lw_g (lw_at lw_m4 75 rfl) rfl
theorem zyo_java_util_List_get__I_Ljava_lang_Object_ : zz_yok ⟨"java/util/List", "get", "(I)Ljava/lang/Object;"⟩ 1 = true := by decide +kernel
def wp_X6_now (Z : zzG) (this : Option Nat) (M : zzM) (K : Option Value → zzM → Prop) : Prop := zgA Z M this [3] 0 fun x1 => zgI Z M this [3] 1 fun x2 => zty Z M x1 fun t => t = 18 ∧ wp_J2_get Z x1 x2 M (fun r3 M4 => zrA r3 fun x7 => zcast Z M4 x7 [5] <| K (some (va_rf x7)) M4)
theorem ok_X6_now {Z : zzG} {l : Launch} (hl : l.stackTraces = false) {this : Option Nat} {M : zzM} {mc ms : Nat} {K : Option Value → zzM → Prop} (hw : wp_X6_now Z this M K) : zz_Met Z l yX6_now (zz_ws yX6_now cX6_now 1 (some (.object "DebateHall$Token")) none) 4 [va_rf this] M mc ms K (fun _ _ _ => False) := by
  refine zz_ofW hl (plainFor_of_name (by decide)) (by simp only [zz_sl0, zz_slI, zz_slJ, zz_slA] <;> decide) (fun G hZ hll C E hH hR hin => ?_)
  subst hZ
  subst hll
  rw [show lv_args 0 [va_rf this] = [(0, va_rf this)] by simp only [zz_la0, zz_laI, zz_laJ, zz_laA]]
  unfold wp_X6_now at hw
  refine zz_aload_n C dX6_now_0 rfl 0 rfl ?_
  refine zz_getA C dX6_now_1 (Or.inl q850) zf_3_0_ateHall_Reader hw (fun x1 hw => ?_)
  refine zz_aload_n C dX6_now_4 rfl 0 rfl ?_
  refine zz_getI C dX6_now_5 (Or.inl q851) zf_3_1_ateHall_Reader hw (fun x2 hw => ?_)
  obtain ⟨a9, t9, b9, fs9, hro, hL, rfl, hw⟩ := ztyS hw
  refine zz_callF (r := (zR_18, zT_18, 3)) (x := ⟨"java/util/List", "get", "(I)Ljava/lang/Object;"⟩) (As := [.int x2]) (rest := []) (mc := 0) (ms := 0) C hR hro dX6_now_8 q871 (by decide +kernel) q877 q875 zl_java_util_ArrayList zk_J2_get zyo_java_util_List_get__I_Ljava_lang_Object_ rfl (by decide) (by decide) hL (ok_J2_get (zz_hl C) hw) (Nat.zero_le _) (Nat.zero_le _) (zz_cat10 _ (Nat.le_of_ble_eq_true rfl)) (fun r3 M4 hw => zz_kA hw (fun x7 hw => ?_)) (fun _ _ _ h9 => h9.elim) rfl
  refine zz_cast C dX6_now_13 q888 zc_5_bateHall_Token hw (fun hw => ?_)
  exact zz_aret C E (Or.inl ⟨_, rfl⟩) dX6_now_16 hw
abbrev cX8_is : ByteArray := prog_22_method_2_code
def yX8_is : MethodName := ⟨"DebateHall$Token", "is", "(Ljava/lang/String;)Z"⟩
def dkwX8_is_1 : List UInt8 := [43, 182, 0, 29, 153, 0, 7, 4, 167, 0, 4, 3, 172]
abbrev dktX8_is_1 : List UInt8 := dkwX8_is_1 ++ []
def dkwX8_is_0 : List UInt8 := [42, 180, 0, 7, 178, 0, 21, 165, 0, 13, 42, 180, 0, 7, 178, 0, 26, 166, 0, 18, 42, 180, 0, 13]
abbrev dktX8_is_0 : List UInt8 := dkwX8_is_0 ++ dktX8_is_1
theorem dksX8_is_0 : cX8_is.data.toList.drop 0 = dktX8_is_0 := by decide +kernel
theorem dksX8_is_1 : cX8_is.data.toList.drop 24 = dktX8_is_1 := dk_seg dksX8_is_0 24 rfl rfl
theorem dX8_is_0 : decode cX8_is 0 = .ok (.aload_n 0, 1) := dk_42 (dk_at dksX8_is_0 0 rfl rfl)
theorem dX8_is_1 : decode cX8_is 1 = .ok (.getfield 7, 3) := dk_180 0 7 (dk_at dksX8_is_0 1 rfl rfl)
theorem dX8_is_4 : decode cX8_is 4 = .ok (.getstatic 21, 3) := dk_178 0 21 (dk_at dksX8_is_0 4 rfl rfl)
theorem dX8_is_7 : decode cX8_is 7 = .ok (.if_acmp .eq 13, 3) := dk_165 0 13 (dk_at dksX8_is_0 7 rfl rfl)
theorem dX8_is_10 : decode cX8_is 10 = .ok (.aload_n 0, 1) := dk_42 (dk_at dksX8_is_0 10 rfl rfl)
theorem dX8_is_11 : decode cX8_is 11 = .ok (.getfield 7, 3) := dk_180 0 7 (dk_at dksX8_is_0 11 rfl rfl)
theorem dX8_is_14 : decode cX8_is 14 = .ok (.getstatic 26, 3) := dk_178 0 26 (dk_at dksX8_is_0 14 rfl rfl)
theorem dX8_is_17 : decode cX8_is 17 = .ok (.if_acmp .ne 18, 3) := dk_166 0 18 (dk_at dksX8_is_0 17 rfl rfl)
theorem dX8_is_20 : decode cX8_is 20 = .ok (.aload_n 0, 1) := dk_42 (dk_at dksX8_is_0 20 rfl rfl)
theorem dX8_is_21 : decode cX8_is 21 = .ok (.getfield 13, 3) := dk_180 0 13 (dk_at dksX8_is_0 21 rfl rfl)
theorem dX8_is_24 : decode cX8_is 24 = .ok (.aload_n 1, 1) := dk_43 (dk_at dksX8_is_1 0 rfl rfl)
theorem dX8_is_25 : decode cX8_is 25 = .ok (.invokevirtual 29, 3) := dk_182 0 29 (dk_at dksX8_is_1 1 rfl rfl)
theorem dX8_is_28 : decode cX8_is 28 = .ok (.ifCond .eq 7, 3) := dk_153 0 7 (dk_at dksX8_is_1 4 rfl rfl)
theorem dX8_is_31 : decode cX8_is 31 = .ok (.iconst 1, 1) := dk_4 (dk_at dksX8_is_1 7 rfl rfl)
theorem dX8_is_32 : decode cX8_is 32 = .ok (.goto 4, 3) := dk_167 0 4 (dk_at dksX8_is_1 8 rfl rfl)
theorem dX8_is_35 : decode cX8_is 35 = .ok (.iconst 0, 1) := dk_3 (dk_at dksX8_is_1 11 rfl rfl)
theorem dX8_is_36 : decode cX8_is 36 = .ok (.ireturn, 1) := dk_172 (dk_at dksX8_is_1 12 rfl rfl)
theorem q903 : (Jvm.Cond.fieldLink "DebateHall$Token" (21 : Nat) "DebateHall$Sort" "KEY" "LDebateHall$Sort;") ∈ lw_all := lw_g (lw_at lw_m4 103 rfl) rfl
theorem q904 : (Jvm.Cond.fieldLink "DebateHall$Token" (26 : Nat) "DebateHall$Sort" "SYMBOL" "LDebateHall$Sort;") ∈ lw_all := lw_g (lw_at lw_m4 104 rfl) rfl
theorem q905 : (Jvm.Cond.methodLink "DebateHall$Token" (29 : Nat) ({ cls := "java/lang/String", name := "equals", desc := "(Ljava/lang/Object;)Z" } : Jvm.MethodName)) ∈ lw_all := lw_g (lw_at lw_m4 105 rfl) rfl
def wp_X8_is_B36 (Z : zzG) (K : Option Value → zzM → Prop) (s0 : Int32) (M : zzM) : Prop := narrow .boolean (.int s0) = .int s0 ∧ K (some (.int s0)) M
def wp_X8_is_B35 (Z : zzG) (K : Option Value → zzM → Prop) (M : zzM) : Prop := wp_X8_is_B36 Z K (0 : Int32) M
def wp_X8_is_B20 (Z : zzG) (K : Option Value → zzM → Prop) (v0 : Option Nat) (v1 : Option Nat) (M : zzM) : Prop := zgA Z M v0 [5] 1 fun x3 => zty Z M x3 fun t => t = 21 ∧ wp_J7_equals Z x3 v1 M (fun r4 M5 => zrI r4 fun x8 => if x8 = 0 then (wp_X8_is_B35 Z K M5) else (wp_X8_is_B36 Z K (1 : Int32) M5))
def wp_X8_is (Z : zzG) (this : Option Nat) (p0 : Option Nat) (M : zzM) (K : Option Value → zzM → Prop) : Prop := zgA Z M this [5] 0 fun x1 => if x1 = (some (zz_ad Z 2)) then (wp_X8_is_B20 Z K this p0 M) else (zgA Z M this [5] 0 fun x2 => if x2 = (some (zz_ad Z 4)) then (wp_X8_is_B20 Z K this p0 M) else (wp_X8_is_B35 Z K M))
theorem ok_X8_is_B36 {G : zzX} (C : zz_C G cX8_is "DebateHall$Token" 2) {K : Option Value → zzM → Prop} (E : zz_E G (some .boolean) K (fun _ _ _ => False)) (hH : zz_H G []) (hR : zz_Rm G 3) {s0 : Int32} {M : zzM} {bc bs : Nat} (hw : wp_X8_is_B36 (zz_Zof G) K s0 M) : zz_T G 2 M bc bs 36 [] [.int s0] := by
  unfold wp_X8_is_B36 at hw
  exact zz_zret C E dX8_is_36 hw
theorem ok_X8_is_B35 {G : zzX} (C : zz_C G cX8_is "DebateHall$Token" 2) {K : Option Value → zzM → Prop} (E : zz_E G (some .boolean) K (fun _ _ _ => False)) (hH : zz_H G []) (hR : zz_Rm G 3) {M : zzM} {bc bs : Nat} (hw : wp_X8_is_B35 (zz_Zof G) K M) : zz_T G 2 M bc bs 35 [] [] := by
  unfold wp_X8_is_B35 at hw
  refine zz_iconst (v := (0 : Int32)) C dX8_is_35 (by decide) ?_
  refine zz_subP [] rfl ?_
  exact ok_X8_is_B36 C E hH hR hw
theorem ok_X8_is_B20 {G : zzX} (C : zz_C G cX8_is "DebateHall$Token" 2) {K : Option Value → zzM → Prop} (E : zz_E G (some .boolean) K (fun _ _ _ => False)) (hH : zz_H G []) (hR : zz_Rm G 3) {v0 : Option Nat} {v1 : Option Nat} {M : zzM} {bc bs : Nat} (hw : wp_X8_is_B20 (zz_Zof G) K v0 v1 M) : zz_T G 2 M bc bs 20 [(0, va_rf v0), (1, va_rf v1)] [] := by
  unfold wp_X8_is_B20 at hw
  refine zz_aload_n C dX8_is_20 rfl 0 rfl ?_
  refine zz_getA C dX8_is_21 (Or.inl q369) zf_5_1_bateHall_Token hw (fun x3 hw => ?_)
  refine zz_aload_n C dX8_is_24 rfl 1 rfl ?_
  obtain ⟨a9, t9, b9, fs9, hro, hL, rfl, hw⟩ := ztyS hw
  refine zz_callV (r := (zR_21, zT_21, 4)) (As := [va_rf v1]) (rest := []) (mc := 0) (ms := 0) C hR hro dX8_is_25 (Or.inl q905) q709 (Or.inl q710) zl_java_lang_String zk_J7_equals (Or.inl rfl) zy_J7_equals rfl (by decide) (by decide) hL (ok_J7_equals (zz_hl C) hw) (Nat.zero_le _) (Nat.zero_le _) (zz_cat10 _ (Nat.le_of_ble_eq_true rfl)) (fun r4 M5 hw => zz_kI hw (fun x8 hw => ?_)) (fun _ _ _ h9 => h9.elim) rfl
  refine zz_if_eq (tgt := 35) C dX8_is_28 (by decide) hw (fun hw => ?_) (fun hw => ?_)
  · refine zz_subP [] rfl ?_
    exact ok_X8_is_B35 C E hH hR hw
  · refine zz_iconst (v := (1 : Int32)) C dX8_is_31 (by decide) ?_
    refine zz_goto (tgt := 36) C dX8_is_32 (by decide) ?_
    refine zz_subP [] rfl ?_
    exact ok_X8_is_B36 C E hH hR hw
theorem ok_X8_is {Z : zzG} {l : Launch} (hl : l.stackTraces = false) {this : Option Nat} {p0 : Option Nat} {M : zzM} {mc ms : Nat} {K : Option Value → zzM → Prop} (hw : wp_X8_is Z this p0 M K) : zz_Met Z l yX8_is (zz_ws yX8_is cX8_is 2 (some .boolean) none) 3 [va_rf this, va_rf p0] M mc ms K (fun _ _ _ => False) := by
  refine zz_ofW hl (plainFor_of_name (by decide)) (by simp only [zz_sl0, zz_slI, zz_slJ, zz_slA] <;> decide) (fun G hZ hll C E hH hR hin => ?_)
  subst hZ
  subst hll
  rw [show lv_args 0 [va_rf this, va_rf p0] = [(0, va_rf this), (1, va_rf p0)] by simp only [zz_la0, zz_laI, zz_laJ, zz_laA]]
  unfold wp_X8_is at hw
  refine zz_aload_n C dX8_is_0 rfl 0 rfl ?_
  refine zz_getA C dX8_is_1 (Or.inl q366) zf_5_0_bateHall_Token hw (fun x1 hw => ?_)
  refine zz_gets (j := 2) (v := va_rf (some (zz_ad (zz_Zof G) 2))) C dX8_is_4 (Or.inl q903) rfl (Or.inl rfl) rfl ?_
  refine zz_acmp_eq (tgt := 20) C dX8_is_7 (by decide) hw (fun hw => ?_) (fun hw => ?_)
  · refine zz_subP [0, 1] rfl ?_
    exact ok_X8_is_B20 C E hH hR hw
  · refine zz_aload_n C dX8_is_10 rfl 0 rfl ?_
    refine zz_getA C dX8_is_11 (Or.inl q366) zf_5_0_bateHall_Token hw (fun x2 hw => ?_)
    refine zz_gets (j := 4) (v := va_rf (some (zz_ad (zz_Zof G) 4))) C dX8_is_14 (Or.inl q904) rfl (Or.inl rfl) rfl ?_
    refine zz_acmp_ne (tgt := 35) C dX8_is_17 (by decide) hw (fun hw => ?_) (fun hw => ?_)
    · refine zz_subP [] rfl ?_
      exact ok_X8_is_B35 C E hH hR hw
    · refine zz_subP [0, 1] rfl ?_
      exact ok_X8_is_B20 C E hH hR hw
abbrev cX6_takeIf : ByteArray := prog_13_method_4_code
def yX6_takeIf : MethodName := ⟨"DebateHall$Reader", "takeIf", "(Ljava/lang/String;)Z"⟩
def dkwX6_takeIf_1 : List UInt8 := [172]
abbrev dktX6_takeIf_1 : List UInt8 := dkwX6_takeIf_1 ++ []
def dkwX6_takeIf_0 : List UInt8 := [42, 182, 0, 29, 43, 182, 0, 37, 61, 28, 153, 0, 13, 42, 89, 180, 0, 15, 4, 96, 181, 0, 15, 28]
abbrev dktX6_takeIf_0 : List UInt8 := dkwX6_takeIf_0 ++ dktX6_takeIf_1
theorem dksX6_takeIf_0 : cX6_takeIf.data.toList.drop 0 = dktX6_takeIf_0 := by decide +kernel
theorem dksX6_takeIf_1 : cX6_takeIf.data.toList.drop 24 = dktX6_takeIf_1 := dk_seg dksX6_takeIf_0 24 rfl rfl
theorem dX6_takeIf_0 : decode cX6_takeIf 0 = .ok (.aload_n 0, 1) := dk_42 (dk_at dksX6_takeIf_0 0 rfl rfl)
theorem dX6_takeIf_1 : decode cX6_takeIf 1 = .ok (.invokevirtual 29, 3) := dk_182 0 29 (dk_at dksX6_takeIf_0 1 rfl rfl)
theorem dX6_takeIf_4 : decode cX6_takeIf 4 = .ok (.aload_n 1, 1) := dk_43 (dk_at dksX6_takeIf_0 4 rfl rfl)
theorem dX6_takeIf_5 : decode cX6_takeIf 5 = .ok (.invokevirtual 37, 3) := dk_182 0 37 (dk_at dksX6_takeIf_0 5 rfl rfl)
theorem dX6_takeIf_8 : decode cX6_takeIf 8 = .ok (.istore_n 2, 1) := dk_61 (dk_at dksX6_takeIf_0 8 rfl rfl)
theorem dX6_takeIf_9 : decode cX6_takeIf 9 = .ok (.iload_n 2, 1) := dk_28 (dk_at dksX6_takeIf_0 9 rfl rfl)
theorem dX6_takeIf_10 : decode cX6_takeIf 10 = .ok (.ifCond .eq 13, 3) := dk_153 0 13 (dk_at dksX6_takeIf_0 10 rfl rfl)
theorem dX6_takeIf_13 : decode cX6_takeIf 13 = .ok (.aload_n 0, 1) := dk_42 (dk_at dksX6_takeIf_0 13 rfl rfl)
theorem dX6_takeIf_14 : decode cX6_takeIf 14 = .ok (.dup, 1) := dk_89 (dk_at dksX6_takeIf_0 14 rfl rfl)
theorem dX6_takeIf_15 : decode cX6_takeIf 15 = .ok (.getfield 15, 3) := dk_180 0 15 (dk_at dksX6_takeIf_0 15 rfl rfl)
theorem dX6_takeIf_18 : decode cX6_takeIf 18 = .ok (.iconst 1, 1) := dk_4 (dk_at dksX6_takeIf_0 18 rfl rfl)
theorem dX6_takeIf_19 : decode cX6_takeIf 19 = .ok (.iadd, 1) := dk_96 (dk_at dksX6_takeIf_0 19 rfl rfl)
theorem dX6_takeIf_20 : decode cX6_takeIf 20 = .ok (.putfield 15, 3) := dk_181 0 15 (dk_at dksX6_takeIf_0 20 rfl rfl)
theorem dX6_takeIf_23 : decode cX6_takeIf 23 = .ok (.iload_n 2, 1) := dk_28 (dk_at dksX6_takeIf_0 23 rfl rfl)
theorem dX6_takeIf_24 : decode cX6_takeIf 24 = .ok (.ireturn, 1) := dk_172 (dk_at dksX6_takeIf_1 0 rfl rfl)
theorem q869 : (Jvm.Cond.code ({ cls := "DebateHall$Reader", name := "now", desc := "()LDebateHall$Token;" } : Jvm.MethodName) prog_13_method_2_code (1 : Nat) (Option.some (Jvm.ClassFile.FieldType.object "DebateHall$Token"))) ∈ lw_all := lw_g (lw_at lw_m4 69 rfl) rfl
theorem zk_X6_now : zz_cd yX6_now cX6_now 1 (some (.object "DebateHall$Token")) none ∈ lw_all := q869
theorem zy_X6_now : zz_yok yX6_now 0 = true := by decide +kernel
theorem q902 : (Jvm.Cond.code ({ cls := "DebateHall$Token", name := "is", desc := "(Ljava/lang/String;)Z" } : Jvm.MethodName) prog_22_method_2_code (2 : Nat) (Option.some Jvm.ClassFile.FieldType.boolean)) ∈ lw_all := lw_g (lw_at lw_m4 102 rfl) rfl
theorem zk_X8_is : zz_cd yX8_is cX8_is 2 (some .boolean) none ∈ lw_all := q902
theorem zy_X8_is : zz_yok yX8_is 1 = true := by decide +kernel
theorem zp_3_1 : zz_pok [3] 1 := zz_pok1 (zR_3, zT_3, 3) (by decide) rfl rfl
theorem q899 : (Jvm.Cond.methodLink "DebateHall$Reader" (37 : Nat) ({ cls := "DebateHall$Token", name := "is", desc := "(Ljava/lang/String;)Z" } : Jvm.MethodName)) ∈ lw_all := lw_g (lw_at lw_m4 99 rfl) rfl
theorem q900 : (Jvm.Cond.instanceMethod ({ cls := "DebateHall$Token", name := "is", desc := "(Ljava/lang/String;)Z" } : Jvm.MethodName)) ∈ lw_all := lw_g (lw_at lw_m4 100 rfl) rfl
theorem q901 : (Jvm.Cond.selects "DebateHall$Token" ({ cls := "DebateHall$Token", name := "is", desc := "(Ljava/lang/String;)Z" } : Jvm.MethodName) ({ cls := "DebateHall$Token", name := "is", desc := "(Ljava/lang/String;)Z" } : Jvm.MethodName)) ∈ lw_all := lw_g (lw_at lw_m4 101 rfl) rfl
theorem q866 : (Jvm.Cond.methodLink "DebateHall$Reader" (29 : Nat) ({ cls := "DebateHall$Reader", name := "now", desc := "()LDebateHall$Token;" } : Jvm.MethodName)) ∈ lw_all := lw_g (lw_at lw_m4 66 rfl) rfl
theorem q100 : (Jvm.Cond.initialized "DebateHall$Reader") ∈ lw_all := lw_g (lw_at lw_m1 20 rfl) rfl
theorem zl_DebateHall_Reader : Cond.initialized "DebateHall$Reader" ∈ lw_all := q100
theorem q868 : (Jvm.Cond.instanceMethod ({ cls := "DebateHall$Reader", name := "now", desc := "()LDebateHall$Token;" } : Jvm.MethodName)) ∈ lw_all := lw_g (lw_at lw_m4 68 rfl) rfl
def wp_X6_takeIf_B23 (Z : zzG) (K : Option Value → zzM → Prop) (v2 : Int32) (M : zzM) : Prop := narrow .boolean (.int v2) = .int v2 ∧ K (some (.int v2)) M
def wp_X6_takeIf (Z : zzG) (this : Option Nat) (p0 : Option Nat) (M : zzM) (K : Option Value → zzM → Prop) : Prop := zty Z M this fun t => t = 3 ∧ wp_X6_now Z this M (fun r1 M2 => zrA r1 fun x5 => zty Z M2 x5 fun t => t = 5 ∧ wp_X8_is Z x5 p0 M2 (fun r6 M7 => zrI r6 fun x10 => if x10 = 0 then (wp_X6_takeIf_B23 Z K x10 M7) else (zgI Z M7 this [3] 1 fun x11 => zput Z M7 this [3] 1 (.int (x11 + (1 : Int32))) fun M12 => wp_X6_takeIf_B23 Z K x10 M12)))
theorem ok_X6_takeIf_B23 {G : zzX} (C : zz_C G cX6_takeIf "DebateHall$Reader" 3) {K : Option Value → zzM → Prop} (E : zz_E G (some .boolean) K (fun _ _ _ => False)) (hH : zz_H G []) (hR : zz_Rm G 5) {v2 : Int32} {M : zzM} {bc bs : Nat} (hw : wp_X6_takeIf_B23 (zz_Zof G) K v2 M) : zz_T G 3 M bc bs 23 [(2, .int v2)] [] := by
  unfold wp_X6_takeIf_B23 at hw
  refine zz_iload_n C dX6_takeIf_23 rfl 0 rfl ?_
  exact zz_zret C E dX6_takeIf_24 hw
theorem ok_X6_takeIf {Z : zzG} {l : Launch} (hl : l.stackTraces = false) {this : Option Nat} {p0 : Option Nat} {M : zzM} {mc ms : Nat} {K : Option Value → zzM → Prop} (hw : wp_X6_takeIf Z this p0 M K) : zz_Met Z l yX6_takeIf (zz_ws yX6_takeIf cX6_takeIf 3 (some .boolean) none) 5 [va_rf this, va_rf p0] M mc ms K (fun _ _ _ => False) := by
  refine zz_ofW hl (plainFor_of_name (by decide)) (by simp only [zz_sl0, zz_slI, zz_slJ, zz_slA] <;> decide) (fun G hZ hll C E hH hR hin => ?_)
  subst hZ
  subst hll
  rw [show lv_args 0 [va_rf this, va_rf p0] = [(0, va_rf this), (1, va_rf p0)] by simp only [zz_la0, zz_laI, zz_laJ, zz_laA]]
  unfold wp_X6_takeIf at hw
  refine zz_aload_n C dX6_takeIf_0 rfl 0 rfl ?_
  obtain ⟨a9, t9, b9, fs9, hro, hL, rfl, hw⟩ := ztyS hw
  refine zz_callV (r := (zR_3, zT_3, 3)) (As := []) (rest := []) (mc := 0) (ms := 0) C hR hro dX6_takeIf_1 (Or.inl q866) q868 (Or.inl qs5) zl_DebateHall_Reader zk_X6_now (Or.inl rfl) zy_X6_now rfl (by decide) (by decide) hL (ok_X6_now (zz_hl C) hw) (Nat.zero_le _) (Nat.zero_le _) (zz_cat10 _ (Nat.le_of_ble_eq_true rfl)) (fun r1 M2 hw => zz_kA hw (fun x5 hw => ?_)) (fun _ _ _ h9 => h9.elim) rfl
  refine zz_aload_n C dX6_takeIf_4 rfl 1 rfl ?_
  obtain ⟨a9, t9, b9, fs9, hro, hL, rfl, hw⟩ := ztyS hw
  refine zz_callV (r := (zR_5, zT_5, 3)) (As := [va_rf p0]) (rest := []) (mc := 0) (ms := 0) C hR hro dX6_takeIf_5 (Or.inl q899) q900 (Or.inl q901) zl_DebateHall_Token zk_X8_is (Or.inl rfl) zy_X8_is rfl (by decide) (by decide) hL (ok_X8_is (zz_hl C) hw) (Nat.zero_le _) (Nat.zero_le _) (zz_cat10 _ (Nat.le_of_ble_eq_true rfl)) (fun r6 M7 hw => zz_kI hw (fun x10 hw => ?_)) (fun _ _ _ h9 => h9.elim) rfl
  refine zz_istore_n (i := 2) (lv' := [(2, .int x10), (0, va_rf this), (1, va_rf p0)]) C dX6_takeIf_8 rfl (by decide) (by simp [zz_cat, zz_catI, zz_catJ, zz_catD]) ?_
  refine zz_iload_n C dX6_takeIf_9 rfl 0 rfl ?_
  refine zz_if_eq (tgt := 23) C dX6_takeIf_10 (by decide) hw (fun hw => ?_) (fun hw => ?_)
  · refine zz_subP [0] rfl ?_
    exact ok_X6_takeIf_B23 C E hH hR hw
  · refine zz_aload_n C dX6_takeIf_13 rfl 1 rfl ?_
    refine zz_dup C dX6_takeIf_14 (zz_cat _) ?_
    refine zz_getI C dX6_takeIf_15 (Or.inl q851) zf_3_1_ateHall_Reader hw (fun x11 hw => ?_)
    refine zz_iconst (v := (1 : Int32)) C dX6_takeIf_18 (by decide) ?_
    refine zz_iadd C dX6_takeIf_19 ?_
    refine zz_put C dX6_takeIf_20 (Or.inl q851) zf_3_1_ateHall_Reader zp_3_1 (zz_hn1 ⟨rfl, rfl⟩) hw (fun M12 hw => ?_)
    refine zz_subP [0] rfl ?_
    exact ok_X6_takeIf_B23 C E hH hR hw
abbrev cX9_init : ByteArray := prog_5_method_1_code
def yX9_init : MethodName := ⟨"DebateHall$Fault", "<init>", "(II)V"⟩
def dkwX9_init_0 : List UInt8 := [42, 183, 0, 1, 42, 27, 181, 0, 7, 42, 28, 181, 0, 13, 177]
abbrev dktX9_init_0 : List UInt8 := dkwX9_init_0 ++ []
theorem dksX9_init_0 : cX9_init.data.toList.drop 0 = dktX9_init_0 := by decide +kernel
theorem dX9_init_0 : decode cX9_init 0 = .ok (.aload_n 0, 1) := dk_42 (dk_at dksX9_init_0 0 rfl rfl)
theorem dX9_init_1 : decode cX9_init 1 = .ok (.invokespecial 1, 3) := dk_183 0 1 (dk_at dksX9_init_0 1 rfl rfl)
theorem dX9_init_4 : decode cX9_init 4 = .ok (.aload_n 0, 1) := dk_42 (dk_at dksX9_init_0 4 rfl rfl)
theorem dX9_init_5 : decode cX9_init 5 = .ok (.iload_n 1, 1) := dk_27 (dk_at dksX9_init_0 5 rfl rfl)
theorem dX9_init_6 : decode cX9_init 6 = .ok (.putfield 7, 3) := dk_181 0 7 (dk_at dksX9_init_0 6 rfl rfl)
theorem dX9_init_9 : decode cX9_init 9 = .ok (.aload_n 0, 1) := dk_42 (dk_at dksX9_init_0 9 rfl rfl)
theorem dX9_init_10 : decode cX9_init 10 = .ok (.iload_n 2, 1) := dk_28 (dk_at dksX9_init_0 10 rfl rfl)
theorem dX9_init_11 : decode cX9_init 11 = .ok (.putfield 13, 3) := dk_181 0 13 (dk_at dksX9_init_0 11 rfl rfl)
theorem dX9_init_14 : decode cX9_init 14 = .ok (.return_, 1) := dk_177 (dk_at dksX9_init_0 14 rfl rfl)
theorem q927 : (Jvm.Cond.methodLink "DebateHall$Fault" (1 : Nat) ({ cls := "java/lang/Exception", name := "<init>", desc := "()V" } : Jvm.MethodName)) ∈ lw_all := lw_g (lw_at lw_m4 127 rfl) rfl
theorem q923 : (Jvm.Cond.lays "DebateHall$Fault" "java/lang/Throwable" "backtrace" "Ljava/lang/Object;") ∈ lw_all := lw_g (lw_at lw_m4 123 rfl) rfl
theorem q921 : (Jvm.Cond.lays "DebateHall$Fault" "java/lang/Throwable" "suppressedExceptions" "Ljava/util/List;") ∈ lw_all := lw_g (lw_at lw_m4 121 rfl) rfl
theorem q920 : (Jvm.Cond.lays "DebateHall$Fault" "java/lang/Throwable" "stackTrace" "[Ljava/lang/StackTraceElement;") ∈ lw_all := lw_g (lw_at lw_m4 120 rfl) rfl
theorem q919 : (Jvm.Cond.lays "DebateHall$Fault" "java/lang/Throwable" "cause" "Ljava/lang/Throwable;") ∈ lw_all := lw_g (lw_at lw_m4 119 rfl) rfl
theorem q564 : (Jvm.Cond.selects "DebateHall$Fault" ({ cls := "java/lang/Throwable", name := "fillInStackTrace", desc := "()Ljava/lang/Throwable;" } : Jvm.MethodName) ({ cls := "java/lang/Throwable", name := "fillInStackTrace", desc := "()Ljava/lang/Throwable;" } : Jvm.MethodName)) ∈ lw_all := lw_g (lw_at lw_m3 4 rfl) rfl
theorem q918 : (Jvm.Cond.selects "DebateHall$Fault" ({ cls := "java/lang/Throwable", name := "fillInStackTrace", desc := "(I)Ljava/lang/Throwable;" } : Jvm.MethodName) ({ cls := "java/lang/Throwable", name := "fillInStackTrace", desc := "(I)Ljava/lang/Throwable;" } : Jvm.MethodName)) ∈ lw_all := lw_g (lw_at lw_m4 118 rfl) rfl
theorem zx_exc : ∀ w ∈ zz_exA.filter vx_no, zz_hw w := zz_hwE (zz_hwA zx_thr (zz_hwA (zz_hwN (fun _ => Or.inl q928) (zz_hwN (fun _ => Or.inl q929) (zz_hwN (fun _ => Or.inl q930) (zz_hwN (fun _ => Or.inl q554) (zz_hwN (fun _ => Or.inr ⟨q538, rfl, rfl⟩) zz_hw0))))) (zz_hwN (fun _ => Or.inl q916) (zz_hwN (fun _ => Or.inl q918) (zz_hwN (fun _ => Or.inl q564) (zz_hwN (fun _ => Or.inl q919) (zz_hwN (fun _ => Or.inl q920) (zz_hwN (fun _ => Or.inl q921) (zz_hwN (fun h => absurd h (by decide)) (zz_hwN (fun h => absurd h (by decide)) (zz_hwN (fun _ => Or.inl q552) (zz_hwN (fun _ => Or.inl q551) (zz_hwN (fun _ => Or.inl q923) zz_hw0)))))))))))))
theorem zf_6_0_bateHall_Fault : zz_fok [6] 0 "DebateHall$Fault" "error" "I" := zz_fok1 (zR_6, zT_6, 8) rfl (by decide) rfl rfl (Or.inl rfl)
theorem q931 : (Jvm.Cond.fieldLink "DebateHall$Fault" (7 : Nat) "DebateHall$Fault" "error" "I") ∈ lw_all := lw_g (lw_at lw_m4 131 rfl) rfl
theorem zq_6_0 : zz_pokF [6] 0 "DebateHall$Fault" := zz_pokF1 (zR_6, zT_6, 8) (by decide) rfl rfl rfl
theorem zf_6_1_bateHall_Fault : zz_fok [6] 1 "DebateHall$Fault" "at" "I" := zz_fok1 (zR_6, zT_6, 8) rfl (by decide) rfl rfl (Or.inl rfl)
theorem q933 : (Jvm.Cond.fieldLink "DebateHall$Fault" (13 : Nat) "DebateHall$Fault" "at" "I") ∈ lw_all := lw_g (lw_at lw_m4 133 rfl) rfl
theorem zq_6_1 : zz_pokF [6] 1 "DebateHall$Fault" := zz_pokF1 (zR_6, zT_6, 8) (by decide) rfl rfl rfl
def wp_X9_init (Z : zzG) (this : Option Nat) (p0 : Int32) (p1 : Int32) (M : zzM) (K : Option Value → zzM → Prop) : Prop := zexc Z M this fun M1 => zput Z M1 this [6] 0 (.int p0) fun M2 => zput Z M2 this [6] 1 (.int p1) fun M3 => K none M3
theorem ok_X9_init {Z : zzG} {l : Launch} (hl : l.stackTraces = false) {this : Option Nat} {p0 : Int32} {p1 : Int32} {M : zzM} {mc ms : Nat} {K : Option Value → zzM → Prop} (hw : wp_X9_init Z this p0 p1 M K) : zz_Met Z l yX9_init (zz_ws yX9_init cX9_init 3 none none) 6 [va_rf this, .int p0, .int p1] M mc ms K (fun _ _ _ => False) := by
  refine zz_ofW hl (plainFor_of_name (by decide)) (by simp only [zz_sl0, zz_slI, zz_slJ, zz_slA] <;> decide) (fun G hZ hll C E hH hR hin => ?_)
  subst hZ
  subst hll
  rw [show lv_args 0 [va_rf this, .int p0, .int p1] = [(0, va_rf this), (1, .int p0), (2, .int p1)] by simp only [zz_la0, zz_laI, zz_laJ, zz_laA]]
  unfold wp_X9_init at hw
  refine zz_aload_n C dX9_init_0 rfl 0 rfl ?_
  refine zz_exc0 C hR (by decide) dX9_init_1 q927 zx_exc (zz_cat10 _ (Nat.le_of_ble_eq_true rfl)) hw (fun M1 hw => ?_)
  refine zz_aload_n C dX9_init_4 rfl 0 rfl ?_
  refine zz_iload_n C dX9_init_5 rfl 1 rfl ?_
  refine zz_putF C hin dX9_init_6 q931 zf_6_0_bateHall_Fault zq_6_0 (zz_hn1 ⟨rfl, rfl⟩) hw (fun M2 hw => ?_)
  refine zz_aload_n C dX9_init_9 rfl 0 rfl ?_
  refine zz_iload_n C dX9_init_10 rfl 2 rfl ?_
  refine zz_putF C hin dX9_init_11 q933 zf_6_1_bateHall_Fault zq_6_1 (zz_hn1 ⟨rfl, rfl⟩) hw (fun M3 hw => ?_)
  exact zz_vret C E dX9_init_14 hw
abbrev cX6_wrong : ByteArray := prog_13_method_3_code
def yX6_wrong : MethodName := ⟨"DebateHall$Reader", "wrong", "()LDebateHall$Fault;"⟩
def dkwX6_wrong_0 : List UInt8 := [187, 0, 27, 89, 4, 42, 182, 0, 29, 180, 0, 33, 183, 0, 34, 176]
abbrev dktX6_wrong_0 : List UInt8 := dkwX6_wrong_0 ++ []
theorem dksX6_wrong_0 : cX6_wrong.data.toList.drop 0 = dktX6_wrong_0 := by decide +kernel
theorem dX6_wrong_0 : decode cX6_wrong 0 = .ok (.new 27, 3) := dk_187 0 27 (dk_at dksX6_wrong_0 0 rfl rfl)
theorem dX6_wrong_3 : decode cX6_wrong 3 = .ok (.dup, 1) := dk_89 (dk_at dksX6_wrong_0 3 rfl rfl)
theorem dX6_wrong_4 : decode cX6_wrong 4 = .ok (.iconst 1, 1) := dk_4 (dk_at dksX6_wrong_0 4 rfl rfl)
theorem dX6_wrong_5 : decode cX6_wrong 5 = .ok (.aload_n 0, 1) := dk_42 (dk_at dksX6_wrong_0 5 rfl rfl)
theorem dX6_wrong_6 : decode cX6_wrong 6 = .ok (.invokevirtual 29, 3) := dk_182 0 29 (dk_at dksX6_wrong_0 6 rfl rfl)
theorem dX6_wrong_9 : decode cX6_wrong 9 = .ok (.getfield 33, 3) := dk_180 0 33 (dk_at dksX6_wrong_0 9 rfl rfl)
theorem dX6_wrong_12 : decode cX6_wrong 12 = .ok (.invokespecial 34, 3) := dk_183 0 34 (dk_at dksX6_wrong_0 12 rfl rfl)
theorem dX6_wrong_15 : decode cX6_wrong 15 = .ok (.areturn, 1) := dk_176 (dk_at dksX6_wrong_0 15 rfl rfl)
theorem q915 : (Jvm.Cond.classLink "DebateHall$Reader" (27 : Nat) "DebateHall$Fault") ∈ lw_all := lw_g (lw_at lw_m4 115 rfl) rfl
theorem q115 : (Jvm.Cond.initialized "DebateHall$Fault") ∈ lw_all := lw_g (lw_at lw_m1 35 rfl) rfl
theorem zl_DebateHall_Fault : Cond.initialized "DebateHall$Fault" ∈ lw_all := q115
theorem q378 : (Jvm.Cond.fieldLinkNest "DebateHall$Reader" (33 : Nat) "DebateHall$Token" "at" "I" "DebateHall") ∈ lw_tbl := lw_at lw_m2 58 rfl
theorem q926 : (Jvm.Cond.code ({ cls := "DebateHall$Fault", name := "<init>", desc := "(II)V" } : Jvm.MethodName) prog_5_method_1_code (3 : Nat) (Option.none : Option Jvm.ClassFile.FieldType)) ∈ lw_all := lw_g (lw_at lw_m4 126 rfl) rfl
theorem zk_X9_init : zz_cd yX9_init cX9_init 3 none none ∈ lw_all := q926
theorem zy_X9_init : zz_yok yX9_init 2 = true := by decide +kernel
theorem q924 : (Jvm.Cond.methodLink "DebateHall$Reader" (34 : Nat) ({ cls := "DebateHall$Fault", name := "<init>", desc := "(II)V" } : Jvm.MethodName)) ∈ lw_all := lw_g (lw_at lw_m4 124 rfl) rfl
theorem q925 : (Jvm.Cond.instanceMethod ({ cls := "DebateHall$Fault", name := "<init>", desc := "(II)V" } : Jvm.MethodName)) ∈ lw_all := lw_g (lw_at lw_m4 125 rfl) rfl
def wp_X6_wrong (Z : zzG) (this : Option Nat) (M : zzM) (bc bs : Nat) (K : Option Value → zzM → Prop) : Prop := znew Z M bc bs 6 8 [.int 0, .int 0, .null, .null, .null, .null, .null, .int 0] fun q1 M2 bc3 bs4 => zty Z M2 this fun t => t = 3 ∧ wp_X6_now Z this M2 (fun r5 M6 => zrA r5 fun x9 => zgI Z M6 x9 [5] 2 fun x10 => wp_X9_init Z (some q1) (1 : Int32) x10 M6 (fun r11 M12 => zrV r11 (K (some (va_rf (some q1))) M12)))
theorem ok_X6_wrong {Z : zzG} {l : Launch} (hl : l.stackTraces = false) {this : Option Nat} {M : zzM} {mc ms : Nat} {K : Option Value → zzM → Prop} (hw : wp_X6_wrong Z this M mc ms K) : zz_Met Z l yX6_wrong (zz_ws yX6_wrong cX6_wrong 1 (some (.object "DebateHall$Fault")) none) 7 [va_rf this] M mc ms K (fun _ _ _ => False) := by
  refine zz_ofW hl (plainFor_of_name (by decide)) (by simp only [zz_sl0, zz_slI, zz_slJ, zz_slA] <;> decide) (fun G hZ hll C E hH hR hin => ?_)
  subst hZ
  subst hll
  rw [show lv_args 0 [va_rf this] = [(0, va_rf this)] by simp only [zz_la0, zz_laI, zz_laJ, zz_laA]]
  unfold wp_X6_wrong at hw
  refine zz_new (r := (zR_6, zT_6, 8)) C dX6_wrong_0 rfl (by decide) q915 q916 zl_DebateHall_Fault rfl hw (fun q1 M2 bc3 bs4 hw => ?_)
  refine zz_dup C dX6_wrong_3 (zz_cat _) ?_
  refine zz_iconst (v := (1 : Int32)) C dX6_wrong_4 (by decide) ?_
  refine zz_aload_n C dX6_wrong_5 rfl 0 rfl ?_
  obtain ⟨a9, t9, b9, fs9, hro, hL, rfl, hw⟩ := ztyS hw
  refine zz_callV (r := (zR_3, zT_3, 3)) (As := []) (rest := [.int (1 : Int32), va_rf (some q1), va_rf (some q1)]) (mc := 0) (ms := 0) C hR hro dX6_wrong_6 (Or.inl q866) q868 (Or.inl qs5) zl_DebateHall_Reader zk_X6_now (Or.inl rfl) zy_X6_now rfl (by decide) (by decide) hL (ok_X6_now (zz_hl C) hw) (Nat.zero_le _) (Nat.zero_le _) (zz_cat10 _ (Nat.le_of_ble_eq_true rfl)) (fun r5 M6 hw => zz_kA hw (fun x9 hw => ?_)) (fun _ _ _ h9 => h9.elim) rfl
  refine zz_getI C dX6_wrong_9 (Or.inr ⟨_, q378⟩) zf_5_2_bateHall_Token hw (fun x10 hw => ?_)
  refine zz_callI (As := [.int (1 : Int32), .int x10]) (rest := [va_rf (some q1)]) (mc := 0) (ms := 0) C hR rfl dX6_wrong_12 (Or.inl q924) q925 zl_DebateHall_Fault zk_X9_init rfl zy_X9_init (by decide) (by decide) (ok_X9_init (zz_hl C) hw) (Nat.zero_le _) (Nat.zero_le _) (zz_cat10 _ (Nat.le_of_ble_eq_true rfl)) (fun r11 M12 hw => zz_kV hw (fun hw => ?_)) (fun _ _ _ h9 => h9.elim) rfl
  exact zz_aret C E (Or.inl ⟨_, rfl⟩) dX6_wrong_15 hw
abbrev cX6_take : ByteArray := prog_13_method_6_code
def yX6_take : MethodName := ⟨"DebateHall$Reader", "take", "(LDebateHall$Sort;)LDebateHall$Token;"⟩
def dkwX6_take_1 : List UInt8 := [96, 181, 0, 15, 44, 176]
abbrev dktX6_take_1 : List UInt8 := dkwX6_take_1 ++ []
def dkwX6_take_0 : List UInt8 := [42, 182, 0, 29, 77, 44, 180, 0, 48, 43, 165, 0, 8, 42, 182, 0, 44, 191, 42, 89, 180, 0, 15, 4]
abbrev dktX6_take_0 : List UInt8 := dkwX6_take_0 ++ dktX6_take_1
theorem dksX6_take_0 : cX6_take.data.toList.drop 0 = dktX6_take_0 := by decide +kernel
theorem dksX6_take_1 : cX6_take.data.toList.drop 24 = dktX6_take_1 := dk_seg dksX6_take_0 24 rfl rfl
theorem dX6_take_0 : decode cX6_take 0 = .ok (.aload_n 0, 1) := dk_42 (dk_at dksX6_take_0 0 rfl rfl)
theorem dX6_take_1 : decode cX6_take 1 = .ok (.invokevirtual 29, 3) := dk_182 0 29 (dk_at dksX6_take_0 1 rfl rfl)
theorem dX6_take_4 : decode cX6_take 4 = .ok (.astore_n 2, 1) := dk_77 (dk_at dksX6_take_0 4 rfl rfl)
theorem dX6_take_5 : decode cX6_take 5 = .ok (.aload_n 2, 1) := dk_44 (dk_at dksX6_take_0 5 rfl rfl)
theorem dX6_take_6 : decode cX6_take 6 = .ok (.getfield 48, 3) := dk_180 0 48 (dk_at dksX6_take_0 6 rfl rfl)
theorem dX6_take_9 : decode cX6_take 9 = .ok (.aload_n 1, 1) := dk_43 (dk_at dksX6_take_0 9 rfl rfl)
theorem dX6_take_10 : decode cX6_take 10 = .ok (.if_acmp .eq 8, 3) := dk_165 0 8 (dk_at dksX6_take_0 10 rfl rfl)
theorem dX6_take_13 : decode cX6_take 13 = .ok (.aload_n 0, 1) := dk_42 (dk_at dksX6_take_0 13 rfl rfl)
theorem dX6_take_14 : decode cX6_take 14 = .ok (.invokevirtual 44, 3) := dk_182 0 44 (dk_at dksX6_take_0 14 rfl rfl)
theorem dX6_take_17 : decode cX6_take 17 = .ok (.athrow, 1) := dk_191 (dk_at dksX6_take_0 17 rfl rfl)
theorem dX6_take_18 : decode cX6_take 18 = .ok (.aload_n 0, 1) := dk_42 (dk_at dksX6_take_0 18 rfl rfl)
theorem dX6_take_19 : decode cX6_take 19 = .ok (.dup, 1) := dk_89 (dk_at dksX6_take_0 19 rfl rfl)
theorem dX6_take_20 : decode cX6_take 20 = .ok (.getfield 15, 3) := dk_180 0 15 (dk_at dksX6_take_0 20 rfl rfl)
theorem dX6_take_23 : decode cX6_take 23 = .ok (.iconst 1, 1) := dk_4 (dk_at dksX6_take_0 23 rfl rfl)
theorem dX6_take_24 : decode cX6_take 24 = .ok (.iadd, 1) := dk_96 (dk_at dksX6_take_1 0 rfl rfl)
theorem dX6_take_25 : decode cX6_take 25 = .ok (.putfield 15, 3) := dk_181 0 15 (dk_at dksX6_take_1 1 rfl rfl)
theorem dX6_take_28 : decode cX6_take 28 = .ok (.aload_n 2, 1) := dk_44 (dk_at dksX6_take_1 4 rfl rfl)
theorem dX6_take_29 : decode cX6_take 29 = .ok (.areturn, 1) := dk_176 (dk_at dksX6_take_1 5 rfl rfl)
theorem q367 : (Jvm.Cond.fieldLinkNest "DebateHall$Reader" (48 : Nat) "DebateHall$Token" "sort" "LDebateHall$Sort;" "DebateHall") ∈ lw_tbl := lw_at lw_m2 47 rfl
theorem q914 : (Jvm.Cond.code ({ cls := "DebateHall$Reader", name := "wrong", desc := "()LDebateHall$Fault;" } : Jvm.MethodName) prog_13_method_3_code (1 : Nat) (Option.some (Jvm.ClassFile.FieldType.object "DebateHall$Fault"))) ∈ lw_all := lw_g (lw_at lw_m4 114 rfl) rfl
theorem zk_X6_wrong : zz_cd yX6_wrong cX6_wrong 1 (some (.object "DebateHall$Fault")) none ∈ lw_all := q914
theorem zy_X6_wrong : zz_yok yX6_wrong 0 = true := by decide +kernel
theorem q911 : (Jvm.Cond.methodLink "DebateHall$Reader" (44 : Nat) ({ cls := "DebateHall$Reader", name := "wrong", desc := "()LDebateHall$Fault;" } : Jvm.MethodName)) ∈ lw_all := lw_g (lw_at lw_m4 111 rfl) rfl
theorem q913 : (Jvm.Cond.instanceMethod ({ cls := "DebateHall$Reader", name := "wrong", desc := "()LDebateHall$Fault;" } : Jvm.MethodName)) ∈ lw_all := lw_g (lw_at lw_m4 113 rfl) rfl
def wp_X6_take (Z : zzG) (this : Option Nat) (p0 : Option Nat) (M : zzM) (bc bs : Nat) (K : Option Value → zzM → Prop) (X : Nat → Nat → zzM → Prop) : Prop := zty Z M this fun t => t = 3 ∧ wp_X6_now Z this M (fun r1 M2 => zrA r1 fun x5 => zgA Z M2 x5 [5] 0 fun x6 => if x6 = p0 then (zgI Z M2 this [3] 1 fun x7 => zput Z M2 this [3] 1 (.int (x7 + (1 : Int32))) fun M8 => K (some (va_rf x5)) M8) else (zty Z M2 this fun t => t = 3 ∧ zcc bc bs (fun c s k => wp_X6_wrong Z this M2 c s k) fun r9 M10 bc11 bs12 => zrA r9 fun x13 => zthr Z M10 x13 [6] fun _ q14 => X 6 q14 M10))
theorem ok_X6_take {Z : zzG} {l : Launch} (hl : l.stackTraces = false) {this : Option Nat} {p0 : Option Nat} {M : zzM} {mc ms : Nat} {K : Option Value → zzM → Prop} {X : Nat → Nat → zzM → Prop} (hw : wp_X6_take Z this p0 M mc ms K X) : zz_Met Z l yX6_take (zz_ws yX6_take cX6_take 3 (some (.object "DebateHall$Token")) none) 8 [va_rf this, va_rf p0] M mc ms K X := by
  refine zz_ofW hl (plainFor_of_name (by decide)) (by simp only [zz_sl0, zz_slI, zz_slJ, zz_slA] <;> decide) (fun G hZ hll C E hH hR hin => ?_)
  subst hZ
  subst hll
  rw [show lv_args 0 [va_rf this, va_rf p0] = [(0, va_rf this), (1, va_rf p0)] by simp only [zz_la0, zz_laI, zz_laJ, zz_laA]]
  unfold wp_X6_take at hw
  refine zz_aload_n C dX6_take_0 rfl 0 rfl ?_
  obtain ⟨a9, t9, b9, fs9, hro, hL, rfl, hw⟩ := ztyS hw
  refine zz_callV (r := (zR_3, zT_3, 3)) (As := []) (rest := []) (mc := 0) (ms := 0) C hR hro dX6_take_1 (Or.inl q866) q868 (Or.inl qs5) zl_DebateHall_Reader zk_X6_now (Or.inl rfl) zy_X6_now rfl (by decide) (by decide) hL (ok_X6_now (zz_hl C) hw) (Nat.zero_le _) (Nat.zero_le _) (zz_cat10 _ (Nat.le_of_ble_eq_true rfl)) (fun r1 M2 hw => zz_kA hw (fun x5 hw => ?_)) (fun _ _ _ h9 => h9.elim) rfl
  refine zz_astore_n (i := 2) (lv' := [(2, va_rf x5), (0, va_rf this), (1, va_rf p0)]) C dX6_take_4 rfl (by decide) (by simp [zz_cat, zz_catI, zz_catJ, zz_catD]) ?_
  refine zz_aload_n C dX6_take_5 rfl 0 rfl ?_
  refine zz_getA C dX6_take_6 (Or.inr ⟨_, q367⟩) zf_5_0_bateHall_Token hw (fun x6 hw => ?_)
  refine zz_aload_n C dX6_take_9 rfl 2 rfl ?_
  refine zz_acmp_eq (tgt := 18) C dX6_take_10 (by decide) hw (fun hw => ?_) (fun hw => ?_)
  · refine zz_aload_n C dX6_take_18 rfl 1 rfl ?_
    refine zz_dup C dX6_take_19 (zz_cat _) ?_
    refine zz_getI C dX6_take_20 (Or.inl q851) zf_3_1_ateHall_Reader hw (fun x7 hw => ?_)
    refine zz_iconst (v := (1 : Int32)) C dX6_take_23 (by decide) ?_
    refine zz_iadd C dX6_take_24 ?_
    refine zz_put C dX6_take_25 (Or.inl q851) zf_3_1_ateHall_Reader zp_3_1 (zz_hn1 ⟨rfl, rfl⟩) hw (fun M8 hw => ?_)
    refine zz_aload_n C dX6_take_28 rfl 0 rfl ?_
    exact zz_aret C E (Or.inl ⟨_, rfl⟩) dX6_take_29 hw
  · refine zz_aload_n C dX6_take_13 rfl 1 rfl ?_
    obtain ⟨a9, t9, b9, fs9, hro, hL, rfl, hw⟩ := ztyS hw
    obtain ⟨c9, s9, hc9, hs9, hw⟩ := hw
    refine zz_callV (r := (zR_3, zT_3, 3)) (As := []) (rest := []) C hR hro dX6_take_14 (Or.inl q911) q913 (Or.inl qs9) zl_DebateHall_Reader zk_X6_wrong (Or.inl rfl) zy_X6_wrong rfl (by decide) (by decide) hL (ok_X6_wrong (zz_hl C) hw) hc9 hs9 (zz_cat10 _ (Nat.le_of_ble_eq_true rfl)) (fun r9 M10 hw => zz_kA hw (fun x13 hw => ?_)) (fun _ _ _ h9 => h9.elim) rfl
    refine zz_athrow C dX6_take_17 hw (fun t9 q14 ht hw => ?_)
    rw [List.mem_singleton] at ht
    subst ht
    exact zz_out C E hH rfl hw
abbrev cX6_numberIf : ByteArray := prog_13_method_9_code
def yX6_numberIf : MethodName := ⟨"DebateHall$Reader", "numberIf", "(Ljava/lang/String;)LDebateHall$Token;"⟩
def dkwX6_numberIf_0 : List UInt8 := [42, 43, 182, 0, 41, 153, 0, 13, 42, 178, 0, 83, 182, 0, 86, 167, 0, 4, 1, 176]
abbrev dktX6_numberIf_0 : List UInt8 := dkwX6_numberIf_0 ++ []
theorem dksX6_numberIf_0 : cX6_numberIf.data.toList.drop 0 = dktX6_numberIf_0 := by decide +kernel
theorem dX6_numberIf_0 : decode cX6_numberIf 0 = .ok (.aload_n 0, 1) := dk_42 (dk_at dksX6_numberIf_0 0 rfl rfl)
theorem dX6_numberIf_1 : decode cX6_numberIf 1 = .ok (.aload_n 1, 1) := dk_43 (dk_at dksX6_numberIf_0 1 rfl rfl)
theorem dX6_numberIf_2 : decode cX6_numberIf 2 = .ok (.invokevirtual 41, 3) := dk_182 0 41 (dk_at dksX6_numberIf_0 2 rfl rfl)
theorem dX6_numberIf_5 : decode cX6_numberIf 5 = .ok (.ifCond .eq 13, 3) := dk_153 0 13 (dk_at dksX6_numberIf_0 5 rfl rfl)
theorem dX6_numberIf_8 : decode cX6_numberIf 8 = .ok (.aload_n 0, 1) := dk_42 (dk_at dksX6_numberIf_0 8 rfl rfl)
theorem dX6_numberIf_9 : decode cX6_numberIf 9 = .ok (.getstatic 83, 3) := dk_178 0 83 (dk_at dksX6_numberIf_0 9 rfl rfl)
theorem dX6_numberIf_12 : decode cX6_numberIf 12 = .ok (.invokevirtual 86, 3) := dk_182 0 86 (dk_at dksX6_numberIf_0 12 rfl rfl)
theorem dX6_numberIf_15 : decode cX6_numberIf 15 = .ok (.goto 4, 3) := dk_167 0 4 (dk_at dksX6_numberIf_0 15 rfl rfl)
theorem dX6_numberIf_18 : decode cX6_numberIf 18 = .ok (.aconst_null, 1) := dk_1 (dk_at dksX6_numberIf_0 18 rfl rfl)
theorem dX6_numberIf_19 : decode cX6_numberIf 19 = .ok (.areturn, 1) := dk_176 (dk_at dksX6_numberIf_0 19 rfl rfl)
theorem q898 : (Jvm.Cond.code ({ cls := "DebateHall$Reader", name := "takeIf", desc := "(Ljava/lang/String;)Z" } : Jvm.MethodName) prog_13_method_4_code (3 : Nat) (Option.some Jvm.ClassFile.FieldType.boolean)) ∈ lw_all := lw_g (lw_at lw_m4 98 rfl) rfl
theorem zk_X6_takeIf : zz_cd yX6_takeIf cX6_takeIf 3 (some .boolean) none ∈ lw_all := q898
theorem zy_X6_takeIf : zz_yok yX6_takeIf 1 = true := by decide +kernel
theorem q948 : (Jvm.Cond.fieldLink "DebateHall$Reader" (83 : Nat) "DebateHall$Sort" "NUMBER" "LDebateHall$Sort;") ∈ lw_all := lw_g (lw_at lw_m4 148 rfl) rfl
theorem q910 : (Jvm.Cond.code ({ cls := "DebateHall$Reader", name := "take", desc := "(LDebateHall$Sort;)LDebateHall$Token;" } : Jvm.MethodName) prog_13_method_6_code (3 : Nat) (Option.some (Jvm.ClassFile.FieldType.object "DebateHall$Token"))) ∈ lw_all := lw_g (lw_at lw_m4 110 rfl) rfl
theorem zk_X6_take : zz_cd yX6_take cX6_take 3 (some (.object "DebateHall$Token")) none ∈ lw_all := q910
theorem zy_X6_take : zz_yok yX6_take 1 = true := by decide +kernel
theorem q907 : (Jvm.Cond.methodLink "DebateHall$Reader" (86 : Nat) ({ cls := "DebateHall$Reader", name := "take", desc := "(LDebateHall$Sort;)LDebateHall$Token;" } : Jvm.MethodName)) ∈ lw_all := lw_g (lw_at lw_m4 107 rfl) rfl
theorem q909 : (Jvm.Cond.instanceMethod ({ cls := "DebateHall$Reader", name := "take", desc := "(LDebateHall$Sort;)LDebateHall$Token;" } : Jvm.MethodName)) ∈ lw_all := lw_g (lw_at lw_m4 109 rfl) rfl
theorem q895 : (Jvm.Cond.methodLink "DebateHall$Reader" (41 : Nat) ({ cls := "DebateHall$Reader", name := "takeIf", desc := "(Ljava/lang/String;)Z" } : Jvm.MethodName)) ∈ lw_all := lw_g (lw_at lw_m4 95 rfl) rfl
theorem q897 : (Jvm.Cond.instanceMethod ({ cls := "DebateHall$Reader", name := "takeIf", desc := "(Ljava/lang/String;)Z" } : Jvm.MethodName)) ∈ lw_all := lw_g (lw_at lw_m4 97 rfl) rfl
def wp_X6_numberIf_B19 (Z : zzG) (K : Option Value → zzM → Prop) (X : Nat → Nat → zzM → Prop) (s0 : Option Nat) (M : zzM) (bc bs : Nat) : Prop := K (some (va_rf s0)) M
def wp_X6_numberIf (Z : zzG) (this : Option Nat) (p0 : Option Nat) (M : zzM) (bc bs : Nat) (K : Option Value → zzM → Prop) (X : Nat → Nat → zzM → Prop) : Prop := zty Z M this fun t => t = 3 ∧ wp_X6_takeIf Z this p0 M (fun r1 M2 => zrI r1 fun x5 => if x5 = 0 then (wp_X6_numberIf_B19 Z K X none M2 bc bs) else (zty Z M2 this fun t => t = 3 ∧ zcx bc bs (fun c s k x => wp_X6_take Z this (some (zz_ad Z 3)) M2 c s k x) (fun r6 M7 bc8 bs9 => zrA r6 fun x10 => wp_X6_numberIf_B19 Z K X x10 M7 bc8 bs9) (fun t q M _ _ => X t q M)))
theorem ok_X6_numberIf_B19 {G : zzX} (C : zz_C G cX6_numberIf "DebateHall$Reader" 2) {K : Option Value → zzM → Prop} {X : Nat → Nat → zzM → Prop} (E : zz_E G (some (.object "DebateHall$Token")) K X) (hH : zz_H G []) (hR : zz_Rm G 9) {s0 : Option Nat} {M : zzM} {bc bs : Nat} (hw : wp_X6_numberIf_B19 (zz_Zof G) K X s0 M bc bs) : zz_T G 2 M bc bs 19 [] [va_rf s0] := by
  unfold wp_X6_numberIf_B19 at hw
  exact zz_aret C E (Or.inl ⟨_, rfl⟩) dX6_numberIf_19 hw
theorem ok_X6_numberIf {Z : zzG} {l : Launch} (hl : l.stackTraces = false) {this : Option Nat} {p0 : Option Nat} {M : zzM} {mc ms : Nat} {K : Option Value → zzM → Prop} {X : Nat → Nat → zzM → Prop} (hw : wp_X6_numberIf Z this p0 M mc ms K X) : zz_Met Z l yX6_numberIf (zz_ws yX6_numberIf cX6_numberIf 2 (some (.object "DebateHall$Token")) none) 9 [va_rf this, va_rf p0] M mc ms K X := by
  refine zz_ofW hl (plainFor_of_name (by decide)) (by simp only [zz_sl0, zz_slI, zz_slJ, zz_slA] <;> decide) (fun G hZ hll C E hH hR hin => ?_)
  subst hZ
  subst hll
  rw [show lv_args 0 [va_rf this, va_rf p0] = [(0, va_rf this), (1, va_rf p0)] by simp only [zz_la0, zz_laI, zz_laJ, zz_laA]]
  unfold wp_X6_numberIf at hw
  refine zz_aload_n C dX6_numberIf_0 rfl 0 rfl ?_
  refine zz_aload_n C dX6_numberIf_1 rfl 1 rfl ?_
  obtain ⟨a9, t9, b9, fs9, hro, hL, rfl, hw⟩ := ztyS hw
  refine zz_callV (r := (zR_3, zT_3, 3)) (As := [va_rf p0]) (rest := []) (mc := 0) (ms := 0) C hR hro dX6_numberIf_2 (Or.inl q895) q897 (Or.inl qs7) zl_DebateHall_Reader zk_X6_takeIf (Or.inl rfl) zy_X6_takeIf rfl (by decide) (by decide) hL (ok_X6_takeIf (zz_hl C) hw) (Nat.zero_le _) (Nat.zero_le _) (zz_cat10 _ (Nat.le_of_ble_eq_true rfl)) (fun r1 M2 hw => zz_kI hw (fun x5 hw => ?_)) (fun _ _ _ h9 => h9.elim) rfl
  refine zz_if_eq (tgt := 18) C dX6_numberIf_5 (by decide) hw (fun hw => ?_) (fun hw => ?_)
  · refine zz_null C dX6_numberIf_18 ?_
    refine zz_subP [] rfl ?_
    exact ok_X6_numberIf_B19 C E hH hR hw
  · refine zz_aload_n C dX6_numberIf_8 rfl 0 rfl ?_
    refine zz_gets (j := 3) (v := va_rf (some (zz_ad (zz_Zof G) 3))) C dX6_numberIf_9 (Or.inl q948) rfl (Or.inl rfl) rfl ?_
    obtain ⟨a9, t9, b9, fs9, hro, hL, rfl, hw⟩ := ztyS hw
    obtain ⟨c9, s9, hc9, hs9, hw⟩ := hw
    refine zz_callV (r := (zR_3, zT_3, 3)) (As := [va_rf (some (zz_ad (zz_Zof G) 3))]) (rest := []) C hR hro dX6_numberIf_12 (Or.inl q907) q909 (Or.inl qs8) zl_DebateHall_Reader zk_X6_take (Or.inl rfl) zy_X6_take rfl (by decide) (by decide) hL (ok_X6_take (zz_hl C) hw) hc9 hs9 (zz_cat10 _ (Nat.le_of_ble_eq_true rfl)) (fun r6 M7 hw => zz_kA hw (fun x10 hw => ?_)) (fun t9 q11 M12 hx => ?_) rfl
    · refine zz_goto (tgt := 19) C dX6_numberIf_15 (by decide) ?_
      refine zz_subP [] rfl ?_
      exact ok_X6_numberIf_B19 C E hH hR hw
    · exact zz_out C E hH rfl hx
abbrev cX10_init : ByteArray := prog_11_method_1_code
def yX10_init : MethodName := ⟨"DebateHall$Line", "<init>", "()V"⟩
theorem dX10_init_0 : decode cX10_init 0 = .ok (.aload_n 0, 1) := by decide +kernel
theorem dX10_init_1 : decode cX10_init 1 = .ok (.invokespecial 3, 3) := by decide +kernel
theorem dX10_init_4 : decode cX10_init 4 = .ok (.return_, 1) := by decide +kernel
theorem q955 : (Jvm.Cond.methodLink "DebateHall$Line" (3 : Nat) ({ cls := "java/lang/Object", name := "<init>", desc := "()V" } : Jvm.MethodName)) ∈ lw_all := lw_g (lw_at lw_m4 155 rfl) rfl
def wp_X10_init (Z : zzG) (this : Option Nat) (M : zzM) (K : Option Value → zzM → Prop) : Prop := zty Z M this fun _ => K none M
theorem ok_X10_init {Z : zzG} {l : Launch} (hl : l.stackTraces = false) {this : Option Nat} {M : zzM} {mc ms : Nat} {K : Option Value → zzM → Prop} (hw : wp_X10_init Z this M K) : zz_Met Z l yX10_init (zz_ws yX10_init cX10_init 1 none none) 2 [va_rf this] M mc ms K (fun _ _ _ => False) := by
  refine zz_ofW hl (plainFor_of_name (by decide)) (by simp only [zz_sl0, zz_slI, zz_slJ, zz_slA] <;> decide) (fun G hZ hll C E hH hR hin => ?_)
  subst hZ
  subst hll
  rw [show lv_args 0 [va_rf this] = [(0, va_rf this)] by simp only [zz_la0, zz_laI, zz_laJ, zz_laA]]
  unfold wp_X10_init at hw
  refine zz_aload_n C dX10_init_0 rfl 0 rfl ?_
  obtain ⟨a9, t9, b9, fs9, hro, hL, hw⟩ := ztyS hw
  refine zz_objInit9 C hR (by decide) hro dX10_init_1 q955 q146 q147 (zz_cat10 _ (Nat.le_of_ble_eq_true rfl)) ?_
  exact zz_vret C E dX10_init_4 hw
abbrev cX11_init : ByteArray := prog_15_method_1_code
def yX11_init : MethodName := ⟨"DebateHall$Seat", "<init>", "(LDebateHall$Token;LDebateHall$Token;)V"⟩
def dkwX11_init_0 : List UInt8 := [42, 183, 0, 3, 42, 43, 181, 0, 9, 42, 44, 181, 0, 15, 177]
abbrev dktX11_init_0 : List UInt8 := dkwX11_init_0 ++ []
theorem dksX11_init_0 : cX11_init.data.toList.drop 0 = dktX11_init_0 := by decide +kernel
theorem dX11_init_0 : decode cX11_init 0 = .ok (.aload_n 0, 1) := dk_42 (dk_at dksX11_init_0 0 rfl rfl)
theorem dX11_init_1 : decode cX11_init 1 = .ok (.invokespecial 3, 3) := dk_183 0 3 (dk_at dksX11_init_0 1 rfl rfl)
theorem dX11_init_4 : decode cX11_init 4 = .ok (.aload_n 0, 1) := dk_42 (dk_at dksX11_init_0 4 rfl rfl)
theorem dX11_init_5 : decode cX11_init 5 = .ok (.aload_n 1, 1) := dk_43 (dk_at dksX11_init_0 5 rfl rfl)
theorem dX11_init_6 : decode cX11_init 6 = .ok (.putfield 9, 3) := dk_181 0 9 (dk_at dksX11_init_0 6 rfl rfl)
theorem dX11_init_9 : decode cX11_init 9 = .ok (.aload_n 0, 1) := dk_42 (dk_at dksX11_init_0 9 rfl rfl)
theorem dX11_init_10 : decode cX11_init 10 = .ok (.aload_n 2, 1) := dk_44 (dk_at dksX11_init_0 10 rfl rfl)
theorem dX11_init_11 : decode cX11_init 11 = .ok (.putfield 15, 3) := dk_181 0 15 (dk_at dksX11_init_0 11 rfl rfl)
theorem dX11_init_14 : decode cX11_init 14 = .ok (.return_, 1) := dk_177 (dk_at dksX11_init_0 14 rfl rfl)
theorem q954 : (Jvm.Cond.code ({ cls := "DebateHall$Line", name := "<init>", desc := "()V" } : Jvm.MethodName) prog_11_method_1_code (1 : Nat) (Option.none : Option Jvm.ClassFile.FieldType)) ∈ lw_all := lw_g (lw_at lw_m4 154 rfl) rfl
theorem zk_X10_init : zz_cd yX10_init cX10_init 1 none none ∈ lw_all := q954
theorem zy_X10_init : zz_yok yX10_init 0 = true := by decide +kernel
theorem zf_7_1_ebateHall_Seat : zz_fok [7] 1 "DebateHall$Seat" "name" "LDebateHall$Token;" := zz_fok1 (zR_7, zT_7, 3) rfl (by decide) rfl rfl (Or.inl rfl)
theorem q956 : (Jvm.Cond.fieldLink "DebateHall$Seat" (9 : Nat) "DebateHall$Seat" "name" "LDebateHall$Token;") ∈ lw_all := lw_g (lw_at lw_m4 156 rfl) rfl
theorem zq_7_1 : zz_pokF [7] 1 "DebateHall$Seat" := zz_pokF1 (zR_7, zT_7, 3) (by decide) rfl rfl rfl
theorem zf_7_2_ebateHall_Seat : zz_fok [7] 2 "DebateHall$Seat" "time" "LDebateHall$Token;" := zz_fok1 (zR_7, zT_7, 3) rfl (by decide) rfl rfl (Or.inl rfl)
theorem q957 : (Jvm.Cond.fieldLink "DebateHall$Seat" (15 : Nat) "DebateHall$Seat" "time" "LDebateHall$Token;") ∈ lw_all := lw_g (lw_at lw_m4 157 rfl) rfl
theorem zq_7_2 : zz_pokF [7] 2 "DebateHall$Seat" := zz_pokF1 (zR_7, zT_7, 3) (by decide) rfl rfl rfl
theorem q952 : (Jvm.Cond.methodLinkNest "DebateHall$Seat" (3 : Nat) ({ cls := "DebateHall$Line", name := "<init>", desc := "()V" } : Jvm.MethodName) "DebateHall") ∈ lw_tbl := lw_at lw_m4 152 rfl
theorem q116 : (Jvm.Cond.initialized "DebateHall$Line") ∈ lw_all := lw_g (lw_at lw_m1 36 rfl) rfl
theorem zl_DebateHall_Line : Cond.initialized "DebateHall$Line" ∈ lw_all := q116
theorem q953 : (Jvm.Cond.instanceMethod ({ cls := "DebateHall$Line", name := "<init>", desc := "()V" } : Jvm.MethodName)) ∈ lw_all := lw_g (lw_at lw_m4 153 rfl) rfl
def wp_X11_init (Z : zzG) (this : Option Nat) (p0 : Option Nat) (p1 : Option Nat) (M : zzM) (K : Option Value → zzM → Prop) : Prop := zty Z M this fun _ => wp_X10_init Z this M (fun r1 M2 => zrV r1 (zput Z M2 this [7] 1 (va_rf p0) fun M5 => zput Z M5 this [7] 2 (va_rf p1) fun M6 => K none M6))
theorem ok_X11_init {Z : zzG} {l : Launch} (hl : l.stackTraces = false) {this : Option Nat} {p0 : Option Nat} {p1 : Option Nat} {M : zzM} {mc ms : Nat} {K : Option Value → zzM → Prop} (hw : wp_X11_init Z this p0 p1 M K) : zz_Met Z l yX11_init (zz_ws yX11_init cX11_init 3 none none) 3 [va_rf this, va_rf p0, va_rf p1] M mc ms K (fun _ _ _ => False) := by
  refine zz_ofW hl (plainFor_of_name (by decide)) (by simp only [zz_sl0, zz_slI, zz_slJ, zz_slA] <;> decide) (fun G hZ hll C E hH hR hin => ?_)
  subst hZ
  subst hll
  rw [show lv_args 0 [va_rf this, va_rf p0, va_rf p1] = [(0, va_rf this), (1, va_rf p0), (2, va_rf p1)] by simp only [zz_la0, zz_laI, zz_laJ, zz_laA]]
  unfold wp_X11_init at hw
  refine zz_aload_n C dX11_init_0 rfl 0 rfl ?_
  obtain ⟨a9, t9, b9, fs9, hro, hL, hw⟩ := ztyS hw
  refine zz_callI (As := []) (rest := []) (mc := 0) (ms := 0) C hR hro dX11_init_1 (Or.inr ⟨_, q952⟩) q953 zl_DebateHall_Line zk_X10_init rfl zy_X10_init (by decide) (by decide) (ok_X10_init (zz_hl C) hw) (Nat.zero_le _) (Nat.zero_le _) (zz_cat10 _ (Nat.le_of_ble_eq_true rfl)) (fun r1 M2 hw => zz_kV hw (fun hw => ?_)) (fun _ _ _ h9 => h9.elim) rfl
  refine zz_aload_n C dX11_init_4 rfl 0 rfl ?_
  refine zz_aload_n C dX11_init_5 rfl 1 rfl ?_
  refine zz_putF C hin dX11_init_6 q956 zf_7_1_ebateHall_Seat zq_7_1 (zz_hn1 (zz_nA _ rfl p0)) hw (fun M5 hw => ?_)
  refine zz_aload_n C dX11_init_9 rfl 0 rfl ?_
  refine zz_aload_n C dX11_init_10 rfl 2 rfl ?_
  refine zz_putF C hin dX11_init_11 q957 zf_7_2_ebateHall_Seat zq_7_2 (zz_hn1 (zz_nA _ rfl p1)) hw (fun M6 hw => ?_)
  exact zz_vret C E dX11_init_14 hw
abbrev cX6_take_2 : ByteArray := prog_13_method_5_code
def yX6_take_2 : MethodName := ⟨"DebateHall$Reader", "take", "(Ljava/lang/String;)V"⟩
def dkwX6_take_2_0 : List UInt8 := [42, 43, 182, 0, 41, 154, 0, 8, 42, 182, 0, 44, 191, 177]
abbrev dktX6_take_2_0 : List UInt8 := dkwX6_take_2_0 ++ []
theorem dksX6_take_2_0 : cX6_take_2.data.toList.drop 0 = dktX6_take_2_0 := by decide +kernel
theorem dX6_take_2_0 : decode cX6_take_2 0 = .ok (.aload_n 0, 1) := dk_42 (dk_at dksX6_take_2_0 0 rfl rfl)
theorem dX6_take_2_1 : decode cX6_take_2 1 = .ok (.aload_n 1, 1) := dk_43 (dk_at dksX6_take_2_0 1 rfl rfl)
theorem dX6_take_2_2 : decode cX6_take_2 2 = .ok (.invokevirtual 41, 3) := dk_182 0 41 (dk_at dksX6_take_2_0 2 rfl rfl)
theorem dX6_take_2_5 : decode cX6_take_2 5 = .ok (.ifCond .ne 8, 3) := dk_154 0 8 (dk_at dksX6_take_2_0 5 rfl rfl)
theorem dX6_take_2_8 : decode cX6_take_2 8 = .ok (.aload_n 0, 1) := dk_42 (dk_at dksX6_take_2_0 8 rfl rfl)
theorem dX6_take_2_9 : decode cX6_take_2 9 = .ok (.invokevirtual 44, 3) := dk_182 0 44 (dk_at dksX6_take_2_0 9 rfl rfl)
theorem dX6_take_2_12 : decode cX6_take_2 12 = .ok (.athrow, 1) := dk_191 (dk_at dksX6_take_2_0 12 rfl rfl)
theorem dX6_take_2_13 : decode cX6_take_2 13 = .ok (.return_, 1) := dk_177 (dk_at dksX6_take_2_0 13 rfl rfl)
def wp_X6_take_2 (Z : zzG) (this : Option Nat) (p0 : Option Nat) (M : zzM) (bc bs : Nat) (K : Option Value → zzM → Prop) (X : Nat → Nat → zzM → Prop) : Prop := zty Z M this fun t => t = 3 ∧ wp_X6_takeIf Z this p0 M (fun r1 M2 => zrI r1 fun x5 => if x5 = 0 then (zty Z M2 this fun t => t = 3 ∧ zcc bc bs (fun c s k => wp_X6_wrong Z this M2 c s k) fun r6 M7 bc8 bs9 => zrA r6 fun x10 => zthr Z M7 x10 [6] fun _ q11 => X 6 q11 M7) else (K none M2))
theorem ok_X6_take_2 {Z : zzG} {l : Launch} (hl : l.stackTraces = false) {this : Option Nat} {p0 : Option Nat} {M : zzM} {mc ms : Nat} {K : Option Value → zzM → Prop} {X : Nat → Nat → zzM → Prop} (hw : wp_X6_take_2 Z this p0 M mc ms K X) : zz_Met Z l yX6_take_2 (zz_ws yX6_take_2 cX6_take_2 2 none none) 8 [va_rf this, va_rf p0] M mc ms K X := by
  refine zz_ofW hl (plainFor_of_name (by decide)) (by simp only [zz_sl0, zz_slI, zz_slJ, zz_slA] <;> decide) (fun G hZ hll C E hH hR hin => ?_)
  subst hZ
  subst hll
  rw [show lv_args 0 [va_rf this, va_rf p0] = [(0, va_rf this), (1, va_rf p0)] by simp only [zz_la0, zz_laI, zz_laJ, zz_laA]]
  unfold wp_X6_take_2 at hw
  refine zz_aload_n C dX6_take_2_0 rfl 0 rfl ?_
  refine zz_aload_n C dX6_take_2_1 rfl 1 rfl ?_
  obtain ⟨a9, t9, b9, fs9, hro, hL, rfl, hw⟩ := ztyS hw
  refine zz_callV (r := (zR_3, zT_3, 3)) (As := [va_rf p0]) (rest := []) (mc := 0) (ms := 0) C hR hro dX6_take_2_2 (Or.inl q895) q897 (Or.inl qs7) zl_DebateHall_Reader zk_X6_takeIf (Or.inl rfl) zy_X6_takeIf rfl (by decide) (by decide) hL (ok_X6_takeIf (zz_hl C) hw) (Nat.zero_le _) (Nat.zero_le _) (zz_cat10 _ (Nat.le_of_ble_eq_true rfl)) (fun r1 M2 hw => zz_kI hw (fun x5 hw => ?_)) (fun _ _ _ h9 => h9.elim) rfl
  refine zz_if_ne (tgt := 13) C dX6_take_2_5 (by decide) hw (fun hw => ?_) (fun hw => ?_)
  · exact zz_vret C E dX6_take_2_13 hw
  · refine zz_aload_n C dX6_take_2_8 rfl 0 rfl ?_
    obtain ⟨a9, t9, b9, fs9, hro, hL, rfl, hw⟩ := ztyS hw
    obtain ⟨c9, s9, hc9, hs9, hw⟩ := hw
    refine zz_callV (r := (zR_3, zT_3, 3)) (As := []) (rest := []) C hR hro dX6_take_2_9 (Or.inl q911) q913 (Or.inl qs9) zl_DebateHall_Reader zk_X6_wrong (Or.inl rfl) zy_X6_wrong rfl (by decide) (by decide) hL (ok_X6_wrong (zz_hl C) hw) hc9 hs9 (zz_cat10 _ (Nat.le_of_ble_eq_true rfl)) (fun r6 M7 hw => zz_kA hw (fun x10 hw => ?_)) (fun _ _ _ h9 => h9.elim) rfl
    refine zz_athrow C dX6_take_2_12 hw (fun t9 q11 ht hw => ?_)
    rw [List.mem_singleton] at ht
    subst ht
    exact zz_out C E hH rfl hw
abbrev cX12_init : ByteArray := prog_3_method_1_code
def yX12_init : MethodName := ⟨"DebateHall$Claim", "<init>", "(LDebateHall$Token;LDebateHall$Token;LDebateHall$Token;)V"⟩
def dkwX12_init_0 : List UInt8 := [42, 183, 0, 3, 42, 43, 181, 0, 9, 42, 44, 181, 0, 15, 42, 45, 181, 0, 18, 177]
abbrev dktX12_init_0 : List UInt8 := dkwX12_init_0 ++ []
theorem dksX12_init_0 : cX12_init.data.toList.drop 0 = dktX12_init_0 := by decide +kernel
theorem dX12_init_0 : decode cX12_init 0 = .ok (.aload_n 0, 1) := dk_42 (dk_at dksX12_init_0 0 rfl rfl)
theorem dX12_init_1 : decode cX12_init 1 = .ok (.invokespecial 3, 3) := dk_183 0 3 (dk_at dksX12_init_0 1 rfl rfl)
theorem dX12_init_4 : decode cX12_init 4 = .ok (.aload_n 0, 1) := dk_42 (dk_at dksX12_init_0 4 rfl rfl)
theorem dX12_init_5 : decode cX12_init 5 = .ok (.aload_n 1, 1) := dk_43 (dk_at dksX12_init_0 5 rfl rfl)
theorem dX12_init_6 : decode cX12_init 6 = .ok (.putfield 9, 3) := dk_181 0 9 (dk_at dksX12_init_0 6 rfl rfl)
theorem dX12_init_9 : decode cX12_init 9 = .ok (.aload_n 0, 1) := dk_42 (dk_at dksX12_init_0 9 rfl rfl)
theorem dX12_init_10 : decode cX12_init 10 = .ok (.aload_n 2, 1) := dk_44 (dk_at dksX12_init_0 10 rfl rfl)
theorem dX12_init_11 : decode cX12_init 11 = .ok (.putfield 15, 3) := dk_181 0 15 (dk_at dksX12_init_0 11 rfl rfl)
theorem dX12_init_14 : decode cX12_init 14 = .ok (.aload_n 0, 1) := dk_42 (dk_at dksX12_init_0 14 rfl rfl)
theorem dX12_init_15 : decode cX12_init 15 = .ok (.aload_n 3, 1) := dk_45 (dk_at dksX12_init_0 15 rfl rfl)
theorem dX12_init_16 : decode cX12_init 16 = .ok (.putfield 18, 3) := dk_181 0 18 (dk_at dksX12_init_0 16 rfl rfl)
theorem dX12_init_19 : decode cX12_init 19 = .ok (.return_, 1) := dk_177 (dk_at dksX12_init_0 19 rfl rfl)
theorem zf_8_1_bateHall_Claim : zz_fok [8] 1 "DebateHall$Claim" "name" "LDebateHall$Token;" := zz_fok1 (zR_8, zT_8, 4) rfl (by decide) rfl rfl (Or.inl rfl)
theorem q980 : (Jvm.Cond.fieldLink "DebateHall$Claim" (9 : Nat) "DebateHall$Claim" "name" "LDebateHall$Token;") ∈ lw_all := lw_g (lw_at lw_m4 180 rfl) rfl
theorem zq_8_1 : zz_pokF [8] 1 "DebateHall$Claim" := zz_pokF1 (zR_8, zT_8, 4) (by decide) rfl rfl rfl
theorem zf_8_2_bateHall_Claim : zz_fok [8] 2 "DebateHall$Claim" "by" "LDebateHall$Token;" := zz_fok1 (zR_8, zT_8, 4) rfl (by decide) rfl rfl (Or.inl rfl)
theorem q981 : (Jvm.Cond.fieldLink "DebateHall$Claim" (15 : Nat) "DebateHall$Claim" "by" "LDebateHall$Token;") ∈ lw_all := lw_g (lw_at lw_m4 181 rfl) rfl
theorem zq_8_2 : zz_pokF [8] 2 "DebateHall$Claim" := zz_pokF1 (zR_8, zT_8, 4) (by decide) rfl rfl rfl
theorem zf_8_3_bateHall_Claim : zz_fok [8] 3 "DebateHall$Claim" "weight" "LDebateHall$Token;" := zz_fok1 (zR_8, zT_8, 4) rfl (by decide) rfl rfl (Or.inl rfl)
theorem q982 : (Jvm.Cond.fieldLink "DebateHall$Claim" (18 : Nat) "DebateHall$Claim" "weight" "LDebateHall$Token;") ∈ lw_all := lw_g (lw_at lw_m4 182 rfl) rfl
theorem zq_8_3 : zz_pokF [8] 3 "DebateHall$Claim" := zz_pokF1 (zR_8, zT_8, 4) (by decide) rfl rfl rfl
theorem q979 : (Jvm.Cond.methodLinkNest "DebateHall$Claim" (3 : Nat) ({ cls := "DebateHall$Line", name := "<init>", desc := "()V" } : Jvm.MethodName) "DebateHall") ∈ lw_tbl := lw_at lw_m4 179 rfl
def wp_X12_init (Z : zzG) (this : Option Nat) (p0 : Option Nat) (p1 : Option Nat) (p2 : Option Nat) (M : zzM) (K : Option Value → zzM → Prop) : Prop := zty Z M this fun _ => wp_X10_init Z this M (fun r1 M2 => zrV r1 (zput Z M2 this [8] 1 (va_rf p0) fun M5 => zput Z M5 this [8] 2 (va_rf p1) fun M6 => zput Z M6 this [8] 3 (va_rf p2) fun M7 => K none M7))
theorem ok_X12_init {Z : zzG} {l : Launch} (hl : l.stackTraces = false) {this : Option Nat} {p0 : Option Nat} {p1 : Option Nat} {p2 : Option Nat} {M : zzM} {mc ms : Nat} {K : Option Value → zzM → Prop} (hw : wp_X12_init Z this p0 p1 p2 M K) : zz_Met Z l yX12_init (zz_ws yX12_init cX12_init 4 none none) 3 [va_rf this, va_rf p0, va_rf p1, va_rf p2] M mc ms K (fun _ _ _ => False) := by
  refine zz_ofW hl (plainFor_of_name (by decide)) (by simp only [zz_sl0, zz_slI, zz_slJ, zz_slA] <;> decide) (fun G hZ hll C E hH hR hin => ?_)
  subst hZ
  subst hll
  rw [show lv_args 0 [va_rf this, va_rf p0, va_rf p1, va_rf p2] = [(0, va_rf this), (1, va_rf p0), (2, va_rf p1), (3, va_rf p2)] by simp only [zz_la0, zz_laI, zz_laJ, zz_laA]]
  unfold wp_X12_init at hw
  refine zz_aload_n C dX12_init_0 rfl 0 rfl ?_
  obtain ⟨a9, t9, b9, fs9, hro, hL, hw⟩ := ztyS hw
  refine zz_callI (As := []) (rest := []) (mc := 0) (ms := 0) C hR hro dX12_init_1 (Or.inr ⟨_, q979⟩) q953 zl_DebateHall_Line zk_X10_init rfl zy_X10_init (by decide) (by decide) (ok_X10_init (zz_hl C) hw) (Nat.zero_le _) (Nat.zero_le _) (zz_cat10 _ (Nat.le_of_ble_eq_true rfl)) (fun r1 M2 hw => zz_kV hw (fun hw => ?_)) (fun _ _ _ h9 => h9.elim) rfl
  refine zz_aload_n C dX12_init_4 rfl 0 rfl ?_
  refine zz_aload_n C dX12_init_5 rfl 1 rfl ?_
  refine zz_putF C hin dX12_init_6 q980 zf_8_1_bateHall_Claim zq_8_1 (zz_hn1 (zz_nA _ rfl p0)) hw (fun M5 hw => ?_)
  refine zz_aload_n C dX12_init_9 rfl 0 rfl ?_
  refine zz_aload_n C dX12_init_10 rfl 2 rfl ?_
  refine zz_putF C hin dX12_init_11 q981 zf_8_2_bateHall_Claim zq_8_2 (zz_hn1 (zz_nA _ rfl p1)) hw (fun M6 hw => ?_)
  refine zz_aload_n C dX12_init_14 rfl 0 rfl ?_
  refine zz_aload_n C dX12_init_15 rfl 3 rfl ?_
  refine zz_putF C hin dX12_init_16 q982 zf_8_3_bateHall_Claim zq_8_3 (zz_hn1 (zz_nA _ rfl p2)) hw (fun M7 hw => ?_)
  exact zz_vret C E dX12_init_19 hw
abbrev cX13_init : ByteArray := prog_20_method_1_code
def yX13_init : MethodName := ⟨"DebateHall$Test", "<init>", "()V"⟩
theorem dX13_init_0 : decode cX13_init 0 = .ok (.aload_n 0, 1) := by decide +kernel
theorem dX13_init_1 : decode cX13_init 1 = .ok (.invokespecial 1, 3) := by decide +kernel
theorem dX13_init_4 : decode cX13_init 4 = .ok (.return_, 1) := by decide +kernel
theorem q1014 : (Jvm.Cond.methodLink "DebateHall$Test" (1 : Nat) ({ cls := "java/lang/Object", name := "<init>", desc := "()V" } : Jvm.MethodName)) ∈ lw_all := lw_g (lw_at lw_m4 214 rfl) rfl
def wp_X13_init (Z : zzG) (this : Option Nat) (M : zzM) (K : Option Value → zzM → Prop) : Prop := zty Z M this fun _ => K none M
theorem ok_X13_init {Z : zzG} {l : Launch} (hl : l.stackTraces = false) {this : Option Nat} {M : zzM} {mc ms : Nat} {K : Option Value → zzM → Prop} (hw : wp_X13_init Z this M K) : zz_Met Z l yX13_init (zz_ws yX13_init cX13_init 1 none none) 2 [va_rf this] M mc ms K (fun _ _ _ => False) := by
  refine zz_ofW hl (plainFor_of_name (by decide)) (by simp only [zz_sl0, zz_slI, zz_slJ, zz_slA] <;> decide) (fun G hZ hll C E hH hR hin => ?_)
  subst hZ
  subst hll
  rw [show lv_args 0 [va_rf this] = [(0, va_rf this)] by simp only [zz_la0, zz_laI, zz_laJ, zz_laA]]
  unfold wp_X13_init at hw
  refine zz_aload_n C dX13_init_0 rfl 0 rfl ?_
  obtain ⟨a9, t9, b9, fs9, hro, hL, hw⟩ := ztyS hw
  refine zz_objInit9 C hR (by decide) hro dX13_init_1 q1014 q146 q147 (zz_cat10 _ (Nat.le_of_ble_eq_true rfl)) ?_
  exact zz_vret C E dX13_init_4 hw
abbrev cX14_init : ByteArray := prog_16_method_1_code
def yX14_init : MethodName := ⟨"DebateHall$Several", "<init>", "(Z)V"⟩
def dkwX14_init_0 : List UInt8 := [42, 183, 0, 1, 42, 187, 0, 7, 89, 183, 0, 9, 181, 0, 10, 42, 27, 181, 0, 16, 177]
abbrev dktX14_init_0 : List UInt8 := dkwX14_init_0 ++ []
theorem dksX14_init_0 : cX14_init.data.toList.drop 0 = dktX14_init_0 := by decide +kernel
theorem dX14_init_0 : decode cX14_init 0 = .ok (.aload_n 0, 1) := dk_42 (dk_at dksX14_init_0 0 rfl rfl)
theorem dX14_init_1 : decode cX14_init 1 = .ok (.invokespecial 1, 3) := dk_183 0 1 (dk_at dksX14_init_0 1 rfl rfl)
theorem dX14_init_4 : decode cX14_init 4 = .ok (.aload_n 0, 1) := dk_42 (dk_at dksX14_init_0 4 rfl rfl)
theorem dX14_init_5 : decode cX14_init 5 = .ok (.new 7, 3) := dk_187 0 7 (dk_at dksX14_init_0 5 rfl rfl)
theorem dX14_init_8 : decode cX14_init 8 = .ok (.dup, 1) := dk_89 (dk_at dksX14_init_0 8 rfl rfl)
theorem dX14_init_9 : decode cX14_init 9 = .ok (.invokespecial 9, 3) := dk_183 0 9 (dk_at dksX14_init_0 9 rfl rfl)
theorem dX14_init_12 : decode cX14_init 12 = .ok (.putfield 10, 3) := dk_181 0 10 (dk_at dksX14_init_0 12 rfl rfl)
theorem dX14_init_15 : decode cX14_init 15 = .ok (.aload_n 0, 1) := dk_42 (dk_at dksX14_init_0 15 rfl rfl)
theorem dX14_init_16 : decode cX14_init 16 = .ok (.iload_n 1, 1) := dk_27 (dk_at dksX14_init_0 16 rfl rfl)
theorem dX14_init_17 : decode cX14_init 17 = .ok (.putfield 16, 3) := dk_181 0 16 (dk_at dksX14_init_0 17 rfl rfl)
theorem dX14_init_20 : decode cX14_init 20 = .ok (.return_, 1) := dk_177 (dk_at dksX14_init_0 20 rfl rfl)
theorem q1013 : (Jvm.Cond.code ({ cls := "DebateHall$Test", name := "<init>", desc := "()V" } : Jvm.MethodName) prog_20_method_1_code (1 : Nat) (Option.none : Option Jvm.ClassFile.FieldType)) ∈ lw_all := lw_g (lw_at lw_m4 213 rfl) rfl
theorem zk_X13_init : zz_cd yX13_init cX13_init 1 none none ∈ lw_all := q1013
theorem zy_X13_init : zz_yok yX13_init 0 = true := by decide +kernel
theorem q1015 : (Jvm.Cond.classLink "DebateHall$Several" (7 : Nat) "java/util/ArrayList") ∈ lw_all := lw_g (lw_at lw_m4 215 rfl) rfl
theorem zf_9_1_teHall_Several : zz_fok [9] 1 "DebateHall$Several" "tests" "Ljava/util/ArrayList;" := zz_fok1 (zR_9, zT_9, 2) rfl (by decide) rfl rfl (Or.inl rfl)
theorem q1018 : (Jvm.Cond.fieldLink "DebateHall$Several" (10 : Nat) "DebateHall$Several" "tests" "Ljava/util/ArrayList;") ∈ lw_all := lw_g (lw_at lw_m4 218 rfl) rfl
theorem zq_9_1 : zz_pokF [9] 1 "DebateHall$Several" := zz_pokF1 (zR_9, zT_9, 2) (by decide) rfl rfl rfl
theorem zf_9_0_teHall_Several : zz_fok [9] 0 "DebateHall$Several" "isAll" "Z" := zz_fok1 (zR_9, zT_9, 2) rfl (by decide) rfl rfl (Or.inl rfl)
theorem q1017 : (Jvm.Cond.fieldLink "DebateHall$Several" (16 : Nat) "DebateHall$Several" "isAll" "Z") ∈ lw_all := lw_g (lw_at lw_m4 217 rfl) rfl
theorem zq_9_0 : zz_pokF [9] 0 "DebateHall$Several" := zz_pokF1 (zR_9, zT_9, 2) (by decide) rfl rfl rfl
theorem q1016 : (Jvm.Cond.methodLink "DebateHall$Several" (9 : Nat) ({ cls := "java/util/ArrayList", name := "<init>", desc := "()V" } : Jvm.MethodName)) ∈ lw_all := lw_g (lw_at lw_m4 216 rfl) rfl
theorem q1011 : (Jvm.Cond.methodLinkNest "DebateHall$Several" (1 : Nat) ({ cls := "DebateHall$Test", name := "<init>", desc := "()V" } : Jvm.MethodName) "DebateHall") ∈ lw_tbl := lw_at lw_m4 211 rfl
theorem q120 : (Jvm.Cond.initialized "DebateHall$Test") ∈ lw_all := lw_g (lw_at lw_m1 40 rfl) rfl
theorem zl_DebateHall_Test : Cond.initialized "DebateHall$Test" ∈ lw_all := q120
theorem q1012 : (Jvm.Cond.instanceMethod ({ cls := "DebateHall$Test", name := "<init>", desc := "()V" } : Jvm.MethodName)) ∈ lw_all := lw_g (lw_at lw_m4 212 rfl) rfl
def wp_X14_init (Z : zzG) (this : Option Nat) (p0 : Int32) (M : zzM) (bc bs : Nat) (K : Option Value → zzM → Prop) : Prop := zty Z M this fun _ => wp_X13_init Z this M (fun r1 M2 => zrV r1 (znew Z M2 bc bs 18 3 [.int 0, .null, .int 0] fun q5 M6 bc7 bs8 => wp_J2_init Z (some q5) M6 (fun r9 M10 => zrV r9 (zput Z M10 this [9] 1 (va_rf (some q5)) fun M13 => zfit .boolean p0 ∧ zput Z M13 this [9] 0 (.int p0) fun M14 => K none M14))))
theorem ok_X14_init {Z : zzG} {l : Launch} (hl : l.stackTraces = false) {this : Option Nat} {p0 : Int32} {M : zzM} {mc ms : Nat} {K : Option Value → zzM → Prop} (hw : wp_X14_init Z this p0 M mc ms K) : zz_Met Z l yX14_init (zz_ws yX14_init cX14_init 2 none none) 5 [va_rf this, .int p0] M mc ms K (fun _ _ _ => False) := by
  refine zz_ofW hl (plainFor_of_name (by decide)) (by simp only [zz_sl0, zz_slI, zz_slJ, zz_slA] <;> decide) (fun G hZ hll C E hH hR hin => ?_)
  subst hZ
  subst hll
  rw [show lv_args 0 [va_rf this, .int p0] = [(0, va_rf this), (1, .int p0)] by simp only [zz_la0, zz_laI, zz_laJ, zz_laA]]
  unfold wp_X14_init at hw
  refine zz_aload_n C dX14_init_0 rfl 0 rfl ?_
  obtain ⟨a9, t9, b9, fs9, hro, hL, hw⟩ := ztyS hw
  refine zz_callI (As := []) (rest := []) (mc := 0) (ms := 0) C hR hro dX14_init_1 (Or.inr ⟨_, q1011⟩) q1012 zl_DebateHall_Test zk_X13_init rfl zy_X13_init (by decide) (by decide) (ok_X13_init (zz_hl C) hw) (Nat.zero_le _) (Nat.zero_le _) (zz_cat10 _ (Nat.le_of_ble_eq_true rfl)) (fun r1 M2 hw => zz_kV hw (fun hw => ?_)) (fun _ _ _ h9 => h9.elim) rfl
  refine zz_aload_n C dX14_init_4 rfl 0 rfl ?_
  refine zz_new (r := (zR_18, zT_18, 3)) C dX14_init_5 rfl (by decide) q1015 q171 zl_java_util_ArrayList rfl hw (fun q5 M6 bc7 bs8 hw => ?_)
  refine zz_dup C dX14_init_8 (zz_cat _) ?_
  refine zz_callI (As := []) (rest := [va_rf (some q5), va_rf this]) (mc := 0) (ms := 0) C hR rfl dX14_init_9 (Or.inl q1016) q173 zl_java_util_ArrayList zk_J2_init rfl zy_J2_init (by decide) (by decide) (ok_J2_init (zz_hl C) hw) (Nat.zero_le _) (Nat.zero_le _) (zz_cat10 _ (Nat.le_of_ble_eq_true rfl)) (fun r9 M10 hw => zz_kV hw (fun hw => ?_)) (fun _ _ _ h9 => h9.elim) rfl
  refine zz_putF C hin dX14_init_12 q1018 zf_9_1_teHall_Several zq_9_1 (zz_hn1 (zz_nA _ rfl (some q5))) hw (fun M13 hw => ?_)
  refine zz_aload_n C dX14_init_15 rfl 0 rfl ?_
  refine zz_iload_n C dX14_init_16 rfl 1 rfl ?_
  obtain ⟨hfit, hw⟩ := hw
  refine zz_putF C hin dX14_init_17 q1017 zf_9_0_teHall_Several zq_9_0 (zz_hn1 hfit) hw (fun M14 hw => ?_)
  exact zz_vret C E dX14_init_20 hw
abbrev cX6_deeper : ByteArray := prog_13_method_7_code
def yX6_deeper : MethodName := ⟨"DebateHall$Reader", "deeper", "(Ljava/lang/String;)V"⟩
def dkwX6_deeper_1 : List UInt8 := [191, 42, 89, 180, 0, 52, 4, 96, 181, 0, 52, 42, 89, 180, 0, 15, 4, 96, 181, 0, 15, 177]
abbrev dktX6_deeper_1 : List UInt8 := dkwX6_deeper_1 ++ []
def dkwX6_deeper_0 : List UInt8 := [42, 182, 0, 29, 43, 182, 0, 37, 153, 0, 12, 42, 180, 0, 52, 16, 6, 160, 0, 8, 42, 182, 0, 44]
abbrev dktX6_deeper_0 : List UInt8 := dkwX6_deeper_0 ++ dktX6_deeper_1
theorem dksX6_deeper_0 : cX6_deeper.data.toList.drop 0 = dktX6_deeper_0 := by decide +kernel
theorem dksX6_deeper_1 : cX6_deeper.data.toList.drop 24 = dktX6_deeper_1 := dk_seg dksX6_deeper_0 24 rfl rfl
theorem dX6_deeper_0 : decode cX6_deeper 0 = .ok (.aload_n 0, 1) := dk_42 (dk_at dksX6_deeper_0 0 rfl rfl)
theorem dX6_deeper_1 : decode cX6_deeper 1 = .ok (.invokevirtual 29, 3) := dk_182 0 29 (dk_at dksX6_deeper_0 1 rfl rfl)
theorem dX6_deeper_4 : decode cX6_deeper 4 = .ok (.aload_n 1, 1) := dk_43 (dk_at dksX6_deeper_0 4 rfl rfl)
theorem dX6_deeper_5 : decode cX6_deeper 5 = .ok (.invokevirtual 37, 3) := dk_182 0 37 (dk_at dksX6_deeper_0 5 rfl rfl)
theorem dX6_deeper_8 : decode cX6_deeper 8 = .ok (.ifCond .eq 12, 3) := dk_153 0 12 (dk_at dksX6_deeper_0 8 rfl rfl)
theorem dX6_deeper_11 : decode cX6_deeper 11 = .ok (.aload_n 0, 1) := dk_42 (dk_at dksX6_deeper_0 11 rfl rfl)
theorem dX6_deeper_12 : decode cX6_deeper 12 = .ok (.getfield 52, 3) := dk_180 0 52 (dk_at dksX6_deeper_0 12 rfl rfl)
theorem dX6_deeper_15 : decode cX6_deeper 15 = .ok (.bipush 6, 2) := dk_16 6 (dk_at dksX6_deeper_0 15 rfl rfl)
theorem dX6_deeper_17 : decode cX6_deeper 17 = .ok (.if_icmp .ne 8, 3) := dk_160 0 8 (dk_at dksX6_deeper_0 17 rfl rfl)
theorem dX6_deeper_20 : decode cX6_deeper 20 = .ok (.aload_n 0, 1) := dk_42 (dk_at dksX6_deeper_0 20 rfl rfl)
theorem dX6_deeper_21 : decode cX6_deeper 21 = .ok (.invokevirtual 44, 3) := dk_182 0 44 (dk_at dksX6_deeper_0 21 rfl rfl)
theorem dX6_deeper_24 : decode cX6_deeper 24 = .ok (.athrow, 1) := dk_191 (dk_at dksX6_deeper_1 0 rfl rfl)
theorem dX6_deeper_25 : decode cX6_deeper 25 = .ok (.aload_n 0, 1) := dk_42 (dk_at dksX6_deeper_1 1 rfl rfl)
theorem dX6_deeper_26 : decode cX6_deeper 26 = .ok (.dup, 1) := dk_89 (dk_at dksX6_deeper_1 2 rfl rfl)
theorem dX6_deeper_27 : decode cX6_deeper 27 = .ok (.getfield 52, 3) := dk_180 0 52 (dk_at dksX6_deeper_1 3 rfl rfl)
theorem dX6_deeper_30 : decode cX6_deeper 30 = .ok (.iconst 1, 1) := dk_4 (dk_at dksX6_deeper_1 6 rfl rfl)
theorem dX6_deeper_31 : decode cX6_deeper 31 = .ok (.iadd, 1) := dk_96 (dk_at dksX6_deeper_1 7 rfl rfl)
theorem dX6_deeper_32 : decode cX6_deeper 32 = .ok (.putfield 52, 3) := dk_181 0 52 (dk_at dksX6_deeper_1 8 rfl rfl)
theorem dX6_deeper_35 : decode cX6_deeper 35 = .ok (.aload_n 0, 1) := dk_42 (dk_at dksX6_deeper_1 11 rfl rfl)
theorem dX6_deeper_36 : decode cX6_deeper 36 = .ok (.dup, 1) := dk_89 (dk_at dksX6_deeper_1 12 rfl rfl)
theorem dX6_deeper_37 : decode cX6_deeper 37 = .ok (.getfield 15, 3) := dk_180 0 15 (dk_at dksX6_deeper_1 13 rfl rfl)
theorem dX6_deeper_40 : decode cX6_deeper 40 = .ok (.iconst 1, 1) := dk_4 (dk_at dksX6_deeper_1 16 rfl rfl)
theorem dX6_deeper_41 : decode cX6_deeper 41 = .ok (.iadd, 1) := dk_96 (dk_at dksX6_deeper_1 17 rfl rfl)
theorem dX6_deeper_42 : decode cX6_deeper 42 = .ok (.putfield 15, 3) := dk_181 0 15 (dk_at dksX6_deeper_1 18 rfl rfl)
theorem dX6_deeper_45 : decode cX6_deeper 45 = .ok (.return_, 1) := dk_177 (dk_at dksX6_deeper_1 21 rfl rfl)
theorem zf_3_2_ateHall_Reader : zz_fok [3] 2 "DebateHall$Reader" "depth" "I" := zz_fok1 (zR_3, zT_3, 3) rfl (by decide) rfl rfl (Or.inl rfl)
theorem q852 : (Jvm.Cond.fieldLink "DebateHall$Reader" (52 : Nat) "DebateHall$Reader" "depth" "I") ∈ lw_all := lw_g (lw_at lw_m4 52 rfl) rfl
theorem zp_3_2 : zz_pok [3] 2 := zz_pok1 (zR_3, zT_3, 3) (by decide) rfl rfl
def wp_X6_deeper_B20 (Z : zzG) (K : Option Value → zzM → Prop) (X : Nat → Nat → zzM → Prop) (v0 : Option Nat) (M : zzM) (bc bs : Nat) : Prop := zty Z M v0 fun t => t = 3 ∧ zcc bc bs (fun c s k => wp_X6_wrong Z v0 M c s k) fun r16 M17 bc18 bs19 => zrA r16 fun x20 => zthr Z M17 x20 [6] fun _ q21 => X 6 q21 M17
def wp_X6_deeper (Z : zzG) (this : Option Nat) (p0 : Option Nat) (M : zzM) (bc bs : Nat) (K : Option Value → zzM → Prop) (X : Nat → Nat → zzM → Prop) : Prop := zty Z M this fun t => t = 3 ∧ wp_X6_now Z this M (fun r1 M2 => zrA r1 fun x5 => zty Z M2 x5 fun t => t = 5 ∧ wp_X8_is Z x5 p0 M2 (fun r6 M7 => zrI r6 fun x10 => if x10 = 0 then (wp_X6_deeper_B20 Z K X this M7 bc bs) else (zgI Z M7 this [3] 2 fun x11 => if x11 = (6 : Int32) then (wp_X6_deeper_B20 Z K X this M7 bc bs) else (zgI Z M7 this [3] 2 fun x12 => zput Z M7 this [3] 2 (.int (x12 + (1 : Int32))) fun M13 => zgI Z M13 this [3] 1 fun x14 => zput Z M13 this [3] 1 (.int (x14 + (1 : Int32))) fun M15 => K none M15))))
theorem ok_X6_deeper_B20 {G : zzX} (C : zz_C G cX6_deeper "DebateHall$Reader" 2) {K : Option Value → zzM → Prop} {X : Nat → Nat → zzM → Prop} (E : zz_E G none K X) (hH : zz_H G []) (hR : zz_Rm G 8) {v0 : Option Nat} {M : zzM} {bc bs : Nat} (hw : wp_X6_deeper_B20 (zz_Zof G) K X v0 M bc bs) : zz_T G 2 M bc bs 20 [(0, va_rf v0)] [] := by
  unfold wp_X6_deeper_B20 at hw
  refine zz_aload_n C dX6_deeper_20 rfl 0 rfl ?_
  obtain ⟨a9, t9, b9, fs9, hro, hL, rfl, hw⟩ := ztyS hw
  obtain ⟨c9, s9, hc9, hs9, hw⟩ := hw
  refine zz_callV (r := (zR_3, zT_3, 3)) (As := []) (rest := []) C hR hro dX6_deeper_21 (Or.inl q911) q913 (Or.inl qs9) zl_DebateHall_Reader zk_X6_wrong (Or.inl rfl) zy_X6_wrong rfl (by decide) (by decide) hL (ok_X6_wrong (zz_hl C) hw) hc9 hs9 (zz_cat10 _ (Nat.le_of_ble_eq_true rfl)) (fun r16 M17 hw => zz_kA hw (fun x20 hw => ?_)) (fun _ _ _ h9 => h9.elim) rfl
  refine zz_athrow C dX6_deeper_24 hw (fun t9 q21 ht hw => ?_)
  rw [List.mem_singleton] at ht
  subst ht
  exact zz_out C E hH rfl hw
theorem ok_X6_deeper {Z : zzG} {l : Launch} (hl : l.stackTraces = false) {this : Option Nat} {p0 : Option Nat} {M : zzM} {mc ms : Nat} {K : Option Value → zzM → Prop} {X : Nat → Nat → zzM → Prop} (hw : wp_X6_deeper Z this p0 M mc ms K X) : zz_Met Z l yX6_deeper (zz_ws yX6_deeper cX6_deeper 2 none none) 8 [va_rf this, va_rf p0] M mc ms K X := by
  refine zz_ofW hl (plainFor_of_name (by decide)) (by simp only [zz_sl0, zz_slI, zz_slJ, zz_slA] <;> decide) (fun G hZ hll C E hH hR hin => ?_)
  subst hZ
  subst hll
  rw [show lv_args 0 [va_rf this, va_rf p0] = [(0, va_rf this), (1, va_rf p0)] by simp only [zz_la0, zz_laI, zz_laJ, zz_laA]]
  unfold wp_X6_deeper at hw
  refine zz_aload_n C dX6_deeper_0 rfl 0 rfl ?_
  obtain ⟨a9, t9, b9, fs9, hro, hL, rfl, hw⟩ := ztyS hw
  refine zz_callV (r := (zR_3, zT_3, 3)) (As := []) (rest := []) (mc := 0) (ms := 0) C hR hro dX6_deeper_1 (Or.inl q866) q868 (Or.inl qs5) zl_DebateHall_Reader zk_X6_now (Or.inl rfl) zy_X6_now rfl (by decide) (by decide) hL (ok_X6_now (zz_hl C) hw) (Nat.zero_le _) (Nat.zero_le _) (zz_cat10 _ (Nat.le_of_ble_eq_true rfl)) (fun r1 M2 hw => zz_kA hw (fun x5 hw => ?_)) (fun _ _ _ h9 => h9.elim) rfl
  refine zz_aload_n C dX6_deeper_4 rfl 1 rfl ?_
  obtain ⟨a9, t9, b9, fs9, hro, hL, rfl, hw⟩ := ztyS hw
  refine zz_callV (r := (zR_5, zT_5, 3)) (As := [va_rf p0]) (rest := []) (mc := 0) (ms := 0) C hR hro dX6_deeper_5 (Or.inl q899) q900 (Or.inl q901) zl_DebateHall_Token zk_X8_is (Or.inl rfl) zy_X8_is rfl (by decide) (by decide) hL (ok_X8_is (zz_hl C) hw) (Nat.zero_le _) (Nat.zero_le _) (zz_cat10 _ (Nat.le_of_ble_eq_true rfl)) (fun r6 M7 hw => zz_kI hw (fun x10 hw => ?_)) (fun _ _ _ h9 => h9.elim) rfl
  refine zz_if_eq (tgt := 20) C dX6_deeper_8 (by decide) hw (fun hw => ?_) (fun hw => ?_)
  · refine zz_subP [0] rfl ?_
    exact ok_X6_deeper_B20 C E hH hR hw
  · refine zz_aload_n C dX6_deeper_11 rfl 0 rfl ?_
    refine zz_getI C dX6_deeper_12 (Or.inl q852) zf_3_2_ateHall_Reader hw (fun x11 hw => ?_)
    refine zz_bipush (v := (6 : Int32)) C dX6_deeper_15 (by decide) ?_
    refine zz_icmp_ne (tgt := 25) C dX6_deeper_17 (by decide) hw (fun hw => ?_) (fun hw => ?_)
    · refine zz_aload_n C dX6_deeper_25 rfl 0 rfl ?_
      refine zz_dup C dX6_deeper_26 (zz_cat _) ?_
      refine zz_getI C dX6_deeper_27 (Or.inl q852) zf_3_2_ateHall_Reader hw (fun x12 hw => ?_)
      refine zz_iconst (v := (1 : Int32)) C dX6_deeper_30 (by decide) ?_
      refine zz_iadd C dX6_deeper_31 ?_
      refine zz_put C dX6_deeper_32 (Or.inl q852) zf_3_2_ateHall_Reader zp_3_2 (zz_hn1 ⟨rfl, rfl⟩) hw (fun M13 hw => ?_)
      refine zz_aload_n C dX6_deeper_35 rfl 0 rfl ?_
      refine zz_dup C dX6_deeper_36 (zz_cat _) ?_
      refine zz_getI C dX6_deeper_37 (Or.inl q851) zf_3_1_ateHall_Reader hw (fun x14 hw => ?_)
      refine zz_iconst (v := (1 : Int32)) C dX6_deeper_40 (by decide) ?_
      refine zz_iadd C dX6_deeper_41 ?_
      refine zz_put C dX6_deeper_42 (Or.inl q851) zf_3_1_ateHall_Reader zp_3_1 (zz_hn1 ⟨rfl, rfl⟩) hw (fun M15 hw => ?_)
      exact zz_vret C E dX6_deeper_45 hw
    · refine zz_subP [0] rfl ?_
      exact ok_X6_deeper_B20 C E hH hR hw
abbrev cX15_init : ByteArray := prog_4_method_1_code
def yX15_init : MethodName := ⟨"DebateHall$Denied", "<init>", "(LDebateHall$Test;)V"⟩
def dkwX15_init_0 : List UInt8 := [42, 183, 0, 1, 42, 43, 181, 0, 7, 177]
abbrev dktX15_init_0 : List UInt8 := dkwX15_init_0 ++ []
theorem dksX15_init_0 : cX15_init.data.toList.drop 0 = dktX15_init_0 := by decide +kernel
theorem dX15_init_0 : decode cX15_init 0 = .ok (.aload_n 0, 1) := dk_42 (dk_at dksX15_init_0 0 rfl rfl)
theorem dX15_init_1 : decode cX15_init 1 = .ok (.invokespecial 1, 3) := dk_183 0 1 (dk_at dksX15_init_0 1 rfl rfl)
theorem dX15_init_4 : decode cX15_init 4 = .ok (.aload_n 0, 1) := dk_42 (dk_at dksX15_init_0 4 rfl rfl)
theorem dX15_init_5 : decode cX15_init 5 = .ok (.aload_n 1, 1) := dk_43 (dk_at dksX15_init_0 5 rfl rfl)
theorem dX15_init_6 : decode cX15_init 6 = .ok (.putfield 7, 3) := dk_181 0 7 (dk_at dksX15_init_0 6 rfl rfl)
theorem dX15_init_9 : decode cX15_init 9 = .ok (.return_, 1) := dk_177 (dk_at dksX15_init_0 9 rfl rfl)
theorem zf_10_0_ateHall_Denied : zz_fok [10] 0 "DebateHall$Denied" "test" "LDebateHall$Test;" := zz_fok1 (zR_10, zT_10, 1) rfl (by decide) rfl rfl (Or.inl rfl)
theorem q1044 : (Jvm.Cond.fieldLink "DebateHall$Denied" (7 : Nat) "DebateHall$Denied" "test" "LDebateHall$Test;") ∈ lw_all := lw_g (lw_at lw_m5 4 rfl) rfl
theorem zq_10_0 : zz_pokF [10] 0 "DebateHall$Denied" := zz_pokF1 (zR_10, zT_10, 1) (by decide) rfl rfl rfl
theorem q1043 : (Jvm.Cond.methodLinkNest "DebateHall$Denied" (1 : Nat) ({ cls := "DebateHall$Test", name := "<init>", desc := "()V" } : Jvm.MethodName) "DebateHall") ∈ lw_tbl := lw_at lw_m5 3 rfl
def wp_X15_init (Z : zzG) (this : Option Nat) (p0 : Option Nat) (M : zzM) (K : Option Value → zzM → Prop) : Prop := zty Z M this fun _ => wp_X13_init Z this M (fun r1 M2 => zrV r1 (zput Z M2 this [10] 0 (va_rf p0) fun M5 => K none M5))
theorem ok_X15_init {Z : zzG} {l : Launch} (hl : l.stackTraces = false) {this : Option Nat} {p0 : Option Nat} {M : zzM} {mc ms : Nat} {K : Option Value → zzM → Prop} (hw : wp_X15_init Z this p0 M K) : zz_Met Z l yX15_init (zz_ws yX15_init cX15_init 2 none none) 3 [va_rf this, va_rf p0] M mc ms K (fun _ _ _ => False) := by
  refine zz_ofW hl (plainFor_of_name (by decide)) (by simp only [zz_sl0, zz_slI, zz_slJ, zz_slA] <;> decide) (fun G hZ hll C E hH hR hin => ?_)
  subst hZ
  subst hll
  rw [show lv_args 0 [va_rf this, va_rf p0] = [(0, va_rf this), (1, va_rf p0)] by simp only [zz_la0, zz_laI, zz_laJ, zz_laA]]
  unfold wp_X15_init at hw
  refine zz_aload_n C dX15_init_0 rfl 0 rfl ?_
  obtain ⟨a9, t9, b9, fs9, hro, hL, hw⟩ := ztyS hw
  refine zz_callI (As := []) (rest := []) (mc := 0) (ms := 0) C hR hro dX15_init_1 (Or.inr ⟨_, q1043⟩) q1012 zl_DebateHall_Test zk_X13_init rfl zy_X13_init (by decide) (by decide) (ok_X13_init (zz_hl C) hw) (Nat.zero_le _) (Nat.zero_le _) (zz_cat10 _ (Nat.le_of_ble_eq_true rfl)) (fun r1 M2 hw => zz_kV hw (fun hw => ?_)) (fun _ _ _ h9 => h9.elim) rfl
  refine zz_aload_n C dX15_init_4 rfl 0 rfl ?_
  refine zz_aload_n C dX15_init_5 rfl 1 rfl ?_
  refine zz_putF C hin dX15_init_6 q1044 zf_10_0_ateHall_Denied zq_10_0 (zz_hn1 (zz_nA _ rfl p0)) hw (fun M5 hw => ?_)
  exact zz_vret C E dX15_init_9 hw
abbrev cX16_init : ByteArray := prog_2_method_1_code
def yX16_init : MethodName := ⟨"DebateHall$Asked", "<init>", "(Ljava/lang/String;LDebateHall$Token;)V"⟩
def dkwX16_init_0 : List UInt8 := [42, 183, 0, 1, 42, 43, 181, 0, 7, 42, 44, 181, 0, 13, 177]
abbrev dktX16_init_0 : List UInt8 := dkwX16_init_0 ++ []
theorem dksX16_init_0 : cX16_init.data.toList.drop 0 = dktX16_init_0 := by decide +kernel
theorem dX16_init_0 : decode cX16_init 0 = .ok (.aload_n 0, 1) := dk_42 (dk_at dksX16_init_0 0 rfl rfl)
theorem dX16_init_1 : decode cX16_init 1 = .ok (.invokespecial 1, 3) := dk_183 0 1 (dk_at dksX16_init_0 1 rfl rfl)
theorem dX16_init_4 : decode cX16_init 4 = .ok (.aload_n 0, 1) := dk_42 (dk_at dksX16_init_0 4 rfl rfl)
theorem dX16_init_5 : decode cX16_init 5 = .ok (.aload_n 1, 1) := dk_43 (dk_at dksX16_init_0 5 rfl rfl)
theorem dX16_init_6 : decode cX16_init 6 = .ok (.putfield 7, 3) := dk_181 0 7 (dk_at dksX16_init_0 6 rfl rfl)
theorem dX16_init_9 : decode cX16_init 9 = .ok (.aload_n 0, 1) := dk_42 (dk_at dksX16_init_0 9 rfl rfl)
theorem dX16_init_10 : decode cX16_init 10 = .ok (.aload_n 2, 1) := dk_44 (dk_at dksX16_init_0 10 rfl rfl)
theorem dX16_init_11 : decode cX16_init 11 = .ok (.putfield 13, 3) := dk_181 0 13 (dk_at dksX16_init_0 11 rfl rfl)
theorem dX16_init_14 : decode cX16_init 14 = .ok (.return_, 1) := dk_177 (dk_at dksX16_init_0 14 rfl rfl)
theorem zf_11_0_bateHall_Asked : zz_fok [11] 0 "DebateHall$Asked" "what" "Ljava/lang/String;" := zz_fok1 (zR_11, zT_11, 2) rfl (by decide) rfl rfl (Or.inl rfl)
theorem q1060 : (Jvm.Cond.fieldLink "DebateHall$Asked" (7 : Nat) "DebateHall$Asked" "what" "Ljava/lang/String;") ∈ lw_all := lw_g (lw_at lw_m5 20 rfl) rfl
theorem zq_11_0 : zz_pokF [11] 0 "DebateHall$Asked" := zz_pokF1 (zR_11, zT_11, 2) (by decide) rfl rfl rfl
theorem zf_11_1_bateHall_Asked : zz_fok [11] 1 "DebateHall$Asked" "name" "LDebateHall$Token;" := zz_fok1 (zR_11, zT_11, 2) rfl (by decide) rfl rfl (Or.inl rfl)
theorem q1061 : (Jvm.Cond.fieldLink "DebateHall$Asked" (13 : Nat) "DebateHall$Asked" "name" "LDebateHall$Token;") ∈ lw_all := lw_g (lw_at lw_m5 21 rfl) rfl
theorem zq_11_1 : zz_pokF [11] 1 "DebateHall$Asked" := zz_pokF1 (zR_11, zT_11, 2) (by decide) rfl rfl rfl
theorem q1059 : (Jvm.Cond.methodLinkNest "DebateHall$Asked" (1 : Nat) ({ cls := "DebateHall$Test", name := "<init>", desc := "()V" } : Jvm.MethodName) "DebateHall") ∈ lw_tbl := lw_at lw_m5 19 rfl
def wp_X16_init (Z : zzG) (this : Option Nat) (p0 : Option Nat) (p1 : Option Nat) (M : zzM) (K : Option Value → zzM → Prop) : Prop := zty Z M this fun _ => wp_X13_init Z this M (fun r1 M2 => zrV r1 (zput Z M2 this [11] 0 (va_rf p0) fun M5 => zput Z M5 this [11] 1 (va_rf p1) fun M6 => K none M6))
theorem ok_X16_init {Z : zzG} {l : Launch} (hl : l.stackTraces = false) {this : Option Nat} {p0 : Option Nat} {p1 : Option Nat} {M : zzM} {mc ms : Nat} {K : Option Value → zzM → Prop} (hw : wp_X16_init Z this p0 p1 M K) : zz_Met Z l yX16_init (zz_ws yX16_init cX16_init 3 none none) 3 [va_rf this, va_rf p0, va_rf p1] M mc ms K (fun _ _ _ => False) := by
  refine zz_ofW hl (plainFor_of_name (by decide)) (by simp only [zz_sl0, zz_slI, zz_slJ, zz_slA] <;> decide) (fun G hZ hll C E hH hR hin => ?_)
  subst hZ
  subst hll
  rw [show lv_args 0 [va_rf this, va_rf p0, va_rf p1] = [(0, va_rf this), (1, va_rf p0), (2, va_rf p1)] by simp only [zz_la0, zz_laI, zz_laJ, zz_laA]]
  unfold wp_X16_init at hw
  refine zz_aload_n C dX16_init_0 rfl 0 rfl ?_
  obtain ⟨a9, t9, b9, fs9, hro, hL, hw⟩ := ztyS hw
  refine zz_callI (As := []) (rest := []) (mc := 0) (ms := 0) C hR hro dX16_init_1 (Or.inr ⟨_, q1059⟩) q1012 zl_DebateHall_Test zk_X13_init rfl zy_X13_init (by decide) (by decide) (ok_X13_init (zz_hl C) hw) (Nat.zero_le _) (Nat.zero_le _) (zz_cat10 _ (Nat.le_of_ble_eq_true rfl)) (fun r1 M2 hw => zz_kV hw (fun hw => ?_)) (fun _ _ _ h9 => h9.elim) rfl
  refine zz_aload_n C dX16_init_4 rfl 0 rfl ?_
  refine zz_aload_n C dX16_init_5 rfl 1 rfl ?_
  refine zz_putF C hin dX16_init_6 q1060 zf_11_0_bateHall_Asked zq_11_0 (zz_hn1 (zz_nA _ rfl p0)) hw (fun M5 hw => ?_)
  refine zz_aload_n C dX16_init_9 rfl 0 rfl ?_
  refine zz_aload_n C dX16_init_10 rfl 2 rfl ?_
  refine zz_putF C hin dX16_init_11 q1061 zf_11_1_bateHall_Asked zq_11_1 (zz_hn1 (zz_nA _ rfl p1)) hw (fun M6 hw => ?_)
  exact zz_vret C E dX16_init_14 hw
