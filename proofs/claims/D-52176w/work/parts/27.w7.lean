set_option maxRecDepth 100000
abbrev cX3_add : ByteArray := prog_12_method_3_code
def yX3_add : MethodName := ⟨"DebateHall$Minutes", "add", "(LDebateHall$Speaker;)V"⟩
def dkwX3_add_0 : List UInt8 := [42, 180, 0, 12, 43, 182, 0, 110, 87, 42, 180, 0, 24, 43, 180, 0, 61, 43, 182, 0, 113, 87, 177]
abbrev dktX3_add_0 : List UInt8 := dkwX3_add_0 ++ []
theorem dksX3_add_0 : cX3_add.data.toList.drop 0 = dktX3_add_0 := by decide +kernel
theorem dX3_add_0 : decode cX3_add 0 = .ok (.aload_n 0, 1) := dk_42 (dk_at dksX3_add_0 0 rfl rfl)
theorem dX3_add_1 : decode cX3_add 1 = .ok (.getfield 12, 3) := dk_180 0 12 (dk_at dksX3_add_0 1 rfl rfl)
theorem dX3_add_4 : decode cX3_add 4 = .ok (.aload_n 1, 1) := dk_43 (dk_at dksX3_add_0 4 rfl rfl)
theorem dX3_add_5 : decode cX3_add 5 = .ok (.invokevirtual 110, 3) := dk_182 0 110 (dk_at dksX3_add_0 5 rfl rfl)
theorem dX3_add_8 : decode cX3_add 8 = .ok (.pop, 1) := dk_87 (dk_at dksX3_add_0 8 rfl rfl)
theorem dX3_add_9 : decode cX3_add 9 = .ok (.aload_n 0, 1) := dk_42 (dk_at dksX3_add_0 9 rfl rfl)
theorem dX3_add_10 : decode cX3_add 10 = .ok (.getfield 24, 3) := dk_180 0 24 (dk_at dksX3_add_0 10 rfl rfl)
theorem dX3_add_13 : decode cX3_add 13 = .ok (.aload_n 1, 1) := dk_43 (dk_at dksX3_add_0 13 rfl rfl)
theorem dX3_add_14 : decode cX3_add 14 = .ok (.getfield 61, 3) := dk_180 0 61 (dk_at dksX3_add_0 14 rfl rfl)
theorem dX3_add_17 : decode cX3_add 17 = .ok (.aload_n 1, 1) := dk_43 (dk_at dksX3_add_0 17 rfl rfl)
theorem dX3_add_18 : decode cX3_add 18 = .ok (.invokevirtual 113, 3) := dk_182 0 113 (dk_at dksX3_add_0 18 rfl rfl)
theorem dX3_add_21 : decode cX3_add 21 = .ok (.pop, 1) := dk_87 (dk_at dksX3_add_0 21 rfl rfl)
theorem dX3_add_22 : decode cX3_add 22 = .ok (.return_, 1) := dk_177 (dk_at dksX3_add_0 22 rfl rfl)
theorem q1200 : (Jvm.Cond.fieldLinkNest "DebateHall$Minutes" (61 : Nat) "DebateHall$Speaker" "name" "Ljava/lang/String;" "DebateHall") ∈ lw_tbl := lw_at lw_m5 160 rfl
theorem q1221 : (Jvm.Cond.code ({ cls := "java/util/HashMap", name := "put", desc := "(Ljava/lang/Object;Ljava/lang/Object;)Ljava/lang/Object;" } : Jvm.MethodName) prog_63_method_15_code (3 : Nat) (Option.some (Jvm.ClassFile.FieldType.object "java/lang/Object"))) ∈ lw_all := lw_g (lw_at lw_m5 181 rfl) rfl
theorem zk_J4_put : zz_cd yJ4_put cJ4_put 3 (some (.object "java/lang/Object")) none ∈ lw_all := q1221
theorem zy_J4_put : zz_yok yJ4_put 2 = true := by decide +kernel
theorem q1218 : (Jvm.Cond.methodLink "DebateHall$Minutes" (113 : Nat) ({ cls := "java/util/HashMap", name := "put", desc := "(Ljava/lang/Object;Ljava/lang/Object;)Ljava/lang/Object;" } : Jvm.MethodName)) ∈ lw_all := lw_g (lw_at lw_m5 178 rfl) rfl
theorem q1219 : (Jvm.Cond.instanceMethod ({ cls := "java/util/HashMap", name := "put", desc := "(Ljava/lang/Object;Ljava/lang/Object;)Ljava/lang/Object;" } : Jvm.MethodName)) ∈ lw_all := lw_g (lw_at lw_m5 179 rfl) rfl
theorem q1220 : (Jvm.Cond.selects "java/util/HashMap" ({ cls := "java/util/HashMap", name := "put", desc := "(Ljava/lang/Object;Ljava/lang/Object;)Ljava/lang/Object;" } : Jvm.MethodName) ({ cls := "java/util/HashMap", name := "put", desc := "(Ljava/lang/Object;Ljava/lang/Object;)Ljava/lang/Object;" } : Jvm.MethodName)) ∈ lw_all := lw_g (lw_at lw_m5 180 rfl) rfl
theorem q1217 : (Jvm.Cond.methodLink "DebateHall$Minutes" (110 : Nat) ({ cls := "java/util/ArrayList", name := "add", desc := "(Ljava/lang/Object;)Z" } : Jvm.MethodName)) ∈ lw_all := lw_g (lw_at lw_m5 177 rfl) rfl
def wp_X3_add (Z : zzG) (this : Option Nat) (p0 : Option Nat) (M : zzM) (bc bs : Nat) (K : Option Value → zzM → Prop) : Prop := zgA Z M this [2] 0 fun x1 => zty Z M x1 fun t => t = 18 ∧ zcc bc bs (fun c s k => wp_J2_add Z x1 p0 M c s k) fun r2 M3 bc4 bs5 => zrI r2 fun x6 => zgA Z M3 this [2] 2 fun x7 => zgA Z M3 p0 [14] 1 fun x8 => zty Z M3 x7 fun t => t = 19 ∧ zcc bc4 bs5 (fun c s k => wp_J4_put Z x7 x8 p0 M3 c s k) fun r9 M10 bc11 bs12 => zrA r9 fun x13 => K none M10
theorem ok_X3_add {Z : zzG} {l : Launch} (hl : l.stackTraces = false) {this : Option Nat} {p0 : Option Nat} {M : zzM} {mc ms : Nat} {K : Option Value → zzM → Prop} (hw : wp_X3_add Z this p0 M mc ms K) : zz_Met Z l yX3_add (zz_ws yX3_add cX3_add 2 none none) 74 [va_rf this, va_rf p0] M mc ms K (fun _ _ _ => False) := by
  refine zz_ofW hl (plainFor_of_name (by decide)) (by simp only [zz_sl0, zz_slI, zz_slJ, zz_slA] <;> decide) (fun G hZ hll C E hH hR hin => ?_)
  subst hZ
  subst hll
  rw [show lv_args 0 [va_rf this, va_rf p0] = [(0, va_rf this), (1, va_rf p0)] by simp only [zz_la0, zz_laI, zz_laJ, zz_laA]]
  unfold wp_X3_add at hw
  refine zz_aload_n C dX3_add_0 rfl 0 rfl ?_
  refine zz_getA C dX3_add_1 (Or.inl q231) zf_2_0_teHall_Minutes hw (fun x1 hw => ?_)
  refine zz_aload_n C dX3_add_4 rfl 1 rfl ?_
  obtain ⟨a9, t9, b9, fs9, hro, hL, rfl, hw⟩ := ztyS hw
  obtain ⟨c9, s9, hc9, hs9, hw⟩ := hw
  refine zz_callV (r := (zR_18, zT_18, 3)) (As := [va_rf p0]) (rest := []) C hR hro dX3_add_5 (Or.inl q1217) q776 (Or.inl q777) zl_java_util_ArrayList zk_J2_add (Or.inl rfl) zy_J2_add rfl (by decide) (by decide) hL (ok_J2_add (zz_hl C) hw) hc9 hs9 (zz_cat10 _ (Nat.le_of_ble_eq_true rfl)) (fun r2 M3 hw => zz_kI hw (fun x6 hw => ?_)) (fun _ _ _ h9 => h9.elim) rfl
  refine zz_pop C dX3_add_8 rfl ?_
  refine zz_aload_n C dX3_add_9 rfl 0 rfl ?_
  refine zz_getA C dX3_add_10 (Or.inl q240) zf_2_2_teHall_Minutes hw (fun x7 hw => ?_)
  refine zz_aload_n C dX3_add_13 rfl 1 rfl ?_
  refine zz_getA C dX3_add_14 (Or.inr ⟨_, q1200⟩) zf_14_1_teHall_Speaker hw (fun x8 hw => ?_)
  refine zz_aload_n C dX3_add_17 rfl 1 rfl ?_
  obtain ⟨a9, t9, b9, fs9, hro, hL, rfl, hw⟩ := ztyS hw
  obtain ⟨c9, s9, hc9, hs9, hw⟩ := hw
  refine zz_callV (r := (zR_19, zT_19, 8)) (As := [va_rf x8, va_rf p0]) (rest := []) C hR hro dX3_add_18 (Or.inl q1218) q1219 (Or.inl q1220) zl_java_util_HashMap zk_J4_put (Or.inl rfl) zy_J4_put rfl (by decide) (by decide) hL (ok_J4_put (zz_hl C) hw) hc9 hs9 (zz_cat10 _ (Nat.le_of_ble_eq_true rfl)) (fun r9 M10 hw => zz_kA hw (fun x13 hw => ?_)) (fun _ _ _ h9 => h9.elim) rfl
  refine zz_pop C dX3_add_21 (zz_cat _) ?_
  exact zz_vret C E dX3_add_22 hw
abbrev cX20_init : ByteArray := prog_6_method_1_code
def yX20_init : MethodName := ⟨"DebateHall$Item", "<init>", "(ILDebateHall$Kind;Ljava/lang/String;IILDebateHall$Item;LDebateHall$Item;)V"⟩
def dkwX20_init_1 : List UInt8 := [181, 0, 23, 42, 21, 5, 181, 0, 26, 42, 25, 6, 181, 0, 29, 42, 25, 7, 181, 0, 33, 177]
abbrev dktX20_init_1 : List UInt8 := dkwX20_init_1 ++ []
def dkwX20_init_0 : List UInt8 := [42, 183, 0, 3, 42, 27, 181, 0, 9, 42, 44, 181, 0, 15, 42, 45, 181, 0, 19, 42, 21, 4]
abbrev dktX20_init_0 : List UInt8 := dkwX20_init_0 ++ dktX20_init_1
theorem dksX20_init_0 : cX20_init.data.toList.drop 0 = dktX20_init_0 := by decide +kernel
theorem dksX20_init_1 : cX20_init.data.toList.drop 22 = dktX20_init_1 := dk_seg dksX20_init_0 22 rfl rfl
theorem dX20_init_0 : decode cX20_init 0 = .ok (.aload_n 0, 1) := dk_42 (dk_at dksX20_init_0 0 rfl rfl)
theorem dX20_init_1 : decode cX20_init 1 = .ok (.invokespecial 3, 3) := dk_183 0 3 (dk_at dksX20_init_0 1 rfl rfl)
theorem dX20_init_4 : decode cX20_init 4 = .ok (.aload_n 0, 1) := dk_42 (dk_at dksX20_init_0 4 rfl rfl)
theorem dX20_init_5 : decode cX20_init 5 = .ok (.iload_n 1, 1) := dk_27 (dk_at dksX20_init_0 5 rfl rfl)
theorem dX20_init_6 : decode cX20_init 6 = .ok (.putfield 9, 3) := dk_181 0 9 (dk_at dksX20_init_0 6 rfl rfl)
theorem dX20_init_9 : decode cX20_init 9 = .ok (.aload_n 0, 1) := dk_42 (dk_at dksX20_init_0 9 rfl rfl)
theorem dX20_init_10 : decode cX20_init 10 = .ok (.aload_n 2, 1) := dk_44 (dk_at dksX20_init_0 10 rfl rfl)
theorem dX20_init_11 : decode cX20_init 11 = .ok (.putfield 15, 3) := dk_181 0 15 (dk_at dksX20_init_0 11 rfl rfl)
theorem dX20_init_14 : decode cX20_init 14 = .ok (.aload_n 0, 1) := dk_42 (dk_at dksX20_init_0 14 rfl rfl)
theorem dX20_init_15 : decode cX20_init 15 = .ok (.aload_n 3, 1) := dk_45 (dk_at dksX20_init_0 15 rfl rfl)
theorem dX20_init_16 : decode cX20_init 16 = .ok (.putfield 19, 3) := dk_181 0 19 (dk_at dksX20_init_0 16 rfl rfl)
theorem dX20_init_19 : decode cX20_init 19 = .ok (.aload_n 0, 1) := dk_42 (dk_at dksX20_init_0 19 rfl rfl)
theorem dX20_init_20 : decode cX20_init 20 = .ok (.iload 4, 2) := dk_21 4 (dk_at dksX20_init_0 20 rfl rfl)
theorem dX20_init_22 : decode cX20_init 22 = .ok (.putfield 23, 3) := dk_181 0 23 (dk_at dksX20_init_1 0 rfl rfl)
theorem dX20_init_25 : decode cX20_init 25 = .ok (.aload_n 0, 1) := dk_42 (dk_at dksX20_init_1 3 rfl rfl)
theorem dX20_init_26 : decode cX20_init 26 = .ok (.iload 5, 2) := dk_21 5 (dk_at dksX20_init_1 4 rfl rfl)
theorem dX20_init_28 : decode cX20_init 28 = .ok (.putfield 26, 3) := dk_181 0 26 (dk_at dksX20_init_1 6 rfl rfl)
theorem dX20_init_31 : decode cX20_init 31 = .ok (.aload_n 0, 1) := dk_42 (dk_at dksX20_init_1 9 rfl rfl)
theorem dX20_init_32 : decode cX20_init 32 = .ok (.aload 6, 2) := dk_25 6 (dk_at dksX20_init_1 10 rfl rfl)
theorem dX20_init_34 : decode cX20_init 34 = .ok (.putfield 29, 3) := dk_181 0 29 (dk_at dksX20_init_1 12 rfl rfl)
theorem dX20_init_37 : decode cX20_init 37 = .ok (.aload_n 0, 1) := dk_42 (dk_at dksX20_init_1 15 rfl rfl)
theorem dX20_init_38 : decode cX20_init 38 = .ok (.aload 7, 2) := dk_25 7 (dk_at dksX20_init_1 16 rfl rfl)
theorem dX20_init_40 : decode cX20_init 40 = .ok (.putfield 33, 3) := dk_181 0 33 (dk_at dksX20_init_1 18 rfl rfl)
theorem dX20_init_43 : decode cX20_init 43 = .ok (.return_, 1) := dk_177 (dk_at dksX20_init_1 21 rfl rfl)
theorem q1733 : (Jvm.Cond.methodLink "DebateHall$Item" (3 : Nat) ({ cls := "java/lang/Object", name := "<init>", desc := "()V" } : Jvm.MethodName)) ∈ lw_all := lw_g (lw_at lw_m7 213 rfl) rfl
theorem zq_15_0 : zz_pokF [15] 0 "DebateHall$Item" := zz_pokF1 (zR_15, zT_15, 8) (by decide) rfl rfl rfl
theorem zq_15_1 : zz_pokF [15] 1 "DebateHall$Item" := zz_pokF1 (zR_15, zT_15, 8) (by decide) rfl rfl rfl
theorem q1742 : (Jvm.Cond.fieldLink "DebateHall$Item" (19 : Nat) "DebateHall$Item" "name" "Ljava/lang/String;") ∈ lw_all := lw_g (lw_at lw_m7 222 rfl) rfl
theorem zq_15_2 : zz_pokF [15] 2 "DebateHall$Item" := zz_pokF1 (zR_15, zT_15, 8) (by decide) rfl rfl rfl
theorem q1745 : (Jvm.Cond.fieldLink "DebateHall$Item" (23 : Nat) "DebateHall$Item" "speaker" "I") ∈ lw_all := lw_g (lw_at lw_m7 225 rfl) rfl
theorem zq_15_3 : zz_pokF [15] 3 "DebateHall$Item" := zz_pokF1 (zR_15, zT_15, 8) (by decide) rfl rfl rfl
theorem zq_15_4 : zz_pokF [15] 4 "DebateHall$Item" := zz_pokF1 (zR_15, zT_15, 8) (by decide) rfl rfl rfl
theorem q1754 : (Jvm.Cond.fieldLink "DebateHall$Item" (29 : Nat) "DebateHall$Item" "source" "LDebateHall$Item;") ∈ lw_all := lw_g (lw_at lw_m7 234 rfl) rfl
theorem zq_15_5 : zz_pokF [15] 5 "DebateHall$Item" := zz_pokF1 (zR_15, zT_15, 8) (by decide) rfl rfl rfl
theorem zq_15_6 : zz_pokF [15] 6 "DebateHall$Item" := zz_pokF1 (zR_15, zT_15, 8) (by decide) rfl rfl rfl
def wp_X20_init (Z : zzG) (this : Option Nat) (p0 : Int32) (p1 : Option Nat) (p2 : Option Nat) (p3 : Int32) (p4 : Int32) (p5 : Option Nat) (p6 : Option Nat) (M : zzM) (K : Option Value → zzM → Prop) : Prop := zty Z M this fun _ => zput Z M this [15] 0 (.int p0) fun M1 => zput Z M1 this [15] 1 (va_rf p1) fun M2 => zput Z M2 this [15] 2 (va_rf p2) fun M3 => zput Z M3 this [15] 3 (.int p3) fun M4 => zput Z M4 this [15] 4 (.int p4) fun M5 => zput Z M5 this [15] 5 (va_rf p5) fun M6 => zput Z M6 this [15] 6 (va_rf p6) fun M7 => K none M7
theorem ok_X20_init {Z : zzG} {l : Launch} (hl : l.stackTraces = false) {this : Option Nat} {p0 : Int32} {p1 : Option Nat} {p2 : Option Nat} {p3 : Int32} {p4 : Int32} {p5 : Option Nat} {p6 : Option Nat} {M : zzM} {mc ms : Nat} {K : Option Value → zzM → Prop} (hw : wp_X20_init Z this p0 p1 p2 p3 p4 p5 p6 M K) : zz_Met Z l yX20_init (zz_ws yX20_init cX20_init 8 none none) 2 [va_rf this, .int p0, va_rf p1, va_rf p2, .int p3, .int p4, va_rf p5, va_rf p6] M mc ms K (fun _ _ _ => False) := by
  refine zz_ofW hl (plainFor_of_name (by decide)) (by simp only [zz_sl0, zz_slI, zz_slJ, zz_slA] <;> decide) (fun G hZ hll C E hH hR hin => ?_)
  subst hZ
  subst hll
  rw [show lv_args 0 [va_rf this, .int p0, va_rf p1, va_rf p2, .int p3, .int p4, va_rf p5, va_rf p6] = [(0, va_rf this), (1, .int p0), (2, va_rf p1), (3, va_rf p2), (4, .int p3), (5, .int p4), (6, va_rf p5), (7, va_rf p6)] by simp only [zz_la0, zz_laI, zz_laJ, zz_laA]]
  unfold wp_X20_init at hw
  refine zz_aload_n C dX20_init_0 rfl 0 rfl ?_
  obtain ⟨a9, t9, b9, fs9, hro, hL, hw⟩ := ztyS hw
  refine zz_objInit9 C hR (by decide) hro dX20_init_1 q1733 q146 q147 (zz_cat10 _ (Nat.le_of_ble_eq_true rfl)) ?_
  refine zz_aload_n C dX20_init_4 rfl 0 rfl ?_
  refine zz_iload_n C dX20_init_5 rfl 1 rfl ?_
  refine zz_putF C hin dX20_init_6 q1734 zf_15_0_ebateHall_Item zq_15_0 (zz_hn1 ⟨rfl, rfl⟩) hw (fun M1 hw => ?_)
  refine zz_aload_n C dX20_init_9 rfl 0 rfl ?_
  refine zz_aload_n C dX20_init_10 rfl 2 rfl ?_
  refine zz_putF C hin dX20_init_11 q1737 zf_15_1_ebateHall_Item zq_15_1 (zz_hn1 (zz_nA _ rfl p1)) hw (fun M2 hw => ?_)
  refine zz_aload_n C dX20_init_14 rfl 0 rfl ?_
  refine zz_aload_n C dX20_init_15 rfl 3 rfl ?_
  refine zz_putF C hin dX20_init_16 q1742 zf_15_2_ebateHall_Item zq_15_2 (zz_hn1 (zz_nA _ rfl p2)) hw (fun M3 hw => ?_)
  refine zz_aload_n C dX20_init_19 rfl 0 rfl ?_
  refine zz_iload C dX20_init_20 4 rfl ?_
  refine zz_putF C hin dX20_init_22 q1745 zf_15_3_ebateHall_Item zq_15_3 (zz_hn1 ⟨rfl, rfl⟩) hw (fun M4 hw => ?_)
  refine zz_aload_n C dX20_init_25 rfl 0 rfl ?_
  refine zz_iload C dX20_init_26 5 rfl ?_
  refine zz_putF C hin dX20_init_28 q1750 zf_15_4_ebateHall_Item zq_15_4 (zz_hn1 ⟨rfl, rfl⟩) hw (fun M5 hw => ?_)
  refine zz_aload_n C dX20_init_31 rfl 0 rfl ?_
  refine zz_aload C dX20_init_32 6 rfl ?_
  refine zz_putF C hin dX20_init_34 q1754 zf_15_5_ebateHall_Item zq_15_5 (zz_hn1 (zz_nA _ rfl p5)) hw (fun M6 hw => ?_)
  refine zz_aload_n C dX20_init_37 rfl 0 rfl ?_
  refine zz_aload C dX20_init_38 7 rfl ?_
  refine zz_putF C hin dX20_init_40 q1757 zf_15_6_ebateHall_Item zq_15_6 (zz_hn1 (zz_nA _ rfl p6)) hw (fun M7 hw => ?_)
  exact zz_vret C E dX20_init_43 hw
abbrev cX3_add_2 : ByteArray := prog_12_method_4_code
def yX3_add_2 : MethodName := ⟨"DebateHall$Minutes", "add", "(LDebateHall$Item;)V"⟩
def dkwX3_add_2_0 : List UInt8 := [42, 180, 0, 18, 43, 182, 0, 110, 87, 42, 180, 0, 28, 43, 180, 0, 93, 43, 182, 0, 113, 87, 177]
abbrev dktX3_add_2_0 : List UInt8 := dkwX3_add_2_0 ++ []
theorem dksX3_add_2_0 : cX3_add_2.data.toList.drop 0 = dktX3_add_2_0 := by decide +kernel
theorem dX3_add_2_0 : decode cX3_add_2 0 = .ok (.aload_n 0, 1) := dk_42 (dk_at dksX3_add_2_0 0 rfl rfl)
theorem dX3_add_2_1 : decode cX3_add_2 1 = .ok (.getfield 18, 3) := dk_180 0 18 (dk_at dksX3_add_2_0 1 rfl rfl)
theorem dX3_add_2_4 : decode cX3_add_2 4 = .ok (.aload_n 1, 1) := dk_43 (dk_at dksX3_add_2_0 4 rfl rfl)
theorem dX3_add_2_5 : decode cX3_add_2 5 = .ok (.invokevirtual 110, 3) := dk_182 0 110 (dk_at dksX3_add_2_0 5 rfl rfl)
theorem dX3_add_2_8 : decode cX3_add_2 8 = .ok (.pop, 1) := dk_87 (dk_at dksX3_add_2_0 8 rfl rfl)
theorem dX3_add_2_9 : decode cX3_add_2 9 = .ok (.aload_n 0, 1) := dk_42 (dk_at dksX3_add_2_0 9 rfl rfl)
theorem dX3_add_2_10 : decode cX3_add_2 10 = .ok (.getfield 28, 3) := dk_180 0 28 (dk_at dksX3_add_2_0 10 rfl rfl)
theorem dX3_add_2_13 : decode cX3_add_2 13 = .ok (.aload_n 1, 1) := dk_43 (dk_at dksX3_add_2_0 13 rfl rfl)
theorem dX3_add_2_14 : decode cX3_add_2 14 = .ok (.getfield 93, 3) := dk_180 0 93 (dk_at dksX3_add_2_0 14 rfl rfl)
theorem dX3_add_2_17 : decode cX3_add_2 17 = .ok (.aload_n 1, 1) := dk_43 (dk_at dksX3_add_2_0 17 rfl rfl)
theorem dX3_add_2_18 : decode cX3_add_2 18 = .ok (.invokevirtual 113, 3) := dk_182 0 113 (dk_at dksX3_add_2_0 18 rfl rfl)
theorem dX3_add_2_21 : decode cX3_add_2 21 = .ok (.pop, 1) := dk_87 (dk_at dksX3_add_2_0 21 rfl rfl)
theorem dX3_add_2_22 : decode cX3_add_2 22 = .ok (.return_, 1) := dk_177 (dk_at dksX3_add_2_0 22 rfl rfl)
theorem q1743 : (Jvm.Cond.fieldLinkNest "DebateHall$Minutes" (93 : Nat) "DebateHall$Item" "name" "Ljava/lang/String;" "DebateHall") ∈ lw_tbl := lw_at lw_m7 223 rfl
def wp_X3_add_2 (Z : zzG) (this : Option Nat) (p0 : Option Nat) (M : zzM) (bc bs : Nat) (K : Option Value → zzM → Prop) : Prop := zgA Z M this [2] 1 fun x1 => zty Z M x1 fun t => t = 18 ∧ zcc bc bs (fun c s k => wp_J2_add Z x1 p0 M c s k) fun r2 M3 bc4 bs5 => zrI r2 fun x6 => zgA Z M3 this [2] 3 fun x7 => zgA Z M3 p0 [15] 2 fun x8 => zty Z M3 x7 fun t => t = 19 ∧ zcc bc4 bs5 (fun c s k => wp_J4_put Z x7 x8 p0 M3 c s k) fun r9 M10 bc11 bs12 => zrA r9 fun x13 => K none M10
theorem ok_X3_add_2 {Z : zzG} {l : Launch} (hl : l.stackTraces = false) {this : Option Nat} {p0 : Option Nat} {M : zzM} {mc ms : Nat} {K : Option Value → zzM → Prop} (hw : wp_X3_add_2 Z this p0 M mc ms K) : zz_Met Z l yX3_add_2 (zz_ws yX3_add_2 cX3_add_2 2 none none) 74 [va_rf this, va_rf p0] M mc ms K (fun _ _ _ => False) := by
  refine zz_ofW hl (plainFor_of_name (by decide)) (by simp only [zz_sl0, zz_slI, zz_slJ, zz_slA] <;> decide) (fun G hZ hll C E hH hR hin => ?_)
  subst hZ
  subst hll
  rw [show lv_args 0 [va_rf this, va_rf p0] = [(0, va_rf this), (1, va_rf p0)] by simp only [zz_la0, zz_laI, zz_laJ, zz_laA]]
  unfold wp_X3_add_2 at hw
  refine zz_aload_n C dX3_add_2_0 rfl 0 rfl ?_
  refine zz_getA C dX3_add_2_1 (Or.inl q235) zf_2_1_teHall_Minutes hw (fun x1 hw => ?_)
  refine zz_aload_n C dX3_add_2_4 rfl 1 rfl ?_
  obtain ⟨a9, t9, b9, fs9, hro, hL, rfl, hw⟩ := ztyS hw
  obtain ⟨c9, s9, hc9, hs9, hw⟩ := hw
  refine zz_callV (r := (zR_18, zT_18, 3)) (As := [va_rf p0]) (rest := []) C hR hro dX3_add_2_5 (Or.inl q1217) q776 (Or.inl q777) zl_java_util_ArrayList zk_J2_add (Or.inl rfl) zy_J2_add rfl (by decide) (by decide) hL (ok_J2_add (zz_hl C) hw) hc9 hs9 (zz_cat10 _ (Nat.le_of_ble_eq_true rfl)) (fun r2 M3 hw => zz_kI hw (fun x6 hw => ?_)) (fun _ _ _ h9 => h9.elim) rfl
  refine zz_pop C dX3_add_2_8 rfl ?_
  refine zz_aload_n C dX3_add_2_9 rfl 0 rfl ?_
  refine zz_getA C dX3_add_2_10 (Or.inl q243) zf_2_3_teHall_Minutes hw (fun x7 hw => ?_)
  refine zz_aload_n C dX3_add_2_13 rfl 1 rfl ?_
  refine zz_getA C dX3_add_2_14 (Or.inr ⟨_, q1743⟩) zf_15_2_ebateHall_Item hw (fun x8 hw => ?_)
  refine zz_aload_n C dX3_add_2_17 rfl 1 rfl ?_
  obtain ⟨a9, t9, b9, fs9, hro, hL, rfl, hw⟩ := ztyS hw
  obtain ⟨c9, s9, hc9, hs9, hw⟩ := hw
  refine zz_callV (r := (zR_19, zT_19, 8)) (As := [va_rf x8, va_rf p0]) (rest := []) C hR hro dX3_add_2_18 (Or.inl q1218) q1219 (Or.inl q1220) zl_java_util_HashMap zk_J4_put (Or.inl rfl) zy_J4_put rfl (by decide) (by decide) hL (ok_J4_put (zz_hl C) hw) hc9 hs9 (zz_cat10 _ (Nat.le_of_ble_eq_true rfl)) (fun r9 M10 hw => zz_kA hw (fun x13 hw => ?_)) (fun _ _ _ h9 => h9.elim) rfl
  refine zz_pop C dX3_add_2_21 (zz_cat _) ?_
  exact zz_vret C E dX3_add_2_22 hw
abbrev cX3_copy : ByteArray := prog_12_method_2_code
def yX3_copy : MethodName := ⟨"DebateHall$Minutes", "copy", "()LDebateHall$Minutes;"⟩
def dkwX3_copy_8 : List UInt8 := [181, 0, 103, 43, 25, 6, 182, 0, 107, 167, 255, 129, 43, 176]
abbrev dktX3_copy_8 : List UInt8 := dkwX3_copy_8 ++ []
def dkwX3_copy_7 : List UInt8 := [45, 180, 0, 94, 45, 180, 0, 97, 25, 4, 25, 5, 183, 0, 100, 58, 6, 25, 6, 45, 180, 0, 103]
abbrev dktX3_copy_7 : List UInt8 := dkwX3_copy_7 ++ dktX3_copy_8
def dkwX3_copy_6 : List UInt8 := [182, 0, 82, 192, 0, 75, 58, 5, 187, 0, 75, 89, 45, 180, 0, 81, 45, 180, 0, 89, 45, 180, 0, 93]
abbrev dktX3_copy_6 : List UInt8 := dkwX3_copy_6 ++ dktX3_copy_7
def dkwX3_copy_5 : List UInt8 := [58, 4, 45, 180, 0, 86, 199, 0, 7, 1, 167, 0, 20, 43, 180, 0, 18, 45, 180, 0, 86, 180, 0, 81]
abbrev dktX3_copy_5 : List UInt8 := dkwX3_copy_5 ++ dktX3_copy_6
def dkwX3_copy_4 : List UInt8 := [199, 0, 7, 1, 167, 0, 20, 43, 180, 0, 18, 45, 180, 0, 77, 180, 0, 81, 182, 0, 82, 192, 0, 75]
abbrev dktX3_copy_4 : List UInt8 := dkwX3_copy_4 ++ dktX3_copy_5
def dkwX3_copy_3 : List UInt8 := [44, 185, 0, 46, 1, 0, 153, 0, 124, 44, 185, 0, 52, 1, 0, 192, 0, 75, 78, 45, 180, 0, 77]
abbrev dktX3_copy_3 : List UInt8 := dkwX3_copy_3 ++ dktX3_copy_4
def dkwX3_copy_2 : List UInt8 := [180, 0, 61, 45, 180, 0, 65, 183, 0, 68, 182, 0, 71, 167, 255, 214, 42, 180, 0, 18, 182, 0, 42, 77]
abbrev dktX3_copy_2 : List UInt8 := dkwX3_copy_2 ++ dktX3_copy_3
def dkwX3_copy_1 : List UInt8 := [153, 0, 39, 44, 185, 0, 52, 1, 0, 192, 0, 55, 78, 43, 187, 0, 55, 89, 45, 180, 0, 57, 45]
abbrev dktX3_copy_1 : List UInt8 := dkwX3_copy_1 ++ dktX3_copy_2
def dkwX3_copy_0 : List UInt8 := [187, 0, 13, 89, 183, 0, 41, 76, 42, 180, 0, 12, 182, 0, 42, 77, 44, 185, 0, 46, 1, 0]
abbrev dktX3_copy_0 : List UInt8 := dkwX3_copy_0 ++ dktX3_copy_1
theorem dksX3_copy_0 : cX3_copy.data.toList.drop 0 = dktX3_copy_0 := by decide +kernel
theorem dksX3_copy_1 : cX3_copy.data.toList.drop 22 = dktX3_copy_1 := dk_seg dksX3_copy_0 22 rfl rfl
theorem dksX3_copy_2 : cX3_copy.data.toList.drop 45 = dktX3_copy_2 := dk_seg dksX3_copy_1 23 rfl rfl
theorem dksX3_copy_3 : cX3_copy.data.toList.drop 69 = dktX3_copy_3 := dk_seg dksX3_copy_2 24 rfl rfl
theorem dksX3_copy_4 : cX3_copy.data.toList.drop 92 = dktX3_copy_4 := dk_seg dksX3_copy_3 23 rfl rfl
theorem dksX3_copy_5 : cX3_copy.data.toList.drop 116 = dktX3_copy_5 := dk_seg dksX3_copy_4 24 rfl rfl
theorem dksX3_copy_6 : cX3_copy.data.toList.drop 140 = dktX3_copy_6 := dk_seg dksX3_copy_5 24 rfl rfl
theorem dksX3_copy_7 : cX3_copy.data.toList.drop 164 = dktX3_copy_7 := dk_seg dksX3_copy_6 24 rfl rfl
theorem dksX3_copy_8 : cX3_copy.data.toList.drop 187 = dktX3_copy_8 := dk_seg dksX3_copy_7 23 rfl rfl
theorem dX3_copy_0 : decode cX3_copy 0 = .ok (.new 13, 3) := dk_187 0 13 (dk_at dksX3_copy_0 0 rfl rfl)
theorem dX3_copy_3 : decode cX3_copy 3 = .ok (.dup, 1) := dk_89 (dk_at dksX3_copy_0 3 rfl rfl)
theorem dX3_copy_4 : decode cX3_copy 4 = .ok (.invokespecial 41, 3) := dk_183 0 41 (dk_at dksX3_copy_0 4 rfl rfl)
theorem dX3_copy_7 : decode cX3_copy 7 = .ok (.astore_n 1, 1) := dk_76 (dk_at dksX3_copy_0 7 rfl rfl)
theorem dX3_copy_8 : decode cX3_copy 8 = .ok (.aload_n 0, 1) := dk_42 (dk_at dksX3_copy_0 8 rfl rfl)
theorem dX3_copy_9 : decode cX3_copy 9 = .ok (.getfield 12, 3) := dk_180 0 12 (dk_at dksX3_copy_0 9 rfl rfl)
theorem dX3_copy_12 : decode cX3_copy 12 = .ok (.invokevirtual 42, 3) := dk_182 0 42 (dk_at dksX3_copy_0 12 rfl rfl)
theorem dX3_copy_15 : decode cX3_copy 15 = .ok (.astore_n 2, 1) := dk_77 (dk_at dksX3_copy_0 15 rfl rfl)
theorem dX3_copy_16 : decode cX3_copy 16 = .ok (.aload_n 2, 1) := dk_44 (dk_at dksX3_copy_0 16 rfl rfl)
theorem dX3_copy_17 : decode cX3_copy 17 = .ok (.invokeinterface 46 1, 5) := by decide +kernel
theorem dX3_copy_22 : decode cX3_copy 22 = .ok (.ifCond .eq 39, 3) := dk_153 0 39 (dk_at dksX3_copy_1 0 rfl rfl)
theorem dX3_copy_25 : decode cX3_copy 25 = .ok (.aload_n 2, 1) := dk_44 (dk_at dksX3_copy_1 3 rfl rfl)
theorem dX3_copy_26 : decode cX3_copy 26 = .ok (.invokeinterface 52 1, 5) := by decide +kernel
theorem dX3_copy_31 : decode cX3_copy 31 = .ok (.checkcast 55, 3) := dk_192 0 55 (dk_at dksX3_copy_1 9 rfl rfl)
theorem dX3_copy_34 : decode cX3_copy 34 = .ok (.astore_n 3, 1) := dk_78 (dk_at dksX3_copy_1 12 rfl rfl)
theorem dX3_copy_35 : decode cX3_copy 35 = .ok (.aload_n 1, 1) := dk_43 (dk_at dksX3_copy_1 13 rfl rfl)
theorem dX3_copy_36 : decode cX3_copy 36 = .ok (.new 55, 3) := dk_187 0 55 (dk_at dksX3_copy_1 14 rfl rfl)
theorem dX3_copy_39 : decode cX3_copy 39 = .ok (.dup, 1) := dk_89 (dk_at dksX3_copy_1 17 rfl rfl)
theorem dX3_copy_40 : decode cX3_copy 40 = .ok (.aload_n 3, 1) := dk_45 (dk_at dksX3_copy_1 18 rfl rfl)
theorem dX3_copy_41 : decode cX3_copy 41 = .ok (.getfield 57, 3) := dk_180 0 57 (dk_at dksX3_copy_1 19 rfl rfl)
theorem dX3_copy_44 : decode cX3_copy 44 = .ok (.aload_n 3, 1) := dk_45 (dk_at dksX3_copy_1 22 rfl rfl)
theorem dX3_copy_45 : decode cX3_copy 45 = .ok (.getfield 61, 3) := dk_180 0 61 (dk_at dksX3_copy_2 0 rfl rfl)
theorem dX3_copy_48 : decode cX3_copy 48 = .ok (.aload_n 3, 1) := dk_45 (dk_at dksX3_copy_2 3 rfl rfl)
theorem dX3_copy_49 : decode cX3_copy 49 = .ok (.getfield 65, 3) := dk_180 0 65 (dk_at dksX3_copy_2 4 rfl rfl)
theorem dX3_copy_52 : decode cX3_copy 52 = .ok (.invokespecial 68, 3) := dk_183 0 68 (dk_at dksX3_copy_2 7 rfl rfl)
theorem dX3_copy_55 : decode cX3_copy 55 = .ok (.invokevirtual 71, 3) := dk_182 0 71 (dk_at dksX3_copy_2 10 rfl rfl)
theorem dX3_copy_58 : decode cX3_copy 58 = .ok (.goto (-42), 3) := dk_167 255 214 (dk_at dksX3_copy_2 13 rfl rfl)
theorem dX3_copy_61 : decode cX3_copy 61 = .ok (.aload_n 0, 1) := dk_42 (dk_at dksX3_copy_2 16 rfl rfl)
theorem dX3_copy_62 : decode cX3_copy 62 = .ok (.getfield 18, 3) := dk_180 0 18 (dk_at dksX3_copy_2 17 rfl rfl)
theorem dX3_copy_65 : decode cX3_copy 65 = .ok (.invokevirtual 42, 3) := dk_182 0 42 (dk_at dksX3_copy_2 20 rfl rfl)
theorem dX3_copy_68 : decode cX3_copy 68 = .ok (.astore_n 2, 1) := dk_77 (dk_at dksX3_copy_2 23 rfl rfl)
theorem dX3_copy_69 : decode cX3_copy 69 = .ok (.aload_n 2, 1) := dk_44 (dk_at dksX3_copy_3 0 rfl rfl)
theorem dX3_copy_70 : decode cX3_copy 70 = .ok (.invokeinterface 46 1, 5) := by decide +kernel
theorem dX3_copy_75 : decode cX3_copy 75 = .ok (.ifCond .eq 124, 3) := dk_153 0 124 (dk_at dksX3_copy_3 6 rfl rfl)
theorem dX3_copy_78 : decode cX3_copy 78 = .ok (.aload_n 2, 1) := dk_44 (dk_at dksX3_copy_3 9 rfl rfl)
theorem dX3_copy_79 : decode cX3_copy 79 = .ok (.invokeinterface 52 1, 5) := by decide +kernel
theorem dX3_copy_84 : decode cX3_copy 84 = .ok (.checkcast 75, 3) := dk_192 0 75 (dk_at dksX3_copy_3 15 rfl rfl)
theorem dX3_copy_87 : decode cX3_copy 87 = .ok (.astore_n 3, 1) := dk_78 (dk_at dksX3_copy_3 18 rfl rfl)
theorem dX3_copy_88 : decode cX3_copy 88 = .ok (.aload_n 3, 1) := dk_45 (dk_at dksX3_copy_3 19 rfl rfl)
theorem dX3_copy_89 : decode cX3_copy 89 = .ok (.getfield 77, 3) := dk_180 0 77 (dk_at dksX3_copy_3 20 rfl rfl)
theorem dX3_copy_92 : decode cX3_copy 92 = .ok (.ifnonnull 7, 3) := dk_199 0 7 (dk_at dksX3_copy_4 0 rfl rfl)
theorem dX3_copy_95 : decode cX3_copy 95 = .ok (.aconst_null, 1) := dk_1 (dk_at dksX3_copy_4 3 rfl rfl)
theorem dX3_copy_96 : decode cX3_copy 96 = .ok (.goto 20, 3) := dk_167 0 20 (dk_at dksX3_copy_4 4 rfl rfl)
theorem dX3_copy_99 : decode cX3_copy 99 = .ok (.aload_n 1, 1) := dk_43 (dk_at dksX3_copy_4 7 rfl rfl)
theorem dX3_copy_100 : decode cX3_copy 100 = .ok (.getfield 18, 3) := dk_180 0 18 (dk_at dksX3_copy_4 8 rfl rfl)
theorem dX3_copy_103 : decode cX3_copy 103 = .ok (.aload_n 3, 1) := dk_45 (dk_at dksX3_copy_4 11 rfl rfl)
theorem dX3_copy_104 : decode cX3_copy 104 = .ok (.getfield 77, 3) := dk_180 0 77 (dk_at dksX3_copy_4 12 rfl rfl)
theorem dX3_copy_107 : decode cX3_copy 107 = .ok (.getfield 81, 3) := dk_180 0 81 (dk_at dksX3_copy_4 15 rfl rfl)
theorem dX3_copy_110 : decode cX3_copy 110 = .ok (.invokevirtual 82, 3) := dk_182 0 82 (dk_at dksX3_copy_4 18 rfl rfl)
theorem dX3_copy_113 : decode cX3_copy 113 = .ok (.checkcast 75, 3) := dk_192 0 75 (dk_at dksX3_copy_4 21 rfl rfl)
theorem dX3_copy_116 : decode cX3_copy 116 = .ok (.astore 4, 2) := dk_58 4 (dk_at dksX3_copy_5 0 rfl rfl)
theorem dX3_copy_118 : decode cX3_copy 118 = .ok (.aload_n 3, 1) := dk_45 (dk_at dksX3_copy_5 2 rfl rfl)
theorem dX3_copy_119 : decode cX3_copy 119 = .ok (.getfield 86, 3) := dk_180 0 86 (dk_at dksX3_copy_5 3 rfl rfl)
theorem dX3_copy_122 : decode cX3_copy 122 = .ok (.ifnonnull 7, 3) := dk_199 0 7 (dk_at dksX3_copy_5 6 rfl rfl)
theorem dX3_copy_125 : decode cX3_copy 125 = .ok (.aconst_null, 1) := dk_1 (dk_at dksX3_copy_5 9 rfl rfl)
theorem dX3_copy_126 : decode cX3_copy 126 = .ok (.goto 20, 3) := dk_167 0 20 (dk_at dksX3_copy_5 10 rfl rfl)
theorem dX3_copy_129 : decode cX3_copy 129 = .ok (.aload_n 1, 1) := dk_43 (dk_at dksX3_copy_5 13 rfl rfl)
theorem dX3_copy_130 : decode cX3_copy 130 = .ok (.getfield 18, 3) := dk_180 0 18 (dk_at dksX3_copy_5 14 rfl rfl)
theorem dX3_copy_133 : decode cX3_copy 133 = .ok (.aload_n 3, 1) := dk_45 (dk_at dksX3_copy_5 17 rfl rfl)
theorem dX3_copy_134 : decode cX3_copy 134 = .ok (.getfield 86, 3) := dk_180 0 86 (dk_at dksX3_copy_5 18 rfl rfl)
theorem dX3_copy_137 : decode cX3_copy 137 = .ok (.getfield 81, 3) := dk_180 0 81 (dk_at dksX3_copy_5 21 rfl rfl)
theorem dX3_copy_140 : decode cX3_copy 140 = .ok (.invokevirtual 82, 3) := dk_182 0 82 (dk_at dksX3_copy_6 0 rfl rfl)
theorem dX3_copy_143 : decode cX3_copy 143 = .ok (.checkcast 75, 3) := dk_192 0 75 (dk_at dksX3_copy_6 3 rfl rfl)
theorem dX3_copy_146 : decode cX3_copy 146 = .ok (.astore 5, 2) := dk_58 5 (dk_at dksX3_copy_6 6 rfl rfl)
theorem dX3_copy_148 : decode cX3_copy 148 = .ok (.new 75, 3) := dk_187 0 75 (dk_at dksX3_copy_6 8 rfl rfl)
theorem dX3_copy_151 : decode cX3_copy 151 = .ok (.dup, 1) := dk_89 (dk_at dksX3_copy_6 11 rfl rfl)
theorem dX3_copy_152 : decode cX3_copy 152 = .ok (.aload_n 3, 1) := dk_45 (dk_at dksX3_copy_6 12 rfl rfl)
theorem dX3_copy_153 : decode cX3_copy 153 = .ok (.getfield 81, 3) := dk_180 0 81 (dk_at dksX3_copy_6 13 rfl rfl)
theorem dX3_copy_156 : decode cX3_copy 156 = .ok (.aload_n 3, 1) := dk_45 (dk_at dksX3_copy_6 16 rfl rfl)
theorem dX3_copy_157 : decode cX3_copy 157 = .ok (.getfield 89, 3) := dk_180 0 89 (dk_at dksX3_copy_6 17 rfl rfl)
theorem dX3_copy_160 : decode cX3_copy 160 = .ok (.aload_n 3, 1) := dk_45 (dk_at dksX3_copy_6 20 rfl rfl)
theorem dX3_copy_161 : decode cX3_copy 161 = .ok (.getfield 93, 3) := dk_180 0 93 (dk_at dksX3_copy_6 21 rfl rfl)
theorem dX3_copy_164 : decode cX3_copy 164 = .ok (.aload_n 3, 1) := dk_45 (dk_at dksX3_copy_7 0 rfl rfl)
theorem dX3_copy_165 : decode cX3_copy 165 = .ok (.getfield 94, 3) := dk_180 0 94 (dk_at dksX3_copy_7 1 rfl rfl)
theorem dX3_copy_168 : decode cX3_copy 168 = .ok (.aload_n 3, 1) := dk_45 (dk_at dksX3_copy_7 4 rfl rfl)
theorem dX3_copy_169 : decode cX3_copy 169 = .ok (.getfield 97, 3) := dk_180 0 97 (dk_at dksX3_copy_7 5 rfl rfl)
theorem dX3_copy_172 : decode cX3_copy 172 = .ok (.aload 4, 2) := dk_25 4 (dk_at dksX3_copy_7 8 rfl rfl)
theorem dX3_copy_174 : decode cX3_copy 174 = .ok (.aload 5, 2) := dk_25 5 (dk_at dksX3_copy_7 10 rfl rfl)
theorem dX3_copy_176 : decode cX3_copy 176 = .ok (.invokespecial 100, 3) := dk_183 0 100 (dk_at dksX3_copy_7 12 rfl rfl)
theorem dX3_copy_179 : decode cX3_copy 179 = .ok (.astore 6, 2) := dk_58 6 (dk_at dksX3_copy_7 15 rfl rfl)
theorem dX3_copy_181 : decode cX3_copy 181 = .ok (.aload 6, 2) := dk_25 6 (dk_at dksX3_copy_7 17 rfl rfl)
theorem dX3_copy_183 : decode cX3_copy 183 = .ok (.aload_n 3, 1) := dk_45 (dk_at dksX3_copy_7 19 rfl rfl)
theorem dX3_copy_184 : decode cX3_copy 184 = .ok (.getfield 103, 3) := dk_180 0 103 (dk_at dksX3_copy_7 20 rfl rfl)
theorem dX3_copy_187 : decode cX3_copy 187 = .ok (.putfield 103, 3) := dk_181 0 103 (dk_at dksX3_copy_8 0 rfl rfl)
theorem dX3_copy_190 : decode cX3_copy 190 = .ok (.aload_n 1, 1) := dk_43 (dk_at dksX3_copy_8 3 rfl rfl)
theorem dX3_copy_191 : decode cX3_copy 191 = .ok (.aload 6, 2) := dk_25 6 (dk_at dksX3_copy_8 4 rfl rfl)
theorem dX3_copy_193 : decode cX3_copy 193 = .ok (.invokevirtual 107, 3) := dk_182 0 107 (dk_at dksX3_copy_8 6 rfl rfl)
theorem dX3_copy_196 : decode cX3_copy 196 = .ok (.goto (-127), 3) := dk_167 255 129 (dk_at dksX3_copy_8 9 rfl rfl)
theorem dX3_copy_199 : decode cX3_copy 199 = .ok (.aload_n 1, 1) := dk_43 (dk_at dksX3_copy_8 12 rfl rfl)
theorem dX3_copy_200 : decode cX3_copy 200 = .ok (.areturn, 1) := dk_176 (dk_at dksX3_copy_8 13 rfl rfl)
theorem q1142 : (Jvm.Cond.classLink "DebateHall$Minutes" (13 : Nat) "DebateHall$Minutes") ∈ lw_all := lw_g (lw_at lw_m5 102 rfl) rfl
theorem q1143 : (Jvm.Cond.methodLink "DebateHall$Minutes" (41 : Nat) ({ cls := "DebateHall$Minutes", name := "<init>", desc := "()V" } : Jvm.MethodName)) ∈ lw_all := lw_g (lw_at lw_m5 103 rfl) rfl
theorem q128 : (Jvm.Cond.initialized "DebateHall$Speaker") ∈ lw_all := lw_g (lw_at lw_m1 48 rfl) rfl
theorem zl_DebateHall_Speaker : Cond.initialized "DebateHall$Speaker" ∈ lw_all := q128
theorem q1197 : (Jvm.Cond.fieldLinkNest "DebateHall$Minutes" (57 : Nat) "DebateHall$Speaker" "number" "I" "DebateHall") ∈ lw_tbl := lw_at lw_m5 157 rfl
theorem q1194 : (Jvm.Cond.code ({ cls := "DebateHall$Speaker", name := "<init>", desc := "(ILjava/lang/String;I)V" } : Jvm.MethodName) prog_18_method_1_code (4 : Nat) (Option.none : Option Jvm.ClassFile.FieldType)) ∈ lw_all := lw_g (lw_at lw_m5 154 rfl) rfl
theorem zk_X19_init : zz_cd yX19_init cX19_init 4 none none ∈ lw_all := q1194
theorem zy_X19_init : zz_yok yX19_init 3 = true := by decide +kernel
theorem q1216 : (Jvm.Cond.code ({ cls := "DebateHall$Minutes", name := "add", desc := "(LDebateHall$Speaker;)V" } : Jvm.MethodName) prog_12_method_3_code (2 : Nat) (Option.none : Option Jvm.ClassFile.FieldType)) ∈ lw_all := lw_g (lw_at lw_m5 176 rfl) rfl
theorem zk_X3_add : zz_cd yX3_add cX3_add 2 none none ∈ lw_all := q1216
theorem zy_X3_add : zz_yok yX3_add 1 = true := by decide +kernel
theorem q1213 : (Jvm.Cond.methodLink "DebateHall$Minutes" (71 : Nat) ({ cls := "DebateHall$Minutes", name := "add", desc := "(LDebateHall$Speaker;)V" } : Jvm.MethodName)) ∈ lw_all := lw_g (lw_at lw_m5 173 rfl) rfl
theorem q1214 : (Jvm.Cond.instanceMethod ({ cls := "DebateHall$Minutes", name := "add", desc := "(LDebateHall$Speaker;)V" } : Jvm.MethodName)) ∈ lw_all := lw_g (lw_at lw_m5 174 rfl) rfl
theorem q1215 : (Jvm.Cond.selects "DebateHall$Minutes" ({ cls := "DebateHall$Minutes", name := "add", desc := "(LDebateHall$Speaker;)V" } : Jvm.MethodName) ({ cls := "DebateHall$Minutes", name := "add", desc := "(LDebateHall$Speaker;)V" } : Jvm.MethodName)) ∈ lw_all := lw_g (lw_at lw_m5 175 rfl) rfl
theorem q1192 : (Jvm.Cond.methodLink "DebateHall$Minutes" (68 : Nat) ({ cls := "DebateHall$Speaker", name := "<init>", desc := "(ILjava/lang/String;I)V" } : Jvm.MethodName)) ∈ lw_all := lw_g (lw_at lw_m5 152 rfl) rfl
theorem q1193 : (Jvm.Cond.instanceMethod ({ cls := "DebateHall$Speaker", name := "<init>", desc := "(ILjava/lang/String;I)V" } : Jvm.MethodName)) ∈ lw_all := lw_g (lw_at lw_m5 153 rfl) rfl
theorem q1732 : (Jvm.Cond.code ({ cls := "DebateHall$Item", name := "<init>", desc := "(ILDebateHall$Kind;Ljava/lang/String;IILDebateHall$Item;LDebateHall$Item;)V" } : Jvm.MethodName) prog_6_method_1_code (8 : Nat) (Option.none : Option Jvm.ClassFile.FieldType)) ∈ lw_all := lw_g (lw_at lw_m7 212 rfl) rfl
theorem zk_X20_init : zz_cd yX20_init cX20_init 8 none none ∈ lw_all := q1732
theorem zy_X20_init : zz_yok yX20_init 7 = true := by decide +kernel
theorem q1784 : (Jvm.Cond.code ({ cls := "DebateHall$Minutes", name := "add", desc := "(LDebateHall$Item;)V" } : Jvm.MethodName) prog_12_method_4_code (2 : Nat) (Option.none : Option Jvm.ClassFile.FieldType)) ∈ lw_all := lw_g (lw_at lw_m8 24 rfl) rfl
theorem zk_X3_add_2 : zz_cd yX3_add_2 cX3_add_2 2 none none ∈ lw_all := q1784
theorem zy_X3_add_2 : zz_yok yX3_add_2 1 = true := by decide +kernel
theorem q1781 : (Jvm.Cond.methodLink "DebateHall$Minutes" (107 : Nat) ({ cls := "DebateHall$Minutes", name := "add", desc := "(LDebateHall$Item;)V" } : Jvm.MethodName)) ∈ lw_all := lw_g (lw_at lw_m8 21 rfl) rfl
theorem q1782 : (Jvm.Cond.instanceMethod ({ cls := "DebateHall$Minutes", name := "add", desc := "(LDebateHall$Item;)V" } : Jvm.MethodName)) ∈ lw_all := lw_g (lw_at lw_m8 22 rfl) rfl
theorem q1783 : (Jvm.Cond.selects "DebateHall$Minutes" ({ cls := "DebateHall$Minutes", name := "add", desc := "(LDebateHall$Item;)V" } : Jvm.MethodName) ({ cls := "DebateHall$Minutes", name := "add", desc := "(LDebateHall$Item;)V" } : Jvm.MethodName)) ∈ lw_all := lw_g (lw_at lw_m8 23 rfl) rfl
theorem q1730 : (Jvm.Cond.methodLink "DebateHall$Minutes" (100 : Nat) ({ cls := "DebateHall$Item", name := "<init>", desc := "(ILDebateHall$Kind;Ljava/lang/String;IILDebateHall$Item;LDebateHall$Item;)V" } : Jvm.MethodName)) ∈ lw_all := lw_g (lw_at lw_m7 210 rfl) rfl
theorem q1731 : (Jvm.Cond.instanceMethod ({ cls := "DebateHall$Item", name := "<init>", desc := "(ILDebateHall$Kind;Ljava/lang/String;IILDebateHall$Item;LDebateHall$Item;)V" } : Jvm.MethodName)) ∈ lw_all := lw_g (lw_at lw_m7 211 rfl) rfl
def wp_X3_copy_B146 (Z : zzG) (k69 : Option Nat → Option Nat → zzM → Nat → Nat → Prop) (K : Option Value → zzM → Prop) (v1 : Option Nat) (v2 : Option Nat) (v3 : Option Nat) (v4 : Option Nat) (s0 : Option Nat) (M : zzM) (bc bs : Nat) : Prop := znew Z M bc bs 15 8 [.int 0, .null, .null, .int 0, .int 0, .null, .null, .int 0] fun q74 M75 bc76 bs77 => zgI Z M75 v3 [15] 0 fun x78 => zgA Z M75 v3 [15] 1 fun x79 => zgA Z M75 v3 [15] 2 fun x80 => zgI Z M75 v3 [15] 3 fun x81 => zgI Z M75 v3 [15] 4 fun x82 => wp_X20_init Z (some q74) x78 x79 x80 x81 x82 v4 s0 M75 (fun r83 M84 => zrV r83 (zgI Z M84 v3 [15] 7 fun x87 => zfit .boolean x87 ∧ zput Z M84 (some q74) [15] 7 (.int x87) fun M88 => zty Z M88 v1 fun t => t = 2 ∧ zcc bc76 bs77 (fun c s k => wp_X3_add_2 Z v1 (some q74) M88 c s k) fun r89 M90 bc91 bs92 => zrV r89 (k69 v1 v2 M90 bc91 bs92)))
def wp_X3_copy_B116 (Z : zzG) (k69 : Option Nat → Option Nat → zzM → Nat → Nat → Prop) (K : Option Value → zzM → Prop) (v1 : Option Nat) (v2 : Option Nat) (v3 : Option Nat) (s0 : Option Nat) (M : zzM) (bc bs : Nat) : Prop := zgA Z M v3 [15] 6 fun x65 => if x65 = none then (wp_X3_copy_B146 Z k69 K v1 v2 v3 s0 none M bc bs) else (zgA Z M v1 [2] 1 fun x66 => zgA Z M v3 [15] 6 fun x67 => zgI Z M x67 [15] 0 fun x68 => zty Z M x66 fun t => t = 18 ∧ wp_J2_get Z x66 x68 M (fun r69 M70 => zrA r69 fun x73 => zcast Z M70 x73 [15] <| wp_X3_copy_B146 Z k69 K v1 v2 v3 s0 x73 M70 bc bs))
def wp_X3_copy_L69 (Z : zzG) (K : Option Value → zzM → Prop) : Nat → Option Nat → Option Nat → zzM → Nat → Nat → Prop
  | 0, _, _, _, _, _ => False
  | n + 1, v1, v2, M, bc, bs => zty Z M v2 fun t => t = 23 ∧ wp_J24_hasNext Z v2 M (fun r46 M47 => zrI r46 fun x50 => if x50 = 0 then (K (some (va_rf v1)) M47) else (zty Z M47 v2 fun t => t = 23 ∧ wp_J24_next Z v2 M47 (fun r51 M52 => zrA r51 fun x55 => zcast Z M52 x55 [15] <| zgA Z M52 x55 [15] 5 fun x56 => if x56 = none then (wp_X3_copy_B116 Z (wp_X3_copy_L69 Z K n) K v1 v2 x55 none M52 bc bs) else (zgA Z M52 v1 [2] 1 fun x57 => zgA Z M52 x55 [15] 5 fun x58 => zgI Z M52 x58 [15] 0 fun x59 => zty Z M52 x57 fun t => t = 18 ∧ wp_J2_get Z x57 x59 M52 (fun r60 M61 => zrA r60 fun x64 => zcast Z M61 x64 [15] <| wp_X3_copy_B116 Z (wp_X3_copy_L69 Z K n) K v1 v2 x55 x64 M61 bc bs)))))
def wp_X3_copy_L16 (Z : zzG) (K : Option Value → zzM → Prop) : Nat → Option Nat → Option Nat → Option Nat → zzM → Nat → Nat → Prop
  | 0, _, _, _, _, _, _ => False
  | n + 1, v0, v1, v2, M, bc, bs => zty Z M v2 fun t => t = 23 ∧ wp_J24_hasNext Z v2 M (fun r15 M16 => zrI r15 fun x19 => if x19 = 0 then (zgA Z M16 v0 [2] 1 fun x20 => zty Z M16 x20 fun t => t = 18 ∧ zcc bc bs (fun c s k => wp_J2_iterator Z x20 M16 c s k) fun r21 M22 bc23 bs24 => zrA r21 fun x25 => ∃ n69 : Nat, wp_X3_copy_L69 Z K n69 v1 x25 M22 bc23 bs24) else (zty Z M16 v2 fun t => t = 23 ∧ wp_J24_next Z v2 M16 (fun r26 M27 => zrA r26 fun x30 => zcast Z M27 x30 [14] <| znew Z M27 bc bs 14 3 [.int 0, .null, .int 0] fun q31 M32 bc33 bs34 => zgI Z M32 x30 [14] 0 fun x35 => zgA Z M32 x30 [14] 1 fun x36 => zgI Z M32 x30 [14] 2 fun x37 => wp_X19_init Z (some q31) x35 x36 x37 M32 (fun r38 M39 => zrV r38 (zty Z M39 v1 fun t => t = 2 ∧ zcc bc33 bs34 (fun c s k => wp_X3_add Z v1 (some q31) M39 c s k) fun r42 M43 bc44 bs45 => zrV r42 (wp_X3_copy_L16 Z K n v0 v1 v2 M43 bc44 bs45))))))
def wp_X3_copy (Z : zzG) (this : Option Nat) (M : zzM) (bc bs : Nat) (K : Option Value → zzM → Prop) : Prop := znew Z M bc bs 2 8 [.null, .null, .null, .null, .null, .null, .null, .int 0] fun q1 M2 bc3 bs4 => zcc bc3 bs4 (fun c s k => wp_X3_init Z (some q1) M2 c s k) fun r5 M6 bc7 bs8 => zrV r5 (zgA Z M6 this [2] 0 fun x9 => zty Z M6 x9 fun t => t = 18 ∧ zcc bc7 bs8 (fun c s k => wp_J2_iterator Z x9 M6 c s k) fun r10 M11 bc12 bs13 => zrA r10 fun x14 => ∃ n16 : Nat, wp_X3_copy_L16 Z K n16 this (some q1) x14 M11 bc12 bs13)
theorem ok_X3_copy_B146 {G : zzX} (C : zz_C G cX3_copy "DebateHall$Minutes" 7) {K : Option Value → zzM → Prop} (E : zz_E G (some (.object "DebateHall$Minutes")) K (fun _ _ _ => False)) (hH : zz_H G []) (hR : zz_Rm G 75) {k69 : Option Nat → Option Nat → zzM → Nat → Nat → Prop} (hk69 : ∀ (z0 : Option Nat) (z1 : Option Nat) (M : zzM) (bc bs : Nat), k69 z0 z1 M bc bs → zz_T G 7 M bc bs 69 [(1, va_rf z0), (2, va_rf z1)] []) {v1 : Option Nat} {v2 : Option Nat} {v3 : Option Nat} {v4 : Option Nat} {s0 : Option Nat} {M : zzM} {bc bs : Nat} (hw : wp_X3_copy_B146 (zz_Zof G) k69 K v1 v2 v3 v4 s0 M bc bs) : zz_T G 7 M bc bs 146 [(1, va_rf v1), (2, va_rf v2), (3, va_rf v3), (4, va_rf v4)] [va_rf s0] := by
  unfold wp_X3_copy_B146 at hw
  refine zz_astore (lv' := [(5, va_rf s0), (1, va_rf v1), (2, va_rf v2), (3, va_rf v3), (4, va_rf v4)]) C dX3_copy_146 (by decide) (by simp [zz_cat, zz_catI, zz_catJ, zz_catD]) ?_
  refine zz_new (r := (zR_15, zT_15, 8)) C dX3_copy_148 rfl (by decide) q1727 q1729 zl_DebateHall_Item rfl hw (fun q74 M75 bc76 bs77 hw => ?_)
  refine zz_dup C dX3_copy_151 (zz_cat _) ?_
  refine zz_aload_n C dX3_copy_152 rfl 3 rfl ?_
  refine zz_getI C dX3_copy_153 (Or.inr ⟨_, q1735⟩) zf_15_0_ebateHall_Item hw (fun x78 hw => ?_)
  refine zz_aload_n C dX3_copy_156 rfl 3 rfl ?_
  refine zz_getA C dX3_copy_157 (Or.inr ⟨_, q1740⟩) zf_15_1_ebateHall_Item hw (fun x79 hw => ?_)
  refine zz_aload_n C dX3_copy_160 rfl 3 rfl ?_
  refine zz_getA C dX3_copy_161 (Or.inr ⟨_, q1743⟩) zf_15_2_ebateHall_Item hw (fun x80 hw => ?_)
  refine zz_aload_n C dX3_copy_164 rfl 3 rfl ?_
  refine zz_getI C dX3_copy_165 (Or.inr ⟨_, q1748⟩) zf_15_3_ebateHall_Item hw (fun x81 hw => ?_)
  refine zz_aload_n C dX3_copy_168 rfl 3 rfl ?_
  refine zz_getI C dX3_copy_169 (Or.inr ⟨_, q1752⟩) zf_15_4_ebateHall_Item hw (fun x82 hw => ?_)
  refine zz_aload C dX3_copy_172 4 rfl ?_
  refine zz_aload C dX3_copy_174 0 rfl ?_
  refine zz_callI (As := [.int x78, va_rf x79, va_rf x80, .int x81, .int x82, va_rf v4, va_rf s0]) (rest := [va_rf (some q74)]) (mc := 0) (ms := 0) C hR rfl dX3_copy_176 (Or.inl q1730) q1731 zl_DebateHall_Item zk_X20_init rfl zy_X20_init (by decide) (by decide) (ok_X20_init (zz_hl C) hw) (Nat.zero_le _) (Nat.zero_le _) (zz_cat10 _ (Nat.le_of_ble_eq_true rfl)) (fun r83 M84 hw => zz_kV hw (fun hw => ?_)) (fun _ _ _ h9 => h9.elim) rfl
  refine zz_astore (lv' := [(6, va_rf (some q74)), (5, va_rf s0), (1, va_rf v1), (2, va_rf v2), (3, va_rf v3), (4, va_rf v4)]) C dX3_copy_179 (by decide) (by simp [zz_cat, zz_catI, zz_catJ, zz_catD]) ?_
  refine zz_aload C dX3_copy_181 0 rfl ?_
  refine zz_aload_n C dX3_copy_183 rfl 4 rfl ?_
  refine zz_getI C dX3_copy_184 (Or.inr ⟨_, q1761⟩) zf_15_7_ebateHall_Item hw (fun x87 hw => ?_)
  obtain ⟨hfit, hw⟩ := hw
  refine zz_put C dX3_copy_187 (Or.inr ⟨_, q1761⟩) zf_15_7_ebateHall_Item zp_15_7 (zz_hn1 hfit) hw (fun M88 hw => ?_)
  refine zz_aload_n C dX3_copy_190 rfl 2 rfl ?_
  refine zz_aload C dX3_copy_191 0 rfl ?_
  obtain ⟨a9, t9, b9, fs9, hro, hL, rfl, hw⟩ := ztyS hw
  obtain ⟨c9, s9, hc9, hs9, hw⟩ := hw
  refine zz_callV (r := (zR_2, zT_2, 8)) (As := [va_rf (some q74)]) (rest := []) C hR hro dX3_copy_193 (Or.inl q1781) q1782 (Or.inl q1783) zl_DebateHall_Minutes zk_X3_add_2 (Or.inl rfl) zy_X3_add_2 rfl (by decide) (by decide) hL (ok_X3_add_2 (zz_hl C) hw) hc9 hs9 (zz_cat10 _ (Nat.le_of_ble_eq_true rfl)) (fun r89 M90 hw => zz_kV hw (fun hw => ?_)) (fun _ _ _ h9 => h9.elim) rfl
  refine zz_goto (tgt := 69) C dX3_copy_196 (by decide) ?_
  refine zz_subP [2, 3] rfl ?_
  exact hk69 _ _ _ _ _ hw
theorem ok_X3_copy_B116 {G : zzX} (C : zz_C G cX3_copy "DebateHall$Minutes" 7) {K : Option Value → zzM → Prop} (E : zz_E G (some (.object "DebateHall$Minutes")) K (fun _ _ _ => False)) (hH : zz_H G []) (hR : zz_Rm G 75) {k69 : Option Nat → Option Nat → zzM → Nat → Nat → Prop} (hk69 : ∀ (z0 : Option Nat) (z1 : Option Nat) (M : zzM) (bc bs : Nat), k69 z0 z1 M bc bs → zz_T G 7 M bc bs 69 [(1, va_rf z0), (2, va_rf z1)] []) {v1 : Option Nat} {v2 : Option Nat} {v3 : Option Nat} {s0 : Option Nat} {M : zzM} {bc bs : Nat} (hw : wp_X3_copy_B116 (zz_Zof G) k69 K v1 v2 v3 s0 M bc bs) : zz_T G 7 M bc bs 116 [(1, va_rf v1), (2, va_rf v2), (3, va_rf v3)] [va_rf s0] := by
  unfold wp_X3_copy_B116 at hw
  refine zz_astore (lv' := [(4, va_rf s0), (1, va_rf v1), (2, va_rf v2), (3, va_rf v3)]) C dX3_copy_116 (by decide) (by simp [zz_cat, zz_catI, zz_catJ, zz_catD]) ?_
  refine zz_aload_n C dX3_copy_118 rfl 3 rfl ?_
  refine zz_getA C dX3_copy_119 (Or.inr ⟨_, q1758⟩) zf_15_6_ebateHall_Item hw (fun x65 hw => ?_)
  refine zz_ifnonnull (tgt := 129) C dX3_copy_122 (by decide) hw (fun hw => ?_) (fun hw => ?_)
  · refine zz_aload_n C dX3_copy_129 rfl 1 rfl ?_
    refine zz_getA C dX3_copy_130 (Or.inl q235) zf_2_1_teHall_Minutes hw (fun x66 hw => ?_)
    refine zz_aload_n C dX3_copy_133 rfl 3 rfl ?_
    refine zz_getA C dX3_copy_134 (Or.inr ⟨_, q1758⟩) zf_15_6_ebateHall_Item hw (fun x67 hw => ?_)
    refine zz_getI C dX3_copy_137 (Or.inr ⟨_, q1735⟩) zf_15_0_ebateHall_Item hw (fun x68 hw => ?_)
    obtain ⟨a9, t9, b9, fs9, hro, hL, rfl, hw⟩ := ztyS hw
    refine zz_callV (r := (zR_18, zT_18, 3)) (As := [.int x68]) (rest := []) (mc := 0) (ms := 0) C hR hro dX3_copy_140 (Or.inl q1728) q877 (Or.inl q2872) zl_java_util_ArrayList zk_J2_get (Or.inl rfl) zy_J2_get rfl (by decide) (by decide) hL (ok_J2_get (zz_hl C) hw) (Nat.zero_le _) (Nat.zero_le _) (zz_cat10 _ (Nat.le_of_ble_eq_true rfl)) (fun r69 M70 hw => zz_kA hw (fun x73 hw => ?_)) (fun _ _ _ h9 => h9.elim) rfl
    refine zz_cast C dX3_copy_143 q1727 zc_15_ebateHall_Item hw (fun hw => ?_)
    refine zz_subP [1, 2, 3, 0] rfl ?_
    exact ok_X3_copy_B146 C E hH hR hk69 hw
  · refine zz_null C dX3_copy_125 ?_
    refine zz_goto (tgt := 146) C dX3_copy_126 (by decide) ?_
    refine zz_subP [1, 2, 3, 0] rfl ?_
    exact ok_X3_copy_B146 C E hH hR hk69 hw
theorem ok_X3_copy_L69 {G : zzX} (C : zz_C G cX3_copy "DebateHall$Minutes" 7) {K : Option Value → zzM → Prop} (E : zz_E G (some (.object "DebateHall$Minutes")) K (fun _ _ _ => False)) (hH : zz_H G []) (hR : zz_Rm G 75) : ∀ (n : Nat) (v1 : Option Nat) (v2 : Option Nat) (M : zzM) (bc bs : Nat), wp_X3_copy_L69 (zz_Zof G) K n v1 v2 M bc bs → zz_T G 7 M bc bs 69 [(1, va_rf v1), (2, va_rf v2)] [] := by
  intro n
  induction n with
  | zero =>
    intro v1 v2 M bc bs hw
    exact False.elim hw
  | succ n ih =>
    intro v1 v2 M bc bs hw
    refine zz_aload_n C dX3_copy_69 rfl 1 rfl ?_
    obtain ⟨a9, t9, b9, fs9, hro, hL, rfl, hw⟩ := ztyS hw
    refine zz_callF (r := (zR_23, zT_23, 4)) (x := ⟨"java/util/Iterator", "hasNext", "()Z"⟩) (As := []) (rest := []) (mc := 0) (ms := 0) C hR hro dX3_copy_70 q1168 (by decide +kernel) q1174 q1172 zl_java_util_ArrayList_Itr zk_J24_hasNext zyo_java_util_Iterator_hasNext___Z rfl (by decide) (by decide) hL (ok_J24_hasNext (zz_hl C) hw) (Nat.zero_le _) (Nat.zero_le _) (zz_cat10 _ (Nat.le_of_ble_eq_true rfl)) (fun r46 M47 hw => zz_kI hw (fun x50 hw => ?_)) (fun _ _ _ h9 => h9.elim) rfl
    refine zz_if_eq (tgt := 199) C dX3_copy_75 (by decide) hw (fun hw => ?_) (fun hw => ?_)
    · refine zz_aload_n C dX3_copy_199 rfl 0 rfl ?_
      exact zz_aret C E (Or.inl ⟨_, rfl⟩) dX3_copy_200 hw
    · refine zz_aload_n C dX3_copy_78 rfl 1 rfl ?_
      obtain ⟨a9, t9, b9, fs9, hro, hL, rfl, hw⟩ := ztyS hw
      refine zz_callF (r := (zR_23, zT_23, 4)) (x := ⟨"java/util/Iterator", "next", "()Ljava/lang/Object;"⟩) (As := []) (rest := []) (mc := 0) (ms := 0) C hR hro dX3_copy_79 q1178 (by decide +kernel) q1183 q1181 zl_java_util_ArrayList_Itr zk_J24_next zyo_java_util_Iterator_next___Ljava_lang_Object_ rfl (by decide) (by decide) hL (ok_J24_next (zz_hl C) hw) (Nat.zero_le _) (Nat.zero_le _) (zz_cat10 _ (Nat.le_of_ble_eq_true rfl)) (fun r51 M52 hw => zz_kA hw (fun x55 hw => ?_)) (fun _ _ _ h9 => h9.elim) rfl
      refine zz_cast C dX3_copy_84 q1727 zc_15_ebateHall_Item hw (fun hw => ?_)
      refine zz_astore_n (i := 3) (lv' := [(3, va_rf x55), (1, va_rf v1), (2, va_rf v2)]) C dX3_copy_87 rfl (by decide) (by simp [zz_cat, zz_catI, zz_catJ, zz_catD]) ?_
      refine zz_aload_n C dX3_copy_88 rfl 0 rfl ?_
      refine zz_getA C dX3_copy_89 (Or.inr ⟨_, q1755⟩) zf_15_5_ebateHall_Item hw (fun x56 hw => ?_)
      refine zz_ifnonnull (tgt := 99) C dX3_copy_92 (by decide) hw (fun hw => ?_) (fun hw => ?_)
      · refine zz_aload_n C dX3_copy_99 rfl 1 rfl ?_
        refine zz_getA C dX3_copy_100 (Or.inl q235) zf_2_1_teHall_Minutes hw (fun x57 hw => ?_)
        refine zz_aload_n C dX3_copy_103 rfl 0 rfl ?_
        refine zz_getA C dX3_copy_104 (Or.inr ⟨_, q1755⟩) zf_15_5_ebateHall_Item hw (fun x58 hw => ?_)
        refine zz_getI C dX3_copy_107 (Or.inr ⟨_, q1735⟩) zf_15_0_ebateHall_Item hw (fun x59 hw => ?_)
        obtain ⟨a9, t9, b9, fs9, hro, hL, rfl, hw⟩ := ztyS hw
        refine zz_callV (r := (zR_18, zT_18, 3)) (As := [.int x59]) (rest := []) (mc := 0) (ms := 0) C hR hro dX3_copy_110 (Or.inl q1728) q877 (Or.inl q2872) zl_java_util_ArrayList zk_J2_get (Or.inl rfl) zy_J2_get rfl (by decide) (by decide) hL (ok_J2_get (zz_hl C) hw) (Nat.zero_le _) (Nat.zero_le _) (zz_cat10 _ (Nat.le_of_ble_eq_true rfl)) (fun r60 M61 hw => zz_kA hw (fun x64 hw => ?_)) (fun _ _ _ h9 => h9.elim) rfl
        refine zz_cast C dX3_copy_113 q1727 zc_15_ebateHall_Item hw (fun hw => ?_)
        refine zz_subP [1, 2, 0] rfl ?_
        exact ok_X3_copy_B116 C E hH hR (fun z0 z1 z2 z3 z4 hw => ih z0 z1 z2 z3 z4 hw) hw
      · refine zz_null C dX3_copy_95 ?_
        refine zz_goto (tgt := 116) C dX3_copy_96 (by decide) ?_
        refine zz_subP [1, 2, 0] rfl ?_
        exact ok_X3_copy_B116 C E hH hR (fun z0 z1 z2 z3 z4 hw => ih z0 z1 z2 z3 z4 hw) hw
theorem ok_X3_copy_L16 {G : zzX} (C : zz_C G cX3_copy "DebateHall$Minutes" 7) {K : Option Value → zzM → Prop} (E : zz_E G (some (.object "DebateHall$Minutes")) K (fun _ _ _ => False)) (hH : zz_H G []) (hR : zz_Rm G 75) : ∀ (n : Nat) (v0 : Option Nat) (v1 : Option Nat) (v2 : Option Nat) (M : zzM) (bc bs : Nat), wp_X3_copy_L16 (zz_Zof G) K n v0 v1 v2 M bc bs → zz_T G 7 M bc bs 16 [(0, va_rf v0), (1, va_rf v1), (2, va_rf v2)] [] := by
  intro n
  induction n with
  | zero =>
    intro v0 v1 v2 M bc bs hw
    exact False.elim hw
  | succ n ih =>
    intro v0 v1 v2 M bc bs hw
    refine zz_aload_n C dX3_copy_16 rfl 2 rfl ?_
    obtain ⟨a9, t9, b9, fs9, hro, hL, rfl, hw⟩ := ztyS hw
    refine zz_callF (r := (zR_23, zT_23, 4)) (x := ⟨"java/util/Iterator", "hasNext", "()Z"⟩) (As := []) (rest := []) (mc := 0) (ms := 0) C hR hro dX3_copy_17 q1168 (by decide +kernel) q1174 q1172 zl_java_util_ArrayList_Itr zk_J24_hasNext zyo_java_util_Iterator_hasNext___Z rfl (by decide) (by decide) hL (ok_J24_hasNext (zz_hl C) hw) (Nat.zero_le _) (Nat.zero_le _) (zz_cat10 _ (Nat.le_of_ble_eq_true rfl)) (fun r15 M16 hw => zz_kI hw (fun x19 hw => ?_)) (fun _ _ _ h9 => h9.elim) rfl
    refine zz_if_eq (tgt := 61) C dX3_copy_22 (by decide) hw (fun hw => ?_) (fun hw => ?_)
    · refine zz_aload_n C dX3_copy_61 rfl 0 rfl ?_
      refine zz_getA C dX3_copy_62 (Or.inl q235) zf_2_1_teHall_Minutes hw (fun x20 hw => ?_)
      obtain ⟨a9, t9, b9, fs9, hro, hL, rfl, hw⟩ := ztyS hw
      obtain ⟨c9, s9, hc9, hs9, hw⟩ := hw
      refine zz_callV (r := (zR_18, zT_18, 3)) (As := []) (rest := []) C hR hro dX3_copy_65 (Or.inl q1144) q1145 (Or.inl q1146) zl_java_util_ArrayList zk_J2_iterator (Or.inl rfl) zy_J2_iterator rfl (by decide) (by decide) hL (ok_J2_iterator (zz_hl C) hw) hc9 hs9 (zz_cat10 _ (Nat.le_of_ble_eq_true rfl)) (fun r21 M22 hw => zz_kA hw (fun x25 hw => ?_)) (fun _ _ _ h9 => h9.elim) rfl
      refine zz_astore_n (i := 2) (lv' := [(2, va_rf x25), (0, va_rf v0), (1, va_rf v1)]) C dX3_copy_68 rfl (by decide) (by simp [zz_cat, zz_catI, zz_catJ, zz_catD]) ?_
      refine zz_subP [2, 0] rfl ?_
      obtain ⟨n69, hw⟩ := hw
      exact ok_X3_copy_L69 C E hH hR n69 _ _ _ _ _ hw
    · refine zz_aload_n C dX3_copy_25 rfl 2 rfl ?_
      obtain ⟨a9, t9, b9, fs9, hro, hL, rfl, hw⟩ := ztyS hw
      refine zz_callF (r := (zR_23, zT_23, 4)) (x := ⟨"java/util/Iterator", "next", "()Ljava/lang/Object;"⟩) (As := []) (rest := []) (mc := 0) (ms := 0) C hR hro dX3_copy_26 q1178 (by decide +kernel) q1183 q1181 zl_java_util_ArrayList_Itr zk_J24_next zyo_java_util_Iterator_next___Ljava_lang_Object_ rfl (by decide) (by decide) hL (ok_J24_next (zz_hl C) hw) (Nat.zero_le _) (Nat.zero_le _) (zz_cat10 _ (Nat.le_of_ble_eq_true rfl)) (fun r26 M27 hw => zz_kA hw (fun x30 hw => ?_)) (fun _ _ _ h9 => h9.elim) rfl
      refine zz_cast C dX3_copy_31 q1190 zc_14_teHall_Speaker hw (fun hw => ?_)
      refine zz_astore_n (i := 3) (lv' := [(3, va_rf x30), (0, va_rf v0), (1, va_rf v1), (2, va_rf v2)]) C dX3_copy_34 rfl (by decide) (by simp [zz_cat, zz_catI, zz_catJ, zz_catD]) ?_
      refine zz_aload_n C dX3_copy_35 rfl 2 rfl ?_
      refine zz_new (r := (zR_14, zT_14, 3)) C dX3_copy_36 rfl (by decide) q1190 q1191 zl_DebateHall_Speaker rfl hw (fun q31 M32 bc33 bs34 hw => ?_)
      refine zz_dup C dX3_copy_39 (zz_cat _) ?_
      refine zz_aload_n C dX3_copy_40 rfl 0 rfl ?_
      refine zz_getI C dX3_copy_41 (Or.inr ⟨_, q1197⟩) zf_14_0_teHall_Speaker hw (fun x35 hw => ?_)
      refine zz_aload_n C dX3_copy_44 rfl 0 rfl ?_
      refine zz_getA C dX3_copy_45 (Or.inr ⟨_, q1200⟩) zf_14_1_teHall_Speaker hw (fun x36 hw => ?_)
      refine zz_aload_n C dX3_copy_48 rfl 0 rfl ?_
      refine zz_getI C dX3_copy_49 (Or.inr ⟨_, q1203⟩) zf_14_2_teHall_Speaker hw (fun x37 hw => ?_)
      refine zz_callI (As := [.int x35, va_rf x36, .int x37]) (rest := [va_rf (some q31), va_rf v1]) (mc := 0) (ms := 0) C hR rfl dX3_copy_52 (Or.inl q1192) q1193 zl_DebateHall_Speaker zk_X19_init rfl zy_X19_init (by decide) (by decide) (ok_X19_init (zz_hl C) hw) (Nat.zero_le _) (Nat.zero_le _) (zz_cat10 _ (Nat.le_of_ble_eq_true rfl)) (fun r38 M39 hw => zz_kV hw (fun hw => ?_)) (fun _ _ _ h9 => h9.elim) rfl
      obtain ⟨a9, t9, b9, fs9, hro, hL, rfl, hw⟩ := ztyS hw
      obtain ⟨c9, s9, hc9, hs9, hw⟩ := hw
      refine zz_callV (r := (zR_2, zT_2, 8)) (As := [va_rf (some q31)]) (rest := []) C hR hro dX3_copy_55 (Or.inl q1213) q1214 (Or.inl q1215) zl_DebateHall_Minutes zk_X3_add (Or.inl rfl) zy_X3_add rfl (by decide) (by decide) hL (ok_X3_add (zz_hl C) hw) hc9 hs9 (zz_cat10 _ (Nat.le_of_ble_eq_true rfl)) (fun r42 M43 hw => zz_kV hw (fun hw => ?_)) (fun _ _ _ h9 => h9.elim) rfl
      refine zz_goto (tgt := 16) C dX3_copy_58 (by decide) ?_
      refine zz_subP [1, 2, 3] rfl ?_
      exact ih _ _ _ _ _ _ hw
theorem ok_X3_copy {Z : zzG} {l : Launch} (hl : l.stackTraces = false) {this : Option Nat} {M : zzM} {mc ms : Nat} {K : Option Value → zzM → Prop} (hw : wp_X3_copy Z this M mc ms K) : zz_Met Z l yX3_copy (zz_ws yX3_copy cX3_copy 7 (some (.object "DebateHall$Minutes")) none) 75 [va_rf this] M mc ms K (fun _ _ _ => False) := by
  refine zz_ofW hl (plainFor_of_name (by decide)) (by simp only [zz_sl0, zz_slI, zz_slJ, zz_slA] <;> decide) (fun G hZ hll C E hH hR hin => ?_)
  subst hZ
  subst hll
  rw [show lv_args 0 [va_rf this] = [(0, va_rf this)] by simp only [zz_la0, zz_laI, zz_laJ, zz_laA]]
  unfold wp_X3_copy at hw
  refine zz_new (r := (zR_2, zT_2, 8)) C dX3_copy_0 rfl (by decide) q1142 q165 zl_DebateHall_Minutes rfl hw (fun q1 M2 bc3 bs4 hw => ?_)
  refine zz_dup C dX3_copy_3 (zz_cat _) ?_
  obtain ⟨c9, s9, hc9, hs9, hw⟩ := hw
  refine zz_callI (As := []) (rest := [va_rf (some q1)]) C hR rfl dX3_copy_4 (Or.inl q1143) q167 zl_DebateHall_Minutes zk_X3_init rfl zy_X3_init (by decide) (by decide) (ok_X3_init (zz_hl C) hw) hc9 hs9 (zz_cat10 _ (Nat.le_of_ble_eq_true rfl)) (fun r5 M6 hw => zz_kV hw (fun hw => ?_)) (fun _ _ _ h9 => h9.elim) rfl
  refine zz_astore_n (i := 1) (lv' := [(1, va_rf (some q1)), (0, va_rf this)]) C dX3_copy_7 rfl (by decide) (by simp [zz_cat, zz_catI, zz_catJ, zz_catD]) ?_
  refine zz_aload_n C dX3_copy_8 rfl 1 rfl ?_
  refine zz_getA C dX3_copy_9 (Or.inl q231) zf_2_0_teHall_Minutes hw (fun x9 hw => ?_)
  obtain ⟨a9, t9, b9, fs9, hro, hL, rfl, hw⟩ := ztyS hw
  obtain ⟨c9, s9, hc9, hs9, hw⟩ := hw
  refine zz_callV (r := (zR_18, zT_18, 3)) (As := []) (rest := []) C hR hro dX3_copy_12 (Or.inl q1144) q1145 (Or.inl q1146) zl_java_util_ArrayList zk_J2_iterator (Or.inl rfl) zy_J2_iterator rfl (by decide) (by decide) hL (ok_J2_iterator (zz_hl C) hw) hc9 hs9 (zz_cat10 _ (Nat.le_of_ble_eq_true rfl)) (fun r10 M11 hw => zz_kA hw (fun x14 hw => ?_)) (fun _ _ _ h9 => h9.elim) rfl
  refine zz_astore_n (i := 2) (lv' := [(2, va_rf x14), (1, va_rf (some q1)), (0, va_rf this)]) C dX3_copy_15 rfl (by decide) (by simp [zz_cat, zz_catI, zz_catJ, zz_catD]) ?_
  refine zz_subP [2, 1, 0] rfl ?_
  obtain ⟨n16, hw⟩ := hw
  exact ok_X3_copy_L16 C E hH hR n16 _ _ _ _ _ _ hw
abbrev cJ29_getTreeNode : ByteArray := prog_65_method_5_code
def yJ29_getTreeNode : MethodName := ⟨"java/util/HashMap$TreeNode", "getTreeNode", "(ILjava/lang/Object;)Ljava/util/HashMap$TreeNode;"⟩
def dkwJ29_getTreeNode_0 : List UInt8 := [42, 180, 0, 9, 198, 0, 10, 42, 182, 0, 67, 167, 0, 4, 42, 27, 44, 1, 182, 0, 63, 176]
abbrev dktJ29_getTreeNode_0 : List UInt8 := dkwJ29_getTreeNode_0 ++ []
theorem dksJ29_getTreeNode_0 : cJ29_getTreeNode.data.toList.drop 0 = dktJ29_getTreeNode_0 := by decide +kernel
theorem dJ29_getTreeNode_0 : decode cJ29_getTreeNode 0 = .ok (.aload_n 0, 1) := dk_42 (dk_at dksJ29_getTreeNode_0 0 rfl rfl)
theorem dJ29_getTreeNode_1 : decode cJ29_getTreeNode 1 = .ok (.getfield 9, 3) := dk_180 0 9 (dk_at dksJ29_getTreeNode_0 1 rfl rfl)
theorem dJ29_getTreeNode_4 : decode cJ29_getTreeNode 4 = .ok (.ifnull 10, 3) := dk_198 0 10 (dk_at dksJ29_getTreeNode_0 4 rfl rfl)
theorem dJ29_getTreeNode_7 : decode cJ29_getTreeNode 7 = .ok (.aload_n 0, 1) := dk_42 (dk_at dksJ29_getTreeNode_0 7 rfl rfl)
theorem dJ29_getTreeNode_8 : decode cJ29_getTreeNode 8 = .ok (.invokevirtual 67, 3) := dk_182 0 67 (dk_at dksJ29_getTreeNode_0 8 rfl rfl)
theorem dJ29_getTreeNode_11 : decode cJ29_getTreeNode 11 = .ok (.goto 4, 3) := dk_167 0 4 (dk_at dksJ29_getTreeNode_0 11 rfl rfl)
theorem dJ29_getTreeNode_14 : decode cJ29_getTreeNode 14 = .ok (.aload_n 0, 1) := dk_42 (dk_at dksJ29_getTreeNode_0 14 rfl rfl)
theorem dJ29_getTreeNode_15 : decode cJ29_getTreeNode 15 = .ok (.iload_n 1, 1) := dk_27 (dk_at dksJ29_getTreeNode_0 15 rfl rfl)
theorem dJ29_getTreeNode_16 : decode cJ29_getTreeNode 16 = .ok (.aload_n 2, 1) := dk_44 (dk_at dksJ29_getTreeNode_0 16 rfl rfl)
theorem dJ29_getTreeNode_17 : decode cJ29_getTreeNode 17 = .ok (.aconst_null, 1) := dk_1 (dk_at dksJ29_getTreeNode_0 17 rfl rfl)
theorem dJ29_getTreeNode_18 : decode cJ29_getTreeNode 18 = .ok (.invokevirtual 63, 3) := dk_182 0 63 (dk_at dksJ29_getTreeNode_0 18 rfl rfl)
theorem dJ29_getTreeNode_21 : decode cJ29_getTreeNode 21 = .ok (.areturn, 1) := dk_176 (dk_at dksJ29_getTreeNode_0 21 rfl rfl)
def wp_J29_getTreeNode_B15 (Z : zzG) (K : Option Value → zzM → Prop) (v1 : Int32) (v2 : Option Nat) (s0 : Option Nat) (M : zzM) : Prop := zty Z M s0 fun t => t = 25 ∧ wp_J29_find Z s0 v1 v2 none M (fun r7 M8 => zrA r7 fun x11 => K (some (va_rf x11)) M8)
def wp_J29_getTreeNode (Z : zzG) (this : Option Nat) (p0 : Int32) (p1 : Option Nat) (M : zzM) (K : Option Value → zzM → Prop) : Prop := zgA Z M this [25] 4 fun x1 => if x1 = none then (wp_J29_getTreeNode_B15 Z K p0 p1 this M) else (zty Z M this fun t => t = 25 ∧ wp_J29_root Z this M (fun r2 M3 => zrA r2 fun x6 => wp_J29_getTreeNode_B15 Z K p0 p1 x6 M3))
theorem ok_J29_getTreeNode_B15 {G : zzX} (C : zz_C G cJ29_getTreeNode "java/util/HashMap$TreeNode" 3) {K : Option Value → zzM → Prop} (E : zz_E G (some (.object "java/util/HashMap$TreeNode")) K (fun _ _ _ => False)) (hH : zz_H G []) (hR : zz_Rm G 71) {v1 : Int32} {v2 : Option Nat} {s0 : Option Nat} {M : zzM} {bc bs : Nat} (hw : wp_J29_getTreeNode_B15 (zz_Zof G) K v1 v2 s0 M) : zz_T G 3 M bc bs 15 [(1, .int v1), (2, va_rf v2)] [va_rf s0] := by
  unfold wp_J29_getTreeNode_B15 at hw
  refine zz_iload_n C dJ29_getTreeNode_15 rfl 0 rfl ?_
  refine zz_aload_n C dJ29_getTreeNode_16 rfl 1 rfl ?_
  refine zz_null C dJ29_getTreeNode_17 ?_
  obtain ⟨a9, t9, b9, fs9, hro, hL, rfl, hw⟩ := ztyS hw
  refine zz_callV (r := (zR_25, zT_25, 11)) (As := [.int v1, va_rf v2, va_rf none]) (rest := []) (mc := 0) (ms := 0) C hR hro dJ29_getTreeNode_18 (Or.inl q1669) q1670 (Or.inl q1671) zl_java_util_HashMap_TreeNode zk_J29_find (Or.inl rfl) zy_J29_find rfl (by decide) (by decide) hL (ok_J29_find (zz_hl C) hw) (Nat.zero_le _) (Nat.zero_le _) (zz_cat10 _ (Nat.le_of_ble_eq_true rfl)) (fun r7 M8 hw => zz_kA hw (fun x11 hw => ?_)) (fun _ _ _ h9 => h9.elim) rfl
  exact zz_aret C E (Or.inl ⟨_, rfl⟩) dJ29_getTreeNode_21 hw
theorem ok_J29_getTreeNode {Z : zzG} {l : Launch} (hl : l.stackTraces = false) {this : Option Nat} {p0 : Int32} {p1 : Option Nat} {M : zzM} {mc ms : Nat} {K : Option Value → zzM → Prop} (hw : wp_J29_getTreeNode Z this p0 p1 M K) : zz_Met Z l yJ29_getTreeNode (zz_ws yJ29_getTreeNode cJ29_getTreeNode 3 (some (.object "java/util/HashMap$TreeNode")) none) 71 [va_rf this, .int p0, va_rf p1] M mc ms K (fun _ _ _ => False) := by
  refine zz_ofW hl (plainFor_of_name (by decide)) (by simp only [zz_sl0, zz_slI, zz_slJ, zz_slA] <;> decide) (fun G hZ hll C E hH hR hin => ?_)
  subst hZ
  subst hll
  rw [show lv_args 0 [va_rf this, .int p0, va_rf p1] = [(0, va_rf this), (1, .int p0), (2, va_rf p1)] by simp only [zz_la0, zz_laI, zz_laJ, zz_laA]]
  unfold wp_J29_getTreeNode at hw
  refine zz_aload_n C dJ29_getTreeNode_0 rfl 0 rfl ?_
  refine zz_getA C dJ29_getTreeNode_1 (Or.inl q1685) zf_25_4_shMap_TreeNode hw (fun x1 hw => ?_)
  refine zz_ifnull (tgt := 14) C dJ29_getTreeNode_4 (by decide) hw (fun hw => ?_) (fun hw => ?_)
  · refine zz_aload_n C dJ29_getTreeNode_14 rfl 0 rfl ?_
    refine zz_subP [1, 2] rfl ?_
    exact ok_J29_getTreeNode_B15 C E hH hR hw
  · refine zz_aload_n C dJ29_getTreeNode_7 rfl 0 rfl ?_
    obtain ⟨a9, t9, b9, fs9, hro, hL, rfl, hw⟩ := ztyS hw
    refine zz_callV (r := (zR_25, zT_25, 11)) (As := []) (rest := []) (mc := 0) (ms := 0) C hR hro dJ29_getTreeNode_8 (Or.inl q1664) q1665 (Or.inl q1666) zl_java_util_HashMap_TreeNode zk_J29_root (Or.inl rfl) zy_J29_root rfl (by decide) (by decide) hL (ok_J29_root (zz_hl C) hw) (Nat.zero_le _) (Nat.zero_le _) (zz_cat10 _ (Nat.le_of_ble_eq_true rfl)) (fun r2 M3 hw => zz_kA hw (fun x6 hw => ?_)) (fun _ _ _ h9 => h9.elim) rfl
    refine zz_goto (tgt := 15) C dJ29_getTreeNode_11 (by decide) ?_
    refine zz_subP [1, 2] rfl ?_
    exact ok_J29_getTreeNode_B15 C E hH hR hw
abbrev cJ4_getNode : ByteArray := prog_63_method_13_code
def yJ4_getNode : MethodName := ⟨"java/util/HashMap", "getNode", "(Ljava/lang/Object;)Ljava/util/HashMap$Node;"⟩
def dkwJ4_getNode_6 : List UInt8 := [89, 58, 4, 199, 255, 210, 1, 176]
abbrev dktJ4_getNode_6 : List UInt8 := dkwJ4_getNode_6 ++ []
def dkwJ4_getNode_5 : List UInt8 := [165, 0, 16, 43, 198, 0, 15, 43, 25, 7, 182, 0, 173, 153, 0, 6, 25, 4, 176, 25, 4, 180, 0, 177]
abbrev dktJ4_getNode_5 : List UInt8 := dkwJ4_getNode_5 ++ dktJ4_getNode_6
def dkwJ4_getNode_4 : List UInt8 := [43, 182, 0, 182, 176, 25, 4, 180, 0, 168, 21, 6, 160, 0, 31, 25, 4, 180, 0, 170, 89, 58, 7, 43]
abbrev dktJ4_getNode_4 : List UInt8 := dkwJ4_getNode_4 ++ dktJ4_getNode_5
def dkwJ4_getNode_3 : List UInt8 := [176, 45, 180, 0, 177, 89, 58, 4, 198, 0, 70, 45, 193, 0, 180, 153, 0, 14, 45, 192, 0, 180, 21, 6]
abbrev dktJ4_getNode_3 : List UInt8 := dkwJ4_getNode_3 ++ dktJ4_getNode_4
def dkwJ4_getNode_2 : List UInt8 := [180, 0, 170, 89, 58, 7, 43, 165, 0, 16, 43, 198, 0, 14, 43, 25, 7, 182, 0, 173, 153, 0, 5, 45]
abbrev dktJ4_getNode_2 : List UInt8 := dkwJ4_getNode_2 ++ dktJ4_getNode_3
def dkwJ4_getNode_1 : List UInt8 := [184, 0, 149, 89, 54, 6, 126, 50, 89, 78, 198, 0, 115, 45, 180, 0, 168, 21, 6, 160, 0, 29, 45]
abbrev dktJ4_getNode_1 : List UInt8 := dkwJ4_getNode_1 ++ dktJ4_getNode_2
def dkwJ4_getNode_0 : List UInt8 := [42, 180, 0, 105, 89, 77, 198, 0, 142, 44, 190, 89, 54, 5, 158, 0, 134, 44, 21, 5, 4, 100, 43]
abbrev dktJ4_getNode_0 : List UInt8 := dkwJ4_getNode_0 ++ dktJ4_getNode_1
theorem dksJ4_getNode_0 : cJ4_getNode.data.toList.drop 0 = dktJ4_getNode_0 := by decide +kernel
theorem dksJ4_getNode_1 : cJ4_getNode.data.toList.drop 23 = dktJ4_getNode_1 := dk_seg dksJ4_getNode_0 23 rfl rfl
theorem dksJ4_getNode_2 : cJ4_getNode.data.toList.drop 46 = dktJ4_getNode_2 := dk_seg dksJ4_getNode_1 23 rfl rfl
theorem dksJ4_getNode_3 : cJ4_getNode.data.toList.drop 70 = dktJ4_getNode_3 := dk_seg dksJ4_getNode_2 24 rfl rfl
theorem dksJ4_getNode_4 : cJ4_getNode.data.toList.drop 94 = dktJ4_getNode_4 := dk_seg dksJ4_getNode_3 24 rfl rfl
theorem dksJ4_getNode_5 : cJ4_getNode.data.toList.drop 118 = dktJ4_getNode_5 := dk_seg dksJ4_getNode_4 24 rfl rfl
theorem dksJ4_getNode_6 : cJ4_getNode.data.toList.drop 142 = dktJ4_getNode_6 := dk_seg dksJ4_getNode_5 24 rfl rfl
theorem dJ4_getNode_0 : decode cJ4_getNode 0 = .ok (.aload_n 0, 1) := dk_42 (dk_at dksJ4_getNode_0 0 rfl rfl)
theorem dJ4_getNode_1 : decode cJ4_getNode 1 = .ok (.getfield 105, 3) := dk_180 0 105 (dk_at dksJ4_getNode_0 1 rfl rfl)
theorem dJ4_getNode_4 : decode cJ4_getNode 4 = .ok (.dup, 1) := dk_89 (dk_at dksJ4_getNode_0 4 rfl rfl)
theorem dJ4_getNode_5 : decode cJ4_getNode 5 = .ok (.astore_n 2, 1) := dk_77 (dk_at dksJ4_getNode_0 5 rfl rfl)
theorem dJ4_getNode_6 : decode cJ4_getNode 6 = .ok (.ifnull 142, 3) := dk_198 0 142 (dk_at dksJ4_getNode_0 6 rfl rfl)
theorem dJ4_getNode_9 : decode cJ4_getNode 9 = .ok (.aload_n 2, 1) := dk_44 (dk_at dksJ4_getNode_0 9 rfl rfl)
theorem dJ4_getNode_10 : decode cJ4_getNode 10 = .ok (.arraylength, 1) := dk_190 (dk_at dksJ4_getNode_0 10 rfl rfl)
theorem dJ4_getNode_11 : decode cJ4_getNode 11 = .ok (.dup, 1) := dk_89 (dk_at dksJ4_getNode_0 11 rfl rfl)
theorem dJ4_getNode_12 : decode cJ4_getNode 12 = .ok (.istore 5, 2) := dk_54 5 (dk_at dksJ4_getNode_0 12 rfl rfl)
theorem dJ4_getNode_14 : decode cJ4_getNode 14 = .ok (.ifCond .le 134, 3) := dk_158 0 134 (dk_at dksJ4_getNode_0 14 rfl rfl)
theorem dJ4_getNode_17 : decode cJ4_getNode 17 = .ok (.aload_n 2, 1) := dk_44 (dk_at dksJ4_getNode_0 17 rfl rfl)
theorem dJ4_getNode_18 : decode cJ4_getNode 18 = .ok (.iload 5, 2) := dk_21 5 (dk_at dksJ4_getNode_0 18 rfl rfl)
theorem dJ4_getNode_20 : decode cJ4_getNode 20 = .ok (.iconst 1, 1) := dk_4 (dk_at dksJ4_getNode_0 20 rfl rfl)
theorem dJ4_getNode_21 : decode cJ4_getNode 21 = .ok (.isub, 1) := dk_100 (dk_at dksJ4_getNode_0 21 rfl rfl)
theorem dJ4_getNode_22 : decode cJ4_getNode 22 = .ok (.aload_n 1, 1) := dk_43 (dk_at dksJ4_getNode_0 22 rfl rfl)
theorem dJ4_getNode_23 : decode cJ4_getNode 23 = .ok (.invokestatic 149, 3) := dk_184 0 149 (dk_at dksJ4_getNode_1 0 rfl rfl)
theorem dJ4_getNode_26 : decode cJ4_getNode 26 = .ok (.dup, 1) := dk_89 (dk_at dksJ4_getNode_1 3 rfl rfl)
theorem dJ4_getNode_27 : decode cJ4_getNode 27 = .ok (.istore 6, 2) := dk_54 6 (dk_at dksJ4_getNode_1 4 rfl rfl)
theorem dJ4_getNode_29 : decode cJ4_getNode 29 = .ok (.iand, 1) := dk_126 (dk_at dksJ4_getNode_1 6 rfl rfl)
theorem dJ4_getNode_30 : decode cJ4_getNode 30 = .ok (.aaload, 1) := dk_50 (dk_at dksJ4_getNode_1 7 rfl rfl)
theorem dJ4_getNode_31 : decode cJ4_getNode 31 = .ok (.dup, 1) := dk_89 (dk_at dksJ4_getNode_1 8 rfl rfl)
theorem dJ4_getNode_32 : decode cJ4_getNode 32 = .ok (.astore_n 3, 1) := dk_78 (dk_at dksJ4_getNode_1 9 rfl rfl)
theorem dJ4_getNode_33 : decode cJ4_getNode 33 = .ok (.ifnull 115, 3) := dk_198 0 115 (dk_at dksJ4_getNode_1 10 rfl rfl)
theorem dJ4_getNode_36 : decode cJ4_getNode 36 = .ok (.aload_n 3, 1) := dk_45 (dk_at dksJ4_getNode_1 13 rfl rfl)
theorem dJ4_getNode_37 : decode cJ4_getNode 37 = .ok (.getfield 168, 3) := dk_180 0 168 (dk_at dksJ4_getNode_1 14 rfl rfl)
theorem dJ4_getNode_40 : decode cJ4_getNode 40 = .ok (.iload 6, 2) := dk_21 6 (dk_at dksJ4_getNode_1 17 rfl rfl)
theorem dJ4_getNode_42 : decode cJ4_getNode 42 = .ok (.if_icmp .ne 29, 3) := dk_160 0 29 (dk_at dksJ4_getNode_1 19 rfl rfl)
theorem dJ4_getNode_45 : decode cJ4_getNode 45 = .ok (.aload_n 3, 1) := dk_45 (dk_at dksJ4_getNode_1 22 rfl rfl)
theorem dJ4_getNode_46 : decode cJ4_getNode 46 = .ok (.getfield 170, 3) := dk_180 0 170 (dk_at dksJ4_getNode_2 0 rfl rfl)
theorem dJ4_getNode_49 : decode cJ4_getNode 49 = .ok (.dup, 1) := dk_89 (dk_at dksJ4_getNode_2 3 rfl rfl)
theorem dJ4_getNode_50 : decode cJ4_getNode 50 = .ok (.astore 7, 2) := dk_58 7 (dk_at dksJ4_getNode_2 4 rfl rfl)
theorem dJ4_getNode_52 : decode cJ4_getNode 52 = .ok (.aload_n 1, 1) := dk_43 (dk_at dksJ4_getNode_2 6 rfl rfl)
theorem dJ4_getNode_53 : decode cJ4_getNode 53 = .ok (.if_acmp .eq 16, 3) := dk_165 0 16 (dk_at dksJ4_getNode_2 7 rfl rfl)
theorem dJ4_getNode_56 : decode cJ4_getNode 56 = .ok (.aload_n 1, 1) := dk_43 (dk_at dksJ4_getNode_2 10 rfl rfl)
theorem dJ4_getNode_57 : decode cJ4_getNode 57 = .ok (.ifnull 14, 3) := dk_198 0 14 (dk_at dksJ4_getNode_2 11 rfl rfl)
theorem dJ4_getNode_60 : decode cJ4_getNode 60 = .ok (.aload_n 1, 1) := dk_43 (dk_at dksJ4_getNode_2 14 rfl rfl)
theorem dJ4_getNode_61 : decode cJ4_getNode 61 = .ok (.aload 7, 2) := dk_25 7 (dk_at dksJ4_getNode_2 15 rfl rfl)
theorem dJ4_getNode_63 : decode cJ4_getNode 63 = .ok (.invokevirtual 173, 3) := dk_182 0 173 (dk_at dksJ4_getNode_2 17 rfl rfl)
theorem dJ4_getNode_66 : decode cJ4_getNode 66 = .ok (.ifCond .eq 5, 3) := dk_153 0 5 (dk_at dksJ4_getNode_2 20 rfl rfl)
theorem dJ4_getNode_69 : decode cJ4_getNode 69 = .ok (.aload_n 3, 1) := dk_45 (dk_at dksJ4_getNode_2 23 rfl rfl)
theorem dJ4_getNode_70 : decode cJ4_getNode 70 = .ok (.areturn, 1) := dk_176 (dk_at dksJ4_getNode_3 0 rfl rfl)
theorem dJ4_getNode_71 : decode cJ4_getNode 71 = .ok (.aload_n 3, 1) := dk_45 (dk_at dksJ4_getNode_3 1 rfl rfl)
theorem dJ4_getNode_72 : decode cJ4_getNode 72 = .ok (.getfield 177, 3) := dk_180 0 177 (dk_at dksJ4_getNode_3 2 rfl rfl)
theorem dJ4_getNode_75 : decode cJ4_getNode 75 = .ok (.dup, 1) := dk_89 (dk_at dksJ4_getNode_3 5 rfl rfl)
theorem dJ4_getNode_76 : decode cJ4_getNode 76 = .ok (.astore 4, 2) := dk_58 4 (dk_at dksJ4_getNode_3 6 rfl rfl)
theorem dJ4_getNode_78 : decode cJ4_getNode 78 = .ok (.ifnull 70, 3) := dk_198 0 70 (dk_at dksJ4_getNode_3 8 rfl rfl)
theorem dJ4_getNode_81 : decode cJ4_getNode 81 = .ok (.aload_n 3, 1) := dk_45 (dk_at dksJ4_getNode_3 11 rfl rfl)
theorem dJ4_getNode_82 : decode cJ4_getNode 82 = .ok (.instanceof 180, 3) := dk_193 0 180 (dk_at dksJ4_getNode_3 12 rfl rfl)
theorem dJ4_getNode_85 : decode cJ4_getNode 85 = .ok (.ifCond .eq 14, 3) := dk_153 0 14 (dk_at dksJ4_getNode_3 15 rfl rfl)
theorem dJ4_getNode_88 : decode cJ4_getNode 88 = .ok (.aload_n 3, 1) := dk_45 (dk_at dksJ4_getNode_3 18 rfl rfl)
theorem dJ4_getNode_89 : decode cJ4_getNode 89 = .ok (.checkcast 180, 3) := dk_192 0 180 (dk_at dksJ4_getNode_3 19 rfl rfl)
theorem dJ4_getNode_92 : decode cJ4_getNode 92 = .ok (.iload 6, 2) := dk_21 6 (dk_at dksJ4_getNode_3 22 rfl rfl)
theorem dJ4_getNode_94 : decode cJ4_getNode 94 = .ok (.aload_n 1, 1) := dk_43 (dk_at dksJ4_getNode_4 0 rfl rfl)
theorem dJ4_getNode_95 : decode cJ4_getNode 95 = .ok (.invokevirtual 182, 3) := dk_182 0 182 (dk_at dksJ4_getNode_4 1 rfl rfl)
theorem dJ4_getNode_98 : decode cJ4_getNode 98 = .ok (.areturn, 1) := dk_176 (dk_at dksJ4_getNode_4 4 rfl rfl)
theorem dJ4_getNode_99 : decode cJ4_getNode 99 = .ok (.aload 4, 2) := dk_25 4 (dk_at dksJ4_getNode_4 5 rfl rfl)
theorem dJ4_getNode_101 : decode cJ4_getNode 101 = .ok (.getfield 168, 3) := dk_180 0 168 (dk_at dksJ4_getNode_4 7 rfl rfl)
theorem dJ4_getNode_104 : decode cJ4_getNode 104 = .ok (.iload 6, 2) := dk_21 6 (dk_at dksJ4_getNode_4 10 rfl rfl)
theorem dJ4_getNode_106 : decode cJ4_getNode 106 = .ok (.if_icmp .ne 31, 3) := dk_160 0 31 (dk_at dksJ4_getNode_4 12 rfl rfl)
theorem dJ4_getNode_109 : decode cJ4_getNode 109 = .ok (.aload 4, 2) := dk_25 4 (dk_at dksJ4_getNode_4 15 rfl rfl)
theorem dJ4_getNode_111 : decode cJ4_getNode 111 = .ok (.getfield 170, 3) := dk_180 0 170 (dk_at dksJ4_getNode_4 17 rfl rfl)
theorem dJ4_getNode_114 : decode cJ4_getNode 114 = .ok (.dup, 1) := dk_89 (dk_at dksJ4_getNode_4 20 rfl rfl)
theorem dJ4_getNode_115 : decode cJ4_getNode 115 = .ok (.astore 7, 2) := dk_58 7 (dk_at dksJ4_getNode_4 21 rfl rfl)
theorem dJ4_getNode_117 : decode cJ4_getNode 117 = .ok (.aload_n 1, 1) := dk_43 (dk_at dksJ4_getNode_4 23 rfl rfl)
theorem dJ4_getNode_118 : decode cJ4_getNode 118 = .ok (.if_acmp .eq 16, 3) := dk_165 0 16 (dk_at dksJ4_getNode_5 0 rfl rfl)
theorem dJ4_getNode_121 : decode cJ4_getNode 121 = .ok (.aload_n 1, 1) := dk_43 (dk_at dksJ4_getNode_5 3 rfl rfl)
theorem dJ4_getNode_122 : decode cJ4_getNode 122 = .ok (.ifnull 15, 3) := dk_198 0 15 (dk_at dksJ4_getNode_5 4 rfl rfl)
theorem dJ4_getNode_125 : decode cJ4_getNode 125 = .ok (.aload_n 1, 1) := dk_43 (dk_at dksJ4_getNode_5 7 rfl rfl)
theorem dJ4_getNode_126 : decode cJ4_getNode 126 = .ok (.aload 7, 2) := dk_25 7 (dk_at dksJ4_getNode_5 8 rfl rfl)
theorem dJ4_getNode_128 : decode cJ4_getNode 128 = .ok (.invokevirtual 173, 3) := dk_182 0 173 (dk_at dksJ4_getNode_5 10 rfl rfl)
theorem dJ4_getNode_131 : decode cJ4_getNode 131 = .ok (.ifCond .eq 6, 3) := dk_153 0 6 (dk_at dksJ4_getNode_5 13 rfl rfl)
theorem dJ4_getNode_134 : decode cJ4_getNode 134 = .ok (.aload 4, 2) := dk_25 4 (dk_at dksJ4_getNode_5 16 rfl rfl)
theorem dJ4_getNode_136 : decode cJ4_getNode 136 = .ok (.areturn, 1) := dk_176 (dk_at dksJ4_getNode_5 18 rfl rfl)
theorem dJ4_getNode_137 : decode cJ4_getNode 137 = .ok (.aload 4, 2) := dk_25 4 (dk_at dksJ4_getNode_5 19 rfl rfl)
theorem dJ4_getNode_139 : decode cJ4_getNode 139 = .ok (.getfield 177, 3) := dk_180 0 177 (dk_at dksJ4_getNode_5 21 rfl rfl)
theorem dJ4_getNode_142 : decode cJ4_getNode 142 = .ok (.dup, 1) := dk_89 (dk_at dksJ4_getNode_6 0 rfl rfl)
theorem dJ4_getNode_143 : decode cJ4_getNode 143 = .ok (.astore 4, 2) := dk_58 4 (dk_at dksJ4_getNode_6 1 rfl rfl)
theorem dJ4_getNode_145 : decode cJ4_getNode 145 = .ok (.ifnonnull (-46), 3) := dk_199 255 210 (dk_at dksJ4_getNode_6 3 rfl rfl)
theorem dJ4_getNode_148 : decode cJ4_getNode 148 = .ok (.aconst_null, 1) := dk_1 (dk_at dksJ4_getNode_6 6 rfl rfl)
theorem dJ4_getNode_149 : decode cJ4_getNode 149 = .ok (.areturn, 1) := dk_176 (dk_at dksJ4_getNode_6 7 rfl rfl)
theorem q1818 : (Jvm.Cond.code ({ cls := "java/util/HashMap$TreeNode", name := "getTreeNode", desc := "(ILjava/lang/Object;)Ljava/util/HashMap$TreeNode;" } : Jvm.MethodName) prog_65_method_5_code (3 : Nat) (Option.some (Jvm.ClassFile.FieldType.object "java/util/HashMap$TreeNode"))) ∈ lw_all := lw_g (lw_at lw_m8 58 rfl) rfl
theorem zk_J29_getTreeNode : zz_cd yJ29_getTreeNode cJ29_getTreeNode 3 (some (.object "java/util/HashMap$TreeNode")) none ∈ lw_all := q1818
theorem zy_J29_getTreeNode : zz_yok yJ29_getTreeNode 2 = true := by decide +kernel
theorem q1815 : (Jvm.Cond.methodLink "java/util/HashMap" (182 : Nat) ({ cls := "java/util/HashMap$TreeNode", name := "getTreeNode", desc := "(ILjava/lang/Object;)Ljava/util/HashMap$TreeNode;" } : Jvm.MethodName)) ∈ lw_all := lw_g (lw_at lw_m8 55 rfl) rfl
theorem q1816 : (Jvm.Cond.instanceMethod ({ cls := "java/util/HashMap$TreeNode", name := "getTreeNode", desc := "(ILjava/lang/Object;)Ljava/util/HashMap$TreeNode;" } : Jvm.MethodName)) ∈ lw_all := lw_g (lw_at lw_m8 56 rfl) rfl
theorem q1817 : (Jvm.Cond.selects "java/util/HashMap$TreeNode" ({ cls := "java/util/HashMap$TreeNode", name := "getTreeNode", desc := "(ILjava/lang/Object;)Ljava/util/HashMap$TreeNode;" } : Jvm.MethodName) ({ cls := "java/util/HashMap$TreeNode", name := "getTreeNode", desc := "(ILjava/lang/Object;)Ljava/util/HashMap$TreeNode;" } : Jvm.MethodName)) ∈ lw_all := lw_g (lw_at lw_m8 57 rfl) rfl
def wp_J4_getNode_B69 (Z : zzG) (K : Option Value → zzM → Prop) (v3 : Option Nat) (M : zzM) : Prop := K (some (va_rf v3)) M
def wp_J4_getNode_B134 (Z : zzG) (K : Option Value → zzM → Prop) (v4 : Option Nat) (M : zzM) : Prop := K (some (va_rf v4)) M
def wp_J4_getNode_B148 (Z : zzG) (K : Option Value → zzM → Prop) (M : zzM) : Prop := K (some (va_rf none)) M
def wp_J4_getNode_B137 (Z : zzG) (k99 : Option Nat → Option Nat → Int32 → zzM → Prop) (K : Option Value → zzM → Prop) (v1 : Option Nat) (v4 : Option Nat) (v6 : Int32) (M : zzM) : Prop := zgA Z M v4 [24, 25] 3 fun x30 => if x30 = none then (wp_J4_getNode_B148 Z K M) else (k99 v1 x30 v6 M)
def wp_J4_getNode_L99 (Z : zzG) (K : Option Value → zzM → Prop) : Nat → Option Nat → Option Nat → Int32 → zzM → Prop
  | 0, _, _, _, _ => False
  | n + 1, v1, v4, v6, M => zgI Z M v4 [24, 25] 0 fun x23 => if x23 = v6 then (zgA Z M v4 [24, 25] 1 fun x24 => if x24 = v1 then (wp_J4_getNode_B134 Z K v4 M) else (if v1 = none then (wp_J4_getNode_B137 Z (wp_J4_getNode_L99 Z K n) K v1 v4 v6 M) else (zty Z M v1 fun t => t = 21 ∧ wp_J7_equals Z v1 x24 M (fun r25 M26 => zrI r25 fun x29 => if x29 = 0 then (wp_J4_getNode_B137 Z (wp_J4_getNode_L99 Z K n) K v1 v4 v6 M26) else (wp_J4_getNode_B134 Z K v4 M26))))) else (wp_J4_getNode_B137 Z (wp_J4_getNode_L99 Z K n) K v1 v4 v6 M)
def wp_J4_getNode_B71 (Z : zzG) (K : Option Value → zzM → Prop) (v1 : Option Nat) (v3 : Option Nat) (v6 : Int32) (M : zzM) : Prop := zgA Z M v3 [24, 25] 3 fun x16 => if x16 = none then (wp_J4_getNode_B148 Z K M) else (zinst Z M v3 [25] [21, 24] fun x17 => if x17 = 0 then (∃ n99 : Nat, wp_J4_getNode_L99 Z K n99 v1 x16 v6 M) else (zcast Z M v3 [25] <| zty Z M v3 fun t => t = 25 ∧ wp_J29_getTreeNode Z v3 v6 v1 M (fun r18 M19 => zrA r18 fun x22 => K (some (va_rf x22)) M19)))
def wp_J4_getNode (Z : zzG) (this : Option Nat) (p0 : Option Nat) (M : zzM) (K : Option Value → zzM → Prop) : Prop := zgA Z M this [19] 2 fun x1 => if x1 = none then (wp_J4_getNode_B148 Z K M) else (zlen Z M x1 fun x2 => if x2 ≤ 0 then (wp_J4_getNode_B148 Z K M) else (wp_J4_hash Z p0 M (fun r3 M4 => zrI r3 fun x7 => zaA Z M4 x1 [103, 104, 105] ((x2 - (1 : Int32)) &&& x7) fun x8 => if x8 = none then (wp_J4_getNode_B148 Z K M4) else (zgI Z M4 x8 [24, 25] 0 fun x9 => if x9 = x7 then (zgA Z M4 x8 [24, 25] 1 fun x10 => if x10 = p0 then (wp_J4_getNode_B69 Z K x8 M4) else (if p0 = none then (wp_J4_getNode_B71 Z K p0 x8 x7 M4) else (zty Z M4 p0 fun t => t = 21 ∧ wp_J7_equals Z p0 x10 M4 (fun r11 M12 => zrI r11 fun x15 => if x15 = 0 then (wp_J4_getNode_B71 Z K p0 x8 x7 M12) else (wp_J4_getNode_B69 Z K x8 M12))))) else (wp_J4_getNode_B71 Z K p0 x8 x7 M4)))))
theorem ok_J4_getNode_B69 {G : zzX} (C : zz_C G cJ4_getNode "java/util/HashMap" 8) {K : Option Value → zzM → Prop} (E : zz_E G (some (.object "java/util/HashMap$Node")) K (fun _ _ _ => False)) (hH : zz_H G []) (hR : zz_Rm G 72) {v3 : Option Nat} {M : zzM} {bc bs : Nat} (hw : wp_J4_getNode_B69 (zz_Zof G) K v3 M) : zz_T G 8 M bc bs 69 [(3, va_rf v3)] [] := by
  unfold wp_J4_getNode_B69 at hw
  refine zz_aload_n C dJ4_getNode_69 rfl 0 rfl ?_
  exact zz_aret C E (Or.inl ⟨_, rfl⟩) dJ4_getNode_70 hw
theorem ok_J4_getNode_B134 {G : zzX} (C : zz_C G cJ4_getNode "java/util/HashMap" 8) {K : Option Value → zzM → Prop} (E : zz_E G (some (.object "java/util/HashMap$Node")) K (fun _ _ _ => False)) (hH : zz_H G []) (hR : zz_Rm G 72) {v4 : Option Nat} {M : zzM} {bc bs : Nat} (hw : wp_J4_getNode_B134 (zz_Zof G) K v4 M) : zz_T G 8 M bc bs 134 [(4, va_rf v4)] [] := by
  unfold wp_J4_getNode_B134 at hw
  refine zz_aload C dJ4_getNode_134 0 rfl ?_
  exact zz_aret C E (Or.inl ⟨_, rfl⟩) dJ4_getNode_136 hw
theorem ok_J4_getNode_B148 {G : zzX} (C : zz_C G cJ4_getNode "java/util/HashMap" 8) {K : Option Value → zzM → Prop} (E : zz_E G (some (.object "java/util/HashMap$Node")) K (fun _ _ _ => False)) (hH : zz_H G []) (hR : zz_Rm G 72) {M : zzM} {bc bs : Nat} (hw : wp_J4_getNode_B148 (zz_Zof G) K M) : zz_T G 8 M bc bs 148 [] [] := by
  unfold wp_J4_getNode_B148 at hw
  refine zz_null C dJ4_getNode_148 ?_
  exact zz_aret C E (Or.inl ⟨_, rfl⟩) dJ4_getNode_149 hw
theorem ok_J4_getNode_B137 {G : zzX} (C : zz_C G cJ4_getNode "java/util/HashMap" 8) {K : Option Value → zzM → Prop} (E : zz_E G (some (.object "java/util/HashMap$Node")) K (fun _ _ _ => False)) (hH : zz_H G []) (hR : zz_Rm G 72) {k99 : Option Nat → Option Nat → Int32 → zzM → Prop} (hk99 : ∀ (z0 : Option Nat) (z1 : Option Nat) (z2 : Int32) (M : zzM) (bc bs : Nat), k99 z0 z1 z2 M → zz_T G 8 M bc bs 99 [(1, va_rf z0), (4, va_rf z1), (6, .int z2)] []) {v1 : Option Nat} {v4 : Option Nat} {v6 : Int32} {M : zzM} {bc bs : Nat} (hw : wp_J4_getNode_B137 (zz_Zof G) k99 K v1 v4 v6 M) : zz_T G 8 M bc bs 137 [(1, va_rf v1), (4, va_rf v4), (6, .int v6)] [] := by
  unfold wp_J4_getNode_B137 at hw
  refine zz_aload C dJ4_getNode_137 1 rfl ?_
  refine zz_getA C dJ4_getNode_139 (Or.inl q1367) zf_24_25_3_l_HashMap_Node hw (fun x30 hw => ?_)
  refine zz_dup C dJ4_getNode_142 (zz_cat _) ?_
  refine zz_astore (lv' := [(4, va_rf x30), (1, va_rf v1), (6, .int v6)]) C dJ4_getNode_143 (by decide) rfl ?_
  refine zz_ifnonnull (tgt := 99) C dJ4_getNode_145 (by decide) hw (fun hw => ?_) (fun hw => ?_)
  · refine zz_subP [1, 0, 2] rfl ?_
    exact hk99 _ _ _ _ _ _ hw
  · refine zz_subP [] rfl ?_
    exact ok_J4_getNode_B148 C E hH hR hw
theorem ok_J4_getNode_L99 {G : zzX} (C : zz_C G cJ4_getNode "java/util/HashMap" 8) {K : Option Value → zzM → Prop} (E : zz_E G (some (.object "java/util/HashMap$Node")) K (fun _ _ _ => False)) (hH : zz_H G []) (hR : zz_Rm G 72) : ∀ (n : Nat) (v1 : Option Nat) (v4 : Option Nat) (v6 : Int32) (M : zzM) (bc bs : Nat), wp_J4_getNode_L99 (zz_Zof G) K n v1 v4 v6 M → zz_T G 8 M bc bs 99 [(1, va_rf v1), (4, va_rf v4), (6, .int v6)] [] := by
  intro n
  induction n with
  | zero =>
    intro v1 v4 v6 M bc bs hw
    exact False.elim hw
  | succ n ih =>
    intro v1 v4 v6 M bc bs hw
    refine zz_aload C dJ4_getNode_99 1 rfl ?_
    refine zz_getI C dJ4_getNode_101 (Or.inl q1356) zf_24_25_0_l_HashMap_Node hw (fun x23 hw => ?_)
    refine zz_iload C dJ4_getNode_104 2 rfl ?_
    refine zz_icmp_ne (tgt := 137) C dJ4_getNode_106 (by decide) hw (fun hw => ?_) (fun hw => ?_)
    · refine zz_subP [0, 1, 2] rfl ?_
      exact ok_J4_getNode_B137 C E hH hR (fun z0 z1 z2 z3 z4 z5 hw => ih z0 z1 z2 z3 z4 z5 hw) hw
    · refine zz_aload C dJ4_getNode_109 1 rfl ?_
      refine zz_getA C dJ4_getNode_111 (Or.inl q1360) zf_24_25_1_l_HashMap_Node hw (fun x24 hw => ?_)
      refine zz_dup C dJ4_getNode_114 (zz_cat _) ?_
      refine zz_astore (lv' := [(7, va_rf x24), (1, va_rf v1), (4, va_rf v4), (6, .int v6)]) C dJ4_getNode_115 (by decide) rfl ?_
      refine zz_aload_n C dJ4_getNode_117 rfl 1 rfl ?_
      refine zz_acmp_eq (tgt := 134) C dJ4_getNode_118 (by decide) hw (fun hw => ?_) (fun hw => ?_)
      · refine zz_subP [2] rfl ?_
        exact ok_J4_getNode_B134 C E hH hR hw
      · refine zz_aload_n C dJ4_getNode_121 rfl 1 rfl ?_
        refine zz_ifnull (tgt := 137) C dJ4_getNode_122 (by decide) hw (fun hw => ?_) (fun hw => ?_)
        · refine zz_subP [1, 2, 3] rfl ?_
          exact ok_J4_getNode_B137 C E hH hR (fun z0 z1 z2 z3 z4 z5 hw => ih z0 z1 z2 z3 z4 z5 hw) hw
        · refine zz_aload_n C dJ4_getNode_125 rfl 1 rfl ?_
          refine zz_aload C dJ4_getNode_126 0 rfl ?_
          obtain ⟨a9, t9, b9, fs9, hro, hL, rfl, hw⟩ := ztyS hw
          refine zz_callU (r := (zR_21, zT_21, 4)) (x := ⟨"java/lang/Object", "equals", "(Ljava/lang/Object;)Z"⟩) (owner := "java/lang/Object") (As := [va_rf x24]) (rest := []) (mc := 0) (ms := 0) C hR hro dJ4_getNode_128 q1623 q1625 (Or.inl q1622) q709 q1654 zl_java_lang_String zk_J7_equals zyo_java_lang_Object_equals__Ljava_lang_Object__Z rfl (by decide) (by decide) hL (ok_J7_equals (zz_hl C) hw) (Nat.zero_le _) (Nat.zero_le _) (zz_cat10 _ (Nat.le_of_ble_eq_true rfl)) (fun r25 M26 hw => zz_kI hw (fun x29 hw => ?_)) (fun _ _ _ h9 => h9.elim) rfl
          refine zz_if_eq (tgt := 137) C dJ4_getNode_131 (by decide) hw (fun hw => ?_) (fun hw => ?_)
          · refine zz_subP [1, 2, 3] rfl ?_
            exact ok_J4_getNode_B137 C E hH hR (fun z0 z1 z2 z3 z4 z5 hw => ih z0 z1 z2 z3 z4 z5 hw) hw
          · refine zz_subP [2] rfl ?_
            exact ok_J4_getNode_B134 C E hH hR hw
theorem ok_J4_getNode_B71 {G : zzX} (C : zz_C G cJ4_getNode "java/util/HashMap" 8) {K : Option Value → zzM → Prop} (E : zz_E G (some (.object "java/util/HashMap$Node")) K (fun _ _ _ => False)) (hH : zz_H G []) (hR : zz_Rm G 72) {v1 : Option Nat} {v3 : Option Nat} {v6 : Int32} {M : zzM} {bc bs : Nat} (hw : wp_J4_getNode_B71 (zz_Zof G) K v1 v3 v6 M) : zz_T G 8 M bc bs 71 [(1, va_rf v1), (3, va_rf v3), (6, .int v6)] [] := by
  unfold wp_J4_getNode_B71 at hw
  refine zz_aload_n C dJ4_getNode_71 rfl 1 rfl ?_
  refine zz_getA C dJ4_getNode_72 (Or.inl q1367) zf_24_25_3_l_HashMap_Node hw (fun x16 hw => ?_)
  refine zz_dup C dJ4_getNode_75 (zz_cat _) ?_
  refine zz_astore (lv' := [(4, va_rf x16), (1, va_rf v1), (3, va_rf v3), (6, .int v6)]) C dJ4_getNode_76 (by decide) (by simp [zz_cat, zz_catI, zz_catJ, zz_catD]) ?_
  refine zz_ifnull (tgt := 148) C dJ4_getNode_78 (by decide) hw (fun hw => ?_) (fun hw => ?_)
  · refine zz_subP [] rfl ?_
    exact ok_J4_getNode_B148 C E hH hR hw
  · refine zz_aload_n C dJ4_getNode_81 rfl 2 rfl ?_
    refine zz_inst C dJ4_getNode_82 q1334 zc_25_shMap_TreeNode zn_21_24_shMap_TreeNode hw (fun x17 hw => ?_)
    refine zz_if_eq (tgt := 99) C dJ4_getNode_85 (by decide) hw (fun hw => ?_) (fun hw => ?_)
    · refine zz_subP [1, 0, 3] rfl ?_
      obtain ⟨n99, hw⟩ := hw
      exact ok_J4_getNode_L99 C E hH hR n99 _ _ _ _ _ _ hw
    · refine zz_aload_n C dJ4_getNode_88 rfl 2 rfl ?_
      refine zz_cast C dJ4_getNode_89 q1334 zc_25_shMap_TreeNode hw (fun hw => ?_)
      refine zz_iload C dJ4_getNode_92 3 rfl ?_
      refine zz_aload_n C dJ4_getNode_94 rfl 1 rfl ?_
      obtain ⟨a9, t9, b9, fs9, hro, hL, rfl, hw⟩ := ztyS hw
      refine zz_callV (r := (zR_25, zT_25, 11)) (As := [.int v6, va_rf v1]) (rest := []) (mc := 0) (ms := 0) C hR hro dJ4_getNode_95 (Or.inl q1815) q1816 (Or.inl q1817) zl_java_util_HashMap_TreeNode zk_J29_getTreeNode (Or.inl rfl) zy_J29_getTreeNode rfl (by decide) (by decide) hL (ok_J29_getTreeNode (zz_hl C) hw) (Nat.zero_le _) (Nat.zero_le _) (zz_cat10 _ (Nat.le_of_ble_eq_true rfl)) (fun r18 M19 hw => zz_kA hw (fun x22 hw => ?_)) (fun _ _ _ h9 => h9.elim) rfl
      exact zz_aret C E (Or.inl ⟨_, rfl⟩) dJ4_getNode_98 hw
theorem ok_J4_getNode {Z : zzG} {l : Launch} (hl : l.stackTraces = false) {this : Option Nat} {p0 : Option Nat} {M : zzM} {mc ms : Nat} {K : Option Value → zzM → Prop} (hw : wp_J4_getNode Z this p0 M K) : zz_Met Z l yJ4_getNode (zz_ws yJ4_getNode cJ4_getNode 8 (some (.object "java/util/HashMap$Node")) none) 72 [va_rf this, va_rf p0] M mc ms K (fun _ _ _ => False) := by
  refine zz_ofW hl (plainFor_of_name (by decide)) (by simp only [zz_sl0, zz_slI, zz_slJ, zz_slA] <;> decide) (fun G hZ hll C E hH hR hin => ?_)
  subst hZ
  subst hll
  rw [show lv_args 0 [va_rf this, va_rf p0] = [(0, va_rf this), (1, va_rf p0)] by simp only [zz_la0, zz_laI, zz_laJ, zz_laA]]
  unfold wp_J4_getNode at hw
  refine zz_aload_n C dJ4_getNode_0 rfl 0 rfl ?_
  refine zz_getA C dJ4_getNode_1 (Or.inl q209) zf_19_2_a_util_HashMap hw (fun x1 hw => ?_)
  refine zz_dup C dJ4_getNode_4 (zz_cat _) ?_
  refine zz_astore_n (i := 2) (lv' := [(2, va_rf x1), (0, va_rf this), (1, va_rf p0)]) C dJ4_getNode_5 rfl (by decide) (by simp [zz_cat, zz_catI, zz_catJ, zz_catD]) ?_
  refine zz_ifnull (tgt := 148) C dJ4_getNode_6 (by decide) hw (fun hw => ?_) (fun hw => ?_)
  · refine zz_subP [] rfl ?_
    exact ok_J4_getNode_B148 C E hH hR hw
  · refine zz_aload_n C dJ4_getNode_9 rfl 0 rfl ?_
    refine zz_alen C dJ4_getNode_10 hw (fun x2 hw => ?_)
    refine zz_dup C dJ4_getNode_11 rfl ?_
    refine zz_istore (lv' := [(5, .int x2), (2, va_rf x1), (0, va_rf this), (1, va_rf p0)]) C dJ4_getNode_12 (by decide) rfl ?_
    refine zz_if_le (tgt := 148) C dJ4_getNode_14 (by decide) hw (fun hw => ?_) (fun hw => ?_)
    · refine zz_subP [] rfl ?_
      exact ok_J4_getNode_B148 C E hH hR hw
    · refine zz_aload_n C dJ4_getNode_17 rfl 1 rfl ?_
      refine zz_iload C dJ4_getNode_18 0 rfl ?_
      refine zz_iconst (v := (1 : Int32)) C dJ4_getNode_20 (by decide) ?_
      refine zz_isub C dJ4_getNode_21 ?_
      refine zz_aload_n C dJ4_getNode_22 rfl 3 rfl ?_
      refine zz_callS (As := [va_rf p0]) (rest := [.int (x2 - (1 : Int32)), va_rf x1]) (mc := 0) (ms := 0) C hR dJ4_getNode_23 (Or.inl q1222) q1223 zl_java_util_HashMap zk_J4_hash (Or.inl rfl) zy_J4_hash (by decide) (by decide) (ok_J4_hash (zz_hl C) hw) (Nat.zero_le _) (Nat.zero_le _) (zz_cat10 _ (Nat.le_of_ble_eq_true rfl)) (fun r3 M4 hw => zz_kI hw (fun x7 hw => ?_)) (fun _ _ _ h9 => h9.elim) rfl
      refine zz_dup C dJ4_getNode_26 rfl ?_
      refine zz_istore (lv' := [(6, .int x7), (5, .int x2), (2, va_rf x1), (0, va_rf this), (1, va_rf p0)]) C dJ4_getNode_27 (by decide) rfl ?_
      refine zz_iand C dJ4_getNode_29 ?_
      refine zz_aald C dJ4_getNode_30 hw (fun x8 hw => ?_)
      refine zz_dup C dJ4_getNode_31 (zz_cat _) ?_
      refine zz_astore_n (i := 3) (lv' := [(3, va_rf x8), (6, .int x7), (5, .int x2), (2, va_rf x1), (0, va_rf this), (1, va_rf p0)]) C dJ4_getNode_32 rfl (by decide) (by simp [zz_cat, zz_catI, zz_catJ, zz_catD]) ?_
      refine zz_ifnull (tgt := 148) C dJ4_getNode_33 (by decide) hw (fun hw => ?_) (fun hw => ?_)
      · refine zz_subP [] rfl ?_
        exact ok_J4_getNode_B148 C E hH hR hw
      · refine zz_aload_n C dJ4_getNode_36 rfl 0 rfl ?_
        refine zz_getI C dJ4_getNode_37 (Or.inl q1356) zf_24_25_0_l_HashMap_Node hw (fun x9 hw => ?_)
        refine zz_iload C dJ4_getNode_40 1 rfl ?_
        refine zz_icmp_ne (tgt := 71) C dJ4_getNode_42 (by decide) hw (fun hw => ?_) (fun hw => ?_)
        · refine zz_subP [5, 0, 1] rfl ?_
          exact ok_J4_getNode_B71 C E hH hR hw
        · refine zz_aload_n C dJ4_getNode_45 rfl 0 rfl ?_
          refine zz_getA C dJ4_getNode_46 (Or.inl q1360) zf_24_25_1_l_HashMap_Node hw (fun x10 hw => ?_)
          refine zz_dup C dJ4_getNode_49 (zz_cat _) ?_
          refine zz_astore (lv' := [(7, va_rf x10), (3, va_rf x8), (6, .int x7), (5, .int x2), (2, va_rf x1), (0, va_rf this), (1, va_rf p0)]) C dJ4_getNode_50 (by decide) rfl ?_
          refine zz_aload_n C dJ4_getNode_52 rfl 6 rfl ?_
          refine zz_acmp_eq (tgt := 69) C dJ4_getNode_53 (by decide) hw (fun hw => ?_) (fun hw => ?_)
          · refine zz_subP [1] rfl ?_
            exact ok_J4_getNode_B69 C E hH hR hw
          · refine zz_aload_n C dJ4_getNode_56 rfl 6 rfl ?_
            refine zz_ifnull (tgt := 71) C dJ4_getNode_57 (by decide) hw (fun hw => ?_) (fun hw => ?_)
            · refine zz_subP [6, 1, 2] rfl ?_
              exact ok_J4_getNode_B71 C E hH hR hw
            · refine zz_aload_n C dJ4_getNode_60 rfl 6 rfl ?_
              refine zz_aload C dJ4_getNode_61 0 rfl ?_
              obtain ⟨a9, t9, b9, fs9, hro, hL, rfl, hw⟩ := ztyS hw
              refine zz_callU (r := (zR_21, zT_21, 4)) (x := ⟨"java/lang/Object", "equals", "(Ljava/lang/Object;)Z"⟩) (owner := "java/lang/Object") (As := [va_rf x10]) (rest := []) (mc := 0) (ms := 0) C hR hro dJ4_getNode_63 q1623 q1625 (Or.inl q1622) q709 q1654 zl_java_lang_String zk_J7_equals zyo_java_lang_Object_equals__Ljava_lang_Object__Z rfl (by decide) (by decide) hL (ok_J7_equals (zz_hl C) hw) (Nat.zero_le _) (Nat.zero_le _) (zz_cat10 _ (Nat.le_of_ble_eq_true rfl)) (fun r11 M12 hw => zz_kI hw (fun x15 hw => ?_)) (fun _ _ _ h9 => h9.elim) rfl
              refine zz_if_eq (tgt := 71) C dJ4_getNode_66 (by decide) hw (fun hw => ?_) (fun hw => ?_)
              · refine zz_subP [6, 1, 2] rfl ?_
                exact ok_J4_getNode_B71 C E hH hR hw
              · refine zz_subP [1] rfl ?_
                exact ok_J4_getNode_B69 C E hH hR hw
abbrev cJ4_containsKey : ByteArray := prog_63_method_14_code
def yJ4_containsKey : MethodName := ⟨"java/util/HashMap", "containsKey", "(Ljava/lang/Object;)Z"⟩
def dkwJ4_containsKey_0 : List UInt8 := [42, 43, 182, 0, 158, 198, 0, 7, 4, 167, 0, 4, 3, 172]
abbrev dktJ4_containsKey_0 : List UInt8 := dkwJ4_containsKey_0 ++ []
theorem dksJ4_containsKey_0 : cJ4_containsKey.data.toList.drop 0 = dktJ4_containsKey_0 := by decide +kernel
theorem dJ4_containsKey_0 : decode cJ4_containsKey 0 = .ok (.aload_n 0, 1) := dk_42 (dk_at dksJ4_containsKey_0 0 rfl rfl)
theorem dJ4_containsKey_1 : decode cJ4_containsKey 1 = .ok (.aload_n 1, 1) := dk_43 (dk_at dksJ4_containsKey_0 1 rfl rfl)
theorem dJ4_containsKey_2 : decode cJ4_containsKey 2 = .ok (.invokevirtual 158, 3) := dk_182 0 158 (dk_at dksJ4_containsKey_0 2 rfl rfl)
theorem dJ4_containsKey_5 : decode cJ4_containsKey 5 = .ok (.ifnull 7, 3) := dk_198 0 7 (dk_at dksJ4_containsKey_0 5 rfl rfl)
theorem dJ4_containsKey_8 : decode cJ4_containsKey 8 = .ok (.iconst 1, 1) := dk_4 (dk_at dksJ4_containsKey_0 8 rfl rfl)
theorem dJ4_containsKey_9 : decode cJ4_containsKey 9 = .ok (.goto 4, 3) := dk_167 0 4 (dk_at dksJ4_containsKey_0 9 rfl rfl)
theorem dJ4_containsKey_12 : decode cJ4_containsKey 12 = .ok (.iconst 0, 1) := dk_3 (dk_at dksJ4_containsKey_0 12 rfl rfl)
theorem dJ4_containsKey_13 : decode cJ4_containsKey 13 = .ok (.ireturn, 1) := dk_172 (dk_at dksJ4_containsKey_0 13 rfl rfl)
theorem q1814 : (Jvm.Cond.code ({ cls := "java/util/HashMap", name := "getNode", desc := "(Ljava/lang/Object;)Ljava/util/HashMap$Node;" } : Jvm.MethodName) prog_63_method_13_code (8 : Nat) (Option.some (Jvm.ClassFile.FieldType.object "java/util/HashMap$Node"))) ∈ lw_all := lw_g (lw_at lw_m8 54 rfl) rfl
theorem zk_J4_getNode : zz_cd yJ4_getNode cJ4_getNode 8 (some (.object "java/util/HashMap$Node")) none ∈ lw_all := q1814
theorem zy_J4_getNode : zz_yok yJ4_getNode 1 = true := by decide +kernel
theorem q1811 : (Jvm.Cond.methodLink "java/util/HashMap" (158 : Nat) ({ cls := "java/util/HashMap", name := "getNode", desc := "(Ljava/lang/Object;)Ljava/util/HashMap$Node;" } : Jvm.MethodName)) ∈ lw_all := lw_g (lw_at lw_m8 51 rfl) rfl
theorem q1812 : (Jvm.Cond.instanceMethod ({ cls := "java/util/HashMap", name := "getNode", desc := "(Ljava/lang/Object;)Ljava/util/HashMap$Node;" } : Jvm.MethodName)) ∈ lw_all := lw_g (lw_at lw_m8 52 rfl) rfl
theorem q1813 : (Jvm.Cond.selects "java/util/HashMap" ({ cls := "java/util/HashMap", name := "getNode", desc := "(Ljava/lang/Object;)Ljava/util/HashMap$Node;" } : Jvm.MethodName) ({ cls := "java/util/HashMap", name := "getNode", desc := "(Ljava/lang/Object;)Ljava/util/HashMap$Node;" } : Jvm.MethodName)) ∈ lw_all := lw_g (lw_at lw_m8 53 rfl) rfl
def wp_J4_containsKey_B13 (Z : zzG) (K : Option Value → zzM → Prop) (s0 : Int32) (M : zzM) : Prop := narrow .boolean (.int s0) = .int s0 ∧ K (some (.int s0)) M
def wp_J4_containsKey (Z : zzG) (this : Option Nat) (p0 : Option Nat) (M : zzM) (K : Option Value → zzM → Prop) : Prop := zty Z M this fun t => t = 19 ∧ wp_J4_getNode Z this p0 M (fun r1 M2 => zrA r1 fun x5 => if x5 = none then (wp_J4_containsKey_B13 Z K (0 : Int32) M2) else (wp_J4_containsKey_B13 Z K (1 : Int32) M2))
theorem ok_J4_containsKey_B13 {G : zzX} (C : zz_C G cJ4_containsKey "java/util/HashMap" 2) {K : Option Value → zzM → Prop} (E : zz_E G (some .boolean) K (fun _ _ _ => False)) (hH : zz_H G []) (hR : zz_Rm G 73) {s0 : Int32} {M : zzM} {bc bs : Nat} (hw : wp_J4_containsKey_B13 (zz_Zof G) K s0 M) : zz_T G 2 M bc bs 13 [] [.int s0] := by
  unfold wp_J4_containsKey_B13 at hw
  exact zz_zret C E dJ4_containsKey_13 hw
theorem ok_J4_containsKey {Z : zzG} {l : Launch} (hl : l.stackTraces = false) {this : Option Nat} {p0 : Option Nat} {M : zzM} {mc ms : Nat} {K : Option Value → zzM → Prop} (hw : wp_J4_containsKey Z this p0 M K) : zz_Met Z l yJ4_containsKey (zz_ws yJ4_containsKey cJ4_containsKey 2 (some .boolean) none) 73 [va_rf this, va_rf p0] M mc ms K (fun _ _ _ => False) := by
  refine zz_ofW hl (plainFor_of_name (by decide)) (by simp only [zz_sl0, zz_slI, zz_slJ, zz_slA] <;> decide) (fun G hZ hll C E hH hR hin => ?_)
  subst hZ
  subst hll
  rw [show lv_args 0 [va_rf this, va_rf p0] = [(0, va_rf this), (1, va_rf p0)] by simp only [zz_la0, zz_laI, zz_laJ, zz_laA]]
  unfold wp_J4_containsKey at hw
  refine zz_aload_n C dJ4_containsKey_0 rfl 0 rfl ?_
  refine zz_aload_n C dJ4_containsKey_1 rfl 1 rfl ?_
  obtain ⟨a9, t9, b9, fs9, hro, hL, rfl, hw⟩ := ztyS hw
  refine zz_callV (r := (zR_19, zT_19, 8)) (As := [va_rf p0]) (rest := []) (mc := 0) (ms := 0) C hR hro dJ4_containsKey_2 (Or.inl q1811) q1812 (Or.inl q1813) zl_java_util_HashMap zk_J4_getNode (Or.inl rfl) zy_J4_getNode rfl (by decide) (by decide) hL (ok_J4_getNode (zz_hl C) hw) (Nat.zero_le _) (Nat.zero_le _) (zz_cat10 _ (Nat.le_of_ble_eq_true rfl)) (fun r1 M2 hw => zz_kA hw (fun x5 hw => ?_)) (fun _ _ _ h9 => h9.elim) rfl
  refine zz_ifnull (tgt := 12) C dJ4_containsKey_5 (by decide) hw (fun hw => ?_) (fun hw => ?_)
  · refine zz_iconst (v := (0 : Int32)) C dJ4_containsKey_12 (by decide) ?_
    refine zz_subP [] rfl ?_
    exact ok_J4_containsKey_B13 C E hH hR hw
  · refine zz_iconst (v := (1 : Int32)) C dJ4_containsKey_8 (by decide) ?_
    refine zz_goto (tgt := 13) C dJ4_containsKey_9 (by decide) ?_
    refine zz_subP [] rfl ?_
    exact ok_J4_containsKey_B13 C E hH hR hw
abbrev cX10_check : ByteArray := prog_11_method_3_code
def yX10_check : MethodName := ⟨"DebateHall$Line", "check", "(IZLDebateHall$Token;)V"⟩
def dkwX10_check_0 : List UInt8 := [27, 154, 0, 16, 187, 0, 9, 89, 26, 44, 180, 0, 11, 183, 0, 17, 191, 177]
abbrev dktX10_check_0 : List UInt8 := dkwX10_check_0 ++ []
theorem dksX10_check_0 : cX10_check.data.toList.drop 0 = dktX10_check_0 := by decide +kernel
theorem dX10_check_0 : decode cX10_check 0 = .ok (.iload_n 1, 1) := dk_27 (dk_at dksX10_check_0 0 rfl rfl)
theorem dX10_check_1 : decode cX10_check 1 = .ok (.ifCond .ne 16, 3) := dk_154 0 16 (dk_at dksX10_check_0 1 rfl rfl)
theorem dX10_check_4 : decode cX10_check 4 = .ok (.new 9, 3) := dk_187 0 9 (dk_at dksX10_check_0 4 rfl rfl)
theorem dX10_check_7 : decode cX10_check 7 = .ok (.dup, 1) := dk_89 (dk_at dksX10_check_0 7 rfl rfl)
theorem dX10_check_8 : decode cX10_check 8 = .ok (.iload_n 0, 1) := dk_26 (dk_at dksX10_check_0 8 rfl rfl)
theorem dX10_check_9 : decode cX10_check 9 = .ok (.aload_n 2, 1) := dk_44 (dk_at dksX10_check_0 9 rfl rfl)
theorem dX10_check_10 : decode cX10_check 10 = .ok (.getfield 11, 3) := dk_180 0 11 (dk_at dksX10_check_0 10 rfl rfl)
theorem dX10_check_13 : decode cX10_check 13 = .ok (.invokespecial 17, 3) := dk_183 0 17 (dk_at dksX10_check_0 13 rfl rfl)
theorem dX10_check_16 : decode cX10_check 16 = .ok (.athrow, 1) := dk_191 (dk_at dksX10_check_0 16 rfl rfl)
theorem dX10_check_17 : decode cX10_check 17 = .ok (.return_, 1) := dk_177 (dk_at dksX10_check_0 17 rfl rfl)
theorem q1822 : (Jvm.Cond.classLink "DebateHall$Line" (9 : Nat) "DebateHall$Fault") ∈ lw_all := lw_g (lw_at lw_m8 62 rfl) rfl
theorem q379 : (Jvm.Cond.fieldLinkNest "DebateHall$Line" (11 : Nat) "DebateHall$Token" "at" "I" "DebateHall") ∈ lw_tbl := lw_at lw_m2 59 rfl
theorem q1823 : (Jvm.Cond.methodLink "DebateHall$Line" (17 : Nat) ({ cls := "DebateHall$Fault", name := "<init>", desc := "(II)V" } : Jvm.MethodName)) ∈ lw_all := lw_g (lw_at lw_m8 63 rfl) rfl
def wp_X10_check (Z : zzG) (p0 : Int32) (p1 : Int32) (p2 : Option Nat) (M : zzM) (bc bs : Nat) (K : Option Value → zzM → Prop) (X : Nat → Nat → zzM → Prop) : Prop := if p1 = 0 then (znew Z M bc bs 6 8 [.int 0, .int 0, .null, .null, .null, .null, .null, .int 0] fun q1 M2 bc3 bs4 => zgI Z M2 p2 [5] 2 fun x5 => wp_X9_init Z (some q1) p0 x5 M2 (fun r6 M7 => zrV r6 (zthr Z M7 (some q1) [6] fun _ q10 => X 6 q10 M7))) else (K none M)
theorem ok_X10_check {Z : zzG} {l : Launch} (hl : l.stackTraces = false) {p0 : Int32} {p1 : Int32} {p2 : Option Nat} {M : zzM} {mc ms : Nat} {K : Option Value → zzM → Prop} {X : Nat → Nat → zzM → Prop} (hw : wp_X10_check Z p0 p1 p2 M mc ms K X) : zz_Met Z l yX10_check (zz_ws yX10_check cX10_check 3 none none) 7 [.int p0, .int p1, va_rf p2] M mc ms K X := by
  refine zz_ofW hl (plainFor_of_name (by decide)) (by simp only [zz_sl0, zz_slI, zz_slJ, zz_slA] <;> decide) (fun G hZ hll C E hH hR hin => ?_)
  subst hZ
  subst hll
  rw [show lv_args 0 [.int p0, .int p1, va_rf p2] = [(0, .int p0), (1, .int p1), (2, va_rf p2)] by simp only [zz_la0, zz_laI, zz_laJ, zz_laA]]
  unfold wp_X10_check at hw
  refine zz_iload_n C dX10_check_0 rfl 1 rfl ?_
  refine zz_if_ne (tgt := 17) C dX10_check_1 (by decide) hw (fun hw => ?_) (fun hw => ?_)
  · exact zz_vret C E dX10_check_17 hw
  · refine zz_new (r := (zR_6, zT_6, 8)) C dX10_check_4 rfl (by decide) q1822 q916 zl_DebateHall_Fault rfl hw (fun q1 M2 bc3 bs4 hw => ?_)
    refine zz_dup C dX10_check_7 (zz_cat _) ?_
    refine zz_iload_n C dX10_check_8 rfl 0 rfl ?_
    refine zz_aload_n C dX10_check_9 rfl 2 rfl ?_
    refine zz_getI C dX10_check_10 (Or.inr ⟨_, q379⟩) zf_5_2_bateHall_Token hw (fun x5 hw => ?_)
    refine zz_callI (As := [.int p0, .int x5]) (rest := [va_rf (some q1)]) (mc := 0) (ms := 0) C hR rfl dX10_check_13 (Or.inl q1823) q925 zl_DebateHall_Fault zk_X9_init rfl zy_X9_init (by decide) (by decide) (ok_X9_init (zz_hl C) hw) (Nat.zero_le _) (Nat.zero_le _) (zz_cat10 _ (Nat.le_of_ble_eq_true rfl)) (fun r6 M7 hw => zz_kV hw (fun hw => ?_)) (fun _ _ _ h9 => h9.elim) rfl
    refine zz_athrow C dX10_check_16 hw (fun t9 q10 ht hw => ?_)
    rw [List.mem_singleton] at ht
    subst ht
    exact zz_out C E hH rfl hw
abbrev cX8_number : ByteArray := prog_22_method_3_code
def yX8_number : MethodName := ⟨"DebateHall$Token", "number", "()I"⟩
def dkwX8_number_1 : List UInt8 := [182, 0, 39, 96, 16, 48, 100, 60, 132, 2, 1, 167, 255, 225, 27, 172]
abbrev dktX8_number_1 : List UInt8 := dkwX8_number_1 ++ []
def dkwX8_number_0 : List UInt8 := [3, 60, 3, 61, 28, 42, 180, 0, 13, 182, 0, 35, 162, 0, 26, 16, 10, 27, 104, 42, 180, 0, 13, 28]
abbrev dktX8_number_0 : List UInt8 := dkwX8_number_0 ++ dktX8_number_1
theorem dksX8_number_0 : cX8_number.data.toList.drop 0 = dktX8_number_0 := by decide +kernel
theorem dksX8_number_1 : cX8_number.data.toList.drop 24 = dktX8_number_1 := dk_seg dksX8_number_0 24 rfl rfl
theorem dX8_number_0 : decode cX8_number 0 = .ok (.iconst 0, 1) := dk_3 (dk_at dksX8_number_0 0 rfl rfl)
theorem dX8_number_1 : decode cX8_number 1 = .ok (.istore_n 1, 1) := dk_60 (dk_at dksX8_number_0 1 rfl rfl)
theorem dX8_number_2 : decode cX8_number 2 = .ok (.iconst 0, 1) := dk_3 (dk_at dksX8_number_0 2 rfl rfl)
theorem dX8_number_3 : decode cX8_number 3 = .ok (.istore_n 2, 1) := dk_61 (dk_at dksX8_number_0 3 rfl rfl)
theorem dX8_number_4 : decode cX8_number 4 = .ok (.iload_n 2, 1) := dk_28 (dk_at dksX8_number_0 4 rfl rfl)
theorem dX8_number_5 : decode cX8_number 5 = .ok (.aload_n 0, 1) := dk_42 (dk_at dksX8_number_0 5 rfl rfl)
theorem dX8_number_6 : decode cX8_number 6 = .ok (.getfield 13, 3) := dk_180 0 13 (dk_at dksX8_number_0 6 rfl rfl)
theorem dX8_number_9 : decode cX8_number 9 = .ok (.invokevirtual 35, 3) := dk_182 0 35 (dk_at dksX8_number_0 9 rfl rfl)
theorem dX8_number_12 : decode cX8_number 12 = .ok (.if_icmp .ge 26, 3) := dk_162 0 26 (dk_at dksX8_number_0 12 rfl rfl)
theorem dX8_number_15 : decode cX8_number 15 = .ok (.bipush 10, 2) := dk_16 10 (dk_at dksX8_number_0 15 rfl rfl)
theorem dX8_number_17 : decode cX8_number 17 = .ok (.iload_n 1, 1) := dk_27 (dk_at dksX8_number_0 17 rfl rfl)
theorem dX8_number_18 : decode cX8_number 18 = .ok (.imul, 1) := dk_104 (dk_at dksX8_number_0 18 rfl rfl)
theorem dX8_number_19 : decode cX8_number 19 = .ok (.aload_n 0, 1) := dk_42 (dk_at dksX8_number_0 19 rfl rfl)
theorem dX8_number_20 : decode cX8_number 20 = .ok (.getfield 13, 3) := dk_180 0 13 (dk_at dksX8_number_0 20 rfl rfl)
theorem dX8_number_23 : decode cX8_number 23 = .ok (.iload_n 2, 1) := dk_28 (dk_at dksX8_number_0 23 rfl rfl)
theorem dX8_number_24 : decode cX8_number 24 = .ok (.invokevirtual 39, 3) := dk_182 0 39 (dk_at dksX8_number_1 0 rfl rfl)
theorem dX8_number_27 : decode cX8_number 27 = .ok (.iadd, 1) := dk_96 (dk_at dksX8_number_1 3 rfl rfl)
theorem dX8_number_28 : decode cX8_number 28 = .ok (.bipush 48, 2) := dk_16 48 (dk_at dksX8_number_1 4 rfl rfl)
theorem dX8_number_30 : decode cX8_number 30 = .ok (.isub, 1) := dk_100 (dk_at dksX8_number_1 6 rfl rfl)
theorem dX8_number_31 : decode cX8_number 31 = .ok (.istore_n 1, 1) := dk_60 (dk_at dksX8_number_1 7 rfl rfl)
theorem dX8_number_32 : decode cX8_number 32 = .ok (.iinc 2 1, 3) := dk_132 2 1 (dk_at dksX8_number_1 8 rfl rfl)
theorem dX8_number_35 : decode cX8_number 35 = .ok (.goto (-31), 3) := dk_167 255 225 (dk_at dksX8_number_1 11 rfl rfl)
theorem dX8_number_38 : decode cX8_number 38 = .ok (.iload_n 1, 1) := dk_27 (dk_at dksX8_number_1 14 rfl rfl)
theorem dX8_number_39 : decode cX8_number 39 = .ok (.ireturn, 1) := dk_172 (dk_at dksX8_number_1 15 rfl rfl)
theorem q1839 : (Jvm.Cond.methodLink "DebateHall$Token" (39 : Nat) ({ cls := "java/lang/String", name := "charAt", desc := "(I)C" } : Jvm.MethodName)) ∈ lw_all := lw_g (lw_at lw_m8 79 rfl) rfl
theorem q1838 : (Jvm.Cond.methodLink "DebateHall$Token" (35 : Nat) ({ cls := "java/lang/String", name := "length", desc := "()I" } : Jvm.MethodName)) ∈ lw_all := lw_g (lw_at lw_m8 78 rfl) rfl
def wp_X8_number_L4 (Z : zzG) (K : Option Value → zzM → Prop) : Nat → Option Nat → Int32 → Int32 → zzM → Prop
  | 0, _, _, _, _ => False
  | n + 1, v0, v1, v2, M => zgA Z M v0 [5] 1 fun x1 => zty Z M x1 fun t => t = 21 ∧ wp_J7_length Z x1 M (fun r2 M3 => zrI r2 fun x6 => if x6 ≤ v2 then (K (some (.int v1)) M3) else (zgA Z M3 v0 [5] 1 fun x7 => zty Z M3 x7 fun t => t = 21 ∧ wp_J7_charAt Z x7 v2 M3 (fun r8 M9 => zrI r8 fun x12 => wp_X8_number_L4 Z K n v0 ((((10 : Int32) * v1) + x12) - (48 : Int32)) (v2 + 1) M9)))
def wp_X8_number (Z : zzG) (this : Option Nat) (M : zzM) (K : Option Value → zzM → Prop) : Prop := ∃ n4 : Nat, wp_X8_number_L4 Z K n4 this (0 : Int32) (0 : Int32) M
theorem ok_X8_number_L4 {G : zzX} (C : zz_C G cX8_number "DebateHall$Token" 3) {K : Option Value → zzM → Prop} (E : zz_E G (some .int) K (fun _ _ _ => False)) (hH : zz_H G []) (hR : zz_Rm G 5) : ∀ (n : Nat) (v0 : Option Nat) (v1 : Int32) (v2 : Int32) (M : zzM) (bc bs : Nat), wp_X8_number_L4 (zz_Zof G) K n v0 v1 v2 M → zz_T G 3 M bc bs 4 [(0, va_rf v0), (1, .int v1), (2, .int v2)] [] := by
  intro n
  induction n with
  | zero =>
    intro v0 v1 v2 M bc bs hw
    exact False.elim hw
  | succ n ih =>
    intro v0 v1 v2 M bc bs hw
    refine zz_iload_n C dX8_number_4 rfl 2 rfl ?_
    refine zz_aload_n C dX8_number_5 rfl 0 rfl ?_
    refine zz_getA C dX8_number_6 (Or.inl q369) zf_5_1_bateHall_Token hw (fun x1 hw => ?_)
    obtain ⟨a9, t9, b9, fs9, hro, hL, rfl, hw⟩ := ztyS hw
    refine zz_callV (r := (zR_21, zT_21, 4)) (As := []) (rest := [.int v2]) (mc := 0) (ms := 0) C hR hro dX8_number_9 (Or.inl q1838) q627 (Or.inl q628) zl_java_lang_String zk_J7_length (Or.inl rfl) zy_J7_length rfl (by decide) (by decide) hL (ok_J7_length (zz_hl C) hw) (Nat.zero_le _) (Nat.zero_le _) (zz_cat10 _ (Nat.le_of_ble_eq_true rfl)) (fun r2 M3 hw => zz_kI hw (fun x6 hw => ?_)) (fun _ _ _ h9 => h9.elim) rfl
    refine zz_icmp_ge (tgt := 38) C dX8_number_12 (by decide) hw (fun hw => ?_) (fun hw => ?_)
    · refine zz_iload_n C dX8_number_38 rfl 1 rfl ?_
      exact zz_iret C E dX8_number_39 hw
    · refine zz_bipush (v := (10 : Int32)) C dX8_number_15 (by decide) ?_
      refine zz_iload_n C dX8_number_17 rfl 1 rfl ?_
      refine zz_imul C dX8_number_18 ?_
      refine zz_aload_n C dX8_number_19 rfl 0 rfl ?_
      refine zz_getA C dX8_number_20 (Or.inl q369) zf_5_1_bateHall_Token hw (fun x7 hw => ?_)
      refine zz_iload_n C dX8_number_23 rfl 2 rfl ?_
      obtain ⟨a9, t9, b9, fs9, hro, hL, rfl, hw⟩ := ztyS hw
      refine zz_callV (r := (zR_21, zT_21, 4)) (As := [.int v2]) (rest := [.int ((10 : Int32) * v1)]) (mc := 0) (ms := 0) C hR hro dX8_number_24 (Or.inl q1839) q1840 (Or.inl q1841) zl_java_lang_String zk_J7_charAt (Or.inl rfl) zy_J7_charAt rfl (by decide) (by decide) hL (ok_J7_charAt (zz_hl C) hw) (Nat.zero_le _) (Nat.zero_le _) (zz_cat10 _ (Nat.le_of_ble_eq_true rfl)) (fun r8 M9 hw => zz_kI hw (fun x12 hw => ?_)) (fun _ _ _ h9 => h9.elim) rfl
      refine zz_iadd C dX8_number_27 ?_
      refine zz_bipush (v := (48 : Int32)) C dX8_number_28 (by decide) ?_
      refine zz_isub C dX8_number_30 ?_
      refine zz_istore_n (i := 1) (lv' := [(1, .int ((((10 : Int32) * v1) + x12) - (48 : Int32))), (0, va_rf v0), (2, .int v2)]) C dX8_number_31 rfl (by decide) (by simp [zz_cat, zz_catI, zz_catJ, zz_catD]) ?_
      refine zz_iinc (lv' := [(2, .int (v2 + 1)), (1, .int ((((10 : Int32) * v1) + x12) - (48 : Int32))), (0, va_rf v0)]) C dX8_number_32 2 rfl (by rfl) (by decide) rfl ?_
      refine zz_goto (tgt := 4) C dX8_number_35 (by decide) ?_
      refine zz_subP [2, 1, 0] rfl ?_
      exact ih _ _ _ _ _ _ hw
theorem ok_X8_number {Z : zzG} {l : Launch} (hl : l.stackTraces = false) {this : Option Nat} {M : zzM} {mc ms : Nat} {K : Option Value → zzM → Prop} (hw : wp_X8_number Z this M K) : zz_Met Z l yX8_number (zz_ws yX8_number cX8_number 3 (some .int) none) 5 [va_rf this] M mc ms K (fun _ _ _ => False) := by
  refine zz_ofW hl (plainFor_of_name (by decide)) (by simp only [zz_sl0, zz_slI, zz_slJ, zz_slA] <;> decide) (fun G hZ hll C E hH hR hin => ?_)
  subst hZ
  subst hll
  rw [show lv_args 0 [va_rf this] = [(0, va_rf this)] by simp only [zz_la0, zz_laI, zz_laJ, zz_laA]]
  unfold wp_X8_number at hw
  refine zz_iconst (v := (0 : Int32)) C dX8_number_0 (by decide) ?_
  refine zz_istore_n (i := 1) (lv' := [(1, .int (0 : Int32)), (0, va_rf this)]) C dX8_number_1 rfl (by decide) (by simp [zz_cat, zz_catI, zz_catJ, zz_catD]) ?_
  refine zz_iconst (v := (0 : Int32)) C dX8_number_2 (by decide) ?_
  refine zz_istore_n (i := 2) (lv' := [(2, .int (0 : Int32)), (1, .int (0 : Int32)), (0, va_rf this)]) C dX8_number_3 rfl (by decide) rfl ?_
  refine zz_subP [2, 1, 0] rfl ?_
  obtain ⟨n4, hw⟩ := hw
  exact ok_X8_number_L4 C E hH hR n4 _ _ _ _ _ _ hw
abbrev cX10_number : ByteArray := prog_11_method_5_code
def yX10_number : MethodName := ⟨"DebateHall$Line", "number", "(LDebateHall$Token;III)I"⟩
def dkwX10_number_1 : List UInt8 := [167, 0, 4, 3, 42, 184, 0, 36, 42, 182, 0, 48, 172]
abbrev dktX10_number_1 : List UInt8 := dkwX10_number_1 ++ []
def dkwX10_number_0 : List UInt8 := [42, 199, 0, 5, 29, 172, 8, 42, 182, 0, 48, 27, 161, 0, 15, 42, 182, 0, 48, 28, 163, 0, 7, 4]
abbrev dktX10_number_0 : List UInt8 := dkwX10_number_0 ++ dktX10_number_1
theorem dksX10_number_0 : cX10_number.data.toList.drop 0 = dktX10_number_0 := by decide +kernel
theorem dksX10_number_1 : cX10_number.data.toList.drop 24 = dktX10_number_1 := dk_seg dksX10_number_0 24 rfl rfl
theorem dX10_number_0 : decode cX10_number 0 = .ok (.aload_n 0, 1) := dk_42 (dk_at dksX10_number_0 0 rfl rfl)
theorem dX10_number_1 : decode cX10_number 1 = .ok (.ifnonnull 5, 3) := dk_199 0 5 (dk_at dksX10_number_0 1 rfl rfl)
theorem dX10_number_4 : decode cX10_number 4 = .ok (.iload_n 3, 1) := dk_29 (dk_at dksX10_number_0 4 rfl rfl)
theorem dX10_number_5 : decode cX10_number 5 = .ok (.ireturn, 1) := dk_172 (dk_at dksX10_number_0 5 rfl rfl)
theorem dX10_number_6 : decode cX10_number 6 = .ok (.iconst 5, 1) := dk_8 (dk_at dksX10_number_0 6 rfl rfl)
theorem dX10_number_7 : decode cX10_number 7 = .ok (.aload_n 0, 1) := dk_42 (dk_at dksX10_number_0 7 rfl rfl)
theorem dX10_number_8 : decode cX10_number 8 = .ok (.invokevirtual 48, 3) := dk_182 0 48 (dk_at dksX10_number_0 8 rfl rfl)
theorem dX10_number_11 : decode cX10_number 11 = .ok (.iload_n 1, 1) := dk_27 (dk_at dksX10_number_0 11 rfl rfl)
theorem dX10_number_12 : decode cX10_number 12 = .ok (.if_icmp .lt 15, 3) := dk_161 0 15 (dk_at dksX10_number_0 12 rfl rfl)
theorem dX10_number_15 : decode cX10_number 15 = .ok (.aload_n 0, 1) := dk_42 (dk_at dksX10_number_0 15 rfl rfl)
theorem dX10_number_16 : decode cX10_number 16 = .ok (.invokevirtual 48, 3) := dk_182 0 48 (dk_at dksX10_number_0 16 rfl rfl)
theorem dX10_number_19 : decode cX10_number 19 = .ok (.iload_n 2, 1) := dk_28 (dk_at dksX10_number_0 19 rfl rfl)
theorem dX10_number_20 : decode cX10_number 20 = .ok (.if_icmp .gt 7, 3) := dk_163 0 7 (dk_at dksX10_number_0 20 rfl rfl)
theorem dX10_number_23 : decode cX10_number 23 = .ok (.iconst 1, 1) := dk_4 (dk_at dksX10_number_0 23 rfl rfl)
theorem dX10_number_24 : decode cX10_number 24 = .ok (.goto 4, 3) := dk_167 0 4 (dk_at dksX10_number_1 0 rfl rfl)
theorem dX10_number_27 : decode cX10_number 27 = .ok (.iconst 0, 1) := dk_3 (dk_at dksX10_number_1 3 rfl rfl)
theorem dX10_number_28 : decode cX10_number 28 = .ok (.aload_n 0, 1) := dk_42 (dk_at dksX10_number_1 4 rfl rfl)
theorem dX10_number_29 : decode cX10_number 29 = .ok (.invokestatic 36, 3) := dk_184 0 36 (dk_at dksX10_number_1 5 rfl rfl)
theorem dX10_number_32 : decode cX10_number 32 = .ok (.aload_n 0, 1) := dk_42 (dk_at dksX10_number_1 8 rfl rfl)
theorem dX10_number_33 : decode cX10_number 33 = .ok (.invokevirtual 48, 3) := dk_182 0 48 (dk_at dksX10_number_1 9 rfl rfl)
theorem dX10_number_36 : decode cX10_number 36 = .ok (.ireturn, 1) := dk_172 (dk_at dksX10_number_1 12 rfl rfl)
theorem q1837 : (Jvm.Cond.code ({ cls := "DebateHall$Token", name := "number", desc := "()I" } : Jvm.MethodName) prog_22_method_3_code (3 : Nat) (Option.some Jvm.ClassFile.FieldType.int)) ∈ lw_all := lw_g (lw_at lw_m8 77 rfl) rfl
theorem zk_X8_number : zz_cd yX8_number cX8_number 3 (some .int) none ∈ lw_all := q1837
theorem zy_X8_number : zz_yok yX8_number 0 = true := by decide +kernel
theorem q1834 : (Jvm.Cond.methodLink "DebateHall$Line" (48 : Nat) ({ cls := "DebateHall$Token", name := "number", desc := "()I" } : Jvm.MethodName)) ∈ lw_all := lw_g (lw_at lw_m8 74 rfl) rfl
theorem q1835 : (Jvm.Cond.instanceMethod ({ cls := "DebateHall$Token", name := "number", desc := "()I" } : Jvm.MethodName)) ∈ lw_all := lw_g (lw_at lw_m8 75 rfl) rfl
theorem q1836 : (Jvm.Cond.selects "DebateHall$Token" ({ cls := "DebateHall$Token", name := "number", desc := "()I" } : Jvm.MethodName) ({ cls := "DebateHall$Token", name := "number", desc := "()I" } : Jvm.MethodName)) ∈ lw_all := lw_g (lw_at lw_m8 76 rfl) rfl
theorem q1821 : (Jvm.Cond.code ({ cls := "DebateHall$Line", name := "check", desc := "(IZLDebateHall$Token;)V" } : Jvm.MethodName) prog_11_method_3_code (3 : Nat) (Option.none : Option Jvm.ClassFile.FieldType)) ∈ lw_all := lw_g (lw_at lw_m8 61 rfl) rfl
theorem zk_X10_check : zz_cd yX10_check cX10_check 3 none none ∈ lw_all := q1821
theorem zy_X10_check : zz_yok yX10_check 3 = true := by decide +kernel
theorem q1819 : (Jvm.Cond.methodLink "DebateHall$Line" (36 : Nat) ({ cls := "DebateHall$Line", name := "check", desc := "(IZLDebateHall$Token;)V" } : Jvm.MethodName)) ∈ lw_all := lw_g (lw_at lw_m8 59 rfl) rfl
theorem q1820 : (Jvm.Cond.static ({ cls := "DebateHall$Line", name := "check", desc := "(IZLDebateHall$Token;)V" } : Jvm.MethodName)) ∈ lw_all := lw_g (lw_at lw_m8 60 rfl) rfl
def wp_X10_number_B28 (Z : zzG) (K : Option Value → zzM → Prop) (X : Nat → Nat → zzM → Prop) (v0 : Option Nat) (s0 : Int32) (s1 : Int32) (M : zzM) (bc bs : Nat) : Prop := zcx bc bs (fun c s k x => wp_X10_check Z s1 s0 v0 M c s k x) (fun r11 M12 bc13 bs14 => zrV r11 (zty Z M12 v0 fun t => t = 5 ∧ wp_X8_number Z v0 M12 (fun r15 M16 => zrI r15 fun x19 => K (some (.int x19)) M16))) (fun t q M _ _ => X t q M)
def wp_X10_number_B27 (Z : zzG) (K : Option Value → zzM → Prop) (X : Nat → Nat → zzM → Prop) (v0 : Option Nat) (s0 : Int32) (M : zzM) (bc bs : Nat) : Prop := wp_X10_number_B28 Z K X v0 (0 : Int32) s0 M bc bs
def wp_X10_number (Z : zzG) (p0 : Option Nat) (p1 : Int32) (p2 : Int32) (p3 : Int32) (M : zzM) (bc bs : Nat) (K : Option Value → zzM → Prop) (X : Nat → Nat → zzM → Prop) : Prop := if p0 = none then (K (some (.int p3)) M) else (zty Z M p0 fun t => t = 5 ∧ wp_X8_number Z p0 M (fun r1 M2 => zrI r1 fun x5 => if x5 < p1 then (wp_X10_number_B27 Z K X p0 (5 : Int32) M2 bc bs) else (zty Z M2 p0 fun t => t = 5 ∧ wp_X8_number Z p0 M2 (fun r6 M7 => zrI r6 fun x10 => if p2 < x10 then (wp_X10_number_B27 Z K X p0 (5 : Int32) M7 bc bs) else (wp_X10_number_B28 Z K X p0 (1 : Int32) (5 : Int32) M7 bc bs)))))
theorem ok_X10_number_B28 {G : zzX} (C : zz_C G cX10_number "DebateHall$Line" 4) {K : Option Value → zzM → Prop} {X : Nat → Nat → zzM → Prop} (E : zz_E G (some .int) K X) (hH : zz_H G []) (hR : zz_Rm G 8) {v0 : Option Nat} {s0 : Int32} {s1 : Int32} {M : zzM} {bc bs : Nat} (hw : wp_X10_number_B28 (zz_Zof G) K X v0 s0 s1 M bc bs) : zz_T G 4 M bc bs 28 [(0, va_rf v0)] [.int s0, .int s1] := by
  unfold wp_X10_number_B28 at hw
  refine zz_aload_n C dX10_number_28 rfl 0 rfl ?_
  obtain ⟨c9, s9, hc9, hs9, hw⟩ := hw
  refine zz_callS (As := [.int s1, .int s0, va_rf v0]) (rest := []) C hR dX10_number_29 (Or.inl q1819) q1820 zl_DebateHall_Line zk_X10_check (Or.inl rfl) zy_X10_check (by decide) (by decide) (ok_X10_check (zz_hl C) hw) hc9 hs9 (zz_cat10 _ (Nat.le_of_ble_eq_true rfl)) (fun r11 M12 hw => zz_kV hw (fun hw => ?_)) (fun t9 q20 M21 hx => ?_) rfl
  · refine zz_aload_n C dX10_number_32 rfl 0 rfl ?_
    obtain ⟨a9, t9, b9, fs9, hro, hL, rfl, hw⟩ := ztyS hw
    refine zz_callV (r := (zR_5, zT_5, 3)) (As := []) (rest := []) (mc := 0) (ms := 0) C hR hro dX10_number_33 (Or.inl q1834) q1835 (Or.inl q1836) zl_DebateHall_Token zk_X8_number (Or.inl rfl) zy_X8_number rfl (by decide) (by decide) hL (ok_X8_number (zz_hl C) hw) (Nat.zero_le _) (Nat.zero_le _) (zz_cat10 _ (Nat.le_of_ble_eq_true rfl)) (fun r15 M16 hw => zz_kI hw (fun x19 hw => ?_)) (fun _ _ _ h9 => h9.elim) rfl
    exact zz_iret C E dX10_number_36 hw
  · exact zz_out C E hH rfl hx
theorem ok_X10_number_B27 {G : zzX} (C : zz_C G cX10_number "DebateHall$Line" 4) {K : Option Value → zzM → Prop} {X : Nat → Nat → zzM → Prop} (E : zz_E G (some .int) K X) (hH : zz_H G []) (hR : zz_Rm G 8) {v0 : Option Nat} {s0 : Int32} {M : zzM} {bc bs : Nat} (hw : wp_X10_number_B27 (zz_Zof G) K X v0 s0 M bc bs) : zz_T G 4 M bc bs 27 [(0, va_rf v0)] [.int s0] := by
  unfold wp_X10_number_B27 at hw
  refine zz_iconst (v := (0 : Int32)) C dX10_number_27 (by decide) ?_
  refine zz_subP [0] rfl ?_
  exact ok_X10_number_B28 C E hH hR hw
theorem ok_X10_number {Z : zzG} {l : Launch} (hl : l.stackTraces = false) {p0 : Option Nat} {p1 : Int32} {p2 : Int32} {p3 : Int32} {M : zzM} {mc ms : Nat} {K : Option Value → zzM → Prop} {X : Nat → Nat → zzM → Prop} (hw : wp_X10_number Z p0 p1 p2 p3 M mc ms K X) : zz_Met Z l yX10_number (zz_ws yX10_number cX10_number 4 (some .int) none) 8 [va_rf p0, .int p1, .int p2, .int p3] M mc ms K X := by
  refine zz_ofW hl (plainFor_of_name (by decide)) (by simp only [zz_sl0, zz_slI, zz_slJ, zz_slA] <;> decide) (fun G hZ hll C E hH hR hin => ?_)
  subst hZ
  subst hll
  rw [show lv_args 0 [va_rf p0, .int p1, .int p2, .int p3] = [(0, va_rf p0), (1, .int p1), (2, .int p2), (3, .int p3)] by simp only [zz_la0, zz_laI, zz_laJ, zz_laA]]
  unfold wp_X10_number at hw
  refine zz_aload_n C dX10_number_0 rfl 0 rfl ?_
  refine zz_ifnonnull (tgt := 6) C dX10_number_1 (by decide) hw (fun hw => ?_) (fun hw => ?_)
  · refine zz_iconst (v := (5 : Int32)) C dX10_number_6 (by decide) ?_
    refine zz_aload_n C dX10_number_7 rfl 0 rfl ?_
    obtain ⟨a9, t9, b9, fs9, hro, hL, rfl, hw⟩ := ztyS hw
    refine zz_callV (r := (zR_5, zT_5, 3)) (As := []) (rest := [.int (5 : Int32)]) (mc := 0) (ms := 0) C hR hro dX10_number_8 (Or.inl q1834) q1835 (Or.inl q1836) zl_DebateHall_Token zk_X8_number (Or.inl rfl) zy_X8_number rfl (by decide) (by decide) hL (ok_X8_number (zz_hl C) hw) (Nat.zero_le _) (Nat.zero_le _) (zz_cat10 _ (Nat.le_of_ble_eq_true rfl)) (fun r1 M2 hw => zz_kI hw (fun x5 hw => ?_)) (fun _ _ _ h9 => h9.elim) rfl
    refine zz_iload_n C dX10_number_11 rfl 1 rfl ?_
    refine zz_icmp_lt (tgt := 27) C dX10_number_12 (by decide) hw (fun hw => ?_) (fun hw => ?_)
    · refine zz_subP [0] rfl ?_
      exact ok_X10_number_B27 C E hH hR hw
    · refine zz_aload_n C dX10_number_15 rfl 0 rfl ?_
      obtain ⟨a9, t9, b9, fs9, hro, hL, rfl, hw⟩ := ztyS hw
      refine zz_callV (r := (zR_5, zT_5, 3)) (As := []) (rest := [.int (5 : Int32)]) (mc := 0) (ms := 0) C hR hro dX10_number_16 (Or.inl q1834) q1835 (Or.inl q1836) zl_DebateHall_Token zk_X8_number (Or.inl rfl) zy_X8_number rfl (by decide) (by decide) hL (ok_X8_number (zz_hl C) hw) (Nat.zero_le _) (Nat.zero_le _) (zz_cat10 _ (Nat.le_of_ble_eq_true rfl)) (fun r6 M7 hw => zz_kI hw (fun x10 hw => ?_)) (fun _ _ _ h9 => h9.elim) rfl
      refine zz_iload_n C dX10_number_19 rfl 2 rfl ?_
      refine zz_icmp_gt (tgt := 27) C dX10_number_20 (by decide) hw (fun hw => ?_) (fun hw => ?_)
      · refine zz_subP [0] rfl ?_
        exact ok_X10_number_B27 C E hH hR hw
      · refine zz_iconst (v := (1 : Int32)) C dX10_number_23 (by decide) ?_
        refine zz_goto (tgt := 28) C dX10_number_24 (by decide) ?_
        refine zz_subP [0] rfl ?_
        exact ok_X10_number_B28 C E hH hR hw
  · refine zz_iload_n C dX10_number_4 rfl 3 rfl ?_
    exact zz_iret C E dX10_number_5 hw
abbrev cX11_carryOut : ByteArray := prog_15_method_2_code
def yX11_carryOut : MethodName := ⟨"DebateHall$Seat", "carryOut", "(LDebateHall$Minutes;)V"⟩
def dkwX11_carryOut_3 : List UInt8 := [180, 0, 24, 42, 180, 0, 15, 3, 17, 14, 16, 17, 1, 44, 184, 0, 52, 183, 0, 56, 182, 0, 59, 177]
abbrev dktX11_carryOut_3 : List UInt8 := dkwX11_carryOut_3 ++ []
def dkwX11_carryOut_2 : List UInt8 := [42, 180, 0, 9, 184, 0, 36, 43, 187, 0, 50, 89, 43, 180, 0, 40, 182, 0, 44, 42, 180, 0, 9]
abbrev dktX11_carryOut_2 : List UInt8 := dkwX11_carryOut_2 ++ dktX11_carryOut_3
def dkwX11_carryOut_1 : List UInt8 := [180, 0, 9, 184, 0, 36, 7, 43, 180, 0, 40, 182, 0, 44, 16, 6, 162, 0, 7, 4, 167, 0, 4, 3]
abbrev dktX11_carryOut_1 : List UInt8 := dkwX11_carryOut_1 ++ dktX11_carryOut_2
def dkwX11_carryOut_0 : List UInt8 := [5, 43, 180, 0, 18, 42, 180, 0, 9, 180, 0, 24, 182, 0, 30, 154, 0, 7, 4, 167, 0, 4, 3, 42]
abbrev dktX11_carryOut_0 : List UInt8 := dkwX11_carryOut_0 ++ dktX11_carryOut_1
theorem dksX11_carryOut_0 : cX11_carryOut.data.toList.drop 0 = dktX11_carryOut_0 := by decide +kernel
theorem dksX11_carryOut_1 : cX11_carryOut.data.toList.drop 24 = dktX11_carryOut_1 := dk_seg dksX11_carryOut_0 24 rfl rfl
theorem dksX11_carryOut_2 : cX11_carryOut.data.toList.drop 48 = dktX11_carryOut_2 := dk_seg dksX11_carryOut_1 24 rfl rfl
theorem dksX11_carryOut_3 : cX11_carryOut.data.toList.drop 71 = dktX11_carryOut_3 := dk_seg dksX11_carryOut_2 23 rfl rfl
theorem dX11_carryOut_0 : decode cX11_carryOut 0 = .ok (.iconst 2, 1) := dk_5 (dk_at dksX11_carryOut_0 0 rfl rfl)
theorem dX11_carryOut_1 : decode cX11_carryOut 1 = .ok (.aload_n 1, 1) := dk_43 (dk_at dksX11_carryOut_0 1 rfl rfl)
theorem dX11_carryOut_2 : decode cX11_carryOut 2 = .ok (.getfield 18, 3) := dk_180 0 18 (dk_at dksX11_carryOut_0 2 rfl rfl)
theorem dX11_carryOut_5 : decode cX11_carryOut 5 = .ok (.aload_n 0, 1) := dk_42 (dk_at dksX11_carryOut_0 5 rfl rfl)
theorem dX11_carryOut_6 : decode cX11_carryOut 6 = .ok (.getfield 9, 3) := dk_180 0 9 (dk_at dksX11_carryOut_0 6 rfl rfl)
theorem dX11_carryOut_9 : decode cX11_carryOut 9 = .ok (.getfield 24, 3) := dk_180 0 24 (dk_at dksX11_carryOut_0 9 rfl rfl)
theorem dX11_carryOut_12 : decode cX11_carryOut 12 = .ok (.invokevirtual 30, 3) := dk_182 0 30 (dk_at dksX11_carryOut_0 12 rfl rfl)
theorem dX11_carryOut_15 : decode cX11_carryOut 15 = .ok (.ifCond .ne 7, 3) := dk_154 0 7 (dk_at dksX11_carryOut_0 15 rfl rfl)
theorem dX11_carryOut_18 : decode cX11_carryOut 18 = .ok (.iconst 1, 1) := dk_4 (dk_at dksX11_carryOut_0 18 rfl rfl)
theorem dX11_carryOut_19 : decode cX11_carryOut 19 = .ok (.goto 4, 3) := dk_167 0 4 (dk_at dksX11_carryOut_0 19 rfl rfl)
theorem dX11_carryOut_22 : decode cX11_carryOut 22 = .ok (.iconst 0, 1) := dk_3 (dk_at dksX11_carryOut_0 22 rfl rfl)
theorem dX11_carryOut_23 : decode cX11_carryOut 23 = .ok (.aload_n 0, 1) := dk_42 (dk_at dksX11_carryOut_0 23 rfl rfl)
theorem dX11_carryOut_24 : decode cX11_carryOut 24 = .ok (.getfield 9, 3) := dk_180 0 9 (dk_at dksX11_carryOut_1 0 rfl rfl)
theorem dX11_carryOut_27 : decode cX11_carryOut 27 = .ok (.invokestatic 36, 3) := dk_184 0 36 (dk_at dksX11_carryOut_1 3 rfl rfl)
theorem dX11_carryOut_30 : decode cX11_carryOut 30 = .ok (.iconst 4, 1) := dk_7 (dk_at dksX11_carryOut_1 6 rfl rfl)
theorem dX11_carryOut_31 : decode cX11_carryOut 31 = .ok (.aload_n 1, 1) := dk_43 (dk_at dksX11_carryOut_1 7 rfl rfl)
theorem dX11_carryOut_32 : decode cX11_carryOut 32 = .ok (.getfield 40, 3) := dk_180 0 40 (dk_at dksX11_carryOut_1 8 rfl rfl)
theorem dX11_carryOut_35 : decode cX11_carryOut 35 = .ok (.invokevirtual 44, 3) := dk_182 0 44 (dk_at dksX11_carryOut_1 11 rfl rfl)
theorem dX11_carryOut_38 : decode cX11_carryOut 38 = .ok (.bipush 6, 2) := dk_16 6 (dk_at dksX11_carryOut_1 14 rfl rfl)
theorem dX11_carryOut_40 : decode cX11_carryOut 40 = .ok (.if_icmp .ge 7, 3) := dk_162 0 7 (dk_at dksX11_carryOut_1 16 rfl rfl)
theorem dX11_carryOut_43 : decode cX11_carryOut 43 = .ok (.iconst 1, 1) := dk_4 (dk_at dksX11_carryOut_1 19 rfl rfl)
theorem dX11_carryOut_44 : decode cX11_carryOut 44 = .ok (.goto 4, 3) := dk_167 0 4 (dk_at dksX11_carryOut_1 20 rfl rfl)
theorem dX11_carryOut_47 : decode cX11_carryOut 47 = .ok (.iconst 0, 1) := dk_3 (dk_at dksX11_carryOut_1 23 rfl rfl)
theorem dX11_carryOut_48 : decode cX11_carryOut 48 = .ok (.aload_n 0, 1) := dk_42 (dk_at dksX11_carryOut_2 0 rfl rfl)
theorem dX11_carryOut_49 : decode cX11_carryOut 49 = .ok (.getfield 9, 3) := dk_180 0 9 (dk_at dksX11_carryOut_2 1 rfl rfl)
theorem dX11_carryOut_52 : decode cX11_carryOut 52 = .ok (.invokestatic 36, 3) := dk_184 0 36 (dk_at dksX11_carryOut_2 4 rfl rfl)
theorem dX11_carryOut_55 : decode cX11_carryOut 55 = .ok (.aload_n 1, 1) := dk_43 (dk_at dksX11_carryOut_2 7 rfl rfl)
theorem dX11_carryOut_56 : decode cX11_carryOut 56 = .ok (.new 50, 3) := dk_187 0 50 (dk_at dksX11_carryOut_2 8 rfl rfl)
theorem dX11_carryOut_59 : decode cX11_carryOut 59 = .ok (.dup, 1) := dk_89 (dk_at dksX11_carryOut_2 11 rfl rfl)
theorem dX11_carryOut_60 : decode cX11_carryOut 60 = .ok (.aload_n 1, 1) := dk_43 (dk_at dksX11_carryOut_2 12 rfl rfl)
theorem dX11_carryOut_61 : decode cX11_carryOut 61 = .ok (.getfield 40, 3) := dk_180 0 40 (dk_at dksX11_carryOut_2 13 rfl rfl)
theorem dX11_carryOut_64 : decode cX11_carryOut 64 = .ok (.invokevirtual 44, 3) := dk_182 0 44 (dk_at dksX11_carryOut_2 16 rfl rfl)
theorem dX11_carryOut_67 : decode cX11_carryOut 67 = .ok (.aload_n 0, 1) := dk_42 (dk_at dksX11_carryOut_2 19 rfl rfl)
theorem dX11_carryOut_68 : decode cX11_carryOut 68 = .ok (.getfield 9, 3) := dk_180 0 9 (dk_at dksX11_carryOut_2 20 rfl rfl)
theorem dX11_carryOut_71 : decode cX11_carryOut 71 = .ok (.getfield 24, 3) := dk_180 0 24 (dk_at dksX11_carryOut_3 0 rfl rfl)
theorem dX11_carryOut_74 : decode cX11_carryOut 74 = .ok (.aload_n 0, 1) := dk_42 (dk_at dksX11_carryOut_3 3 rfl rfl)
theorem dX11_carryOut_75 : decode cX11_carryOut 75 = .ok (.getfield 15, 3) := dk_180 0 15 (dk_at dksX11_carryOut_3 4 rfl rfl)
theorem dX11_carryOut_78 : decode cX11_carryOut 78 = .ok (.iconst 0, 1) := dk_3 (dk_at dksX11_carryOut_3 7 rfl rfl)
theorem dX11_carryOut_79 : decode cX11_carryOut 79 = .ok (.sipush 3600, 3) := dk_17 14 16 (dk_at dksX11_carryOut_3 8 rfl rfl)
theorem dX11_carryOut_82 : decode cX11_carryOut 82 = .ok (.sipush 300, 3) := dk_17 1 44 (dk_at dksX11_carryOut_3 11 rfl rfl)
theorem dX11_carryOut_85 : decode cX11_carryOut 85 = .ok (.invokestatic 52, 3) := dk_184 0 52 (dk_at dksX11_carryOut_3 14 rfl rfl)
theorem dX11_carryOut_88 : decode cX11_carryOut 88 = .ok (.invokespecial 56, 3) := dk_183 0 56 (dk_at dksX11_carryOut_3 17 rfl rfl)
theorem dX11_carryOut_91 : decode cX11_carryOut 91 = .ok (.invokevirtual 59, 3) := dk_182 0 59 (dk_at dksX11_carryOut_3 20 rfl rfl)
theorem dX11_carryOut_94 : decode cX11_carryOut 94 = .ok (.return_, 1) := dk_177 (dk_at dksX11_carryOut_3 23 rfl rfl)
theorem q241 : (Jvm.Cond.fieldLinkNest "DebateHall$Seat" (18 : Nat) "DebateHall$Minutes" "speakerNames" "Ljava/util/HashMap;" "DebateHall") ∈ lw_tbl := lw_at lw_m1 161 rfl
theorem q370 : (Jvm.Cond.fieldLinkNest "DebateHall$Seat" (24 : Nat) "DebateHall$Token" "text" "Ljava/lang/String;" "DebateHall") ∈ lw_tbl := lw_at lw_m2 50 rfl
theorem q1810 : (Jvm.Cond.code ({ cls := "java/util/HashMap", name := "containsKey", desc := "(Ljava/lang/Object;)Z" } : Jvm.MethodName) prog_63_method_14_code (2 : Nat) (Option.some Jvm.ClassFile.FieldType.boolean)) ∈ lw_all := lw_g (lw_at lw_m8 50 rfl) rfl
theorem zk_J4_containsKey : zz_cd yJ4_containsKey cJ4_containsKey 2 (some .boolean) none ∈ lw_all := q1810
theorem zy_J4_containsKey : zz_yok yJ4_containsKey 1 = true := by decide +kernel
theorem q1870 : (Jvm.Cond.methodLink "DebateHall$Seat" (30 : Nat) ({ cls := "java/util/HashMap", name := "containsKey", desc := "(Ljava/lang/Object;)Z" } : Jvm.MethodName)) ∈ lw_all := lw_g (lw_at lw_m8 110 rfl) rfl
theorem q1808 : (Jvm.Cond.instanceMethod ({ cls := "java/util/HashMap", name := "containsKey", desc := "(Ljava/lang/Object;)Z" } : Jvm.MethodName)) ∈ lw_all := lw_g (lw_at lw_m8 48 rfl) rfl
theorem q1809 : (Jvm.Cond.selects "java/util/HashMap" ({ cls := "java/util/HashMap", name := "containsKey", desc := "(Ljava/lang/Object;)Z" } : Jvm.MethodName) ({ cls := "java/util/HashMap", name := "containsKey", desc := "(Ljava/lang/Object;)Z" } : Jvm.MethodName)) ∈ lw_all := lw_g (lw_at lw_m8 49 rfl) rfl
theorem q232 : (Jvm.Cond.fieldLinkNest "DebateHall$Seat" (40 : Nat) "DebateHall$Minutes" "speakers" "Ljava/util/ArrayList;" "DebateHall") ∈ lw_tbl := lw_at lw_m1 152 rfl
theorem q1873 : (Jvm.Cond.methodLink "DebateHall$Seat" (44 : Nat) ({ cls := "java/util/ArrayList", name := "size", desc := "()I" } : Jvm.MethodName)) ∈ lw_all := lw_g (lw_at lw_m8 113 rfl) rfl
theorem q1871 : (Jvm.Cond.methodLink "DebateHall$Seat" (36 : Nat) ({ cls := "DebateHall$Seat", name := "check", desc := "(IZLDebateHall$Token;)V" } : Jvm.MethodName)) ∈ lw_all := lw_g (lw_at lw_m8 111 rfl) rfl
theorem q1872 : (Jvm.Cond.sameMethod "DebateHall$Seat" "DebateHall$Line" "check" "(IZLDebateHall$Token;)V") ∈ lw_all := lw_g (lw_at lw_m8 112 rfl) rfl
theorem q1874 : (Jvm.Cond.classLink "DebateHall$Seat" (50 : Nat) "DebateHall$Speaker") ∈ lw_all := lw_g (lw_at lw_m8 114 rfl) rfl
theorem q1833 : (Jvm.Cond.code ({ cls := "DebateHall$Line", name := "number", desc := "(LDebateHall$Token;III)I" } : Jvm.MethodName) prog_11_method_5_code (4 : Nat) (Option.some Jvm.ClassFile.FieldType.int)) ∈ lw_all := lw_g (lw_at lw_m8 73 rfl) rfl
theorem zk_X10_number : zz_cd yX10_number cX10_number 4 (some .int) none ∈ lw_all := q1833
theorem zy_X10_number : zz_yok yX10_number 4 = true := by decide +kernel
theorem q1878 : (Jvm.Cond.methodLink "DebateHall$Seat" (59 : Nat) ({ cls := "DebateHall$Minutes", name := "add", desc := "(LDebateHall$Speaker;)V" } : Jvm.MethodName)) ∈ lw_all := lw_g (lw_at lw_m8 118 rfl) rfl
theorem q1877 : (Jvm.Cond.methodLink "DebateHall$Seat" (56 : Nat) ({ cls := "DebateHall$Speaker", name := "<init>", desc := "(ILjava/lang/String;I)V" } : Jvm.MethodName)) ∈ lw_all := lw_g (lw_at lw_m8 117 rfl) rfl
theorem q1875 : (Jvm.Cond.methodLink "DebateHall$Seat" (52 : Nat) ({ cls := "DebateHall$Seat", name := "number", desc := "(LDebateHall$Token;III)I" } : Jvm.MethodName)) ∈ lw_all := lw_g (lw_at lw_m8 115 rfl) rfl
theorem q1876 : (Jvm.Cond.sameMethod "DebateHall$Seat" "DebateHall$Line" "number" "(LDebateHall$Token;III)I") ∈ lw_all := lw_g (lw_at lw_m8 116 rfl) rfl
theorem q1832 : (Jvm.Cond.static ({ cls := "DebateHall$Line", name := "number", desc := "(LDebateHall$Token;III)I" } : Jvm.MethodName)) ∈ lw_all := lw_g (lw_at lw_m8 72 rfl) rfl
def wp_X11_carryOut_B48 (Z : zzG) (K : Option Value → zzM → Prop) (X : Nat → Nat → zzM → Prop) (v0 : Option Nat) (v1 : Option Nat) (s0 : Int32) (s1 : Int32) (M : zzM) (bc bs : Nat) : Prop := zgA Z M v0 [7] 1 fun x24 => zcx bc bs (fun c s k x => wp_X10_check Z s1 s0 x24 M c s k x) (fun r25 M26 bc27 bs28 => zrV r25 (znew Z M26 bc27 bs28 14 3 [.int 0, .null, .int 0] fun q29 M30 bc31 bs32 => zgA Z M30 v1 [2] 0 fun x33 => zty Z M30 x33 fun t => t = 18 ∧ wp_J2_size Z x33 M30 (fun r34 M35 => zrI r34 fun x38 => zgA Z M35 v0 [7] 1 fun x39 => zgA Z M35 x39 [5] 1 fun x40 => zgA Z M35 v0 [7] 2 fun x41 => zcx bc31 bs32 (fun c s k x => wp_X10_number Z x41 (0 : Int32) (3600 : Int32) (300 : Int32) M35 c s k x) (fun r42 M43 bc44 bs45 => zrI r42 fun x46 => wp_X19_init Z (some q29) x38 x40 x46 M43 (fun r47 M48 => zrV r47 (zty Z M48 v1 fun t => t = 2 ∧ zcc bc44 bs45 (fun c s k => wp_X3_add Z v1 (some q29) M48 c s k) fun r51 M52 bc53 bs54 => zrV r51 (K none M52)))) (fun t q M _ _ => X t q M)))) (fun t q M _ _ => X t q M)
def wp_X11_carryOut_B23 (Z : zzG) (K : Option Value → zzM → Prop) (X : Nat → Nat → zzM → Prop) (v0 : Option Nat) (v1 : Option Nat) (s0 : Int32) (s1 : Int32) (M : zzM) (bc bs : Nat) : Prop := zgA Z M v0 [7] 1 fun x9 => zcx bc bs (fun c s k x => wp_X10_check Z s1 s0 x9 M c s k x) (fun r10 M11 bc12 bs13 => zrV r10 (zgA Z M11 v1 [2] 0 fun x14 => zty Z M11 x14 fun t => t = 18 ∧ wp_J2_size Z x14 M11 (fun r15 M16 => zrI r15 fun x19 => if (6 : Int32) ≤ x19 then (wp_X11_carryOut_B48 Z K X v0 v1 (0 : Int32) (4 : Int32) M16 bc12 bs13) else (wp_X11_carryOut_B48 Z K X v0 v1 (1 : Int32) (4 : Int32) M16 bc12 bs13)))) (fun t q M _ _ => X t q M)
def wp_X11_carryOut (Z : zzG) (this : Option Nat) (p0 : Option Nat) (M : zzM) (bc bs : Nat) (K : Option Value → zzM → Prop) (X : Nat → Nat → zzM → Prop) : Prop := zgA Z M p0 [2] 2 fun x1 => zgA Z M this [7] 1 fun x2 => zgA Z M x2 [5] 1 fun x3 => zty Z M x1 fun t => t = 19 ∧ wp_J4_containsKey Z x1 x3 M (fun r4 M5 => zrI r4 fun x8 => if x8 = 0 then (wp_X11_carryOut_B23 Z K X this p0 (1 : Int32) (2 : Int32) M5 bc bs) else (wp_X11_carryOut_B23 Z K X this p0 (0 : Int32) (2 : Int32) M5 bc bs))
theorem ok_X11_carryOut_B48 {G : zzX} (C : zz_C G cX11_carryOut "DebateHall$Seat" 2) {K : Option Value → zzM → Prop} {X : Nat → Nat → zzM → Prop} (E : zz_E G none K X) (hH : zz_H G []) (hR : zz_Rm G 75) {v0 : Option Nat} {v1 : Option Nat} {s0 : Int32} {s1 : Int32} {M : zzM} {bc bs : Nat} (hw : wp_X11_carryOut_B48 (zz_Zof G) K X v0 v1 s0 s1 M bc bs) : zz_T G 2 M bc bs 48 [(0, va_rf v0), (1, va_rf v1)] [.int s0, .int s1] := by
  unfold wp_X11_carryOut_B48 at hw
  refine zz_aload_n C dX11_carryOut_48 rfl 0 rfl ?_
  refine zz_getA C dX11_carryOut_49 (Or.inl q956) zf_7_1_ebateHall_Seat hw (fun x24 hw => ?_)
  obtain ⟨c9, s9, hc9, hs9, hw⟩ := hw
  refine zz_callSI (As := [.int s1, .int s0, va_rf x24]) (rest := []) C hR dX11_carryOut_52 q1871 q1872 q1820 zl_DebateHall_Line zk_X10_check zy_X10_check (by decide) (by decide) (ok_X10_check (zz_hl C) hw) hc9 hs9 (zz_cat10 _ (Nat.le_of_ble_eq_true rfl)) (fun r25 M26 hw => zz_kV hw (fun hw => ?_)) (fun t9 q59 M60 hx => ?_) rfl
  · refine zz_aload_n C dX11_carryOut_55 rfl 1 rfl ?_
    refine zz_new (r := (zR_14, zT_14, 3)) C dX11_carryOut_56 rfl (by decide) q1874 q1191 zl_DebateHall_Speaker rfl hw (fun q29 M30 bc31 bs32 hw => ?_)
    refine zz_dup C dX11_carryOut_59 (zz_cat _) ?_
    refine zz_aload_n C dX11_carryOut_60 rfl 1 rfl ?_
    refine zz_getA C dX11_carryOut_61 (Or.inr ⟨_, q232⟩) zf_2_0_teHall_Minutes hw (fun x33 hw => ?_)
    obtain ⟨a9, t9, b9, fs9, hro, hL, rfl, hw⟩ := ztyS hw
    refine zz_callV (r := (zR_18, zT_18, 3)) (As := []) (rest := [va_rf (some q29), va_rf (some q29), va_rf v1]) (mc := 0) (ms := 0) C hR hro dX11_carryOut_64 (Or.inl q1873) q354 (Or.inl q355) zl_java_util_ArrayList zk_J2_size (Or.inl rfl) zy_J2_size rfl (by decide) (by decide) hL (ok_J2_size (zz_hl C) hw) (Nat.zero_le _) (Nat.zero_le _) (zz_cat10 _ (Nat.le_of_ble_eq_true rfl)) (fun r34 M35 hw => zz_kI hw (fun x38 hw => ?_)) (fun _ _ _ h9 => h9.elim) rfl
    refine zz_aload_n C dX11_carryOut_67 rfl 0 rfl ?_
    refine zz_getA C dX11_carryOut_68 (Or.inl q956) zf_7_1_ebateHall_Seat hw (fun x39 hw => ?_)
    refine zz_getA C dX11_carryOut_71 (Or.inr ⟨_, q370⟩) zf_5_1_bateHall_Token hw (fun x40 hw => ?_)
    refine zz_aload_n C dX11_carryOut_74 rfl 0 rfl ?_
    refine zz_getA C dX11_carryOut_75 (Or.inl q957) zf_7_2_ebateHall_Seat hw (fun x41 hw => ?_)
    refine zz_iconst (v := (0 : Int32)) C dX11_carryOut_78 (by decide) ?_
    refine zz_sipush (v := (3600 : Int32)) C dX11_carryOut_79 (by decide) ?_
    refine zz_sipush (v := (300 : Int32)) C dX11_carryOut_82 (by decide) ?_
    obtain ⟨c9, s9, hc9, hs9, hw⟩ := hw
    refine zz_callSI (As := [va_rf x41, .int (0 : Int32), .int (3600 : Int32), .int (300 : Int32)]) (rest := [va_rf x40, .int x38, va_rf (some q29), va_rf (some q29), va_rf v1]) C hR dX11_carryOut_85 q1875 q1876 q1832 zl_DebateHall_Line zk_X10_number zy_X10_number (by decide) (by decide) (ok_X10_number (zz_hl C) hw) hc9 hs9 (zz_cat10 _ (Nat.le_of_ble_eq_true rfl)) (fun r42 M43 hw => zz_kI hw (fun x46 hw => ?_)) (fun t9 q55 M56 hx => ?_) rfl
    · refine zz_callI (As := [.int x38, va_rf x40, .int x46]) (rest := [va_rf (some q29), va_rf v1]) (mc := 0) (ms := 0) C hR rfl dX11_carryOut_88 (Or.inl q1877) q1193 zl_DebateHall_Speaker zk_X19_init rfl zy_X19_init (by decide) (by decide) (ok_X19_init (zz_hl C) hw) (Nat.zero_le _) (Nat.zero_le _) (zz_cat10 _ (Nat.le_of_ble_eq_true rfl)) (fun r47 M48 hw => zz_kV hw (fun hw => ?_)) (fun _ _ _ h9 => h9.elim) rfl
      obtain ⟨a9, t9, b9, fs9, hro, hL, rfl, hw⟩ := ztyS hw
      obtain ⟨c9, s9, hc9, hs9, hw⟩ := hw
      refine zz_callV (r := (zR_2, zT_2, 8)) (As := [va_rf (some q29)]) (rest := []) C hR hro dX11_carryOut_91 (Or.inl q1878) q1214 (Or.inl q1215) zl_DebateHall_Minutes zk_X3_add (Or.inl rfl) zy_X3_add rfl (by decide) (by decide) hL (ok_X3_add (zz_hl C) hw) hc9 hs9 (zz_cat10 _ (Nat.le_of_ble_eq_true rfl)) (fun r51 M52 hw => zz_kV hw (fun hw => ?_)) (fun _ _ _ h9 => h9.elim) rfl
      exact zz_vret C E dX11_carryOut_94 hw
    · exact zz_out C E hH rfl hx
  · exact zz_out C E hH rfl hx
theorem ok_X11_carryOut_B23 {G : zzX} (C : zz_C G cX11_carryOut "DebateHall$Seat" 2) {K : Option Value → zzM → Prop} {X : Nat → Nat → zzM → Prop} (E : zz_E G none K X) (hH : zz_H G []) (hR : zz_Rm G 75) {v0 : Option Nat} {v1 : Option Nat} {s0 : Int32} {s1 : Int32} {M : zzM} {bc bs : Nat} (hw : wp_X11_carryOut_B23 (zz_Zof G) K X v0 v1 s0 s1 M bc bs) : zz_T G 2 M bc bs 23 [(0, va_rf v0), (1, va_rf v1)] [.int s0, .int s1] := by
  unfold wp_X11_carryOut_B23 at hw
  refine zz_aload_n C dX11_carryOut_23 rfl 0 rfl ?_
  refine zz_getA C dX11_carryOut_24 (Or.inl q956) zf_7_1_ebateHall_Seat hw (fun x9 hw => ?_)
  obtain ⟨c9, s9, hc9, hs9, hw⟩ := hw
  refine zz_callSI (As := [.int s1, .int s0, va_rf x9]) (rest := []) C hR dX11_carryOut_27 q1871 q1872 q1820 zl_DebateHall_Line zk_X10_check zy_X10_check (by decide) (by decide) (ok_X10_check (zz_hl C) hw) hc9 hs9 (zz_cat10 _ (Nat.le_of_ble_eq_true rfl)) (fun r10 M11 hw => zz_kV hw (fun hw => ?_)) (fun t9 q20 M21 hx => ?_) rfl
  · refine zz_iconst (v := (4 : Int32)) C dX11_carryOut_30 (by decide) ?_
    refine zz_aload_n C dX11_carryOut_31 rfl 1 rfl ?_
    refine zz_getA C dX11_carryOut_32 (Or.inr ⟨_, q232⟩) zf_2_0_teHall_Minutes hw (fun x14 hw => ?_)
    obtain ⟨a9, t9, b9, fs9, hro, hL, rfl, hw⟩ := ztyS hw
    refine zz_callV (r := (zR_18, zT_18, 3)) (As := []) (rest := [.int (4 : Int32)]) (mc := 0) (ms := 0) C hR hro dX11_carryOut_35 (Or.inl q1873) q354 (Or.inl q355) zl_java_util_ArrayList zk_J2_size (Or.inl rfl) zy_J2_size rfl (by decide) (by decide) hL (ok_J2_size (zz_hl C) hw) (Nat.zero_le _) (Nat.zero_le _) (zz_cat10 _ (Nat.le_of_ble_eq_true rfl)) (fun r15 M16 hw => zz_kI hw (fun x19 hw => ?_)) (fun _ _ _ h9 => h9.elim) rfl
    refine zz_bipush (v := (6 : Int32)) C dX11_carryOut_38 (by decide) ?_
    refine zz_icmp_ge (tgt := 47) C dX11_carryOut_40 (by decide) hw (fun hw => ?_) (fun hw => ?_)
    · refine zz_iconst (v := (0 : Int32)) C dX11_carryOut_47 (by decide) ?_
      refine zz_subP [0, 1] rfl ?_
      exact ok_X11_carryOut_B48 C E hH hR hw
    · refine zz_iconst (v := (1 : Int32)) C dX11_carryOut_43 (by decide) ?_
      refine zz_goto (tgt := 48) C dX11_carryOut_44 (by decide) ?_
      refine zz_subP [0, 1] rfl ?_
      exact ok_X11_carryOut_B48 C E hH hR hw
  · exact zz_out C E hH rfl hx
theorem ok_X11_carryOut {Z : zzG} {l : Launch} (hl : l.stackTraces = false) {this : Option Nat} {p0 : Option Nat} {M : zzM} {mc ms : Nat} {K : Option Value → zzM → Prop} {X : Nat → Nat → zzM → Prop} (hw : wp_X11_carryOut Z this p0 M mc ms K X) : zz_Met Z l yX11_carryOut (zz_ws yX11_carryOut cX11_carryOut 2 none none) 75 [va_rf this, va_rf p0] M mc ms K X := by
  refine zz_ofW hl (plainFor_of_name (by decide)) (by simp only [zz_sl0, zz_slI, zz_slJ, zz_slA] <;> decide) (fun G hZ hll C E hH hR hin => ?_)
  subst hZ
  subst hll
  rw [show lv_args 0 [va_rf this, va_rf p0] = [(0, va_rf this), (1, va_rf p0)] by simp only [zz_la0, zz_laI, zz_laJ, zz_laA]]
  unfold wp_X11_carryOut at hw
  refine zz_iconst (v := (2 : Int32)) C dX11_carryOut_0 (by decide) ?_
  refine zz_aload_n C dX11_carryOut_1 rfl 1 rfl ?_
  refine zz_getA C dX11_carryOut_2 (Or.inr ⟨_, q241⟩) zf_2_2_teHall_Minutes hw (fun x1 hw => ?_)
  refine zz_aload_n C dX11_carryOut_5 rfl 0 rfl ?_
  refine zz_getA C dX11_carryOut_6 (Or.inl q956) zf_7_1_ebateHall_Seat hw (fun x2 hw => ?_)
  refine zz_getA C dX11_carryOut_9 (Or.inr ⟨_, q370⟩) zf_5_1_bateHall_Token hw (fun x3 hw => ?_)
  obtain ⟨a9, t9, b9, fs9, hro, hL, rfl, hw⟩ := ztyS hw
  refine zz_callV (r := (zR_19, zT_19, 8)) (As := [va_rf x3]) (rest := [.int (2 : Int32)]) (mc := 0) (ms := 0) C hR hro dX11_carryOut_12 (Or.inl q1870) q1808 (Or.inl q1809) zl_java_util_HashMap zk_J4_containsKey (Or.inl rfl) zy_J4_containsKey rfl (by decide) (by decide) hL (ok_J4_containsKey (zz_hl C) hw) (Nat.zero_le _) (Nat.zero_le _) (zz_cat10 _ (Nat.le_of_ble_eq_true rfl)) (fun r4 M5 hw => zz_kI hw (fun x8 hw => ?_)) (fun _ _ _ h9 => h9.elim) rfl
  refine zz_if_ne (tgt := 22) C dX11_carryOut_15 (by decide) hw (fun hw => ?_) (fun hw => ?_)
  · refine zz_iconst (v := (0 : Int32)) C dX11_carryOut_22 (by decide) ?_
    refine zz_subP [0, 1] rfl ?_
    exact ok_X11_carryOut_B23 C E hH hR hw
  · refine zz_iconst (v := (1 : Int32)) C dX11_carryOut_18 (by decide) ?_
    refine zz_goto (tgt := 23) C dX11_carryOut_19 (by decide) ?_
    refine zz_subP [0, 1] rfl ?_
    exact ok_X11_carryOut_B23 C E hH hR hw
abbrev cX10_free : ByteArray := prog_11_method_6_code
def yX10_free : MethodName := ⟨"DebateHall$Line", "free", "(LDebateHall$Minutes;LDebateHall$Token;)V"⟩
def dkwX10_free_1 : List UInt8 := [7, 42, 180, 0, 52, 182, 0, 56, 16, 40, 162, 0, 7, 4, 167, 0, 4, 3, 43, 184, 0, 36, 177]
abbrev dktX10_free_1 : List UInt8 := dkwX10_free_1 ++ []
def dkwX10_free_0 : List UInt8 := [5, 42, 180, 0, 20, 43, 180, 0, 26, 182, 0, 30, 154, 0, 7, 4, 167, 0, 4, 3, 43, 184, 0, 36]
abbrev dktX10_free_0 : List UInt8 := dkwX10_free_0 ++ dktX10_free_1
theorem dksX10_free_0 : cX10_free.data.toList.drop 0 = dktX10_free_0 := by decide +kernel
theorem dksX10_free_1 : cX10_free.data.toList.drop 24 = dktX10_free_1 := dk_seg dksX10_free_0 24 rfl rfl
theorem dX10_free_0 : decode cX10_free 0 = .ok (.iconst 2, 1) := dk_5 (dk_at dksX10_free_0 0 rfl rfl)
theorem dX10_free_1 : decode cX10_free 1 = .ok (.aload_n 0, 1) := dk_42 (dk_at dksX10_free_0 1 rfl rfl)
theorem dX10_free_2 : decode cX10_free 2 = .ok (.getfield 20, 3) := dk_180 0 20 (dk_at dksX10_free_0 2 rfl rfl)
theorem dX10_free_5 : decode cX10_free 5 = .ok (.aload_n 1, 1) := dk_43 (dk_at dksX10_free_0 5 rfl rfl)
theorem dX10_free_6 : decode cX10_free 6 = .ok (.getfield 26, 3) := dk_180 0 26 (dk_at dksX10_free_0 6 rfl rfl)
theorem dX10_free_9 : decode cX10_free 9 = .ok (.invokevirtual 30, 3) := dk_182 0 30 (dk_at dksX10_free_0 9 rfl rfl)
theorem dX10_free_12 : decode cX10_free 12 = .ok (.ifCond .ne 7, 3) := dk_154 0 7 (dk_at dksX10_free_0 12 rfl rfl)
theorem dX10_free_15 : decode cX10_free 15 = .ok (.iconst 1, 1) := dk_4 (dk_at dksX10_free_0 15 rfl rfl)
theorem dX10_free_16 : decode cX10_free 16 = .ok (.goto 4, 3) := dk_167 0 4 (dk_at dksX10_free_0 16 rfl rfl)
theorem dX10_free_19 : decode cX10_free 19 = .ok (.iconst 0, 1) := dk_3 (dk_at dksX10_free_0 19 rfl rfl)
theorem dX10_free_20 : decode cX10_free 20 = .ok (.aload_n 1, 1) := dk_43 (dk_at dksX10_free_0 20 rfl rfl)
theorem dX10_free_21 : decode cX10_free 21 = .ok (.invokestatic 36, 3) := dk_184 0 36 (dk_at dksX10_free_0 21 rfl rfl)
theorem dX10_free_24 : decode cX10_free 24 = .ok (.iconst 4, 1) := dk_7 (dk_at dksX10_free_1 0 rfl rfl)
theorem dX10_free_25 : decode cX10_free 25 = .ok (.aload_n 0, 1) := dk_42 (dk_at dksX10_free_1 1 rfl rfl)
theorem dX10_free_26 : decode cX10_free 26 = .ok (.getfield 52, 3) := dk_180 0 52 (dk_at dksX10_free_1 2 rfl rfl)
theorem dX10_free_29 : decode cX10_free 29 = .ok (.invokevirtual 56, 3) := dk_182 0 56 (dk_at dksX10_free_1 5 rfl rfl)
theorem dX10_free_32 : decode cX10_free 32 = .ok (.bipush 40, 2) := dk_16 40 (dk_at dksX10_free_1 8 rfl rfl)
theorem dX10_free_34 : decode cX10_free 34 = .ok (.if_icmp .ge 7, 3) := dk_162 0 7 (dk_at dksX10_free_1 10 rfl rfl)
theorem dX10_free_37 : decode cX10_free 37 = .ok (.iconst 1, 1) := dk_4 (dk_at dksX10_free_1 13 rfl rfl)
theorem dX10_free_38 : decode cX10_free 38 = .ok (.goto 4, 3) := dk_167 0 4 (dk_at dksX10_free_1 14 rfl rfl)
theorem dX10_free_41 : decode cX10_free 41 = .ok (.iconst 0, 1) := dk_3 (dk_at dksX10_free_1 17 rfl rfl)
theorem dX10_free_42 : decode cX10_free 42 = .ok (.aload_n 1, 1) := dk_43 (dk_at dksX10_free_1 18 rfl rfl)
theorem dX10_free_43 : decode cX10_free 43 = .ok (.invokestatic 36, 3) := dk_184 0 36 (dk_at dksX10_free_1 19 rfl rfl)
theorem dX10_free_46 : decode cX10_free 46 = .ok (.return_, 1) := dk_177 (dk_at dksX10_free_1 22 rfl rfl)
theorem q245 : (Jvm.Cond.fieldLinkNest "DebateHall$Line" (20 : Nat) "DebateHall$Minutes" "itemNames" "Ljava/util/HashMap;" "DebateHall") ∈ lw_tbl := lw_at lw_m1 165 rfl
theorem q374 : (Jvm.Cond.fieldLinkNest "DebateHall$Line" (26 : Nat) "DebateHall$Token" "text" "Ljava/lang/String;" "DebateHall") ∈ lw_tbl := lw_at lw_m2 54 rfl
theorem q1807 : (Jvm.Cond.methodLink "DebateHall$Line" (30 : Nat) ({ cls := "java/util/HashMap", name := "containsKey", desc := "(Ljava/lang/Object;)Z" } : Jvm.MethodName)) ∈ lw_all := lw_g (lw_at lw_m8 47 rfl) rfl
theorem q238 : (Jvm.Cond.fieldLinkNest "DebateHall$Line" (52 : Nat) "DebateHall$Minutes" "items" "Ljava/util/ArrayList;" "DebateHall") ∈ lw_tbl := lw_at lw_m1 158 rfl
theorem q1824 : (Jvm.Cond.methodLink "DebateHall$Line" (56 : Nat) ({ cls := "java/util/ArrayList", name := "size", desc := "()I" } : Jvm.MethodName)) ∈ lw_all := lw_g (lw_at lw_m8 64 rfl) rfl
def wp_X10_free_B42 (Z : zzG) (K : Option Value → zzM → Prop) (X : Nat → Nat → zzM → Prop) (v1 : Option Nat) (s0 : Int32) (s1 : Int32) (M : zzM) (bc bs : Nat) : Prop := zcx bc bs (fun c s k x => wp_X10_check Z s1 s0 v1 M c s k x) (fun r22 M23 bc24 bs25 => zrV r22 (K none M23)) (fun t q M _ _ => X t q M)
def wp_X10_free_B20 (Z : zzG) (K : Option Value → zzM → Prop) (X : Nat → Nat → zzM → Prop) (v0 : Option Nat) (v1 : Option Nat) (s0 : Int32) (s1 : Int32) (M : zzM) (bc bs : Nat) : Prop := zcx bc bs (fun c s k x => wp_X10_check Z s1 s0 v1 M c s k x) (fun r8 M9 bc10 bs11 => zrV r8 (zgA Z M9 v0 [2] 1 fun x12 => zty Z M9 x12 fun t => t = 18 ∧ wp_J2_size Z x12 M9 (fun r13 M14 => zrI r13 fun x17 => if (40 : Int32) ≤ x17 then (wp_X10_free_B42 Z K X v1 (0 : Int32) (4 : Int32) M14 bc10 bs11) else (wp_X10_free_B42 Z K X v1 (1 : Int32) (4 : Int32) M14 bc10 bs11)))) (fun t q M _ _ => X t q M)
def wp_X10_free (Z : zzG) (p0 : Option Nat) (p1 : Option Nat) (M : zzM) (bc bs : Nat) (K : Option Value → zzM → Prop) (X : Nat → Nat → zzM → Prop) : Prop := zgA Z M p0 [2] 3 fun x1 => zgA Z M p1 [5] 1 fun x2 => zty Z M x1 fun t => t = 19 ∧ wp_J4_containsKey Z x1 x2 M (fun r3 M4 => zrI r3 fun x7 => if x7 = 0 then (wp_X10_free_B20 Z K X p0 p1 (1 : Int32) (2 : Int32) M4 bc bs) else (wp_X10_free_B20 Z K X p0 p1 (0 : Int32) (2 : Int32) M4 bc bs))
theorem ok_X10_free_B42 {G : zzX} (C : zz_C G cX10_free "DebateHall$Line" 2) {K : Option Value → zzM → Prop} {X : Nat → Nat → zzM → Prop} (E : zz_E G none K X) (hH : zz_H G []) (hR : zz_Rm G 74) {v1 : Option Nat} {s0 : Int32} {s1 : Int32} {M : zzM} {bc bs : Nat} (hw : wp_X10_free_B42 (zz_Zof G) K X v1 s0 s1 M bc bs) : zz_T G 2 M bc bs 42 [(1, va_rf v1)] [.int s0, .int s1] := by
  unfold wp_X10_free_B42 at hw
  refine zz_aload_n C dX10_free_42 rfl 0 rfl ?_
  obtain ⟨c9, s9, hc9, hs9, hw⟩ := hw
  refine zz_callS (As := [.int s1, .int s0, va_rf v1]) (rest := []) C hR dX10_free_43 (Or.inl q1819) q1820 zl_DebateHall_Line zk_X10_check (Or.inl rfl) zy_X10_check (by decide) (by decide) (ok_X10_check (zz_hl C) hw) hc9 hs9 (zz_cat10 _ (Nat.le_of_ble_eq_true rfl)) (fun r22 M23 hw => zz_kV hw (fun hw => ?_)) (fun t9 q26 M27 hx => ?_) rfl
  · exact zz_vret C E dX10_free_46 hw
  · exact zz_out C E hH rfl hx
theorem ok_X10_free_B20 {G : zzX} (C : zz_C G cX10_free "DebateHall$Line" 2) {K : Option Value → zzM → Prop} {X : Nat → Nat → zzM → Prop} (E : zz_E G none K X) (hH : zz_H G []) (hR : zz_Rm G 74) {v0 : Option Nat} {v1 : Option Nat} {s0 : Int32} {s1 : Int32} {M : zzM} {bc bs : Nat} (hw : wp_X10_free_B20 (zz_Zof G) K X v0 v1 s0 s1 M bc bs) : zz_T G 2 M bc bs 20 [(0, va_rf v0), (1, va_rf v1)] [.int s0, .int s1] := by
  unfold wp_X10_free_B20 at hw
  refine zz_aload_n C dX10_free_20 rfl 1 rfl ?_
  obtain ⟨c9, s9, hc9, hs9, hw⟩ := hw
  refine zz_callS (As := [.int s1, .int s0, va_rf v1]) (rest := []) C hR dX10_free_21 (Or.inl q1819) q1820 zl_DebateHall_Line zk_X10_check (Or.inl rfl) zy_X10_check (by decide) (by decide) (ok_X10_check (zz_hl C) hw) hc9 hs9 (zz_cat10 _ (Nat.le_of_ble_eq_true rfl)) (fun r8 M9 hw => zz_kV hw (fun hw => ?_)) (fun t9 q18 M19 hx => ?_) rfl
  · refine zz_iconst (v := (4 : Int32)) C dX10_free_24 (by decide) ?_
    refine zz_aload_n C dX10_free_25 rfl 0 rfl ?_
    refine zz_getA C dX10_free_26 (Or.inr ⟨_, q238⟩) zf_2_1_teHall_Minutes hw (fun x12 hw => ?_)
    obtain ⟨a9, t9, b9, fs9, hro, hL, rfl, hw⟩ := ztyS hw
    refine zz_callV (r := (zR_18, zT_18, 3)) (As := []) (rest := [.int (4 : Int32)]) (mc := 0) (ms := 0) C hR hro dX10_free_29 (Or.inl q1824) q354 (Or.inl q355) zl_java_util_ArrayList zk_J2_size (Or.inl rfl) zy_J2_size rfl (by decide) (by decide) hL (ok_J2_size (zz_hl C) hw) (Nat.zero_le _) (Nat.zero_le _) (zz_cat10 _ (Nat.le_of_ble_eq_true rfl)) (fun r13 M14 hw => zz_kI hw (fun x17 hw => ?_)) (fun _ _ _ h9 => h9.elim) rfl
    refine zz_bipush (v := (40 : Int32)) C dX10_free_32 (by decide) ?_
    refine zz_icmp_ge (tgt := 41) C dX10_free_34 (by decide) hw (fun hw => ?_) (fun hw => ?_)
    · refine zz_iconst (v := (0 : Int32)) C dX10_free_41 (by decide) ?_
      refine zz_subP [1] rfl ?_
      exact ok_X10_free_B42 C E hH hR hw
    · refine zz_iconst (v := (1 : Int32)) C dX10_free_37 (by decide) ?_
      refine zz_goto (tgt := 42) C dX10_free_38 (by decide) ?_
      refine zz_subP [1] rfl ?_
      exact ok_X10_free_B42 C E hH hR hw
  · exact zz_out C E hH rfl hx
theorem ok_X10_free {Z : zzG} {l : Launch} (hl : l.stackTraces = false) {p0 : Option Nat} {p1 : Option Nat} {M : zzM} {mc ms : Nat} {K : Option Value → zzM → Prop} {X : Nat → Nat → zzM → Prop} (hw : wp_X10_free Z p0 p1 M mc ms K X) : zz_Met Z l yX10_free (zz_ws yX10_free cX10_free 2 none none) 74 [va_rf p0, va_rf p1] M mc ms K X := by
  refine zz_ofW hl (plainFor_of_name (by decide)) (by simp only [zz_sl0, zz_slI, zz_slJ, zz_slA] <;> decide) (fun G hZ hll C E hH hR hin => ?_)
  subst hZ
  subst hll
  rw [show lv_args 0 [va_rf p0, va_rf p1] = [(0, va_rf p0), (1, va_rf p1)] by simp only [zz_la0, zz_laI, zz_laJ, zz_laA]]
  unfold wp_X10_free at hw
  refine zz_iconst (v := (2 : Int32)) C dX10_free_0 (by decide) ?_
  refine zz_aload_n C dX10_free_1 rfl 0 rfl ?_
  refine zz_getA C dX10_free_2 (Or.inr ⟨_, q245⟩) zf_2_3_teHall_Minutes hw (fun x1 hw => ?_)
  refine zz_aload_n C dX10_free_5 rfl 1 rfl ?_
  refine zz_getA C dX10_free_6 (Or.inr ⟨_, q374⟩) zf_5_1_bateHall_Token hw (fun x2 hw => ?_)
  obtain ⟨a9, t9, b9, fs9, hro, hL, rfl, hw⟩ := ztyS hw
  refine zz_callV (r := (zR_19, zT_19, 8)) (As := [va_rf x2]) (rest := [.int (2 : Int32)]) (mc := 0) (ms := 0) C hR hro dX10_free_9 (Or.inl q1807) q1808 (Or.inl q1809) zl_java_util_HashMap zk_J4_containsKey (Or.inl rfl) zy_J4_containsKey rfl (by decide) (by decide) hL (ok_J4_containsKey (zz_hl C) hw) (Nat.zero_le _) (Nat.zero_le _) (zz_cat10 _ (Nat.le_of_ble_eq_true rfl)) (fun r3 M4 hw => zz_kI hw (fun x7 hw => ?_)) (fun _ _ _ h9 => h9.elim) rfl
  refine zz_if_ne (tgt := 19) C dX10_free_12 (by decide) hw (fun hw => ?_) (fun hw => ?_)
  · refine zz_iconst (v := (0 : Int32)) C dX10_free_19 (by decide) ?_
    refine zz_subP [0, 1] rfl ?_
    exact ok_X10_free_B20 C E hH hR hw
  · refine zz_iconst (v := (1 : Int32)) C dX10_free_15 (by decide) ?_
    refine zz_goto (tgt := 20) C dX10_free_16 (by decide) ?_
    refine zz_subP [0, 1] rfl ?_
    exact ok_X10_free_B20 C E hH hR hw
abbrev cJ4_get : ByteArray := prog_63_method_12_code
def yJ4_get : MethodName := ⟨"java/util/HashMap", "get", "(Ljava/lang/Object;)Ljava/lang/Object;"⟩
def dkwJ4_get_0 : List UInt8 := [42, 43, 182, 0, 158, 89, 77, 199, 0, 7, 1, 167, 0, 7, 44, 180, 0, 162, 176]
abbrev dktJ4_get_0 : List UInt8 := dkwJ4_get_0 ++ []
theorem dksJ4_get_0 : cJ4_get.data.toList.drop 0 = dktJ4_get_0 := by decide +kernel
theorem dJ4_get_0 : decode cJ4_get 0 = .ok (.aload_n 0, 1) := dk_42 (dk_at dksJ4_get_0 0 rfl rfl)
theorem dJ4_get_1 : decode cJ4_get 1 = .ok (.aload_n 1, 1) := dk_43 (dk_at dksJ4_get_0 1 rfl rfl)
theorem dJ4_get_2 : decode cJ4_get 2 = .ok (.invokevirtual 158, 3) := dk_182 0 158 (dk_at dksJ4_get_0 2 rfl rfl)
theorem dJ4_get_5 : decode cJ4_get 5 = .ok (.dup, 1) := dk_89 (dk_at dksJ4_get_0 5 rfl rfl)
theorem dJ4_get_6 : decode cJ4_get 6 = .ok (.astore_n 2, 1) := dk_77 (dk_at dksJ4_get_0 6 rfl rfl)
theorem dJ4_get_7 : decode cJ4_get 7 = .ok (.ifnonnull 7, 3) := dk_199 0 7 (dk_at dksJ4_get_0 7 rfl rfl)
theorem dJ4_get_10 : decode cJ4_get 10 = .ok (.aconst_null, 1) := dk_1 (dk_at dksJ4_get_0 10 rfl rfl)
theorem dJ4_get_11 : decode cJ4_get 11 = .ok (.goto 7, 3) := dk_167 0 7 (dk_at dksJ4_get_0 11 rfl rfl)
theorem dJ4_get_14 : decode cJ4_get 14 = .ok (.aload_n 2, 1) := dk_44 (dk_at dksJ4_get_0 14 rfl rfl)
theorem dJ4_get_15 : decode cJ4_get 15 = .ok (.getfield 162, 3) := dk_180 0 162 (dk_at dksJ4_get_0 15 rfl rfl)
theorem dJ4_get_18 : decode cJ4_get 18 = .ok (.areturn, 1) := dk_176 (dk_at dksJ4_get_0 18 rfl rfl)
def wp_J4_get_B18 (Z : zzG) (K : Option Value → zzM → Prop) (s0 : Option Nat) (M : zzM) : Prop := K (some (va_rf s0)) M
def wp_J4_get (Z : zzG) (this : Option Nat) (p0 : Option Nat) (M : zzM) (K : Option Value → zzM → Prop) : Prop := zty Z M this fun t => t = 19 ∧ wp_J4_getNode Z this p0 M (fun r1 M2 => zrA r1 fun x5 => if x5 = none then (wp_J4_get_B18 Z K none M2) else (zgA Z M2 x5 [24, 25] 2 fun x6 => wp_J4_get_B18 Z K x6 M2))
theorem ok_J4_get_B18 {G : zzX} (C : zz_C G cJ4_get "java/util/HashMap" 3) {K : Option Value → zzM → Prop} (E : zz_E G (some (.object "java/lang/Object")) K (fun _ _ _ => False)) (hH : zz_H G []) (hR : zz_Rm G 73) {s0 : Option Nat} {M : zzM} {bc bs : Nat} (hw : wp_J4_get_B18 (zz_Zof G) K s0 M) : zz_T G 3 M bc bs 18 [] [va_rf s0] := by
  unfold wp_J4_get_B18 at hw
  exact zz_aret C E (Or.inl ⟨_, rfl⟩) dJ4_get_18 hw
theorem ok_J4_get {Z : zzG} {l : Launch} (hl : l.stackTraces = false) {this : Option Nat} {p0 : Option Nat} {M : zzM} {mc ms : Nat} {K : Option Value → zzM → Prop} (hw : wp_J4_get Z this p0 M K) : zz_Met Z l yJ4_get (zz_ws yJ4_get cJ4_get 3 (some (.object "java/lang/Object")) none) 73 [va_rf this, va_rf p0] M mc ms K (fun _ _ _ => False) := by
  refine zz_ofW hl (plainFor_of_name (by decide)) (by simp only [zz_sl0, zz_slI, zz_slJ, zz_slA] <;> decide) (fun G hZ hll C E hH hR hin => ?_)
  subst hZ
  subst hll
  rw [show lv_args 0 [va_rf this, va_rf p0] = [(0, va_rf this), (1, va_rf p0)] by simp only [zz_la0, zz_laI, zz_laJ, zz_laA]]
  unfold wp_J4_get at hw
  refine zz_aload_n C dJ4_get_0 rfl 0 rfl ?_
  refine zz_aload_n C dJ4_get_1 rfl 1 rfl ?_
  obtain ⟨a9, t9, b9, fs9, hro, hL, rfl, hw⟩ := ztyS hw
  refine zz_callV (r := (zR_19, zT_19, 8)) (As := [va_rf p0]) (rest := []) (mc := 0) (ms := 0) C hR hro dJ4_get_2 (Or.inl q1811) q1812 (Or.inl q1813) zl_java_util_HashMap zk_J4_getNode (Or.inl rfl) zy_J4_getNode rfl (by decide) (by decide) hL (ok_J4_getNode (zz_hl C) hw) (Nat.zero_le _) (Nat.zero_le _) (zz_cat10 _ (Nat.le_of_ble_eq_true rfl)) (fun r1 M2 hw => zz_kA hw (fun x5 hw => ?_)) (fun _ _ _ h9 => h9.elim) rfl
  refine zz_dup C dJ4_get_5 (zz_cat _) ?_
  refine zz_astore_n (i := 2) (lv' := [(2, va_rf x5), (0, va_rf this), (1, va_rf p0)]) C dJ4_get_6 rfl (by decide) (by simp [zz_cat, zz_catI, zz_catJ, zz_catD]) ?_
  refine zz_ifnonnull (tgt := 14) C dJ4_get_7 (by decide) hw (fun hw => ?_) (fun hw => ?_)
  · refine zz_aload_n C dJ4_get_14 rfl 0 rfl ?_
    refine zz_getA C dJ4_get_15 (Or.inl q1362) zf_24_25_2_l_HashMap_Node hw (fun x6 hw => ?_)
    refine zz_subP [] rfl ?_
    exact ok_J4_get_B18 C E hH hR hw
  · refine zz_null C dJ4_get_10 ?_
    refine zz_goto (tgt := 18) C dJ4_get_11 (by decide) ?_
    refine zz_subP [] rfl ?_
    exact ok_J4_get_B18 C E hH hR hw
abbrev cX10_spend : ByteArray := prog_11_method_7_code
def yX10_spend : MethodName := ⟨"DebateHall$Line", "spend", "(LDebateHall$Minutes;II)V"⟩
def dkwX10_spend_1 : List UInt8 := [4, 167, 0, 4, 3, 42, 180, 0, 72, 184, 0, 36, 25, 4, 89, 180, 0, 69, 29, 100, 181, 0, 69, 177]
abbrev dktX10_spend_1 : List UInt8 := dkwX10_spend_1 ++ []
def dkwX10_spend_0 : List UInt8 := [43, 180, 0, 61, 28, 182, 0, 64, 192, 0, 67, 58, 4, 16, 7, 25, 4, 180, 0, 69, 29, 161, 0, 7]
abbrev dktX10_spend_0 : List UInt8 := dkwX10_spend_0 ++ dktX10_spend_1
theorem dksX10_spend_0 : cX10_spend.data.toList.drop 0 = dktX10_spend_0 := by decide +kernel
theorem dksX10_spend_1 : cX10_spend.data.toList.drop 24 = dktX10_spend_1 := dk_seg dksX10_spend_0 24 rfl rfl
theorem dX10_spend_0 : decode cX10_spend 0 = .ok (.aload_n 1, 1) := dk_43 (dk_at dksX10_spend_0 0 rfl rfl)
theorem dX10_spend_1 : decode cX10_spend 1 = .ok (.getfield 61, 3) := dk_180 0 61 (dk_at dksX10_spend_0 1 rfl rfl)
theorem dX10_spend_4 : decode cX10_spend 4 = .ok (.iload_n 2, 1) := dk_28 (dk_at dksX10_spend_0 4 rfl rfl)
theorem dX10_spend_5 : decode cX10_spend 5 = .ok (.invokevirtual 64, 3) := dk_182 0 64 (dk_at dksX10_spend_0 5 rfl rfl)
theorem dX10_spend_8 : decode cX10_spend 8 = .ok (.checkcast 67, 3) := dk_192 0 67 (dk_at dksX10_spend_0 8 rfl rfl)
theorem dX10_spend_11 : decode cX10_spend 11 = .ok (.astore 4, 2) := dk_58 4 (dk_at dksX10_spend_0 11 rfl rfl)
theorem dX10_spend_13 : decode cX10_spend 13 = .ok (.bipush 7, 2) := dk_16 7 (dk_at dksX10_spend_0 13 rfl rfl)
theorem dX10_spend_15 : decode cX10_spend 15 = .ok (.aload 4, 2) := dk_25 4 (dk_at dksX10_spend_0 15 rfl rfl)
theorem dX10_spend_17 : decode cX10_spend 17 = .ok (.getfield 69, 3) := dk_180 0 69 (dk_at dksX10_spend_0 17 rfl rfl)
theorem dX10_spend_20 : decode cX10_spend 20 = .ok (.iload_n 3, 1) := dk_29 (dk_at dksX10_spend_0 20 rfl rfl)
theorem dX10_spend_21 : decode cX10_spend 21 = .ok (.if_icmp .lt 7, 3) := dk_161 0 7 (dk_at dksX10_spend_0 21 rfl rfl)
theorem dX10_spend_24 : decode cX10_spend 24 = .ok (.iconst 1, 1) := dk_4 (dk_at dksX10_spend_1 0 rfl rfl)
theorem dX10_spend_25 : decode cX10_spend 25 = .ok (.goto 4, 3) := dk_167 0 4 (dk_at dksX10_spend_1 1 rfl rfl)
theorem dX10_spend_28 : decode cX10_spend 28 = .ok (.iconst 0, 1) := dk_3 (dk_at dksX10_spend_1 4 rfl rfl)
theorem dX10_spend_29 : decode cX10_spend 29 = .ok (.aload_n 0, 1) := dk_42 (dk_at dksX10_spend_1 5 rfl rfl)
theorem dX10_spend_30 : decode cX10_spend 30 = .ok (.getfield 72, 3) := dk_180 0 72 (dk_at dksX10_spend_1 6 rfl rfl)
theorem dX10_spend_33 : decode cX10_spend 33 = .ok (.invokestatic 36, 3) := dk_184 0 36 (dk_at dksX10_spend_1 9 rfl rfl)
theorem dX10_spend_36 : decode cX10_spend 36 = .ok (.aload 4, 2) := dk_25 4 (dk_at dksX10_spend_1 12 rfl rfl)
theorem dX10_spend_38 : decode cX10_spend 38 = .ok (.dup, 1) := dk_89 (dk_at dksX10_spend_1 14 rfl rfl)
theorem dX10_spend_39 : decode cX10_spend 39 = .ok (.getfield 69, 3) := dk_180 0 69 (dk_at dksX10_spend_1 15 rfl rfl)
theorem dX10_spend_42 : decode cX10_spend 42 = .ok (.iload_n 3, 1) := dk_29 (dk_at dksX10_spend_1 18 rfl rfl)
theorem dX10_spend_43 : decode cX10_spend 43 = .ok (.isub, 1) := dk_100 (dk_at dksX10_spend_1 19 rfl rfl)
theorem dX10_spend_44 : decode cX10_spend 44 = .ok (.putfield 69, 3) := dk_181 0 69 (dk_at dksX10_spend_1 20 rfl rfl)
theorem dX10_spend_47 : decode cX10_spend 47 = .ok (.return_, 1) := dk_177 (dk_at dksX10_spend_1 23 rfl rfl)
theorem q234 : (Jvm.Cond.fieldLinkNest "DebateHall$Line" (61 : Nat) "DebateHall$Minutes" "speakers" "Ljava/util/ArrayList;" "DebateHall") ∈ lw_tbl := lw_at lw_m1 154 rfl
theorem q1862 : (Jvm.Cond.classLink "DebateHall$Line" (67 : Nat) "DebateHall$Speaker") ∈ lw_all := lw_g (lw_at lw_m8 102 rfl) rfl
theorem q1204 : (Jvm.Cond.fieldLinkNest "DebateHall$Line" (69 : Nat) "DebateHall$Speaker" "time" "I" "DebateHall") ∈ lw_tbl := lw_at lw_m5 164 rfl
theorem q1861 : (Jvm.Cond.methodLink "DebateHall$Line" (64 : Nat) ({ cls := "java/util/ArrayList", name := "get", desc := "(I)Ljava/lang/Object;" } : Jvm.MethodName)) ∈ lw_all := lw_g (lw_at lw_m8 101 rfl) rfl
theorem q958 : (Jvm.Cond.fieldLink "DebateHall$Line" (72 : Nat) "DebateHall$Line" "end" "LDebateHall$Token;") ∈ lw_all := lw_g (lw_at lw_m4 158 rfl) rfl
def wp_X10_spend_B29 (Z : zzG) (K : Option Value → zzM → Prop) (X : Nat → Nat → zzM → Prop) (v0 : Option Nat) (v3 : Int32) (v4 : Option Nat) (s0 : Int32) (s1 : Int32) (M : zzM) (bc bs : Nat) : Prop := zgA Z M v0 [7, 8, 12, 13] 0 fun x8 => zcx bc bs (fun c s k x => wp_X10_check Z s1 s0 x8 M c s k x) (fun r9 M10 bc11 bs12 => zrV r9 (zgI Z M10 v4 [14] 2 fun x13 => zput Z M10 v4 [14] 2 (.int (x13 - v3)) fun M14 => K none M14)) (fun t q M _ _ => X t q M)
def wp_X10_spend (Z : zzG) (this : Option Nat) (p0 : Option Nat) (p1 : Int32) (p2 : Int32) (M : zzM) (bc bs : Nat) (K : Option Value → zzM → Prop) (X : Nat → Nat → zzM → Prop) : Prop := zgA Z M p0 [2] 0 fun x1 => zty Z M x1 fun t => t = 18 ∧ wp_J2_get Z x1 p1 M (fun r2 M3 => zrA r2 fun x6 => zcast Z M3 x6 [14] <| zgI Z M3 x6 [14] 2 fun x7 => if x7 < p2 then (wp_X10_spend_B29 Z K X this p2 x6 (0 : Int32) (7 : Int32) M3 bc bs) else (wp_X10_spend_B29 Z K X this p2 x6 (1 : Int32) (7 : Int32) M3 bc bs))
theorem ok_X10_spend_B29 {G : zzX} (C : zz_C G cX10_spend "DebateHall$Line" 5) {K : Option Value → zzM → Prop} {X : Nat → Nat → zzM → Prop} (E : zz_E G none K X) (hH : zz_H G []) (hR : zz_Rm G 8) {v0 : Option Nat} {v3 : Int32} {v4 : Option Nat} {s0 : Int32} {s1 : Int32} {M : zzM} {bc bs : Nat} (hw : wp_X10_spend_B29 (zz_Zof G) K X v0 v3 v4 s0 s1 M bc bs) : zz_T G 5 M bc bs 29 [(0, va_rf v0), (3, .int v3), (4, va_rf v4)] [.int s0, .int s1] := by
  unfold wp_X10_spend_B29 at hw
  refine zz_aload_n C dX10_spend_29 rfl 0 rfl ?_
  refine zz_getA C dX10_spend_30 (Or.inl q958) zf_7_8_12_13_0_ebateHall_Line hw (fun x8 hw => ?_)
  obtain ⟨c9, s9, hc9, hs9, hw⟩ := hw
  refine zz_callS (As := [.int s1, .int s0, va_rf x8]) (rest := []) C hR dX10_spend_33 (Or.inl q1819) q1820 zl_DebateHall_Line zk_X10_check (Or.inl rfl) zy_X10_check (by decide) (by decide) (ok_X10_check (zz_hl C) hw) hc9 hs9 (zz_cat10 _ (Nat.le_of_ble_eq_true rfl)) (fun r9 M10 hw => zz_kV hw (fun hw => ?_)) (fun t9 q15 M16 hx => ?_) rfl
  · refine zz_aload C dX10_spend_36 2 rfl ?_
    refine zz_dup C dX10_spend_38 (zz_cat _) ?_
    refine zz_getI C dX10_spend_39 (Or.inr ⟨_, q1204⟩) zf_14_2_teHall_Speaker hw (fun x13 hw => ?_)
    refine zz_iload_n C dX10_spend_42 rfl 1 rfl ?_
    refine zz_isub C dX10_spend_43 ?_
    refine zz_put C dX10_spend_44 (Or.inr ⟨_, q1204⟩) zf_14_2_teHall_Speaker zp_14_2 (zz_hn1 ⟨rfl, rfl⟩) hw (fun M14 hw => ?_)
    exact zz_vret C E dX10_spend_47 hw
  · exact zz_out C E hH rfl hx
theorem ok_X10_spend {Z : zzG} {l : Launch} (hl : l.stackTraces = false) {this : Option Nat} {p0 : Option Nat} {p1 : Int32} {p2 : Int32} {M : zzM} {mc ms : Nat} {K : Option Value → zzM → Prop} {X : Nat → Nat → zzM → Prop} (hw : wp_X10_spend Z this p0 p1 p2 M mc ms K X) : zz_Met Z l yX10_spend (zz_ws yX10_spend cX10_spend 5 none none) 8 [va_rf this, va_rf p0, .int p1, .int p2] M mc ms K X := by
  refine zz_ofW hl (plainFor_of_name (by decide)) (by simp only [zz_sl0, zz_slI, zz_slJ, zz_slA] <;> decide) (fun G hZ hll C E hH hR hin => ?_)
  subst hZ
  subst hll
  rw [show lv_args 0 [va_rf this, va_rf p0, .int p1, .int p2] = [(0, va_rf this), (1, va_rf p0), (2, .int p1), (3, .int p2)] by simp only [zz_la0, zz_laI, zz_laJ, zz_laA]]
  unfold wp_X10_spend at hw
  refine zz_aload_n C dX10_spend_0 rfl 1 rfl ?_
  refine zz_getA C dX10_spend_1 (Or.inr ⟨_, q234⟩) zf_2_0_teHall_Minutes hw (fun x1 hw => ?_)
  refine zz_iload_n C dX10_spend_4 rfl 2 rfl ?_
  obtain ⟨a9, t9, b9, fs9, hro, hL, rfl, hw⟩ := ztyS hw
  refine zz_callV (r := (zR_18, zT_18, 3)) (As := [.int p1]) (rest := []) (mc := 0) (ms := 0) C hR hro dX10_spend_5 (Or.inl q1861) q877 (Or.inl q2872) zl_java_util_ArrayList zk_J2_get (Or.inl rfl) zy_J2_get rfl (by decide) (by decide) hL (ok_J2_get (zz_hl C) hw) (Nat.zero_le _) (Nat.zero_le _) (zz_cat10 _ (Nat.le_of_ble_eq_true rfl)) (fun r2 M3 hw => zz_kA hw (fun x6 hw => ?_)) (fun _ _ _ h9 => h9.elim) rfl
  refine zz_cast C dX10_spend_8 q1862 zc_14_teHall_Speaker hw (fun hw => ?_)
  refine zz_astore (lv' := [(4, va_rf x6), (0, va_rf this), (1, va_rf p0), (2, .int p1), (3, .int p2)]) C dX10_spend_11 (by decide) rfl ?_
  refine zz_bipush (v := (7 : Int32)) C dX10_spend_13 (by decide) ?_
  refine zz_aload C dX10_spend_15 0 rfl ?_
  refine zz_getI C dX10_spend_17 (Or.inr ⟨_, q1204⟩) zf_14_2_teHall_Speaker hw (fun x7 hw => ?_)
  refine zz_iload_n C dX10_spend_20 rfl 4 rfl ?_
  refine zz_icmp_lt (tgt := 28) C dX10_spend_21 (by decide) hw (fun hw => ?_) (fun hw => ?_)
  · refine zz_iconst (v := (0 : Int32)) C dX10_spend_28 (by decide) ?_
    refine zz_subP [1, 4, 0] rfl ?_
    exact ok_X10_spend_B29 C E hH hR hw
  · refine zz_iconst (v := (1 : Int32)) C dX10_spend_24 (by decide) ?_
    refine zz_goto (tgt := 29) C dX10_spend_25 (by decide) ?_
    refine zz_subP [1, 4, 0] rfl ?_
    exact ok_X10_spend_B29 C E hH hR hw
abbrev cX12_carryOut : ByteArray := prog_3_method_2_code
def yX12_carryOut : MethodName := ⟨"DebateHall$Claim", "carryOut", "(LDebateHall$Minutes;)V"⟩
def dkwX12_carryOut_4 : List UInt8 := [178, 0, 47, 42, 180, 0, 9, 180, 0, 31, 29, 28, 1, 1, 183, 0, 87, 182, 0, 90, 177]
abbrev dktX12_carryOut_4 : List UInt8 := dkwX12_carryOut_4 ++ []
def dkwX12_carryOut_3 : List UInt8 := [178, 0, 47, 180, 0, 69, 28, 96, 182, 0, 72, 43, 187, 0, 76, 89, 43, 180, 0, 78, 182, 0, 82]
abbrev dktX12_carryOut_3 : List UInt8 := dkwX12_carryOut_3 ++ dktX12_carryOut_4
def dkwX12_carryOut_2 : List UInt8 := [180, 0, 25, 42, 180, 0, 15, 180, 0, 31, 182, 0, 61, 192, 0, 65, 180, 0, 67, 62, 42, 43, 29]
abbrev dktX12_carryOut_2 : List UInt8 := dkwX12_carryOut_2 ++ dktX12_carryOut_3
def dkwX12_carryOut_1 : List UInt8 := [180, 0, 15, 184, 0, 43, 42, 180, 0, 18, 4, 16, 50, 178, 0, 47, 180, 0, 53, 184, 0, 57, 61, 43]
abbrev dktX12_carryOut_1 : List UInt8 := dkwX12_carryOut_1 ++ dktX12_carryOut_2
def dkwX12_carryOut_0 : List UInt8 := [43, 42, 180, 0, 9, 184, 0, 21, 6, 43, 180, 0, 25, 42, 180, 0, 15, 180, 0, 31, 182, 0, 37, 42]
abbrev dktX12_carryOut_0 : List UInt8 := dkwX12_carryOut_0 ++ dktX12_carryOut_1
theorem dksX12_carryOut_0 : cX12_carryOut.data.toList.drop 0 = dktX12_carryOut_0 := by decide +kernel
theorem dksX12_carryOut_1 : cX12_carryOut.data.toList.drop 24 = dktX12_carryOut_1 := dk_seg dksX12_carryOut_0 24 rfl rfl
theorem dksX12_carryOut_2 : cX12_carryOut.data.toList.drop 48 = dktX12_carryOut_2 := dk_seg dksX12_carryOut_1 24 rfl rfl
theorem dksX12_carryOut_3 : cX12_carryOut.data.toList.drop 71 = dktX12_carryOut_3 := dk_seg dksX12_carryOut_2 23 rfl rfl
theorem dksX12_carryOut_4 : cX12_carryOut.data.toList.drop 94 = dktX12_carryOut_4 := dk_seg dksX12_carryOut_3 23 rfl rfl
theorem dX12_carryOut_0 : decode cX12_carryOut 0 = .ok (.aload_n 1, 1) := dk_43 (dk_at dksX12_carryOut_0 0 rfl rfl)
theorem dX12_carryOut_1 : decode cX12_carryOut 1 = .ok (.aload_n 0, 1) := dk_42 (dk_at dksX12_carryOut_0 1 rfl rfl)
theorem dX12_carryOut_2 : decode cX12_carryOut 2 = .ok (.getfield 9, 3) := dk_180 0 9 (dk_at dksX12_carryOut_0 2 rfl rfl)
theorem dX12_carryOut_5 : decode cX12_carryOut 5 = .ok (.invokestatic 21, 3) := dk_184 0 21 (dk_at dksX12_carryOut_0 5 rfl rfl)
theorem dX12_carryOut_8 : decode cX12_carryOut 8 = .ok (.iconst 3, 1) := dk_6 (dk_at dksX12_carryOut_0 8 rfl rfl)
theorem dX12_carryOut_9 : decode cX12_carryOut 9 = .ok (.aload_n 1, 1) := dk_43 (dk_at dksX12_carryOut_0 9 rfl rfl)
theorem dX12_carryOut_10 : decode cX12_carryOut 10 = .ok (.getfield 25, 3) := dk_180 0 25 (dk_at dksX12_carryOut_0 10 rfl rfl)
theorem dX12_carryOut_13 : decode cX12_carryOut 13 = .ok (.aload_n 0, 1) := dk_42 (dk_at dksX12_carryOut_0 13 rfl rfl)
theorem dX12_carryOut_14 : decode cX12_carryOut 14 = .ok (.getfield 15, 3) := dk_180 0 15 (dk_at dksX12_carryOut_0 14 rfl rfl)
theorem dX12_carryOut_17 : decode cX12_carryOut 17 = .ok (.getfield 31, 3) := dk_180 0 31 (dk_at dksX12_carryOut_0 17 rfl rfl)
theorem dX12_carryOut_20 : decode cX12_carryOut 20 = .ok (.invokevirtual 37, 3) := dk_182 0 37 (dk_at dksX12_carryOut_0 20 rfl rfl)
theorem dX12_carryOut_23 : decode cX12_carryOut 23 = .ok (.aload_n 0, 1) := dk_42 (dk_at dksX12_carryOut_0 23 rfl rfl)
theorem dX12_carryOut_24 : decode cX12_carryOut 24 = .ok (.getfield 15, 3) := dk_180 0 15 (dk_at dksX12_carryOut_1 0 rfl rfl)
theorem dX12_carryOut_27 : decode cX12_carryOut 27 = .ok (.invokestatic 43, 3) := dk_184 0 43 (dk_at dksX12_carryOut_1 3 rfl rfl)
theorem dX12_carryOut_30 : decode cX12_carryOut 30 = .ok (.aload_n 0, 1) := dk_42 (dk_at dksX12_carryOut_1 6 rfl rfl)
theorem dX12_carryOut_31 : decode cX12_carryOut 31 = .ok (.getfield 18, 3) := dk_180 0 18 (dk_at dksX12_carryOut_1 7 rfl rfl)
theorem dX12_carryOut_34 : decode cX12_carryOut 34 = .ok (.iconst 1, 1) := dk_4 (dk_at dksX12_carryOut_1 10 rfl rfl)
theorem dX12_carryOut_35 : decode cX12_carryOut 35 = .ok (.bipush 50, 2) := dk_16 50 (dk_at dksX12_carryOut_1 11 rfl rfl)
theorem dX12_carryOut_37 : decode cX12_carryOut 37 = .ok (.getstatic 47, 3) := dk_178 0 47 (dk_at dksX12_carryOut_1 13 rfl rfl)
theorem dX12_carryOut_40 : decode cX12_carryOut 40 = .ok (.getfield 53, 3) := dk_180 0 53 (dk_at dksX12_carryOut_1 16 rfl rfl)
theorem dX12_carryOut_43 : decode cX12_carryOut 43 = .ok (.invokestatic 57, 3) := dk_184 0 57 (dk_at dksX12_carryOut_1 19 rfl rfl)
theorem dX12_carryOut_46 : decode cX12_carryOut 46 = .ok (.istore_n 2, 1) := dk_61 (dk_at dksX12_carryOut_1 22 rfl rfl)
theorem dX12_carryOut_47 : decode cX12_carryOut 47 = .ok (.aload_n 1, 1) := dk_43 (dk_at dksX12_carryOut_1 23 rfl rfl)
theorem dX12_carryOut_48 : decode cX12_carryOut 48 = .ok (.getfield 25, 3) := dk_180 0 25 (dk_at dksX12_carryOut_2 0 rfl rfl)
theorem dX12_carryOut_51 : decode cX12_carryOut 51 = .ok (.aload_n 0, 1) := dk_42 (dk_at dksX12_carryOut_2 3 rfl rfl)
theorem dX12_carryOut_52 : decode cX12_carryOut 52 = .ok (.getfield 15, 3) := dk_180 0 15 (dk_at dksX12_carryOut_2 4 rfl rfl)
theorem dX12_carryOut_55 : decode cX12_carryOut 55 = .ok (.getfield 31, 3) := dk_180 0 31 (dk_at dksX12_carryOut_2 7 rfl rfl)
theorem dX12_carryOut_58 : decode cX12_carryOut 58 = .ok (.invokevirtual 61, 3) := dk_182 0 61 (dk_at dksX12_carryOut_2 10 rfl rfl)
theorem dX12_carryOut_61 : decode cX12_carryOut 61 = .ok (.checkcast 65, 3) := dk_192 0 65 (dk_at dksX12_carryOut_2 13 rfl rfl)
theorem dX12_carryOut_64 : decode cX12_carryOut 64 = .ok (.getfield 67, 3) := dk_180 0 67 (dk_at dksX12_carryOut_2 16 rfl rfl)
theorem dX12_carryOut_67 : decode cX12_carryOut 67 = .ok (.istore_n 3, 1) := dk_62 (dk_at dksX12_carryOut_2 19 rfl rfl)
theorem dX12_carryOut_68 : decode cX12_carryOut 68 = .ok (.aload_n 0, 1) := dk_42 (dk_at dksX12_carryOut_2 20 rfl rfl)
theorem dX12_carryOut_69 : decode cX12_carryOut 69 = .ok (.aload_n 1, 1) := dk_43 (dk_at dksX12_carryOut_2 21 rfl rfl)
theorem dX12_carryOut_70 : decode cX12_carryOut 70 = .ok (.iload_n 3, 1) := dk_29 (dk_at dksX12_carryOut_2 22 rfl rfl)
theorem dX12_carryOut_71 : decode cX12_carryOut 71 = .ok (.getstatic 47, 3) := dk_178 0 47 (dk_at dksX12_carryOut_3 0 rfl rfl)
theorem dX12_carryOut_74 : decode cX12_carryOut 74 = .ok (.getfield 69, 3) := dk_180 0 69 (dk_at dksX12_carryOut_3 3 rfl rfl)
theorem dX12_carryOut_77 : decode cX12_carryOut 77 = .ok (.iload_n 2, 1) := dk_28 (dk_at dksX12_carryOut_3 6 rfl rfl)
theorem dX12_carryOut_78 : decode cX12_carryOut 78 = .ok (.iadd, 1) := dk_96 (dk_at dksX12_carryOut_3 7 rfl rfl)
theorem dX12_carryOut_79 : decode cX12_carryOut 79 = .ok (.invokevirtual 72, 3) := dk_182 0 72 (dk_at dksX12_carryOut_3 8 rfl rfl)
theorem dX12_carryOut_82 : decode cX12_carryOut 82 = .ok (.aload_n 1, 1) := dk_43 (dk_at dksX12_carryOut_3 11 rfl rfl)
theorem dX12_carryOut_83 : decode cX12_carryOut 83 = .ok (.new 76, 3) := dk_187 0 76 (dk_at dksX12_carryOut_3 12 rfl rfl)
theorem dX12_carryOut_86 : decode cX12_carryOut 86 = .ok (.dup, 1) := dk_89 (dk_at dksX12_carryOut_3 15 rfl rfl)
theorem dX12_carryOut_87 : decode cX12_carryOut 87 = .ok (.aload_n 1, 1) := dk_43 (dk_at dksX12_carryOut_3 16 rfl rfl)
theorem dX12_carryOut_88 : decode cX12_carryOut 88 = .ok (.getfield 78, 3) := dk_180 0 78 (dk_at dksX12_carryOut_3 17 rfl rfl)
theorem dX12_carryOut_91 : decode cX12_carryOut 91 = .ok (.invokevirtual 82, 3) := dk_182 0 82 (dk_at dksX12_carryOut_3 20 rfl rfl)
theorem dX12_carryOut_94 : decode cX12_carryOut 94 = .ok (.getstatic 47, 3) := dk_178 0 47 (dk_at dksX12_carryOut_4 0 rfl rfl)
theorem dX12_carryOut_97 : decode cX12_carryOut 97 = .ok (.aload_n 0, 1) := dk_42 (dk_at dksX12_carryOut_4 3 rfl rfl)
theorem dX12_carryOut_98 : decode cX12_carryOut 98 = .ok (.getfield 9, 3) := dk_180 0 9 (dk_at dksX12_carryOut_4 4 rfl rfl)
theorem dX12_carryOut_101 : decode cX12_carryOut 101 = .ok (.getfield 31, 3) := dk_180 0 31 (dk_at dksX12_carryOut_4 7 rfl rfl)
theorem dX12_carryOut_104 : decode cX12_carryOut 104 = .ok (.iload_n 3, 1) := dk_29 (dk_at dksX12_carryOut_4 10 rfl rfl)
theorem dX12_carryOut_105 : decode cX12_carryOut 105 = .ok (.iload_n 2, 1) := dk_28 (dk_at dksX12_carryOut_4 11 rfl rfl)
theorem dX12_carryOut_106 : decode cX12_carryOut 106 = .ok (.aconst_null, 1) := dk_1 (dk_at dksX12_carryOut_4 12 rfl rfl)
theorem dX12_carryOut_107 : decode cX12_carryOut 107 = .ok (.aconst_null, 1) := dk_1 (dk_at dksX12_carryOut_4 13 rfl rfl)
theorem dX12_carryOut_108 : decode cX12_carryOut 108 = .ok (.invokespecial 87, 3) := dk_183 0 87 (dk_at dksX12_carryOut_4 14 rfl rfl)
theorem dX12_carryOut_111 : decode cX12_carryOut 111 = .ok (.invokevirtual 90, 3) := dk_182 0 90 (dk_at dksX12_carryOut_4 17 rfl rfl)
theorem dX12_carryOut_114 : decode cX12_carryOut 114 = .ok (.return_, 1) := dk_177 (dk_at dksX12_carryOut_4 20 rfl rfl)
theorem q1806 : (Jvm.Cond.code ({ cls := "DebateHall$Line", name := "free", desc := "(LDebateHall$Minutes;LDebateHall$Token;)V" } : Jvm.MethodName) prog_11_method_6_code (2 : Nat) (Option.none : Option Jvm.ClassFile.FieldType)) ∈ lw_all := lw_g (lw_at lw_m8 46 rfl) rfl
theorem zk_X10_free : zz_cd yX10_free cX10_free 2 none none ∈ lw_all := q1806
theorem zy_X10_free : zz_yok yX10_free 2 = true := by decide +kernel
theorem q242 : (Jvm.Cond.fieldLinkNest "DebateHall$Claim" (25 : Nat) "DebateHall$Minutes" "speakerNames" "Ljava/util/HashMap;" "DebateHall") ∈ lw_tbl := lw_at lw_m1 162 rfl
theorem q371 : (Jvm.Cond.fieldLinkNest "DebateHall$Claim" (31 : Nat) "DebateHall$Token" "text" "Ljava/lang/String;" "DebateHall") ∈ lw_tbl := lw_at lw_m2 51 rfl
theorem q1828 : (Jvm.Cond.fieldLink "DebateHall$Claim" (47 : Nat) "DebateHall$Kind" "CLAIM" "LDebateHall$Kind;") ∈ lw_all := lw_g (lw_at lw_m8 68 rfl) rfl
theorem zf_30_31_32_1_ebateHall_Kind : zz_fok [30, 31, 32] 1 "DebateHall$Kind" "size" "I" := zz_fokC (zz_fok1 (zR_30, zT_30, 3) rfl (by decide) rfl rfl (Or.inl rfl)) (zz_fokC (zz_fok1 (zR_31, zT_31, 3) rfl (by decide) rfl rfl (Or.inl rfl)) (zz_fok1 (zR_32, zT_32, 3) rfl (by decide) rfl rfl (Or.inl rfl)))
theorem q2943 : (Jvm.Cond.fieldLinkNest "DebateHall$Claim" (53 : Nat) "DebateHall$Kind" "size" "I" "DebateHall") ∈ lw_tbl := lw_at lw_m12 223 rfl
theorem q1853 : (Jvm.Cond.code ({ cls := "java/util/HashMap", name := "get", desc := "(Ljava/lang/Object;)Ljava/lang/Object;" } : Jvm.MethodName) prog_63_method_12_code (3 : Nat) (Option.some (Jvm.ClassFile.FieldType.object "java/lang/Object"))) ∈ lw_all := lw_g (lw_at lw_m8 93 rfl) rfl
theorem zk_J4_get : zz_cd yJ4_get cJ4_get 3 (some (.object "java/lang/Object")) none ∈ lw_all := q1853
theorem zy_J4_get : zz_yok yJ4_get 1 = true := by decide +kernel
theorem q1854 : (Jvm.Cond.classLink "DebateHall$Claim" (65 : Nat) "DebateHall$Speaker") ∈ lw_all := lw_g (lw_at lw_m8 94 rfl) rfl
theorem q1198 : (Jvm.Cond.fieldLinkNest "DebateHall$Claim" (67 : Nat) "DebateHall$Speaker" "number" "I" "DebateHall") ∈ lw_tbl := lw_at lw_m5 158 rfl
theorem zf_30_31_32_2_ebateHall_Kind : zz_fok [30, 31, 32] 2 "DebateHall$Kind" "cost" "I" := zz_fokC (zz_fok1 (zR_30, zT_30, 3) rfl (by decide) rfl rfl (Or.inl rfl)) (zz_fokC (zz_fok1 (zR_31, zT_31, 3) rfl (by decide) rfl rfl (Or.inl rfl)) (zz_fok1 (zR_32, zT_32, 3) rfl (by decide) rfl rfl (Or.inl rfl)))
theorem q2944 : (Jvm.Cond.fieldLinkNest "DebateHall$Claim" (69 : Nat) "DebateHall$Kind" "cost" "I" "DebateHall") ∈ lw_tbl := lw_at lw_m12 224 rfl
theorem q1860 : (Jvm.Cond.code ({ cls := "DebateHall$Line", name := "spend", desc := "(LDebateHall$Minutes;II)V" } : Jvm.MethodName) prog_11_method_7_code (5 : Nat) (Option.none : Option Jvm.ClassFile.FieldType)) ∈ lw_all := lw_g (lw_at lw_m8 100 rfl) rfl
theorem zk_X10_spend : zz_cd yX10_spend cX10_spend 5 none none ∈ lw_all := q1860
theorem zy_X10_spend : zz_yok yX10_spend 3 = true := by decide +kernel
theorem q1863 : (Jvm.Cond.classLink "DebateHall$Claim" (76 : Nat) "DebateHall$Item") ∈ lw_all := lw_g (lw_at lw_m8 103 rfl) rfl
theorem q236 : (Jvm.Cond.fieldLinkNest "DebateHall$Claim" (78 : Nat) "DebateHall$Minutes" "items" "Ljava/util/ArrayList;" "DebateHall") ∈ lw_tbl := lw_at lw_m1 156 rfl
theorem q1866 : (Jvm.Cond.methodLink "DebateHall$Claim" (90 : Nat) ({ cls := "DebateHall$Minutes", name := "add", desc := "(LDebateHall$Item;)V" } : Jvm.MethodName)) ∈ lw_all := lw_g (lw_at lw_m8 106 rfl) rfl
theorem q1865 : (Jvm.Cond.methodLink "DebateHall$Claim" (87 : Nat) ({ cls := "DebateHall$Item", name := "<init>", desc := "(ILDebateHall$Kind;Ljava/lang/String;IILDebateHall$Item;LDebateHall$Item;)V" } : Jvm.MethodName)) ∈ lw_all := lw_g (lw_at lw_m8 105 rfl) rfl
theorem q1864 : (Jvm.Cond.methodLink "DebateHall$Claim" (82 : Nat) ({ cls := "java/util/ArrayList", name := "size", desc := "()I" } : Jvm.MethodName)) ∈ lw_all := lw_g (lw_at lw_m8 104 rfl) rfl
theorem q1855 : (Jvm.Cond.methodLink "DebateHall$Claim" (72 : Nat) ({ cls := "DebateHall$Claim", name := "spend", desc := "(LDebateHall$Minutes;II)V" } : Jvm.MethodName)) ∈ lw_all := lw_g (lw_at lw_m8 95 rfl) rfl
theorem q1857 : (Jvm.Cond.declares ({ cls := "DebateHall$Line", name := "spend", desc := "(LDebateHall$Minutes;II)V" } : Jvm.MethodName)) ∈ lw_tbl := lw_at lw_m8 97 rfl
theorem q1856 : (Jvm.Cond.sameMethod "DebateHall$Claim" "DebateHall$Line" "spend" "(LDebateHall$Minutes;II)V") ∈ lw_all := lw_g (lw_at lw_m8 96 rfl) rfl
theorem q1859 : (Jvm.Cond.instanceMethod ({ cls := "DebateHall$Line", name := "spend", desc := "(LDebateHall$Minutes;II)V" } : Jvm.MethodName)) ∈ lw_all := lw_g (lw_at lw_m8 99 rfl) rfl
theorem q1858 : (Jvm.Cond.selects "DebateHall$Claim" ({ cls := "DebateHall$Claim", name := "spend", desc := "(LDebateHall$Minutes;II)V" } : Jvm.MethodName) ({ cls := "DebateHall$Line", name := "spend", desc := "(LDebateHall$Minutes;II)V" } : Jvm.MethodName)) ∈ lw_all := lw_g (lw_at lw_m8 98 rfl) rfl
theorem zyo_DebateHall_Line_spend__LDebateHall_Minutes_II_V : zz_yok ⟨"DebateHall$Line", "spend", "(LDebateHall$Minutes;II)V"⟩ 3 = true := by decide +kernel
theorem q1850 : (Jvm.Cond.methodLink "DebateHall$Claim" (61 : Nat) ({ cls := "java/util/HashMap", name := "get", desc := "(Ljava/lang/Object;)Ljava/lang/Object;" } : Jvm.MethodName)) ∈ lw_all := lw_g (lw_at lw_m8 90 rfl) rfl
theorem q1851 : (Jvm.Cond.instanceMethod ({ cls := "java/util/HashMap", name := "get", desc := "(Ljava/lang/Object;)Ljava/lang/Object;" } : Jvm.MethodName)) ∈ lw_all := lw_g (lw_at lw_m8 91 rfl) rfl
theorem q1852 : (Jvm.Cond.selects "java/util/HashMap" ({ cls := "java/util/HashMap", name := "get", desc := "(Ljava/lang/Object;)Ljava/lang/Object;" } : Jvm.MethodName) ({ cls := "java/util/HashMap", name := "get", desc := "(Ljava/lang/Object;)Ljava/lang/Object;" } : Jvm.MethodName)) ∈ lw_all := lw_g (lw_at lw_m8 92 rfl) rfl
theorem q1830 : (Jvm.Cond.methodLink "DebateHall$Claim" (57 : Nat) ({ cls := "DebateHall$Claim", name := "number", desc := "(LDebateHall$Token;III)I" } : Jvm.MethodName)) ∈ lw_all := lw_g (lw_at lw_m8 70 rfl) rfl
theorem q1831 : (Jvm.Cond.sameMethod "DebateHall$Claim" "DebateHall$Line" "number" "(LDebateHall$Token;III)I") ∈ lw_all := lw_g (lw_at lw_m8 71 rfl) rfl
theorem q1826 : (Jvm.Cond.methodLink "DebateHall$Claim" (43 : Nat) ({ cls := "DebateHall$Claim", name := "check", desc := "(IZLDebateHall$Token;)V" } : Jvm.MethodName)) ∈ lw_all := lw_g (lw_at lw_m8 66 rfl) rfl
theorem q1827 : (Jvm.Cond.sameMethod "DebateHall$Claim" "DebateHall$Line" "check" "(IZLDebateHall$Token;)V") ∈ lw_all := lw_g (lw_at lw_m8 67 rfl) rfl
theorem q1825 : (Jvm.Cond.methodLink "DebateHall$Claim" (37 : Nat) ({ cls := "java/util/HashMap", name := "containsKey", desc := "(Ljava/lang/Object;)Z" } : Jvm.MethodName)) ∈ lw_all := lw_g (lw_at lw_m8 65 rfl) rfl
theorem q1803 : (Jvm.Cond.methodLink "DebateHall$Claim" (21 : Nat) ({ cls := "DebateHall$Claim", name := "free", desc := "(LDebateHall$Minutes;LDebateHall$Token;)V" } : Jvm.MethodName)) ∈ lw_all := lw_g (lw_at lw_m8 43 rfl) rfl
theorem q1804 : (Jvm.Cond.sameMethod "DebateHall$Claim" "DebateHall$Line" "free" "(LDebateHall$Minutes;LDebateHall$Token;)V") ∈ lw_all := lw_g (lw_at lw_m8 44 rfl) rfl
theorem q1805 : (Jvm.Cond.static ({ cls := "DebateHall$Line", name := "free", desc := "(LDebateHall$Minutes;LDebateHall$Token;)V" } : Jvm.MethodName)) ∈ lw_all := lw_g (lw_at lw_m8 45 rfl) rfl
def wp_X12_carryOut (Z : zzG) (this : Option Nat) (p0 : Option Nat) (M : zzM) (bc bs : Nat) (K : Option Value → zzM → Prop) (X : Nat → Nat → zzM → Prop) : Prop := zgA Z M this [8] 1 fun x1 => zcx bc bs (fun c s k x => wp_X10_free Z p0 x1 M c s k x) (fun r2 M3 bc4 bs5 => zrV r2 (zgA Z M3 p0 [2] 2 fun x6 => zgA Z M3 this [8] 2 fun x7 => zgA Z M3 x7 [5] 1 fun x8 => zty Z M3 x6 fun t => t = 19 ∧ wp_J4_containsKey Z x6 x8 M3 (fun r9 M10 => zrI r9 fun x13 => zgA Z M10 this [8] 2 fun x14 => zcx bc4 bs5 (fun c s k x => wp_X10_check Z (3 : Int32) x13 x14 M10 c s k x) (fun r15 M16 bc17 bs18 => zrV r15 (zgA Z M16 this [8] 3 fun x19 => zgI Z M16 (some (zz_ad Z 8)) [30, 31, 32] 1 fun x20 => zcx bc17 bs18 (fun c s k x => wp_X10_number Z x19 (1 : Int32) (50 : Int32) x20 M16 c s k x) (fun r21 M22 bc23 bs24 => zrI r21 fun x25 => zgA Z M22 p0 [2] 2 fun x26 => zgA Z M22 this [8] 2 fun x27 => zgA Z M22 x27 [5] 1 fun x28 => zty Z M22 x26 fun t => t = 19 ∧ wp_J4_get Z x26 x28 M22 (fun r29 M30 => zrA r29 fun x33 => zcast Z M30 x33 [14] <| zgI Z M30 x33 [14] 0 fun x34 => zgI Z M30 (some (zz_ad Z 8)) [30, 31, 32] 2 fun x35 => zty Z M30 this fun t => t = 8 ∧ zcx bc23 bs24 (fun c s k x => wp_X10_spend Z this p0 x34 (x35 + x25) M30 c s k x) (fun r36 M37 bc38 bs39 => zrV r36 (znew Z M37 bc38 bs39 15 8 [.int 0, .null, .null, .int 0, .int 0, .null, .null, .int 0] fun q40 M41 bc42 bs43 => zgA Z M41 p0 [2] 1 fun x44 => zty Z M41 x44 fun t => t = 18 ∧ wp_J2_size Z x44 M41 (fun r45 M46 => zrI r45 fun x49 => zgA Z M46 this [8] 1 fun x50 => zgA Z M46 x50 [5] 1 fun x51 => wp_X20_init Z (some q40) x49 (some (zz_ad Z 8)) x51 x34 x25 none none M46 (fun r52 M53 => zrV r52 (zty Z M53 p0 fun t => t = 2 ∧ zcc bc42 bs43 (fun c s k => wp_X3_add_2 Z p0 (some q40) M53 c s k) fun r56 M57 bc58 bs59 => zrV r56 (K none M57)))))) (fun t q M _ _ => X t q M))) (fun t q M _ _ => X t q M))) (fun t q M _ _ => X t q M)))) (fun t q M _ _ => X t q M)
theorem ok_X12_carryOut {Z : zzG} {l : Launch} (hl : l.stackTraces = false) {this : Option Nat} {p0 : Option Nat} {M : zzM} {mc ms : Nat} {K : Option Value → zzM → Prop} {X : Nat → Nat → zzM → Prop} (hw : wp_X12_carryOut Z this p0 M mc ms K X) : zz_Met Z l yX12_carryOut (zz_ws yX12_carryOut cX12_carryOut 4 none none) 75 [va_rf this, va_rf p0] M mc ms K X := by
  refine zz_ofW hl (plainFor_of_name (by decide)) (by simp only [zz_sl0, zz_slI, zz_slJ, zz_slA] <;> decide) (fun G hZ hll C E hH hR hin => ?_)
  subst hZ
  subst hll
  rw [show lv_args 0 [va_rf this, va_rf p0] = [(0, va_rf this), (1, va_rf p0)] by simp only [zz_la0, zz_laI, zz_laJ, zz_laA]]
  unfold wp_X12_carryOut at hw
  refine zz_aload_n C dX12_carryOut_0 rfl 1 rfl ?_
  refine zz_aload_n C dX12_carryOut_1 rfl 0 rfl ?_
  refine zz_getA C dX12_carryOut_2 (Or.inl q980) zf_8_1_bateHall_Claim hw (fun x1 hw => ?_)
  obtain ⟨c9, s9, hc9, hs9, hw⟩ := hw
  refine zz_callSI (As := [va_rf p0, va_rf x1]) (rest := []) C hR dX12_carryOut_5 q1803 q1804 q1805 zl_DebateHall_Line zk_X10_free zy_X10_free (by decide) (by decide) (ok_X10_free (zz_hl C) hw) hc9 hs9 (zz_cat10 _ (Nat.le_of_ble_eq_true rfl)) (fun r2 M3 hw => zz_kV hw (fun hw => ?_)) (fun t9 q72 M73 hx => ?_) rfl
  · refine zz_iconst (v := (3 : Int32)) C dX12_carryOut_8 (by decide) ?_
    refine zz_aload_n C dX12_carryOut_9 rfl 1 rfl ?_
    refine zz_getA C dX12_carryOut_10 (Or.inr ⟨_, q242⟩) zf_2_2_teHall_Minutes hw (fun x6 hw => ?_)
    refine zz_aload_n C dX12_carryOut_13 rfl 0 rfl ?_
    refine zz_getA C dX12_carryOut_14 (Or.inl q981) zf_8_2_bateHall_Claim hw (fun x7 hw => ?_)
    refine zz_getA C dX12_carryOut_17 (Or.inr ⟨_, q371⟩) zf_5_1_bateHall_Token hw (fun x8 hw => ?_)
    obtain ⟨a9, t9, b9, fs9, hro, hL, rfl, hw⟩ := ztyS hw
    refine zz_callV (r := (zR_19, zT_19, 8)) (As := [va_rf x8]) (rest := [.int (3 : Int32)]) (mc := 0) (ms := 0) C hR hro dX12_carryOut_20 (Or.inl q1825) q1808 (Or.inl q1809) zl_java_util_HashMap zk_J4_containsKey (Or.inl rfl) zy_J4_containsKey rfl (by decide) (by decide) hL (ok_J4_containsKey (zz_hl C) hw) (Nat.zero_le _) (Nat.zero_le _) (zz_cat10 _ (Nat.le_of_ble_eq_true rfl)) (fun r9 M10 hw => zz_kI hw (fun x13 hw => ?_)) (fun _ _ _ h9 => h9.elim) rfl
    refine zz_aload_n C dX12_carryOut_23 rfl 0 rfl ?_
    refine zz_getA C dX12_carryOut_24 (Or.inl q981) zf_8_2_bateHall_Claim hw (fun x14 hw => ?_)
    obtain ⟨c9, s9, hc9, hs9, hw⟩ := hw
    refine zz_callSI (As := [.int (3 : Int32), .int x13, va_rf x14]) (rest := []) C hR dX12_carryOut_27 q1826 q1827 q1820 zl_DebateHall_Line zk_X10_check zy_X10_check (by decide) (by decide) (ok_X10_check (zz_hl C) hw) hc9 hs9 (zz_cat10 _ (Nat.le_of_ble_eq_true rfl)) (fun r15 M16 hw => zz_kV hw (fun hw => ?_)) (fun t9 q68 M69 hx => ?_) rfl
    · refine zz_aload_n C dX12_carryOut_30 rfl 0 rfl ?_
      refine zz_getA C dX12_carryOut_31 (Or.inl q982) zf_8_3_bateHall_Claim hw (fun x19 hw => ?_)
      refine zz_iconst (v := (1 : Int32)) C dX12_carryOut_34 (by decide) ?_
      refine zz_bipush (v := (50 : Int32)) C dX12_carryOut_35 (by decide) ?_
      refine zz_gets (j := 8) (v := va_rf (some (zz_ad (zz_Zof G) 8))) C dX12_carryOut_37 (Or.inl q1828) rfl (Or.inl rfl) rfl ?_
      refine zz_getI C dX12_carryOut_40 (Or.inr ⟨_, q2943⟩) zf_30_31_32_1_ebateHall_Kind hw (fun x20 hw => ?_)
      obtain ⟨c9, s9, hc9, hs9, hw⟩ := hw
      refine zz_callSI (As := [va_rf x19, .int (1 : Int32), .int (50 : Int32), .int x20]) (rest := []) C hR dX12_carryOut_43 q1830 q1831 q1832 zl_DebateHall_Line zk_X10_number zy_X10_number (by decide) (by decide) (ok_X10_number (zz_hl C) hw) hc9 hs9 (zz_cat10 _ (Nat.le_of_ble_eq_true rfl)) (fun r21 M22 hw => zz_kI hw (fun x25 hw => ?_)) (fun t9 q64 M65 hx => ?_) rfl
      · refine zz_istore_n (i := 2) (lv' := [(2, .int x25), (0, va_rf this), (1, va_rf p0)]) C dX12_carryOut_46 rfl (by decide) (by simp [zz_cat, zz_catI, zz_catJ, zz_catD]) ?_
        refine zz_aload_n C dX12_carryOut_47 rfl 2 rfl ?_
        refine zz_getA C dX12_carryOut_48 (Or.inr ⟨_, q242⟩) zf_2_2_teHall_Minutes hw (fun x26 hw => ?_)
        refine zz_aload_n C dX12_carryOut_51 rfl 1 rfl ?_
        refine zz_getA C dX12_carryOut_52 (Or.inl q981) zf_8_2_bateHall_Claim hw (fun x27 hw => ?_)
        refine zz_getA C dX12_carryOut_55 (Or.inr ⟨_, q371⟩) zf_5_1_bateHall_Token hw (fun x28 hw => ?_)
        obtain ⟨a9, t9, b9, fs9, hro, hL, rfl, hw⟩ := ztyS hw
        refine zz_callV (r := (zR_19, zT_19, 8)) (As := [va_rf x28]) (rest := []) (mc := 0) (ms := 0) C hR hro dX12_carryOut_58 (Or.inl q1850) q1851 (Or.inl q1852) zl_java_util_HashMap zk_J4_get (Or.inl rfl) zy_J4_get rfl (by decide) (by decide) hL (ok_J4_get (zz_hl C) hw) (Nat.zero_le _) (Nat.zero_le _) (zz_cat10 _ (Nat.le_of_ble_eq_true rfl)) (fun r29 M30 hw => zz_kA hw (fun x33 hw => ?_)) (fun _ _ _ h9 => h9.elim) rfl
        refine zz_cast C dX12_carryOut_61 q1854 zc_14_teHall_Speaker hw (fun hw => ?_)
        refine zz_getI C dX12_carryOut_64 (Or.inr ⟨_, q1198⟩) zf_14_0_teHall_Speaker hw (fun x34 hw => ?_)
        refine zz_istore_n (i := 3) (lv' := [(3, .int x34), (2, .int x25), (0, va_rf this), (1, va_rf p0)]) C dX12_carryOut_67 rfl (by decide) rfl ?_
        refine zz_aload_n C dX12_carryOut_68 rfl 2 rfl ?_
        refine zz_aload_n C dX12_carryOut_69 rfl 3 rfl ?_
        refine zz_iload_n C dX12_carryOut_70 rfl 0 rfl ?_
        refine zz_gets (j := 8) (v := va_rf (some (zz_ad (zz_Zof G) 8))) C dX12_carryOut_71 (Or.inl q1828) rfl (Or.inl rfl) rfl ?_
        refine zz_getI C dX12_carryOut_74 (Or.inr ⟨_, q2944⟩) zf_30_31_32_2_ebateHall_Kind hw (fun x35 hw => ?_)
        refine zz_iload_n C dX12_carryOut_77 rfl 1 rfl ?_
        refine zz_iadd C dX12_carryOut_78 ?_
        obtain ⟨a9, t9, b9, fs9, hro, hL, rfl, hw⟩ := ztyS hw
        obtain ⟨c9, s9, hc9, hs9, hw⟩ := hw
        refine zz_callU (r := (zR_8, zT_8, 4)) (x := ⟨"DebateHall$Claim", "spend", "(LDebateHall$Minutes;II)V"⟩) (owner := "DebateHall$Line") (As := [va_rf p0, .int x34, .int (x35 + x25)]) (rest := []) C hR hro dX12_carryOut_79 q1855 q1856 (Or.inl q1857) q1859 q1858 zl_DebateHall_Line zk_X10_spend zyo_DebateHall_Line_spend__LDebateHall_Minutes_II_V rfl (by decide) (by decide) hL (ok_X10_spend (zz_hl C) hw) hc9 hs9 (zz_cat10 _ (Nat.le_of_ble_eq_true rfl)) (fun r36 M37 hw => zz_kV hw (fun hw => ?_)) (fun t9 q60 M61 hx => ?_) rfl
        · refine zz_aload_n C dX12_carryOut_82 rfl 3 rfl ?_
          refine zz_new (r := (zR_15, zT_15, 8)) C dX12_carryOut_83 rfl (by decide) q1863 q1729 zl_DebateHall_Item rfl hw (fun q40 M41 bc42 bs43 hw => ?_)
          refine zz_dup C dX12_carryOut_86 (zz_cat _) ?_
          refine zz_aload_n C dX12_carryOut_87 rfl 3 rfl ?_
          refine zz_getA C dX12_carryOut_88 (Or.inr ⟨_, q236⟩) zf_2_1_teHall_Minutes hw (fun x44 hw => ?_)
          obtain ⟨a9, t9, b9, fs9, hro, hL, rfl, hw⟩ := ztyS hw
          refine zz_callV (r := (zR_18, zT_18, 3)) (As := []) (rest := [va_rf (some q40), va_rf (some q40), va_rf p0]) (mc := 0) (ms := 0) C hR hro dX12_carryOut_91 (Or.inl q1864) q354 (Or.inl q355) zl_java_util_ArrayList zk_J2_size (Or.inl rfl) zy_J2_size rfl (by decide) (by decide) hL (ok_J2_size (zz_hl C) hw) (Nat.zero_le _) (Nat.zero_le _) (zz_cat10 _ (Nat.le_of_ble_eq_true rfl)) (fun r45 M46 hw => zz_kI hw (fun x49 hw => ?_)) (fun _ _ _ h9 => h9.elim) rfl
          refine zz_gets (j := 8) (v := va_rf (some (zz_ad (zz_Zof G) 8))) C dX12_carryOut_94 (Or.inl q1828) rfl (Or.inl rfl) rfl ?_
          refine zz_aload_n C dX12_carryOut_97 rfl 2 rfl ?_
          refine zz_getA C dX12_carryOut_98 (Or.inl q980) zf_8_1_bateHall_Claim hw (fun x50 hw => ?_)
          refine zz_getA C dX12_carryOut_101 (Or.inr ⟨_, q371⟩) zf_5_1_bateHall_Token hw (fun x51 hw => ?_)
          refine zz_iload_n C dX12_carryOut_104 rfl 0 rfl ?_
          refine zz_iload_n C dX12_carryOut_105 rfl 1 rfl ?_
          refine zz_null C dX12_carryOut_106 ?_
          refine zz_null C dX12_carryOut_107 ?_
          refine zz_callI (As := [.int x49, va_rf (some (zz_ad (zz_Zof G) 8)), va_rf x51, .int x34, .int x25, va_rf none, va_rf none]) (rest := [va_rf (some q40), va_rf p0]) (mc := 0) (ms := 0) C hR rfl dX12_carryOut_108 (Or.inl q1865) q1731 zl_DebateHall_Item zk_X20_init rfl zy_X20_init (by decide) (by decide) (ok_X20_init (zz_hl C) hw) (Nat.zero_le _) (Nat.zero_le _) (zz_cat10 _ (Nat.le_of_ble_eq_true rfl)) (fun r52 M53 hw => zz_kV hw (fun hw => ?_)) (fun _ _ _ h9 => h9.elim) rfl
          obtain ⟨a9, t9, b9, fs9, hro, hL, rfl, hw⟩ := ztyS hw
          obtain ⟨c9, s9, hc9, hs9, hw⟩ := hw
          refine zz_callV (r := (zR_2, zT_2, 8)) (As := [va_rf (some q40)]) (rest := []) C hR hro dX12_carryOut_111 (Or.inl q1866) q1782 (Or.inl q1783) zl_DebateHall_Minutes zk_X3_add_2 (Or.inl rfl) zy_X3_add_2 rfl (by decide) (by decide) hL (ok_X3_add_2 (zz_hl C) hw) hc9 hs9 (zz_cat10 _ (Nat.le_of_ble_eq_true rfl)) (fun r56 M57 hw => zz_kV hw (fun hw => ?_)) (fun _ _ _ h9 => h9.elim) rfl
          exact zz_vret C E dX12_carryOut_114 hw
        · exact zz_out C E hH rfl hx
      · exact zz_out C E hH rfl hx
    · exact zz_out C E hH rfl hx
  · exact zz_out C E hH rfl hx
abbrev cX10_item : ByteArray := prog_11_method_4_code
def yX10_item : MethodName := ⟨"DebateHall$Line", "item", "(LDebateHall$Minutes;LDebateHall$Token;)LDebateHall$Item;"⟩
def dkwX10_item_1 : List UInt8 := [182, 0, 42, 192, 0, 46, 176]
abbrev dktX10_item_1 : List UInt8 := dkwX10_item_1 ++ []
def dkwX10_item_0 : List UInt8 := [6, 42, 180, 0, 20, 43, 180, 0, 26, 182, 0, 30, 43, 184, 0, 36, 42, 180, 0, 20, 43, 180, 0, 26]
abbrev dktX10_item_0 : List UInt8 := dkwX10_item_0 ++ dktX10_item_1
theorem dksX10_item_0 : cX10_item.data.toList.drop 0 = dktX10_item_0 := by decide +kernel
theorem dksX10_item_1 : cX10_item.data.toList.drop 24 = dktX10_item_1 := dk_seg dksX10_item_0 24 rfl rfl
theorem dX10_item_0 : decode cX10_item 0 = .ok (.iconst 3, 1) := dk_6 (dk_at dksX10_item_0 0 rfl rfl)
theorem dX10_item_1 : decode cX10_item 1 = .ok (.aload_n 0, 1) := dk_42 (dk_at dksX10_item_0 1 rfl rfl)
theorem dX10_item_2 : decode cX10_item 2 = .ok (.getfield 20, 3) := dk_180 0 20 (dk_at dksX10_item_0 2 rfl rfl)
theorem dX10_item_5 : decode cX10_item 5 = .ok (.aload_n 1, 1) := dk_43 (dk_at dksX10_item_0 5 rfl rfl)
theorem dX10_item_6 : decode cX10_item 6 = .ok (.getfield 26, 3) := dk_180 0 26 (dk_at dksX10_item_0 6 rfl rfl)
theorem dX10_item_9 : decode cX10_item 9 = .ok (.invokevirtual 30, 3) := dk_182 0 30 (dk_at dksX10_item_0 9 rfl rfl)
theorem dX10_item_12 : decode cX10_item 12 = .ok (.aload_n 1, 1) := dk_43 (dk_at dksX10_item_0 12 rfl rfl)
theorem dX10_item_13 : decode cX10_item 13 = .ok (.invokestatic 36, 3) := dk_184 0 36 (dk_at dksX10_item_0 13 rfl rfl)
theorem dX10_item_16 : decode cX10_item 16 = .ok (.aload_n 0, 1) := dk_42 (dk_at dksX10_item_0 16 rfl rfl)
theorem dX10_item_17 : decode cX10_item 17 = .ok (.getfield 20, 3) := dk_180 0 20 (dk_at dksX10_item_0 17 rfl rfl)
theorem dX10_item_20 : decode cX10_item 20 = .ok (.aload_n 1, 1) := dk_43 (dk_at dksX10_item_0 20 rfl rfl)
theorem dX10_item_21 : decode cX10_item 21 = .ok (.getfield 26, 3) := dk_180 0 26 (dk_at dksX10_item_0 21 rfl rfl)
theorem dX10_item_24 : decode cX10_item 24 = .ok (.invokevirtual 42, 3) := dk_182 0 42 (dk_at dksX10_item_1 0 rfl rfl)
theorem dX10_item_27 : decode cX10_item 27 = .ok (.checkcast 46, 3) := dk_192 0 46 (dk_at dksX10_item_1 3 rfl rfl)
theorem dX10_item_30 : decode cX10_item 30 = .ok (.areturn, 1) := dk_176 (dk_at dksX10_item_1 6 rfl rfl)
theorem q1889 : (Jvm.Cond.classLink "DebateHall$Line" (46 : Nat) "DebateHall$Item") ∈ lw_all := lw_g (lw_at lw_m8 129 rfl) rfl
theorem q1888 : (Jvm.Cond.methodLink "DebateHall$Line" (42 : Nat) ({ cls := "java/util/HashMap", name := "get", desc := "(Ljava/lang/Object;)Ljava/lang/Object;" } : Jvm.MethodName)) ∈ lw_all := lw_g (lw_at lw_m8 128 rfl) rfl
def wp_X10_item (Z : zzG) (p0 : Option Nat) (p1 : Option Nat) (M : zzM) (bc bs : Nat) (K : Option Value → zzM → Prop) (X : Nat → Nat → zzM → Prop) : Prop := zgA Z M p0 [2] 3 fun x1 => zgA Z M p1 [5] 1 fun x2 => zty Z M x1 fun t => t = 19 ∧ wp_J4_containsKey Z x1 x2 M (fun r3 M4 => zrI r3 fun x7 => zcx bc bs (fun c s k x => wp_X10_check Z (3 : Int32) x7 p1 M4 c s k x) (fun r8 M9 bc10 bs11 => zrV r8 (zgA Z M9 p0 [2] 3 fun x12 => zgA Z M9 p1 [5] 1 fun x13 => zty Z M9 x12 fun t => t = 19 ∧ wp_J4_get Z x12 x13 M9 (fun r14 M15 => zrA r14 fun x18 => zcast Z M15 x18 [15] <| K (some (va_rf x18)) M15))) (fun t q M _ _ => X t q M))
theorem ok_X10_item {Z : zzG} {l : Launch} (hl : l.stackTraces = false) {p0 : Option Nat} {p1 : Option Nat} {M : zzM} {mc ms : Nat} {K : Option Value → zzM → Prop} {X : Nat → Nat → zzM → Prop} (hw : wp_X10_item Z p0 p1 M mc ms K X) : zz_Met Z l yX10_item (zz_ws yX10_item cX10_item 2 (some (.object "DebateHall$Item")) none) 74 [va_rf p0, va_rf p1] M mc ms K X := by
  refine zz_ofW hl (plainFor_of_name (by decide)) (by simp only [zz_sl0, zz_slI, zz_slJ, zz_slA] <;> decide) (fun G hZ hll C E hH hR hin => ?_)
  subst hZ
  subst hll
  rw [show lv_args 0 [va_rf p0, va_rf p1] = [(0, va_rf p0), (1, va_rf p1)] by simp only [zz_la0, zz_laI, zz_laJ, zz_laA]]
  unfold wp_X10_item at hw
  refine zz_iconst (v := (3 : Int32)) C dX10_item_0 (by decide) ?_
  refine zz_aload_n C dX10_item_1 rfl 0 rfl ?_
  refine zz_getA C dX10_item_2 (Or.inr ⟨_, q245⟩) zf_2_3_teHall_Minutes hw (fun x1 hw => ?_)
  refine zz_aload_n C dX10_item_5 rfl 1 rfl ?_
  refine zz_getA C dX10_item_6 (Or.inr ⟨_, q374⟩) zf_5_1_bateHall_Token hw (fun x2 hw => ?_)
  obtain ⟨a9, t9, b9, fs9, hro, hL, rfl, hw⟩ := ztyS hw
  refine zz_callV (r := (zR_19, zT_19, 8)) (As := [va_rf x2]) (rest := [.int (3 : Int32)]) (mc := 0) (ms := 0) C hR hro dX10_item_9 (Or.inl q1807) q1808 (Or.inl q1809) zl_java_util_HashMap zk_J4_containsKey (Or.inl rfl) zy_J4_containsKey rfl (by decide) (by decide) hL (ok_J4_containsKey (zz_hl C) hw) (Nat.zero_le _) (Nat.zero_le _) (zz_cat10 _ (Nat.le_of_ble_eq_true rfl)) (fun r3 M4 hw => zz_kI hw (fun x7 hw => ?_)) (fun _ _ _ h9 => h9.elim) rfl
  refine zz_aload_n C dX10_item_12 rfl 1 rfl ?_
  obtain ⟨c9, s9, hc9, hs9, hw⟩ := hw
  refine zz_callS (As := [.int (3 : Int32), .int x7, va_rf p1]) (rest := []) C hR dX10_item_13 (Or.inl q1819) q1820 zl_DebateHall_Line zk_X10_check (Or.inl rfl) zy_X10_check (by decide) (by decide) (ok_X10_check (zz_hl C) hw) hc9 hs9 (zz_cat10 _ (Nat.le_of_ble_eq_true rfl)) (fun r8 M9 hw => zz_kV hw (fun hw => ?_)) (fun t9 q19 M20 hx => ?_) rfl
  · refine zz_aload_n C dX10_item_16 rfl 0 rfl ?_
    refine zz_getA C dX10_item_17 (Or.inr ⟨_, q245⟩) zf_2_3_teHall_Minutes hw (fun x12 hw => ?_)
    refine zz_aload_n C dX10_item_20 rfl 1 rfl ?_
    refine zz_getA C dX10_item_21 (Or.inr ⟨_, q374⟩) zf_5_1_bateHall_Token hw (fun x13 hw => ?_)
    obtain ⟨a9, t9, b9, fs9, hro, hL, rfl, hw⟩ := ztyS hw
    refine zz_callV (r := (zR_19, zT_19, 8)) (As := [va_rf x13]) (rest := []) (mc := 0) (ms := 0) C hR hro dX10_item_24 (Or.inl q1888) q1851 (Or.inl q1852) zl_java_util_HashMap zk_J4_get (Or.inl rfl) zy_J4_get rfl (by decide) (by decide) hL (ok_J4_get (zz_hl C) hw) (Nat.zero_le _) (Nat.zero_le _) (zz_cat10 _ (Nat.le_of_ble_eq_true rfl)) (fun r14 M15 hw => zz_kA hw (fun x18 hw => ?_)) (fun _ _ _ h9 => h9.elim) rfl
    refine zz_cast C dX10_item_27 q1889 zc_15_ebateHall_Item hw (fun hw => ?_)
    exact zz_aret C E (Or.inl ⟨_, rfl⟩) dX10_item_30 hw
  · exact zz_out C E hH rfl hx
abbrev cJ23_isPresent : ByteArray := prog_72_method_6_code
def yJ23_isPresent : MethodName := ⟨"java/util/Optional", "isPresent", "()Z"⟩
def dkwJ23_isPresent_0 : List UInt8 := [42, 180, 0, 13, 198, 0, 7, 4, 167, 0, 4, 3, 172]
abbrev dktJ23_isPresent_0 : List UInt8 := dkwJ23_isPresent_0 ++ []
theorem dksJ23_isPresent_0 : cJ23_isPresent.data.toList.drop 0 = dktJ23_isPresent_0 := by decide +kernel
theorem dJ23_isPresent_0 : decode cJ23_isPresent 0 = .ok (.aload_n 0, 1) := dk_42 (dk_at dksJ23_isPresent_0 0 rfl rfl)
theorem dJ23_isPresent_1 : decode cJ23_isPresent 1 = .ok (.getfield 13, 3) := dk_180 0 13 (dk_at dksJ23_isPresent_0 1 rfl rfl)
theorem dJ23_isPresent_4 : decode cJ23_isPresent 4 = .ok (.ifnull 7, 3) := dk_198 0 7 (dk_at dksJ23_isPresent_0 4 rfl rfl)
theorem dJ23_isPresent_7 : decode cJ23_isPresent 7 = .ok (.iconst 1, 1) := dk_4 (dk_at dksJ23_isPresent_0 7 rfl rfl)
theorem dJ23_isPresent_8 : decode cJ23_isPresent 8 = .ok (.goto 4, 3) := dk_167 0 4 (dk_at dksJ23_isPresent_0 8 rfl rfl)
theorem dJ23_isPresent_11 : decode cJ23_isPresent 11 = .ok (.iconst 0, 1) := dk_3 (dk_at dksJ23_isPresent_0 11 rfl rfl)
theorem dJ23_isPresent_12 : decode cJ23_isPresent 12 = .ok (.ireturn, 1) := dk_172 (dk_at dksJ23_isPresent_0 12 rfl rfl)
def wp_J23_isPresent_B12 (Z : zzG) (K : Option Value → zzM → Prop) (s0 : Int32) (M : zzM) : Prop := narrow .boolean (.int s0) = .int s0 ∧ K (some (.int s0)) M
def wp_J23_isPresent (Z : zzG) (this : Option Nat) (M : zzM) (K : Option Value → zzM → Prop) : Prop := zgA Z M this [22] 0 fun x1 => if x1 = none then (wp_J23_isPresent_B12 Z K (0 : Int32) M) else (wp_J23_isPresent_B12 Z K (1 : Int32) M)
theorem ok_J23_isPresent_B12 {G : zzX} (C : zz_C G cJ23_isPresent "java/util/Optional" 1) {K : Option Value → zzM → Prop} (E : zz_E G (some .boolean) K (fun _ _ _ => False)) (hH : zz_H G []) (hR : zz_Rm G 1) {s0 : Int32} {M : zzM} {bc bs : Nat} (hw : wp_J23_isPresent_B12 (zz_Zof G) K s0 M) : zz_T G 1 M bc bs 12 [] [.int s0] := by
  unfold wp_J23_isPresent_B12 at hw
  exact zz_zret C E dJ23_isPresent_12 hw
theorem ok_J23_isPresent {Z : zzG} {l : Launch} (hl : l.stackTraces = false) {this : Option Nat} {M : zzM} {mc ms : Nat} {K : Option Value → zzM → Prop} (hw : wp_J23_isPresent Z this M K) : zz_Met Z l yJ23_isPresent (zz_ws yJ23_isPresent cJ23_isPresent 1 (some .boolean) none) 1 [va_rf this] M mc ms K (fun _ _ _ => False) := by
  refine zz_ofW hl (plainFor_of_name (by decide)) (by simp only [zz_sl0, zz_slI, zz_slJ, zz_slA] <;> decide) (fun G hZ hll C E hH hR hin => ?_)
  subst hZ
  subst hll
  rw [show lv_args 0 [va_rf this] = [(0, va_rf this)] by simp only [zz_la0, zz_laI, zz_laJ, zz_laA]]
  unfold wp_J23_isPresent at hw
  refine zz_aload_n C dJ23_isPresent_0 rfl 0 rfl ?_
  refine zz_getA C dJ23_isPresent_1 (Or.inl q1082) zf_22_0__util_Optional hw (fun x1 hw => ?_)
  refine zz_ifnull (tgt := 11) C dJ23_isPresent_4 (by decide) hw (fun hw => ?_) (fun hw => ?_)
  · refine zz_iconst (v := (0 : Int32)) C dJ23_isPresent_11 (by decide) ?_
    refine zz_subP [] rfl ?_
    exact ok_J23_isPresent_B12 C E hH hR hw
  · refine zz_iconst (v := (1 : Int32)) C dJ23_isPresent_7 (by decide) ?_
    refine zz_goto (tgt := 12) C dJ23_isPresent_8 (by decide) ?_
    refine zz_subP [] rfl ?_
    exact ok_J23_isPresent_B12 C E hH hR hw
abbrev cJ23_get : ByteArray := prog_72_method_5_code
def yJ23_get : MethodName := ⟨"java/util/Optional", "get", "()Ljava/lang/Object;"⟩
def dkwJ23_get_0 : List UInt8 := [42, 180, 0, 13, 199, 0, 13, 187, 0, 26, 89, 18, 28, 183, 0, 30, 191, 42, 180, 0, 13, 176]
abbrev dktJ23_get_0 : List UInt8 := dkwJ23_get_0 ++ []
theorem dksJ23_get_0 : cJ23_get.data.toList.drop 0 = dktJ23_get_0 := by decide +kernel
theorem dJ23_get_0 : decode cJ23_get 0 = .ok (.aload_n 0, 1) := dk_42 (dk_at dksJ23_get_0 0 rfl rfl)
theorem dJ23_get_1 : decode cJ23_get 1 = .ok (.getfield 13, 3) := dk_180 0 13 (dk_at dksJ23_get_0 1 rfl rfl)
theorem dJ23_get_4 : decode cJ23_get 4 = .ok (.ifnonnull 13, 3) := dk_199 0 13 (dk_at dksJ23_get_0 4 rfl rfl)
theorem dJ23_get_7 : decode cJ23_get 7 = .ok (.new 26, 3) := dk_187 0 26 (dk_at dksJ23_get_0 7 rfl rfl)
theorem dJ23_get_17 : decode cJ23_get 17 = .ok (.aload_n 0, 1) := dk_42 (dk_at dksJ23_get_0 17 rfl rfl)
theorem dJ23_get_18 : decode cJ23_get 18 = .ok (.getfield 13, 3) := dk_180 0 13 (dk_at dksJ23_get_0 18 rfl rfl)
theorem dJ23_get_21 : decode cJ23_get 21 = .ok (.areturn, 1) := dk_176 (dk_at dksJ23_get_0 21 rfl rfl)
def wp_J23_get (Z : zzG) (this : Option Nat) (M : zzM) (K : Option Value → zzM → Prop) : Prop := zgA Z M this [22] 0 fun x1 => if x1 = none then (False) else (zgA Z M this [22] 0 fun x2 => K (some (va_rf x2)) M)
theorem ok_J23_get {Z : zzG} {l : Launch} (hl : l.stackTraces = false) {this : Option Nat} {M : zzM} {mc ms : Nat} {K : Option Value → zzM → Prop} (hw : wp_J23_get Z this M K) : zz_Met Z l yJ23_get (zz_ws yJ23_get cJ23_get 1 (some (.object "java/lang/Object")) none) 1 [va_rf this] M mc ms K (fun _ _ _ => False) := by
  refine zz_ofW hl (plainFor_of_name (by decide)) (by simp only [zz_sl0, zz_slI, zz_slJ, zz_slA] <;> decide) (fun G hZ hll C E hH hR hin => ?_)
  subst hZ
  subst hll
  rw [show lv_args 0 [va_rf this] = [(0, va_rf this)] by simp only [zz_la0, zz_laI, zz_laJ, zz_laA]]
  unfold wp_J23_get at hw
  refine zz_aload_n C dJ23_get_0 rfl 0 rfl ?_
  refine zz_getA C dJ23_get_1 (Or.inl q1082) zf_22_0__util_Optional hw (fun x1 hw => ?_)
  refine zz_ifnonnull (tgt := 17) C dJ23_get_4 (by decide) hw (fun hw => ?_) (fun hw => ?_)
  · refine zz_aload_n C dJ23_get_17 rfl 0 rfl ?_
    refine zz_getA C dJ23_get_18 (Or.inl q1082) zf_22_0__util_Optional hw (fun x2 hw => ?_)
    exact zz_aret C E (Or.inl ⟨_, rfl⟩) dJ23_get_21 hw
  · exact hw.elim
abbrev cX16_look : ByteArray := prog_2_method_2_code
def yX16_look : MethodName := ⟨"DebateHall$Asked", "look", "(LDebateHall$Minutes;)V"⟩
def dkwX16_look_0 : List UInt8 := [43, 42, 180, 0, 13, 184, 0, 17, 87, 177]
abbrev dktX16_look_0 : List UInt8 := dkwX16_look_0 ++ []
theorem dksX16_look_0 : cX16_look.data.toList.drop 0 = dktX16_look_0 := by decide +kernel
theorem dX16_look_0 : decode cX16_look 0 = .ok (.aload_n 1, 1) := dk_43 (dk_at dksX16_look_0 0 rfl rfl)
theorem dX16_look_1 : decode cX16_look 1 = .ok (.aload_n 0, 1) := dk_42 (dk_at dksX16_look_0 1 rfl rfl)
theorem dX16_look_2 : decode cX16_look 2 = .ok (.getfield 13, 3) := dk_180 0 13 (dk_at dksX16_look_0 2 rfl rfl)
theorem dX16_look_5 : decode cX16_look 5 = .ok (.invokestatic 17, 3) := dk_184 0 17 (dk_at dksX16_look_0 5 rfl rfl)
theorem dX16_look_8 : decode cX16_look 8 = .ok (.pop, 1) := dk_87 (dk_at dksX16_look_0 8 rfl rfl)
theorem dX16_look_9 : decode cX16_look 9 = .ok (.return_, 1) := dk_177 (dk_at dksX16_look_0 9 rfl rfl)
theorem q1887 : (Jvm.Cond.code ({ cls := "DebateHall$Line", name := "item", desc := "(LDebateHall$Minutes;LDebateHall$Token;)LDebateHall$Item;" } : Jvm.MethodName) prog_11_method_4_code (2 : Nat) (Option.some (Jvm.ClassFile.FieldType.object "DebateHall$Item"))) ∈ lw_all := lw_g (lw_at lw_m8 127 rfl) rfl
theorem zk_X10_item : zz_cd yX10_item cX10_item 2 (some (.object "DebateHall$Item")) none ∈ lw_all := q1887
theorem zy_X10_item : zz_yok yX10_item 2 = true := by decide +kernel
theorem q1911 : (Jvm.Cond.methodLink "DebateHall$Asked" (17 : Nat) ({ cls := "DebateHall$Line", name := "item", desc := "(LDebateHall$Minutes;LDebateHall$Token;)LDebateHall$Item;" } : Jvm.MethodName)) ∈ lw_all := lw_g (lw_at lw_m8 151 rfl) rfl
theorem q1886 : (Jvm.Cond.static ({ cls := "DebateHall$Line", name := "item", desc := "(LDebateHall$Minutes;LDebateHall$Token;)LDebateHall$Item;" } : Jvm.MethodName)) ∈ lw_all := lw_g (lw_at lw_m8 126 rfl) rfl
def wp_X16_look (Z : zzG) (this : Option Nat) (p0 : Option Nat) (M : zzM) (bc bs : Nat) (K : Option Value → zzM → Prop) (X : Nat → Nat → zzM → Prop) : Prop := zgA Z M this [11] 1 fun x1 => zcx bc bs (fun c s k x => wp_X10_item Z p0 x1 M c s k x) (fun r2 M3 bc4 bs5 => zrA r2 fun x6 => K none M3) (fun t q M _ _ => X t q M)
theorem ok_X16_look {Z : zzG} {l : Launch} (hl : l.stackTraces = false) {this : Option Nat} {p0 : Option Nat} {M : zzM} {mc ms : Nat} {K : Option Value → zzM → Prop} {X : Nat → Nat → zzM → Prop} (hw : wp_X16_look Z this p0 M mc ms K X) : zz_Met Z l yX16_look (zz_ws yX16_look cX16_look 2 none none) 75 [va_rf this, va_rf p0] M mc ms K X := by
  refine zz_ofW hl (plainFor_of_name (by decide)) (by simp only [zz_sl0, zz_slI, zz_slJ, zz_slA] <;> decide) (fun G hZ hll C E hH hR hin => ?_)
  subst hZ
  subst hll
  rw [show lv_args 0 [va_rf this, va_rf p0] = [(0, va_rf this), (1, va_rf p0)] by simp only [zz_la0, zz_laI, zz_laJ, zz_laA]]
  unfold wp_X16_look at hw
  refine zz_aload_n C dX16_look_0 rfl 1 rfl ?_
  refine zz_aload_n C dX16_look_1 rfl 0 rfl ?_
  refine zz_getA C dX16_look_2 (Or.inl q1061) zf_11_1_bateHall_Asked hw (fun x1 hw => ?_)
  obtain ⟨c9, s9, hc9, hs9, hw⟩ := hw
  refine zz_callS (As := [va_rf p0, va_rf x1]) (rest := []) C hR dX16_look_5 (Or.inl q1911) q1886 zl_DebateHall_Line zk_X10_item (Or.inl rfl) zy_X10_item (by decide) (by decide) (ok_X10_item (zz_hl C) hw) hc9 hs9 (zz_cat10 _ (Nat.le_of_ble_eq_true rfl)) (fun r2 M3 hw => zz_kA hw (fun x6 hw => ?_)) (fun t9 q7 M8 hx => ?_) rfl
  · refine zz_pop C dX16_look_8 (zz_cat _) ?_
    exact zz_vret C E dX16_look_9 hw
  · exact zz_out C E hH rfl hx
abbrev cX15_look : ByteArray := prog_4_method_2_code
def yX15_look : MethodName := ⟨"DebateHall$Denied", "look", "(LDebateHall$Minutes;)V"⟩
def dkwX15_look_0 : List UInt8 := [42, 180, 0, 7, 43, 182, 0, 13, 177]
abbrev dktX15_look_0 : List UInt8 := dkwX15_look_0 ++ []
theorem dksX15_look_0 : cX15_look.data.toList.drop 0 = dktX15_look_0 := by decide +kernel
theorem dX15_look_0 : decode cX15_look 0 = .ok (.aload_n 0, 1) := dk_42 (dk_at dksX15_look_0 0 rfl rfl)
theorem dX15_look_1 : decode cX15_look 1 = .ok (.getfield 7, 3) := dk_180 0 7 (dk_at dksX15_look_0 1 rfl rfl)
theorem dX15_look_4 : decode cX15_look 4 = .ok (.aload_n 1, 1) := dk_43 (dk_at dksX15_look_0 4 rfl rfl)
theorem dX15_look_5 : decode cX15_look 5 = .ok (.invokevirtual 13, 3) := dk_182 0 13 (dk_at dksX15_look_0 5 rfl rfl)
theorem dX15_look_8 : decode cX15_look 8 = .ok (.return_, 1) := dk_177 (dk_at dksX15_look_0 8 rfl rfl)
abbrev cX14_look : ByteArray := prog_16_method_2_code
def yX14_look : MethodName := ⟨"DebateHall$Several", "look", "(LDebateHall$Minutes;)V"⟩
def dkwX14_look_1 : List UInt8 := [192, 0, 2, 78, 45, 43, 182, 0, 34, 167, 255, 232, 177]
abbrev dktX14_look_1 : List UInt8 := dkwX14_look_1 ++ []
def dkwX14_look_0 : List UInt8 := [42, 180, 0, 10, 182, 0, 20, 77, 44, 185, 0, 24, 1, 0, 153, 0, 21, 44, 185, 0, 30, 1, 0]
abbrev dktX14_look_0 : List UInt8 := dkwX14_look_0 ++ dktX14_look_1
theorem dksX14_look_0 : cX14_look.data.toList.drop 0 = dktX14_look_0 := by decide +kernel
theorem dksX14_look_1 : cX14_look.data.toList.drop 23 = dktX14_look_1 := dk_seg dksX14_look_0 23 rfl rfl
theorem dX14_look_0 : decode cX14_look 0 = .ok (.aload_n 0, 1) := dk_42 (dk_at dksX14_look_0 0 rfl rfl)
theorem dX14_look_1 : decode cX14_look 1 = .ok (.getfield 10, 3) := dk_180 0 10 (dk_at dksX14_look_0 1 rfl rfl)
theorem dX14_look_4 : decode cX14_look 4 = .ok (.invokevirtual 20, 3) := dk_182 0 20 (dk_at dksX14_look_0 4 rfl rfl)
theorem dX14_look_7 : decode cX14_look 7 = .ok (.astore_n 2, 1) := dk_77 (dk_at dksX14_look_0 7 rfl rfl)
theorem dX14_look_8 : decode cX14_look 8 = .ok (.aload_n 2, 1) := dk_44 (dk_at dksX14_look_0 8 rfl rfl)
theorem dX14_look_9 : decode cX14_look 9 = .ok (.invokeinterface 24 1, 5) := by decide +kernel
theorem dX14_look_14 : decode cX14_look 14 = .ok (.ifCond .eq 21, 3) := dk_153 0 21 (dk_at dksX14_look_0 14 rfl rfl)
theorem dX14_look_17 : decode cX14_look 17 = .ok (.aload_n 2, 1) := dk_44 (dk_at dksX14_look_0 17 rfl rfl)
theorem dX14_look_18 : decode cX14_look 18 = .ok (.invokeinterface 30 1, 5) := by decide +kernel
theorem dX14_look_23 : decode cX14_look 23 = .ok (.checkcast 2, 3) := dk_192 0 2 (dk_at dksX14_look_1 0 rfl rfl)
theorem dX14_look_26 : decode cX14_look 26 = .ok (.astore_n 3, 1) := dk_78 (dk_at dksX14_look_1 3 rfl rfl)
theorem dX14_look_27 : decode cX14_look 27 = .ok (.aload_n 3, 1) := dk_45 (dk_at dksX14_look_1 4 rfl rfl)
theorem dX14_look_28 : decode cX14_look 28 = .ok (.aload_n 1, 1) := dk_43 (dk_at dksX14_look_1 5 rfl rfl)
theorem dX14_look_29 : decode cX14_look 29 = .ok (.invokevirtual 34, 3) := dk_182 0 34 (dk_at dksX14_look_1 6 rfl rfl)
theorem dX14_look_32 : decode cX14_look 32 = .ok (.goto (-24), 3) := dk_167 255 232 (dk_at dksX14_look_1 9 rfl rfl)
theorem dX14_look_35 : decode cX14_look 35 = .ok (.return_, 1) := dk_177 (dk_at dksX14_look_1 12 rfl rfl)
theorem q1917 : (Jvm.Cond.code ({ cls := "DebateHall$Several", name := "look", desc := "(LDebateHall$Minutes;)V" } : Jvm.MethodName) prog_16_method_2_code (4 : Nat) (Option.none : Option Jvm.ClassFile.FieldType)) ∈ lw_all := lw_g (lw_at lw_m8 157 rfl) rfl
theorem zk_X14_look : zz_cd yX14_look cX14_look 4 none none ∈ lw_all := q1917
theorem zy_X14_look : zz_yok yX14_look 1 = true := by decide +kernel
theorem q1915 : (Jvm.Cond.methodLink "DebateHall$Denied" (13 : Nat) ({ cls := "DebateHall$Test", name := "look", desc := "(LDebateHall$Minutes;)V" } : Jvm.MethodName)) ∈ lw_all := lw_g (lw_at lw_m8 155 rfl) rfl
theorem q1906 : (Jvm.Cond.declares ({ cls := "DebateHall$Test", name := "look", desc := "(LDebateHall$Minutes;)V" } : Jvm.MethodName)) ∈ lw_tbl := lw_at lw_m8 146 rfl
theorem q1907 : (Jvm.Cond.sameMethod "DebateHall$Test" "DebateHall$Test" "look" "(LDebateHall$Minutes;)V") ∈ lw_all := lw_g (lw_at lw_m8 147 rfl) rfl
theorem q1916 : (Jvm.Cond.instanceMethod ({ cls := "DebateHall$Several", name := "look", desc := "(LDebateHall$Minutes;)V" } : Jvm.MethodName)) ∈ lw_all := lw_g (lw_at lw_m8 156 rfl) rfl
theorem q1925 : (Jvm.Cond.selects "DebateHall$Several" ({ cls := "DebateHall$Test", name := "look", desc := "(LDebateHall$Minutes;)V" } : Jvm.MethodName) ({ cls := "DebateHall$Several", name := "look", desc := "(LDebateHall$Minutes;)V" } : Jvm.MethodName)) ∈ lw_all := lw_g (lw_at lw_m8 165 rfl) rfl
theorem zyo_DebateHall_Test_look__LDebateHall_Minutes__V : zz_yok ⟨"DebateHall$Test", "look", "(LDebateHall$Minutes;)V"⟩ 1 = true := by decide +kernel
theorem q1914 : (Jvm.Cond.code ({ cls := "DebateHall$Denied", name := "look", desc := "(LDebateHall$Minutes;)V" } : Jvm.MethodName) prog_4_method_2_code (2 : Nat) (Option.none : Option Jvm.ClassFile.FieldType)) ∈ lw_all := lw_g (lw_at lw_m8 154 rfl) rfl
theorem zk_X15_look : zz_cd yX15_look cX15_look 2 none none ∈ lw_all := q1914
theorem zy_X15_look : zz_yok yX15_look 1 = true := by decide +kernel
theorem q1913 : (Jvm.Cond.instanceMethod ({ cls := "DebateHall$Denied", name := "look", desc := "(LDebateHall$Minutes;)V" } : Jvm.MethodName)) ∈ lw_all := lw_g (lw_at lw_m8 153 rfl) rfl
theorem q1912 : (Jvm.Cond.selects "DebateHall$Denied" ({ cls := "DebateHall$Test", name := "look", desc := "(LDebateHall$Minutes;)V" } : Jvm.MethodName) ({ cls := "DebateHall$Denied", name := "look", desc := "(LDebateHall$Minutes;)V" } : Jvm.MethodName)) ∈ lw_all := lw_g (lw_at lw_m8 152 rfl) rfl
theorem q1910 : (Jvm.Cond.code ({ cls := "DebateHall$Asked", name := "look", desc := "(LDebateHall$Minutes;)V" } : Jvm.MethodName) prog_2_method_2_code (2 : Nat) (Option.none : Option Jvm.ClassFile.FieldType)) ∈ lw_all := lw_g (lw_at lw_m8 150 rfl) rfl
theorem zk_X16_look : zz_cd yX16_look cX16_look 2 none none ∈ lw_all := q1910
theorem zy_X16_look : zz_yok yX16_look 1 = true := by decide +kernel
theorem q1909 : (Jvm.Cond.instanceMethod ({ cls := "DebateHall$Asked", name := "look", desc := "(LDebateHall$Minutes;)V" } : Jvm.MethodName)) ∈ lw_all := lw_g (lw_at lw_m8 149 rfl) rfl
theorem q1908 : (Jvm.Cond.selects "DebateHall$Asked" ({ cls := "DebateHall$Test", name := "look", desc := "(LDebateHall$Minutes;)V" } : Jvm.MethodName) ({ cls := "DebateHall$Asked", name := "look", desc := "(LDebateHall$Minutes;)V" } : Jvm.MethodName)) ∈ lw_all := lw_g (lw_at lw_m8 148 rfl) rfl
theorem q1918 : (Jvm.Cond.methodLink "DebateHall$Several" (20 : Nat) ({ cls := "java/util/ArrayList", name := "iterator", desc := "()Ljava/util/Iterator;" } : Jvm.MethodName)) ∈ lw_all := lw_g (lw_at lw_m8 158 rfl) rfl
theorem q1923 : (Jvm.Cond.classLink "DebateHall$Several" (2 : Nat) "DebateHall$Test") ∈ lw_all := lw_g (lw_at lw_m8 163 rfl) rfl
theorem q2889 : (Jvm.Cond.castable "DebateHall$Several" "DebateHall$Test") ∈ lw_tbl := lw_at lw_m12 169 rfl
theorem q2888 : (Jvm.Cond.castable "DebateHall$Denied" "DebateHall$Test") ∈ lw_tbl := lw_at lw_m12 168 rfl
theorem q2887 : (Jvm.Cond.castable "DebateHall$Asked" "DebateHall$Test") ∈ lw_tbl := lw_at lw_m12 167 rfl
theorem zc_9_10_11_ebateHall_Test : zz_cok [9, 10, 11] "DebateHall$Test" := by
  intro t ht
  simp only [List.mem_cons, List.not_mem_nil, or_false] at ht
  rcases ht with rfl | rfl | rfl
  · exact ⟨(zR_9, zT_9, 2), rfl, Or.inr q2889⟩
  · exact ⟨(zR_10, zT_10, 1), rfl, Or.inr q2888⟩
  · exact ⟨(zR_11, zT_11, 2), rfl, Or.inr q2887⟩
theorem q1924 : (Jvm.Cond.methodLink "DebateHall$Several" (34 : Nat) ({ cls := "DebateHall$Test", name := "look", desc := "(LDebateHall$Minutes;)V" } : Jvm.MethodName)) ∈ lw_all := lw_g (lw_at lw_m8 164 rfl) rfl
theorem q1922 : (Jvm.Cond.methodLink "DebateHall$Several" (30 : Nat) ({ cls := "java/util/Iterator", name := "next", desc := "()Ljava/lang/Object;" } : Jvm.MethodName)) ∈ lw_all := lw_g (lw_at lw_m8 162 rfl) rfl
theorem q1920 : (Jvm.Cond.methodLink "DebateHall$Several" (24 : Nat) ({ cls := "java/util/Iterator", name := "hasNext", desc := "()Z" } : Jvm.MethodName)) ∈ lw_all := lw_g (lw_at lw_m8 160 rfl) rfl
def wp_X15_look_B8 (Z : zzG) (r_X15_look : Option Nat → Option Nat → zzM → Nat → Nat → (Option Value → zzM → Prop) → (Nat → Nat → zzM → Prop) → Prop) (r_X14_look : Option Nat → Option Nat → zzM → Nat → Nat → (Option Value → zzM → Prop) → (Nat → Nat → zzM → Prop) → Prop) (K : Option Value → zzM → Prop) (X : Nat → Nat → zzM → Prop) (M : zzM) (bc bs : Nat) : Prop := K none M
def wpb_X15_look (Z : zzG) (r_X15_look : Option Nat → Option Nat → zzM → Nat → Nat → (Option Value → zzM → Prop) → (Nat → Nat → zzM → Prop) → Prop) (r_X14_look : Option Nat → Option Nat → zzM → Nat → Nat → (Option Value → zzM → Prop) → (Nat → Nat → zzM → Prop) → Prop) (this : Option Nat) (p0 : Option Nat) (M : zzM) (bc bs : Nat) (K : Option Value → zzM → Prop) (X : Nat → Nat → zzM → Prop) : Prop := zgA Z M this [10] 0 fun x1 => zty Z M x1 fun t => if t = 9 then (zcx bc bs (fun c s k x => r_X14_look x1 p0 M c s k x) (fun r2 M3 bc4 bs5 => zrV r2 (wp_X15_look_B8 Z r_X15_look r_X14_look K X M3 bc4 bs5)) (fun t q M _ _ => X t q M)) else if t = 10 then (zcx bc bs (fun c s k x => r_X15_look x1 p0 M c s k x) (fun r10 M11 bc12 bs13 => zrV r10 (wp_X15_look_B8 Z r_X15_look r_X14_look K X M11 bc12 bs13)) (fun t q M _ _ => X t q M)) else if t = 11 then (zcx bc bs (fun c s k x => wp_X16_look Z x1 p0 M c s k x) (fun r18 M19 bc20 bs21 => zrV r18 (wp_X15_look_B8 Z r_X15_look r_X14_look K X M19 bc20 bs21)) (fun t q M _ _ => X t q M)) else False
def wp_X14_look_B32 (Z : zzG) (r_X15_look : Option Nat → Option Nat → zzM → Nat → Nat → (Option Value → zzM → Prop) → (Nat → Nat → zzM → Prop) → Prop) (r_X14_look : Option Nat → Option Nat → zzM → Nat → Nat → (Option Value → zzM → Prop) → (Nat → Nat → zzM → Prop) → Prop) (k8 : Option Nat → Option Nat → zzM → Nat → Nat → Prop) (K : Option Value → zzM → Prop) (X : Nat → Nat → zzM → Prop) (v1 : Option Nat) (v2 : Option Nat) (M : zzM) (bc bs : Nat) : Prop := k8 v1 v2 M bc bs
def wp_X14_look_L8 (Z : zzG) (r_X15_look : Option Nat → Option Nat → zzM → Nat → Nat → (Option Value → zzM → Prop) → (Nat → Nat → zzM → Prop) → Prop) (r_X14_look : Option Nat → Option Nat → zzM → Nat → Nat → (Option Value → zzM → Prop) → (Nat → Nat → zzM → Prop) → Prop) (K : Option Value → zzM → Prop) (X : Nat → Nat → zzM → Prop) : Nat → Option Nat → Option Nat → zzM → Nat → Nat → Prop
  | 0, _, _, _, _, _ => False
  | n + 1, v1, v2, M, bc, bs => zty Z M v2 fun t => t = 23 ∧ wp_J24_hasNext Z v2 M (fun r7 M8 => zrI r7 fun x11 => if x11 = 0 then (K none M8) else (zty Z M8 v2 fun t => t = 23 ∧ wp_J24_next Z v2 M8 (fun r12 M13 => zrA r12 fun x16 => zcast Z M13 x16 [9, 10, 11] <| zty Z M13 x16 fun t => if t = 9 then (zcx bc bs (fun c s k x => r_X14_look x16 v1 M13 c s k x) (fun r17 M18 bc19 bs20 => zrV r17 (wp_X14_look_B32 Z r_X15_look r_X14_look (wp_X14_look_L8 Z r_X15_look r_X14_look K X n) K X v1 v2 M18 bc19 bs20)) (fun t q M _ _ => X t q M)) else if t = 10 then (zcx bc bs (fun c s k x => r_X15_look x16 v1 M13 c s k x) (fun r25 M26 bc27 bs28 => zrV r25 (wp_X14_look_B32 Z r_X15_look r_X14_look (wp_X14_look_L8 Z r_X15_look r_X14_look K X n) K X v1 v2 M26 bc27 bs28)) (fun t q M _ _ => X t q M)) else if t = 11 then (zcx bc bs (fun c s k x => wp_X16_look Z x16 v1 M13 c s k x) (fun r33 M34 bc35 bs36 => zrV r33 (wp_X14_look_B32 Z r_X15_look r_X14_look (wp_X14_look_L8 Z r_X15_look r_X14_look K X n) K X v1 v2 M34 bc35 bs36)) (fun t q M _ _ => X t q M)) else False)))
def wpb_X14_look (Z : zzG) (r_X15_look : Option Nat → Option Nat → zzM → Nat → Nat → (Option Value → zzM → Prop) → (Nat → Nat → zzM → Prop) → Prop) (r_X14_look : Option Nat → Option Nat → zzM → Nat → Nat → (Option Value → zzM → Prop) → (Nat → Nat → zzM → Prop) → Prop) (this : Option Nat) (p0 : Option Nat) (M : zzM) (bc bs : Nat) (K : Option Value → zzM → Prop) (X : Nat → Nat → zzM → Prop) : Prop := zgA Z M this [9] 1 fun x1 => zty Z M x1 fun t => t = 18 ∧ zcc bc bs (fun c s k => wp_J2_iterator Z x1 M c s k) fun r2 M3 bc4 bs5 => zrA r2 fun x6 => ∃ n8 : Nat, wp_X14_look_L8 Z r_X15_look r_X14_look K X n8 p0 x6 M3 bc4 bs5
theorem ok_X15_look_B8 {G : zzX} (C : zz_C G cX15_look "DebateHall$Denied" 2) {K : Option Value → zzM → Prop} {X : Nat → Nat → zzM → Prop} (E : zz_E G none K X) (hH : zz_H G []) {fr frr : Nat} (hR : zz_Rm G fr) (hF : 76 ≤ fr) (hfrr : frr + 1 ≤ fr) {r_X15_look : Option Nat → Option Nat → zzM → Nat → Nat → (Option Value → zzM → Prop) → (Nat → Nat → zzM → Prop) → Prop} (h_X15_look : ∀ {u0 : Option Nat}{u1 : Option Nat}{M : zzM} {mc ms : Nat} {K : Option Value → zzM → Prop} {X : Nat → Nat → zzM → Prop}, r_X15_look u0 u1 M mc ms K X → zz_Met (zz_Zof G) (zz_l G) yX15_look (zz_ws yX15_look cX15_look 2 none none) frr [va_rf u0, va_rf u1] M mc ms K X) {r_X14_look : Option Nat → Option Nat → zzM → Nat → Nat → (Option Value → zzM → Prop) → (Nat → Nat → zzM → Prop) → Prop} (h_X14_look : ∀ {u0 : Option Nat}{u1 : Option Nat}{M : zzM} {mc ms : Nat} {K : Option Value → zzM → Prop} {X : Nat → Nat → zzM → Prop}, r_X14_look u0 u1 M mc ms K X → zz_Met (zz_Zof G) (zz_l G) yX14_look (zz_ws yX14_look cX14_look 4 none none) frr [va_rf u0, va_rf u1] M mc ms K X) {M : zzM} {bc bs : Nat} (hw : wp_X15_look_B8 (zz_Zof G) r_X15_look r_X14_look K X M bc bs) : zz_T G 2 M bc bs 8 [] [] := by
  unfold wp_X15_look_B8 at hw
  exact zz_vret C E dX15_look_8 hw
theorem okb_X15_look {Z : zzG} {l : Launch} (hl : l.stackTraces = false) {fr frr : Nat} (hF : 76 ≤ fr) (hfrr : frr + 1 ≤ fr) {r_X15_look : Option Nat → Option Nat → zzM → Nat → Nat → (Option Value → zzM → Prop) → (Nat → Nat → zzM → Prop) → Prop} (h_X15_look : ∀ {u0 : Option Nat}{u1 : Option Nat}{M : zzM} {mc ms : Nat} {K : Option Value → zzM → Prop} {X : Nat → Nat → zzM → Prop}, r_X15_look u0 u1 M mc ms K X → zz_Met Z l yX15_look (zz_ws yX15_look cX15_look 2 none none) frr [va_rf u0, va_rf u1] M mc ms K X) {r_X14_look : Option Nat → Option Nat → zzM → Nat → Nat → (Option Value → zzM → Prop) → (Nat → Nat → zzM → Prop) → Prop} (h_X14_look : ∀ {u0 : Option Nat}{u1 : Option Nat}{M : zzM} {mc ms : Nat} {K : Option Value → zzM → Prop} {X : Nat → Nat → zzM → Prop}, r_X14_look u0 u1 M mc ms K X → zz_Met Z l yX14_look (zz_ws yX14_look cX14_look 4 none none) frr [va_rf u0, va_rf u1] M mc ms K X) {this : Option Nat} {p0 : Option Nat} {M : zzM} {mc ms : Nat} {K : Option Value → zzM → Prop} {X : Nat → Nat → zzM → Prop} (hw : wpb_X15_look Z r_X15_look r_X14_look this p0 M mc ms K X) : zz_Met Z l yX15_look (zz_ws yX15_look cX15_look 2 none none) fr [va_rf this, va_rf p0] M mc ms K X := by
  refine zz_ofW hl (plainFor_of_name (by decide)) (by simp only [zz_sl0, zz_slI, zz_slJ, zz_slA] <;> decide) (fun G hZ hll C E hH hR hin => ?_)
  subst hZ
  subst hll
  rw [show lv_args 0 [va_rf this, va_rf p0] = [(0, va_rf this), (1, va_rf p0)] by simp only [zz_la0, zz_laI, zz_laJ, zz_laA]]
  unfold wpb_X15_look at hw
  refine zz_aload_n C dX15_look_0 rfl 0 rfl ?_
  refine zz_getA C dX15_look_1 (Or.inl q1044) zf_10_0_ateHall_Denied hw (fun x1 hw => ?_)
  refine zz_aload_n C dX15_look_4 rfl 1 rfl ?_
  obtain ⟨a9, t9, b9, fs9, hro, hL, hw⟩ := ztyS hw
  by_cases e9 : t9 = 9
  · replace hw := zz_ifp e9 hw
    subst e9
    obtain ⟨c9, s9, hc9, hs9, hw⟩ := hw
    refine zz_callU (r := (zR_9, zT_9, 2)) (x := ⟨"DebateHall$Test", "look", "(LDebateHall$Minutes;)V"⟩) (owner := "DebateHall$Test") (As := [va_rf p0]) (rest := []) C hR hro dX15_look_5 q1915 q1907 (Or.inl q1906) q1916 q1925 zl_DebateHall_Several zk_X14_look zyo_DebateHall_Test_look__LDebateHall_Minutes__V rfl hfrr (by decide) hL (h_X14_look hw) hc9 hs9 (zz_cat10 _ (Nat.le_of_ble_eq_true rfl)) (fun r2 M3 hw => zz_kV hw (fun hw => ?_)) (fun t9 q6 M7 hx => ?_) rfl
    · refine zz_subP [] rfl ?_
      exact ok_X15_look_B8 C E hH hR hF hfrr h_X15_look h_X14_look hw
    · exact zz_out C E hH rfl hx
  · replace hw := zz_ifn e9 hw
    by_cases e10 : t9 = 10
    · replace hw := zz_ifp e10 hw
      subst e10
      obtain ⟨c9, s9, hc9, hs9, hw⟩ := hw
      refine zz_callU (r := (zR_10, zT_10, 1)) (x := ⟨"DebateHall$Test", "look", "(LDebateHall$Minutes;)V"⟩) (owner := "DebateHall$Test") (As := [va_rf p0]) (rest := []) C hR hro dX15_look_5 q1915 q1907 (Or.inl q1906) q1913 q1912 zl_DebateHall_Denied zk_X15_look zyo_DebateHall_Test_look__LDebateHall_Minutes__V rfl hfrr (by decide) hL (h_X15_look hw) hc9 hs9 (zz_cat10 _ (Nat.le_of_ble_eq_true rfl)) (fun r10 M11 hw => zz_kV hw (fun hw => ?_)) (fun t9 q14 M15 hx => ?_) rfl
      · refine zz_subP [] rfl ?_
        exact ok_X15_look_B8 C E hH hR hF hfrr h_X15_look h_X14_look hw
      · exact zz_out C E hH rfl hx
    · replace hw := zz_ifn e10 hw
      by_cases e11 : t9 = 11
      · replace hw := zz_ifp e11 hw
        subst e11
        obtain ⟨c9, s9, hc9, hs9, hw⟩ := hw
        refine zz_callU (r := (zR_11, zT_11, 2)) (x := ⟨"DebateHall$Test", "look", "(LDebateHall$Minutes;)V"⟩) (owner := "DebateHall$Test") (As := [va_rf p0]) (rest := []) C hR hro dX15_look_5 q1915 q1907 (Or.inl q1906) q1909 q1908 zl_DebateHall_Asked zk_X16_look zyo_DebateHall_Test_look__LDebateHall_Minutes__V rfl (Nat.le_trans (by decide : 76 ≤ 76) hF) (by decide) hL (ok_X16_look (zz_hl C) hw) hc9 hs9 (zz_cat10 _ (Nat.le_of_ble_eq_true rfl)) (fun r18 M19 hw => zz_kV hw (fun hw => ?_)) (fun t9 q22 M23 hx => ?_) rfl
        · refine zz_subP [] rfl ?_
          exact ok_X15_look_B8 C E hH hR hF hfrr h_X15_look h_X14_look hw
        · exact zz_out C E hH rfl hx
      · replace hw := zz_ifn e11 hw
        exact hw.elim
theorem ok_X14_look_B32 {G : zzX} (C : zz_C G cX14_look "DebateHall$Several" 4) {K : Option Value → zzM → Prop} {X : Nat → Nat → zzM → Prop} (E : zz_E G none K X) (hH : zz_H G []) {fr frr : Nat} (hR : zz_Rm G fr) (hF : 76 ≤ fr) (hfrr : frr + 1 ≤ fr) {r_X15_look : Option Nat → Option Nat → zzM → Nat → Nat → (Option Value → zzM → Prop) → (Nat → Nat → zzM → Prop) → Prop} (h_X15_look : ∀ {u0 : Option Nat}{u1 : Option Nat}{M : zzM} {mc ms : Nat} {K : Option Value → zzM → Prop} {X : Nat → Nat → zzM → Prop}, r_X15_look u0 u1 M mc ms K X → zz_Met (zz_Zof G) (zz_l G) yX15_look (zz_ws yX15_look cX15_look 2 none none) frr [va_rf u0, va_rf u1] M mc ms K X) {r_X14_look : Option Nat → Option Nat → zzM → Nat → Nat → (Option Value → zzM → Prop) → (Nat → Nat → zzM → Prop) → Prop} (h_X14_look : ∀ {u0 : Option Nat}{u1 : Option Nat}{M : zzM} {mc ms : Nat} {K : Option Value → zzM → Prop} {X : Nat → Nat → zzM → Prop}, r_X14_look u0 u1 M mc ms K X → zz_Met (zz_Zof G) (zz_l G) yX14_look (zz_ws yX14_look cX14_look 4 none none) frr [va_rf u0, va_rf u1] M mc ms K X) {k8 : Option Nat → Option Nat → zzM → Nat → Nat → Prop} (hk8 : ∀ (z0 : Option Nat) (z1 : Option Nat) (M : zzM) (bc bs : Nat), k8 z0 z1 M bc bs → zz_T G 4 M bc bs 8 [(1, va_rf z0), (2, va_rf z1)] []) {v1 : Option Nat} {v2 : Option Nat} {M : zzM} {bc bs : Nat} (hw : wp_X14_look_B32 (zz_Zof G) r_X15_look r_X14_look k8 K X v1 v2 M bc bs) : zz_T G 4 M bc bs 32 [(1, va_rf v1), (2, va_rf v2)] [] := by
  unfold wp_X14_look_B32 at hw
  refine zz_goto (tgt := 8) C dX14_look_32 (by decide) ?_
  refine zz_subP [0, 1] rfl ?_
  exact hk8 _ _ _ _ _ hw
theorem ok_X14_look_L8 {G : zzX} (C : zz_C G cX14_look "DebateHall$Several" 4) {K : Option Value → zzM → Prop} {X : Nat → Nat → zzM → Prop} (E : zz_E G none K X) (hH : zz_H G []) {fr frr : Nat} (hR : zz_Rm G fr) (hF : 76 ≤ fr) (hfrr : frr + 1 ≤ fr) {r_X15_look : Option Nat → Option Nat → zzM → Nat → Nat → (Option Value → zzM → Prop) → (Nat → Nat → zzM → Prop) → Prop} (h_X15_look : ∀ {u0 : Option Nat}{u1 : Option Nat}{M : zzM} {mc ms : Nat} {K : Option Value → zzM → Prop} {X : Nat → Nat → zzM → Prop}, r_X15_look u0 u1 M mc ms K X → zz_Met (zz_Zof G) (zz_l G) yX15_look (zz_ws yX15_look cX15_look 2 none none) frr [va_rf u0, va_rf u1] M mc ms K X) {r_X14_look : Option Nat → Option Nat → zzM → Nat → Nat → (Option Value → zzM → Prop) → (Nat → Nat → zzM → Prop) → Prop} (h_X14_look : ∀ {u0 : Option Nat}{u1 : Option Nat}{M : zzM} {mc ms : Nat} {K : Option Value → zzM → Prop} {X : Nat → Nat → zzM → Prop}, r_X14_look u0 u1 M mc ms K X → zz_Met (zz_Zof G) (zz_l G) yX14_look (zz_ws yX14_look cX14_look 4 none none) frr [va_rf u0, va_rf u1] M mc ms K X) : ∀ (n : Nat) (v1 : Option Nat) (v2 : Option Nat) (M : zzM) (bc bs : Nat), wp_X14_look_L8 (zz_Zof G) r_X15_look r_X14_look K X n v1 v2 M bc bs → zz_T G 4 M bc bs 8 [(1, va_rf v1), (2, va_rf v2)] [] := by
  intro n
  induction n with
  | zero =>
    intro v1 v2 M bc bs hw
    exact False.elim hw
  | succ n ih =>
    intro v1 v2 M bc bs hw
    refine zz_aload_n C dX14_look_8 rfl 1 rfl ?_
    obtain ⟨a9, t9, b9, fs9, hro, hL, rfl, hw⟩ := ztyS hw
    refine zz_callF (r := (zR_23, zT_23, 4)) (x := ⟨"java/util/Iterator", "hasNext", "()Z"⟩) (As := []) (rest := []) (mc := 0) (ms := 0) C hR hro dX14_look_9 q1920 (by decide +kernel) q1174 q1172 zl_java_util_ArrayList_Itr zk_J24_hasNext zyo_java_util_Iterator_hasNext___Z rfl (Nat.le_trans (by decide : 2 ≤ 76) hF) (by decide) hL (ok_J24_hasNext (zz_hl C) hw) (Nat.zero_le _) (Nat.zero_le _) (zz_cat10 _ (Nat.le_of_ble_eq_true rfl)) (fun r7 M8 hw => zz_kI hw (fun x11 hw => ?_)) (fun _ _ _ h9 => h9.elim) rfl
    refine zz_if_eq (tgt := 35) C dX14_look_14 (by decide) hw (fun hw => ?_) (fun hw => ?_)
    · exact zz_vret C E dX14_look_35 hw
    · refine zz_aload_n C dX14_look_17 rfl 1 rfl ?_
      obtain ⟨a9, t9, b9, fs9, hro, hL, rfl, hw⟩ := ztyS hw
      refine zz_callF (r := (zR_23, zT_23, 4)) (x := ⟨"java/util/Iterator", "next", "()Ljava/lang/Object;"⟩) (As := []) (rest := []) (mc := 0) (ms := 0) C hR hro dX14_look_18 q1922 (by decide +kernel) q1183 q1181 zl_java_util_ArrayList_Itr zk_J24_next zyo_java_util_Iterator_next___Ljava_lang_Object_ rfl (Nat.le_trans (by decide : 3 ≤ 76) hF) (by decide) hL (ok_J24_next (zz_hl C) hw) (Nat.zero_le _) (Nat.zero_le _) (zz_cat10 _ (Nat.le_of_ble_eq_true rfl)) (fun r12 M13 hw => zz_kA hw (fun x16 hw => ?_)) (fun _ _ _ h9 => h9.elim) rfl
      refine zz_cast C dX14_look_23 q1923 zc_9_10_11_ebateHall_Test hw (fun hw => ?_)
      refine zz_astore_n (i := 3) (lv' := [(3, va_rf x16), (1, va_rf v1), (2, va_rf v2)]) C dX14_look_26 rfl (by decide) (by simp [zz_cat, zz_catI, zz_catJ, zz_catD]) ?_
      refine zz_aload_n C dX14_look_27 rfl 0 rfl ?_
      refine zz_aload_n C dX14_look_28 rfl 1 rfl ?_
      obtain ⟨a9, t9, b9, fs9, hro, hL, hw⟩ := ztyS hw
      by_cases e9 : t9 = 9
      · replace hw := zz_ifp e9 hw
        subst e9
        obtain ⟨c9, s9, hc9, hs9, hw⟩ := hw
        refine zz_callU (r := (zR_9, zT_9, 2)) (x := ⟨"DebateHall$Test", "look", "(LDebateHall$Minutes;)V"⟩) (owner := "DebateHall$Test") (As := [va_rf v1]) (rest := []) C hR hro dX14_look_29 q1924 q1907 (Or.inl q1906) q1916 q1925 zl_DebateHall_Several zk_X14_look zyo_DebateHall_Test_look__LDebateHall_Minutes__V rfl hfrr (by decide) hL (h_X14_look hw) hc9 hs9 (zz_cat10 _ (Nat.le_of_ble_eq_true rfl)) (fun r17 M18 hw => zz_kV hw (fun hw => ?_)) (fun t9 q21 M22 hx => ?_) rfl
        · refine zz_subP [1, 2] rfl ?_
          exact ok_X14_look_B32 C E hH hR hF hfrr h_X15_look h_X14_look (fun z0 z1 z2 z3 z4 hw => ih z0 z1 z2 z3 z4 hw) hw
        · exact zz_out C E hH rfl hx
      · replace hw := zz_ifn e9 hw
        by_cases e10 : t9 = 10
        · replace hw := zz_ifp e10 hw
          subst e10
          obtain ⟨c9, s9, hc9, hs9, hw⟩ := hw
          refine zz_callU (r := (zR_10, zT_10, 1)) (x := ⟨"DebateHall$Test", "look", "(LDebateHall$Minutes;)V"⟩) (owner := "DebateHall$Test") (As := [va_rf v1]) (rest := []) C hR hro dX14_look_29 q1924 q1907 (Or.inl q1906) q1913 q1912 zl_DebateHall_Denied zk_X15_look zyo_DebateHall_Test_look__LDebateHall_Minutes__V rfl hfrr (by decide) hL (h_X15_look hw) hc9 hs9 (zz_cat10 _ (Nat.le_of_ble_eq_true rfl)) (fun r25 M26 hw => zz_kV hw (fun hw => ?_)) (fun t9 q29 M30 hx => ?_) rfl
          · refine zz_subP [1, 2] rfl ?_
            exact ok_X14_look_B32 C E hH hR hF hfrr h_X15_look h_X14_look (fun z0 z1 z2 z3 z4 hw => ih z0 z1 z2 z3 z4 hw) hw
          · exact zz_out C E hH rfl hx
        · replace hw := zz_ifn e10 hw
          by_cases e11 : t9 = 11
          · replace hw := zz_ifp e11 hw
            subst e11
            obtain ⟨c9, s9, hc9, hs9, hw⟩ := hw
            refine zz_callU (r := (zR_11, zT_11, 2)) (x := ⟨"DebateHall$Test", "look", "(LDebateHall$Minutes;)V"⟩) (owner := "DebateHall$Test") (As := [va_rf v1]) (rest := []) C hR hro dX14_look_29 q1924 q1907 (Or.inl q1906) q1909 q1908 zl_DebateHall_Asked zk_X16_look zyo_DebateHall_Test_look__LDebateHall_Minutes__V rfl (Nat.le_trans (by decide : 76 ≤ 76) hF) (by decide) hL (ok_X16_look (zz_hl C) hw) hc9 hs9 (zz_cat10 _ (Nat.le_of_ble_eq_true rfl)) (fun r33 M34 hw => zz_kV hw (fun hw => ?_)) (fun t9 q37 M38 hx => ?_) rfl
            · refine zz_subP [1, 2] rfl ?_
              exact ok_X14_look_B32 C E hH hR hF hfrr h_X15_look h_X14_look (fun z0 z1 z2 z3 z4 hw => ih z0 z1 z2 z3 z4 hw) hw
            · exact zz_out C E hH rfl hx
          · replace hw := zz_ifn e11 hw
            exact hw.elim
theorem okb_X14_look {Z : zzG} {l : Launch} (hl : l.stackTraces = false) {fr frr : Nat} (hF : 76 ≤ fr) (hfrr : frr + 1 ≤ fr) {r_X15_look : Option Nat → Option Nat → zzM → Nat → Nat → (Option Value → zzM → Prop) → (Nat → Nat → zzM → Prop) → Prop} (h_X15_look : ∀ {u0 : Option Nat}{u1 : Option Nat}{M : zzM} {mc ms : Nat} {K : Option Value → zzM → Prop} {X : Nat → Nat → zzM → Prop}, r_X15_look u0 u1 M mc ms K X → zz_Met Z l yX15_look (zz_ws yX15_look cX15_look 2 none none) frr [va_rf u0, va_rf u1] M mc ms K X) {r_X14_look : Option Nat → Option Nat → zzM → Nat → Nat → (Option Value → zzM → Prop) → (Nat → Nat → zzM → Prop) → Prop} (h_X14_look : ∀ {u0 : Option Nat}{u1 : Option Nat}{M : zzM} {mc ms : Nat} {K : Option Value → zzM → Prop} {X : Nat → Nat → zzM → Prop}, r_X14_look u0 u1 M mc ms K X → zz_Met Z l yX14_look (zz_ws yX14_look cX14_look 4 none none) frr [va_rf u0, va_rf u1] M mc ms K X) {this : Option Nat} {p0 : Option Nat} {M : zzM} {mc ms : Nat} {K : Option Value → zzM → Prop} {X : Nat → Nat → zzM → Prop} (hw : wpb_X14_look Z r_X15_look r_X14_look this p0 M mc ms K X) : zz_Met Z l yX14_look (zz_ws yX14_look cX14_look 4 none none) fr [va_rf this, va_rf p0] M mc ms K X := by
  refine zz_ofW hl (plainFor_of_name (by decide)) (by simp only [zz_sl0, zz_slI, zz_slJ, zz_slA] <;> decide) (fun G hZ hll C E hH hR hin => ?_)
  subst hZ
  subst hll
  rw [show lv_args 0 [va_rf this, va_rf p0] = [(0, va_rf this), (1, va_rf p0)] by simp only [zz_la0, zz_laI, zz_laJ, zz_laA]]
  unfold wpb_X14_look at hw
  refine zz_aload_n C dX14_look_0 rfl 0 rfl ?_
  refine zz_getA C dX14_look_1 (Or.inl q1018) zf_9_1_teHall_Several hw (fun x1 hw => ?_)
  obtain ⟨a9, t9, b9, fs9, hro, hL, rfl, hw⟩ := ztyS hw
  obtain ⟨c9, s9, hc9, hs9, hw⟩ := hw
  refine zz_callV (r := (zR_18, zT_18, 3)) (As := []) (rest := []) C hR hro dX14_look_4 (Or.inl q1918) q1145 (Or.inl q1146) zl_java_util_ArrayList zk_J2_iterator (Or.inl rfl) zy_J2_iterator rfl (Nat.le_trans (by decide : 4 ≤ 76) hF) (by decide) hL (ok_J2_iterator (zz_hl C) hw) hc9 hs9 (zz_cat10 _ (Nat.le_of_ble_eq_true rfl)) (fun r2 M3 hw => zz_kA hw (fun x6 hw => ?_)) (fun _ _ _ h9 => h9.elim) rfl
  refine zz_astore_n (i := 2) (lv' := [(2, va_rf x6), (0, va_rf this), (1, va_rf p0)]) C dX14_look_7 rfl (by decide) (by simp [zz_cat, zz_catI, zz_catJ, zz_catD]) ?_
  refine zz_subP [2, 0] rfl ?_
  obtain ⟨n8, hw⟩ := hw
  exact ok_X14_look_L8 C E hH hR hF hfrr h_X15_look h_X14_look n8 _ _ _ _ _ hw
def wpR_X15_look_X14_look (Z : zzG) : Nat → (Option Nat → Option Nat → zzM → Nat → Nat → (Option Value → zzM → Prop) → (Nat → Nat → zzM → Prop) → Prop) × (Option Nat → Option Nat → zzM → Nat → Nat → (Option Value → zzM → Prop) → (Nat → Nat → zzM → Prop) → Prop)
  | 0 => (fun _ _ _ _ _ _ _ => False, fun _ _ _ _ _ _ _ => False)
  | n + 1 => (wpb_X15_look Z ((wpR_X15_look_X14_look Z n).1) ((wpR_X15_look_X14_look Z n).2), wpb_X14_look Z ((wpR_X15_look_X14_look Z n).1) ((wpR_X15_look_X14_look Z n).2))
def wp_X15_look (Z : zzG) : Option Nat → Option Nat → zzM → Nat → Nat → (Option Value → zzM → Prop) → (Nat → Nat → zzM → Prop) → Prop := (wpR_X15_look_X14_look Z 60).1
def wp_X14_look (Z : zzG) : Option Nat → Option Nat → zzM → Nat → Nat → (Option Value → zzM → Prop) → (Nat → Nat → zzM → Prop) → Prop := (wpR_X15_look_X14_look Z 60).2
theorem okR_X15_look_X14_look {Z : zzG} {l : Launch} (hl : l.stackTraces = false) : ∀ n : Nat, (∀ {u0 : Option Nat}{u1 : Option Nat}{M : zzM} {mc ms : Nat} {K : Option Value → zzM → Prop} {X : Nat → Nat → zzM → Prop}, (wpR_X15_look_X14_look Z n).1 u0 u1 M mc ms K X → zz_Met Z l yX15_look (zz_ws yX15_look cX15_look 2 none none) (76 + n) [va_rf u0, va_rf u1] M mc ms K X) ∧ (∀ {u0 : Option Nat}{u1 : Option Nat}{M : zzM} {mc ms : Nat} {K : Option Value → zzM → Prop} {X : Nat → Nat → zzM → Prop}, (wpR_X15_look_X14_look Z n).2 u0 u1 M mc ms K X → zz_Met Z l yX14_look (zz_ws yX14_look cX14_look 4 none none) (76 + n) [va_rf u0, va_rf u1] M mc ms K X) := by
  intro n
  induction n with
  | zero =>
    exact ⟨fun h => h.elim, fun h => h.elim⟩
  | succ n ih =>
    exact ⟨fun h => okb_X15_look hl (fr := 76 + (n + 1)) (frr := 76 + n) (Nat.le_add_right _ _) (Nat.le_refl _) ih.1 ih.2 h, fun h => okb_X14_look hl (fr := 76 + (n + 1)) (frr := 76 + n) (Nat.le_add_right _ _) (Nat.le_refl _) ih.1 ih.2 h⟩
theorem ok_X15_look {Z : zzG} {l : Launch} (hl : l.stackTraces = false) {u0 : Option Nat} {u1 : Option Nat} {M : zzM} {mc ms : Nat} {K : Option Value → zzM → Prop} {X : Nat → Nat → zzM → Prop} (hw : wp_X15_look Z u0 u1 M mc ms K X) : zz_Met Z l yX15_look (zz_ws yX15_look cX15_look 2 none none) 136 [va_rf u0, va_rf u1] M mc ms K X :=
  (okR_X15_look_X14_look hl 60).1 hw
theorem ok_X14_look {Z : zzG} {l : Launch} (hl : l.stackTraces = false) {u0 : Option Nat} {u1 : Option Nat} {M : zzM} {mc ms : Nat} {K : Option Value → zzM → Prop} {X : Nat → Nat → zzM → Prop} (hw : wp_X14_look Z u0 u1 M mc ms K X) : zz_Met Z l yX14_look (zz_ws yX14_look cX14_look 4 none none) 136 [va_rf u0, va_rf u1] M mc ms K X :=
  (okR_X15_look_X14_look hl 60).2 hw
abbrev cX16_holds : ByteArray := prog_2_method_3_code
def yX16_holds : MethodName := ⟨"DebateHall$Asked", "holds", "(LDebateHall$Minutes;)Z"⟩
def dkwX16_holds_2 : List UInt8 := [182, 0, 44, 172]
abbrev dktX16_holds_2 : List UInt8 := dkwX16_holds_2 ++ []
def dkwX16_holds_1 : List UInt8 := [182, 0, 44, 153, 0, 10, 44, 180, 0, 50, 167, 0, 15, 42, 180, 0, 7, 43, 44, 182, 0, 54]
abbrev dktX16_holds_1 : List UInt8 := dkwX16_holds_1 ++ dktX16_holds_2
def dkwX16_holds_0 : List UInt8 := [43, 180, 0, 23, 42, 180, 0, 13, 180, 0, 29, 182, 0, 34, 192, 0, 40, 77, 42, 180, 0, 7, 18, 42]
abbrev dktX16_holds_0 : List UInt8 := dkwX16_holds_0 ++ dktX16_holds_1
theorem dksX16_holds_0 : cX16_holds.data.toList.drop 0 = dktX16_holds_0 := by decide +kernel
theorem dksX16_holds_1 : cX16_holds.data.toList.drop 24 = dktX16_holds_1 := dk_seg dksX16_holds_0 24 rfl rfl
theorem dksX16_holds_2 : cX16_holds.data.toList.drop 46 = dktX16_holds_2 := dk_seg dksX16_holds_1 22 rfl rfl
theorem dX16_holds_0 : decode cX16_holds 0 = .ok (.aload_n 1, 1) := dk_43 (dk_at dksX16_holds_0 0 rfl rfl)
theorem dX16_holds_1 : decode cX16_holds 1 = .ok (.getfield 23, 3) := dk_180 0 23 (dk_at dksX16_holds_0 1 rfl rfl)
theorem dX16_holds_4 : decode cX16_holds 4 = .ok (.aload_n 0, 1) := dk_42 (dk_at dksX16_holds_0 4 rfl rfl)
theorem dX16_holds_5 : decode cX16_holds 5 = .ok (.getfield 13, 3) := dk_180 0 13 (dk_at dksX16_holds_0 5 rfl rfl)
theorem dX16_holds_8 : decode cX16_holds 8 = .ok (.getfield 29, 3) := dk_180 0 29 (dk_at dksX16_holds_0 8 rfl rfl)
theorem dX16_holds_11 : decode cX16_holds 11 = .ok (.invokevirtual 34, 3) := dk_182 0 34 (dk_at dksX16_holds_0 11 rfl rfl)
theorem dX16_holds_14 : decode cX16_holds 14 = .ok (.checkcast 40, 3) := dk_192 0 40 (dk_at dksX16_holds_0 14 rfl rfl)
theorem dX16_holds_17 : decode cX16_holds 17 = .ok (.astore_n 2, 1) := dk_77 (dk_at dksX16_holds_0 17 rfl rfl)
theorem dX16_holds_18 : decode cX16_holds 18 = .ok (.aload_n 0, 1) := dk_42 (dk_at dksX16_holds_0 18 rfl rfl)
theorem dX16_holds_19 : decode cX16_holds 19 = .ok (.getfield 7, 3) := dk_180 0 7 (dk_at dksX16_holds_0 19 rfl rfl)
theorem dX16_holds_22 : decode cX16_holds 22 = .ok (.ldc 42, 2) := dk_18 42 (dk_at dksX16_holds_0 22 rfl rfl)
theorem dX16_holds_24 : decode cX16_holds 24 = .ok (.invokevirtual 44, 3) := dk_182 0 44 (dk_at dksX16_holds_1 0 rfl rfl)
theorem dX16_holds_27 : decode cX16_holds 27 = .ok (.ifCond .eq 10, 3) := dk_153 0 10 (dk_at dksX16_holds_1 3 rfl rfl)
theorem dX16_holds_30 : decode cX16_holds 30 = .ok (.aload_n 2, 1) := dk_44 (dk_at dksX16_holds_1 6 rfl rfl)
theorem dX16_holds_31 : decode cX16_holds 31 = .ok (.getfield 50, 3) := dk_180 0 50 (dk_at dksX16_holds_1 7 rfl rfl)
theorem dX16_holds_34 : decode cX16_holds 34 = .ok (.goto 15, 3) := dk_167 0 15 (dk_at dksX16_holds_1 10 rfl rfl)
theorem dX16_holds_37 : decode cX16_holds 37 = .ok (.aload_n 0, 1) := dk_42 (dk_at dksX16_holds_1 13 rfl rfl)
theorem dX16_holds_38 : decode cX16_holds 38 = .ok (.getfield 7, 3) := dk_180 0 7 (dk_at dksX16_holds_1 14 rfl rfl)
theorem dX16_holds_41 : decode cX16_holds 41 = .ok (.aload_n 1, 1) := dk_43 (dk_at dksX16_holds_1 17 rfl rfl)
theorem dX16_holds_42 : decode cX16_holds 42 = .ok (.aload_n 2, 1) := dk_44 (dk_at dksX16_holds_1 18 rfl rfl)
theorem dX16_holds_43 : decode cX16_holds 43 = .ok (.invokevirtual 54, 3) := dk_182 0 54 (dk_at dksX16_holds_1 19 rfl rfl)
theorem dX16_holds_46 : decode cX16_holds 46 = .ok (.invokevirtual 44, 3) := dk_182 0 44 (dk_at dksX16_holds_2 0 rfl rfl)
theorem dX16_holds_49 : decode cX16_holds 49 = .ok (.ireturn, 1) := dk_172 (dk_at dksX16_holds_2 3 rfl rfl)
theorem q244 : (Jvm.Cond.fieldLinkNest "DebateHall$Asked" (23 : Nat) "DebateHall$Minutes" "itemNames" "Ljava/util/HashMap;" "DebateHall") ∈ lw_tbl := lw_at lw_m1 164 rfl
theorem q373 : (Jvm.Cond.fieldLinkNest "DebateHall$Asked" (29 : Nat) "DebateHall$Token" "text" "Ljava/lang/String;" "DebateHall") ∈ lw_tbl := lw_at lw_m2 53 rfl
theorem q1976 : (Jvm.Cond.classLink "DebateHall$Asked" (40 : Nat) "DebateHall$Item") ∈ lw_all := lw_g (lw_at lw_m8 216 rfl) rfl
theorem q1978 : (Jvm.Cond.methodLink "DebateHall$Asked" (44 : Nat) ({ cls := "java/lang/String", name := "equals", desc := "(Ljava/lang/Object;)Z" } : Jvm.MethodName)) ∈ lw_all := lw_g (lw_at lw_m8 218 rfl) rfl
theorem q1979 : (Jvm.Cond.methodLink "DebateHall$Asked" (54 : Nat) ({ cls := "DebateHall$Minutes", name := "word", desc := "(LDebateHall$Item;)Ljava/lang/String;" } : Jvm.MethodName)) ∈ lw_all := lw_g (lw_at lw_m8 219 rfl) rfl
theorem q1762 : (Jvm.Cond.fieldLinkNest "DebateHall$Asked" (50 : Nat) "DebateHall$Item" "isConceded" "Z" "DebateHall") ∈ lw_tbl := lw_at lw_m8 2 rfl
theorem q1975 : (Jvm.Cond.methodLink "DebateHall$Asked" (34 : Nat) ({ cls := "java/util/HashMap", name := "get", desc := "(Ljava/lang/Object;)Ljava/lang/Object;" } : Jvm.MethodName)) ∈ lw_all := lw_g (lw_at lw_m8 215 rfl) rfl
def wp_X16_holds_B49 (Z : zzG) (K : Option Value → zzM → Prop) (s0 : Int32) (M : zzM) : Prop := narrow .boolean (.int s0) = .int s0 ∧ K (some (.int s0)) M
def wp_X16_holds (Z : zzG) (this : Option Nat) (p0 : Option Nat) (M : zzM) (K : Option Value → zzM → Prop) : Prop := zgA Z M p0 [2] 3 fun x1 => zgA Z M this [11] 1 fun x2 => zgA Z M x2 [5] 1 fun x3 => zty Z M x1 fun t => t = 19 ∧ wp_J4_get Z x1 x3 M (fun r4 M5 => zrA r4 fun x8 => zcast Z M5 x8 [15] <| zgA Z M5 this [11] 0 fun x9 => zty Z M5 x9 fun t => t = 21 ∧ wp_J7_equals Z x9 (some (zz_ad Z 125)) M5 (fun r10 M11 => zrI r10 fun x14 => if x14 = 0 then (zgA Z M11 this [11] 0 fun x15 => zty Z M11 p0 fun t => t = 2 ∧ wp_X3_word Z p0 x8 M11 (fun r16 M17 => zrA r16 fun x20 => zty Z M17 x15 fun t => t = 21 ∧ wp_J7_equals Z x15 x20 M17 (fun r21 M22 => zrI r21 fun x25 => wp_X16_holds_B49 Z K x25 M22))) else (zgI Z M11 x8 [15] 7 fun x26 => wp_X16_holds_B49 Z K x26 M11)))
theorem ok_X16_holds_B49 {G : zzX} (C : zz_C G cX16_holds "DebateHall$Asked" 3) {K : Option Value → zzM → Prop} (E : zz_E G (some .boolean) K (fun _ _ _ => False)) (hH : zz_H G []) (hR : zz_Rm G 74) {s0 : Int32} {M : zzM} {bc bs : Nat} (hw : wp_X16_holds_B49 (zz_Zof G) K s0 M) : zz_T G 3 M bc bs 49 [] [.int s0] := by
  unfold wp_X16_holds_B49 at hw
  exact zz_zret C E dX16_holds_49 hw
theorem ok_X16_holds {Z : zzG} {l : Launch} (hl : l.stackTraces = false) {this : Option Nat} {p0 : Option Nat} {M : zzM} {mc ms : Nat} {K : Option Value → zzM → Prop} (hw : wp_X16_holds Z this p0 M K) : zz_Met Z l yX16_holds (zz_ws yX16_holds cX16_holds 3 (some .boolean) none) 74 [va_rf this, va_rf p0] M mc ms K (fun _ _ _ => False) := by
  refine zz_ofW hl (plainFor_of_name (by decide)) (by simp only [zz_sl0, zz_slI, zz_slJ, zz_slA] <;> decide) (fun G hZ hll C E hH hR hin => ?_)
  subst hZ
  subst hll
  rw [show lv_args 0 [va_rf this, va_rf p0] = [(0, va_rf this), (1, va_rf p0)] by simp only [zz_la0, zz_laI, zz_laJ, zz_laA]]
  unfold wp_X16_holds at hw
  refine zz_aload_n C dX16_holds_0 rfl 1 rfl ?_
  refine zz_getA C dX16_holds_1 (Or.inr ⟨_, q244⟩) zf_2_3_teHall_Minutes hw (fun x1 hw => ?_)
  refine zz_aload_n C dX16_holds_4 rfl 0 rfl ?_
  refine zz_getA C dX16_holds_5 (Or.inl q1061) zf_11_1_bateHall_Asked hw (fun x2 hw => ?_)
  refine zz_getA C dX16_holds_8 (Or.inr ⟨_, q373⟩) zf_5_1_bateHall_Token hw (fun x3 hw => ?_)
  obtain ⟨a9, t9, b9, fs9, hro, hL, rfl, hw⟩ := ztyS hw
  refine zz_callV (r := (zR_19, zT_19, 8)) (As := [va_rf x3]) (rest := []) (mc := 0) (ms := 0) C hR hro dX16_holds_11 (Or.inl q1975) q1851 (Or.inl q1852) zl_java_util_HashMap zk_J4_get (Or.inl rfl) zy_J4_get rfl (by decide) (by decide) hL (ok_J4_get (zz_hl C) hw) (Nat.zero_le _) (Nat.zero_le _) (zz_cat10 _ (Nat.le_of_ble_eq_true rfl)) (fun r4 M5 hw => zz_kA hw (fun x8 hw => ?_)) (fun _ _ _ h9 => h9.elim) rfl
  refine zz_cast C dX16_holds_14 q1976 zc_15_ebateHall_Item hw (fun hw => ?_)
  refine zz_astore_n (i := 2) (lv' := [(2, va_rf x8), (0, va_rf this), (1, va_rf p0)]) C dX16_holds_17 rfl (by decide) (by simp [zz_cat, zz_catI, zz_catJ, zz_catD]) ?_
  refine zz_aload_n C dX16_holds_18 rfl 1 rfl ?_
  refine zz_getA C dX16_holds_19 (Or.inl q1060) zf_11_0_bateHall_Asked hw (fun x9 hw => ?_)
  refine zz_ldcS (j := 25) C dX16_holds_22 rfl ?_
  obtain ⟨a9, t9, b9, fs9, hro, hL, rfl, hw⟩ := ztyS hw
  refine zz_callV (r := (zR_21, zT_21, 4)) (As := [va_rf (some (zz_ad (zz_Zof G) 125))]) (rest := []) (mc := 0) (ms := 0) C hR hro dX16_holds_24 (Or.inl q1978) q709 (Or.inl q710) zl_java_lang_String zk_J7_equals (Or.inl rfl) zy_J7_equals rfl (by decide) (by decide) hL (ok_J7_equals (zz_hl C) hw) (Nat.zero_le _) (Nat.zero_le _) (zz_cat10 _ (Nat.le_of_ble_eq_true rfl)) (fun r10 M11 hw => zz_kI hw (fun x14 hw => ?_)) (fun _ _ _ h9 => h9.elim) rfl
  refine zz_if_eq (tgt := 37) C dX16_holds_27 (by decide) hw (fun hw => ?_) (fun hw => ?_)
  · refine zz_aload_n C dX16_holds_37 rfl 1 rfl ?_
    refine zz_getA C dX16_holds_38 (Or.inl q1060) zf_11_0_bateHall_Asked hw (fun x15 hw => ?_)
    refine zz_aload_n C dX16_holds_41 rfl 2 rfl ?_
    refine zz_aload_n C dX16_holds_42 rfl 0 rfl ?_
    obtain ⟨a9, t9, b9, fs9, hro, hL, rfl, hw⟩ := ztyS hw
    refine zz_callV (r := (zR_2, zT_2, 8)) (As := [va_rf x8]) (rest := [va_rf x15]) (mc := 0) (ms := 0) C hR hro dX16_holds_43 (Or.inl q1979) q1980 (Or.inl q1981) zl_DebateHall_Minutes zk_X3_word (Or.inl rfl) zy_X3_word rfl (by decide) (by decide) hL (ok_X3_word (zz_hl C) hw) (Nat.zero_le _) (Nat.zero_le _) (zz_cat10 _ (Nat.le_of_ble_eq_true rfl)) (fun r16 M17 hw => zz_kA hw (fun x20 hw => ?_)) (fun _ _ _ h9 => h9.elim) rfl
    obtain ⟨a9, t9, b9, fs9, hro, hL, rfl, hw⟩ := ztyS hw
    refine zz_callV (r := (zR_21, zT_21, 4)) (As := [va_rf x20]) (rest := []) (mc := 0) (ms := 0) C hR hro dX16_holds_46 (Or.inl q1978) q709 (Or.inl q710) zl_java_lang_String zk_J7_equals (Or.inl rfl) zy_J7_equals rfl (by decide) (by decide) hL (ok_J7_equals (zz_hl C) hw) (Nat.zero_le _) (Nat.zero_le _) (zz_cat10 _ (Nat.le_of_ble_eq_true rfl)) (fun r21 M22 hw => zz_kI hw (fun x25 hw => ?_)) (fun _ _ _ h9 => h9.elim) rfl
    refine zz_subP [] rfl ?_
    exact ok_X16_holds_B49 C E hH hR hw
  · refine zz_aload_n C dX16_holds_30 rfl 0 rfl ?_
    refine zz_getI C dX16_holds_31 (Or.inr ⟨_, q1762⟩) zf_15_7_ebateHall_Item hw (fun x26 hw => ?_)
    refine zz_goto (tgt := 49) C dX16_holds_34 (by decide) ?_
    refine zz_subP [] rfl ?_
    exact ok_X16_holds_B49 C E hH hR hw
abbrev cX15_holds : ByteArray := prog_4_method_3_code
def yX15_holds : MethodName := ⟨"DebateHall$Denied", "holds", "(LDebateHall$Minutes;)Z"⟩
def dkwX15_holds_0 : List UInt8 := [42, 180, 0, 7, 43, 182, 0, 17, 154, 0, 7, 4, 167, 0, 4, 3, 172]
abbrev dktX15_holds_0 : List UInt8 := dkwX15_holds_0 ++ []
theorem dksX15_holds_0 : cX15_holds.data.toList.drop 0 = dktX15_holds_0 := by decide +kernel
theorem dX15_holds_0 : decode cX15_holds 0 = .ok (.aload_n 0, 1) := dk_42 (dk_at dksX15_holds_0 0 rfl rfl)
theorem dX15_holds_1 : decode cX15_holds 1 = .ok (.getfield 7, 3) := dk_180 0 7 (dk_at dksX15_holds_0 1 rfl rfl)
theorem dX15_holds_4 : decode cX15_holds 4 = .ok (.aload_n 1, 1) := dk_43 (dk_at dksX15_holds_0 4 rfl rfl)
theorem dX15_holds_5 : decode cX15_holds 5 = .ok (.invokevirtual 17, 3) := dk_182 0 17 (dk_at dksX15_holds_0 5 rfl rfl)
theorem dX15_holds_8 : decode cX15_holds 8 = .ok (.ifCond .ne 7, 3) := dk_154 0 7 (dk_at dksX15_holds_0 8 rfl rfl)
theorem dX15_holds_11 : decode cX15_holds 11 = .ok (.iconst 1, 1) := dk_4 (dk_at dksX15_holds_0 11 rfl rfl)
theorem dX15_holds_12 : decode cX15_holds 12 = .ok (.goto 4, 3) := dk_167 0 4 (dk_at dksX15_holds_0 12 rfl rfl)
theorem dX15_holds_15 : decode cX15_holds 15 = .ok (.iconst 0, 1) := dk_3 (dk_at dksX15_holds_0 15 rfl rfl)
theorem dX15_holds_16 : decode cX15_holds 16 = .ok (.ireturn, 1) := dk_172 (dk_at dksX15_holds_0 16 rfl rfl)
abbrev cX14_holds : ByteArray := prog_16_method_3_code
def yX14_holds : MethodName := ⟨"DebateHall$Several", "holds", "(LDebateHall$Minutes;)Z"⟩
def dkwX14_holds_2 : List UInt8 := [167, 0, 4, 3, 172, 167, 255, 212, 42, 180, 0, 16, 172]
abbrev dktX14_holds_2 : List UInt8 := dkwX14_holds_2 ++ []
def dkwX14_holds_1 : List UInt8 := [192, 0, 2, 78, 45, 43, 182, 0, 38, 42, 180, 0, 16, 159, 0, 16, 42, 180, 0, 16, 154, 0, 7, 4]
abbrev dktX14_holds_1 : List UInt8 := dkwX14_holds_1 ++ dktX14_holds_2
def dkwX14_holds_0 : List UInt8 := [42, 180, 0, 10, 182, 0, 20, 77, 44, 185, 0, 24, 1, 0, 153, 0, 41, 44, 185, 0, 30, 1, 0]
abbrev dktX14_holds_0 : List UInt8 := dkwX14_holds_0 ++ dktX14_holds_1
theorem dksX14_holds_0 : cX14_holds.data.toList.drop 0 = dktX14_holds_0 := by decide +kernel
theorem dksX14_holds_1 : cX14_holds.data.toList.drop 23 = dktX14_holds_1 := dk_seg dksX14_holds_0 23 rfl rfl
theorem dksX14_holds_2 : cX14_holds.data.toList.drop 47 = dktX14_holds_2 := dk_seg dksX14_holds_1 24 rfl rfl
theorem dX14_holds_0 : decode cX14_holds 0 = .ok (.aload_n 0, 1) := dk_42 (dk_at dksX14_holds_0 0 rfl rfl)
theorem dX14_holds_1 : decode cX14_holds 1 = .ok (.getfield 10, 3) := dk_180 0 10 (dk_at dksX14_holds_0 1 rfl rfl)
theorem dX14_holds_4 : decode cX14_holds 4 = .ok (.invokevirtual 20, 3) := dk_182 0 20 (dk_at dksX14_holds_0 4 rfl rfl)
theorem dX14_holds_7 : decode cX14_holds 7 = .ok (.astore_n 2, 1) := dk_77 (dk_at dksX14_holds_0 7 rfl rfl)
theorem dX14_holds_8 : decode cX14_holds 8 = .ok (.aload_n 2, 1) := dk_44 (dk_at dksX14_holds_0 8 rfl rfl)
theorem dX14_holds_9 : decode cX14_holds 9 = .ok (.invokeinterface 24 1, 5) := by decide +kernel
theorem dX14_holds_14 : decode cX14_holds 14 = .ok (.ifCond .eq 41, 3) := dk_153 0 41 (dk_at dksX14_holds_0 14 rfl rfl)
theorem dX14_holds_17 : decode cX14_holds 17 = .ok (.aload_n 2, 1) := dk_44 (dk_at dksX14_holds_0 17 rfl rfl)
theorem dX14_holds_18 : decode cX14_holds 18 = .ok (.invokeinterface 30 1, 5) := by decide +kernel
theorem dX14_holds_23 : decode cX14_holds 23 = .ok (.checkcast 2, 3) := dk_192 0 2 (dk_at dksX14_holds_1 0 rfl rfl)
theorem dX14_holds_26 : decode cX14_holds 26 = .ok (.astore_n 3, 1) := dk_78 (dk_at dksX14_holds_1 3 rfl rfl)
theorem dX14_holds_27 : decode cX14_holds 27 = .ok (.aload_n 3, 1) := dk_45 (dk_at dksX14_holds_1 4 rfl rfl)
theorem dX14_holds_28 : decode cX14_holds 28 = .ok (.aload_n 1, 1) := dk_43 (dk_at dksX14_holds_1 5 rfl rfl)
theorem dX14_holds_29 : decode cX14_holds 29 = .ok (.invokevirtual 38, 3) := dk_182 0 38 (dk_at dksX14_holds_1 6 rfl rfl)
theorem dX14_holds_32 : decode cX14_holds 32 = .ok (.aload_n 0, 1) := dk_42 (dk_at dksX14_holds_1 9 rfl rfl)
theorem dX14_holds_33 : decode cX14_holds 33 = .ok (.getfield 16, 3) := dk_180 0 16 (dk_at dksX14_holds_1 10 rfl rfl)
theorem dX14_holds_36 : decode cX14_holds 36 = .ok (.if_icmp .eq 16, 3) := dk_159 0 16 (dk_at dksX14_holds_1 13 rfl rfl)
theorem dX14_holds_39 : decode cX14_holds 39 = .ok (.aload_n 0, 1) := dk_42 (dk_at dksX14_holds_1 16 rfl rfl)
theorem dX14_holds_40 : decode cX14_holds 40 = .ok (.getfield 16, 3) := dk_180 0 16 (dk_at dksX14_holds_1 17 rfl rfl)
theorem dX14_holds_43 : decode cX14_holds 43 = .ok (.ifCond .ne 7, 3) := dk_154 0 7 (dk_at dksX14_holds_1 20 rfl rfl)
theorem dX14_holds_46 : decode cX14_holds 46 = .ok (.iconst 1, 1) := dk_4 (dk_at dksX14_holds_1 23 rfl rfl)
theorem dX14_holds_47 : decode cX14_holds 47 = .ok (.goto 4, 3) := dk_167 0 4 (dk_at dksX14_holds_2 0 rfl rfl)
theorem dX14_holds_50 : decode cX14_holds 50 = .ok (.iconst 0, 1) := dk_3 (dk_at dksX14_holds_2 3 rfl rfl)
theorem dX14_holds_51 : decode cX14_holds 51 = .ok (.ireturn, 1) := dk_172 (dk_at dksX14_holds_2 4 rfl rfl)
theorem dX14_holds_52 : decode cX14_holds 52 = .ok (.goto (-44), 3) := dk_167 255 212 (dk_at dksX14_holds_2 5 rfl rfl)
theorem dX14_holds_55 : decode cX14_holds 55 = .ok (.aload_n 0, 1) := dk_42 (dk_at dksX14_holds_2 8 rfl rfl)
theorem dX14_holds_56 : decode cX14_holds 56 = .ok (.getfield 16, 3) := dk_180 0 16 (dk_at dksX14_holds_2 9 rfl rfl)
theorem dX14_holds_59 : decode cX14_holds 59 = .ok (.ireturn, 1) := dk_172 (dk_at dksX14_holds_2 12 rfl rfl)
theorem q1991 : (Jvm.Cond.code ({ cls := "DebateHall$Several", name := "holds", desc := "(LDebateHall$Minutes;)Z" } : Jvm.MethodName) prog_16_method_3_code (4 : Nat) (Option.some Jvm.ClassFile.FieldType.boolean)) ∈ lw_all := lw_g (lw_at lw_m8 231 rfl) rfl
theorem zk_X14_holds : zz_cd yX14_holds cX14_holds 4 (some .boolean) none ∈ lw_all := q1991
theorem zy_X14_holds : zz_yok yX14_holds 1 = true := by decide +kernel
theorem q1989 : (Jvm.Cond.methodLink "DebateHall$Denied" (17 : Nat) ({ cls := "DebateHall$Test", name := "holds", desc := "(LDebateHall$Minutes;)Z" } : Jvm.MethodName)) ∈ lw_all := lw_g (lw_at lw_m8 229 rfl) rfl
theorem q1970 : (Jvm.Cond.declares ({ cls := "DebateHall$Test", name := "holds", desc := "(LDebateHall$Minutes;)Z" } : Jvm.MethodName)) ∈ lw_tbl := lw_at lw_m8 210 rfl
theorem q1971 : (Jvm.Cond.sameMethod "DebateHall$Test" "DebateHall$Test" "holds" "(LDebateHall$Minutes;)Z") ∈ lw_all := lw_g (lw_at lw_m8 211 rfl) rfl
theorem q1990 : (Jvm.Cond.instanceMethod ({ cls := "DebateHall$Several", name := "holds", desc := "(LDebateHall$Minutes;)Z" } : Jvm.MethodName)) ∈ lw_all := lw_g (lw_at lw_m8 230 rfl) rfl
theorem q1993 : (Jvm.Cond.selects "DebateHall$Several" ({ cls := "DebateHall$Test", name := "holds", desc := "(LDebateHall$Minutes;)Z" } : Jvm.MethodName) ({ cls := "DebateHall$Several", name := "holds", desc := "(LDebateHall$Minutes;)Z" } : Jvm.MethodName)) ∈ lw_all := lw_g (lw_at lw_m8 233 rfl) rfl
theorem zyo_DebateHall_Test_holds__LDebateHall_Minutes__Z : zz_yok ⟨"DebateHall$Test", "holds", "(LDebateHall$Minutes;)Z"⟩ 1 = true := by decide +kernel
theorem q1988 : (Jvm.Cond.code ({ cls := "DebateHall$Denied", name := "holds", desc := "(LDebateHall$Minutes;)Z" } : Jvm.MethodName) prog_4_method_3_code (2 : Nat) (Option.some Jvm.ClassFile.FieldType.boolean)) ∈ lw_all := lw_g (lw_at lw_m8 228 rfl) rfl
theorem zk_X15_holds : zz_cd yX15_holds cX15_holds 2 (some .boolean) none ∈ lw_all := q1988
theorem zy_X15_holds : zz_yok yX15_holds 1 = true := by decide +kernel
theorem q1987 : (Jvm.Cond.instanceMethod ({ cls := "DebateHall$Denied", name := "holds", desc := "(LDebateHall$Minutes;)Z" } : Jvm.MethodName)) ∈ lw_all := lw_g (lw_at lw_m8 227 rfl) rfl
theorem q1986 : (Jvm.Cond.selects "DebateHall$Denied" ({ cls := "DebateHall$Test", name := "holds", desc := "(LDebateHall$Minutes;)Z" } : Jvm.MethodName) ({ cls := "DebateHall$Denied", name := "holds", desc := "(LDebateHall$Minutes;)Z" } : Jvm.MethodName)) ∈ lw_all := lw_g (lw_at lw_m8 226 rfl) rfl
theorem q1974 : (Jvm.Cond.code ({ cls := "DebateHall$Asked", name := "holds", desc := "(LDebateHall$Minutes;)Z" } : Jvm.MethodName) prog_2_method_3_code (3 : Nat) (Option.some Jvm.ClassFile.FieldType.boolean)) ∈ lw_all := lw_g (lw_at lw_m8 214 rfl) rfl
theorem zk_X16_holds : zz_cd yX16_holds cX16_holds 3 (some .boolean) none ∈ lw_all := q1974
theorem zy_X16_holds : zz_yok yX16_holds 1 = true := by decide +kernel
theorem q1973 : (Jvm.Cond.instanceMethod ({ cls := "DebateHall$Asked", name := "holds", desc := "(LDebateHall$Minutes;)Z" } : Jvm.MethodName)) ∈ lw_all := lw_g (lw_at lw_m8 213 rfl) rfl
theorem q1972 : (Jvm.Cond.selects "DebateHall$Asked" ({ cls := "DebateHall$Test", name := "holds", desc := "(LDebateHall$Minutes;)Z" } : Jvm.MethodName) ({ cls := "DebateHall$Asked", name := "holds", desc := "(LDebateHall$Minutes;)Z" } : Jvm.MethodName)) ∈ lw_all := lw_g (lw_at lw_m8 212 rfl) rfl
theorem q1992 : (Jvm.Cond.methodLink "DebateHall$Several" (38 : Nat) ({ cls := "DebateHall$Test", name := "holds", desc := "(LDebateHall$Minutes;)Z" } : Jvm.MethodName)) ∈ lw_all := lw_g (lw_at lw_m8 232 rfl) rfl
def wp_X15_holds_B16 (Z : zzG) (r_X15_holds : Option Nat → Option Nat → zzM → Nat → Nat → (Option Value → zzM → Prop) → Prop) (r_X14_holds : Option Nat → Option Nat → zzM → Nat → Nat → (Option Value → zzM → Prop) → Prop) (K : Option Value → zzM → Prop) (s0 : Int32) (M : zzM) (bc bs : Nat) : Prop := narrow .boolean (.int s0) = .int s0 ∧ K (some (.int s0)) M
def wp_X15_holds_B8 (Z : zzG) (r_X15_holds : Option Nat → Option Nat → zzM → Nat → Nat → (Option Value → zzM → Prop) → Prop) (r_X14_holds : Option Nat → Option Nat → zzM → Nat → Nat → (Option Value → zzM → Prop) → Prop) (K : Option Value → zzM → Prop) (s0 : Int32) (M : zzM) (bc bs : Nat) : Prop := if s0 = 0 then (wp_X15_holds_B16 Z r_X15_holds r_X14_holds K (1 : Int32) M bc bs) else (wp_X15_holds_B16 Z r_X15_holds r_X14_holds K (0 : Int32) M bc bs)
def wpb_X15_holds (Z : zzG) (r_X15_holds : Option Nat → Option Nat → zzM → Nat → Nat → (Option Value → zzM → Prop) → Prop) (r_X14_holds : Option Nat → Option Nat → zzM → Nat → Nat → (Option Value → zzM → Prop) → Prop) (this : Option Nat) (p0 : Option Nat) (M : zzM) (bc bs : Nat) (K : Option Value → zzM → Prop) : Prop := zgA Z M this [10] 0 fun x1 => zty Z M x1 fun t => if t = 9 then (zcc bc bs (fun c s k => r_X14_holds x1 p0 M c s k) fun r2 M3 bc4 bs5 => zrI r2 fun x6 => wp_X15_holds_B8 Z r_X15_holds r_X14_holds K x6 M3 bc4 bs5) else if t = 10 then (zcc bc bs (fun c s k => r_X15_holds x1 p0 M c s k) fun r7 M8 bc9 bs10 => zrI r7 fun x11 => wp_X15_holds_B8 Z r_X15_holds r_X14_holds K x11 M8 bc9 bs10) else if t = 11 then (wp_X16_holds Z x1 p0 M (fun r12 M13 => zrI r12 fun x16 => wp_X15_holds_B8 Z r_X15_holds r_X14_holds K x16 M13 bc bs)) else False
def wp_X14_holds_B51 (Z : zzG) (r_X15_holds : Option Nat → Option Nat → zzM → Nat → Nat → (Option Value → zzM → Prop) → Prop) (r_X14_holds : Option Nat → Option Nat → zzM → Nat → Nat → (Option Value → zzM → Prop) → Prop) (K : Option Value → zzM → Prop) (s0 : Int32) (M : zzM) (bc bs : Nat) : Prop := narrow .boolean (.int s0) = .int s0 ∧ K (some (.int s0)) M
def wp_X14_holds_B32 (Z : zzG) (r_X15_holds : Option Nat → Option Nat → zzM → Nat → Nat → (Option Value → zzM → Prop) → Prop) (r_X14_holds : Option Nat → Option Nat → zzM → Nat → Nat → (Option Value → zzM → Prop) → Prop) (k8 : Option Nat → Option Nat → Option Nat → zzM → Nat → Nat → Prop) (K : Option Value → zzM → Prop) (v0 : Option Nat) (v1 : Option Nat) (v2 : Option Nat) (s0 : Int32) (M : zzM) (bc bs : Nat) : Prop := zgI Z M v0 [9] 0 fun x33 => if s0 = x33 then (k8 v0 v1 v2 M bc bs) else (zgI Z M v0 [9] 0 fun x34 => if x34 = 0 then (wp_X14_holds_B51 Z r_X15_holds r_X14_holds K (1 : Int32) M bc bs) else (wp_X14_holds_B51 Z r_X15_holds r_X14_holds K (0 : Int32) M bc bs))
def wp_X14_holds_L8 (Z : zzG) (r_X15_holds : Option Nat → Option Nat → zzM → Nat → Nat → (Option Value → zzM → Prop) → Prop) (r_X14_holds : Option Nat → Option Nat → zzM → Nat → Nat → (Option Value → zzM → Prop) → Prop) (K : Option Value → zzM → Prop) : Nat → Option Nat → Option Nat → Option Nat → zzM → Nat → Nat → Prop
  | 0, _, _, _, _, _, _ => False
  | n + 1, v0, v1, v2, M, bc, bs => zty Z M v2 fun t => t = 23 ∧ wp_J24_hasNext Z v2 M (fun r7 M8 => zrI r7 fun x11 => if x11 = 0 then (zgI Z M8 v0 [9] 0 fun x12 => narrow .boolean (.int x12) = .int x12 ∧ K (some (.int x12)) M8) else (zty Z M8 v2 fun t => t = 23 ∧ wp_J24_next Z v2 M8 (fun r13 M14 => zrA r13 fun x17 => zcast Z M14 x17 [9, 10, 11] <| zty Z M14 x17 fun t => if t = 9 then (zcc bc bs (fun c s k => r_X14_holds x17 v1 M14 c s k) fun r18 M19 bc20 bs21 => zrI r18 fun x22 => wp_X14_holds_B32 Z r_X15_holds r_X14_holds (wp_X14_holds_L8 Z r_X15_holds r_X14_holds K n) K v0 v1 v2 x22 M19 bc20 bs21) else if t = 10 then (zcc bc bs (fun c s k => r_X15_holds x17 v1 M14 c s k) fun r23 M24 bc25 bs26 => zrI r23 fun x27 => wp_X14_holds_B32 Z r_X15_holds r_X14_holds (wp_X14_holds_L8 Z r_X15_holds r_X14_holds K n) K v0 v1 v2 x27 M24 bc25 bs26) else if t = 11 then (wp_X16_holds Z x17 v1 M14 (fun r28 M29 => zrI r28 fun x32 => wp_X14_holds_B32 Z r_X15_holds r_X14_holds (wp_X14_holds_L8 Z r_X15_holds r_X14_holds K n) K v0 v1 v2 x32 M29 bc bs)) else False)))
def wpb_X14_holds (Z : zzG) (r_X15_holds : Option Nat → Option Nat → zzM → Nat → Nat → (Option Value → zzM → Prop) → Prop) (r_X14_holds : Option Nat → Option Nat → zzM → Nat → Nat → (Option Value → zzM → Prop) → Prop) (this : Option Nat) (p0 : Option Nat) (M : zzM) (bc bs : Nat) (K : Option Value → zzM → Prop) : Prop := zgA Z M this [9] 1 fun x1 => zty Z M x1 fun t => t = 18 ∧ zcc bc bs (fun c s k => wp_J2_iterator Z x1 M c s k) fun r2 M3 bc4 bs5 => zrA r2 fun x6 => ∃ n8 : Nat, wp_X14_holds_L8 Z r_X15_holds r_X14_holds K n8 this p0 x6 M3 bc4 bs5
theorem ok_X15_holds_B16 {G : zzX} (C : zz_C G cX15_holds "DebateHall$Denied" 2) {K : Option Value → zzM → Prop} (E : zz_E G (some .boolean) K (fun _ _ _ => False)) (hH : zz_H G []) {fr frr : Nat} (hR : zz_Rm G fr) (hF : 75 ≤ fr) (hfrr : frr + 1 ≤ fr) {r_X15_holds : Option Nat → Option Nat → zzM → Nat → Nat → (Option Value → zzM → Prop) → Prop} (h_X15_holds : ∀ {u0 : Option Nat}{u1 : Option Nat}{M : zzM} {mc ms : Nat} {K : Option Value → zzM → Prop}, r_X15_holds u0 u1 M mc ms K → zz_Met (zz_Zof G) (zz_l G) yX15_holds (zz_ws yX15_holds cX15_holds 2 (some .boolean) none) frr [va_rf u0, va_rf u1] M mc ms K (fun _ _ _ => False)) {r_X14_holds : Option Nat → Option Nat → zzM → Nat → Nat → (Option Value → zzM → Prop) → Prop} (h_X14_holds : ∀ {u0 : Option Nat}{u1 : Option Nat}{M : zzM} {mc ms : Nat} {K : Option Value → zzM → Prop}, r_X14_holds u0 u1 M mc ms K → zz_Met (zz_Zof G) (zz_l G) yX14_holds (zz_ws yX14_holds cX14_holds 4 (some .boolean) none) frr [va_rf u0, va_rf u1] M mc ms K (fun _ _ _ => False)) {s0 : Int32} {M : zzM} {bc bs : Nat} (hw : wp_X15_holds_B16 (zz_Zof G) r_X15_holds r_X14_holds K s0 M bc bs) : zz_T G 2 M bc bs 16 [] [.int s0] := by
  unfold wp_X15_holds_B16 at hw
  exact zz_zret C E dX15_holds_16 hw
theorem ok_X15_holds_B8 {G : zzX} (C : zz_C G cX15_holds "DebateHall$Denied" 2) {K : Option Value → zzM → Prop} (E : zz_E G (some .boolean) K (fun _ _ _ => False)) (hH : zz_H G []) {fr frr : Nat} (hR : zz_Rm G fr) (hF : 75 ≤ fr) (hfrr : frr + 1 ≤ fr) {r_X15_holds : Option Nat → Option Nat → zzM → Nat → Nat → (Option Value → zzM → Prop) → Prop} (h_X15_holds : ∀ {u0 : Option Nat}{u1 : Option Nat}{M : zzM} {mc ms : Nat} {K : Option Value → zzM → Prop}, r_X15_holds u0 u1 M mc ms K → zz_Met (zz_Zof G) (zz_l G) yX15_holds (zz_ws yX15_holds cX15_holds 2 (some .boolean) none) frr [va_rf u0, va_rf u1] M mc ms K (fun _ _ _ => False)) {r_X14_holds : Option Nat → Option Nat → zzM → Nat → Nat → (Option Value → zzM → Prop) → Prop} (h_X14_holds : ∀ {u0 : Option Nat}{u1 : Option Nat}{M : zzM} {mc ms : Nat} {K : Option Value → zzM → Prop}, r_X14_holds u0 u1 M mc ms K → zz_Met (zz_Zof G) (zz_l G) yX14_holds (zz_ws yX14_holds cX14_holds 4 (some .boolean) none) frr [va_rf u0, va_rf u1] M mc ms K (fun _ _ _ => False)) {s0 : Int32} {M : zzM} {bc bs : Nat} (hw : wp_X15_holds_B8 (zz_Zof G) r_X15_holds r_X14_holds K s0 M bc bs) : zz_T G 2 M bc bs 8 [] [.int s0] := by
  unfold wp_X15_holds_B8 at hw
  refine zz_if_ne (tgt := 15) C dX15_holds_8 (by decide) hw (fun hw => ?_) (fun hw => ?_)
  · refine zz_iconst (v := (0 : Int32)) C dX15_holds_15 (by decide) ?_
    refine zz_subP [] rfl ?_
    exact ok_X15_holds_B16 C E hH hR hF hfrr h_X15_holds h_X14_holds hw
  · refine zz_iconst (v := (1 : Int32)) C dX15_holds_11 (by decide) ?_
    refine zz_goto (tgt := 16) C dX15_holds_12 (by decide) ?_
    refine zz_subP [] rfl ?_
    exact ok_X15_holds_B16 C E hH hR hF hfrr h_X15_holds h_X14_holds hw
theorem okb_X15_holds {Z : zzG} {l : Launch} (hl : l.stackTraces = false) {fr frr : Nat} (hF : 75 ≤ fr) (hfrr : frr + 1 ≤ fr) {r_X15_holds : Option Nat → Option Nat → zzM → Nat → Nat → (Option Value → zzM → Prop) → Prop} (h_X15_holds : ∀ {u0 : Option Nat}{u1 : Option Nat}{M : zzM} {mc ms : Nat} {K : Option Value → zzM → Prop}, r_X15_holds u0 u1 M mc ms K → zz_Met Z l yX15_holds (zz_ws yX15_holds cX15_holds 2 (some .boolean) none) frr [va_rf u0, va_rf u1] M mc ms K (fun _ _ _ => False)) {r_X14_holds : Option Nat → Option Nat → zzM → Nat → Nat → (Option Value → zzM → Prop) → Prop} (h_X14_holds : ∀ {u0 : Option Nat}{u1 : Option Nat}{M : zzM} {mc ms : Nat} {K : Option Value → zzM → Prop}, r_X14_holds u0 u1 M mc ms K → zz_Met Z l yX14_holds (zz_ws yX14_holds cX14_holds 4 (some .boolean) none) frr [va_rf u0, va_rf u1] M mc ms K (fun _ _ _ => False)) {this : Option Nat} {p0 : Option Nat} {M : zzM} {mc ms : Nat} {K : Option Value → zzM → Prop} (hw : wpb_X15_holds Z r_X15_holds r_X14_holds this p0 M mc ms K) : zz_Met Z l yX15_holds (zz_ws yX15_holds cX15_holds 2 (some .boolean) none) fr [va_rf this, va_rf p0] M mc ms K (fun _ _ _ => False) := by
  refine zz_ofW hl (plainFor_of_name (by decide)) (by simp only [zz_sl0, zz_slI, zz_slJ, zz_slA] <;> decide) (fun G hZ hll C E hH hR hin => ?_)
  subst hZ
  subst hll
  rw [show lv_args 0 [va_rf this, va_rf p0] = [(0, va_rf this), (1, va_rf p0)] by simp only [zz_la0, zz_laI, zz_laJ, zz_laA]]
  unfold wpb_X15_holds at hw
  refine zz_aload_n C dX15_holds_0 rfl 0 rfl ?_
  refine zz_getA C dX15_holds_1 (Or.inl q1044) zf_10_0_ateHall_Denied hw (fun x1 hw => ?_)
  refine zz_aload_n C dX15_holds_4 rfl 1 rfl ?_
  obtain ⟨a9, t9, b9, fs9, hro, hL, hw⟩ := ztyS hw
  by_cases e9 : t9 = 9
  · replace hw := zz_ifp e9 hw
    subst e9
    obtain ⟨c9, s9, hc9, hs9, hw⟩ := hw
    refine zz_callU (r := (zR_9, zT_9, 2)) (x := ⟨"DebateHall$Test", "holds", "(LDebateHall$Minutes;)Z"⟩) (owner := "DebateHall$Test") (As := [va_rf p0]) (rest := []) C hR hro dX15_holds_5 q1989 q1971 (Or.inl q1970) q1990 q1993 zl_DebateHall_Several zk_X14_holds zyo_DebateHall_Test_holds__LDebateHall_Minutes__Z rfl hfrr (by decide) hL (h_X14_holds hw) hc9 hs9 (zz_cat10 _ (Nat.le_of_ble_eq_true rfl)) (fun r2 M3 hw => zz_kI hw (fun x6 hw => ?_)) (fun _ _ _ h9 => h9.elim) rfl
    refine zz_subP [] rfl ?_
    exact ok_X15_holds_B8 C E hH hR hF hfrr h_X15_holds h_X14_holds hw
  · replace hw := zz_ifn e9 hw
    by_cases e10 : t9 = 10
    · replace hw := zz_ifp e10 hw
      subst e10
      obtain ⟨c9, s9, hc9, hs9, hw⟩ := hw
      refine zz_callU (r := (zR_10, zT_10, 1)) (x := ⟨"DebateHall$Test", "holds", "(LDebateHall$Minutes;)Z"⟩) (owner := "DebateHall$Test") (As := [va_rf p0]) (rest := []) C hR hro dX15_holds_5 q1989 q1971 (Or.inl q1970) q1987 q1986 zl_DebateHall_Denied zk_X15_holds zyo_DebateHall_Test_holds__LDebateHall_Minutes__Z rfl hfrr (by decide) hL (h_X15_holds hw) hc9 hs9 (zz_cat10 _ (Nat.le_of_ble_eq_true rfl)) (fun r7 M8 hw => zz_kI hw (fun x11 hw => ?_)) (fun _ _ _ h9 => h9.elim) rfl
      refine zz_subP [] rfl ?_
      exact ok_X15_holds_B8 C E hH hR hF hfrr h_X15_holds h_X14_holds hw
    · replace hw := zz_ifn e10 hw
      by_cases e11 : t9 = 11
      · replace hw := zz_ifp e11 hw
        subst e11
        refine zz_callU (r := (zR_11, zT_11, 2)) (x := ⟨"DebateHall$Test", "holds", "(LDebateHall$Minutes;)Z"⟩) (owner := "DebateHall$Test") (As := [va_rf p0]) (rest := []) (mc := 0) (ms := 0) C hR hro dX15_holds_5 q1989 q1971 (Or.inl q1970) q1973 q1972 zl_DebateHall_Asked zk_X16_holds zyo_DebateHall_Test_holds__LDebateHall_Minutes__Z rfl (Nat.le_trans (by decide : 75 ≤ 75) hF) (by decide) hL (ok_X16_holds (zz_hl C) hw) (Nat.zero_le _) (Nat.zero_le _) (zz_cat10 _ (Nat.le_of_ble_eq_true rfl)) (fun r12 M13 hw => zz_kI hw (fun x16 hw => ?_)) (fun _ _ _ h9 => h9.elim) rfl
        refine zz_subP [] rfl ?_
        exact ok_X15_holds_B8 C E hH hR hF hfrr h_X15_holds h_X14_holds hw
      · replace hw := zz_ifn e11 hw
        exact hw.elim
theorem ok_X14_holds_B51 {G : zzX} (C : zz_C G cX14_holds "DebateHall$Several" 4) {K : Option Value → zzM → Prop} (E : zz_E G (some .boolean) K (fun _ _ _ => False)) (hH : zz_H G []) {fr frr : Nat} (hR : zz_Rm G fr) (hF : 75 ≤ fr) (hfrr : frr + 1 ≤ fr) {r_X15_holds : Option Nat → Option Nat → zzM → Nat → Nat → (Option Value → zzM → Prop) → Prop} (h_X15_holds : ∀ {u0 : Option Nat}{u1 : Option Nat}{M : zzM} {mc ms : Nat} {K : Option Value → zzM → Prop}, r_X15_holds u0 u1 M mc ms K → zz_Met (zz_Zof G) (zz_l G) yX15_holds (zz_ws yX15_holds cX15_holds 2 (some .boolean) none) frr [va_rf u0, va_rf u1] M mc ms K (fun _ _ _ => False)) {r_X14_holds : Option Nat → Option Nat → zzM → Nat → Nat → (Option Value → zzM → Prop) → Prop} (h_X14_holds : ∀ {u0 : Option Nat}{u1 : Option Nat}{M : zzM} {mc ms : Nat} {K : Option Value → zzM → Prop}, r_X14_holds u0 u1 M mc ms K → zz_Met (zz_Zof G) (zz_l G) yX14_holds (zz_ws yX14_holds cX14_holds 4 (some .boolean) none) frr [va_rf u0, va_rf u1] M mc ms K (fun _ _ _ => False)) {s0 : Int32} {M : zzM} {bc bs : Nat} (hw : wp_X14_holds_B51 (zz_Zof G) r_X15_holds r_X14_holds K s0 M bc bs) : zz_T G 4 M bc bs 51 [] [.int s0] := by
  unfold wp_X14_holds_B51 at hw
  exact zz_zret C E dX14_holds_51 hw
theorem ok_X14_holds_B32 {G : zzX} (C : zz_C G cX14_holds "DebateHall$Several" 4) {K : Option Value → zzM → Prop} (E : zz_E G (some .boolean) K (fun _ _ _ => False)) (hH : zz_H G []) {fr frr : Nat} (hR : zz_Rm G fr) (hF : 75 ≤ fr) (hfrr : frr + 1 ≤ fr) {r_X15_holds : Option Nat → Option Nat → zzM → Nat → Nat → (Option Value → zzM → Prop) → Prop} (h_X15_holds : ∀ {u0 : Option Nat}{u1 : Option Nat}{M : zzM} {mc ms : Nat} {K : Option Value → zzM → Prop}, r_X15_holds u0 u1 M mc ms K → zz_Met (zz_Zof G) (zz_l G) yX15_holds (zz_ws yX15_holds cX15_holds 2 (some .boolean) none) frr [va_rf u0, va_rf u1] M mc ms K (fun _ _ _ => False)) {r_X14_holds : Option Nat → Option Nat → zzM → Nat → Nat → (Option Value → zzM → Prop) → Prop} (h_X14_holds : ∀ {u0 : Option Nat}{u1 : Option Nat}{M : zzM} {mc ms : Nat} {K : Option Value → zzM → Prop}, r_X14_holds u0 u1 M mc ms K → zz_Met (zz_Zof G) (zz_l G) yX14_holds (zz_ws yX14_holds cX14_holds 4 (some .boolean) none) frr [va_rf u0, va_rf u1] M mc ms K (fun _ _ _ => False)) {k8 : Option Nat → Option Nat → Option Nat → zzM → Nat → Nat → Prop} (hk8 : ∀ (z0 : Option Nat) (z1 : Option Nat) (z2 : Option Nat) (M : zzM) (bc bs : Nat), k8 z0 z1 z2 M bc bs → zz_T G 4 M bc bs 8 [(0, va_rf z0), (1, va_rf z1), (2, va_rf z2)] []) {v0 : Option Nat} {v1 : Option Nat} {v2 : Option Nat} {s0 : Int32} {M : zzM} {bc bs : Nat} (hw : wp_X14_holds_B32 (zz_Zof G) r_X15_holds r_X14_holds k8 K v0 v1 v2 s0 M bc bs) : zz_T G 4 M bc bs 32 [(0, va_rf v0), (1, va_rf v1), (2, va_rf v2)] [.int s0] := by
  unfold wp_X14_holds_B32 at hw
  refine zz_aload_n C dX14_holds_32 rfl 0 rfl ?_
  refine zz_getI C dX14_holds_33 (Or.inl q1017) zf_9_0_teHall_Several hw (fun x33 hw => ?_)
  refine zz_icmp_eq (tgt := 52) C dX14_holds_36 (by decide) hw (fun hw => ?_) (fun hw => ?_)
  · refine zz_goto (tgt := 8) C dX14_holds_52 (by decide) ?_
    refine zz_subP [0, 1, 2] rfl ?_
    exact hk8 _ _ _ _ _ _ hw
  · refine zz_aload_n C dX14_holds_39 rfl 0 rfl ?_
    refine zz_getI C dX14_holds_40 (Or.inl q1017) zf_9_0_teHall_Several hw (fun x34 hw => ?_)
    refine zz_if_ne (tgt := 50) C dX14_holds_43 (by decide) hw (fun hw => ?_) (fun hw => ?_)
    · refine zz_iconst (v := (0 : Int32)) C dX14_holds_50 (by decide) ?_
      refine zz_subP [] rfl ?_
      exact ok_X14_holds_B51 C E hH hR hF hfrr h_X15_holds h_X14_holds hw
    · refine zz_iconst (v := (1 : Int32)) C dX14_holds_46 (by decide) ?_
      refine zz_goto (tgt := 51) C dX14_holds_47 (by decide) ?_
      refine zz_subP [] rfl ?_
      exact ok_X14_holds_B51 C E hH hR hF hfrr h_X15_holds h_X14_holds hw
theorem ok_X14_holds_L8 {G : zzX} (C : zz_C G cX14_holds "DebateHall$Several" 4) {K : Option Value → zzM → Prop} (E : zz_E G (some .boolean) K (fun _ _ _ => False)) (hH : zz_H G []) {fr frr : Nat} (hR : zz_Rm G fr) (hF : 75 ≤ fr) (hfrr : frr + 1 ≤ fr) {r_X15_holds : Option Nat → Option Nat → zzM → Nat → Nat → (Option Value → zzM → Prop) → Prop} (h_X15_holds : ∀ {u0 : Option Nat}{u1 : Option Nat}{M : zzM} {mc ms : Nat} {K : Option Value → zzM → Prop}, r_X15_holds u0 u1 M mc ms K → zz_Met (zz_Zof G) (zz_l G) yX15_holds (zz_ws yX15_holds cX15_holds 2 (some .boolean) none) frr [va_rf u0, va_rf u1] M mc ms K (fun _ _ _ => False)) {r_X14_holds : Option Nat → Option Nat → zzM → Nat → Nat → (Option Value → zzM → Prop) → Prop} (h_X14_holds : ∀ {u0 : Option Nat}{u1 : Option Nat}{M : zzM} {mc ms : Nat} {K : Option Value → zzM → Prop}, r_X14_holds u0 u1 M mc ms K → zz_Met (zz_Zof G) (zz_l G) yX14_holds (zz_ws yX14_holds cX14_holds 4 (some .boolean) none) frr [va_rf u0, va_rf u1] M mc ms K (fun _ _ _ => False)) : ∀ (n : Nat) (v0 : Option Nat) (v1 : Option Nat) (v2 : Option Nat) (M : zzM) (bc bs : Nat), wp_X14_holds_L8 (zz_Zof G) r_X15_holds r_X14_holds K n v0 v1 v2 M bc bs → zz_T G 4 M bc bs 8 [(0, va_rf v0), (1, va_rf v1), (2, va_rf v2)] [] := by
  intro n
  induction n with
  | zero =>
    intro v0 v1 v2 M bc bs hw
    exact False.elim hw
  | succ n ih =>
    intro v0 v1 v2 M bc bs hw
    refine zz_aload_n C dX14_holds_8 rfl 2 rfl ?_
    obtain ⟨a9, t9, b9, fs9, hro, hL, rfl, hw⟩ := ztyS hw
    refine zz_callF (r := (zR_23, zT_23, 4)) (x := ⟨"java/util/Iterator", "hasNext", "()Z"⟩) (As := []) (rest := []) (mc := 0) (ms := 0) C hR hro dX14_holds_9 q1920 (by decide +kernel) q1174 q1172 zl_java_util_ArrayList_Itr zk_J24_hasNext zyo_java_util_Iterator_hasNext___Z rfl (Nat.le_trans (by decide : 2 ≤ 75) hF) (by decide) hL (ok_J24_hasNext (zz_hl C) hw) (Nat.zero_le _) (Nat.zero_le _) (zz_cat10 _ (Nat.le_of_ble_eq_true rfl)) (fun r7 M8 hw => zz_kI hw (fun x11 hw => ?_)) (fun _ _ _ h9 => h9.elim) rfl
    refine zz_if_eq (tgt := 55) C dX14_holds_14 (by decide) hw (fun hw => ?_) (fun hw => ?_)
    · refine zz_aload_n C dX14_holds_55 rfl 0 rfl ?_
      refine zz_getI C dX14_holds_56 (Or.inl q1017) zf_9_0_teHall_Several hw (fun x12 hw => ?_)
      exact zz_zret C E dX14_holds_59 hw
    · refine zz_aload_n C dX14_holds_17 rfl 2 rfl ?_
      obtain ⟨a9, t9, b9, fs9, hro, hL, rfl, hw⟩ := ztyS hw
      refine zz_callF (r := (zR_23, zT_23, 4)) (x := ⟨"java/util/Iterator", "next", "()Ljava/lang/Object;"⟩) (As := []) (rest := []) (mc := 0) (ms := 0) C hR hro dX14_holds_18 q1922 (by decide +kernel) q1183 q1181 zl_java_util_ArrayList_Itr zk_J24_next zyo_java_util_Iterator_next___Ljava_lang_Object_ rfl (Nat.le_trans (by decide : 3 ≤ 75) hF) (by decide) hL (ok_J24_next (zz_hl C) hw) (Nat.zero_le _) (Nat.zero_le _) (zz_cat10 _ (Nat.le_of_ble_eq_true rfl)) (fun r13 M14 hw => zz_kA hw (fun x17 hw => ?_)) (fun _ _ _ h9 => h9.elim) rfl
      refine zz_cast C dX14_holds_23 q1923 zc_9_10_11_ebateHall_Test hw (fun hw => ?_)
      refine zz_astore_n (i := 3) (lv' := [(3, va_rf x17), (0, va_rf v0), (1, va_rf v1), (2, va_rf v2)]) C dX14_holds_26 rfl (by decide) (by simp [zz_cat, zz_catI, zz_catJ, zz_catD]) ?_
      refine zz_aload_n C dX14_holds_27 rfl 0 rfl ?_
      refine zz_aload_n C dX14_holds_28 rfl 2 rfl ?_
      obtain ⟨a9, t9, b9, fs9, hro, hL, hw⟩ := ztyS hw
      by_cases e9 : t9 = 9
      · replace hw := zz_ifp e9 hw
        subst e9
        obtain ⟨c9, s9, hc9, hs9, hw⟩ := hw
        refine zz_callU (r := (zR_9, zT_9, 2)) (x := ⟨"DebateHall$Test", "holds", "(LDebateHall$Minutes;)Z"⟩) (owner := "DebateHall$Test") (As := [va_rf v1]) (rest := []) C hR hro dX14_holds_29 q1992 q1971 (Or.inl q1970) q1990 q1993 zl_DebateHall_Several zk_X14_holds zyo_DebateHall_Test_holds__LDebateHall_Minutes__Z rfl hfrr (by decide) hL (h_X14_holds hw) hc9 hs9 (zz_cat10 _ (Nat.le_of_ble_eq_true rfl)) (fun r18 M19 hw => zz_kI hw (fun x22 hw => ?_)) (fun _ _ _ h9 => h9.elim) rfl
        refine zz_subP [1, 2, 3] rfl ?_
        exact ok_X14_holds_B32 C E hH hR hF hfrr h_X15_holds h_X14_holds (fun z0 z1 z2 z3 z4 z5 hw => ih z0 z1 z2 z3 z4 z5 hw) hw
      · replace hw := zz_ifn e9 hw
        by_cases e10 : t9 = 10
        · replace hw := zz_ifp e10 hw
          subst e10
          obtain ⟨c9, s9, hc9, hs9, hw⟩ := hw
          refine zz_callU (r := (zR_10, zT_10, 1)) (x := ⟨"DebateHall$Test", "holds", "(LDebateHall$Minutes;)Z"⟩) (owner := "DebateHall$Test") (As := [va_rf v1]) (rest := []) C hR hro dX14_holds_29 q1992 q1971 (Or.inl q1970) q1987 q1986 zl_DebateHall_Denied zk_X15_holds zyo_DebateHall_Test_holds__LDebateHall_Minutes__Z rfl hfrr (by decide) hL (h_X15_holds hw) hc9 hs9 (zz_cat10 _ (Nat.le_of_ble_eq_true rfl)) (fun r23 M24 hw => zz_kI hw (fun x27 hw => ?_)) (fun _ _ _ h9 => h9.elim) rfl
          refine zz_subP [1, 2, 3] rfl ?_
          exact ok_X14_holds_B32 C E hH hR hF hfrr h_X15_holds h_X14_holds (fun z0 z1 z2 z3 z4 z5 hw => ih z0 z1 z2 z3 z4 z5 hw) hw
        · replace hw := zz_ifn e10 hw
          by_cases e11 : t9 = 11
          · replace hw := zz_ifp e11 hw
            subst e11
            refine zz_callU (r := (zR_11, zT_11, 2)) (x := ⟨"DebateHall$Test", "holds", "(LDebateHall$Minutes;)Z"⟩) (owner := "DebateHall$Test") (As := [va_rf v1]) (rest := []) (mc := 0) (ms := 0) C hR hro dX14_holds_29 q1992 q1971 (Or.inl q1970) q1973 q1972 zl_DebateHall_Asked zk_X16_holds zyo_DebateHall_Test_holds__LDebateHall_Minutes__Z rfl (Nat.le_trans (by decide : 75 ≤ 75) hF) (by decide) hL (ok_X16_holds (zz_hl C) hw) (Nat.zero_le _) (Nat.zero_le _) (zz_cat10 _ (Nat.le_of_ble_eq_true rfl)) (fun r28 M29 hw => zz_kI hw (fun x32 hw => ?_)) (fun _ _ _ h9 => h9.elim) rfl
            refine zz_subP [1, 2, 3] rfl ?_
            exact ok_X14_holds_B32 C E hH hR hF hfrr h_X15_holds h_X14_holds (fun z0 z1 z2 z3 z4 z5 hw => ih z0 z1 z2 z3 z4 z5 hw) hw
          · replace hw := zz_ifn e11 hw
            exact hw.elim
theorem okb_X14_holds {Z : zzG} {l : Launch} (hl : l.stackTraces = false) {fr frr : Nat} (hF : 75 ≤ fr) (hfrr : frr + 1 ≤ fr) {r_X15_holds : Option Nat → Option Nat → zzM → Nat → Nat → (Option Value → zzM → Prop) → Prop} (h_X15_holds : ∀ {u0 : Option Nat}{u1 : Option Nat}{M : zzM} {mc ms : Nat} {K : Option Value → zzM → Prop}, r_X15_holds u0 u1 M mc ms K → zz_Met Z l yX15_holds (zz_ws yX15_holds cX15_holds 2 (some .boolean) none) frr [va_rf u0, va_rf u1] M mc ms K (fun _ _ _ => False)) {r_X14_holds : Option Nat → Option Nat → zzM → Nat → Nat → (Option Value → zzM → Prop) → Prop} (h_X14_holds : ∀ {u0 : Option Nat}{u1 : Option Nat}{M : zzM} {mc ms : Nat} {K : Option Value → zzM → Prop}, r_X14_holds u0 u1 M mc ms K → zz_Met Z l yX14_holds (zz_ws yX14_holds cX14_holds 4 (some .boolean) none) frr [va_rf u0, va_rf u1] M mc ms K (fun _ _ _ => False)) {this : Option Nat} {p0 : Option Nat} {M : zzM} {mc ms : Nat} {K : Option Value → zzM → Prop} (hw : wpb_X14_holds Z r_X15_holds r_X14_holds this p0 M mc ms K) : zz_Met Z l yX14_holds (zz_ws yX14_holds cX14_holds 4 (some .boolean) none) fr [va_rf this, va_rf p0] M mc ms K (fun _ _ _ => False) := by
  refine zz_ofW hl (plainFor_of_name (by decide)) (by simp only [zz_sl0, zz_slI, zz_slJ, zz_slA] <;> decide) (fun G hZ hll C E hH hR hin => ?_)
  subst hZ
  subst hll
  rw [show lv_args 0 [va_rf this, va_rf p0] = [(0, va_rf this), (1, va_rf p0)] by simp only [zz_la0, zz_laI, zz_laJ, zz_laA]]
  unfold wpb_X14_holds at hw
  refine zz_aload_n C dX14_holds_0 rfl 0 rfl ?_
  refine zz_getA C dX14_holds_1 (Or.inl q1018) zf_9_1_teHall_Several hw (fun x1 hw => ?_)
  obtain ⟨a9, t9, b9, fs9, hro, hL, rfl, hw⟩ := ztyS hw
  obtain ⟨c9, s9, hc9, hs9, hw⟩ := hw
  refine zz_callV (r := (zR_18, zT_18, 3)) (As := []) (rest := []) C hR hro dX14_holds_4 (Or.inl q1918) q1145 (Or.inl q1146) zl_java_util_ArrayList zk_J2_iterator (Or.inl rfl) zy_J2_iterator rfl (Nat.le_trans (by decide : 4 ≤ 75) hF) (by decide) hL (ok_J2_iterator (zz_hl C) hw) hc9 hs9 (zz_cat10 _ (Nat.le_of_ble_eq_true rfl)) (fun r2 M3 hw => zz_kA hw (fun x6 hw => ?_)) (fun _ _ _ h9 => h9.elim) rfl
  refine zz_astore_n (i := 2) (lv' := [(2, va_rf x6), (0, va_rf this), (1, va_rf p0)]) C dX14_holds_7 rfl (by decide) (by simp [zz_cat, zz_catI, zz_catJ, zz_catD]) ?_
  refine zz_subP [1, 2, 0] rfl ?_
  obtain ⟨n8, hw⟩ := hw
  exact ok_X14_holds_L8 C E hH hR hF hfrr h_X15_holds h_X14_holds n8 _ _ _ _ _ _ hw
def wpR_X15_holds_X14_holds (Z : zzG) : Nat → (Option Nat → Option Nat → zzM → Nat → Nat → (Option Value → zzM → Prop) → Prop) × (Option Nat → Option Nat → zzM → Nat → Nat → (Option Value → zzM → Prop) → Prop)
  | 0 => (fun _ _ _ _ _ _ => False, fun _ _ _ _ _ _ => False)
  | n + 1 => (wpb_X15_holds Z ((wpR_X15_holds_X14_holds Z n).1) ((wpR_X15_holds_X14_holds Z n).2), wpb_X14_holds Z ((wpR_X15_holds_X14_holds Z n).1) ((wpR_X15_holds_X14_holds Z n).2))
def wp_X15_holds (Z : zzG) : Option Nat → Option Nat → zzM → Nat → Nat → (Option Value → zzM → Prop) → Prop := (wpR_X15_holds_X14_holds Z 60).1
def wp_X14_holds (Z : zzG) : Option Nat → Option Nat → zzM → Nat → Nat → (Option Value → zzM → Prop) → Prop := (wpR_X15_holds_X14_holds Z 60).2
theorem okR_X15_holds_X14_holds {Z : zzG} {l : Launch} (hl : l.stackTraces = false) : ∀ n : Nat, (∀ {u0 : Option Nat}{u1 : Option Nat}{M : zzM} {mc ms : Nat} {K : Option Value → zzM → Prop}, (wpR_X15_holds_X14_holds Z n).1 u0 u1 M mc ms K → zz_Met Z l yX15_holds (zz_ws yX15_holds cX15_holds 2 (some .boolean) none) (75 + n) [va_rf u0, va_rf u1] M mc ms K (fun _ _ _ => False)) ∧ (∀ {u0 : Option Nat}{u1 : Option Nat}{M : zzM} {mc ms : Nat} {K : Option Value → zzM → Prop}, (wpR_X15_holds_X14_holds Z n).2 u0 u1 M mc ms K → zz_Met Z l yX14_holds (zz_ws yX14_holds cX14_holds 4 (some .boolean) none) (75 + n) [va_rf u0, va_rf u1] M mc ms K (fun _ _ _ => False)) := by
  intro n
  induction n with
  | zero =>
    exact ⟨fun h => h.elim, fun h => h.elim⟩
  | succ n ih =>
    exact ⟨fun h => okb_X15_holds hl (fr := 75 + (n + 1)) (frr := 75 + n) (Nat.le_add_right _ _) (Nat.le_refl _) ih.1 ih.2 h, fun h => okb_X14_holds hl (fr := 75 + (n + 1)) (frr := 75 + n) (Nat.le_add_right _ _) (Nat.le_refl _) ih.1 ih.2 h⟩
theorem ok_X15_holds {Z : zzG} {l : Launch} (hl : l.stackTraces = false) {u0 : Option Nat} {u1 : Option Nat} {M : zzM} {mc ms : Nat} {K : Option Value → zzM → Prop} (hw : wp_X15_holds Z u0 u1 M mc ms K) : zz_Met Z l yX15_holds (zz_ws yX15_holds cX15_holds 2 (some .boolean) none) 135 [va_rf u0, va_rf u1] M mc ms K (fun _ _ _ => False) :=
  (okR_X15_holds_X14_holds hl 60).1 hw
theorem ok_X14_holds {Z : zzG} {l : Launch} (hl : l.stackTraces = false) {u0 : Option Nat} {u1 : Option Nat} {M : zzM} {mc ms : Nat} {K : Option Value → zzM → Prop} (hw : wp_X14_holds Z u0 u1 M mc ms K) : zz_Met Z l yX14_holds (zz_ws yX14_holds cX14_holds 4 (some .boolean) none) 135 [va_rf u0, va_rf u1] M mc ms K (fun _ _ _ => False) :=
  (okR_X15_holds_X14_holds hl 60).2 hw
abbrev cX17_carryOut : ByteArray := prog_21_method_2_code
def yX17_carryOut : MethodName := ⟨"DebateHall$Thrust", "carryOut", "(LDebateHall$Minutes;)V"⟩
def dkwX17_carryOut_9 : List UInt8 := [45, 183, 0, 114, 182, 0, 117, 177]
abbrev dktX17_carryOut_9 : List UInt8 := dkwX17_carryOut_9 ++ []
def dkwX17_carryOut_8 : List UInt8 := [180, 0, 99, 182, 0, 103, 42, 180, 0, 9, 42, 180, 0, 15, 180, 0, 108, 44, 180, 0, 55, 21, 4, 44]
abbrev dktX17_carryOut_8 : List UInt8 := dkwX17_carryOut_8 ++ dktX17_carryOut_9
def dkwX17_carryOut_7 : List UInt8 := [182, 0, 72, 192, 0, 76, 43, 1, 182, 0, 89, 182, 0, 95, 154, 0, 4, 177, 43, 187, 0, 41, 89, 43]
abbrev dktX17_carryOut_7 : List UInt8 := dkwX17_carryOut_7 ++ dktX17_carryOut_8
def dkwX17_carryOut_6 : List UInt8 := [180, 0, 82, 21, 4, 96, 182, 0, 85, 42, 180, 0, 28, 182, 0, 66, 153, 0, 25, 42, 180, 0, 28]
abbrev dktX17_carryOut_6 : List UInt8 := dkwX17_carryOut_6 ++ dktX17_carryOut_7
def dkwX17_carryOut_5 : List UInt8 := [180, 0, 28, 182, 0, 72, 192, 0, 76, 43, 182, 0, 78, 42, 43, 44, 180, 0, 55, 42, 180, 0, 9]
abbrev dktX17_carryOut_5 : List UInt8 := dkwX17_carryOut_5 ++ dktX17_carryOut_6
def dkwX17_carryOut_4 : List UInt8 := [180, 0, 9, 180, 0, 59, 184, 0, 62, 54, 4, 42, 180, 0, 28, 182, 0, 66, 153, 0, 17, 42]
abbrev dktX17_carryOut_4 : List UInt8 := dkwX17_carryOut_4 ++ dktX17_carryOut_5
def dkwX17_carryOut_3 : List UInt8 := [159, 0, 7, 4, 167, 0, 4, 3, 42, 180, 0, 22, 184, 0, 48, 42, 180, 0, 25, 4, 16, 50, 42]
abbrev dktX17_carryOut_3 : List UInt8 := dkwX17_carryOut_3 ++ dktX17_carryOut_4
def dkwX17_carryOut_2 : List UInt8 := [184, 0, 36, 78, 16, 6, 42, 180, 0, 9, 178, 0, 52, 166, 0, 14, 45, 180, 0, 55, 44, 180, 0, 55]
abbrev dktX17_carryOut_2 : List UInt8 := dkwX17_carryOut_2 ++ dktX17_carryOut_3
def dkwX17_carryOut_1 : List UInt8 := [178, 0, 43, 166, 0, 7, 4, 167, 0, 4, 3, 42, 180, 0, 19, 184, 0, 48, 43, 42, 180, 0, 22]
abbrev dktX17_carryOut_1 : List UInt8 := dkwX17_carryOut_1 ++ dktX17_carryOut_2
def dkwX17_carryOut_0 : List UInt8 := [43, 42, 180, 0, 15, 184, 0, 32, 43, 42, 180, 0, 19, 184, 0, 36, 77, 6, 44, 180, 0, 40]
abbrev dktX17_carryOut_0 : List UInt8 := dkwX17_carryOut_0 ++ dktX17_carryOut_1
theorem dksX17_carryOut_0 : cX17_carryOut.data.toList.drop 0 = dktX17_carryOut_0 := by decide +kernel
theorem dksX17_carryOut_1 : cX17_carryOut.data.toList.drop 22 = dktX17_carryOut_1 := dk_seg dksX17_carryOut_0 22 rfl rfl
theorem dksX17_carryOut_2 : cX17_carryOut.data.toList.drop 45 = dktX17_carryOut_2 := dk_seg dksX17_carryOut_1 23 rfl rfl
theorem dksX17_carryOut_3 : cX17_carryOut.data.toList.drop 69 = dktX17_carryOut_3 := dk_seg dksX17_carryOut_2 24 rfl rfl
theorem dksX17_carryOut_4 : cX17_carryOut.data.toList.drop 92 = dktX17_carryOut_4 := dk_seg dksX17_carryOut_3 23 rfl rfl
theorem dksX17_carryOut_5 : cX17_carryOut.data.toList.drop 114 = dktX17_carryOut_5 := dk_seg dksX17_carryOut_4 22 rfl rfl
theorem dksX17_carryOut_6 : cX17_carryOut.data.toList.drop 137 = dktX17_carryOut_6 := dk_seg dksX17_carryOut_5 23 rfl rfl
theorem dksX17_carryOut_7 : cX17_carryOut.data.toList.drop 160 = dktX17_carryOut_7 := dk_seg dksX17_carryOut_6 23 rfl rfl
theorem dksX17_carryOut_8 : cX17_carryOut.data.toList.drop 184 = dktX17_carryOut_8 := dk_seg dksX17_carryOut_7 24 rfl rfl
theorem dksX17_carryOut_9 : cX17_carryOut.data.toList.drop 208 = dktX17_carryOut_9 := dk_seg dksX17_carryOut_8 24 rfl rfl
theorem dX17_carryOut_0 : decode cX17_carryOut 0 = .ok (.aload_n 1, 1) := dk_43 (dk_at dksX17_carryOut_0 0 rfl rfl)
theorem dX17_carryOut_1 : decode cX17_carryOut 1 = .ok (.aload_n 0, 1) := dk_42 (dk_at dksX17_carryOut_0 1 rfl rfl)
theorem dX17_carryOut_2 : decode cX17_carryOut 2 = .ok (.getfield 15, 3) := dk_180 0 15 (dk_at dksX17_carryOut_0 2 rfl rfl)
theorem dX17_carryOut_5 : decode cX17_carryOut 5 = .ok (.invokestatic 32, 3) := dk_184 0 32 (dk_at dksX17_carryOut_0 5 rfl rfl)
theorem dX17_carryOut_8 : decode cX17_carryOut 8 = .ok (.aload_n 1, 1) := dk_43 (dk_at dksX17_carryOut_0 8 rfl rfl)
theorem dX17_carryOut_9 : decode cX17_carryOut 9 = .ok (.aload_n 0, 1) := dk_42 (dk_at dksX17_carryOut_0 9 rfl rfl)
theorem dX17_carryOut_10 : decode cX17_carryOut 10 = .ok (.getfield 19, 3) := dk_180 0 19 (dk_at dksX17_carryOut_0 10 rfl rfl)
theorem dX17_carryOut_13 : decode cX17_carryOut 13 = .ok (.invokestatic 36, 3) := dk_184 0 36 (dk_at dksX17_carryOut_0 13 rfl rfl)
theorem dX17_carryOut_16 : decode cX17_carryOut 16 = .ok (.astore_n 2, 1) := dk_77 (dk_at dksX17_carryOut_0 16 rfl rfl)
theorem dX17_carryOut_17 : decode cX17_carryOut 17 = .ok (.iconst 3, 1) := dk_6 (dk_at dksX17_carryOut_0 17 rfl rfl)
theorem dX17_carryOut_18 : decode cX17_carryOut 18 = .ok (.aload_n 2, 1) := dk_44 (dk_at dksX17_carryOut_0 18 rfl rfl)
theorem dX17_carryOut_19 : decode cX17_carryOut 19 = .ok (.getfield 40, 3) := dk_180 0 40 (dk_at dksX17_carryOut_0 19 rfl rfl)
theorem dX17_carryOut_22 : decode cX17_carryOut 22 = .ok (.getstatic 43, 3) := dk_178 0 43 (dk_at dksX17_carryOut_1 0 rfl rfl)
theorem dX17_carryOut_25 : decode cX17_carryOut 25 = .ok (.if_acmp .ne 7, 3) := dk_166 0 7 (dk_at dksX17_carryOut_1 3 rfl rfl)
theorem dX17_carryOut_28 : decode cX17_carryOut 28 = .ok (.iconst 1, 1) := dk_4 (dk_at dksX17_carryOut_1 6 rfl rfl)
theorem dX17_carryOut_29 : decode cX17_carryOut 29 = .ok (.goto 4, 3) := dk_167 0 4 (dk_at dksX17_carryOut_1 7 rfl rfl)
theorem dX17_carryOut_32 : decode cX17_carryOut 32 = .ok (.iconst 0, 1) := dk_3 (dk_at dksX17_carryOut_1 10 rfl rfl)
theorem dX17_carryOut_33 : decode cX17_carryOut 33 = .ok (.aload_n 0, 1) := dk_42 (dk_at dksX17_carryOut_1 11 rfl rfl)
theorem dX17_carryOut_34 : decode cX17_carryOut 34 = .ok (.getfield 19, 3) := dk_180 0 19 (dk_at dksX17_carryOut_1 12 rfl rfl)
theorem dX17_carryOut_37 : decode cX17_carryOut 37 = .ok (.invokestatic 48, 3) := dk_184 0 48 (dk_at dksX17_carryOut_1 15 rfl rfl)
theorem dX17_carryOut_40 : decode cX17_carryOut 40 = .ok (.aload_n 1, 1) := dk_43 (dk_at dksX17_carryOut_1 18 rfl rfl)
theorem dX17_carryOut_41 : decode cX17_carryOut 41 = .ok (.aload_n 0, 1) := dk_42 (dk_at dksX17_carryOut_1 19 rfl rfl)
theorem dX17_carryOut_42 : decode cX17_carryOut 42 = .ok (.getfield 22, 3) := dk_180 0 22 (dk_at dksX17_carryOut_1 20 rfl rfl)
theorem dX17_carryOut_45 : decode cX17_carryOut 45 = .ok (.invokestatic 36, 3) := dk_184 0 36 (dk_at dksX17_carryOut_2 0 rfl rfl)
theorem dX17_carryOut_48 : decode cX17_carryOut 48 = .ok (.astore_n 3, 1) := dk_78 (dk_at dksX17_carryOut_2 3 rfl rfl)
theorem dX17_carryOut_49 : decode cX17_carryOut 49 = .ok (.bipush 6, 2) := dk_16 6 (dk_at dksX17_carryOut_2 4 rfl rfl)
theorem dX17_carryOut_51 : decode cX17_carryOut 51 = .ok (.aload_n 0, 1) := dk_42 (dk_at dksX17_carryOut_2 6 rfl rfl)
theorem dX17_carryOut_52 : decode cX17_carryOut 52 = .ok (.getfield 9, 3) := dk_180 0 9 (dk_at dksX17_carryOut_2 7 rfl rfl)
theorem dX17_carryOut_55 : decode cX17_carryOut 55 = .ok (.getstatic 52, 3) := dk_178 0 52 (dk_at dksX17_carryOut_2 10 rfl rfl)
theorem dX17_carryOut_58 : decode cX17_carryOut 58 = .ok (.if_acmp .ne 14, 3) := dk_166 0 14 (dk_at dksX17_carryOut_2 13 rfl rfl)
theorem dX17_carryOut_61 : decode cX17_carryOut 61 = .ok (.aload_n 3, 1) := dk_45 (dk_at dksX17_carryOut_2 16 rfl rfl)
theorem dX17_carryOut_62 : decode cX17_carryOut 62 = .ok (.getfield 55, 3) := dk_180 0 55 (dk_at dksX17_carryOut_2 17 rfl rfl)
theorem dX17_carryOut_65 : decode cX17_carryOut 65 = .ok (.aload_n 2, 1) := dk_44 (dk_at dksX17_carryOut_2 20 rfl rfl)
theorem dX17_carryOut_66 : decode cX17_carryOut 66 = .ok (.getfield 55, 3) := dk_180 0 55 (dk_at dksX17_carryOut_2 21 rfl rfl)
theorem dX17_carryOut_69 : decode cX17_carryOut 69 = .ok (.if_icmp .eq 7, 3) := dk_159 0 7 (dk_at dksX17_carryOut_3 0 rfl rfl)
theorem dX17_carryOut_72 : decode cX17_carryOut 72 = .ok (.iconst 1, 1) := dk_4 (dk_at dksX17_carryOut_3 3 rfl rfl)
theorem dX17_carryOut_73 : decode cX17_carryOut 73 = .ok (.goto 4, 3) := dk_167 0 4 (dk_at dksX17_carryOut_3 4 rfl rfl)
theorem dX17_carryOut_76 : decode cX17_carryOut 76 = .ok (.iconst 0, 1) := dk_3 (dk_at dksX17_carryOut_3 7 rfl rfl)
theorem dX17_carryOut_77 : decode cX17_carryOut 77 = .ok (.aload_n 0, 1) := dk_42 (dk_at dksX17_carryOut_3 8 rfl rfl)
theorem dX17_carryOut_78 : decode cX17_carryOut 78 = .ok (.getfield 22, 3) := dk_180 0 22 (dk_at dksX17_carryOut_3 9 rfl rfl)
theorem dX17_carryOut_81 : decode cX17_carryOut 81 = .ok (.invokestatic 48, 3) := dk_184 0 48 (dk_at dksX17_carryOut_3 12 rfl rfl)
theorem dX17_carryOut_84 : decode cX17_carryOut 84 = .ok (.aload_n 0, 1) := dk_42 (dk_at dksX17_carryOut_3 15 rfl rfl)
theorem dX17_carryOut_85 : decode cX17_carryOut 85 = .ok (.getfield 25, 3) := dk_180 0 25 (dk_at dksX17_carryOut_3 16 rfl rfl)
theorem dX17_carryOut_88 : decode cX17_carryOut 88 = .ok (.iconst 1, 1) := dk_4 (dk_at dksX17_carryOut_3 19 rfl rfl)
theorem dX17_carryOut_89 : decode cX17_carryOut 89 = .ok (.bipush 50, 2) := dk_16 50 (dk_at dksX17_carryOut_3 20 rfl rfl)
theorem dX17_carryOut_91 : decode cX17_carryOut 91 = .ok (.aload_n 0, 1) := dk_42 (dk_at dksX17_carryOut_3 22 rfl rfl)
theorem dX17_carryOut_92 : decode cX17_carryOut 92 = .ok (.getfield 9, 3) := dk_180 0 9 (dk_at dksX17_carryOut_4 0 rfl rfl)
theorem dX17_carryOut_95 : decode cX17_carryOut 95 = .ok (.getfield 59, 3) := dk_180 0 59 (dk_at dksX17_carryOut_4 3 rfl rfl)
theorem dX17_carryOut_98 : decode cX17_carryOut 98 = .ok (.invokestatic 62, 3) := dk_184 0 62 (dk_at dksX17_carryOut_4 6 rfl rfl)
theorem dX17_carryOut_101 : decode cX17_carryOut 101 = .ok (.istore 4, 2) := dk_54 4 (dk_at dksX17_carryOut_4 9 rfl rfl)
theorem dX17_carryOut_103 : decode cX17_carryOut 103 = .ok (.aload_n 0, 1) := dk_42 (dk_at dksX17_carryOut_4 11 rfl rfl)
theorem dX17_carryOut_104 : decode cX17_carryOut 104 = .ok (.getfield 28, 3) := dk_180 0 28 (dk_at dksX17_carryOut_4 12 rfl rfl)
theorem dX17_carryOut_107 : decode cX17_carryOut 107 = .ok (.invokevirtual 66, 3) := dk_182 0 66 (dk_at dksX17_carryOut_4 15 rfl rfl)
theorem dX17_carryOut_110 : decode cX17_carryOut 110 = .ok (.ifCond .eq 17, 3) := dk_153 0 17 (dk_at dksX17_carryOut_4 18 rfl rfl)
theorem dX17_carryOut_113 : decode cX17_carryOut 113 = .ok (.aload_n 0, 1) := dk_42 (dk_at dksX17_carryOut_4 21 rfl rfl)
theorem dX17_carryOut_114 : decode cX17_carryOut 114 = .ok (.getfield 28, 3) := dk_180 0 28 (dk_at dksX17_carryOut_5 0 rfl rfl)
theorem dX17_carryOut_117 : decode cX17_carryOut 117 = .ok (.invokevirtual 72, 3) := dk_182 0 72 (dk_at dksX17_carryOut_5 3 rfl rfl)
theorem dX17_carryOut_120 : decode cX17_carryOut 120 = .ok (.checkcast 76, 3) := dk_192 0 76 (dk_at dksX17_carryOut_5 6 rfl rfl)
theorem dX17_carryOut_123 : decode cX17_carryOut 123 = .ok (.aload_n 1, 1) := dk_43 (dk_at dksX17_carryOut_5 9 rfl rfl)
theorem dX17_carryOut_124 : decode cX17_carryOut 124 = .ok (.invokevirtual 78, 3) := dk_182 0 78 (dk_at dksX17_carryOut_5 10 rfl rfl)
theorem dX17_carryOut_127 : decode cX17_carryOut 127 = .ok (.aload_n 0, 1) := dk_42 (dk_at dksX17_carryOut_5 13 rfl rfl)
theorem dX17_carryOut_128 : decode cX17_carryOut 128 = .ok (.aload_n 1, 1) := dk_43 (dk_at dksX17_carryOut_5 14 rfl rfl)
theorem dX17_carryOut_129 : decode cX17_carryOut 129 = .ok (.aload_n 2, 1) := dk_44 (dk_at dksX17_carryOut_5 15 rfl rfl)
theorem dX17_carryOut_130 : decode cX17_carryOut 130 = .ok (.getfield 55, 3) := dk_180 0 55 (dk_at dksX17_carryOut_5 16 rfl rfl)
theorem dX17_carryOut_133 : decode cX17_carryOut 133 = .ok (.aload_n 0, 1) := dk_42 (dk_at dksX17_carryOut_5 19 rfl rfl)
theorem dX17_carryOut_134 : decode cX17_carryOut 134 = .ok (.getfield 9, 3) := dk_180 0 9 (dk_at dksX17_carryOut_5 20 rfl rfl)
theorem dX17_carryOut_137 : decode cX17_carryOut 137 = .ok (.getfield 82, 3) := dk_180 0 82 (dk_at dksX17_carryOut_6 0 rfl rfl)
theorem dX17_carryOut_140 : decode cX17_carryOut 140 = .ok (.iload 4, 2) := dk_21 4 (dk_at dksX17_carryOut_6 3 rfl rfl)
theorem dX17_carryOut_142 : decode cX17_carryOut 142 = .ok (.iadd, 1) := dk_96 (dk_at dksX17_carryOut_6 5 rfl rfl)
theorem dX17_carryOut_143 : decode cX17_carryOut 143 = .ok (.invokevirtual 85, 3) := dk_182 0 85 (dk_at dksX17_carryOut_6 6 rfl rfl)
theorem dX17_carryOut_146 : decode cX17_carryOut 146 = .ok (.aload_n 0, 1) := dk_42 (dk_at dksX17_carryOut_6 9 rfl rfl)
theorem dX17_carryOut_147 : decode cX17_carryOut 147 = .ok (.getfield 28, 3) := dk_180 0 28 (dk_at dksX17_carryOut_6 10 rfl rfl)
theorem dX17_carryOut_150 : decode cX17_carryOut 150 = .ok (.invokevirtual 66, 3) := dk_182 0 66 (dk_at dksX17_carryOut_6 13 rfl rfl)
theorem dX17_carryOut_153 : decode cX17_carryOut 153 = .ok (.ifCond .eq 25, 3) := dk_153 0 25 (dk_at dksX17_carryOut_6 16 rfl rfl)
theorem dX17_carryOut_156 : decode cX17_carryOut 156 = .ok (.aload_n 0, 1) := dk_42 (dk_at dksX17_carryOut_6 19 rfl rfl)
theorem dX17_carryOut_157 : decode cX17_carryOut 157 = .ok (.getfield 28, 3) := dk_180 0 28 (dk_at dksX17_carryOut_6 20 rfl rfl)
theorem dX17_carryOut_160 : decode cX17_carryOut 160 = .ok (.invokevirtual 72, 3) := dk_182 0 72 (dk_at dksX17_carryOut_7 0 rfl rfl)
theorem dX17_carryOut_163 : decode cX17_carryOut 163 = .ok (.checkcast 76, 3) := dk_192 0 76 (dk_at dksX17_carryOut_7 3 rfl rfl)
theorem dX17_carryOut_166 : decode cX17_carryOut 166 = .ok (.aload_n 1, 1) := dk_43 (dk_at dksX17_carryOut_7 6 rfl rfl)
theorem dX17_carryOut_167 : decode cX17_carryOut 167 = .ok (.aconst_null, 1) := dk_1 (dk_at dksX17_carryOut_7 7 rfl rfl)
theorem dX17_carryOut_168 : decode cX17_carryOut 168 = .ok (.invokevirtual 89, 3) := dk_182 0 89 (dk_at dksX17_carryOut_7 8 rfl rfl)
theorem dX17_carryOut_171 : decode cX17_carryOut 171 = .ok (.invokevirtual 95, 3) := dk_182 0 95 (dk_at dksX17_carryOut_7 11 rfl rfl)
theorem dX17_carryOut_174 : decode cX17_carryOut 174 = .ok (.ifCond .ne 4, 3) := dk_154 0 4 (dk_at dksX17_carryOut_7 14 rfl rfl)
theorem dX17_carryOut_177 : decode cX17_carryOut 177 = .ok (.return_, 1) := dk_177 (dk_at dksX17_carryOut_7 17 rfl rfl)
theorem dX17_carryOut_178 : decode cX17_carryOut 178 = .ok (.aload_n 1, 1) := dk_43 (dk_at dksX17_carryOut_7 18 rfl rfl)
theorem dX17_carryOut_179 : decode cX17_carryOut 179 = .ok (.new 41, 3) := dk_187 0 41 (dk_at dksX17_carryOut_7 19 rfl rfl)
theorem dX17_carryOut_182 : decode cX17_carryOut 182 = .ok (.dup, 1) := dk_89 (dk_at dksX17_carryOut_7 22 rfl rfl)
theorem dX17_carryOut_183 : decode cX17_carryOut 183 = .ok (.aload_n 1, 1) := dk_43 (dk_at dksX17_carryOut_7 23 rfl rfl)
theorem dX17_carryOut_184 : decode cX17_carryOut 184 = .ok (.getfield 99, 3) := dk_180 0 99 (dk_at dksX17_carryOut_8 0 rfl rfl)
theorem dX17_carryOut_187 : decode cX17_carryOut 187 = .ok (.invokevirtual 103, 3) := dk_182 0 103 (dk_at dksX17_carryOut_8 3 rfl rfl)
theorem dX17_carryOut_190 : decode cX17_carryOut 190 = .ok (.aload_n 0, 1) := dk_42 (dk_at dksX17_carryOut_8 6 rfl rfl)
theorem dX17_carryOut_191 : decode cX17_carryOut 191 = .ok (.getfield 9, 3) := dk_180 0 9 (dk_at dksX17_carryOut_8 7 rfl rfl)
theorem dX17_carryOut_194 : decode cX17_carryOut 194 = .ok (.aload_n 0, 1) := dk_42 (dk_at dksX17_carryOut_8 10 rfl rfl)
theorem dX17_carryOut_195 : decode cX17_carryOut 195 = .ok (.getfield 15, 3) := dk_180 0 15 (dk_at dksX17_carryOut_8 11 rfl rfl)
theorem dX17_carryOut_198 : decode cX17_carryOut 198 = .ok (.getfield 108, 3) := dk_180 0 108 (dk_at dksX17_carryOut_8 14 rfl rfl)
theorem dX17_carryOut_201 : decode cX17_carryOut 201 = .ok (.aload_n 2, 1) := dk_44 (dk_at dksX17_carryOut_8 17 rfl rfl)
theorem dX17_carryOut_202 : decode cX17_carryOut 202 = .ok (.getfield 55, 3) := dk_180 0 55 (dk_at dksX17_carryOut_8 18 rfl rfl)
theorem dX17_carryOut_205 : decode cX17_carryOut 205 = .ok (.iload 4, 2) := dk_21 4 (dk_at dksX17_carryOut_8 21 rfl rfl)
theorem dX17_carryOut_207 : decode cX17_carryOut 207 = .ok (.aload_n 2, 1) := dk_44 (dk_at dksX17_carryOut_8 23 rfl rfl)
theorem dX17_carryOut_208 : decode cX17_carryOut 208 = .ok (.aload_n 3, 1) := dk_45 (dk_at dksX17_carryOut_9 0 rfl rfl)
theorem dX17_carryOut_209 : decode cX17_carryOut 209 = .ok (.invokespecial 114, 3) := dk_183 0 114 (dk_at dksX17_carryOut_9 1 rfl rfl)
theorem dX17_carryOut_212 : decode cX17_carryOut 212 = .ok (.invokevirtual 117, 3) := dk_182 0 117 (dk_at dksX17_carryOut_9 4 rfl rfl)
theorem dX17_carryOut_215 : decode cX17_carryOut 215 = .ok (.return_, 1) := dk_177 (dk_at dksX17_carryOut_9 7 rfl rfl)
theorem q1739 : (Jvm.Cond.fieldLinkNest "DebateHall$Thrust" (40 : Nat) "DebateHall$Item" "kind" "LDebateHall$Kind;" "DebateHall") ∈ lw_tbl := lw_at lw_m7 219 rfl
theorem q1890 : (Jvm.Cond.fieldLink "DebateHall$Thrust" (43 : Nat) "DebateHall$Kind" "CLAIM" "LDebateHall$Kind;") ∈ lw_all := lw_g (lw_at lw_m8 130 rfl) rfl
theorem q1884 : (Jvm.Cond.methodLink "DebateHall$Thrust" (36 : Nat) ({ cls := "DebateHall$Thrust", name := "item", desc := "(LDebateHall$Minutes;LDebateHall$Token;)LDebateHall$Item;" } : Jvm.MethodName)) ∈ lw_all := lw_g (lw_at lw_m8 124 rfl) rfl
theorem q1885 : (Jvm.Cond.sameMethod "DebateHall$Thrust" "DebateHall$Line" "item" "(LDebateHall$Minutes;LDebateHall$Token;)LDebateHall$Item;") ∈ lw_all := lw_g (lw_at lw_m8 125 rfl) rfl
theorem q1882 : (Jvm.Cond.methodLink "DebateHall$Thrust" (32 : Nat) ({ cls := "DebateHall$Thrust", name := "free", desc := "(LDebateHall$Minutes;LDebateHall$Token;)V" } : Jvm.MethodName)) ∈ lw_all := lw_g (lw_at lw_m8 122 rfl) rfl
theorem q1883 : (Jvm.Cond.sameMethod "DebateHall$Thrust" "DebateHall$Line" "free" "(LDebateHall$Minutes;LDebateHall$Token;)V") ∈ lw_all := lw_g (lw_at lw_m8 123 rfl) rfl
theorem q1893 : (Jvm.Cond.fieldLink "DebateHall$Thrust" (52 : Nat) "DebateHall$Kind" "ATTACK" "LDebateHall$Kind;") ∈ lw_all := lw_g (lw_at lw_m8 133 rfl) rfl
theorem q1747 : (Jvm.Cond.fieldLinkNest "DebateHall$Thrust" (55 : Nat) "DebateHall$Item" "speaker" "I" "DebateHall") ∈ lw_tbl := lw_at lw_m7 227 rfl
theorem q1891 : (Jvm.Cond.methodLink "DebateHall$Thrust" (48 : Nat) ({ cls := "DebateHall$Thrust", name := "check", desc := "(IZLDebateHall$Token;)V" } : Jvm.MethodName)) ∈ lw_all := lw_g (lw_at lw_m8 131 rfl) rfl
theorem q1892 : (Jvm.Cond.sameMethod "DebateHall$Thrust" "DebateHall$Line" "check" "(IZLDebateHall$Token;)V") ∈ lw_all := lw_g (lw_at lw_m8 132 rfl) rfl
theorem q2945 : (Jvm.Cond.fieldLinkNest "DebateHall$Thrust" (59 : Nat) "DebateHall$Kind" "size" "I" "DebateHall") ∈ lw_tbl := lw_at lw_m12 225 rfl
theorem q1899 : (Jvm.Cond.code ({ cls := "java/util/Optional", name := "isPresent", desc := "()Z" } : Jvm.MethodName) prog_72_method_6_code (1 : Nat) (Option.some Jvm.ClassFile.FieldType.boolean)) ∈ lw_all := lw_g (lw_at lw_m8 139 rfl) rfl
theorem zk_J23_isPresent : zz_cd yJ23_isPresent cJ23_isPresent 1 (some .boolean) none ∈ lw_all := q1899
theorem zy_J23_isPresent : zz_yok yJ23_isPresent 0 = true := by decide +kernel
theorem q1903 : (Jvm.Cond.code ({ cls := "java/util/Optional", name := "get", desc := "()Ljava/lang/Object;" } : Jvm.MethodName) prog_72_method_5_code (1 : Nat) (Option.some (Jvm.ClassFile.FieldType.object "java/lang/Object"))) ∈ lw_all := lw_g (lw_at lw_m8 143 rfl) rfl
theorem zk_J23_get : zz_cd yJ23_get cJ23_get 1 (some (.object "java/lang/Object")) none ∈ lw_all := q1903
theorem zy_J23_get : zz_yok yJ23_get 0 = true := by decide +kernel
theorem q1904 : (Jvm.Cond.classLink "DebateHall$Thrust" (76 : Nat) "DebateHall$Test") ∈ lw_all := lw_g (lw_at lw_m8 144 rfl) rfl
theorem q1905 : (Jvm.Cond.methodLink "DebateHall$Thrust" (78 : Nat) ({ cls := "DebateHall$Test", name := "look", desc := "(LDebateHall$Minutes;)V" } : Jvm.MethodName)) ∈ lw_all := lw_g (lw_at lw_m8 145 rfl) rfl
theorem q1900 : (Jvm.Cond.methodLink "DebateHall$Thrust" (72 : Nat) ({ cls := "java/util/Optional", name := "get", desc := "()Ljava/lang/Object;" } : Jvm.MethodName)) ∈ lw_all := lw_g (lw_at lw_m8 140 rfl) rfl
theorem q1901 : (Jvm.Cond.instanceMethod ({ cls := "java/util/Optional", name := "get", desc := "()Ljava/lang/Object;" } : Jvm.MethodName)) ∈ lw_all := lw_g (lw_at lw_m8 141 rfl) rfl
theorem q1902 : (Jvm.Cond.selects "java/util/Optional" ({ cls := "java/util/Optional", name := "get", desc := "()Ljava/lang/Object;" } : Jvm.MethodName) ({ cls := "java/util/Optional", name := "get", desc := "()Ljava/lang/Object;" } : Jvm.MethodName)) ∈ lw_all := lw_g (lw_at lw_m8 142 rfl) rfl
theorem q1896 : (Jvm.Cond.methodLink "DebateHall$Thrust" (66 : Nat) ({ cls := "java/util/Optional", name := "isPresent", desc := "()Z" } : Jvm.MethodName)) ∈ lw_all := lw_g (lw_at lw_m8 136 rfl) rfl
theorem q1897 : (Jvm.Cond.instanceMethod ({ cls := "java/util/Optional", name := "isPresent", desc := "()Z" } : Jvm.MethodName)) ∈ lw_all := lw_g (lw_at lw_m8 137 rfl) rfl
theorem q1898 : (Jvm.Cond.selects "java/util/Optional" ({ cls := "java/util/Optional", name := "isPresent", desc := "()Z" } : Jvm.MethodName) ({ cls := "java/util/Optional", name := "isPresent", desc := "()Z" } : Jvm.MethodName)) ∈ lw_all := lw_g (lw_at lw_m8 138 rfl) rfl
theorem q1894 : (Jvm.Cond.methodLink "DebateHall$Thrust" (62 : Nat) ({ cls := "DebateHall$Thrust", name := "number", desc := "(LDebateHall$Token;III)I" } : Jvm.MethodName)) ∈ lw_all := lw_g (lw_at lw_m8 134 rfl) rfl
theorem q1895 : (Jvm.Cond.sameMethod "DebateHall$Thrust" "DebateHall$Line" "number" "(LDebateHall$Token;III)I") ∈ lw_all := lw_g (lw_at lw_m8 135 rfl) rfl
theorem q2946 : (Jvm.Cond.fieldLinkNest "DebateHall$Thrust" (82 : Nat) "DebateHall$Kind" "cost" "I" "DebateHall") ∈ lw_tbl := lw_at lw_m12 226 rfl
theorem q1969 : (Jvm.Cond.methodLink "DebateHall$Thrust" (95 : Nat) ({ cls := "DebateHall$Test", name := "holds", desc := "(LDebateHall$Minutes;)Z" } : Jvm.MethodName)) ∈ lw_all := lw_g (lw_at lw_m8 209 rfl) rfl
theorem q1929 : (Jvm.Cond.methodLink "DebateHall$Thrust" (89 : Nat) ({ cls := "DebateHall$Minutes", name := "settle", desc := "(LDebateHall$Item;)LDebateHall$Minutes;" } : Jvm.MethodName)) ∈ lw_all := lw_g (lw_at lw_m8 169 rfl) rfl
theorem q1926 : (Jvm.Cond.methodLink "DebateHall$Thrust" (85 : Nat) ({ cls := "DebateHall$Thrust", name := "spend", desc := "(LDebateHall$Minutes;II)V" } : Jvm.MethodName)) ∈ lw_all := lw_g (lw_at lw_m8 166 rfl) rfl
theorem q1927 : (Jvm.Cond.sameMethod "DebateHall$Thrust" "DebateHall$Line" "spend" "(LDebateHall$Minutes;II)V") ∈ lw_all := lw_g (lw_at lw_m8 167 rfl) rfl
theorem q1928 : (Jvm.Cond.selects "DebateHall$Thrust" ({ cls := "DebateHall$Thrust", name := "spend", desc := "(LDebateHall$Minutes;II)V" } : Jvm.MethodName) ({ cls := "DebateHall$Line", name := "spend", desc := "(LDebateHall$Minutes;II)V" } : Jvm.MethodName)) ∈ lw_all := lw_g (lw_at lw_m8 168 rfl) rfl
theorem q1994 : (Jvm.Cond.classLink "DebateHall$Thrust" (41 : Nat) "DebateHall$Item") ∈ lw_all := lw_g (lw_at lw_m8 234 rfl) rfl
theorem q237 : (Jvm.Cond.fieldLinkNest "DebateHall$Thrust" (99 : Nat) "DebateHall$Minutes" "items" "Ljava/util/ArrayList;" "DebateHall") ∈ lw_tbl := lw_at lw_m1 157 rfl
theorem q372 : (Jvm.Cond.fieldLinkNest "DebateHall$Thrust" (108 : Nat) "DebateHall$Token" "text" "Ljava/lang/String;" "DebateHall") ∈ lw_tbl := lw_at lw_m2 52 rfl
theorem q1997 : (Jvm.Cond.methodLink "DebateHall$Thrust" (117 : Nat) ({ cls := "DebateHall$Minutes", name := "add", desc := "(LDebateHall$Item;)V" } : Jvm.MethodName)) ∈ lw_all := lw_g (lw_at lw_m8 237 rfl) rfl
theorem q1996 : (Jvm.Cond.methodLink "DebateHall$Thrust" (114 : Nat) ({ cls := "DebateHall$Item", name := "<init>", desc := "(ILDebateHall$Kind;Ljava/lang/String;IILDebateHall$Item;LDebateHall$Item;)V" } : Jvm.MethodName)) ∈ lw_all := lw_g (lw_at lw_m8 236 rfl) rfl
theorem q1995 : (Jvm.Cond.methodLink "DebateHall$Thrust" (103 : Nat) ({ cls := "java/util/ArrayList", name := "size", desc := "()I" } : Jvm.MethodName)) ∈ lw_all := lw_g (lw_at lw_m8 235 rfl) rfl
def wp_X17_carryOut_B178 (Z : zzG) (K : Option Value → zzM → Prop) (X : Nat → Nat → zzM → Prop) (v0 : Option Nat) (v1 : Option Nat) (v2 : Option Nat) (v3 : Option Nat) (v4 : Int32) (M : zzM) (bc bs : Nat) : Prop := znew Z M bc bs 15 8 [.int 0, .null, .null, .int 0, .int 0, .null, .null, .int 0] fun q143 M144 bc145 bs146 => zgA Z M144 v1 [2] 1 fun x147 => zty Z M144 x147 fun t => t = 18 ∧ wp_J2_size Z x147 M144 (fun r148 M149 => zrI r148 fun x152 => zgA Z M149 v0 [12] 1 fun x153 => zgA Z M149 v0 [12] 2 fun x154 => zgA Z M149 x154 [5] 1 fun x155 => zgI Z M149 v2 [15] 3 fun x156 => wp_X20_init Z (some q143) x152 x153 x155 x156 v4 v2 v3 M149 (fun r157 M158 => zrV r157 (zty Z M158 v1 fun t => t = 2 ∧ zcc bc145 bs146 (fun c s k => wp_X3_add_2 Z v1 (some q143) M158 c s k) fun r161 M162 bc163 bs164 => zrV r161 (K none M162))))
def wp_X17_carryOut_B174 (Z : zzG) (K : Option Value → zzM → Prop) (X : Nat → Nat → zzM → Prop) (v0 : Option Nat) (v1 : Option Nat) (v2 : Option Nat) (v3 : Option Nat) (v4 : Int32) (s0 : Int32) (M : zzM) (bc bs : Nat) : Prop := if s0 = 0 then (K none M) else (wp_X17_carryOut_B178 Z K X v0 v1 v2 v3 v4 M bc bs)
def wp_X17_carryOut_B127 (Z : zzG) (K : Option Value → zzM → Prop) (X : Nat → Nat → zzM → Prop) (v0 : Option Nat) (v1 : Option Nat) (v2 : Option Nat) (v3 : Option Nat) (v4 : Int32) (M : zzM) (bc bs : Nat) : Prop := zgI Z M v2 [15] 3 fun x100 => zgA Z M v0 [12] 1 fun x101 => zgI Z M x101 [30, 31, 32] 2 fun x102 => zty Z M v0 fun t => t = 12 ∧ zcx bc bs (fun c s k x => wp_X10_spend Z v0 v1 x100 (x102 + v4) M c s k x) (fun r103 M104 bc105 bs106 => zrV r103 (zgA Z M104 v0 [12] 6 fun x107 => zty Z M104 x107 fun t => t = 22 ∧ wp_J23_isPresent Z x107 M104 (fun r108 M109 => zrI r108 fun x112 => if x112 = 0 then (wp_X17_carryOut_B178 Z K X v0 v1 v2 v3 v4 M109 bc105 bs106) else (zgA Z M109 v0 [12] 6 fun x113 => zty Z M109 x113 fun t => t = 22 ∧ wp_J23_get Z x113 M109 (fun r114 M115 => zrA r114 fun x118 => zcast Z M115 x118 [9, 10, 11] <| zty Z M115 v1 fun t => t = 2 ∧ wp_X3_settle Z v1 none M115 (fun r119 M120 => zrA r119 fun x123 => zty Z M120 x118 fun t => if t = 9 then (zcc bc105 bs106 (fun c s k => wp_X14_holds Z x118 x123 M120 c s k) fun r124 M125 bc126 bs127 => zrI r124 fun x128 => wp_X17_carryOut_B174 Z K X v0 v1 v2 v3 v4 x128 M125 bc126 bs127) else if t = 10 then (zcc bc105 bs106 (fun c s k => wp_X15_holds Z x118 x123 M120 c s k) fun r129 M130 bc131 bs132 => zrI r129 fun x133 => wp_X17_carryOut_B174 Z K X v0 v1 v2 v3 v4 x133 M130 bc131 bs132) else if t = 11 then (wp_X16_holds Z x118 x123 M120 (fun r134 M135 => zrI r134 fun x138 => wp_X17_carryOut_B174 Z K X v0 v1 v2 v3 v4 x138 M135 bc105 bs106)) else False)))))) (fun t q M _ _ => X t q M)
def wp_X17_carryOut_B77 (Z : zzG) (K : Option Value → zzM → Prop) (X : Nat → Nat → zzM → Prop) (v0 : Option Nat) (v1 : Option Nat) (v2 : Option Nat) (v3 : Option Nat) (s0 : Int32) (s1 : Int32) (M : zzM) (bc bs : Nat) : Prop := zgA Z M v0 [12] 4 fun x43 => zcx bc bs (fun c s k x => wp_X10_check Z s1 s0 x43 M c s k x) (fun r44 M45 bc46 bs47 => zrV r44 (zgA Z M45 v0 [12] 5 fun x48 => zgA Z M45 v0 [12] 1 fun x49 => zgI Z M45 x49 [30, 31, 32] 1 fun x50 => zcx bc46 bs47 (fun c s k x => wp_X10_number Z x48 (1 : Int32) (50 : Int32) x50 M45 c s k x) (fun r51 M52 bc53 bs54 => zrI r51 fun x55 => zgA Z M52 v0 [12] 6 fun x56 => zty Z M52 x56 fun t => t = 22 ∧ wp_J23_isPresent Z x56 M52 (fun r57 M58 => zrI r57 fun x61 => if x61 = 0 then (wp_X17_carryOut_B127 Z K X v0 v1 v2 v3 x55 M58 bc53 bs54) else (zgA Z M58 v0 [12] 6 fun x62 => zty Z M58 x62 fun t => t = 22 ∧ wp_J23_get Z x62 M58 (fun r63 M64 => zrA r63 fun x67 => zcast Z M64 x67 [9, 10, 11] <| zty Z M64 x67 fun t => if t = 9 then (zcx bc53 bs54 (fun c s k x => wp_X14_look Z x67 v1 M64 c s k x) (fun r68 M69 bc70 bs71 => zrV r68 (wp_X17_carryOut_B127 Z K X v0 v1 v2 v3 x55 M69 bc70 bs71)) (fun t q M _ _ => X t q M)) else if t = 10 then (zcx bc53 bs54 (fun c s k x => wp_X15_look Z x67 v1 M64 c s k x) (fun r76 M77 bc78 bs79 => zrV r76 (wp_X17_carryOut_B127 Z K X v0 v1 v2 v3 x55 M77 bc78 bs79)) (fun t q M _ _ => X t q M)) else if t = 11 then (zcx bc53 bs54 (fun c s k x => wp_X16_look Z x67 v1 M64 c s k x) (fun r84 M85 bc86 bs87 => zrV r84 (wp_X17_carryOut_B127 Z K X v0 v1 v2 v3 x55 M85 bc86 bs87)) (fun t q M _ _ => X t q M)) else False)))) (fun t q M _ _ => X t q M))) (fun t q M _ _ => X t q M)
def wp_X17_carryOut_B72 (Z : zzG) (K : Option Value → zzM → Prop) (X : Nat → Nat → zzM → Prop) (v0 : Option Nat) (v1 : Option Nat) (v2 : Option Nat) (v3 : Option Nat) (s0 : Int32) (M : zzM) (bc bs : Nat) : Prop := wp_X17_carryOut_B77 Z K X v0 v1 v2 v3 (1 : Int32) s0 M bc bs
def wp_X17_carryOut_B33 (Z : zzG) (K : Option Value → zzM → Prop) (X : Nat → Nat → zzM → Prop) (v0 : Option Nat) (v1 : Option Nat) (v2 : Option Nat) (s0 : Int32) (s1 : Int32) (M : zzM) (bc bs : Nat) : Prop := zgA Z M v0 [12] 3 fun x21 => zcx bc bs (fun c s k x => wp_X10_check Z s1 s0 x21 M c s k x) (fun r22 M23 bc24 bs25 => zrV r22 (zgA Z M23 v0 [12] 4 fun x26 => zcx bc24 bs25 (fun c s k x => wp_X10_item Z v1 x26 M23 c s k x) (fun r27 M28 bc29 bs30 => zrA r27 fun x31 => zgA Z M28 v0 [12] 1 fun x32 => if x32 = (some (zz_ad Z 9)) then (zgI Z M28 x31 [15] 3 fun x33 => zgI Z M28 v2 [15] 3 fun x34 => if x33 = x34 then (wp_X17_carryOut_B77 Z K X v0 v1 v2 x31 (0 : Int32) (6 : Int32) M28 bc29 bs30) else (wp_X17_carryOut_B72 Z K X v0 v1 v2 x31 (6 : Int32) M28 bc29 bs30)) else (wp_X17_carryOut_B72 Z K X v0 v1 v2 x31 (6 : Int32) M28 bc29 bs30)) (fun t q M _ _ => X t q M))) (fun t q M _ _ => X t q M)
def wp_X17_carryOut (Z : zzG) (this : Option Nat) (p0 : Option Nat) (M : zzM) (bc bs : Nat) (K : Option Value → zzM → Prop) (X : Nat → Nat → zzM → Prop) : Prop := zgA Z M this [12] 2 fun x1 => zcx bc bs (fun c s k x => wp_X10_free Z p0 x1 M c s k x) (fun r2 M3 bc4 bs5 => zrV r2 (zgA Z M3 this [12] 3 fun x6 => zcx bc4 bs5 (fun c s k x => wp_X10_item Z p0 x6 M3 c s k x) (fun r7 M8 bc9 bs10 => zrA r7 fun x11 => zgA Z M8 x11 [15] 1 fun x12 => if x12 = (some (zz_ad Z 8)) then (wp_X17_carryOut_B33 Z K X this p0 x11 (1 : Int32) (3 : Int32) M8 bc9 bs10) else (wp_X17_carryOut_B33 Z K X this p0 x11 (0 : Int32) (3 : Int32) M8 bc9 bs10)) (fun t q M _ _ => X t q M))) (fun t q M _ _ => X t q M)
theorem ok_X17_carryOut_B178 {G : zzX} (C : zz_C G cX17_carryOut "DebateHall$Thrust" 5) {K : Option Value → zzM → Prop} {X : Nat → Nat → zzM → Prop} (E : zz_E G none K X) (hH : zz_H G []) (hR : zz_Rm G 137) {v0 : Option Nat} {v1 : Option Nat} {v2 : Option Nat} {v3 : Option Nat} {v4 : Int32} {M : zzM} {bc bs : Nat} (hw : wp_X17_carryOut_B178 (zz_Zof G) K X v0 v1 v2 v3 v4 M bc bs) : zz_T G 5 M bc bs 178 [(0, va_rf v0), (1, va_rf v1), (2, va_rf v2), (3, va_rf v3), (4, .int v4)] [] := by
  unfold wp_X17_carryOut_B178 at hw
  refine zz_aload_n C dX17_carryOut_178 rfl 1 rfl ?_
  refine zz_new (r := (zR_15, zT_15, 8)) C dX17_carryOut_179 rfl (by decide) q1994 q1729 zl_DebateHall_Item rfl hw (fun q143 M144 bc145 bs146 hw => ?_)
  refine zz_dup C dX17_carryOut_182 (zz_cat _) ?_
  refine zz_aload_n C dX17_carryOut_183 rfl 1 rfl ?_
  refine zz_getA C dX17_carryOut_184 (Or.inr ⟨_, q237⟩) zf_2_1_teHall_Minutes hw (fun x147 hw => ?_)
  obtain ⟨a9, t9, b9, fs9, hro, hL, rfl, hw⟩ := ztyS hw
  refine zz_callV (r := (zR_18, zT_18, 3)) (As := []) (rest := [va_rf (some q143), va_rf (some q143), va_rf v1]) (mc := 0) (ms := 0) C hR hro dX17_carryOut_187 (Or.inl q1995) q354 (Or.inl q355) zl_java_util_ArrayList zk_J2_size (Or.inl rfl) zy_J2_size rfl (by decide) (by decide) hL (ok_J2_size (zz_hl C) hw) (Nat.zero_le _) (Nat.zero_le _) (zz_cat10 _ (Nat.le_of_ble_eq_true rfl)) (fun r148 M149 hw => zz_kI hw (fun x152 hw => ?_)) (fun _ _ _ h9 => h9.elim) rfl
  refine zz_aload_n C dX17_carryOut_190 rfl 0 rfl ?_
  refine zz_getA C dX17_carryOut_191 (Or.inl q1097) zf_12_1_ateHall_Thrust hw (fun x153 hw => ?_)
  refine zz_aload_n C dX17_carryOut_194 rfl 0 rfl ?_
  refine zz_getA C dX17_carryOut_195 (Or.inl q1098) zf_12_2_ateHall_Thrust hw (fun x154 hw => ?_)
  refine zz_getA C dX17_carryOut_198 (Or.inr ⟨_, q372⟩) zf_5_1_bateHall_Token hw (fun x155 hw => ?_)
  refine zz_aload_n C dX17_carryOut_201 rfl 2 rfl ?_
  refine zz_getI C dX17_carryOut_202 (Or.inr ⟨_, q1747⟩) zf_15_3_ebateHall_Item hw (fun x156 hw => ?_)
  refine zz_iload C dX17_carryOut_205 4 rfl ?_
  refine zz_aload_n C dX17_carryOut_207 rfl 2 rfl ?_
  refine zz_aload_n C dX17_carryOut_208 rfl 3 rfl ?_
  refine zz_callI (As := [.int x152, va_rf x153, va_rf x155, .int x156, .int v4, va_rf v2, va_rf v3]) (rest := [va_rf (some q143), va_rf v1]) (mc := 0) (ms := 0) C hR rfl dX17_carryOut_209 (Or.inl q1996) q1731 zl_DebateHall_Item zk_X20_init rfl zy_X20_init (by decide) (by decide) (ok_X20_init (zz_hl C) hw) (Nat.zero_le _) (Nat.zero_le _) (zz_cat10 _ (Nat.le_of_ble_eq_true rfl)) (fun r157 M158 hw => zz_kV hw (fun hw => ?_)) (fun _ _ _ h9 => h9.elim) rfl
  obtain ⟨a9, t9, b9, fs9, hro, hL, rfl, hw⟩ := ztyS hw
  obtain ⟨c9, s9, hc9, hs9, hw⟩ := hw
  refine zz_callV (r := (zR_2, zT_2, 8)) (As := [va_rf (some q143)]) (rest := []) C hR hro dX17_carryOut_212 (Or.inl q1997) q1782 (Or.inl q1783) zl_DebateHall_Minutes zk_X3_add_2 (Or.inl rfl) zy_X3_add_2 rfl (by decide) (by decide) hL (ok_X3_add_2 (zz_hl C) hw) hc9 hs9 (zz_cat10 _ (Nat.le_of_ble_eq_true rfl)) (fun r161 M162 hw => zz_kV hw (fun hw => ?_)) (fun _ _ _ h9 => h9.elim) rfl
  exact zz_vret C E dX17_carryOut_215 hw
theorem ok_X17_carryOut_B174 {G : zzX} (C : zz_C G cX17_carryOut "DebateHall$Thrust" 5) {K : Option Value → zzM → Prop} {X : Nat → Nat → zzM → Prop} (E : zz_E G none K X) (hH : zz_H G []) (hR : zz_Rm G 137) {v0 : Option Nat} {v1 : Option Nat} {v2 : Option Nat} {v3 : Option Nat} {v4 : Int32} {s0 : Int32} {M : zzM} {bc bs : Nat} (hw : wp_X17_carryOut_B174 (zz_Zof G) K X v0 v1 v2 v3 v4 s0 M bc bs) : zz_T G 5 M bc bs 174 [(0, va_rf v0), (1, va_rf v1), (2, va_rf v2), (3, va_rf v3), (4, .int v4)] [.int s0] := by
  unfold wp_X17_carryOut_B174 at hw
  refine zz_if_ne (tgt := 178) C dX17_carryOut_174 (by decide) hw (fun hw => ?_) (fun hw => ?_)
  · refine zz_subP [0, 1, 2, 3, 4] rfl ?_
    exact ok_X17_carryOut_B178 C E hH hR hw
  · exact zz_vret C E dX17_carryOut_177 hw
theorem ok_X17_carryOut_B127 {G : zzX} (C : zz_C G cX17_carryOut "DebateHall$Thrust" 5) {K : Option Value → zzM → Prop} {X : Nat → Nat → zzM → Prop} (E : zz_E G none K X) (hH : zz_H G []) (hR : zz_Rm G 137) {v0 : Option Nat} {v1 : Option Nat} {v2 : Option Nat} {v3 : Option Nat} {v4 : Int32} {M : zzM} {bc bs : Nat} (hw : wp_X17_carryOut_B127 (zz_Zof G) K X v0 v1 v2 v3 v4 M bc bs) : zz_T G 5 M bc bs 127 [(0, va_rf v0), (1, va_rf v1), (2, va_rf v2), (3, va_rf v3), (4, .int v4)] [] := by
  unfold wp_X17_carryOut_B127 at hw
  refine zz_aload_n C dX17_carryOut_127 rfl 0 rfl ?_
  refine zz_aload_n C dX17_carryOut_128 rfl 1 rfl ?_
  refine zz_aload_n C dX17_carryOut_129 rfl 2 rfl ?_
  refine zz_getI C dX17_carryOut_130 (Or.inr ⟨_, q1747⟩) zf_15_3_ebateHall_Item hw (fun x100 hw => ?_)
  refine zz_aload_n C dX17_carryOut_133 rfl 0 rfl ?_
  refine zz_getA C dX17_carryOut_134 (Or.inl q1097) zf_12_1_ateHall_Thrust hw (fun x101 hw => ?_)
  refine zz_getI C dX17_carryOut_137 (Or.inr ⟨_, q2946⟩) zf_30_31_32_2_ebateHall_Kind hw (fun x102 hw => ?_)
  refine zz_iload C dX17_carryOut_140 4 rfl ?_
  refine zz_iadd C dX17_carryOut_142 ?_
  obtain ⟨a9, t9, b9, fs9, hro, hL, rfl, hw⟩ := ztyS hw
  obtain ⟨c9, s9, hc9, hs9, hw⟩ := hw
  refine zz_callU (r := (zR_12, zT_12, 7)) (x := ⟨"DebateHall$Thrust", "spend", "(LDebateHall$Minutes;II)V"⟩) (owner := "DebateHall$Line") (As := [va_rf v1, .int x100, .int (x102 + v4)]) (rest := []) C hR hro dX17_carryOut_143 q1926 q1927 (Or.inl q1857) q1859 q1928 zl_DebateHall_Line zk_X10_spend zyo_DebateHall_Line_spend__LDebateHall_Minutes_II_V rfl (by decide) (by decide) hL (ok_X10_spend (zz_hl C) hw) hc9 hs9 (zz_cat10 _ (Nat.le_of_ble_eq_true rfl)) (fun r103 M104 hw => zz_kV hw (fun hw => ?_)) (fun t9 q139 M140 hx => ?_) rfl
  · refine zz_aload_n C dX17_carryOut_146 rfl 0 rfl ?_
    refine zz_getA C dX17_carryOut_147 (Or.inl q1102) zf_12_6_ateHall_Thrust hw (fun x107 hw => ?_)
    obtain ⟨a9, t9, b9, fs9, hro, hL, rfl, hw⟩ := ztyS hw
    refine zz_callV (r := (zR_22, zT_22, 1)) (As := []) (rest := []) (mc := 0) (ms := 0) C hR hro dX17_carryOut_150 (Or.inl q1896) q1897 (Or.inl q1898) zl_java_util_Optional zk_J23_isPresent (Or.inl rfl) zy_J23_isPresent rfl (by decide) (by decide) hL (ok_J23_isPresent (zz_hl C) hw) (Nat.zero_le _) (Nat.zero_le _) (zz_cat10 _ (Nat.le_of_ble_eq_true rfl)) (fun r108 M109 hw => zz_kI hw (fun x112 hw => ?_)) (fun _ _ _ h9 => h9.elim) rfl
    refine zz_if_eq (tgt := 178) C dX17_carryOut_153 (by decide) hw (fun hw => ?_) (fun hw => ?_)
    · refine zz_subP [0, 1, 2, 3, 4] rfl ?_
      exact ok_X17_carryOut_B178 C E hH hR hw
    · refine zz_aload_n C dX17_carryOut_156 rfl 0 rfl ?_
      refine zz_getA C dX17_carryOut_157 (Or.inl q1102) zf_12_6_ateHall_Thrust hw (fun x113 hw => ?_)
      obtain ⟨a9, t9, b9, fs9, hro, hL, rfl, hw⟩ := ztyS hw
      refine zz_callV (r := (zR_22, zT_22, 1)) (As := []) (rest := []) (mc := 0) (ms := 0) C hR hro dX17_carryOut_160 (Or.inl q1900) q1901 (Or.inl q1902) zl_java_util_Optional zk_J23_get (Or.inl rfl) zy_J23_get rfl (by decide) (by decide) hL (ok_J23_get (zz_hl C) hw) (Nat.zero_le _) (Nat.zero_le _) (zz_cat10 _ (Nat.le_of_ble_eq_true rfl)) (fun r114 M115 hw => zz_kA hw (fun x118 hw => ?_)) (fun _ _ _ h9 => h9.elim) rfl
      refine zz_cast C dX17_carryOut_163 q1904 zc_9_10_11_ebateHall_Test hw (fun hw => ?_)
      refine zz_aload_n C dX17_carryOut_166 rfl 1 rfl ?_
      refine zz_null C dX17_carryOut_167 ?_
      obtain ⟨a9, t9, b9, fs9, hro, hL, rfl, hw⟩ := ztyS hw
      refine zz_callV (r := (zR_2, zT_2, 8)) (As := [va_rf none]) (rest := [va_rf x118]) (mc := 0) (ms := 0) C hR hro dX17_carryOut_168 (Or.inl q1929) q1930 (Or.inl q1931) zl_DebateHall_Minutes zk_X3_settle (Or.inl rfl) zy_X3_settle rfl (by decide) (by decide) hL (ok_X3_settle (zz_hl C) hw) (Nat.zero_le _) (Nat.zero_le _) (zz_cat10 _ (Nat.le_of_ble_eq_true rfl)) (fun r119 M120 hw => zz_kA hw (fun x123 hw => ?_)) (fun _ _ _ h9 => h9.elim) rfl
      obtain ⟨a9, t9, b9, fs9, hro, hL, hw⟩ := ztyS hw
      by_cases e9 : t9 = 9
      · replace hw := zz_ifp e9 hw
        subst e9
        obtain ⟨c9, s9, hc9, hs9, hw⟩ := hw
        refine zz_callU (r := (zR_9, zT_9, 2)) (x := ⟨"DebateHall$Test", "holds", "(LDebateHall$Minutes;)Z"⟩) (owner := "DebateHall$Test") (As := [va_rf x123]) (rest := []) C hR hro dX17_carryOut_171 q1969 q1971 (Or.inl q1970) q1990 q1993 zl_DebateHall_Several zk_X14_holds zyo_DebateHall_Test_holds__LDebateHall_Minutes__Z rfl (by decide) (by decide) hL (ok_X14_holds (zz_hl C) hw) hc9 hs9 (zz_cat10 _ (Nat.le_of_ble_eq_true rfl)) (fun r124 M125 hw => zz_kI hw (fun x128 hw => ?_)) (fun _ _ _ h9 => h9.elim) rfl
        refine zz_subP [0, 1, 2, 3, 4] rfl ?_
        exact ok_X17_carryOut_B174 C E hH hR hw
      · replace hw := zz_ifn e9 hw
        by_cases e10 : t9 = 10
        · replace hw := zz_ifp e10 hw
          subst e10
          obtain ⟨c9, s9, hc9, hs9, hw⟩ := hw
          refine zz_callU (r := (zR_10, zT_10, 1)) (x := ⟨"DebateHall$Test", "holds", "(LDebateHall$Minutes;)Z"⟩) (owner := "DebateHall$Test") (As := [va_rf x123]) (rest := []) C hR hro dX17_carryOut_171 q1969 q1971 (Or.inl q1970) q1987 q1986 zl_DebateHall_Denied zk_X15_holds zyo_DebateHall_Test_holds__LDebateHall_Minutes__Z rfl (by decide) (by decide) hL (ok_X15_holds (zz_hl C) hw) hc9 hs9 (zz_cat10 _ (Nat.le_of_ble_eq_true rfl)) (fun r129 M130 hw => zz_kI hw (fun x133 hw => ?_)) (fun _ _ _ h9 => h9.elim) rfl
          refine zz_subP [0, 1, 2, 3, 4] rfl ?_
          exact ok_X17_carryOut_B174 C E hH hR hw
        · replace hw := zz_ifn e10 hw
          by_cases e11 : t9 = 11
          · replace hw := zz_ifp e11 hw
            subst e11
            refine zz_callU (r := (zR_11, zT_11, 2)) (x := ⟨"DebateHall$Test", "holds", "(LDebateHall$Minutes;)Z"⟩) (owner := "DebateHall$Test") (As := [va_rf x123]) (rest := []) (mc := 0) (ms := 0) C hR hro dX17_carryOut_171 q1969 q1971 (Or.inl q1970) q1973 q1972 zl_DebateHall_Asked zk_X16_holds zyo_DebateHall_Test_holds__LDebateHall_Minutes__Z rfl (by decide) (by decide) hL (ok_X16_holds (zz_hl C) hw) (Nat.zero_le _) (Nat.zero_le _) (zz_cat10 _ (Nat.le_of_ble_eq_true rfl)) (fun r134 M135 hw => zz_kI hw (fun x138 hw => ?_)) (fun _ _ _ h9 => h9.elim) rfl
            refine zz_subP [0, 1, 2, 3, 4] rfl ?_
            exact ok_X17_carryOut_B174 C E hH hR hw
          · replace hw := zz_ifn e11 hw
            exact hw.elim
  · exact zz_out C E hH rfl hx
theorem ok_X17_carryOut_B77 {G : zzX} (C : zz_C G cX17_carryOut "DebateHall$Thrust" 5) {K : Option Value → zzM → Prop} {X : Nat → Nat → zzM → Prop} (E : zz_E G none K X) (hH : zz_H G []) (hR : zz_Rm G 137) {v0 : Option Nat} {v1 : Option Nat} {v2 : Option Nat} {v3 : Option Nat} {s0 : Int32} {s1 : Int32} {M : zzM} {bc bs : Nat} (hw : wp_X17_carryOut_B77 (zz_Zof G) K X v0 v1 v2 v3 s0 s1 M bc bs) : zz_T G 5 M bc bs 77 [(0, va_rf v0), (1, va_rf v1), (2, va_rf v2), (3, va_rf v3)] [.int s0, .int s1] := by
  unfold wp_X17_carryOut_B77 at hw
  refine zz_aload_n C dX17_carryOut_77 rfl 0 rfl ?_
  refine zz_getA C dX17_carryOut_78 (Or.inl q1100) zf_12_4_ateHall_Thrust hw (fun x43 hw => ?_)
  obtain ⟨c9, s9, hc9, hs9, hw⟩ := hw
  refine zz_callSI (As := [.int s1, .int s0, va_rf x43]) (rest := []) C hR dX17_carryOut_81 q1891 q1892 q1820 zl_DebateHall_Line zk_X10_check zy_X10_check (by decide) (by decide) (ok_X10_check (zz_hl C) hw) hc9 hs9 (zz_cat10 _ (Nat.le_of_ble_eq_true rfl)) (fun r44 M45 hw => zz_kV hw (fun hw => ?_)) (fun t9 q96 M97 hx => ?_) rfl
  · refine zz_aload_n C dX17_carryOut_84 rfl 0 rfl ?_
    refine zz_getA C dX17_carryOut_85 (Or.inl q1101) zf_12_5_ateHall_Thrust hw (fun x48 hw => ?_)
    refine zz_iconst (v := (1 : Int32)) C dX17_carryOut_88 (by decide) ?_
    refine zz_bipush (v := (50 : Int32)) C dX17_carryOut_89 (by decide) ?_
    refine zz_aload_n C dX17_carryOut_91 rfl 0 rfl ?_
    refine zz_getA C dX17_carryOut_92 (Or.inl q1097) zf_12_1_ateHall_Thrust hw (fun x49 hw => ?_)
    refine zz_getI C dX17_carryOut_95 (Or.inr ⟨_, q2945⟩) zf_30_31_32_1_ebateHall_Kind hw (fun x50 hw => ?_)
    obtain ⟨c9, s9, hc9, hs9, hw⟩ := hw
    refine zz_callSI (As := [va_rf x48, .int (1 : Int32), .int (50 : Int32), .int x50]) (rest := []) C hR dX17_carryOut_98 q1894 q1895 q1832 zl_DebateHall_Line zk_X10_number zy_X10_number (by decide) (by decide) (ok_X10_number (zz_hl C) hw) hc9 hs9 (zz_cat10 _ (Nat.le_of_ble_eq_true rfl)) (fun r51 M52 hw => zz_kI hw (fun x55 hw => ?_)) (fun t9 q92 M93 hx => ?_) rfl
    · refine zz_istore (lv' := [(4, .int x55), (0, va_rf v0), (1, va_rf v1), (2, va_rf v2), (3, va_rf v3)]) C dX17_carryOut_101 (by decide) (by simp [zz_cat, zz_catI, zz_catJ, zz_catD]) ?_
      refine zz_aload_n C dX17_carryOut_103 rfl 1 rfl ?_
      refine zz_getA C dX17_carryOut_104 (Or.inl q1102) zf_12_6_ateHall_Thrust hw (fun x56 hw => ?_)
      obtain ⟨a9, t9, b9, fs9, hro, hL, rfl, hw⟩ := ztyS hw
      refine zz_callV (r := (zR_22, zT_22, 1)) (As := []) (rest := []) (mc := 0) (ms := 0) C hR hro dX17_carryOut_107 (Or.inl q1896) q1897 (Or.inl q1898) zl_java_util_Optional zk_J23_isPresent (Or.inl rfl) zy_J23_isPresent rfl (by decide) (by decide) hL (ok_J23_isPresent (zz_hl C) hw) (Nat.zero_le _) (Nat.zero_le _) (zz_cat10 _ (Nat.le_of_ble_eq_true rfl)) (fun r57 M58 hw => zz_kI hw (fun x61 hw => ?_)) (fun _ _ _ h9 => h9.elim) rfl
      refine zz_if_eq (tgt := 127) C dX17_carryOut_110 (by decide) hw (fun hw => ?_) (fun hw => ?_)
      · refine zz_subP [1, 2, 3, 4, 0] rfl ?_
        exact ok_X17_carryOut_B127 C E hH hR hw
      · refine zz_aload_n C dX17_carryOut_113 rfl 1 rfl ?_
        refine zz_getA C dX17_carryOut_114 (Or.inl q1102) zf_12_6_ateHall_Thrust hw (fun x62 hw => ?_)
        obtain ⟨a9, t9, b9, fs9, hro, hL, rfl, hw⟩ := ztyS hw
        refine zz_callV (r := (zR_22, zT_22, 1)) (As := []) (rest := []) (mc := 0) (ms := 0) C hR hro dX17_carryOut_117 (Or.inl q1900) q1901 (Or.inl q1902) zl_java_util_Optional zk_J23_get (Or.inl rfl) zy_J23_get rfl (by decide) (by decide) hL (ok_J23_get (zz_hl C) hw) (Nat.zero_le _) (Nat.zero_le _) (zz_cat10 _ (Nat.le_of_ble_eq_true rfl)) (fun r63 M64 hw => zz_kA hw (fun x67 hw => ?_)) (fun _ _ _ h9 => h9.elim) rfl
        refine zz_cast C dX17_carryOut_120 q1904 zc_9_10_11_ebateHall_Test hw (fun hw => ?_)
        refine zz_aload_n C dX17_carryOut_123 rfl 2 rfl ?_
        obtain ⟨a9, t9, b9, fs9, hro, hL, hw⟩ := ztyS hw
        by_cases e9 : t9 = 9
        · replace hw := zz_ifp e9 hw
          subst e9
          obtain ⟨c9, s9, hc9, hs9, hw⟩ := hw
          refine zz_callU (r := (zR_9, zT_9, 2)) (x := ⟨"DebateHall$Test", "look", "(LDebateHall$Minutes;)V"⟩) (owner := "DebateHall$Test") (As := [va_rf v1]) (rest := []) C hR hro dX17_carryOut_124 q1905 q1907 (Or.inl q1906) q1916 q1925 zl_DebateHall_Several zk_X14_look zyo_DebateHall_Test_look__LDebateHall_Minutes__V rfl (by decide) (by decide) hL (ok_X14_look (zz_hl C) hw) hc9 hs9 (zz_cat10 _ (Nat.le_of_ble_eq_true rfl)) (fun r68 M69 hw => zz_kV hw (fun hw => ?_)) (fun t9 q72 M73 hx => ?_) rfl
          · refine zz_subP [1, 2, 3, 4, 0] rfl ?_
            exact ok_X17_carryOut_B127 C E hH hR hw
          · exact zz_out C E hH rfl hx
        · replace hw := zz_ifn e9 hw
          by_cases e10 : t9 = 10
          · replace hw := zz_ifp e10 hw
            subst e10
            obtain ⟨c9, s9, hc9, hs9, hw⟩ := hw
            refine zz_callU (r := (zR_10, zT_10, 1)) (x := ⟨"DebateHall$Test", "look", "(LDebateHall$Minutes;)V"⟩) (owner := "DebateHall$Test") (As := [va_rf v1]) (rest := []) C hR hro dX17_carryOut_124 q1905 q1907 (Or.inl q1906) q1913 q1912 zl_DebateHall_Denied zk_X15_look zyo_DebateHall_Test_look__LDebateHall_Minutes__V rfl (by decide) (by decide) hL (ok_X15_look (zz_hl C) hw) hc9 hs9 (zz_cat10 _ (Nat.le_of_ble_eq_true rfl)) (fun r76 M77 hw => zz_kV hw (fun hw => ?_)) (fun t9 q80 M81 hx => ?_) rfl
            · refine zz_subP [1, 2, 3, 4, 0] rfl ?_
              exact ok_X17_carryOut_B127 C E hH hR hw
            · exact zz_out C E hH rfl hx
          · replace hw := zz_ifn e10 hw
            by_cases e11 : t9 = 11
            · replace hw := zz_ifp e11 hw
              subst e11
              obtain ⟨c9, s9, hc9, hs9, hw⟩ := hw
              refine zz_callU (r := (zR_11, zT_11, 2)) (x := ⟨"DebateHall$Test", "look", "(LDebateHall$Minutes;)V"⟩) (owner := "DebateHall$Test") (As := [va_rf v1]) (rest := []) C hR hro dX17_carryOut_124 q1905 q1907 (Or.inl q1906) q1909 q1908 zl_DebateHall_Asked zk_X16_look zyo_DebateHall_Test_look__LDebateHall_Minutes__V rfl (by decide) (by decide) hL (ok_X16_look (zz_hl C) hw) hc9 hs9 (zz_cat10 _ (Nat.le_of_ble_eq_true rfl)) (fun r84 M85 hw => zz_kV hw (fun hw => ?_)) (fun t9 q88 M89 hx => ?_) rfl
              · refine zz_subP [1, 2, 3, 4, 0] rfl ?_
                exact ok_X17_carryOut_B127 C E hH hR hw
              · exact zz_out C E hH rfl hx
            · replace hw := zz_ifn e11 hw
              exact hw.elim
    · exact zz_out C E hH rfl hx
  · exact zz_out C E hH rfl hx
theorem ok_X17_carryOut_B72 {G : zzX} (C : zz_C G cX17_carryOut "DebateHall$Thrust" 5) {K : Option Value → zzM → Prop} {X : Nat → Nat → zzM → Prop} (E : zz_E G none K X) (hH : zz_H G []) (hR : zz_Rm G 137) {v0 : Option Nat} {v1 : Option Nat} {v2 : Option Nat} {v3 : Option Nat} {s0 : Int32} {M : zzM} {bc bs : Nat} (hw : wp_X17_carryOut_B72 (zz_Zof G) K X v0 v1 v2 v3 s0 M bc bs) : zz_T G 5 M bc bs 72 [(0, va_rf v0), (1, va_rf v1), (2, va_rf v2), (3, va_rf v3)] [.int s0] := by
  unfold wp_X17_carryOut_B72 at hw
  refine zz_iconst (v := (1 : Int32)) C dX17_carryOut_72 (by decide) ?_
  refine zz_goto (tgt := 77) C dX17_carryOut_73 (by decide) ?_
  refine zz_subP [0, 1, 2, 3] rfl ?_
  exact ok_X17_carryOut_B77 C E hH hR hw
theorem ok_X17_carryOut_B33 {G : zzX} (C : zz_C G cX17_carryOut "DebateHall$Thrust" 5) {K : Option Value → zzM → Prop} {X : Nat → Nat → zzM → Prop} (E : zz_E G none K X) (hH : zz_H G []) (hR : zz_Rm G 137) {v0 : Option Nat} {v1 : Option Nat} {v2 : Option Nat} {s0 : Int32} {s1 : Int32} {M : zzM} {bc bs : Nat} (hw : wp_X17_carryOut_B33 (zz_Zof G) K X v0 v1 v2 s0 s1 M bc bs) : zz_T G 5 M bc bs 33 [(0, va_rf v0), (1, va_rf v1), (2, va_rf v2)] [.int s0, .int s1] := by
  unfold wp_X17_carryOut_B33 at hw
  refine zz_aload_n C dX17_carryOut_33 rfl 0 rfl ?_
  refine zz_getA C dX17_carryOut_34 (Or.inl q1099) zf_12_3_ateHall_Thrust hw (fun x21 hw => ?_)
  obtain ⟨c9, s9, hc9, hs9, hw⟩ := hw
  refine zz_callSI (As := [.int s1, .int s0, va_rf x21]) (rest := []) C hR dX17_carryOut_37 q1891 q1892 q1820 zl_DebateHall_Line zk_X10_check zy_X10_check (by decide) (by decide) (ok_X10_check (zz_hl C) hw) hc9 hs9 (zz_cat10 _ (Nat.le_of_ble_eq_true rfl)) (fun r22 M23 hw => zz_kV hw (fun hw => ?_)) (fun t9 q39 M40 hx => ?_) rfl
  · refine zz_aload_n C dX17_carryOut_40 rfl 1 rfl ?_
    refine zz_aload_n C dX17_carryOut_41 rfl 0 rfl ?_
    refine zz_getA C dX17_carryOut_42 (Or.inl q1100) zf_12_4_ateHall_Thrust hw (fun x26 hw => ?_)
    obtain ⟨c9, s9, hc9, hs9, hw⟩ := hw
    refine zz_callSI (As := [va_rf v1, va_rf x26]) (rest := []) C hR dX17_carryOut_45 q1884 q1885 q1886 zl_DebateHall_Line zk_X10_item zy_X10_item (by decide) (by decide) (ok_X10_item (zz_hl C) hw) hc9 hs9 (zz_cat10 _ (Nat.le_of_ble_eq_true rfl)) (fun r27 M28 hw => zz_kA hw (fun x31 hw => ?_)) (fun t9 q35 M36 hx => ?_) rfl
    · refine zz_astore_n (i := 3) (lv' := [(3, va_rf x31), (0, va_rf v0), (1, va_rf v1), (2, va_rf v2)]) C dX17_carryOut_48 rfl (by decide) (by simp [zz_cat, zz_catI, zz_catJ, zz_catD]) ?_
      refine zz_bipush (v := (6 : Int32)) C dX17_carryOut_49 (by decide) ?_
      refine zz_aload_n C dX17_carryOut_51 rfl 1 rfl ?_
      refine zz_getA C dX17_carryOut_52 (Or.inl q1097) zf_12_1_ateHall_Thrust hw (fun x32 hw => ?_)
      refine zz_gets (j := 9) (v := va_rf (some (zz_ad (zz_Zof G) 9))) C dX17_carryOut_55 (Or.inl q1893) rfl (Or.inl rfl) rfl ?_
      refine zz_acmp_ne (tgt := 72) C dX17_carryOut_58 (by decide) hw (fun hw => ?_) (fun hw => ?_)
      · refine zz_subP [1, 2, 3, 0] rfl ?_
        exact ok_X17_carryOut_B72 C E hH hR hw
      · refine zz_aload_n C dX17_carryOut_61 rfl 0 rfl ?_
        refine zz_getI C dX17_carryOut_62 (Or.inr ⟨_, q1747⟩) zf_15_3_ebateHall_Item hw (fun x33 hw => ?_)
        refine zz_aload_n C dX17_carryOut_65 rfl 3 rfl ?_
        refine zz_getI C dX17_carryOut_66 (Or.inr ⟨_, q1747⟩) zf_15_3_ebateHall_Item hw (fun x34 hw => ?_)
        refine zz_icmp_eq (tgt := 76) C dX17_carryOut_69 (by decide) hw (fun hw => ?_) (fun hw => ?_)
        · refine zz_iconst (v := (0 : Int32)) C dX17_carryOut_76 (by decide) ?_
          refine zz_subP [1, 2, 3, 0] rfl ?_
          exact ok_X17_carryOut_B77 C E hH hR hw
        · refine zz_subP [1, 2, 3, 0] rfl ?_
          exact ok_X17_carryOut_B72 C E hH hR hw
    · exact zz_out C E hH rfl hx
  · exact zz_out C E hH rfl hx
theorem ok_X17_carryOut {Z : zzG} {l : Launch} (hl : l.stackTraces = false) {this : Option Nat} {p0 : Option Nat} {M : zzM} {mc ms : Nat} {K : Option Value → zzM → Prop} {X : Nat → Nat → zzM → Prop} (hw : wp_X17_carryOut Z this p0 M mc ms K X) : zz_Met Z l yX17_carryOut (zz_ws yX17_carryOut cX17_carryOut 5 none none) 137 [va_rf this, va_rf p0] M mc ms K X := by
  refine zz_ofW hl (plainFor_of_name (by decide)) (by simp only [zz_sl0, zz_slI, zz_slJ, zz_slA] <;> decide) (fun G hZ hll C E hH hR hin => ?_)
  subst hZ
  subst hll
  rw [show lv_args 0 [va_rf this, va_rf p0] = [(0, va_rf this), (1, va_rf p0)] by simp only [zz_la0, zz_laI, zz_laJ, zz_laA]]
  unfold wp_X17_carryOut at hw
  refine zz_aload_n C dX17_carryOut_0 rfl 1 rfl ?_
  refine zz_aload_n C dX17_carryOut_1 rfl 0 rfl ?_
  refine zz_getA C dX17_carryOut_2 (Or.inl q1098) zf_12_2_ateHall_Thrust hw (fun x1 hw => ?_)
  obtain ⟨c9, s9, hc9, hs9, hw⟩ := hw
  refine zz_callSI (As := [va_rf p0, va_rf x1]) (rest := []) C hR dX17_carryOut_5 q1882 q1883 q1805 zl_DebateHall_Line zk_X10_free zy_X10_free (by decide) (by decide) (ok_X10_free (zz_hl C) hw) hc9 hs9 (zz_cat10 _ (Nat.le_of_ble_eq_true rfl)) (fun r2 M3 hw => zz_kV hw (fun hw => ?_)) (fun t9 q17 M18 hx => ?_) rfl
  · refine zz_aload_n C dX17_carryOut_8 rfl 1 rfl ?_
    refine zz_aload_n C dX17_carryOut_9 rfl 0 rfl ?_
    refine zz_getA C dX17_carryOut_10 (Or.inl q1099) zf_12_3_ateHall_Thrust hw (fun x6 hw => ?_)
    obtain ⟨c9, s9, hc9, hs9, hw⟩ := hw
    refine zz_callSI (As := [va_rf p0, va_rf x6]) (rest := []) C hR dX17_carryOut_13 q1884 q1885 q1886 zl_DebateHall_Line zk_X10_item zy_X10_item (by decide) (by decide) (ok_X10_item (zz_hl C) hw) hc9 hs9 (zz_cat10 _ (Nat.le_of_ble_eq_true rfl)) (fun r7 M8 hw => zz_kA hw (fun x11 hw => ?_)) (fun t9 q13 M14 hx => ?_) rfl
    · refine zz_astore_n (i := 2) (lv' := [(2, va_rf x11), (0, va_rf this), (1, va_rf p0)]) C dX17_carryOut_16 rfl (by decide) (by simp [zz_cat, zz_catI, zz_catJ, zz_catD]) ?_
      refine zz_iconst (v := (3 : Int32)) C dX17_carryOut_17 (by decide) ?_
      refine zz_aload_n C dX17_carryOut_18 rfl 0 rfl ?_
      refine zz_getA C dX17_carryOut_19 (Or.inr ⟨_, q1739⟩) zf_15_1_ebateHall_Item hw (fun x12 hw => ?_)
      refine zz_gets (j := 8) (v := va_rf (some (zz_ad (zz_Zof G) 8))) C dX17_carryOut_22 (Or.inl q1890) rfl (Or.inl rfl) rfl ?_
      refine zz_acmp_ne (tgt := 32) C dX17_carryOut_25 (by decide) hw (fun hw => ?_) (fun hw => ?_)
      · refine zz_iconst (v := (0 : Int32)) C dX17_carryOut_32 (by decide) ?_
        refine zz_subP [1, 2, 0] rfl ?_
        exact ok_X17_carryOut_B33 C E hH hR hw
      · refine zz_iconst (v := (1 : Int32)) C dX17_carryOut_28 (by decide) ?_
        refine zz_goto (tgt := 33) C dX17_carryOut_29 (by decide) ?_
        refine zz_subP [1, 2, 0] rfl ?_
        exact ok_X17_carryOut_B33 C E hH hR hw
    · exact zz_out C E hH rfl hx
  · exact zz_out C E hH rfl hx
abbrev cX18_carryOut : ByteArray := prog_23_method_2_code
def yX18_carryOut : MethodName := ⟨"DebateHall$Turn", "carryOut", "(LDebateHall$Minutes;)V"⟩
def dkwX18_carryOut_2 : List UInt8 := [180, 0, 13, 181, 0, 21, 177]
abbrev dktX18_carryOut_2 : List UInt8 := dkwX18_carryOut_2 ++ []
def dkwX18_carryOut_1 : List UInt8 := [167, 0, 4, 3, 42, 180, 0, 7, 184, 0, 26, 42, 43, 44, 180, 0, 30, 5, 182, 0, 34, 44, 42]
abbrev dktX18_carryOut_1 : List UInt8 := dkwX18_carryOut_1 ++ dktX18_carryOut_2
def dkwX18_carryOut_0 : List UInt8 := [43, 42, 180, 0, 7, 184, 0, 17, 77, 16, 6, 44, 180, 0, 21, 42, 180, 0, 13, 159, 0, 7, 4]
abbrev dktX18_carryOut_0 : List UInt8 := dkwX18_carryOut_0 ++ dktX18_carryOut_1
theorem dksX18_carryOut_0 : cX18_carryOut.data.toList.drop 0 = dktX18_carryOut_0 := by decide +kernel
theorem dksX18_carryOut_1 : cX18_carryOut.data.toList.drop 23 = dktX18_carryOut_1 := dk_seg dksX18_carryOut_0 23 rfl rfl
theorem dksX18_carryOut_2 : cX18_carryOut.data.toList.drop 46 = dktX18_carryOut_2 := dk_seg dksX18_carryOut_1 23 rfl rfl
theorem dX18_carryOut_0 : decode cX18_carryOut 0 = .ok (.aload_n 1, 1) := dk_43 (dk_at dksX18_carryOut_0 0 rfl rfl)
theorem dX18_carryOut_1 : decode cX18_carryOut 1 = .ok (.aload_n 0, 1) := dk_42 (dk_at dksX18_carryOut_0 1 rfl rfl)
theorem dX18_carryOut_2 : decode cX18_carryOut 2 = .ok (.getfield 7, 3) := dk_180 0 7 (dk_at dksX18_carryOut_0 2 rfl rfl)
theorem dX18_carryOut_5 : decode cX18_carryOut 5 = .ok (.invokestatic 17, 3) := dk_184 0 17 (dk_at dksX18_carryOut_0 5 rfl rfl)
theorem dX18_carryOut_8 : decode cX18_carryOut 8 = .ok (.astore_n 2, 1) := dk_77 (dk_at dksX18_carryOut_0 8 rfl rfl)
theorem dX18_carryOut_9 : decode cX18_carryOut 9 = .ok (.bipush 6, 2) := dk_16 6 (dk_at dksX18_carryOut_0 9 rfl rfl)
theorem dX18_carryOut_11 : decode cX18_carryOut 11 = .ok (.aload_n 2, 1) := dk_44 (dk_at dksX18_carryOut_0 11 rfl rfl)
theorem dX18_carryOut_12 : decode cX18_carryOut 12 = .ok (.getfield 21, 3) := dk_180 0 21 (dk_at dksX18_carryOut_0 12 rfl rfl)
theorem dX18_carryOut_15 : decode cX18_carryOut 15 = .ok (.aload_n 0, 1) := dk_42 (dk_at dksX18_carryOut_0 15 rfl rfl)
theorem dX18_carryOut_16 : decode cX18_carryOut 16 = .ok (.getfield 13, 3) := dk_180 0 13 (dk_at dksX18_carryOut_0 16 rfl rfl)
theorem dX18_carryOut_19 : decode cX18_carryOut 19 = .ok (.if_icmp .eq 7, 3) := dk_159 0 7 (dk_at dksX18_carryOut_0 19 rfl rfl)
theorem dX18_carryOut_22 : decode cX18_carryOut 22 = .ok (.iconst 1, 1) := dk_4 (dk_at dksX18_carryOut_0 22 rfl rfl)
theorem dX18_carryOut_23 : decode cX18_carryOut 23 = .ok (.goto 4, 3) := dk_167 0 4 (dk_at dksX18_carryOut_1 0 rfl rfl)
theorem dX18_carryOut_26 : decode cX18_carryOut 26 = .ok (.iconst 0, 1) := dk_3 (dk_at dksX18_carryOut_1 3 rfl rfl)
theorem dX18_carryOut_27 : decode cX18_carryOut 27 = .ok (.aload_n 0, 1) := dk_42 (dk_at dksX18_carryOut_1 4 rfl rfl)
theorem dX18_carryOut_28 : decode cX18_carryOut 28 = .ok (.getfield 7, 3) := dk_180 0 7 (dk_at dksX18_carryOut_1 5 rfl rfl)
theorem dX18_carryOut_31 : decode cX18_carryOut 31 = .ok (.invokestatic 26, 3) := dk_184 0 26 (dk_at dksX18_carryOut_1 8 rfl rfl)
theorem dX18_carryOut_34 : decode cX18_carryOut 34 = .ok (.aload_n 0, 1) := dk_42 (dk_at dksX18_carryOut_1 11 rfl rfl)
theorem dX18_carryOut_35 : decode cX18_carryOut 35 = .ok (.aload_n 1, 1) := dk_43 (dk_at dksX18_carryOut_1 12 rfl rfl)
theorem dX18_carryOut_36 : decode cX18_carryOut 36 = .ok (.aload_n 2, 1) := dk_44 (dk_at dksX18_carryOut_1 13 rfl rfl)
theorem dX18_carryOut_37 : decode cX18_carryOut 37 = .ok (.getfield 30, 3) := dk_180 0 30 (dk_at dksX18_carryOut_1 14 rfl rfl)
theorem dX18_carryOut_40 : decode cX18_carryOut 40 = .ok (.iconst 2, 1) := dk_5 (dk_at dksX18_carryOut_1 17 rfl rfl)
theorem dX18_carryOut_41 : decode cX18_carryOut 41 = .ok (.invokevirtual 34, 3) := dk_182 0 34 (dk_at dksX18_carryOut_1 18 rfl rfl)
theorem dX18_carryOut_44 : decode cX18_carryOut 44 = .ok (.aload_n 2, 1) := dk_44 (dk_at dksX18_carryOut_1 21 rfl rfl)
theorem dX18_carryOut_45 : decode cX18_carryOut 45 = .ok (.aload_n 0, 1) := dk_42 (dk_at dksX18_carryOut_1 22 rfl rfl)
theorem dX18_carryOut_46 : decode cX18_carryOut 46 = .ok (.getfield 13, 3) := dk_180 0 13 (dk_at dksX18_carryOut_2 0 rfl rfl)
theorem dX18_carryOut_49 : decode cX18_carryOut 49 = .ok (.putfield 21, 3) := dk_181 0 21 (dk_at dksX18_carryOut_2 3 rfl rfl)
theorem dX18_carryOut_52 : decode cX18_carryOut 52 = .ok (.return_, 1) := dk_177 (dk_at dksX18_carryOut_2 6 rfl rfl)
theorem q1760 : (Jvm.Cond.fieldLinkNest "DebateHall$Turn" (21 : Nat) "DebateHall$Item" "isConceded" "Z" "DebateHall") ∈ lw_tbl := lw_at lw_m8 0 rfl
theorem q2001 : (Jvm.Cond.methodLink "DebateHall$Turn" (17 : Nat) ({ cls := "DebateHall$Turn", name := "item", desc := "(LDebateHall$Minutes;LDebateHall$Token;)LDebateHall$Item;" } : Jvm.MethodName)) ∈ lw_all := lw_g (lw_at lw_m9 1 rfl) rfl
theorem q2002 : (Jvm.Cond.sameMethod "DebateHall$Turn" "DebateHall$Line" "item" "(LDebateHall$Minutes;LDebateHall$Token;)LDebateHall$Item;") ∈ lw_all := lw_g (lw_at lw_m9 2 rfl) rfl
theorem q1746 : (Jvm.Cond.fieldLinkNest "DebateHall$Turn" (30 : Nat) "DebateHall$Item" "speaker" "I" "DebateHall") ∈ lw_tbl := lw_at lw_m7 226 rfl
theorem q2005 : (Jvm.Cond.methodLink "DebateHall$Turn" (34 : Nat) ({ cls := "DebateHall$Turn", name := "spend", desc := "(LDebateHall$Minutes;II)V" } : Jvm.MethodName)) ∈ lw_all := lw_g (lw_at lw_m9 5 rfl) rfl
theorem q2006 : (Jvm.Cond.sameMethod "DebateHall$Turn" "DebateHall$Line" "spend" "(LDebateHall$Minutes;II)V") ∈ lw_all := lw_g (lw_at lw_m9 6 rfl) rfl
theorem q2007 : (Jvm.Cond.selects "DebateHall$Turn" ({ cls := "DebateHall$Turn", name := "spend", desc := "(LDebateHall$Minutes;II)V" } : Jvm.MethodName) ({ cls := "DebateHall$Line", name := "spend", desc := "(LDebateHall$Minutes;II)V" } : Jvm.MethodName)) ∈ lw_all := lw_g (lw_at lw_m9 7 rfl) rfl
theorem q2003 : (Jvm.Cond.methodLink "DebateHall$Turn" (26 : Nat) ({ cls := "DebateHall$Turn", name := "check", desc := "(IZLDebateHall$Token;)V" } : Jvm.MethodName)) ∈ lw_all := lw_g (lw_at lw_m9 3 rfl) rfl
theorem q2004 : (Jvm.Cond.sameMethod "DebateHall$Turn" "DebateHall$Line" "check" "(IZLDebateHall$Token;)V") ∈ lw_all := lw_g (lw_at lw_m9 4 rfl) rfl
def wp_X18_carryOut_B27 (Z : zzG) (K : Option Value → zzM → Prop) (X : Nat → Nat → zzM → Prop) (v0 : Option Nat) (v1 : Option Nat) (v2 : Option Nat) (s0 : Int32) (s1 : Int32) (M : zzM) (bc bs : Nat) : Prop := zgA Z M v0 [13] 1 fun x13 => zcx bc bs (fun c s k x => wp_X10_check Z s1 s0 x13 M c s k x) (fun r14 M15 bc16 bs17 => zrV r14 (zgI Z M15 v2 [15] 3 fun x18 => zty Z M15 v0 fun t => t = 13 ∧ zcx bc16 bs17 (fun c s k x => wp_X10_spend Z v0 v1 x18 (2 : Int32) M15 c s k x) (fun r19 M20 bc21 bs22 => zrV r19 (zgI Z M20 v0 [13] 2 fun x23 => zfit .boolean x23 ∧ zput Z M20 v2 [15] 7 (.int x23) fun M24 => K none M24)) (fun t q M _ _ => X t q M))) (fun t q M _ _ => X t q M)
def wp_X18_carryOut (Z : zzG) (this : Option Nat) (p0 : Option Nat) (M : zzM) (bc bs : Nat) (K : Option Value → zzM → Prop) (X : Nat → Nat → zzM → Prop) : Prop := zgA Z M this [13] 1 fun x1 => zcx bc bs (fun c s k x => wp_X10_item Z p0 x1 M c s k x) (fun r2 M3 bc4 bs5 => zrA r2 fun x6 => zgI Z M3 x6 [15] 7 fun x7 => zgI Z M3 this [13] 2 fun x8 => if x7 = x8 then (wp_X18_carryOut_B27 Z K X this p0 x6 (0 : Int32) (6 : Int32) M3 bc4 bs5) else (wp_X18_carryOut_B27 Z K X this p0 x6 (1 : Int32) (6 : Int32) M3 bc4 bs5)) (fun t q M _ _ => X t q M)
theorem ok_X18_carryOut_B27 {G : zzX} (C : zz_C G cX18_carryOut "DebateHall$Turn" 3) {K : Option Value → zzM → Prop} {X : Nat → Nat → zzM → Prop} (E : zz_E G none K X) (hH : zz_H G []) (hR : zz_Rm G 75) {v0 : Option Nat} {v1 : Option Nat} {v2 : Option Nat} {s0 : Int32} {s1 : Int32} {M : zzM} {bc bs : Nat} (hw : wp_X18_carryOut_B27 (zz_Zof G) K X v0 v1 v2 s0 s1 M bc bs) : zz_T G 3 M bc bs 27 [(0, va_rf v0), (1, va_rf v1), (2, va_rf v2)] [.int s0, .int s1] := by
  unfold wp_X18_carryOut_B27 at hw
  refine zz_aload_n C dX18_carryOut_27 rfl 0 rfl ?_
  refine zz_getA C dX18_carryOut_28 (Or.inl q1128) zf_13_1_ebateHall_Turn hw (fun x13 hw => ?_)
  obtain ⟨c9, s9, hc9, hs9, hw⟩ := hw
  refine zz_callSI (As := [.int s1, .int s0, va_rf x13]) (rest := []) C hR dX18_carryOut_31 q2003 q2004 q1820 zl_DebateHall_Line zk_X10_check zy_X10_check (by decide) (by decide) (ok_X10_check (zz_hl C) hw) hc9 hs9 (zz_cat10 _ (Nat.le_of_ble_eq_true rfl)) (fun r14 M15 hw => zz_kV hw (fun hw => ?_)) (fun t9 q29 M30 hx => ?_) rfl
  · refine zz_aload_n C dX18_carryOut_34 rfl 0 rfl ?_
    refine zz_aload_n C dX18_carryOut_35 rfl 1 rfl ?_
    refine zz_aload_n C dX18_carryOut_36 rfl 2 rfl ?_
    refine zz_getI C dX18_carryOut_37 (Or.inr ⟨_, q1746⟩) zf_15_3_ebateHall_Item hw (fun x18 hw => ?_)
    refine zz_iconst (v := (2 : Int32)) C dX18_carryOut_40 (by decide) ?_
    obtain ⟨a9, t9, b9, fs9, hro, hL, rfl, hw⟩ := ztyS hw
    obtain ⟨c9, s9, hc9, hs9, hw⟩ := hw
    refine zz_callU (r := (zR_13, zT_13, 3)) (x := ⟨"DebateHall$Turn", "spend", "(LDebateHall$Minutes;II)V"⟩) (owner := "DebateHall$Line") (As := [va_rf v1, .int x18, .int (2 : Int32)]) (rest := []) C hR hro dX18_carryOut_41 q2005 q2006 (Or.inl q1857) q1859 q2007 zl_DebateHall_Line zk_X10_spend zyo_DebateHall_Line_spend__LDebateHall_Minutes_II_V rfl (by decide) (by decide) hL (ok_X10_spend (zz_hl C) hw) hc9 hs9 (zz_cat10 _ (Nat.le_of_ble_eq_true rfl)) (fun r19 M20 hw => zz_kV hw (fun hw => ?_)) (fun t9 q25 M26 hx => ?_) rfl
    · refine zz_aload_n C dX18_carryOut_44 rfl 2 rfl ?_
      refine zz_aload_n C dX18_carryOut_45 rfl 0 rfl ?_
      refine zz_getI C dX18_carryOut_46 (Or.inl q1129) zf_13_2_ebateHall_Turn hw (fun x23 hw => ?_)
      obtain ⟨hfit, hw⟩ := hw
      refine zz_put C dX18_carryOut_49 (Or.inr ⟨_, q1760⟩) zf_15_7_ebateHall_Item zp_15_7 (zz_hn1 hfit) hw (fun M24 hw => ?_)
      exact zz_vret C E dX18_carryOut_52 hw
    · exact zz_out C E hH rfl hx
  · exact zz_out C E hH rfl hx
theorem ok_X18_carryOut {Z : zzG} {l : Launch} (hl : l.stackTraces = false) {this : Option Nat} {p0 : Option Nat} {M : zzM} {mc ms : Nat} {K : Option Value → zzM → Prop} {X : Nat → Nat → zzM → Prop} (hw : wp_X18_carryOut Z this p0 M mc ms K X) : zz_Met Z l yX18_carryOut (zz_ws yX18_carryOut cX18_carryOut 3 none none) 75 [va_rf this, va_rf p0] M mc ms K X := by
  refine zz_ofW hl (plainFor_of_name (by decide)) (by simp only [zz_sl0, zz_slI, zz_slJ, zz_slA] <;> decide) (fun G hZ hll C E hH hR hin => ?_)
  subst hZ
  subst hll
  rw [show lv_args 0 [va_rf this, va_rf p0] = [(0, va_rf this), (1, va_rf p0)] by simp only [zz_la0, zz_laI, zz_laJ, zz_laA]]
  unfold wp_X18_carryOut at hw
  refine zz_aload_n C dX18_carryOut_0 rfl 1 rfl ?_
  refine zz_aload_n C dX18_carryOut_1 rfl 0 rfl ?_
  refine zz_getA C dX18_carryOut_2 (Or.inl q1128) zf_13_1_ebateHall_Turn hw (fun x1 hw => ?_)
  obtain ⟨c9, s9, hc9, hs9, hw⟩ := hw
  refine zz_callSI (As := [va_rf p0, va_rf x1]) (rest := []) C hR dX18_carryOut_5 q2001 q2002 q1886 zl_DebateHall_Line zk_X10_item zy_X10_item (by decide) (by decide) (ok_X10_item (zz_hl C) hw) hc9 hs9 (zz_cat10 _ (Nat.le_of_ble_eq_true rfl)) (fun r2 M3 hw => zz_kA hw (fun x6 hw => ?_)) (fun t9 q9 M10 hx => ?_) rfl
  · refine zz_astore_n (i := 2) (lv' := [(2, va_rf x6), (0, va_rf this), (1, va_rf p0)]) C dX18_carryOut_8 rfl (by decide) (by simp [zz_cat, zz_catI, zz_catJ, zz_catD]) ?_
    refine zz_bipush (v := (6 : Int32)) C dX18_carryOut_9 (by decide) ?_
    refine zz_aload_n C dX18_carryOut_11 rfl 0 rfl ?_
    refine zz_getI C dX18_carryOut_12 (Or.inr ⟨_, q1760⟩) zf_15_7_ebateHall_Item hw (fun x7 hw => ?_)
    refine zz_aload_n C dX18_carryOut_15 rfl 1 rfl ?_
    refine zz_getI C dX18_carryOut_16 (Or.inl q1129) zf_13_2_ebateHall_Turn hw (fun x8 hw => ?_)
    refine zz_icmp_eq (tgt := 26) C dX18_carryOut_19 (by decide) hw (fun hw => ?_) (fun hw => ?_)
    · refine zz_iconst (v := (0 : Int32)) C dX18_carryOut_26 (by decide) ?_
      refine zz_subP [1, 2, 0] rfl ?_
      exact ok_X18_carryOut_B27 C E hH hR hw
    · refine zz_iconst (v := (1 : Int32)) C dX18_carryOut_22 (by decide) ?_
      refine zz_goto (tgt := 27) C dX18_carryOut_23 (by decide) ?_
      refine zz_subP [1, 2, 0] rfl ?_
      exact ok_X18_carryOut_B27 C E hH hR hw
  · exact zz_out C E hH rfl hx
