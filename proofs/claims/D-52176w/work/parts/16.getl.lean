/-! LAYER Z: Unsafe.getLong on the bytes of an array of ours (the kit's law of it can't be imported here: after the same model's definitions) -/
def zz_glp : NativeRow → Bool := fun r => r.name == "getLong" && r.cls == "jdk/internal/misc/Unsafe" && r.desc == "(Ljava/lang/Object;J)J"
theorem zz_gl0 : ((Jvm.natives.take 460).find? zz_glp).isNone = true := by decide +kernel
abbrev zz_glr : NativeRow := Native.jdk_internal_misc_Unsafe.memory.getRow "Long" "J" .long "" .plain
set_option maxRecDepth 1000000 in
theorem zz_gl1 : ∃ t, Jvm.natives.drop 460 = zz_glr :: t := ⟨_, rfl⟩
theorem zz_gl2 : NativeRow.find? Jvm.natives "jdk/internal/misc/Unsafe" "getLong" "(Ljava/lang/Object;J)J" = some zz_glr := by
  show Jvm.natives.find? zz_glp = some zz_glr
  obtain ⟨t, ht⟩ := zz_gl1
  rw [← List.take_append_drop 460 Jvm.natives, List.find?_append, Option.isNone_iff_eq_none.mp zz_gl0, ht]
  rfl
theorem zz_gl3 (p : Program) : NativeRow.find? p.tables.natives "jdk/internal/misc/Unsafe" "getLong" "(Ljava/lang/Object;J)J" = some zz_glr := by
  rw [Ours.natives (tb := p.tables)]
  exact zz_gl2
abbrev zz_gln : MethodName := ⟨"jdk/internal/misc/Unsafe", "getLong", "(Ljava/lang/Object;J)J"⟩
def zub (v : Value) : Nat := match v with
  | .int x => x.toUInt32.toNat % 256
  | _ => 0
def zpk (vs : List Value) : Int64 := ((vs.zipIdx.map fun (q : Value × Nat) => zub q.1 * 2 ^ (8 * q.2)).sum).toUInt64.toInt64
def zgetL (Z : zzG) (M : zzM) (u o : Option Nat) (off : Int64) (K : Int64 → Prop) : Prop := match u, o with
  | some au, some a => (match zz_LO Z M au, zz_L Z M a with
    | some (_, t, _), some (true, t', vs) => t = 34 ∧ t' = 101 ∧ ¬ off < 0 ∧ ∃ p : Nat, off.toNatClampNeg = 16 + p ∧ p + 8 ≤ vs.length ∧ K (zpk ((vs.drop p).take 8))
    | _, _ => False)
  | _, _ => False
section ZGLW
variable {E : Jvm.CtlPost} {e : Env} {d : Bool} {acts : List Action} {s : State}
theorem zz_glB {a : Addr} {A : Cell} {i : Nat} {x : Int32} {Q : Nat → Jvm.Pre} (hA : s.heap[a]? = some A) (hvm : A.vm = .none) (h : A.slots[i]? = some (.int x)) (hQ : ∀ d' acts', Q (zub (.int x)) d' acts' s) :
    wp (UnsafeMem.readByte a .byte i .plain) Q E e d acts s := by
  simp [UnsafeMem.readByte, UnsafeMem.scaleOf, UnsafeMem.bitsOf, hA, hvm, h, Nat.mod_one]
  exact hQ _ _
theorem zz_glL {a : Addr} {A : Cell} {k : Class} {comp : ClassId} {p : Nat} {off : Int64} {Q : UnsafeMem.Target → Jvm.Pre}
    (hA : s.heap[a]? = some A) (hvm : A.vm = .none) (hk : s.vm.classes[A.cls]? = some k) (hkind : k.kind = .array comp .byte) (hneg : ¬ off < 0) (hoff : off.toNatClampNeg = 16 + p) (hQ : Q (.bytes a .byte p) d acts s) : wp (UnsafeMem.locate (.ref a) off .long) Q E e d acts s := by
  simp [UnsafeMem.locate, hneg, hoff, hA, Cell.info, hvm, hk, hkind, UnsafeMem.arrayBase, UnsafeMem.scaleOf, UnsafeMem.isRefType]
  exact hQ
theorem zz_glG {a : Addr} {A : Cell} {k : Class} {comp : ClassId} {p : Nat} {off : Int64} {Q : Value → Jvm.Pre} (x : Nat → Int32)
    (hA : s.heap[a]? = some A) (hvm : A.vm = .none) (hk : s.vm.classes[A.cls]? = some k) (hkind : k.kind = .array comp .byte) (hneg : ¬ off < 0) (hoff : off.toNatClampNeg = 16 + p) (hx : ∀ k, k < 8 → A.slots[p + k]? = some (.int (x k)))
    (hQ : ∀ d' acts', Q (.long (zpk [.int (x 0), .int (x 1), .int (x 2), .int (x 3), .int (x 4), .int (x 5), .int (x 6), .int (x 7)])) d' acts' s) : wp (UnsafeMem.get .long (.ref a) off .plain) Q E e d acts s := by
  have hr : List.range (UnsafeMem.scaleOf .long) = [0, 1, 2, 3, 4, 5, 6, 7] := rfl
  simp only [UnsafeMem.get, wp_bind']
  refine zz_glL hA hvm hk hkind hneg hoff ?_
  simp only [hr, List.mapM, List.mapM.loop, wp_bind', wp_pure']
  refine zz_glB hA hvm (hx 0 (by decide)) fun _ _ => ?_
  simp only [wp_bind', wp_pure']
  refine zz_glB hA hvm (hx 1 (by decide)) fun _ _ => ?_
  simp only [wp_bind', wp_pure']
  refine zz_glB hA hvm (hx 2 (by decide)) fun _ _ => ?_
  simp only [wp_bind', wp_pure']
  refine zz_glB hA hvm (hx 3 (by decide)) fun _ _ => ?_
  simp only [wp_bind', wp_pure']
  refine zz_glB hA hvm (hx 4 (by decide)) fun _ _ => ?_
  simp only [wp_bind', wp_pure']
  refine zz_glB hA hvm (hx 5 (by decide)) fun _ _ => ?_
  simp only [wp_bind', wp_pure']
  refine zz_glB hA hvm (hx 6 (by decide)) fun _ _ => ?_
  simp only [wp_bind', wp_pure']
  refine zz_glB hA hvm (hx 7 (by decide)) fun _ _ => ?_
  simp only [wp_bind', wp_pure']
  exact hQ _ _
end ZGLW
section ZGLR
variable {G : zzX} {nL : Nat} {M : zzM} {bc bs pc : Nat} {lv : List (Nat × Value)} {rest : List Value} {cc : ByteArray} {own : String} {fr : Nat}
theorem zz_glS (p : Program) {e : Env} {below : List Frame} {s target : State} {g : JFrame} {c : Code} {m : MethodId} {meth : Method} {k : Class} {ig : Instr} {len : Nat} (h : At s g.method c below) (acts : List Action)
    (N : NativeOf s.vm m k meth "jdk/internal/misc/Unsafe" "getLong" "(Ljava/lang/Object;J)J" false [.object "java/lang/Object", .long]) {u a : Addr} {A : Cell} {kA : Class} {comp : ClassId} {q : Nat} {off : Int64} (x : Nat → Int32)
    (hroom : e.platform.stackFull (((s.setTop g).threads[(s.setTop g).cur]?).getD { frames := [] }) (s.setTop g).frames (nativeFrameWords "jdk/internal/misc/Unsafe" "getLong" 4) = false)
    (hA : s.heap[a]? = some A) (hvm : A.vm = .none) (hk : s.vm.classes[A.cls]? = some kA) (hkind : kA.kind = .array comp .byte) (hneg : ¬ off < 0) (hoff : off.toNatClampNeg = 16 + q) (hx : ∀ k, k < 8 → A.slots[q + k]? = some (.int (x k))) (hdg : decode c.code g.pc = .ok (ig, len))
    (hrest : Steps p.tables e below (s.setTop { g with pc := g.pc + len, stack := .long (zpk [.int (x 0), .int (x 1), .int (x 2), .int (x 3), .int (x 4), .int (x 5), .int (x 6), .int (x 7)]) :: g.stack }) target) :
    Steps p.tables e below (doInvoke e (s.setTop g) acts m #[.ref u, .ref a, .long off]).1 target := by
  have hseen : seenByNative meth #[.ref u, .ref a, .long off] = #[.ref u, .ref a, .long off] := by simp [seenByNative, N.static, N.sig, narrow]
  refine Steps.nativeEnds (row := zz_glr) (v := some (.long (zpk [.int (x 0), .int (x 1), .int (x 2), .int (x 3), .int (x 4), .int (x 5), .int (x 6), .int (x 7)]))) (T := id) h acts N.cls N.meth N.boot N.native N.noCode N.noLock
    (by rw [N.className, N.name, N.desc]; exact zz_gl3 p) (by rw [N.className, N.name]; exact hroom) (fun _ => rfl) rfl (fun _ => h.code) ?_ hdg hrest
  intro Q hq
  rw [hseen] at hq ⊢
  show wp (do let v ← UnsafeMem.get .long (.ref a) off .plain; mark "nat.jdk_internal_misc_Unsafe.get"; Pure.pure (some v)) Q _ e false [] _
  simp only [wp_bind']
  refine zz_glG x (A := A) (k := kA) (comp := comp) (p := q) hA hvm hk hkind hneg hoff hx fun d' acts' => ?_
  simp
  exact hq _ _
theorem zz_getL (C : zz_C G cc own nL) (hR : zz_Rm G fr) (hfr : 1 ≤ fr) {i : Nat} {u o : Option Nat} {off : Int64} {K : Int64 → Prop} (d : decode cc pc = .ok (.invokevirtual i, 3)) (q1 : Cond.methodLink own i zz_gln ∈ lw_all) (q2 : Cond.native zz_gln ∈ lw_all) (q3 : Cond.instanceMethod zz_gln ∈ lw_all) (q4 : Cond.selects "jdk/internal/misc/Unsafe" zz_gln zz_gln ∈ lw_all) (hca : (rest.map fun v => v.category).sum ≤ 20) (hw : zgetL (zz_Zof G) M u o off K)
    (h : ∀ x : Int64, K x → zz_T G nL M bc bs (pc + 3) lv (.long x :: rest)) : zz_T G nL M bc bs pc lv (.long off :: va_rf o :: va_rf u :: rest) := by
  unfold zgetL at hw
  split at hw
  rotate_left
  · exact hw.elim
  rename_i au a
  split at hw
  rotate_left
  · exact hw.elim
  rename_i b t fu t' vs hL1 hL2
  obtain ⟨rfl, rfl, hneg, q, hoff, hlen, hK⟩ := hw
  have h := h _ hK
  obtain ⟨p, l, e, R, s, m, args, below, meth, c, Q, Z⟩ := G
  obtain ⟨hxx, hb, hml, hown, hts, hS, hl⟩ := C
  have hR1 : fr ≤ R.frames := hR.1
  have hR2 : 64 * fr ≤ R.locals := hR.2
  intro H locs cells slots ls h1 h2 h3 h4 h5 T hT X9
  obtain ⟨cellB, g1, g2, g3⟩ := zz_rcv (r := (zR_34, zT_34, 0)) hS rfl (h1 _ _ _ (zz_LOr hL1))
  obtain ⟨A, c1, ⟨-, kA, c2, comp, c3⟩, c4, c5, c6, c7, c8, c9, c10, c11, c12⟩ := zz_arr hS (ty := .byte) rfl (h1 _ _ _ (Or.inl hL2))
  have hvm : A.vm = .none := (c6 rfl).1
  obtain ⟨x, hx⟩ : ∃ x : Nat → Int32, ∀ k, k < 8 → vs[q + k]? = some (.int (x k)) := by
    refine ⟨fun k => match vs[q + k]? with | some (.int y) => y | _ => 0, fun k hk => ?_⟩
    have hlt : q + k < vs.length := by omega
    have hv := List.getElem?_eq_getElem hlt
    have hf := (c12 _ _ hv).2
    show vs[q + k]? = some (.int (match vs[q + k]? with | some (.int y) => y | _ => 0))
    rw [hv]
    generalize vs[q + k] = v at hf ⊢
    cases v <;> first | rfl | (simp [fits] at hf)
  have hpk : zpk ((vs.drop q).take 8) = zpk [.int (x 0), .int (x 1), .int (x 2), .int (x 3), .int (x 4), .int (x 5), .int (x 6), .int (x 7)] := by
    congr 1
    refine List.ext_getElem? fun j => ?_
    rw [List.getElem?_take]
    by_cases hj : j < 8
    · rw [if_pos hj, List.getElem?_drop, hx j hj]
      rcases j with _ | _ | _ | _ | _ | _ | _ | _ | j <;> first | rfl | omega
    · rw [if_neg hj]
      symm
      exact List.getElem?_eq_none (by simpa using hj)
  obtain ⟨mk, methM, hnamed, hmethM, hstM, habM⟩ := Cond.instanceMethod_spec (hts _ q3)
  obtain ⟨z2, r2, m2, p1, p2, p3, p4, kP, hkP, hkPi⟩ := Cond.selects_spec (hts _ q4)
  have g3' : s.vm.findClass "jdk/internal/misc/Unsafe" = some cellB.cls := g3
  cases g3'.symm.trans p1
  cases (State.methodFound?_of_named hnamed (by decide)).symm.trans p2
  cases hnamed.symm.trans p3
  have hselP : selectMethod e.platform s.vm cellB.cls mk = .method mk := by rw [Launch.admits_selectMethod X9.admits]; exact p4
  obtain ⟨mN, kN, methN, hnamedN, hmethN, hkN, N⟩ := NativeOf.of_instance (hts _ q2) (hts _ q3) (ps := [.object "java/lang/Object", .long]) (ret := some .long) (by decide +kernel)
  cases hnamed.symm.trans hnamedN
  cases hmethM.symm.trans hmethN
  obtain ⟨vm₁, X₁, hstep₁⟩ := X9.invokevirtual hxx hown (hts _ q1) hnamed hmethM hstM hkP hkPi (by decide) (a := au) (cell := cellB) (by rw [hT]; exact g1)
    (fun z h => by rw [h] at g2; cases g2) hselP hmethM habM hkP hkPi (g := F0 m pc ls (.long off :: .ref a :: .ref au :: rest)) rfl (argsL := [.ref a, .long off]) (rest := rest) (by rw [N.sig]; rfl) rfl (by rw [hb]; exact d)
  have hal : s.vm.Alike vm₁ := X₁.warmed.alike
  obtain ⟨kN₁, N₁⟩ := N.alike hal
  obtain ⟨kA₁, hkA₁, ekA⟩ := hal.2.2 _ _ c2
  obtain ⟨t9, a1, b1⟩ := h H locs cells slots ls h1 h2 h3 h4 h5 (T.setVm vm₁) hT X₁
  refine ⟨t9, hstep₁ _ fun acts => ?_, b1⟩
  refine zz_glS p (g := { (F0 m pc ls (.long off :: .ref a :: .ref au :: rest)) with stack := rest }) (u := au) X₁.here acts N₁ x (X₁.notFull (g := { (F0 m pc ls (.long off :: .ref a :: .ref au :: rest)) with stack := rest }) (h5.1.trans hml.symm) (vars := nativeFrameWords "jdk/internal/misc/Unsafe" "getLong" 4) (by omega) (by rw [show nativeFrameWords "jdk/internal/misc/Unsafe" "getLong" 4 = 6 from by decide]; show 2 * 0 + (rest.map fun v => v.category).sum + (6 + 11) ≤ R.locals; omega))
    (show (T.setVm vm₁).heap[a]? = some A by show T.heap[a]? = _; rw [hT]; exact c1) hvm hkA₁ (by rw [ekA]; exact c3) hneg hoff (fun k hk => (c12 _ _ (hx k hk)).1) (by rw [hb]; exact d) ?_
  rw [← hpk]
  exact a1
end ZGLR
