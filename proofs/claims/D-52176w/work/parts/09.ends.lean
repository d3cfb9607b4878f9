/-! LAYER Z: a method's entry and its ends, exceptions caught, natives -/
def zrI (v : Option Value) (K : Int32 → Prop) : Prop := match v with
  | some (.int x) => K x
  | _ => False
def zrJ (v : Option Value) (K : Int64 → Prop) : Prop := match v with
  | some (.long x) => K x
  | _ => False
def zrD (v : Option Value) (K : UInt64 → Prop) : Prop := match v with
  | some (.double x) => K x
  | _ => False
def zrA (v : Option Value) (K : Option Nat → Prop) : Prop := match v with
  | some (.ref a) => K (some a)
  | some .null => K none
  | _ => False
def zrV (v : Option Value) (K : Prop) : Prop := match v with
  | none => K
  | _ => False
/-- a call that may make cells: some budget is given away -/
def zcc (bc bs : Nat) (w : Nat → Nat → (Option Value → zzM → Prop) → Prop) (K : Option Value → zzM → Nat → Nat → Prop) : Prop := ∃ c s : Nat, c ≤ bc ∧ s ≤ bs ∧ w c s (fun v M => K v M (bc - c) (bs - s))
/-- .. and may throw -/
def zcx (bc bs : Nat) (w : Nat → Nat → (Option Value → zzM → Prop) → (Nat → Nat → zzM → Prop) → Prop) (K : Option Value → zzM → Nat → Nat → Prop) (X : Nat → Nat → zzM → Nat → Nat → Prop) : Prop := ∃ c s : Nat, c ≤ bc ∧ s ≤ bs ∧ w c s (fun v M => K v M (bc - c) (bs - s)) (fun t q M => X t q M (bc - c) (bs - s))
def zz_MQ (below : List Frame) (Z : zzG) (K : Option Value → zzM → Prop) (X : Nat → Nat → zzM → Prop) (mc ms : Nat) (a : Array Value) (s : State) : State → Prop := fun t =>
  ∃ o, t.status = .running ∧ Ended t below o ∧ zz_Q Z K X mc ms a s o t
/-- what a method's end owes -/
def zz_E (G : zzX) (ret : Option FieldType) (K : Option Value → zzM → Prop) (X : Nat → Nat → zzM → Prop) : Prop :=
  match G with
  | (p, l, e, R, s, m, args, below, meth, c, Q, Z) => Q = zz_MQ below Z K X R.cells R.slots args s ∧ meth.locks = false ∧ meth.sig.returnType = ret
/-- its handlers -/
def zz_H (G : zzX) (hh : List (Nat × Nat × Nat × Nat)) : Prop :=
  match G with
  | (p, l, e, R, s, m, args, below, meth, c, Q, Z) => c.exceptionTable.toList = tableOf hh
theorem zz_ofW {Z : zzG} {l : Launch} {y : MethodName} {cc : ByteArray} {maxL fr : Nat} {ret : Option FieldType} {hh : Option (List (Nat × Nat × Nat × Nat))} {as : List Value} {M : zzM} {mc ms : Nat} {K : Option Value → zzM → Prop} {X : Nat → Nat → zzM → Prop} (hl : l.stackTraces = false) (hy : plainFor y = true) (hfit : (lg_sl as).length ≤ maxL)
    (body : ∀ G : zzX, zz_Zof G = Z → zz_l G = l → zz_C G cc y.cls maxL → zz_E G ret K X → zz_H G (hh.getD []) → zz_Rm G fr → (zz_meth G).name = y.name → zz_T G maxL M mc ms 0 (lv_args 0 as) []) : zz_Met Z l y (zz_ws y cc maxL ret hh) fr as M mc ms K X := by
  refine MetFree.of_bodySF (code := cc) (maxLocals := maxL) (ret := ret) hy ?_ ?_
  · intro args s m h hn
    have hc := atoms_spec (ws := zz_ws y cc maxL ret hh) h _ List.mem_cons_self
    cases hh with
    | none =>
      obtain ⟨meth, c, h1, h2, h3, h4, h5, h6, -, -⟩ := Cond.code_spec hn hc
      exact ⟨meth, c, h1, h2, h3, h4, h5, h6⟩
    | some hh =>
      obtain ⟨m9, meth, c, hn9, h1, h2, h3, h4, -, h5, h6, -⟩ := Cond.codeWith_spec hc
      cases hn.symm.trans hn9
      exact ⟨meth, c, h1, h2, h3, h4, h5, h6⟩
  · intro p e s m args below meth c s₁ B hml hP _
    have hh0 : s₁.heap = s.heap := by rw [B.state]; rfl
    obtain ⟨rfl, hS, hR⟩ := hP
    have hts := atoms_spec (ws := zz_ws y cc maxL ret hh) B.pre
    have htsa : ∀ w ∈ lw_all, w.before as.toArray s = true := fun w h => hts w (List.mem_cons_of_mem _ h)
    have hown : s.vm.findClass y.cls = some m.cls := findClass_of_methodNamed B.named
    have htab : c.exceptionTable.toList = tableOf (hh.getD []) := by
      cases hh with
      | none =>
        obtain ⟨meth9, c9, h1, h2, -, -, -, -, h7, -⟩ := Cond.code_spec B.named (hts _ List.mem_cons_self)
        cases Option.some.inj (h1.symm.trans B.method)
        cases Option.some.inj (h2.symm.trans (Stand.of_body B).code)
        rw [Array.isEmpty_iff.mp h7]
        rfl
      | some hh => exact vx_table (x := y) B (hts _ List.mem_cons_self)
    have hbody := body (p, l, e, (headSpec (zz_ws y cc maxL ret hh) (zz_rm fr mc ms)).room, s, m, as.toArray, below, meth, c, zz_MQ below Z K X mc ms as.toArray s, Z) rfl rfl ⟨B.exec, B.bytes, hml, hown, htsa, hS, hl⟩ ⟨rfl, B.notSynchronized, B.returns⟩ htab ⟨Nat.le_refl _, Nat.le_refl _⟩ (name_of_methodNamed B.named B.method).1
    have hW : W p l e (headSpec (zz_ws y cc maxL ret hh) (zz_rm fr mc ms)).room s m as.toArray below meth c s.heap [] 0 0 (zz_MQ below Z K X mc ms as.toArray s) (entryFrame m as.toArray maxL) := by
      rw [lg_entry_eq]
      exact hbody s.heap [] 0 0 _ hR va_S.rf (by show 0 + mc ≤ mc; omega) (by show 0 + ms ≤ ms; omega) (lv_entry as hfit)
    obtain ⟨t, a1, o, b1, b2, b3⟩ := hW s₁ hh0 (Stand.of_body B)
    exact ⟨t, o, a1, b1, b2, b3⟩
section ZEND
variable {G : zzX} {nL : Nat} {M : zzM} {bc bs pc : Nat} {lv : List (Nat × Value)} {rest : List Value} {cc : ByteArray} {own : String} {K : Option Value → zzM → Prop} {X : Nat → Nat → zzM → Prop} {ret : Option FieldType}
theorem zz_WQ {p : Program} {l : Launch} {e : Env} {R : Room} {s : State} {m : MethodId} {args : Array Value} {below : List Frame} {meth : Method} {c : Code} {H : Heap} {locs : List Loc} {cells slots : Nat} {Z : zzG} {g : JFrame} (hc : cells ≤ R.cells) (hs : slots ≤ R.slots) (k : W p l e R s m args below meth c H locs R.cells R.slots (MQ below (fun _ st o t => va_F (zz_A Z) st t ∧ ∃ (v : Option Value) (M' : zzM), o = .returned v ∧ K v M' ∧ zz_R Z M' t.heap) args s R.cells R.slots (zz_A Z)) g) :
    W p l e R s m args below meth c H locs cells slots (zz_MQ below Z K X R.cells R.slots args s) g := by
  refine W.widen hc hs ?_
  intro T hT X9
  obtain ⟨t, a1, o, b1, b2, ⟨b3, v, M', b4, b5, b6⟩, b7⟩ := k T hT X9
  exact ⟨t, a1, o, b1, b2, b3, Or.inl ⟨v, M', b4, b5, b6, b7⟩⟩
theorem zz_iret (C : zz_C G cc own nL) (E : zz_E G (some .int) K X) {v : Int32} (d : decode cc pc = .ok (.ireturn, 1)) (hw : K (some (.int v)) M) : zz_T G nL M bc bs pc lv [.int v] := by
  obtain ⟨p, l, e, R, s, m, args, below, meth, c, Q, Z⟩ := G
  obtain ⟨hx, hb, hml, hown, hts, hS, hl⟩ := C
  obtain ⟨rfl, hlk, hr⟩ := E
  intro H locs cells slots ls h1 h2 h3 h4 h5
  refine zz_WQ (by omega) (by omega) (W.widen (Nat.le_refl _) (Nat.le_refl _) ?_)
  exact W.iret hx hb hr (fun t ht hW => ⟨h2.F ht, _, M, rfl, hw, by rw [ht]; exact h1⟩) h2.2.2 d hlk
theorem zz_zret (C : zz_C G cc own nL) {ty : FieldType} (E : zz_E G (some ty) K X) {v : Int32} (d : decode cc pc = .ok (.ireturn, 1)) (hw : narrow ty (.int v) = .int v ∧ K (some (.int v)) M) : zz_T G nL M bc bs pc lv [.int v] := by
  obtain ⟨p, l, e, R, s, m, args, below, meth, c, Q, Z⟩ := G
  obtain ⟨hx, hb, hml, hown, hts, hS, hl⟩ := C
  obtain ⟨rfl, hlk, hr⟩ := E
  intro H locs cells slots ls h1 h2 h3 h4 h5
  refine zz_WQ (by omega) (by omega) ?_
  exact W.zret hx hb hr hw.1 (fun t ht hW => ⟨h2.F ht, _, M, rfl, hw.2, by rw [ht]; exact h1⟩) h2.2.2 d hlk
theorem zz_lret (C : zz_C G cc own nL) (E : zz_E G (some .long) K X) {v : Int64} (d : decode cc pc = .ok (.lreturn, 1)) (hw : K (some (.long v)) M) : zz_T G nL M bc bs pc lv [.long v] := by
  obtain ⟨p, l, e, R, s, m, args, below, meth, c, Q, Z⟩ := G
  obtain ⟨hx, hb, hml, hown, hts, hS, hl⟩ := C
  obtain ⟨rfl, hlk, hr⟩ := E
  intro H locs cells slots ls h1 h2 h3 h4 h5
  refine zz_WQ (by omega) (by omega) ?_
  exact W.lret hx hb hr (fun t ht hW => ⟨h2.F ht, _, M, rfl, hw, by rw [ht]; exact h1⟩) h2.2.2 d hlk
theorem zz_dret (C : zz_C G cc own nL) (E : zz_E G (some .double) K X) {v : UInt64} (d : decode cc pc = .ok (.dreturn, 1)) (hw : K (some (.double v)) M) : zz_T G nL M bc bs pc lv [.double v] := by
  obtain ⟨p, l, e, R, s, m, args, below, meth, c, Q, Z⟩ := G
  obtain ⟨hx, hb, hml, hown, hts, hS, hl⟩ := C
  obtain ⟨rfl, hlk, hr⟩ := E
  intro H locs cells slots ls h1 h2 h3 h4 h5
  refine zz_WQ (by omega) (by omega) ?_
  exact W.dret hx hb hr (fun t ht hW => ⟨h2.F ht, _, M, rfl, hw, by rw [ht]; exact h1⟩) h2.2.2 d hlk
theorem zz_vret (C : zz_C G cc own nL) (E : zz_E G none K X) (d : decode cc pc = .ok (.return_, 1)) (hw : K none M) : zz_T G nL M bc bs pc lv [] := by
  obtain ⟨p, l, e, R, s, m, args, below, meth, c, Q, Z⟩ := G
  obtain ⟨hx, hb, hml, hown, hts, hS, hl⟩ := C
  obtain ⟨rfl, hlk, hr⟩ := E
  intro H locs cells slots ls h1 h2 h3 h4 h5
  refine zz_WQ (by omega) (by omega) ?_
  exact W.vret hx hb hr (fun t ht hW => ⟨h2.F ht, _, M, rfl, hw, by rw [ht]; exact h1⟩) h2.2.2 d hlk
theorem zz_aret (C : zz_C G cc own nL) {rt : FieldType} (E : zz_E G (some rt) K X) (hrt : (∃ n, rt = .object n) ∨ ∃ t, rt = .array t) {r : Option Nat} (d : decode cc pc = .ok (.areturn, 1)) (hw : K (some (va_rf r)) M) : zz_T G nL M bc bs pc lv [va_rf r] := by
  obtain ⟨p, l, e, R, s, m, args, below, meth, c, Q, Z⟩ := G
  obtain ⟨hx, hb, hml, hown, hts, hS, hl⟩ := C
  obtain ⟨rfl, hlk, hr⟩ := E
  intro H locs cells slots ls h1 h2 h3 h4 h5
  refine zz_WQ (by omega) (by omega) ?_
  exact W.aret hx hb hr hrt (by cases r with | none => exact Or.inl rfl | some a => exact Or.inr ⟨a, rfl⟩) (fun t ht hW => ⟨h2.F ht, _, M, rfl, hw, by rw [ht]; exact h1⟩) h2.2.2 d hlk
/-! behind a call, by the answer's type -/
theorem zz_kI {v : Option Value} {P : Int32 → Prop} (hw : zrI v P) (h : ∀ x : Int32, P x → zz_T G nL M bc bs pc lv (.int x :: rest)) : zz_T G nL M bc bs pc lv (v.toList ++ rest) := by
  unfold zrI at hw
  split at hw
  · exact h _ hw
  · exact hw.elim
theorem zz_kJ {v : Option Value} {P : Int64 → Prop} (hw : zrJ v P) (h : ∀ x : Int64, P x → zz_T G nL M bc bs pc lv (.long x :: rest)) : zz_T G nL M bc bs pc lv (v.toList ++ rest) := by
  unfold zrJ at hw
  split at hw
  · exact h _ hw
  · exact hw.elim
theorem zz_kD {v : Option Value} {P : UInt64 → Prop} (hw : zrD v P) (h : ∀ x : UInt64, P x → zz_T G nL M bc bs pc lv (.double x :: rest)) : zz_T G nL M bc bs pc lv (v.toList ++ rest) := by
  unfold zrD at hw
  split at hw
  · exact h _ hw
  · exact hw.elim
theorem zz_kA {v : Option Value} {P : Option Nat → Prop} (hw : zrA v P) (h : ∀ x : Option Nat, P x → zz_T G nL M bc bs pc lv (va_rf x :: rest)) : zz_T G nL M bc bs pc lv (v.toList ++ rest) := by
  unfold zrA at hw
  split at hw
  · exact h _ hw
  · exact h none hw
  · exact hw.elim
theorem zz_kV {v : Option Value} {P : Prop} (hw : zrV v P) (h : P → zz_T G nL M bc bs pc lv rest) : zz_T G nL M bc bs pc lv (v.toList ++ rest) := by
  unfold zrV at hw
  split at hw
  · exact h hw
  · exact hw.elim
/-- the receiver of a call -/
theorem ztyS {Z : zzG} {r : Option Nat} {P : Nat → Prop} (hw : zty Z M r P) : ∃ (a t : Nat) (b : Bool) (fs : List Value), r = some a ∧ zz_LO Z M a = some (b, t, fs) ∧ P t := by
  unfold zty at hw
  split at hw
  · exact hw.elim
  · rename_i a
    split at hw
    · rename_i b t fs hL
      exact ⟨a, t, b, fs, rfl, hL, hw⟩
    · exact hw.elim
/-- throw -/
theorem zz_athrow (C : zz_C G cc own nL) {r : Option Nat} {cs : List Nat} {P : Nat → Nat → Prop} (d : decode cc pc = .ok (.athrow, 1)) (hw : zthr (zz_Zof G) M r cs P) (h : ∀ t q : Nat, t ∈ cs → P t q → zz_TX G nL M bc bs pc lv t q) : zz_T G nL M bc bs pc lv (va_rf r :: rest) := by
  unfold zthr at hw
  split at hw
  · exact hw.elim
  rename_i a
  split at hw
  rotate_left
  · exact hw.elim
  rename_i t fs hL
  have h := h t a hw.1 hw.2
  obtain ⟨p, l, e, R, s, m, args, below, meth, c, Q, Z⟩ := G
  obtain ⟨hx, hb, hml, hown, hts, hS, hl⟩ := C
  intro H locs cells slots ls h1 h2 h3 h4 h5
  exact vx_athrow hx hb d (h H locs cells slots ls rest h1 h2 h3 h4 h5 ⟨(t, fs), hL⟩)
/-- it leaves the method -/
theorem zz_out (C : zz_C G cc own nL) (E : zz_E G ret K X) {hh : List (Nat × Nat × Nat × Nat)} (hH : zz_H G hh) {t q : Nat} (hno : (tableOf hh).all (fun x => !covers x pc) = true) (hw : X t q M) : zz_TX G nL M bc bs pc lv t q := by
  obtain ⟨p, l, e, R, s, m, args, below, meth, c, Q, Z⟩ := G
  obtain ⟨hx, hb, hml, hown, hts, hS, hl⟩ := C
  obtain ⟨rfl, hlk, hr⟩ := E
  intro H locs cells slots ls st h1 h2 h3 h4 h5 h6 T hT X9
  obtain ⟨e9, hL⟩ := h6
  have hH' : c.exceptionTable.toList = tableOf hh := hH
  obtain ⟨st1, hrun, hend, hW, hsm⟩ := X9.leaveThrown q (g := F0 m pc ls st) rfl rfl rfl (fun x hx => by
    rw [hH'] at hx
    have := List.all_eq_true.mp hno x hx
    simpa only [Bool.not_eq_true'] using this) hlk
  refine ⟨_, st1, .threw q, hrun, hend, ?_, Or.inr ⟨q, t, e9.2, M, locs, rfl, hw, ?_, hL, hW, hsm.mono (by omega) (by omega), h2.2.2⟩⟩
  · exact h2.F hT
  · show zz_R Z M T.heap
    rw [hT]; exact h1
/-- it is caught: the rows ahead of the handler don't take it -/
theorem zz_catch (C : zz_C G cc own nL) {hh : List (Nat × Nat × Nat × Nat)} (hH : zz_H G hh) {t q : Nat} {r : vw_C} (hr : zzCl t = some r) (pre : List (Nat × Nat × Nat × Nat)) (x : Nat × Nat × Nat × Nat) (suf : List (Nat × Nat × Nat × Nat)) (hsplit : hh = pre ++ x :: suf)
    (hpass : ∀ z ∈ pre, covers ⟨z.1, z.2.1, z.2.2.1, z.2.2.2⟩ pc = false ∨ (z.2.2.2 ≠ 0 ∧ ∃ nm : String, Cond.classLink own z.2.2.2 nm ∈ lw_all ∧ (r.1, nm) ∈ zzNc)) (hx : covers ⟨x.1, x.2.1, x.2.2.1, x.2.2.2⟩ pc = true) (h0 : x.2.2.2 ≠ 0) {name : String} (q1 : Cond.classLink own x.2.2.2 name ∈ lw_all) (q2 : Cond.castable r.1 name ∈ lw_tbl)
    (h : zz_T G nL M bc bs x.2.2.1 lv [va_rf (some q)]) : zz_TX G nL M bc bs pc lv t q := by
  obtain ⟨p, l, e, R, s, m, args, below, meth, c, Q, Z⟩ := G
  obtain ⟨hxx, hb, hml, hown, hts, hS, hl⟩ := C
  intro H locs cells slots ls st h1 h2 h3 h4 h5 h6
  obtain ⟨e9, hL⟩ := h6
  have hH' : c.exceptionTable.toList = tableOf hh := hH
  obtain ⟨cell, c1, c2, c3, c4, c5, c6, -⟩ := h1 _ _ _ (Or.inl hL)
  have hcl : s.vm.findClass r.1 = some cell.cls := by rw [c6, zz_clC (zz_cls100 hr)]; exact (hS.2.1 t r hr).2.1
  refine vx_catch hown (pre.map fun q => ⟨q.1, q.2.1, q.2.2.1, q.2.2.2⟩) ⟨x.1, x.2.1, x.2.2.1, x.2.2.2⟩ (suf.map fun q => ⟨q.1, q.2.1, q.2.2.1, q.2.2.2⟩) (by rw [hH', hsplit]; simp [tableOf]) (fun z hz => ?_) hx h0 (hts _ q1) (va_Nw.use (A := args) rfl (hS.2.2.2.1 _ q2 rfl)) c1 (c4 rfl).1 hcl (h H locs cells slots ls h1 h2 h3 h4 h5)
  obtain ⟨z', hz', rfl⟩ := List.mem_map.mp hz
  rcases hpass z' hz' with g | ⟨g1, nm, g2, g3⟩
  · exact Or.inl g
  · exact Or.inr ⟨g1, nm, hts _ g2, hS.2.2.2.2.2.2.2.2.1 _ g3⟩
/-! System.arraycopy within one type of arrays -/
def zz_splice (vs ws : List Value) (sp dp n : Nat) : List Value := ws.take dp ++ ((vs.drop sp).take n ++ ws.drop (dp + n))
def zcopy (Z : zzG) (M : zzM) (src dst : Option Nat) (sp dp n : Int32) (K : zzM → Prop) : Prop := match src, dst with
  | some a, some b => (match zz_L Z M a, zz_L Z M b with
    | some (_, t, vs), some (true, t', ws) => t = t' ∧ t ∈ [100, 101, 102, 103] ∧ ¬ sp < 0 ∧ ¬ dp < 0 ∧ ¬ n < 0 ∧ sp.toNatClampNeg + n.toNatClampNeg ≤ vs.length ∧ dp.toNatClampNeg + n.toNatClampNeg ≤ ws.length ∧
        (t = 103 → ∀ v ∈ (vs.drop sp.toNatClampNeg).take n.toNatClampNeg, v = .null ∨ ∃ (y c : Nat) (f : Bool) (fs : List Value), v = .ref y ∧ zz_L Z M y = some (f, c, fs) ∧ c < 29) ∧
        K (zz_up M b (t, zz_splice vs ws sp.toNatClampNeg dp.toNatClampNeg n.toNatClampNeg))
    | _, _ => False)
  | _, _ => False
theorem zz_splice_len {vs ws : List Value} {sp dp n : Nat} (h1 : sp + n ≤ vs.length) (h2 : dp + n ≤ ws.length) : (zz_splice vs ws sp dp n).length = ws.length := by
  simp [zz_splice]
  omega
theorem zz_splice_get {vs ws : List Value} {sp dp n j : Nat} (h1 : sp + n ≤ vs.length) (h2 : dp + n ≤ ws.length) : (zz_splice vs ws sp dp n)[j]? = if dp ≤ j ∧ j < dp + n then vs[sp + (j - dp)]? else ws[j]? := by
  unfold zz_splice
  by_cases hj : j < dp
  · rw [List.getElem?_append_left (by simp; omega), List.getElem?_take, if_pos hj, if_neg (by omega)]
  · rw [List.getElem?_append_right (by simp; omega)]
    have hl : (ws.take dp).length = dp := by simp; omega
    rw [hl]
    by_cases hj2 : j - dp < n
    · rw [List.getElem?_append_left (by simp; omega), List.getElem?_take, if_pos hj2, List.getElem?_drop, if_pos (by omega)]
    · rw [List.getElem?_append_right (by simp; omega), List.getElem?_drop, if_neg (by omega)]
      congr 1
      simp
      omega
theorem zz_nn {z : Int32} (hz : ¬ z < 0) : z.toInt = (z.toNatClampNeg : Int) := by
  have hz0 : (0 : Int) ≤ z.toInt := by
    have := Int32.not_lt.mp hz
    simpa using Int32.le_iff_toInt_le.mp this
  show z.toInt = ((z.toInt.toNat : Nat) : Int)
  omega
theorem zz_copy (C : zz_C G cc own nL) {fr i : Nat} (hR : zz_Rm G fr) (hfr : 1 ≤ fr) {src dst : Option Nat} {sp dp n : Int32} {P : zzM → Prop} (d : decode cc pc = .ok (.invokestatic i, 3)) (q1 : Cond.methodLink own i arraycopyName ∈ lw_all) (q2 : Cond.native arraycopyName ∈ lw_all) (q3 : Cond.static arraycopyName ∈ lw_all) (q4 : Cond.initialized "java/lang/System" ∈ lw_all) (hca : (rest.map fun v => v.category).sum ≤ 20) (hw : zcopy (zz_Zof G) M src dst sp dp n P)
    (h : ∀ M' : zzM, P M' → zz_T G nL M' bc bs (pc + 3) lv rest) : zz_T G nL M bc bs pc lv (.int n :: .int dp :: va_rf dst :: .int sp :: va_rf src :: rest) := by
  unfold zcopy at hw
  split at hw
  rotate_left
  · exact hw.elim
  rename_i a b
  split at hw
  rotate_left
  · exact hw.elim
  rename_i b1 t vs t' ws hL1 hL2
  obtain ⟨rfl, htt, w1, w2, w3, w4, w5, w6, w7⟩ := hw
  have h := h _ w7
  obtain ⟨p, l, e, R, s, m, args, below, meth, c, Q, Z⟩ := G
  obtain ⟨hx, hb, hml, hown, hts, hS, hl⟩ := C
  intro H locs cells slots ls h1 h2 h3 h4 h5 T hT X9
  have hR1 : fr ≤ R.frames := hR.1
  have hR2 : 64 * fr ≤ R.locals := hR.2
  have hty : ∃ ty : FieldType, zzAr t = some ty := by
    simp only [List.mem_cons, List.not_mem_nil, or_false] at htt
    rcases htt with rfl | rfl | rfl | rfl <;> exact ⟨_, rfl⟩
  obtain ⟨ty, hty⟩ := hty
  have hat1 := h1 _ _ _ (Or.inl hL1)
  have hat2 := h1 _ _ _ (Or.inl hL2)
  obtain ⟨cs, c1, ⟨-, ks, c2, sC, c3⟩, c4, c5, -, c6, c7, c8, -, c9, c10⟩ := zz_arr hS hty hat1
  obtain ⟨cd, d1, ⟨-, kd, d2, dC, d3⟩, d4, d5, d6, d7, d8, d9, d10, d11, d12⟩ := zz_arr hS hty hat2
  have hget : ∀ i, i < n.toNatClampNeg → ∃ v, vs[sp.toNatClampNeg + i]? = some v ∧ cs.slots.getD (sp.toNatClampNeg + i) .null = v ∧ fits ty v = true := by
    intro i hi
    have hlt : sp.toNatClampNeg + i < vs.length := by omega
    have hv := List.getElem?_eq_getElem hlt
    obtain ⟨g1, g2⟩ := c10 _ _ hv
    refine ⟨_, hv, ?_, g2⟩
    rw [Array.getD_eq_getD_getElem?, g1]
    rfl
  obtain ⟨vm', X', step⟩ := X9.arraycopy hx hown (hts _ q1) (hts _ q2) (hts _ q3) (hts _ q4) (src := a) (dst := b) (cs := cs) (cd := cd) (srcPos := sp) (destPos := dp) (n := n) (by rw [hT]; exact c1) (by rw [hT]; exact d1)
    (fun q hq => by rw [hq] at c5; cases c5) (fun q hq => by rw [hq] at d5; cases d5) c4 d4 c2 d2 c3 d3 (by simp) w1 w2 w3
    (by rw [zz_nn w1, zz_nn w3]; omega) (by rw [zz_nn w2, zz_nn w3]; omega)
    (fun vm₁ hal i hi => by
      obtain ⟨v, g1, g2, g3⟩ := hget i hi
      rw [g2]
      refine ⟨g3, ?_⟩
      by_cases ht3 : t = 103
      · subst ht3
        cases hty
        have hmem : v ∈ (vs.drop sp.toNatClampNeg).take n.toNatClampNeg := by
          refine List.mem_of_getElem? (i := i) ?_
          rw [List.getElem?_take, if_pos hi, List.getElem?_drop]
          exact g1
        rcases w6 rfl v hmem with rfl | ⟨y, c9t, f9, fs9, rfl, hLy, hc9⟩
        · trivial
        · obtain ⟨cellV, e1, e2, e3, e4, e5, e6, e7⟩ := h1 _ _ _ (Or.inl hLy)
          obtain ⟨r9, E9, r1, r2, r3⟩ := zz_mayW (t := 103) (c := c9t) (by simp [zz_may, hc9])
          cases r2
          obtain ⟨kA, comp, a1, a2, a3, a4⟩ := (hS.2.2.1 103 _ rfl).2.1
          obtain ⟨k1, k2, kC, k3, k4⟩ := hS.2.1 _ _ r1
          have k4 := k4 (zz_ordM r1 hc9)
          obtain ⟨kE, hkE, -⟩ := Vm.findClass_spec a3
          have e6 := e6.trans (zz_clC (zz_cls100 r1))
          rw [← d7 rfl] at a1
          cases a1.symm.trans d2
          cases a2.symm.trans d3
          obtain ⟨kC', hkC', -⟩ := hal.2.2 _ _ k3
          obtain ⟨kE', hkE', -⟩ := hal.2.2 _ _ hkE
          have hasg : s.vm.assignable cellV.cls dC = true := by
            rcases r3 with r3 | r3
            · obtain ⟨c0, t0, f1, f2, f3⟩ := Cond.castable_spec (va_Nw.use (A := args) rfl (hS.2.2.2.1 _ r3 rfl))
              have q1 : c0 = cellV.cls := Option.some.inj (f1.symm.trans (by rw [e6]; exact k2))
              have q2 : t0 = dC := Option.some.inj (f2.symm.trans a3)
              rw [← q1, ← q2]
              exact f3
            · have q1 : dC = cellV.cls := Option.some.inj (a3.symm.trans (by rw [← r3, e6]; exact k2))
              rw [q1]
              exact va_assign ⟨by rw [e6]; exact k2, kC, by rw [e6]; exact k3, k4⟩
          exact ⟨cellV, (show T.heap[y]? = some cellV by rw [hT]; exact e1), (fun q hq => by rw [hq] at e2; cases e2), ⟨kC', by rw [e6]; exact hkC'⟩, ⟨kE', hkE'⟩, by show vm₁.assignable _ _ = true; rw [hal.assignable]; exact hasg⟩
      · have : v = .null ∨ ∀ y, v ≠ .ref y := by
          right
          intro y hy
          subst hy
          simp only [List.mem_cons, List.not_mem_nil, or_false] at htt
          rcases htt with rfl | rfl | rfl | rfl
          · cases hty; cases g3
          · cases hty; cases g3
          · cases hty; cases g3
          · exact ht3 rfl
        cases v with
        | ref y => rcases this with h | h; cases h; exact absurd rfl (h y)
        | _ => trivial)
    (g := F0 m pc ls (.int n :: .int dp :: .ref b :: .int sp :: .ref a :: rest)) rfl (h5.1.trans hml.symm) (rest := rest) rfl (by rw [hb]; exact d) (by omega)
    (by have hw : nativeFrameWords "java/lang/System" "arraycopy" 5 = 7 := by decide
        rw [hw]
        show 2 * 0 + _ + _ ≤ _
        omega)
  have hlen : (cs.stretch sp.toNatClampNeg n.toNatClampNeg).length = n.toNatClampNeg := by simp [Cell.stretch]
  obtain ⟨f1, f2, f3, -, -⟩ := Cell.storeRun_facts cd dp.toNatClampNeg (cs.stretch sp.toNatClampNeg n.toNatClampNeg)
  have hbl : b < H.size := (Array.getElem?_eq_some_iff.mp d1).1
  have hheap : ((T.setVm vm').setCell b (copied cs cd sp dp n)).heap = H.setIfInBounds b (copied cs cd sp dp n) := by rw [← hT]; rfl
  have hself : (H.setIfInBounds b (copied cs cd sp dp n))[b]? = some (copied cs cd sp dp n) := by simp [Array.getElem?_setIfInBounds, hbl]
  have hoth : ∀ q : Nat, q ≠ b → (H.setIfInBounds b (copied cs cd sp dp n))[q]? = H[q]? := fun q hq => by simp [Array.getElem?_setIfInBounds, Ne.symm hq]
  have hnew : zz_at Z true b (t, zz_splice vs ws sp.toNatClampNeg dp.toNatClampNeg n.toNatClampNeg) (H.setIfInBounds b (copied cs cd sp dp n)) := by
    refine ⟨_, hself, by rw [f2]; exact d5, Or.inr (by rw [f2]; exact d4), fun hh => by rw [f2]; exact d6 hh, (fun hh => by cases hh), by rw [f1, zz_clM]; exact d7 rfl, ?_⟩
    rw [if_neg (Nat.not_lt.mpr (zz_arr100 hty))]
    have hl9 : (zz_splice vs ws sp.toNatClampNeg dp.toNatClampNeg n.toNatClampNeg).length = ws.length := zz_splice_len w4 w5
    refine ⟨ty, hty, by rw [f3, hl9]; exact d8, by rw [f3, hl9]; exact d9, fun hh => by rw [f3, hl9]; exact d10 hh, by rw [hl9]; exact d11, fun k v hk => ?_⟩
    rw [zz_splice_get w4 w5] at hk
    rw [Cell.storeRun_get _ _ _ _ (by rw [hlen]; omega), hlen]
    split at hk
    · rename_i hc
      rw [if_pos hc]
      obtain ⟨v', g1, g2, g3⟩ := hget (k - dp.toNatClampNeg) (by omega)
      cases hk.symm.trans g1
      refine ⟨?_, g3⟩
      have : (cs.stretch sp.toNatClampNeg n.toNatClampNeg)[k - dp.toNatClampNeg]? = some v := by
        unfold Cell.stretch
        rw [List.getElem?_map, List.getElem?_range (by omega)]
        simp only [Option.map_some]
        rw [g2]
      exact this
    · rename_i hc
      rw [if_neg hc]
      exact d12 k v hk
  obtain ⟨t9, a1, b1⟩ := h _ _ cells slots ls (h1.set hL2 hoth hnew) ⟨by rw [show (H.setIfInBounds b (copied cs cd sp dp n)).size = H.size by simp]; exact h2.1, fun q g1 g2 => by
      rw [hoth q (fun hq => g2 (by rw [hq]; exact (d6 rfl).2))]
      exact h2.2.1 q g1 g2, fun q hq => by
      rcases List.mem_append.mp hq with g | g
      · exact h2.2.2 q g
      · obtain ⟨z, -, hz⟩ := List.mem_map.mp g
        rw [← hz]
        exact (d6 rfl).2⟩ h3 h4 h5 _ hheap X'
  exact ⟨t9, step t9 a1, b1⟩
end ZEND
/-! small facts that the printed walks use -/
theorem zz_cat10 (l : List Value) (h : l.length ≤ 10) : (l.map fun v => v.category).sum ≤ 20 := by
  have h1 : ∀ l : List Value, (l.map fun v => v.category).sum ≤ 2 * l.length := by
    intro l
    induction l with
    | nil => exact Nat.le_refl _
    | cons v l ih =>
      have : v.category ≤ 2 := by cases v <;> simp [Value.category]
      simp only [List.map_cons, List.sum_cons, List.length_cons]
      omega
  have := h1 l
  omega
theorem zz_subP {G : zzX} {nL : Nat} {M : zzM} {bc bs pc : Nat} {lv lv' : List (Nat × Value)} {st : List Value} (ps : List Nat) (h : ps.filterMap (fun i => lv[i]?) = lv') (k : zz_T G nL M bc bs pc lv' st) : zz_T G nL M bc bs pc lv st := by
  refine zz_sub (fun q hq => ?_) k
  rw [← h] at hq
  obtain ⟨i, -, hi⟩ := List.mem_filterMap.mp hq
  exact List.mem_of_getElem? hi
theorem zz_hn1 {t k : Nat} {v : Value} (h : narrow (zzTy t k) v = v ∧ fits (zzTy t k) v = true) : ∀ t' ∈ [t], narrow (zzTy t' k) v = v ∧ fits (zzTy t' k) v = true := by
  intro t' ht
  rw [List.mem_singleton] at ht
  subst ht
  exact h
theorem zz_hnC {t k : Nat} {cs : List Nat} {v : Value} (h : narrow (zzTy t k) v = v ∧ fits (zzTy t k) v = true) (h2 : ∀ t' ∈ cs, narrow (zzTy t' k) v = v ∧ fits (zzTy t' k) v = true) : ∀ t' ∈ t :: cs, narrow (zzTy t' k) v = v ∧ fits (zzTy t' k) v = true := by
  intro t' ht
  rcases List.mem_cons.mp ht with e | e
  · rw [e]; exact h
  · exact h2 t' e
theorem zz_nA (ty : FieldType) (h : ty.isReference = true) (r : Option Nat) : narrow ty (va_rf r) = va_rf r ∧ fits ty (va_rf r) = true := by
  cases r <;> cases ty <;> first | exact ⟨rfl, rfl⟩ | cases h
theorem zz_pok1 {t k : Nat} (r : vw_C) (h1 : t < 29) (h2 : zzCl t = some r) (h3 : (r.2.1 k).2.2.2 = false) : zz_pok [t] k := by
  intro t' ht
  rw [List.mem_singleton] at ht
  subst ht
  exact ⟨h1, r, h2, h3⟩
theorem zz_pokC {t k : Nat} {cs : List Nat} (h1 : zz_pok [t] k) (h2 : zz_pok cs k) : zz_pok (t :: cs) k := by
  intro t' ht
  rcases List.mem_cons.mp ht with e | e
  · exact h1 t' (by rw [e]; exact List.mem_singleton.mpr rfl)
  · exact h2 t' e
theorem zz_pokF1 {t k : Nat} {own : String} (r : vw_C) (h1 : t < 29) (h2 : zzCl t = some r) (h3 : (r.2.1 k).2.2.2 = true) (h4 : (r.2.1 k).1 = own) : zz_pokF [t] k own := by
  intro t' ht
  rw [List.mem_singleton] at ht
  subst ht
  exact ⟨h1, r, h2, h3, h4⟩
