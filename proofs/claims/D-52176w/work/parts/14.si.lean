/-! LAYER Z: a static method called by the name of a class below its own (the kit's rows have none; the step follows the library's reading of an inherited Methodref, ColdUp) -/
theorem zz_ustep {Q : Unit → Jvm.Pre} {E : Jvm.CtlPost} {e : Env} {d : Bool} {acts : List Action} {s s0 : State} {f : JFrame} {i ci n c : Nat} {m : MethodId} {dk ck : Class} {cf : ClassFile} {nm ds : String} (hs : s.topJava?.isSome) (hp : e.platform.polymorphicOnlyByInvokevirtual = true)
    (hW : s0.WarmedH s.vm) (hE : s0.MethodEntryUp e s.vm f.method.cls i c m ci) (h1 : s0.vm.classes[f.method.cls]? = some dk) (h2 : dk.cf = some cf)
    (h3 : cf.constantPool[i]? = some (if false then .interfaceMethodref ci n else .methodref ci n)) (h4 : cf.constantPool.nameAndType? n = some (nm, ds))
    (hck : s0.vm.classes[c]? = some ck) (hno : (ck.methods.any fun x => x.name == nm && !x.isStatic && signaturePolymorphic ck x) = false) :
    wp (Op.invokestatic.sem i) Q E e d acts (s.setTop f) ↔ wp (Op.invokestatic.sem i) Q E e d acts ((s.setVm (s.vm.calledUp f.method.cls ci i c m)).setTop f) := by
  obtain ⟨g1, -, g2, g3⟩ := hE.classFirst
  obtain ⟨ka, qa, ea⟩ := hW.alike.2.2 _ _ h1
  obtain ⟨kb, qb, eb⟩ := hE.warmed.alike.2.2 _ _ h1
  obtain ⟨kc, qc, ec⟩ := g2.alike.2.2 _ _ hck
  obtain ⟨kd, qd, ed⟩ := hE.warmed.alike.2.2 _ _ hck
  have ra := memberRef_ask_via (e := e) qa (by rw [ea]; exact h2) h3 h4
  have rb := memberRef_ask_via (e := e) qb (by rw [eb]; exact h2) h3 h4
  have nc : (kc.methods.any fun x => x.name == nm && !x.isStatic && signaturePolymorphic kc x) = false := by rw [ec]; exact hno
  have nd : (kd.methods.any fun x => x.name == nm && !x.isStatic && signaturePolymorphic kd x) = false := by rw [ed]; exact hno
  have t1 : (s.setVm (s.vm.noted f.method.cls ci (.cls c))).topJava?.isSome := hs
  have t2 : (s.setVm (s.vm.calledUp f.method.cls ci i c m)).topJava?.isSome := hs
  have wl : ∀ {Q' : ClassId → Jvm.Pre} {d' : Bool} {acts' : List Action}, wp (Jvm.resolveClassAt ci) Q' E e d' acts' (s.setTop f) ↔ Q' c d' acts' ((s.setVm (s.vm.noted f.method.cls ci (.cls c))).setTop f) :=
    Jvm.W.resolveClassAt_links (t := s.setTop f) (State.method?_setTop f hs) g1
  have wm : ∀ {Q' : MethodId → Jvm.Pre} {d' : Bool} {acts' : List Action}, wp (Jvm.resolveMethodAt i) Q' E e d' acts' ((s.setVm (s.vm.noted f.method.cls ci (.cls c))).setTop f) ↔ Q' m d' acts' ((s.setVm (s.vm.calledUp f.method.cls ci i c m)).setTop f) :=
    Jvm.W.resolveMethodAt_links (t := (s.setVm (s.vm.noted f.method.cls ci (.cls c))).setTop f) (State.method?_setTop f t1) g3
  simp [Op.invokestatic.sem, hp, Seam.memberRefOf, State.method?_setTop f hs, State.method?_setTop f t2, ra, rb, wl, Jvm.W.resolveClassAt_ready (s := (s.setVm (s.vm.calledUp f.method.cls ci i c m)).setTop f) (State.method?_setTop f t2) hE.classReady,
    qc, qd, nc, nd, wm, Jvm.W.resolveMethodAt_ready (s := (s.setVm (s.vm.calledUp f.method.cls ci i c m)).setTop f) (State.method?_setTop f t2) hE.ready, -Array.any_eq_true]
theorem zz_ucall {p : Program} {l : Launch} {e : Env} {R : Room} {s : State} {m : MethodId} {args : Array Value} {below : List Frame} {meth : Method} {c : Code} {T : State} {locs : List Loc} {cells slots : Nat} (X : Stand p l e R s m args below meth c T locs cells slots) (hexec : p.tables.exec = Jvm.exec)
    {own owner : String} {i : Nat} {x : MethodName} (hown : s.vm.findClass own = some m.cls) (hlink : (Cond.methodLink own i x).before args s = true) (hsame : (Cond.sameMethod x.cls owner x.name x.desc).before args s = true)
    (ho : owner ≠ "java/lang/invoke/MethodHandle" ∧ owner ≠ "java/lang/invoke/VarHandle") {m' : MethodId} {meth' : Method} {k' : Class} (hn : s.methodNamed? ⟨owner, x.name, x.desc⟩ = some m') (hm' : s.vm.method? m' = some meth') (hst : meth'.isStatic = true)
    (hk' : s.vm.classes[m'.cls]? = some k') (hini : k'.init = .initialized) {g : JFrame} (hg : g.method = m) {argsL rest : List Value} (hlen : argsL.length = meth'.sig.parameters.length) (hstack : g.stack = argsL.reverse ++ rest) (hdg : decode c.code g.pc = .ok (.invokestatic i, 3)) :
    ∃ vm', Stand p l e R s m args below meth c (T.setVm vm') locs cells slots ∧ ∀ target, (∀ acts, Steps p.tables e below (doInvoke e ((T.setVm vm').setTop { g with stack := rest }) acts m' argsL.toArray).1 target) → Steps p.tables e below (T.setTop g) target := by
  have hpl : e.platform.magicAccessors = ({} : Platform).magicAccessors := by rw [X.admits.platform]
  have hpv : e.platform.polymorphicOnlyByInvokevirtual = true := by rw [X.admits.platform]
  obtain ⟨cn, ck, r1, hcn, hck, hni, hf, hn1⟩ := Cond.sameMethod_found hsame
  cases hn.symm.trans hn1
  obtain ⟨ci, hl, hright⟩ := Cond.methodLink_specUp hown hcn hck hni hf hlink e.platform hpl (by rw [X.admits.platform])
  have hE : s.MethodEntryUp e T.vm m.cls i cn m' ci := State.methodEntryUp X.warmed hl hright
  obtain ⟨kx, hkx, hnx⟩ := className_of_methodNamed hn
  cases hk'.symm.trans hkx
  obtain ⟨dk, cfile, nt, nm, ds, ck', _, _, hd, hcf, hcp, hnt, -, -, hck', -, hno, -⟩ := hl.here
  cases hck.symm.trans hck'
  have al := hE.warmed.alike
  obtain ⟨da, ha, ea⟩ := al.2.2 _ _ hd
  obtain ⟨db, hb, eb⟩ := al.2.2 _ _ hk'
  obtain ⟨dc, hc, ec⟩ := al.2.2 _ _ hck
  have h0 : (ck.methods.any fun y => y.name == nm && !y.isStatic && signaturePolymorphic ck y) = false := by simp [hno]
  have h1 : (dc.methods.any fun y => y.name == nm && !y.isStatic && signaturePolymorphic dc y) = false := by rw [ec]; exact h0
  have hq : cfile.constantPool[i]? = some (if false then .interfaceMethodref ci nt else .methodref ci nt) := hcp
  refine ⟨T.vm.calledUp m.cls ci i cn m', X.noted hE.warmed, fun target hrest => ?_⟩
  subst hg
  jvm_step X.here [hexec, hdg, zz_ustep (e := e) (s := T) (s0 := s) (f := g) X.here.top hpv X.warmed hE hd hcf hq hnt hck h0,
    Op.invokestatic.wp_ready (e := e) (s := T.setVm (T.vm.calledUp g.method.cls ci i cn m')) (k := db) (meth := meth') (m := m') (args := argsL) (rest := rest) (f := g)
      X.here.top ⟨ci, nm, ds, false, cn, dc, memberRef_ask_via (e := e) ha (by rw [ea]; exact hcf) hq hnt, hE.classReady, hc, h1⟩ hE.ready hb
      (by show (T.vm.calledUp g.method.cls ci i cn m').method? m' = some meth'; rw [al.method?]; exact hm')
      (by rw [eb]; show signaturePolymorphic k' meth' = false; simp [signaturePolymorphic, hnx, ho.1, ho.2]) hst (by rw [eb]; exact hini) hlen hstack]
  exact fun acts => hrest _
section ZSI
variable {G : zzX} {nL : Nat} {M : zzM} {bc bs pc : Nat} {lv : List (Nat × Value)} {rest : List Value} {cc : ByteArray} {own : String} {fr frc mc ms : Nat} {i : Nat} {As : List Value} {bytes : ByteArray} {maxL : Nat} {ret : Option FieldType} {K : Option Value → zzM → Prop} {X : Nat → Nat → zzM → Prop}
/-- invokestatic by the name of a class below -/
theorem zz_callSI (C : zz_C G cc own nL) (hR : zz_Rm G fr) {x : MethodName} {owner : String} (d : decode cc pc = .ok (.invokestatic i, 3)) (q1 : Cond.methodLink own i x ∈ lw_all) (q6 : Cond.sameMethod x.cls owner x.name x.desc ∈ lw_all) (q2 : Cond.static ⟨owner, x.name, x.desc⟩ ∈ lw_all) (q4 : Cond.initialized owner ∈ lw_all) (q5 : zz_cd ⟨owner, x.name, x.desc⟩ bytes maxL ret none ∈ lw_all) (hy : zz_yok ⟨owner, x.name, x.desc⟩ As.length = true)
    (hfr : frc + 1 ≤ fr) (hml : maxL ≤ 32) (hM : zz_Met (zz_Zof G) (zz_l G) ⟨owner, x.name, x.desc⟩ (zz_ws ⟨owner, x.name, x.desc⟩ bytes maxL ret none) frc As M mc ms K X) (hc : mc ≤ bc) (hs : ms ≤ bs) (hca : (rest.map fun v => v.category).sum ≤ 20)
    (kN : ∀ (v : Option Value) (M' : zzM), K v M' → zz_T G nL M' (bc - mc) (bs - ms) (pc + 3) lv (v.toList ++ rest)) (kX : ∀ (ty q : Nat) (M' : zzM), X ty q M' → zz_TX G nL M' (bc - mc) (bs - ms) pc lv ty q) {st : List Value} (hst : st = As.reverse ++ rest) : zz_T G nL M bc bs pc lv st := by
  subst hst
  obtain ⟨p, l, e, R, s, m, args, below, meth, c, Q, Z⟩ := G
  obtain ⟨hx, hb, hml9, hown, hts, hS, hl⟩ := C
  obtain ⟨hy1, hy2⟩ := zz_yokS hy
  intro H locs cells slots ls h1 h2 h3 h4 h5 T hT X9
  have hR1 : fr ≤ R.frames := hR.1
  have hR2 : 64 * fr ≤ R.locals := hR.2
  have hK : vx_Back l R p e below s args ⟨owner, x.name, x.desc⟩ 3 20 (zz_Pre Z R As M mc ms) (zz_Post Z K mc ms) (zz_PostX Z X mc ms) := zz_back (hh := none) hM (by omega) (by omega) (zz_payW hts q5) (zz_payI hts q4)
  have hlen : ∀ sig, parseMethodDescriptor x.desc = some sig → As.length = sig.parameters.length := hy2
  have hW : 2 * (F0 m pc ls (As.reverse ++ rest)).monitorRoom + (rest.map fun v => v.category).sum ≤ 20 := by show 2 * 0 + _ ≤ 20; omega
  obtain ⟨mk, hnamed⟩ := Cond.code_named (hts _ q5)
  obtain ⟨methM, cM, hmethM, -, -, -, -, -, -, hsigM⟩ := Cond.code_spec hnamed (hts _ q5)
  have hstatic : methM.isStatic = true := Cond.static_spec hnamed hmethM (hts _ q2)
  obtain ⟨kP, hkP, -⟩ := className_of_methodNamed hnamed
  have hinitP : kP.init = .initialized := Cond.initialized_spec (findClass_of_methodNamed hnamed) hkP (hts _ q4)
  obtain ⟨vm₁, X₁, hstep₁⟩ := zz_ucall X9 hx hown (hts _ q1) (hts _ q6) hy1 hnamed hmethM hstatic hkP hinitP (g := F0 m pc ls (As.reverse ++ rest)) rfl (argsL := As) (rest := rest) (hlen _ hsigM) rfl (by rw [hb]; exact d)
  refine zz_fin (g0 := F0 m pc ls (As.reverse ++ rest)) (len := 3) (a := As.toArray) hT h2 h3 h4 h5 hc hs ?_ kN kX
  rcases hK m meth c ⟨T.setVm vm₁, locs, cells, slots⟩ { (F0 m pc ls (As.reverse ++ rest)) with stack := rest } (.invokestatic i) mk As.toArray X₁ rfl (h5.1.trans hml9.symm) (by rw [hb]; exact d) hW (X₁.named hnamed) (zz_pre hS hT h1 h2 h3 h4 hc hs vm₁ X₁.warmed) with ⟨v, B, X', hpost, hsteps⟩ | ⟨q, B, X', hpost, hsteps⟩
  · exact Or.inl ⟨v, vm₁, B, X₁.warmed, X', hpost, fun target h => hstep₁ _ fun acts => by rw [doInvoke_state]; exact hsteps.trans h⟩
  · exact Or.inr ⟨q, vm₁, B, X₁.warmed, X', hpost, hstep₁ _ fun acts => by rw [doInvoke_state]; exact hsteps⟩
end ZSI
