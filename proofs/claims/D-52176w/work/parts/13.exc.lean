/-! LAYER Z: Exception.<init>() under the constructor of a class of ours (Fault): follows vx_ctorMade0 -/
abbrev zz_FN : String := "DebateHall$Fault"
abbrev zz_XN : String := "java/lang/Exception"
def zz_exA : List Cond := Bundle.throwableAtoms ++ (Bundle.chain0Atoms zz_XN [] ++ [.instantiable zz_FN 8, .selects zz_FN Bundle.tFill0 Bundle.tFill0, .selects zz_FN Bundle.tFill Bundle.tFill,
   .lays zz_FN Bundle.tN "cause" "Ljava/lang/Throwable;", .lays zz_FN Bundle.tN "stackTrace" Bundle.steD, .lays zz_FN Bundle.tN "suppressedExceptions" Bundle.listD,
   .isRef (.static Bundle.tN "UNASSIGNED_STACK" Bundle.steD), .isRef (.static Bundle.tN "SUPPRESSED_SENTINEL" Bundle.listD),
   .fieldLink Bundle.tN 198 Bundle.tN "backtrace" "Ljava/lang/Object;", .lays Bundle.tN Bundle.tN "backtrace" "Ljava/lang/Object;", .lays zz_FN Bundle.tN "backtrace" "Ljava/lang/Object;"])
def zexc (Z : zzG) (M : zzM) (r : Option Nat) (K : zzM → Prop) : Prop := match r with
  | none => False
  | some a => zz_L Z M a = some (true, 6, [.int 0, .int 0, .null, .null, .null, .null, .null, .int 0]) ∧ ∀ u s : Value, K (zz_up M a (6, [.int 0, .int 0, .ref a, u, s, .null, .null, .int 0]))
theorem zz_back9L {p : Program} {l : Launch} {e : Env} {R : Room} {s : State} {m : MethodId} {args : Array Value} {below : List Frame} {meth : Method} {c : Code} {locs L : List Loc} {cells slots : Nat} {T S : State} {R' : Room} {k n : Nat} (X : Stand p l e R s m args below meth c T locs cells slots) (Y : Stand p l e R' ((T.setVm s.vm).setFrames (.invoking m args :: below)) m args below meth c T [] 0 0) (Z : Stand p l e R' ((T.setVm s.vm).setFrames (.invoking m args :: below)) m args below meth c S L k n) :
    Stand p l e R s m args below meth c S (locs ++ L) (cells + k) (slots + n) := by
  have hW0 : s.WarmedH ((T.setVm s.vm).setFrames (.invoking m args :: below)).vm := State.WarmedH.refl s
  refine { admits := X.admits, cas := X.cas, clock := X.clock, frames := X.frames, room := X.room, hears := X.hears, method := X.method, code := X.code, here := Z.here, tail := Z.tail, warmed := State.WarmedH.trans hW0 Z.warmed, limits := Z.limits.trans (Y.limits.symm.trans X.limits), bytes := Z.bytes.trans (Y.bytes.symm.trans X.bytes), same := ?_ }
  obtain ⟨e1, e2⟩ := Z.same
  rw [State.setFrames_setFrames] at e1
  have h2 : (T.setVm s.vm).sameButNew (S.setVm s.vm) L k n := ⟨e1, e2⟩
  exact X.same.trans h2
section ZEXC
variable {G : zzX} {nL : Nat} {M : zzM} {bc bs pc : Nat} {lv : List (Nat × Value)} {rest : List Value} {cc : ByteArray} {fr : Nat} {K : zzM → Prop}
theorem zz_exc0 (C : zz_C G cc zz_FN nL) (hR : zz_Rm G fr) (hfr : 4 ≤ fr) {i : Nat} {ro : Option Nat} (d : decode cc pc = .ok (.invokespecial i, 3)) (q1 : Cond.methodLink zz_FN i (Bundle.init0 zz_XN) ∈ lw_all) (hat : ∀ w ∈ zz_exA.filter vx_no, zz_hw w) (hca : (rest.map fun v => v.category).sum ≤ 20)
    (hw : zexc (zz_Zof G) M ro K) (k : ∀ M' : zzM, K M' → zz_T G nL M' bc bs (pc + 3) lv rest) : zz_T G nL M bc bs pc lv (va_rf ro :: rest) := by
  unfold zexc at hw
  split at hw
  · exact hw.elim
  rename_i a
  obtain ⟨hL0, hw⟩ := hw
  obtain ⟨p, l, e, R, s, m, args, below, meth, c, Q, Z⟩ := G
  obtain ⟨hexec, hb, hml, hown, hts, hS0, hl⟩ := C
  have hR1 : fr ≤ R.frames := hR.1
  have hR2 : 64 * fr ≤ R.locals := hR.2
  intro H locs cells slots ls h1 h2 h3 h4 h5 T hT X
  subst hT
  have hsize : ls.size = c.maxLocals := h5.1.trans hml.symm
  have hU := hS0.2.2.2.2.2.2.2.2.2.2.1
  have hN := hS0.2.2.2.2.2.2.2.2.2.2.2.1
  have htr : e.platform.stackTraces = false := (show e.platform.stackTraces = l.stackTraces by rw [X.admits.platform]).trans hl
  have Y := vx_rebase X (R' := { frames := R.frames, locals := R.locals, cells := 0, slots := 0 }) (Nat.le_refl _) (Nat.le_refl _) (by show cells + 0 ≤ R.cells; omega) (by show slots + 0 ≤ R.slots; omega)
  obtain ⟨s', hA'⟩ : ∃ z, z = (T.setVm s.vm).setFrames (.invoking m args :: below) := ⟨_, rfl⟩
  rw [← hA'] at Y
  have hvm : s'.vm = s.vm := by rw [hA']; rfl
  have hhp : s'.heap = T.heap := by rw [hA']; rfl
  have hff9 : s'.fieldFound? = s.fieldFound? := by funext x y z; simp only [State.fieldFound?, hvm]
  have hW0 : s.WarmedH s'.vm := by rw [hvm]; exact State.WarmedH.refl s
  have hat' : ∀ w ∈ zz_exA.filter vx_no, w.before args s' = true := fun w hw => zz_hwU hts hS0 hW0 (hat w hw)
  have hU' : vx_Zq Bundle.tN "UNASSIGNED_STACK" Bundle.steD (zz_A Z) s' s'.heap := by rw [hhp]; exact vx_Zq.moved hW0.alike (hU.kept h2.2.1)
  have hN' : vx_Zq Bundle.tN "SUPPRESSED_SENTINEL" Bundle.listD (zz_A Z) s' s'.heap := by rw [hhp]; exact vx_Zq.moved hW0.alike (hN.kept h2.2.1)
  have h : ∀ w ∈ zz_exA, w.before args s' = true := vx_own hat' (vx_isRefq hU'.1) (vx_isRefq hN'.1) hU'.2.word hN'.2.word
  have hown' : s'.vm.findClass zz_FN = some m.cls := by rw [hvm]; exact hown
  have howns : e.platform.frameOwnsMonitors = true := by rw [Y.admits.platform]
  have hfin : e.platform.finalization = false := by rw [Y.admits.platform]
  have hpl : e.platform.magicAccessors = ({} : Platform).magicAccessors := by rw [Y.admits.platform]
  have a' : ∀ x, x ∈ zz_exA → x.holds args s' none s' [] = true := fun x hx => h x hx
  obtain ⟨T9, Zi, L, LZ, Yt⟩ := ThrowableC.of_atoms (args := args) howns hfin hpl (fun x hx => h x (List.mem_append_left _ hx))
  obtain ⟨P1, Ps, hlen, L1, hL, hP1m, hlink1, hlink⟩ := Bundle.chain0 (args := args) hpl Yt.init0 [] zz_XN (by decide) (fun n hn => absurd hn List.not_mem_nil) (fun x hx => h x (List.mem_append_right _ (List.mem_append_left _ hx)))
  -- the cell
  have hz : zz_at Z true a (6, [.int 0, .int 0, .null, .null, .null, .null, .null, .int 0]) T.heap := h1 _ _ _ (Or.inl hL0)
  obtain ⟨cell, c1, c2, c3, c4, c5, c6, c7⟩ := hz
  have c7' := c7
  rw [if_pos (show 6 < 100 by decide)] at c7'
  obtain ⟨-, c8, c9⟩ := c7'
  have hmon : cell.monitor = {} := c9 rfl rfl
  obtain ⟨hvm0, hbase⟩ := c4 rfl
  obtain ⟨k1, k2, kX, k3, k4⟩ := hS0.2.1 6 _ rfl
  have k4 := k4 (by decide)
  have hcls : cell.cls = Z.1.1 6 := c6.trans zz_clM
  have hfound : s'.vm.findClass zz_FN = some cell.cls := by rw [hvm, hcls]; exact k2
  have hk : s'.vm.classes[cell.cls]? = some kX := by rw [hvm, hcls]; exact k3
  have hsel0 : selectMethod e.platform s'.vm cell.cls T9.fill0 = .method T9.fill0 := by
    obtain ⟨c2, r2, m2, q1, q2, q3, q4, -⟩ := Cond.selects_spec (a' (.selects zz_FN Bundle.tFill0 Bundle.tFill0) (by simp [zz_exA]))
    cases Option.some.inj (q1.symm.trans hfound)
    cases Option.some.inj (q2.symm.trans (State.methodFound?_of_named Yt.fill0 (by decide)))
    cases Option.some.inj (q3.symm.trans Yt.fill0)
    rw [Launch.admits_selectMethod Y.admits]; exact q4
  have hselF : selectMethod e.platform s'.vm cell.cls T9.fill = .method T9.fill := by
    obtain ⟨c2, r2, m2, q1, q2, q3, q4, -⟩ := Cond.selects_spec (a' (.selects zz_FN Bundle.tFill Bundle.tFill) (by simp [zz_exA]))
    cases Option.some.inj (q1.symm.trans hfound)
    cases Option.some.inj (q2.symm.trans (State.methodFound?_of_named Yt.fill (by decide)))
    cases Option.some.inj (q3.symm.trans Yt.fill)
    rw [Launch.admits_selectMethod Y.admits]; exact q4
  obtain ⟨cellS0, hcS0, hiss⟩ := Yt.statics
  obtain ⟨u0, hu0⟩ := Cond.staticRefV Yt.unassigned L.unassignedStatic L.statics hcS0 hiss (a' (.isRef (.static Bundle.tN "UNASSIGNED_STACK" Bundle.steD)) (by simp [zz_exA]))
  obtain ⟨sen, hsen⟩ := Cond.staticRefV Yt.sentinel L.sentinelStatic L.statics hcS0 hiss (a' (.isRef (.static Bundle.tN "SUPPRESSED_SENTINEL" Bundle.listD)) (by simp [zz_exA]))
  obtain ⟨ci198, i198, fB, hk198, hg198, ha198, hsB, -, hnB, htB, hffB⟩ := Cond.ownField (t := .object "java/lang/Object") Yt.found L.cls (by decide +kernel) (a' (.fieldLink Bundle.tN 198 Bundle.tN "backtrace" "Ljava/lang/Object;") (by simp [zz_exA])) (a' (.lays Bundle.tN Bundle.tN "backtrace" "Ljava/lang/Object;") (by simp [zz_exA])) e.platform hpl
  have hcellS : T.heap[T9.aS]? = some cellS0 := by rw [← hhp]; exact hcS0
  have hknownS : cellS0.vm ≠ .unknown := by
    intro hu
    rw [hu] at hiss
    cases hiss
  have hneS : T9.aS ≠ a := by
    intro e9
    rw [e9] at hcellS
    cases hcellS.symm.trans c1
    rw [hvm0] at hiss
    cases hiss
  obtain ⟨tyC, dC, hdC, hdnC⟩ := Cond.laysAt hfound hk Yt.cause (a' (.lays zz_FN Bundle.tN "cause" "Ljava/lang/Throwable;") (by simp [zz_exA]))
  obtain ⟨tyS, dS, hdS, hdnS⟩ := Cond.laysAt hfound hk Yt.stack (a' (.lays zz_FN Bundle.tN "stackTrace" Bundle.steD) (by simp [zz_exA]))
  obtain ⟨tyP, dP, hdP, hdnP⟩ := Cond.laysAt hfound hk Yt.supp (a' (.lays zz_FN Bundle.tN "suppressedExceptions" Bundle.listD) (by simp [zz_exA]))
  obtain ⟨tyB, dB, hdB, hdnB⟩ := Cond.laysAt hfound hk hffB (a' (.lays zz_FN Bundle.tN "backtrace" "Ljava/lang/Object;") (by simp [zz_exA]))
  have bC := Cond.laysApart hdB hdC hdnB hdnC (by rw [hnB, Yt.causeName]; decide)
  have bS := Cond.laysApart hdB hdS hdnB hdnS (by rw [hnB, Yt.stackName]; decide)
  have bP := Cond.laysApart hdB hdP hdnB hdnP (by rw [hnB, Yt.suppName]; decide)
  -- the slots by our own numbers
  have slotOf : ∀ (k : Nat) (hk : k < 8) {cf : ClassId} {kf : Class} {fi : Nat} {fd : Field}, s'.fieldFound? (zT_6 k).1 (zT_6 k).2.1 (zT_6 k).2.2.1 = some (cf, kf, fi, fd) → fd.slot = Z.1.2 6 k := by
    intro k hk cf kf fi fd hf
    obtain ⟨cf', kf', fi', fd', e1, e2, -⟩ := k1 k hk
    rw [hff9] at hf
    cases Option.some.inj (hf.symm.trans e1)
    exact e2
  have s2 : T9.fCause.slot = Z.1.2 6 2 := slotOf 2 (by decide) Yt.cause
  have s3 : T9.fStack.slot = Z.1.2 6 3 := slotOf 3 (by decide) Yt.stack
  have s4 : T9.fSupp.slot = Z.1.2 6 4 := slotOf 4 (by decide) Yt.supp
  have s6 : fB.slot = Z.1.2 6 6 := slotOf 6 (by decide) hffB
  have b6 : cell.slots[fB.slot]? = some .null := by rw [s6]; exact c8 6 .null rfl
  have tk : ∀ (f : Field) (k : Nat) (v : Value), f.slot = Z.1.2 6 k → ([.int 0, .int 0, .null, .null, .null, .null, .null, .int 0] : List Value)[k]? = some .null → kX.instanceTypes[f.slot]? = some f.type → fits f.type v = true → Takes s' cell f v := by
    intro f k v hf hk' ht hv
    refine ⟨?_, ?_⟩
    · have g := c8 k .null hk'
      rw [← hf] at g
      exact (Array.getElem?_eq_some_iff.mp g).1
    · simp [State.fitsSlot, State.slotType?, hk, k4, hvm0, ht, hv]
  have hskip : SkipFacts T9 e.platform s' (fun u => u) u0 ((preparedCellV T9.toThrowableT cell a u0 sen).withEntry T.cur) :=
    ⟨{ ci198 := ci198, i198 := i198, fBack := fB }, ⟨hk198, hg198, ha198, hsB⟩, by
      simpa [preparedCellV, Cell.setSlot, Cell.withEntry, Array.getElem?_setIfInBounds, bC, bS, bP, bC.symm, bS.symm, bP.symm] using b6, fun _ _ => rfl⟩
  obtain ⟨tm, methC, cdC, kC, vm₁, hnC, -, -, -, -, -, -, -, hW₁, st1⟩ := Steps.initCold (tb := p.tables) (e := e) (below := below) (s := s') (U := T) Y.here hexec Y.warmed hpl hown' (t := Bundle.init0 zz_XN) rfl rfl (by decide)
    (zz_hwU hts hS0 hW0 (Or.inl q1)) (h (.instanceMethod (Bundle.init0 zz_XN)) (by simp [zz_exA, Bundle.chain0Atoms, Bundle.passAtoms])) (bytes := Bundle.five) (maxL := 1) (h (.code (Bundle.init0 zz_XN) Bundle.five 1 none) (by simp [zz_exA, Bundle.chain0Atoms, Bundle.passAtoms]))
    (f := F0 m pc ls (.ref a :: rest)) rfl (a := a) (rest := rest) rfl (by rw [hb]; exact d)
  cases Option.some.inj (hnC.symm.trans hP1m)
  have X₁ := Y.noted hW₁
  obtain ⟨vm₂, X₂, st2⟩ := X₁.ctorPlainOffV hexec (g := F0 m pc ls rest) rfl hsize T9 L Zi LZ (P1 :: Ps)
    (fun P hP => by rcases List.mem_cons.mp hP with rfl | hP; exact L1; exact hL P hP) ⟨hlink1, hlink⟩ (u0 := u0) (sen := sen) (self := a) (cell := cell) (cellS := cellS0)
    c1 (fun _ => by rw [hvm0]; simp) (by rw [hvm0]; simp) (by rw [hmon]) (by rw [hmon]) hsel0 hselF hcellS hneS hknownS hu0 hsen
    (tk _ 2 _ s2 rfl tyC (by rw [Yt.causeType]; rfl)) (tk _ 3 _ s3 rfl tyS (by rw [Yt.stackType]; exact fits_refV_array _ u0)) (tk _ 4 _ s4 rfl tyP (by rw [Yt.suppType]; exact fits_refV_object _ sen)) Yt.objLocals hskip htr [] (by rw [hb]; exact d)
    (by simp only [List.length_cons, hlen, List.length_nil]; show 0 + 1 + 2 < R.frames; omega) (by simp only [List.length_cons, hlen, List.length_nil]; show 2 * 0 + (rest.map fun v => v.category).sum + (13 * (0 + 1) + 41) ≤ R.locals; omega)
  generalize hce : (preparedCellV T9.toThrowableT cell a u0 sen).setSlot T9.fStack.slot u0.v = ce at X₂ st2
  have hlt : a < T.heap.size := (Array.getElem?_eq_some_iff.mp c1).1
  have X6 := zz_back9L X (hA' ▸ Y) (hA' ▸ X₂)
  -- the written cell
  obtain ⟨r6, hr6⟩ : ∃ r, zzCl 6 = some r := ⟨_, rfl⟩
  have st9 : ∀ (c0 c1' : Cell) (k : Nat) (v : Value) (fs : List Value) (H0 : Heap), c0.setSlot (Z.1.2 6 k) v = c1' → zz_at Z true a (6, fs) H0 → H0[a]? = some c0 → k < fs.length → zz_at Z true a (6, fs.set k v) (H0.setIfInBounds a c1') ∧ (H0.setIfInBounds a c1')[a]? = some c1' := by
    intro c0 c1' k v fs H0 hs hz hc hk
    have hl0 : a < H0.size := (Array.getElem?_eq_some_iff.mp hc).1
    have he : (H0.setIfInBounds a c1')[a]? = some c1' := by simp [Array.getElem?_setIfInBounds, hl0]
    exact ⟨zz_wr (args := args) hts hS0 hr6 (by decide) hk hz hc (by rw [he, hs]), he⟩
  have hz0 : zz_at Z true a (6, [.int 0, .int 0, .null, .null, .null, .null, .null, .int 0]) T.heap := h1 _ _ _ (Or.inl hL0)
  obtain ⟨z1, y1⟩ := st9 cell (cell.setSlot T9.fCause.slot (.ref a)) 2 (.ref a) _ _ (by rw [s2]) hz0 c1 (by decide)
  obtain ⟨z2, y2⟩ := st9 _ ((cell.setSlot T9.fCause.slot (.ref a)).setSlot T9.fStack.slot u0.v) 3 u0.v _ _ (by rw [s3]) z1 y1 (by simp)
  obtain ⟨z3, y3⟩ := st9 _ (((cell.setSlot T9.fCause.slot (.ref a)).setSlot T9.fStack.slot u0.v).setSlot T9.fSupp.slot sen.v) 4 sen.v _ _ (by rw [s4]) z2 y2 (by simp)
  obtain ⟨z4, y4⟩ := st9 _ ce 3 u0.v _ _ (by rw [← hce, ← s3]) z3 y3 (by simp)
  have hz9 : zz_at Z true a (6, [.int 0, .int 0, .ref a, u0.v, sen.v, .null, .null, .int 0]) (T.heap.setIfInBounds a ce) := zz_at.kept z4 (by simp [Array.getElem?_setIfInBounds])
  have hR9 : zz_R Z (zz_up M a (6, [.int 0, .int 0, .ref a, u0.v, sen.v, .null, .null, .int 0])) (T.heap.setIfInBounds a ce) := zz_R.set h1 hL0 (fun x hx => by rw [Array.getElem?_setIfInBounds, if_neg (fun e => hx e.symm)]) hz9
  obtain ⟨t9, a1, b1⟩ := k _ (hw u0.v sen.v) (T.heap.setIfInBounds a ce) _ (cells + 0) (slots + 0) ls hR9 ⟨by simpa using h2.1, fun q g1 g2 => by
      rw [Array.getElem?_setIfInBounds, if_neg (fun e => g2 (by rw [← e]; exact hbase))]
      exact h2.2.1 q g1 g2, fun q g => by
      rcases List.mem_append.mp g with g | g
      · exact h2.2.2 q g
      · simp only [List.nil_append, List.mem_cons, List.not_mem_nil, or_false] at g
        rcases g with rfl | rfl | rfl | rfl <;> exact hbase⟩ (by omega) (by omega) h5 _ rfl X6
  refine ⟨t9, st1 _ (fun acts => ?_), b1⟩
  rw [doInvoke_state]
  exact st2 _ a1
end ZEXC
