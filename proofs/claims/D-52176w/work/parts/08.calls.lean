/-! LAYER Z: contracts, calls, ends -/
/-- how a method ends: with a value, or an exception of class number ty at the cell q -/
def zz_Q (Z : zzG) (K : Option Value → zzM → Prop) (X : Nat → Nat → zzM → Prop) (mc ms : Nat) : Array Value → State → Outcome → State → Prop := fun _ st o t =>
  va_F (zz_A Z) st t ∧ ((∃ (v : Option Value) (M' : zzM), o = .returned v ∧ K v M' ∧ zz_R Z M' t.heap ∧ ∃ L, FrameEnd st o t L mc ms ∧ ∀ q ∈ L, zz_A Z q.base) ∨
    ∃ (q ty : Nat) (fs : List Value) (M' : zzM) (L : List Loc), o = .threw q ∧ X ty q M' ∧ zz_R Z M' t.heap ∧ zz_L Z M' q = some (true, ty, fs) ∧ st.WarmedH t.vm ∧ st.sameButNew ({ t with vm := st.vm } : State) L mc ms ∧ ∀ z ∈ L, zz_A Z z.base)
abbrev zz_rm (fr mc ms : Nat) : Room := { frames := fr, cells := mc, slots := ms, locals := 64 * fr }
def zz_Met (Z : zzG) (l : Launch) (y : MethodName) (ws : List Cond) (fr : Nat) (as : List Value) (M : zzM) (mc ms : Nat) (K : Option Value → zzM → Prop) (X : Nat → Nat → zzM → Prop) : Prop :=
  MetFree l y (headSpec ws (zz_rm fr mc ms)) (va_Pc as (fun U => zz_S Z U ∧ zz_R Z M U.heap)) (fun _ _ _ _ _ => True) (zz_Q Z K X mc ms)
def zz_Pre (Z : zzG) (R : Room) (as : List Value) (M : zzM) (mc ms : Nat) : Pt → Array Value → Prop := fun A a => A.cells + mc ≤ R.cells ∧ A.slots + ms ≤ R.slots ∧ a = as.toArray ∧ zz_S Z A.U ∧ zz_R Z M A.U.heap
def zz_Fr (Z : zzG) (mc ms : Nat) (A B : Pt) : Prop := A.U.heap.size ≤ B.U.heap.size ∧ (∀ q : Nat, q < A.U.heap.size → ¬ zz_A Z q → B.U.heap[q]? = A.U.heap[q]?) ∧ ∃ L : List Loc, B.locs = A.locs ++ L ∧ (∀ q ∈ L, zz_A Z q.base) ∧ B.cells = A.cells + mc ∧ B.slots = A.slots + ms
def zz_Post (Z : zzG) (K : Option Value → zzM → Prop) (mc ms : Nat) : Pt → Array Value → Option Value → Pt → Prop := fun A _ v B => zz_Fr Z mc ms A B ∧ ∃ M' : zzM, K v M' ∧ zz_R Z M' B.U.heap
def zz_PostX (Z : zzG) (X : Nat → Nat → zzM → Prop) (mc ms : Nat) : Pt → Array Value → Addr → Pt → Prop := fun A _ q B => zz_Fr Z mc ms A B ∧ ∃ (ty : Nat) (fs : List Value) (M' : zzM), X ty q M' ∧ zz_R Z M' B.U.heap ∧ zz_L Z M' q = some (true, ty, fs)
/-- a method's code row, with or without handlers -/
def zz_cd (y : MethodName) (bytes : ByteArray) (maxL : Nat) (ret : Option FieldType) (hh : Option (List (Nat × Nat × Nat × Nat))) : Cond := match hh with
  | none => .code y bytes maxL ret
  | some h => .codeWith y bytes maxL ret h
abbrev zz_ws (y : MethodName) (bytes : ByteArray) (maxL : Nat) (ret : Option FieldType) (hh : Option (List (Nat × Nat × Nat × Nat))) : List Cond := zz_cd y bytes maxL ret hh :: lw_all
theorem zz_blind {Z : zzG} {as : List Value} {M : zzM} : FrameBlind (va_Pc as (fun U => zz_S Z U ∧ zz_R Z M U.heap)) := by
  intro a U g mk h
  obtain ⟨h1, h2, h3⟩ := h
  exact ⟨h1, zz_S.warm (s := U) (U := U.calling g mk a) (State.WarmedH.refl U) (Nat.le_refl _) (fun _ _ _ => rfl) h2, h3⟩
section ZCALL
variable {l : Launch} {R : Room} {p : Program} {e : Env} {below : List Frame} {s : State} {sargs : Array Value} {y : MethodName} {len W9 : Nat}
theorem zz_cdspec {bytes : ByteArray} {maxL : Nat} {ret : Option FieldType} {hh : Option (List (Nat × Nat × Nat × Nat))} {a : Array Value} {U : State} {mk : MethodId} (hn : U.methodNamed? y = some mk) (h : (zz_cd y bytes maxL ret hh).before a U = true) : ∃ (methY : Method) (cY : Code), U.vm.method? mk = some methY ∧ methY.code = some cY ∧ cY.maxLocals = maxL := by
  cases hh with
  | none =>
    obtain ⟨methY, cY, hmY, hcY, -, hlY, -, -, -, -⟩ := Cond.code_spec hn h
    exact ⟨methY, cY, hmY, hcY, hlY⟩
  | some hh =>
    obtain ⟨m9, meth, c, hn9, h1, h2, h3, h4, -, h5, h6, -⟩ := Cond.codeWith_spec h
    cases hn.symm.trans hn9
    exact ⟨meth, c, h1, h2, h4⟩
/-- follows vx_back of the starting text: what a callee that returns or throws pays -/
theorem zz_back {Z : zzG} {fr : Nat} {as : List Value} {M : zzM} {mc ms : Nat} {K : Option Value → zzM → Prop} {X : Nat → Nat → zzM → Prop} {bytes : ByteArray} {maxL : Nat} {ret : Option FieldType} {hh : Option (List (Nat × Nat × Nat × Nat))}
    (hM : zz_Met Z l y (zz_ws y bytes maxL ret hh) fr as M mc ms K X) (hframes : fr + 1 ≤ R.frames) (hlocals : W9 + (maxL + 11) + 64 * fr ≤ R.locals)
    (hws : ∀ w ∈ zz_ws y bytes maxL ret hh, ∀ a' U, s.WarmedH U.vm → w.before a' U = true) (hinit : ∀ a' U, s.WarmedH U.vm → (Cond.initialized y.cls).before a' U = true) :
    vx_Back l R p e below s sargs y len W9 (zz_Pre Z R as M mc ms) (zz_Post Z K mc ms) (zz_PostX Z X mc ms) := by
  intro m meth c A g ig mk a X9 hg hsize hdg hW hn hp
  have h1 : (headSpec (zz_ws y bytes maxL ret hh) (zz_rm fr mc ms)).pre.before a A.U = true := atoms_intro fun w hw => hws w hw _ _ X9.warmed
  have h2 : (zz_cd y bytes maxL ret hh).before a A.U = true := hws _ List.mem_cons_self _ _ X9.warmed
  have h3 : (Cond.initialized y.cls).before a A.U = true := hinit _ _ X9.warmed
  have h4 : A.cells + (headSpec (zz_ws y bytes maxL ret hh) (zz_rm fr mc ms)).room.cells ≤ R.cells := hp.1
  have h5 : A.slots + (headSpec (zz_ws y bytes maxL ret hh) (zz_rm fr mc ms)).room.slots ≤ R.slots := hp.2.1
  have hPc : va_Pc as (fun U => zz_S Z U ∧ zz_R Z M U.heap) a (A.U.calling g mk a) := zz_blind _ _ _ _ hp.2.2
  obtain ⟨U, Ls, c0, s0⟩ := A
  dsimp only [Pt.U, Pt.locs, Pt.cells, Pt.slots] at h1 h2 h3 h4 h5 X9 hn hPc ⊢
  obtain ⟨methY, cY, hmY, hcY, hlY⟩ := zz_cdspec hn h2
  obtain ⟨kY, hkY, -⟩ := className_of_methodNamed hn
  have hinitY : kY.init = .initialized := Cond.initialized_spec (findClass_of_methodNamed hn) hkY h3
  have h : At U g.method c below := by rw [hg]; exact X9.here
  have hlocals9 : W9 + (maxL + 11) + (headSpec (zz_ws y bytes maxL ret hh) (zz_rm fr mc ms)).room.locals ≤ R.locals := hlocals
  have happ : (headSpec (zz_ws y bytes maxL ret hh) (zz_rm fr mc ms)).appliesLoose y e.platform (U.calling g mk a) = true :=
    Spec.appliesLoose_calling (g := g) h hdg hn hkY hinitY
      (X9.room_calling (g := g) (R' := (headSpec (zz_ws y bytes maxL ret hh) (zz_rm fr mc ms)).room) hsize hmY hcY hframes (by rw [hlY]; omega) h4 h5) h1
  obtain ⟨mid, hmid⟩ := h.above
  have hfr : (U.setTop g).frames = (.java g :: mid) ++ below := by rw [State.frames_setTop' g h.top, hmid]; rfl
  obtain ⟨o, s₂, hsteps, -, hend, hq⟩ := Steps.callFree hM p X9.admits X9.cas X9.clock (acts := []) hfr happ hPc trivial
  have hq' : zz_Q Z K X mc ms a (U.calling g mk a) o s₂ := hq
  rw [State.frames_setTop' g h.top] at hend
  obtain ⟨g₀, hg0⟩ := Option.isSome_iff_exists.mp h.top
  obtain ⟨r, hr⟩ := State.topJava?_eq_some.mp hg0
  have hr' : (({ U with heap := s₂.heap, slotsUsed := s₂.slotsUsed } : State).setVm s₂.vm).frames = .java g₀ :: r := hr
  obtain ⟨⟨hF1, hF2⟩, hq'⟩ := hq'
  rcases hq' with ⟨v, M', rfl, hK, hRM, L, hfe, hL⟩ | ⟨q, ty, fs, M', L, rfl, hX, hRM, hLq, hW₂, hsm, hL⟩
  · obtain ⟨⟨v', hv'⟩, hW₂, e2, q2, q3, q4, q5, q6⟩ := id hfe
    have e3 : s₂ = ({ (U.calling g mk a).setFrames s₂.frames with heap := s₂.heap, slotsUsed := s₂.slotsUsed } : State).setVm s₂.vm := by
      have : s₂ = ({ s₂ with vm := (U.calling g mk a).vm } : State).setVm s₂.vm := rfl
      rw [e2] at this
      exact this
    obtain ⟨c₂, i₂, len₂, hc₂, hd₂, hf₂⟩ := hend
    have hW' : U.WarmedH s₂.vm := hW₂
    have hcc : c₂ = c := by
      have h1 : s₂.code? g.method = U.code? g.method := by
        rw [State.code?_eq, State.code?_eq, hW'.alike.method?]
      exact Option.some.inj (hc₂.symm.trans (h1.trans h.code))
    subst hcc
    have hlen : len₂ = len := by rw [hdg] at hd₂; cases hd₂; rfl
    subst hlen
    have hs₂ : s₂ = (({ U with heap := s₂.heap, slotsUsed := s₂.slotsUsed } : State).setVm s₂.vm).setTop { g with pc := g.pc + len₂, stack := v.toList ++ g.stack } := by
      refine e3.trans ?_
      rw [hf₂, State.calling_eq h.top, State.setFrames_setFrames, State.setTop_of_frames _ hr', hr]
      rfl
    have hsame : U.sameButNew ({ U with heap := s₂.heap, slotsUsed := s₂.slotsUsed } : State) L mc ms := by
      refine ⟨?_, q2, q3, q4, q5, q6⟩
      obtain ⟨t, ht, -⟩ := State.frames_cons hr
      show ({ U with heap := s₂.heap, slotsUsed := s₂.slotsUsed } : State) = { U.setFrames U.frames with heap := s₂.heap, slotsUsed := s₂.slotsUsed }
      rw [State.setFrames_self ht]
    subst hg
    refine Or.inl ⟨v, ⟨(({ U with heap := s₂.heap, slotsUsed := s₂.slotsUsed } : State).setVm s₂.vm), Ls ++ L, c0 + mc, s0 + ms⟩,
      ⟨X9.admits, X9.cas, X9.clock, X9.frames, X9.room, X9.hears, X9.method, X9.code, (X9.here.setHeapUsed s₂.heap s₂.slotsUsed).setVm hW'.alike, X9.tail, State.WarmedH.trans X9.warmed hW', X9.limits, X9.bytes, X9.same.trans (hsame.setVm s.vm)⟩,
      ⟨⟨hF1, hF2, L, rfl, hL, rfl, rfl⟩, M', hK, hRM⟩, ?_⟩
    show Steps p.tables e below _ ((({ U with heap := s₂.heap, slotsUsed := s₂.slotsUsed } : State).setVm s₂.vm).setTop { g with pc := g.pc + len₂, stack := v.toList ++ g.stack })
    rw [← hs₂]
    exact hsteps
  · obtain ⟨e2, q2, q3, q4, q5, q6⟩ := id hsm
    have e3 : s₂ = ({ (U.calling g mk a).setFrames s₂.frames with heap := s₂.heap, slotsUsed := s₂.slotsUsed } : State).setVm s₂.vm := by
      have : s₂ = ({ s₂ with vm := (U.calling g mk a).vm } : State).setVm s₂.vm := rfl
      rw [e2] at this
      exact this
    have hf₂ : s₂.frames = .throwing q :: .java g :: U.frames.tail := hend
    have hW' : U.WarmedH s₂.vm := hW₂
    have hs₂ : s₂ = ((({ U with heap := s₂.heap, slotsUsed := s₂.slotsUsed } : State).setVm s₂.vm).setTop g).pushFrame (.throwing q) := by
      refine e3.trans ?_
      rw [hf₂, State.calling_eq h.top, State.setFrames_setFrames, State.pushFrame, State.frames_setTop _ hr', State.setTop_of_frames _ hr', State.setFrames_setFrames, hr]
      rfl
    have hsame : U.sameButNew ({ U with heap := s₂.heap, slotsUsed := s₂.slotsUsed } : State) L mc ms := by
      refine ⟨?_, q2, q3, q4, q5, q6⟩
      obtain ⟨t, ht, -⟩ := State.frames_cons hr
      show ({ U with heap := s₂.heap, slotsUsed := s₂.slotsUsed } : State) = { U.setFrames U.frames with heap := s₂.heap, slotsUsed := s₂.slotsUsed }
      rw [State.setFrames_self ht]
    subst hg
    refine Or.inr ⟨q, ⟨(({ U with heap := s₂.heap, slotsUsed := s₂.slotsUsed } : State).setVm s₂.vm), Ls ++ L, c0 + mc, s0 + ms⟩,
      ⟨X9.admits, X9.cas, X9.clock, X9.frames, X9.room, X9.hears, X9.method, X9.code, (X9.here.setHeapUsed s₂.heap s₂.slotsUsed).setVm hW'.alike, X9.tail, State.WarmedH.trans X9.warmed hW', X9.limits, X9.bytes, X9.same.trans (hsame.setVm s.vm)⟩,
      ⟨⟨hF1, hF2, L, rfl, hL, rfl, rfl⟩, ty, fs, M', hX, hRM, hLq⟩, ?_⟩
    show Steps p.tables e below _ (((({ U with heap := s₂.heap, slotsUsed := s₂.slotsUsed } : State).setVm s₂.vm).setTop g).pushFrame (.throwing q))
    rw [← hs₂]
    exact hsteps
theorem zz_payW {bytes : ByteArray} {maxL : Nat} {ret : Option FieldType} {hh : Option (List (Nat × Nat × Nat × Nat))} {args : Array Value} (hts : ∀ w ∈ lw_all, w.before args s = true) (q : zz_cd y bytes maxL ret hh ∈ lw_all) : ∀ w ∈ zz_ws y bytes maxL ret hh, ∀ a' U, s.WarmedH U.vm → w.before a' U = true := by
  refine pay_in hts (fun w hw => ?_)
  rcases List.mem_cons.mp hw with e | e
  · rw [e]
    exact lw_self _ q
  · exact lw_self _ e
theorem zz_payI {args : Array Value} {C : String} (hts : ∀ w ∈ lw_all, w.before args s = true) (q : Cond.initialized C ∈ lw_all) : ∀ a' U, s.WarmedH U.vm → (Cond.initialized C).before a' U = true :=
  fun a' U hW => word_at hW (Or.inl (by first | rfl | simp [Cond.onTables, Cond.keeps, Cond.steady])) (hts _ q)
end ZCALL
section ZFIN
variable {G : zzX} {nL : Nat} {M : zzM} {bc bs pc : Nat} {lv : List (Nat × Value)} {rest : List Value} {cc : ByteArray} {own : String}
/-- behind a call -/
theorem zz_fin {p : Program} {l : Launch} {e : Env} {R : Room} {s : State} {m : MethodId} {args : Array Value} {below : List Frame} {meth : Method} {c : Code} {Q : State → Prop} {Z : zzG} {T : State} {H : Heap} {locs : List Loc} {cells slots : Nat} {ls : Array Slot} {K : Option Value → zzM → Prop} {X : Nat → Nat → zzM → Prop} {mc ms len : Nat} {g0 : JFrame} {a : Array Value}
    (hT : T.heap = H) (h2 : va_S (zz_A Z) s.heap H locs) (h3 : cells + bc ≤ R.cells) (h4 : slots + bs ≤ R.slots) (h5 : lv_has ls nL lv) (hc : mc ≤ bc) (hs : ms ≤ bs)
    (hres : (∃ (v : Option Value) (vm₁ : Vm) (B : Pt), s.WarmedH vm₁ ∧ Stand p l e R s m args below meth c B.U B.locs B.cells B.slots ∧ zz_Post Z K mc ms ⟨T.setVm vm₁, locs, cells, slots⟩ a v B ∧
      ∀ target, Steps p.tables e below (B.U.setTop { F0 m pc ls rest with pc := pc + len, stack := v.toList ++ rest }) target → Steps p.tables e below (T.setTop g0) target) ∨
    (∃ (q : Addr) (vm₁ : Vm) (B : Pt), s.WarmedH vm₁ ∧ Stand p l e R s m args below meth c B.U B.locs B.cells B.slots ∧ zz_PostX Z X mc ms ⟨T.setVm vm₁, locs, cells, slots⟩ a q B ∧
      Steps p.tables e below (T.setTop g0) ((B.U.setTop { F0 m pc ls rest with stack := rest }).pushFrame (.throwing q))))
    (kN : ∀ (v : Option Value) (M' : zzM), K v M' → zz_T (p, l, e, R, s, m, args, below, meth, c, Q, Z) nL M' (bc - mc) (bs - ms) (pc + len) lv (v.toList ++ rest))
    (kX : ∀ (ty q : Nat) (M' : zzM), X ty q M' → zz_TX (p, l, e, R, s, m, args, below, meth, c, Q, Z) nL M' (bc - mc) (bs - ms) pc lv ty q) : ∃ t, Steps p.tables e below (T.setTop g0) t ∧ Q t := by
  have fr : ∀ {vm₁ : Vm} {B : Pt}, zz_Fr Z mc ms ⟨T.setVm vm₁, locs, cells, slots⟩ B → va_S (zz_A Z) s.heap B.U.heap B.locs ∧ B.cells + (bc - mc) ≤ R.cells ∧ B.slots + (bs - ms) ≤ R.slots := by
    intro vm₁ B hF
    obtain ⟨f1, f2, L, f3, f4, f5, f6⟩ := hF
    have f3 : B.locs = locs ++ L := f3
    have f5 : B.cells = cells + mc := f5
    have f6 : B.slots = slots + ms := f6
    have f1 : (T.setVm vm₁).heap.size ≤ B.U.heap.size := f1
    have f2 : ∀ q : Nat, q < (T.setVm vm₁).heap.size → ¬ zz_A Z q → B.U.heap[q]? = (T.setVm vm₁).heap[q]? := f2
    have hTT : (T.setVm vm₁).heap = H := hT
    rw [hTT] at f1 f2
    have f1 : H.size ≤ B.U.heap.size := f1
    have f2 : ∀ q : Nat, q < H.size → ¬ zz_A Z q → B.U.heap[q]? = H[q]? := f2
    refine ⟨⟨Nat.le_trans h2.1 f1, fun q g1 g2 => (f2 q (Nat.lt_of_lt_of_le g1 h2.1) g2).trans (h2.2.1 q g1 g2), fun z hz => ?_⟩, ?_, ?_⟩
    · rw [f3] at hz
      rcases List.mem_append.mp hz with g | g
      · exact h2.2.2 z g
      · exact f4 z g
    · rw [f5]; omega
    · rw [f6]; omega
  rcases hres with ⟨v, vm₁, B, hW, X', ⟨hF, M', hK, hR⟩, st⟩ | ⟨q, vm₁, B, hW, X', ⟨hF, ty, fs, M', hX, hR, hLq⟩, st⟩
  · obtain ⟨g1, g2, g3⟩ := fr hF
    obtain ⟨t, a1, b1⟩ := kN v M' hK B.U.heap B.locs B.cells B.slots ls hR g1 g2 g3 h5 B.U rfl X'
    exact ⟨t, st t a1, b1⟩
  · obtain ⟨g1, g2, g3⟩ := fr hF
    obtain ⟨t, a1, b1⟩ := kX ty q M' hX B.U.heap B.locs B.cells B.slots ls rest hR g1 g2 g3 h5 ⟨(ty, fs), hLq⟩ B.U rfl X'
    exact ⟨t, st.trans a1, b1⟩
/-- the room of the caller -/
def zz_Rm (G : zzX) (fr : Nat) : Prop := fr ≤ G.2.2.2.1.frames ∧ 64 * fr ≤ G.2.2.2.1.locals
abbrev zz_l (G : zzX) : Launch := G.2.1
/-- the link of a method: own, or a nest mate's -/
def zz_mlk (own : String) (i : Nat) (y : MethodName) : Prop := Cond.methodLink own i y ∈ lw_all ∨ ∃ host : String, Cond.methodLinkNest own i y host ∈ lw_tbl
/-- small facts of a callee: its class is no handle's, its parameters -/
def zz_yok (y : MethodName) (n : Nat) : Bool := decide (y.cls ≠ "java/lang/invoke/MethodHandle") && decide (y.cls ≠ "java/lang/invoke/VarHandle") && decide ((parseMethodDescriptor y.desc).map (fun d => d.parameters.length) = some n)
theorem zz_yokS {y : MethodName} {n : Nat} (h : zz_yok y n = true) : (y.cls ≠ "java/lang/invoke/MethodHandle" ∧ y.cls ≠ "java/lang/invoke/VarHandle") ∧ ∀ sig, parseMethodDescriptor y.desc = some sig → n = sig.parameters.length := by
  simp only [zz_yok, Bool.and_eq_true, decide_eq_true_eq] at h
  refine ⟨h.1, fun sig hs => ?_⟩
  have h2 := h.2
  rw [hs] at h2
  exact (Option.some.inj h2).symm
variable {y : MethodName} {bytes : ByteArray} {maxL fr frc i n : Nat} {ret : Option FieldType} {hh : Option (List (Nat × Nat × Nat × Nat))} {As : List Value} {mc ms : Nat} {K : Option Value → zzM → Prop} {X : Nat → Nat → zzM → Prop}
theorem zz_pre {Z : zzG} {s : State} {T : State} {H : Heap} {locs : List Loc} {cells slots : Nat} {R : Room} {as : List Value} (hS : zz_S Z s) (hT : T.heap = H) (h1 : zz_R Z M H) (h2 : va_S (zz_A Z) s.heap H locs) (h3 : cells + bc ≤ R.cells) (h4 : slots + bs ≤ R.slots) (hc : mc ≤ bc) (hs : ms ≤ bs) : ∀ vm₁, s.WarmedH vm₁ → zz_Pre Z R as M mc ms ⟨T.setVm vm₁, locs, cells, slots⟩ as.toArray := by
  intro vm₁ hW
  refine ⟨by show cells + mc ≤ R.cells; omega, by show slots + ms ≤ R.slots; omega, rfl, ?_, ?_⟩
  · show zz_S Z (T.setVm vm₁)
    have hh : (T.setVm vm₁).heap = H := hT
    exact zz_S.warm (s := s) (U := T.setVm vm₁) hW (by rw [hh]; exact h2.1) (fun q g1 g2 => by rw [hh]; exact h2.2.1 q g1 g2) hS
  · show zz_R Z M T.heap
    rw [hT]; exact h1
/-- invokevirtual: the receiver's class is the method's own -/
theorem zz_callV (C : zz_C G cc own nL) (hR : zz_Rm G fr) {a t : Nat} {ro : Option Nat} (hro : ro = some a) {b : Bool} {fs : List Value} {r : vw_C} (d : decode cc pc = .ok (.invokevirtual i, 3)) (q1 : zz_mlk own i y) (q2 : Cond.instanceMethod y ∈ lw_all) (q3 : Cond.selects r.1 y y ∈ lw_all ∨ (r.1, y) ∈ zzXs) (q4 : Cond.initialized y.cls ∈ lw_all) (q5 : zz_cd y bytes maxL ret hh ∈ lw_all) (hno : hh = none ∨ Cond.methodLink own i y ∈ lw_all) (hy : zz_yok y As.length = true)
    (hr : zzCl t = some r) (hfr : frc + 1 ≤ fr) (hml : maxL ≤ 32) (hL : zz_LO (zz_Zof G) M a = some (b, t, fs)) (hM : zz_Met (zz_Zof G) (zz_l G) y (zz_ws y bytes maxL ret hh) frc (va_rf ro :: As) M mc ms K X) (hc : mc ≤ bc) (hs : ms ≤ bs) (hca : (rest.map fun v => v.category).sum ≤ 20)
    (kN : ∀ (v : Option Value) (M' : zzM), K v M' → zz_T G nL M' (bc - mc) (bs - ms) (pc + 3) lv (v.toList ++ rest)) (kX : ∀ (ty q : Nat) (M' : zzM), X ty q M' → zz_TX G nL M' (bc - mc) (bs - ms) pc lv ty q) {st : List Value} (hst : st = As.reverse ++ va_rf ro :: rest) : zz_T G nL M bc bs pc lv st := by
  subst hro
  subst hst
  have hM : zz_Met (zz_Zof G) (zz_l G) y _ frc (.ref a :: As) M mc ms K X := hM
  show zz_T G nL M bc bs pc lv (As.reverse ++ .ref a :: rest)
  obtain ⟨p, l, e, R, s, m, args, below, meth, c, Q, Z⟩ := G
  obtain ⟨hx, hb, hml9, hown, hts, hS, hl⟩ := C
  obtain ⟨hy1, hy2⟩ := zz_yokS hy
  intro H locs cells slots ls h1 h2 h3 h4 h5 T hT X9
  have hR1 : fr ≤ R.frames := hR.1
  have hR2 : 64 * fr ≤ R.locals := hR.2
  have hK : vx_Back l R p e below s args y 3 20 (zz_Pre Z R (.ref a :: As) M mc ms) (zz_Post Z K mc ms) (zz_PostX Z X mc ms) := zz_back (hh := hh) hM (by omega) (by omega) (zz_payW hts q5) (zz_payI hts q4)
  obtain ⟨cell, g1, g2, g3⟩ := zz_rcv hS hr (h1 _ _ _ (zz_LOr hL))
  have hsel9 : (Cond.selects r.1 y y).before args s = true := by
    rcases q3 with q3 | q3
    · exact hts _ q3
    · exact va_Nw.use rfl (hS.2.2.2.2.2.2.2.2.2.1 _ q3)
  have hlen : ∀ sig, parseMethodDescriptor y.desc = some sig → As.length = sig.parameters.length := hy2
  have hW : 2 * (F0 m pc ls (As.reverse ++ .ref a :: rest)).monitorRoom + (rest.map fun v => v.category).sum ≤ 20 := by show 2 * 0 + _ ≤ 20; omega
  cases hh with
  | none =>
    rcases q1 with q1 | ⟨host, q1⟩
    · exact zz_fin hT h2 h3 h4 h5 hc hs (vx_callV X9 hx (C := r.1) (bytes := bytes) (maxL := maxL) (ret := ret) hown (hts _ q1) (hts _ q2) hsel9 (hts _ q5) hy1 hK (by rw [hT]; exact g1) g2 g3 (g := F0 m pc ls (As.reverse ++ .ref a :: rest)) rfl (h5.1.trans hml9.symm) (argsL := As) (rest := rest) hlen rfl hW (by rw [hb]; exact d) (zz_pre hS hT h1 h2 h3 h4 hc hs)) kN kX
    · exact zz_fin hT h2 h3 h4 h5 hc hs (vx_callVN X9 hx (C := r.1) (bytes := bytes) (maxL := maxL) (ret := ret) hown (va_Nw.use (A := args) rfl (hS.2.2.2.1 _ q1 rfl)) (hts _ q2) hsel9 (hts _ q5) hy1 hK (by rw [hT]; exact g1) g2 g3 (g := F0 m pc ls (As.reverse ++ .ref a :: rest)) rfl (h5.1.trans hml9.symm) (argsL := As) (rest := rest) hlen rfl hW (by rw [hb]; exact d) (zz_pre hS hT h1 h2 h3 h4 hc hs)) kN kX
  | some h =>
    rcases hno with e | q1
    · cases e
    · exact zz_fin hT h2 h3 h4 h5 hc hs (vx_callVX X9 hx (C := r.1) (hh := h) (bytes := bytes) (maxL := maxL) (ret := ret) hown (hts _ q1) (hts _ q2) hsel9 (hts _ q5) hy1 hK (by rw [hT]; exact g1) g2 g3 (g := F0 m pc ls (As.reverse ++ .ref a :: rest)) rfl (h5.1.trans hml9.symm) (argsL := As) (rest := rest) hlen rfl hW (by rw [hb]; exact d) (zz_pre hS hT h1 h2 h3 h4 hc hs)) kN kX
/-- invokestatic -/
theorem zz_callS (C : zz_C G cc own nL) (hR : zz_Rm G fr) (d : decode cc pc = .ok (.invokestatic i, 3)) (q1 : zz_mlk own i y) (q2 : Cond.static y ∈ lw_all) (q4 : Cond.initialized y.cls ∈ lw_all) (q5 : zz_cd y bytes maxL ret hh ∈ lw_all) (hno : hh = none ∨ Cond.methodLink own i y ∈ lw_all) (hy : zz_yok y As.length = true)
    (hfr : frc + 1 ≤ fr) (hml : maxL ≤ 32) (hM : zz_Met (zz_Zof G) (zz_l G) y (zz_ws y bytes maxL ret hh) frc As M mc ms K X) (hc : mc ≤ bc) (hs : ms ≤ bs) (hca : (rest.map fun v => v.category).sum ≤ 20)
    (kN : ∀ (v : Option Value) (M' : zzM), K v M' → zz_T G nL M' (bc - mc) (bs - ms) (pc + 3) lv (v.toList ++ rest)) (kX : ∀ (ty q : Nat) (M' : zzM), X ty q M' → zz_TX G nL M' (bc - mc) (bs - ms) pc lv ty q) {st : List Value} (hst : st = As.reverse ++ rest) : zz_T G nL M bc bs pc lv st := by
  subst hst
  obtain ⟨p, l, e, R, s, m, args, below, meth, c, Q, Z⟩ := G
  obtain ⟨hx, hb, hml9, hown, hts, hS, hl⟩ := C
  obtain ⟨hy1, hy2⟩ := zz_yokS hy
  intro H locs cells slots ls h1 h2 h3 h4 h5 T hT X9
  have hR1 : fr ≤ R.frames := hR.1
  have hR2 : 64 * fr ≤ R.locals := hR.2
  have hK : vx_Back l R p e below s args y 3 20 (zz_Pre Z R As M mc ms) (zz_Post Z K mc ms) (zz_PostX Z X mc ms) := zz_back (hh := hh) hM (by omega) (by omega) (zz_payW hts q5) (zz_payI hts q4)
  have hlen : ∀ sig, parseMethodDescriptor y.desc = some sig → As.length = sig.parameters.length := hy2
  have hW : 2 * (F0 m pc ls (As.reverse ++ rest)).monitorRoom + (rest.map fun v => v.category).sum ≤ 20 := by show 2 * 0 + _ ≤ 20; omega
  cases hh with
  | none =>
    rcases q1 with q1 | ⟨host, q1⟩
    · exact zz_fin hT h2 h3 h4 h5 hc hs (vx_callS X9 hx (bytes := bytes) (maxL := maxL) (ret := ret) hown (hts _ q1) (hts _ q2) (hts _ q4) (hts _ q5) hy1 hK (g := F0 m pc ls (As.reverse ++ rest)) rfl (h5.1.trans hml9.symm) (argsL := As) (rest := rest) hlen rfl hW (by rw [hb]; exact d) (zz_pre hS hT h1 h2 h3 h4 hc hs)) kN kX
    · exact zz_fin hT h2 h3 h4 h5 hc hs (vx_callSN X9 hx (bytes := bytes) (maxL := maxL) (ret := ret) hown (va_Nw.use (A := args) rfl (hS.2.2.2.1 _ q1 rfl)) (hts _ q2) (hts _ q4) (hts _ q5) hy1 hK (g := F0 m pc ls (As.reverse ++ rest)) rfl (h5.1.trans hml9.symm) (argsL := As) (rest := rest) hlen rfl hW (by rw [hb]; exact d) (zz_pre hS hT h1 h2 h3 h4 hc hs)) kN kX
  | some h =>
    rcases hno with e | q1
    · cases e
    · exact zz_fin hT h2 h3 h4 h5 hc hs (vx_callSX X9 hx (hh := h) (bytes := bytes) (maxL := maxL) (ret := ret) hown (hts _ q1) (hts _ q2) (hts _ q4) (hts _ q5) hy1 hK (g := F0 m pc ls (As.reverse ++ rest)) rfl (h5.1.trans hml9.symm) (argsL := As) (rest := rest) hlen rfl hW (by rw [hb]; exact d) (zz_pre hS hT h1 h2 h3 h4 hc hs)) kN kX
/-- invokespecial of a constructor -/
theorem zz_callI (C : zz_C G cc own nL) (hR : zz_Rm G fr) {a : Nat} {ro : Option Nat} (hro : ro = some a) (d : decode cc pc = .ok (.invokespecial i, 3)) (q1 : zz_mlk own i y) (q2 : Cond.instanceMethod y ∈ lw_all) (q4 : Cond.initialized y.cls ∈ lw_all) (q5 : zz_cd y bytes maxL none none ∈ lw_all) (hni : y.name = "<init>") (hy : zz_yok y As.length = true)
    (hfr : frc + 1 ≤ fr) (hml : maxL ≤ 32) (hM : zz_Met (zz_Zof G) (zz_l G) y (zz_ws y bytes maxL none none) frc (va_rf ro :: As) M mc ms K X) (hc : mc ≤ bc) (hs : ms ≤ bs) (hca : (rest.map fun v => v.category).sum ≤ 20)
    (kN : ∀ (v : Option Value) (M' : zzM), K v M' → zz_T G nL M' (bc - mc) (bs - ms) (pc + 3) lv (v.toList ++ rest)) (kX : ∀ (ty q : Nat) (M' : zzM), X ty q M' → zz_TX G nL M' (bc - mc) (bs - ms) pc lv ty q) {st : List Value} (hst : st = As.reverse ++ va_rf ro :: rest) : zz_T G nL M bc bs pc lv st := by
  subst hro
  subst hst
  have hM : zz_Met (zz_Zof G) (zz_l G) y _ frc (.ref a :: As) M mc ms K X := hM
  show zz_T G nL M bc bs pc lv (As.reverse ++ .ref a :: rest)
  obtain ⟨p, l, e, R, s, m, args, below, meth, c, Q, Z⟩ := G
  obtain ⟨hx, hb, hml9, hown, hts, hS, hl⟩ := C
  obtain ⟨hy1, hy2⟩ := zz_yokS hy
  intro H locs cells slots ls h1 h2 h3 h4 h5 T hT X9
  have hR1 : fr ≤ R.frames := hR.1
  have hR2 : 64 * fr ≤ R.locals := hR.2
  have hK : vx_Back l R p e below s args y 3 20 (zz_Pre Z R (.ref a :: As) M mc ms) (zz_Post Z K mc ms) (zz_PostX Z X mc ms) := zz_back (hh := none) hM (by omega) (by omega) (zz_payW hts q5) (zz_payI hts q4)
  have hlen : ∀ sig, parseMethodDescriptor y.desc = some sig → As.length = sig.parameters.length := hy2
  have hW : 2 * (F0 m pc ls (As.reverse ++ .ref a :: rest)).monitorRoom + (rest.map fun v => v.category).sum ≤ 20 := by show 2 * 0 + _ ≤ 20; omega
  rcases q1 with q1 | ⟨host, q1⟩
  · exact zz_fin hT h2 h3 h4 h5 hc hs (vx_callI X9 hx (bytes := bytes) (maxL := maxL) hown hni (hts _ q1) (hts _ q2) (hts _ q5) hy1 hK (g := F0 m pc ls (As.reverse ++ .ref a :: rest)) rfl (h5.1.trans hml9.symm) (argsL := As) (rest := rest) hlen rfl hW (by rw [hb]; exact d) (zz_pre hS hT h1 h2 h3 h4 hc hs)) kN kX
  · exact zz_fin hT h2 h3 h4 h5 hc hs (vx_callIN X9 hx (bytes := bytes) (maxL := maxL) hown hni (va_Nw.use (A := args) rfl (hS.2.2.2.1 _ q1 rfl)) (hts _ q2) (hts _ q5) hy1 hK (g := F0 m pc ls (As.reverse ++ .ref a :: rest)) rfl (h5.1.trans hml9.symm) (argsL := As) (rest := rest) hlen rfl hW (by rw [hb]; exact d) (zz_pre hS hT h1 h2 h3 h4 hc hs)) kN kX
/-- invokevirtual of an inherited, overridden or abstract method x: y is run -/
theorem zz_callU (C : zz_C G cc own nL) (hR : zz_Rm G fr) {x : MethodName} {owner : String} {a t : Nat} {ro : Option Nat} (hro : ro = some a) {b : Bool} {fs : List Value} {r : vw_C} (d : decode cc pc = .ok (.invokevirtual i, 3)) (q1 : Cond.methodLink own i x ∈ lw_all) (q6 : Cond.sameMethod x.cls owner x.name x.desc ∈ lw_all) (q7 : Cond.declares ⟨owner, x.name, x.desc⟩ ∈ lw_tbl ∨ ∃ b9 L9 r9, Cond.instanceMethod ⟨owner, x.name, x.desc⟩ ∈ lw_all ∧ Cond.code ⟨owner, x.name, x.desc⟩ b9 L9 r9 ∈ lw_all) (q2 : Cond.instanceMethod y ∈ lw_all) (q3 : Cond.selects r.1 x y ∈ lw_all) (q4 : Cond.initialized y.cls ∈ lw_all) (q5 : zz_cd y bytes maxL ret none ∈ lw_all) (hy : zz_yok ⟨owner, x.name, x.desc⟩ As.length = true)
    (hr : zzCl t = some r) (hfr : frc + 1 ≤ fr) (hml : maxL ≤ 32) (hL : zz_LO (zz_Zof G) M a = some (b, t, fs)) (hM : zz_Met (zz_Zof G) (zz_l G) y (zz_ws y bytes maxL ret none) frc (va_rf ro :: As) M mc ms K X) (hc : mc ≤ bc) (hs : ms ≤ bs) (hca : (rest.map fun v => v.category).sum ≤ 20)
    (kN : ∀ (v : Option Value) (M' : zzM), K v M' → zz_T G nL M' (bc - mc) (bs - ms) (pc + 3) lv (v.toList ++ rest)) (kX : ∀ (ty q : Nat) (M' : zzM), X ty q M' → zz_TX G nL M' (bc - mc) (bs - ms) pc lv ty q) {st : List Value} (hst : st = As.reverse ++ va_rf ro :: rest) : zz_T G nL M bc bs pc lv st := by
  subst hro
  subst hst
  have hM : zz_Met (zz_Zof G) (zz_l G) y _ frc (.ref a :: As) M mc ms K X := hM
  show zz_T G nL M bc bs pc lv (As.reverse ++ .ref a :: rest)
  obtain ⟨p, l, e, R, s, m, args, below, meth, c, Q, Z⟩ := G
  obtain ⟨hx, hb, hml9, hown, hts, hS, hl⟩ := C
  obtain ⟨hy1, hy2⟩ := zz_yokS hy
  intro H locs cells slots ls h1 h2 h3 h4 h5 T hT X9
  have hR1 : fr ≤ R.frames := hR.1
  have hR2 : 64 * fr ≤ R.locals := hR.2
  have hK : vx_Back l R p e below s args y 3 20 (zz_Pre Z R (.ref a :: As) M mc ms) (zz_Post Z K mc ms) (zz_PostX Z X mc ms) := zz_back (hh := none) hM (by omega) (by omega) (zz_payW hts q5) (zz_payI hts q4)
  obtain ⟨cell, g1, g2, g3⟩ := zz_rcv hS hr (h1 _ _ _ (zz_LOr hL))
  have hW : 2 * (F0 m pc ls (As.reverse ++ .ref a :: rest)).monitorRoom + (rest.map fun v => v.category).sum ≤ 20 := by show 2 * 0 + _ ≤ 20; omega
  have hd0 : va_Decl s ⟨owner, x.name, x.desc⟩ := by
    rcases q7 with q7 | ⟨b9, L9, r9, q7, q8⟩
    · exact va_Decl.abs (hS.2.2.2.1 _ q7 rfl)
    · exact va_Decl.of (hts _ q7) (hts _ q8)
  exact zz_fin hT h2 h3 h4 h5 hc hs (vx_callVU X9 hx (C := r.1) (bytes := bytes) (maxL := maxL) (ret := ret) hown (hts _ q1) (hts _ q6) hd0 hy1 (hts _ q3) (hts _ q2) (hts _ q5) hK (by rw [hT]; exact g1) g2 g3 (g := F0 m pc ls (As.reverse ++ .ref a :: rest)) rfl (h5.1.trans hml9.symm) (argsL := As) (rest := rest) (fun sig h => hy2 sig h) rfl hW (by rw [hb]; exact d) (zz_pre hS hT h1 h2 h3 h4 hc hs)) kN kX
/-- super.m(..) -/
theorem zz_callSU (C : zz_C G cc own nL) (hR : zz_Rm G fr) {a t : Nat} {ro : Option Nat} (hro : ro = some a) {b : Bool} {fs : List Value} {r : vw_C} (d : decode cc pc = .ok (.invokespecial i, 3)) (q1 : Cond.methodLink own i y ∈ lw_all) (q6 : Cond.sameMethod y.cls y.cls y.name y.desc ∈ lw_all) (q7 : Cond.superclass own y.cls ∈ lw_all) (q2 : Cond.instanceMethod y ∈ lw_all) (q4 : Cond.initialized y.cls ∈ lw_all) (q5 : zz_cd y bytes maxL ret none ∈ lw_all) (hni : y.name ≠ "<init>") (hy : zz_yok y As.length = true)
    (hr : zzCl t = some r) (hfr : frc + 1 ≤ fr) (hml : maxL ≤ 32) (hL : zz_LO (zz_Zof G) M a = some (b, t, fs)) (hM : zz_Met (zz_Zof G) (zz_l G) y (zz_ws y bytes maxL ret none) frc (va_rf ro :: As) M mc ms K X) (hc : mc ≤ bc) (hs : ms ≤ bs) (hca : (rest.map fun v => v.category).sum ≤ 20)
    (kN : ∀ (v : Option Value) (M' : zzM), K v M' → zz_T G nL M' (bc - mc) (bs - ms) (pc + 3) lv (v.toList ++ rest)) (kX : ∀ (ty q : Nat) (M' : zzM), X ty q M' → zz_TX G nL M' (bc - mc) (bs - ms) pc lv ty q) {st : List Value} (hst : st = As.reverse ++ va_rf ro :: rest) : zz_T G nL M bc bs pc lv st := by
  subst hro
  subst hst
  have hM : zz_Met (zz_Zof G) (zz_l G) y _ frc (.ref a :: As) M mc ms K X := hM
  show zz_T G nL M bc bs pc lv (As.reverse ++ .ref a :: rest)
  obtain ⟨p, l, e, R, s, m, args, below, meth, c, Q, Z⟩ := G
  obtain ⟨hx, hb, hml9, hown, hts, hS, hl⟩ := C
  obtain ⟨hy1, hy2⟩ := zz_yokS hy
  intro H locs cells slots ls h1 h2 h3 h4 h5 T hT X9
  have hR1 : fr ≤ R.frames := hR.1
  have hR2 : 64 * fr ≤ R.locals := hR.2
  have hK : vx_Back l R p e below s args y 3 20 (zz_Pre Z R (.ref a :: As) M mc ms) (zz_Post Z K mc ms) (zz_PostX Z X mc ms) := zz_back (hh := none) hM (by omega) (by omega) (zz_payW hts q5) (zz_payI hts q4)
  obtain ⟨cell, g1, g2, g3⟩ := zz_rcv hS hr (h1 _ _ _ (zz_LOr hL))
  obtain ⟨kB, hkB, -⟩ := Vm.findClass_spec g3
  have hW : 2 * (F0 m pc ls (As.reverse ++ .ref a :: rest)).monitorRoom + (rest.map fun v => v.category).sum ≤ 20 := by show 2 * 0 + _ ≤ 20; omega
  exact zz_fin hT h2 h3 h4 h5 hc hs (vx_callSU X9 hx (bytes := bytes) (maxL := maxL) (ret := ret) hown (hts _ q1) (hts _ q6) (hts _ q7) (hts _ q2) (hts _ q5) hni hK (by rw [hT]; exact g1) g2 hkB (g := F0 m pc ls (As.reverse ++ .ref a :: rest)) rfl (h5.1.trans hml9.symm) (argsL := As) (rest := rest) (fun sig h => hy2 sig h) rfl hW (by rw [hb]; exact d) (zz_pre hS hT h1 h2 h3 h4 hc hs)) kN kX
/-- invokeinterface -/
theorem zz_callF (C : zz_C G cc own nL) (hR : zz_Rm G fr) {x : MethodName} {cnt a t : Nat} {ro : Option Nat} (hro : ro = some a) {b : Bool} {fs : List Value} {r : vw_C} (d : decode cc pc = .ok (.invokeinterface i cnt, 5)) (q1 : Cond.methodLink own i x ∈ lw_all) (q6 : (r.1, x, y) ∈ zzIf) (q2 : Cond.instanceMethod y ∈ lw_all) (q3 : Cond.selects r.1 x y ∈ lw_all) (q4 : Cond.initialized y.cls ∈ lw_all) (q5 : zz_cd y bytes maxL ret none ∈ lw_all) (hy : zz_yok x As.length = true)
    (hr : zzCl t = some r) (hfr : frc + 1 ≤ fr) (hml : maxL ≤ 32) (hL : zz_LO (zz_Zof G) M a = some (b, t, fs)) (hM : zz_Met (zz_Zof G) (zz_l G) y (zz_ws y bytes maxL ret none) frc (va_rf ro :: As) M mc ms K X) (hc : mc ≤ bc) (hs : ms ≤ bs) (hca : (rest.map fun v => v.category).sum ≤ 20)
    (kN : ∀ (v : Option Value) (M' : zzM), K v M' → zz_T G nL M' (bc - mc) (bs - ms) (pc + 5) lv (v.toList ++ rest)) (kX : ∀ (ty q : Nat) (M' : zzM), X ty q M' → zz_TX G nL M' (bc - mc) (bs - ms) pc lv ty q) {st : List Value} (hst : st = As.reverse ++ va_rf ro :: rest) : zz_T G nL M bc bs pc lv st := by
  subst hro
  subst hst
  have hM : zz_Met (zz_Zof G) (zz_l G) y _ frc (.ref a :: As) M mc ms K X := hM
  show zz_T G nL M bc bs pc lv (As.reverse ++ .ref a :: rest)
  obtain ⟨p, l, e, R, s, m, args, below, meth, c, Q, Z⟩ := G
  obtain ⟨hx, hb, hml9, hown, hts, hS, hl⟩ := C
  obtain ⟨hy1, hy2⟩ := zz_yokS hy
  intro H locs cells slots ls h1 h2 h3 h4 h5 T hT X9
  have hR1 : fr ≤ R.frames := hR.1
  have hR2 : 64 * fr ≤ R.locals := hR.2
  have hK : vx_Back l R p e below s args y 5 20 (zz_Pre Z R (.ref a :: As) M mc ms) (zz_Post Z K mc ms) (zz_PostX Z X mc ms) := zz_back (hh := none) hM (by omega) (by omega) (zz_payW hts q5) (zz_payI hts q4)
  obtain ⟨cell, g1, g2, g3⟩ := zz_rcv hS hr (h1 _ _ _ (zz_LOr hL))
  obtain ⟨kB, hkB, -⟩ := Vm.findClass_spec g3
  obtain ⟨w1, w2, w3, w4, w5⟩ := hS.2.2.2.2.2.2.2.1 _ q6
  have hW : 2 * (F0 m pc ls (As.reverse ++ .ref a :: rest)).monitorRoom + (rest.map fun v => v.category).sum ≤ 20 := by show 2 * 0 + _ ≤ 20; omega
  exact zz_fin hT h2 h3 h4 h5 hc hs (vx_callIF X9 hx (C := r.1) (bytes := bytes) (maxL := maxL) (ret := ret) hown (hts _ q1) (va_any rfl w1) (va_any rfl w2) (hts _ q3) (hts _ q2) (va_any rfl w3) (va_any rfl w4) (va_any rfl w5) (hts _ q5) hy1 hK (by rw [hT]; exact g1) g2 g3 hkB (g := F0 m pc ls (As.reverse ++ .ref a :: rest)) rfl (h5.1.trans hml9.symm) (argsL := As) (rest := rest) (fun sig h => hy2 sig h) rfl hW (by rw [hb]; exact d) (zz_pre hS hT h1 h2 h3 h4 hc hs)) kN kX
end ZFIN
