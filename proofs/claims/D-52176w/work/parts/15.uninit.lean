/-! LAYER Z: contracts of methods whose class isn't said to be initialized (an enum constant's own class): as zz_Met, without that premise -/
def zz_ap (ws : List Cond) (rm : Room) (x : MethodName) (pl : Platform) (s : State) (m : MethodId) (args : Array Value) (below : List Frame) : Prop :=
  s.status = .running ∧ s.curStatus? = some .runnable ∧ s.alone = true ∧ s.methodNamed? x = some m ∧ s.hears m below = true ∧ s.hasRoom pl rm = true ∧ (headSpec ws rm).pre.before args s = true
def zz_MetU (Z : zzG) (l : Launch) (y : MethodName) (ws : List Cond) (fr : Nat) (as : List Value) (M : zzM) (mc ms : Nat) (K : Option Value → zzM → Prop) (X : Nat → Nat → zzM → Prop) : Prop :=
  ∀ (p : Program) (e : Env), l.admits e → FairCas e.choices → FairClock e.choices → ∀ (s : State) (m : MethodId) (args : Array Value) (below : List Frame), s.frames = .invoking m args :: below → zz_ap ws (zz_rm fr mc ms) y e.platform s m args below → va_Pc as (fun U => zz_S Z U ∧ zz_R Z M U.heap) args s →
    ∃ n o, (∀ k, k < n → Within (stepsAlone p.tables e k s) below) ∧ (stepsAlone p.tables e n s).status = .running ∧ Ended (stepsAlone p.tables e n s) below o ∧ zz_Q Z K X mc ms args s o (stepsAlone p.tables e n s)
theorem zz_cfU {Z : zzG} {l : Launch} {y : MethodName} {ws : List Cond} {fr : Nat} {as : List Value} {M : zzM} {mc ms : Nat} {K : Option Value → zzM → Prop} {X : Nat → Nat → zzM → Prop} {e : Env} (hM : zz_MetU Z l y ws fr as M mc ms K X) (p : Program) (ha : l.admits e) (hc : FairCas e.choices) (hk : FairClock e.choices)
    {s : State} {m : MethodId} {args : Array Value} {acts : List Action} {mid below : List Frame} (hfr : s.frames = mid ++ below) (happ : zz_ap ws (zz_rm fr mc ms) y e.platform (s.pushFrame (.invoking m args)) m args s.frames) (hP : va_Pc as (fun U => zz_S Z U ∧ zz_R Z M U.heap) args (s.pushFrame (.invoking m args))) :
    ∃ o s₂, Steps p.tables e below (doInvoke e s acts m args).1 s₂ ∧ s₂.status = .running ∧ Ended s₂ s.frames o ∧ zz_Q Z K X mc ms args (s.pushFrame (.invoking m args)) o s₂ := by
  obtain ⟨hrun, hable, halone, -⟩ := id happ
  obtain ⟨t, ht⟩ : ∃ t, s.threads[s.cur]? = some t := by
    cases h : s.threads[s.cur]? with
    | some t => exact ⟨t, rfl⟩
    | none =>
      have h2 : (s.pushFrame (.invoking m args)).curStatus? = none := by simp [State.curStatus?, State.pushFrame, State.setFrames, Array.getElem?_modify, h]
      rw [h2] at hable
      cases hable
  have hlt : s.cur < s.threads.size := (Array.getElem?_eq_some_iff.mp ht).1
  have hf' : (s.pushFrame (.invoking m args)).frames = .invoking m args :: s.frames := State.frames_setFrames _ hlt
  have hgo : (s.pushFrame (.invoking m args)).goesOn := ⟨hrun, hable, halone⟩
  obtain ⟨n, o, hw, hr, he, hp⟩ := hM p e ha hc hk (s.pushFrame (.invoking m args)) m args s.frames hf' happ hP
  have hstep : (stepThread p.tables e (s.pushFrame (.invoking m args))).1 = (doInvoke e s acts m args).1 := by
    rw [stepThread_invoking hf', doInvoke_state e s acts, State.pushFrame, State.setFrames_setFrames, State.setFrames_self ht]
  cases n with
  | zero => exact absurd ⟨[.invoking m args], hf', by simp, by simp⟩ he.not_within
  | succ k =>
    rw [stepsAlone_succ _ hgo, hstep] at hr he hp
    refine ⟨o, _, ⟨k, rfl, fun j hj => ?_⟩, hr, he, hp⟩
    have := hw (j + 1) (by omega)
    rw [stepsAlone_succ _ hgo, hstep, hfr] at this
    exact this.weaken
section ZCALLU
variable {l : Launch} {R : Room} {p : Program} {e : Env} {below : List Frame} {s : State} {sargs : Array Value} {y : MethodName} {len W9 : Nat}
theorem zz_backU {Z : zzG} {fr : Nat} {as : List Value} {M : zzM} {mc ms : Nat} {K : Option Value → zzM → Prop} {X : Nat → Nat → zzM → Prop} {bytes : ByteArray} {maxL : Nat} {ret : Option FieldType} {hh : Option (List (Nat × Nat × Nat × Nat))}
    (hM : zz_MetU Z l y (zz_ws y bytes maxL ret hh) fr as M mc ms K X) (hframes : fr + 1 ≤ R.frames) (hlocals : W9 + (maxL + 11) + 64 * fr ≤ R.locals)
    (hws : ∀ w ∈ zz_ws y bytes maxL ret hh, ∀ a' U, s.WarmedH U.vm → w.before a' U = true) :
    vx_Back l R p e below s sargs y len W9 (zz_Pre Z R as M mc ms) (zz_Post Z K mc ms) (zz_PostX Z X mc ms) := by
  intro m meth c A g ig mk a X9 hg hsize hdg hW hn hp
  have h1 : (headSpec (zz_ws y bytes maxL ret hh) (zz_rm fr mc ms)).pre.before a A.U = true := atoms_intro fun w hw => hws w hw _ _ X9.warmed
  have h2 : (zz_cd y bytes maxL ret hh).before a A.U = true := hws _ List.mem_cons_self _ _ X9.warmed
  have h4 : A.cells + (headSpec (zz_ws y bytes maxL ret hh) (zz_rm fr mc ms)).room.cells ≤ R.cells := hp.1
  have h5 : A.slots + (headSpec (zz_ws y bytes maxL ret hh) (zz_rm fr mc ms)).room.slots ≤ R.slots := hp.2.1
  have hPc : va_Pc as (fun U => zz_S Z U ∧ zz_R Z M U.heap) a (A.U.calling g mk a) := zz_blind _ _ _ _ hp.2.2
  obtain ⟨U, Ls, c0, s0⟩ := A
  dsimp only [Pt.U, Pt.locs, Pt.cells, Pt.slots] at h1 h2 h4 h5 X9 hn hPc ⊢
  obtain ⟨methY, cY, hmY, hcY, hlY⟩ := zz_cdspec hn h2
  have h : At U g.method c below := by rw [hg]; exact X9.here
  have hlocals9 : W9 + (maxL + 11) + (headSpec (zz_ws y bytes maxL ret hh) (zz_rm fr mc ms)).room.locals ≤ R.locals := hlocals
  have happ : zz_ap (zz_ws y bytes maxL ret hh) (zz_rm fr mc ms) y e.platform (U.calling g mk a) mk a (U.setTop g).frames := by
    have hcode : (U.calling g mk a).code? g.method = some c := by
      have := h.code
      rw [State.code?_eq] at this ⊢
      simpa [State.calling, State.pushFrame, State.setFrames] using this
    refine ⟨h.running, by simpa [State.calling] using h.runnable, by simpa [State.calling] using h.alone, hn, ?_, ?_, ?_⟩
    · simp [State.hears, hcode, hdg, Except.toOption, State.frames_setTop' g h.top]
    · exact X9.room_calling (g := g) (R' := (headSpec (zz_ws y bytes maxL ret hh) (zz_rm fr mc ms)).room) hsize hmY hcY hframes (by rw [hlY]; omega) h4 h5
    · show (headSpec (zz_ws y bytes maxL ret hh) (zz_rm fr mc ms)).pre.before a (U.calling g mk a) = true
      rw [State.calling_eq h.top, Cond.before_setFrames]; exact h1
  obtain ⟨mid, hmid⟩ := h.above
  have hfr : (U.setTop g).frames = (.java g :: mid) ++ below := by rw [State.frames_setTop' g h.top, hmid]; rfl
  obtain ⟨o, s₂, hsteps, -, hend, hq⟩ := zz_cfU hM p X9.admits X9.cas X9.clock (acts := []) hfr happ hPc
  have hq' : zz_Q Z K X mc ms a (U.calling g mk a) o s₂ := hq
  rw [State.frames_setTop' g h.top] at hend
  obtain ⟨g₀, hg0⟩ := Option.isSome_iff_exists.mp h.top
  obtain ⟨r, hr⟩ := State.topJava?_eq_some.mp hg0
  have hr' : (({ U with heap := s₂.heap, slotsUsed := s₂.slotsUsed } : State).setVm s₂.vm).frames = .java g₀ :: r := hr
  obtain ⟨⟨hF1, hF2⟩, hq'⟩ := hq'
  rcases hq' with ⟨v, M', rfl, hK, hRM, L, hfe, hL⟩ | ⟨q, ty, fs, M', L, rfl, hX, hRM, hLq, hW₂, hsm, hL⟩
  · obtain ⟨⟨v', hv'⟩, hW₂, e2, q2, q3, q4, q5, q6⟩ := id hfe
    have e3 : s₂ = ({ (U.calling g mk a).setFrames s₂.frames with heap := s₂.heap, slotsUsed := s₂.slotsUsed } : State).setVm s₂.vm := by
      have : s₂ = ({ s₂ with vm := (U.calling g mk a).vm } : State).setVm s₂.vm := rfl
      rw [e2] at this
      exact this
    obtain ⟨c₂, i₂, len₂, hc₂, hd₂, hf₂⟩ := hend
    have hW' : U.WarmedH s₂.vm := hW₂
    have hcc : c₂ = c := by
      have h1 : s₂.code? g.method = U.code? g.method := by
        rw [State.code?_eq, State.code?_eq, hW'.alike.method?]
      exact Option.some.inj (hc₂.symm.trans (h1.trans h.code))
    subst hcc
    have hlen : len₂ = len := by rw [hdg] at hd₂; cases hd₂; rfl
    subst hlen
    have hs₂ : s₂ = (({ U with heap := s₂.heap, slotsUsed := s₂.slotsUsed } : State).setVm s₂.vm).setTop { g with pc := g.pc + len₂, stack := v.toList ++ g.stack } := by
      refine e3.trans ?_
      rw [hf₂, State.calling_eq h.top, State.setFrames_setFrames, State.setTop_of_frames _ hr', hr]
      rfl
    have hsame : U.sameButNew ({ U with heap := s₂.heap, slotsUsed := s₂.slotsUsed } : State) L mc ms := by
      refine ⟨?_, q2, q3, q4, q5, q6⟩
      obtain ⟨t, ht, -⟩ := State.frames_cons hr
      show ({ U with heap := s₂.heap, slotsUsed := s₂.slotsUsed } : State) = { U.setFrames U.frames with heap := s₂.heap, slotsUsed := s₂.slotsUsed }
      rw [State.setFrames_self ht]
    subst hg
    refine Or.inl ⟨v, ⟨(({ U with heap := s₂.heap, slotsUsed := s₂.slotsUsed } : State).setVm s₂.vm), Ls ++ L, c0 + mc, s0 + ms⟩,
      ⟨X9.admits, X9.cas, X9.clock, X9.frames, X9.room, X9.hears, X9.method, X9.code, (X9.here.setHeapUsed s₂.heap s₂.slotsUsed).setVm hW'.alike, X9.tail, State.WarmedH.trans X9.warmed hW', X9.limits, X9.bytes, X9.same.trans (hsame.setVm s.vm)⟩,
      ⟨⟨hF1, hF2, L, rfl, hL, rfl, rfl⟩, M', hK, hRM⟩, ?_⟩
    show Steps p.tables e below _ ((({ U with heap := s₂.heap, slotsUsed := s₂.slotsUsed } : State).setVm s₂.vm).setTop { g with pc := g.pc + len₂, stack := v.toList ++ g.stack })
    rw [← hs₂]
    exact hsteps
  · obtain ⟨e2, q2, q3, q4, q5, q6⟩ := id hsm
    have e3 : s₂ = ({ (U.calling g mk a).setFrames s₂.frames with heap := s₂.heap, slotsUsed := s₂.slotsUsed } : State).setVm s₂.vm := by
      have : s₂ = ({ s₂ with vm := (U.calling g mk a).vm } : State).setVm s₂.vm := rfl
      rw [e2] at this
      exact this
    have hf₂ : s₂.frames = .throwing q :: .java g :: U.frames.tail := hend
    have hW' : U.WarmedH s₂.vm := hW₂
    have hs₂ : s₂ = ((({ U with heap := s₂.heap, slotsUsed := s₂.slotsUsed } : State).setVm s₂.vm).setTop g).pushFrame (.throwing q) := by
      refine e3.trans ?_
      rw [hf₂, State.calling_eq h.top, State.setFrames_setFrames, State.pushFrame, State.frames_setTop _ hr', State.setTop_of_frames _ hr', State.setFrames_setFrames, hr]
      rfl
    have hsame : U.sameButNew ({ U with heap := s₂.heap, slotsUsed := s₂.slotsUsed } : State) L mc ms := by
      refine ⟨?_, q2, q3, q4, q5, q6⟩
      obtain ⟨t, ht, -⟩ := State.frames_cons hr
      show ({ U with heap := s₂.heap, slotsUsed := s₂.slotsUsed } : State) = { U.setFrames U.frames with heap := s₂.heap, slotsUsed := s₂.slotsUsed }
      rw [State.setFrames_self ht]
    subst hg
    refine Or.inr ⟨q, ⟨(({ U with heap := s₂.heap, slotsUsed := s₂.slotsUsed } : State).setVm s₂.vm), Ls ++ L, c0 + mc, s0 + ms⟩,
      ⟨X9.admits, X9.cas, X9.clock, X9.frames, X9.room, X9.hears, X9.method, X9.code, (X9.here.setHeapUsed s₂.heap s₂.slotsUsed).setVm hW'.alike, X9.tail, State.WarmedH.trans X9.warmed hW', X9.limits, X9.bytes, X9.same.trans (hsame.setVm s.vm)⟩,
      ⟨⟨hF1, hF2, L, rfl, hL, rfl, rfl⟩, ty, fs, M', hX, hRM, hLq⟩, ?_⟩
    show Steps p.tables e below _ (((({ U with heap := s₂.heap, slotsUsed := s₂.slotsUsed } : State).setVm s₂.vm).setTop g).pushFrame (.throwing q))
    rw [← hs₂]
    exact hsteps
end ZCALLU
theorem zz_ofWU {Z : zzG} {l : Launch} {y : MethodName} {cc : ByteArray} {maxL fr : Nat} {ret : Option FieldType} {as : List Value} {M : zzM} {mc ms : Nat} {K : Option Value → zzM → Prop} {X : Nat → Nat → zzM → Prop} (hl : l.stackTraces = false) (hy : plainFor y = true) (hfit : (lg_sl as).length ≤ maxL)
    (body : ∀ G : zzX, zz_Zof G = Z → zz_l G = l → zz_C G cc y.cls maxL → zz_E G ret K X → zz_H G [] → zz_Rm G fr → (zz_meth G).name = y.name → zz_T G maxL M mc ms 0 (lv_args 0 as) []) : zz_MetU Z l y (zz_ws y cc maxL ret none) fr as M mc ms K X := by
  intro p e ha hc hk s m args below hf happ hP
  obtain ⟨hrun, hable, halone, hname, hhears, hroom, hpre⟩ := happ
  have hcw := atoms_spec (ws := zz_ws y cc maxL ret none) hpre _ List.mem_cons_self
  obtain ⟨meth, c, hmeth, hcode, hbytes, hlocals, hret, hlocks, htab, -⟩ := Cond.code_spec hname hcw
  have hcur := State.cur_lt_of_frames hf
  have hf1 : (s.setFrames (.java (entryFrame m args maxL) :: below)).frames = .java (entryFrame m args maxL) :: below := State.frames_setFrames _ hcur
  have ht1 := State.topJava?_of_frames hf1
  have hplain : (s.setFrames (.java (entryFrame m args maxL) :: below)).plainMethod m := State.plainMethod.of_named (s := s) hy hname hmeth
  have hAt : At (s.setFrames (.java (entryFrame m args maxL) :: below)) m c below :=
    ⟨by rw [ht1]; rfl, ⟨[], by rw [hf1]; rfl⟩, hrun, by simpa using hable, by simpa using halone, by rw [State.code?_eq]; simp [State.setFrames, hmeth, hcode], hplain⟩
  have hstep : (stepThread p.tables e s).1 = (s.setFrames (.java (entryFrame m args maxL) :: below)).setTop (entryFrame m args maxL) := by
    have hfull : e.platform.stackFull (s.setFrames below).me (s.setFrames below).frames c.maxLocals = false := by
      obtain ⟨-, h1, -, h2⟩ := State.hasRoom_stack hroom
      rw [hf, List.length_cons] at h1
      rw [State.localsInUse_invoking hf hmeth hcode] at h2
      have hw := stackUse_le_stackWeight below
      rw [State.frames_setFrames _ hcur]
      exact Platform.stackFull_eq_false (by rw [State.stackLimits_setFrames]; omega) (by rw [State.stackLimits_setFrames]; omega)
    rw [stepThread_invoking hf, (doInvoke_java (s := s.setFrames below) (e := e) (meth := meth) (code := c) hmeth hcode hlocks hfull).1, State.setTop_self ht1]
    simp only [State.pushFrame, State.frames_setFrames _ hcur, State.setFrames_setFrames, hlocals, entryFrame]
  obtain ⟨t0, ht0, -⟩ := State.frames_cons hf
  have hS0 : Stand p l e (zz_rm fr mc ms) s m args below meth c (s.setFrames (.java (entryFrame m args maxL) :: below)) [] 0 0 := by
    refine ⟨ha, hc, hk, hf, hroom, hhears, hmeth, hcode, hAt, by rw [hf1]; rfl, State.WarmedH.refl s, by rw [State.stackLimits_setFrames], by rw [State.stackBytes_setFrames], ?_⟩
    exact (State.sameButNew.refl s ht0).setFrames (.java (entryFrame m args maxL) :: below) hcur
  obtain ⟨rfl, hSS, hR⟩ := hP
  have hts := atoms_spec (ws := zz_ws y cc maxL ret none) hpre
  have htsa : ∀ w ∈ lw_all, w.before as.toArray s = true := fun w h => hts w (List.mem_cons_of_mem _ h)
  have hown : s.vm.findClass y.cls = some m.cls := findClass_of_methodNamed hname
  have hbody := body (p, l, e, zz_rm fr mc ms, s, m, as.toArray, below, meth, c, zz_MQ below Z K X mc ms as.toArray s, Z) rfl rfl ⟨by cases p <;> rfl, hbytes, hlocals, hown, htsa, hSS, hl⟩ ⟨rfl, hlocks, hret⟩ (show c.exceptionTable.toList = [] by rw [Array.isEmpty_iff.mp htab]) ⟨Nat.le_refl _, Nat.le_refl _⟩ (name_of_methodNamed hname hmeth).1
  have hW : W p l e (zz_rm fr mc ms) s m as.toArray below meth c s.heap [] 0 0 (zz_MQ below Z K X mc ms as.toArray s) (entryFrame m as.toArray maxL) := by
    rw [lg_entry_eq]
    exact hbody s.heap [] 0 0 _ hR va_S.rf (by show 0 + mc ≤ mc; omega) (by show 0 + ms ≤ ms; omega) (lv_entry as hfit)
  obtain ⟨t, a1, o, b1, b2, b3⟩ := hW (s.setFrames (.java (entryFrame m as.toArray maxL) :: below)) rfl hS0
  obtain ⟨n, hn, hw⟩ := Steps.head (tb := p.tables) (e := e) ⟨hrun, hable, halone⟩ ⟨[.invoking m as.toArray], hf, by simp, by simp⟩ (hstep ▸ a1)
  exact ⟨n, o, hw, hn ▸ b1, hn ▸ b2, hn ▸ b3⟩
section ZUU
variable {G : zzX} {nL : Nat} {M : zzM} {bc bs pc : Nat} {lv : List (Nat × Value)} {rest : List Value} {cc : ByteArray} {own : String}
variable {y : MethodName} {bytes : ByteArray} {maxL fr frc i n : Nat} {ret : Option FieldType} {hh : Option (List (Nat × Nat × Nat × Nat))} {As : List Value} {mc ms : Nat} {K : Option Value → zzM → Prop} {X : Nat → Nat → zzM → Prop}
theorem zz_callUU (C : zz_C G cc own nL) (hR : zz_Rm G fr) {x : MethodName} {owner : String} {a t : Nat} {ro : Option Nat} (hro : ro = some a) {b : Bool} {fs : List Value} {r : vw_C} (d : decode cc pc = .ok (.invokevirtual i, 3)) (q1 : Cond.methodLink own i x ∈ lw_all) (q6 : Cond.sameMethod x.cls owner x.name x.desc ∈ lw_all) (q7 : Cond.declares ⟨owner, x.name, x.desc⟩ ∈ lw_tbl ∨ ∃ b9 L9 r9, Cond.instanceMethod ⟨owner, x.name, x.desc⟩ ∈ lw_all ∧ Cond.code ⟨owner, x.name, x.desc⟩ b9 L9 r9 ∈ lw_all) (q2 : Cond.instanceMethod y ∈ lw_all) (q3 : Cond.selects r.1 x y ∈ lw_all) (q5 : zz_cd y bytes maxL ret none ∈ lw_all) (hy : zz_yok ⟨owner, x.name, x.desc⟩ As.length = true)
    (hr : zzCl t = some r) (hfr : frc + 1 ≤ fr) (hml : maxL ≤ 32) (hL : zz_LO (zz_Zof G) M a = some (b, t, fs)) (hM : zz_MetU (zz_Zof G) (zz_l G) y (zz_ws y bytes maxL ret none) frc (va_rf ro :: As) M mc ms K X) (hc : mc ≤ bc) (hs : ms ≤ bs) (hca : (rest.map fun v => v.category).sum ≤ 20)
    (kN : ∀ (v : Option Value) (M' : zzM), K v M' → zz_T G nL M' (bc - mc) (bs - ms) (pc + 3) lv (v.toList ++ rest)) (kX : ∀ (ty q : Nat) (M' : zzM), X ty q M' → zz_TX G nL M' (bc - mc) (bs - ms) pc lv ty q) {st : List Value} (hst : st = As.reverse ++ va_rf ro :: rest) : zz_T G nL M bc bs pc lv st := by
  subst hro
  subst hst
  have hM : zz_MetU (zz_Zof G) (zz_l G) y _ frc (.ref a :: As) M mc ms K X := hM
  show zz_T G nL M bc bs pc lv (As.reverse ++ .ref a :: rest)
  obtain ⟨p, l, e, R, s, m, args, below, meth, c, Q, Z⟩ := G
  obtain ⟨hx, hb, hml9, hown, hts, hS, hl⟩ := C
  obtain ⟨hy1, hy2⟩ := zz_yokS hy
  intro H locs cells slots ls h1 h2 h3 h4 h5 T hT X9
  have hR1 : fr ≤ R.frames := hR.1
  have hR2 : 64 * fr ≤ R.locals := hR.2
  have hK : vx_Back l R p e below s args y 3 20 (zz_Pre Z R (.ref a :: As) M mc ms) (zz_Post Z K mc ms) (zz_PostX Z X mc ms) := zz_backU (hh := none) hM (by omega) (by omega) (zz_payW hts q5)
  obtain ⟨cell, g1, g2, g3⟩ := zz_rcv hS hr (h1 _ _ _ (zz_LOr hL))
  have hW : 2 * (F0 m pc ls (As.reverse ++ .ref a :: rest)).monitorRoom + (rest.map fun v => v.category).sum ≤ 20 := by show 2 * 0 + _ ≤ 20; omega
  have hd0 : va_Decl s ⟨owner, x.name, x.desc⟩ := by
    rcases q7 with q7 | ⟨b9, L9, r9, q7, q8⟩
    · exact va_Decl.abs (hS.2.2.2.1 _ q7 rfl)
    · exact va_Decl.of (hts _ q7) (hts _ q8)
  exact zz_fin hT h2 h3 h4 h5 hc hs (vx_callVU X9 hx (C := r.1) (bytes := bytes) (maxL := maxL) (ret := ret) hown (hts _ q1) (hts _ q6) hd0 hy1 (hts _ q3) (hts _ q2) (hts _ q5) hK (by rw [hT]; exact g1) g2 g3 (g := F0 m pc ls (As.reverse ++ .ref a :: rest)) rfl (h5.1.trans hml9.symm) (argsL := As) (rest := rest) (fun sig h => hy2 sig h) rfl hW (by rw [hb]; exact d) (zz_pre hS hT h1 h2 h3 h4 hc hs)) kN kX
end ZUU
