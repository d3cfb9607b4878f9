/-! LAYER Z: 'throw new E()' in one row; Exception.<init> under a constructor of ours; inherited statics -/
def zz_No : Cond → Bool
  | .arrayOver _ => false
  | _ => true
def zz_hw (w : Cond) : Prop := w ∈ lw_all ∨ (w ∈ lw_tbl ∧ zz_Nw w = true ∧ zz_No w = true)
theorem zz_hwN {w : Cond} {l : List Cond} (h1 : vx_no w = true → zz_hw w) (h2 : ∀ x ∈ l, vx_no x = true → zz_hw x) : ∀ x ∈ w :: l, vx_no x = true → zz_hw x := by
  intro x hx
  rcases List.mem_cons.mp hx with rfl | hx
  · exact h1
  · exact h2 x hx
theorem zz_hw0 : ∀ x ∈ ([] : List Cond), vx_no x = true → zz_hw x := fun _ h => absurd h List.not_mem_nil
theorem zz_hwA {a b : List Cond} (h1 : ∀ x ∈ a, vx_no x = true → zz_hw x) (h2 : ∀ x ∈ b, vx_no x = true → zz_hw x) : ∀ x ∈ a ++ b, vx_no x = true → zz_hw x := fun x hx => (List.mem_append.mp hx).elim (h1 x) (h2 x)
theorem zz_hwE {ws : List Cond} (h : ∀ x ∈ ws, vx_no x = true → zz_hw x) : ∀ w ∈ ws.filter vx_no, zz_hw w := fun w hw => h w (List.mem_filter.mp hw).1 (List.mem_filter.mp hw).2
theorem zz_hwU {args : Array Value} {s s' : State} {Z : zzG} {w : Cond} (hts : ∀ w ∈ lw_all, w.before args s = true) (hS : zz_S Z s) (hW : s.WarmedH s'.vm) (h : zz_hw w) : w.before args s' = true := by
  rcases h with h | ⟨h1, h2, h3⟩
  · exact word_at hW (good_of_word (List.mem_filter.mp h).2) (hts _ h)
  · refine va_Nw.use ?_ (zz_Nw.warm h2 hW (hS.2.2.2.1 _ h1 h2))
    cases w with
    | arrayOver ty => cases h3
    | _ => first | rfl | exact absurd h2 (by simp [zz_Nw])
section ZTHR
variable {G : zzX} {nL : Nat} {M : zzM} {bc bs pc : Nat} {lv : List (Nat × Value)} {rest : List Value} {cc : ByteArray} {own : String} {fr : Nat}
theorem zz_throwX (C : zz_C G cc own nL) (hR : zz_Rm G fr) {names : List String} (hfr : names.length + 4 ≤ fr) {ik ic t : Nat} {r : vw_C} {K : Nat → zzM → Nat → Nat → Prop} (hr : zzCl t = some r) (ht6 : t ≠ 6) (hr0 : r.2.2 = 0) (hcls : Bundle.fit r.1 = true) (hnames : ∀ n ∈ names, Bundle.fit n = true) (hnl : names.length ≤ 3)
    (d0 : decode cc pc = .ok (.new ik, 3)) (d3 : decode cc (pc + 3) = .ok (.dup, 1)) (d4 : decode cc (pc + 4) = .ok (.invokespecial ic, 3)) (d7 : decode cc (pc + 7) = .ok (.athrow, 1)) (q1 : Cond.classLink own ik r.1 ∈ lw_all) (q2 : Cond.initialized r.1 ∈ lw_all) (hat : ∀ w ∈ vx_at0 own ic r.1 names, zz_hw w) (hca : (rest.map fun v => v.category).sum ≤ 20)
    (hw : znew (zz_Zof G) M bc bs t 6 [] K) (kX : ∀ (q : Nat) (M' : zzM) (bc' bs' : Nat), K q M' bc' bs' → zz_TX G nL M' bc' bs' (pc + 7) lv t q) : zz_T G nL M bc bs pc lv rest := by
  obtain ⟨p, l, e, R, s, m, args, below, meth, c, Q, Z⟩ := G
  obtain ⟨hexec, hb, hml, hown, hts, hS0, hl⟩ := C
  have hR1 : fr ≤ R.frames := hR.1
  have hR2 : 64 * fr ≤ R.locals := hR.2
  obtain ⟨w1, w2, w3⟩ := hw
  intro H locs cells slots ls h1 h2 h3 h4 h5 T hT X
  subst hT
  have hS := h2
  have hRcells : cells + 1 ≤ R.cells := by omega
  have hRslots : slots + 6 ≤ R.slots := by omega
  have hsize : ls.size = c.maxLocals := h5.1.trans hml.symm
  have hU := hS0.2.2.2.2.2.2.2.2.2.2.1
  have hN := hS0.2.2.2.2.2.2.2.2.2.2.2.1
  have htr : e.platform.stackTraces = false := (show e.platform.stackTraces = l.stackTraces by rw [X.admits.platform]).trans hl
  have Y := vx_rebase X (R' := { frames := R.frames, locals := R.locals, cells := 1, slots := 6 }) (Nat.le_refl _) (Nat.le_refl _) hRcells hRslots
  obtain ⟨s', hA'⟩ : ∃ z, z = (T.setVm s.vm).setFrames (.invoking m args :: below) := ⟨_, rfl⟩
  rw [← hA'] at Y
  have hvm : s'.vm = s.vm := by rw [hA']; rfl
  have hhp : s'.heap = T.heap := by rw [hA']; rfl
  have hW0 : s.WarmedH s'.vm := by rw [hvm]; exact State.WarmedH.refl s
  have hat' : ∀ w ∈ vx_at0 own ic r.1 names, w.before args s' = true := fun w hw => zz_hwU hts hS0 hW0 (hat w hw)
  have hk' : (Cond.classLink own ik r.1).before args s' = true := zz_hwU hts hS0 hW0 (Or.inl q1)
  have hini' : (Cond.initialized r.1).before args s' = true := zz_hwU hts hS0 hW0 (Or.inl q2)
  have hU' : vx_Zq Bundle.tN "UNASSIGNED_STACK" Bundle.steD (zz_A Z) s' s'.heap := by rw [hhp]; exact vx_Zq.moved hW0.alike (hU.kept hS.2.1)
  have hN' : vx_Zq Bundle.tN "SUPPRESSED_SENTINEL" Bundle.listD (zz_A Z) s' s'.heap := by rw [hhp]; exact vx_Zq.moved hW0.alike (hN.kept hS.2.1)
  have h : ∀ w ∈ Bundle.ownAtoms0 own ic r.1 names, w.before args s' = true := vx_own hat' (vx_isRefq hU'.1) (vx_isRefq hN'.1) hU'.2.word hN'.2.word
  have hown' : s'.vm.findClass own = some m.cls := by rw [hvm]; exact hown
  have hins : (Cond.instantiable r.1 6).before args s' = true := h _ (by simp [Bundle.ownAtoms0])
  obtain ⟨vm₁, cX, kX9, hfX, hkX, -, -, X₁, st1⟩ := Y.newCold hexec (own := own) (C := r.1) (index := ik) (n := 6) hown' hk' hins hini'
    (g := F0 m pc ls rest) rfl (by rw [hb]; exact d0) (Nat.le_refl _) (Nat.le_refl _)
  generalize hT1 : (T.setVm vm₁).pushCell { cls := cX, slots := kX9.instanceTypes.map defaultValue, vm := .none } = T1 at X₁ st1
  have hcat : (Value.ref T.heap.size).category = 1 := rfl
  have hcellA : T1.heap[T.heap.size]? = some (freshCell cX kX9) := by rw [← hT1]; exact State.heap_pushCell_size _ _
  have d3' : decode c.code (pc + 3) = .ok (.dup, 1) := by rw [hb]; exact d3
  obtain ⟨V, ce, L, Zz, hL, hlt, hcl9, hvm9, st⟩ := vx_ctorMade0 X₁ hexec htr (own := own) (cls := r.1) (names := names) (ic := ic) hown' hcls hnames h (fun x hx => nomatch hx) hfX hkX hcellA (by rw [hhp]; exact Nat.le_refl _)
    (g := { method := m, pc := pc + 4, locals := ls, stack := .ref T.heap.size :: .ref T.heap.size :: rest, locked := none }) rfl hsize (rest := rest) rfl
    (by rw [hb]; exact d4) (by show names.length + 3 < R.frames; omega) (by simp only [List.map_cons, List.sum_cons, hcat]; show 2 * 0 + (1 + (rest.map fun v => v.category).sum) + (13 * (names.length + 1) + 41) ≤ R.locals; omega)
  have Z0 := Stand.forget (locs := []) Zz (fun y hy => by rw [hL y hy, hhp]; exact Nat.le_refl _)
  obtain ⟨f1, f2⟩ := vx_frame Z0.same
  rw [hhp] at f1 f2
  have hcid : ce.cls = Z.1.1 t := by
    rw [hcl9]
    have h1 := (hS0.2.1 t r hr).2.1
    rw [hvm] at hfX
    exact Option.some.inj (hfX.symm.trans h1)
  have hh : (V.setCell T.heap.size ce).heap[T.heap.size]? = some ce := heapAt_setCell_self (s := V) ce hlt
  subst hA'
  have X5 := vx_back9 X Y Z0
  have X6 : Stand p l e R s m args below meth c (V.setCell T.heap.size ce) locs (cells + 1) (slots + 6) := { X5 with same := X5.same.mono (by omega) (by omega) }
  have hfr9 : zz_fr Z T.heap.size := zz_freshS hS0 h2.1
  have hF := hfr9.1
  have o1 : ∀ x : Nat, x < T.heap.size → (V.setCell T.heap.size ce).heap[x]? = T.heap[x]? := fun x hx => f2 x hx (fun z hz => nomatch hz)
  have hat9 : zz_at Z true T.heap.size (t, []) (V.setCell T.heap.size ce).heap := by
    refine ⟨ce, hh, by rw [hvm9]; rfl, Or.inr (fun e => by rw [hvm9] at e; cases e), fun _ => ⟨hvm9, Nat.le_trans hS0.1 h2.1⟩, (fun e => by cases e), hcid.trans zz_clM.symm, ?_⟩
    rw [if_pos (zz_cls100 hr)]
    exact ⟨⟨r, hr, hr0.symm⟩, (fun k v hk => by simp at hk), fun _ e6 => absurd e6 ht6⟩
  obtain ⟨g0, g1⟩ := zz_R.push hF h1 o1 hat9
  obtain ⟨t9, a1, b1⟩ := vx_athrow hexec hb d7 (kX _ _ _ _ (w3 T.heap.size g0 hfr9) (V.setCell T.heap.size ce).heap locs (cells + 1) (slots + 6) ls rest g1 ⟨Nat.le_trans hS.1 f1, fun q h1 h2 => (o1 q (Nat.lt_of_lt_of_le h1 hS.1)).trans (hS.2.1 q h1 h2), hS.2.2⟩ (by omega) (by omega) h5 ⟨(t, []), zz_L_self hF⟩) _ rfl X6
  refine ⟨t9, st1 _ ?_, b1⟩
  show Steps p.tables e below (T1.setTop { method := m, pc := pc + 3, locals := ls, stack := .ref T.heap.size :: rest, locked := none }) _
  jvm_step X₁.here [X₁.here.top, hexec, d3', Value.category]
  exact st _ a1
end ZTHR
