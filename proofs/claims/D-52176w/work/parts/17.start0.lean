/-! THE START: general laws -/
theorem zs_Kof {args : Array Value} {s : State} {C : String} {T : u_T} {N n : Nat} (hts : ∀ w ∈ lw_all, w.before args s = true) (hin : ∀ w ∈ u_ws C T N, w ∈ lw_all) (hins : Cond.instantiable C n ∈ lw_all) : ∃ q : ClassId × (Nat → Nat), zz_K s C T N q.1 q.2 := by
  obtain ⟨c, k, hc, hk, hord, -⟩ := Cond.instantiable_spec (hts _ hins)
  have h : ∀ j : Nat, ∃ sl : Nat, j < N → ∃ (cf : ClassId) (kf : Class) (fi : Nat) (fd : Field), s.fieldFound? (T j).1 (T j).2.1 (T j).2.2.1 = some (cf, kf, fi, fd) ∧ fd.slot = sl ∧ fd.isStatic = false := by
    intro j
    by_cases hj : j < N
    · have hw := hts _ (hin _ (u_in_lay hj))
      unfold u_lay at hw
      split at hw
      · obtain ⟨c1, k1, c', k', i, f, h1, h2, h3, h4, -⟩ := Cond.laysFinal_spec hw
        exact ⟨f.slot, fun _ => ⟨c', k', i, f, h3, rfl, h4⟩⟩
      · obtain ⟨c1, k1, c', k', i, f, h1, h2, h3, h4, -⟩ := Cond.lays_spec hw
        exact ⟨f.slot, fun _ => ⟨c', k', i, f, h3, rfl, h4⟩⟩
    · exact ⟨0, fun h => absurd h hj⟩
  obtain ⟨iS, hS⟩ := Classical.axiomOfChoice h
  exact ⟨(c, iS), fun j hj => hS j hj, hc, k, hk, fun _ => hord⟩
theorem zs_KofF {s : State} {C : String} {T : u_T} {N : Nat} {cC : ClassId} {kC : Class} {A : Nat → Prop} (hc : s.vm.findClass C = some cC) (hk : s.vm.classes[cC]? = some kC) (hno : zz_ord C = false) (h : ∀ j, j < N → ∃ (v : Value) (a : Nat), va_OF (T j).1 (T j).2.1 (T j).2.2.1 v a A s s.heap) : ∃ q : ClassId × (Nat → Nat), zz_K s C T N q.1 q.2 := by
  have h : ∀ j : Nat, ∃ sl : Nat, j < N → ∃ (cf : ClassId) (kf : Class) (fi : Nat) (fd : Field), s.fieldFound? (T j).1 (T j).2.1 (T j).2.2.1 = some (cf, kf, fi, fd) ∧ fd.slot = sl ∧ fd.isStatic = false := by
    intro j
    by_cases hj : j < N
    · obtain ⟨v, a, cf, k, i, f, cell, h1, h2, -⟩ := h j hj
      exact ⟨f.slot, fun _ => ⟨cf, k, i, f, h1, rfl, h2⟩⟩
    · exact ⟨0, fun h => absurd h hj⟩
  obtain ⟨iS, hS⟩ := Classical.axiomOfChoice h
  exact ⟨(cC, iS), fun j hj => hS j hj, hc, kC, hk, fun h => by rw [hno] at h; cases h⟩
theorem zs_prim {args : Array Value} {s : State} {ty : FieldType} (h : (Cond.arrayClass ty).before args s = true) (hr : ∀ cA, s.vm.findClass ("[" ++ ty.toString) = some cA → va_RA s cA ty) : ∃ cA : ClassId, ArrOfT s cA ty ∧ va_RA s cA ty := by
  obtain ⟨cA, kA, comp, hf, hk, hkind⟩ := Cond.arrayClass_spec h
  exact ⟨cA, fun n z => ⟨(fun q e => by cases e), kA, hk, comp, hkind⟩, hr cA hf⟩
theorem zs_over {args : Array Value} {s : State} {C : String} (h : (Cond.arrayOver (.object C)).before args s = true) : ∃ cA : ClassId, ArrOfT s cA (.object C) ∧ va_RA s cA (.object C) := by
  obtain ⟨comp, cA, kA, h1, h2, h3, h4, h5⟩ := Cond.arrayOver_spec h
  exact ⟨cA, fun n z => ⟨(fun q e => by cases e), kA, h3, comp, h4⟩, kA, comp, h3, h4, h1, h5⟩
theorem zs_priv {s : State} {args : Array Value} {C : String} {y z : MethodName} (hy : y.cls ≠ "java/lang/invoke/MethodHandle" ∧ y.cls ≠ "java/lang/invoke/VarHandle") (hpriv : (Cond.privateMethod y).before args s = true) (hinst : (Cond.instanceMethod y).before args s = true) (hsel : (Cond.selects C z z).before args s = true) (hz : z.cls = y.cls) : va_Nw (Cond.selects C y y) s := by
  obtain ⟨c2, r2, m2, q1, q2, q3, q4, kP, hkP, hkPi⟩ := Cond.selects_spec hsel
  obtain ⟨mk, methM, hnamed, hmethM, -, -⟩ := Cond.instanceMethod_spec hinst
  have hfound : s.methodFound? y.cls y.name y.desc = some mk := State.methodFound?_of_named hnamed hy
  have e1 : m2.cls = mk.cls := by
    have g1 := findClass_of_methodNamed q3
    have g2 := findClass_of_methodNamed hnamed
    rw [hz] at g1
    exact Option.some.inj (g1.symm.trans g2)
  have hs : selectMethod {} s.vm c2 mk = .method mk := selectMethod_private hmethM (Cond.privateMethod_at hpriv mk methM hnamed hmethM)
  rw [e1] at hkP
  refine va_Nw.of (A := args) rfl ?_
  simp only [Cond.before, Cond.holds, Cond.value, q1, hfound, hnamed, hs, hkP]
  simp
  exact hkPi
/-- a constant object -/
theorem zs_obj {s : State} {D : va_G} {ad : Nat → Nat} {F : Nat → Option zzE} {A : Nat → Prop} {c a : Nat} {r : vw_C} {fs : List Value} (hr : zzCl c = some r) (hK : zz_K s r.1 r.2.1 r.2.2 (D.1 c) (D.2 c)) (hO : va_O r.1 a A s s.heap) (hlen : fs.length = r.2.2) (hf : ∀ (k : Nat) (v : Value), fs[k]? = some v → va_OF (r.2.1 k).1 (r.2.1 k).2.1 (r.2.1 k).2.2.1 v a A s s.heap) (h34 : c = 34 ∨ fs ≠ []) : zz_at (D, s.heap.size, ad, F) false a (c, fs) s.heap := by
  obtain ⟨cell, o1, o2, o3, -⟩ := hO
  obtain ⟨k1, k2, -⟩ := hK
  refine ⟨cell, o1, o2, ?_, (fun e => by cases e), fun _ => (Array.getElem?_eq_some_iff.mp o1).1, ?_, ?_⟩
  · rcases h34 with h | h
    · exact Or.inl h
    · refine Or.inr ?_
      cases fs with
      | nil => exact absurd rfl h
      | cons v fs =>
        obtain ⟨cf, k, i, f, cell', g1, g2, g3, g4, -⟩ := hf 0 v rfl
        cases o1.symm.trans g3
        exact g4
  · refine (Option.some.inj (o3.symm.trans k2)).trans ?_
    exact (zz_clC (Z := (D, s.heap.size, ad, F)) (mu := false) (q := a) (zz_cls100 hr)).symm
  · rw [if_pos (zz_cls100 hr)]
    refine ⟨⟨r, hr, hlen⟩, fun k v hk => ?_, fun h => by cases h⟩
    obtain ⟨cf, k0, i, f, cell', g1, g2, g3, g4, g5, -⟩ := hf k v hk
    cases o1.symm.trans g3
    have hkl : k < r.2.2 := by rw [← hlen]; exact (List.getElem?_eq_some_iff.mp hk).1
    obtain ⟨cf', kf', fi', fd', e1, e2, -⟩ := k1 k hkl
    cases g1.symm.trans e1
    show cell.slots[D.2 c k]? = some v
    rw [← e2]
    exact g5
theorem zs_arr {s : State} {D : va_G} {ad : Nat → Nat} {F : Nat → Option zzE} {A : Nat → Prop} {t a N : Nat} {ty : FieldType} {f : Nat → Value} {vs : List Value} (ht : zzAr t = some ty) (hT : va_T ty a N f A s s.heap) (hcls : ∀ cell : Cell, s.heap[a]? = some cell → s.isArrayOf cell ty → cell.cls = D.2 t a) (hN : N < 2 ^ 31) (hl : vs.length = N) (hv : ∀ j : Nat, j < N → vs[j]? = some (f j)) (hfit : ∀ v ∈ vs, fits ty v = true) : zz_at (D, s.heap.size, ad, F) false a (t, vs) s.heap := by
  obtain ⟨cell, t1, t2, t3, t4, t5, t6, -⟩ := hT
  refine ⟨cell, t1, ?_, Or.inr t3, (fun e => by cases e), fun _ => (Array.getElem?_eq_some_iff.mp t1).1, (hcls cell t1 t2).trans (if_neg (fun h => h.elim (fun e => by cases e) (fun h => by have h : t < 100 := h; have := zz_arr100 ht; omega))).symm, ?_⟩
  · obtain ⟨h, -⟩ := t2
    cases hv : cell.vm <;> first | rfl | exact absurd hv (h _)
  · rw [if_neg (Nat.not_lt.mpr (zz_arr100 ht))]
    refine ⟨ty, ht, by rw [hl]; exact t4, by rw [hl]; exact t5, (fun e => by cases e), by rw [hl]; exact hN, fun k v hk => ?_⟩
    have hkl : k < N := by rw [← hl]; exact (List.getElem?_eq_some_iff.mp hk).1
    have := hv k hkl
    rw [hk] at this
    cases this
    exact ⟨t6 k hkl, hfit _ (List.mem_of_getElem? hk)⟩
/-- classes of frozen arrays, by their addresses -/
noncomputable def zs_ac (s : State) (ty : FieldType) (d : ClassId) (q : Nat) : ClassId := @dite _ (∃ cell : Cell, s.heap[q]? = some cell ∧ s.isArrayOf cell ty) (Classical.propDecidable _) (fun h => h.choose.cls) (fun _ => d)
theorem zs_ac1 {s : State} {ty : FieldType} {d : ClassId} {q : Nat} {cell : Cell} (h1 : s.heap[q]? = some cell) (h2 : s.isArrayOf cell ty) : cell.cls = zs_ac s ty d q := by
  have h : ∃ cell : Cell, s.heap[q]? = some cell ∧ s.isArrayOf cell ty := ⟨cell, h1, h2⟩
  unfold zs_ac
  rw [dif_pos h]
  have := h1.symm.trans h.choose_spec.1
  exact congrArg Cell.cls (Option.some.inj this)
theorem zs_ac2 {s : State} {ty : FieldType} {d : ClassId} (hd : ArrOfT s d ty) (q : Nat) : ArrOfT s (zs_ac s ty d q) ty := by
  unfold zs_ac
  by_cases h : ∃ cell : Cell, s.heap[q]? = some cell ∧ s.isArrayOf cell ty
  · rw [dif_pos h]
    obtain ⟨-, k, h1, comp, h2⟩ := h.choose_spec.2
    exact fun n z => ⟨(fun q e => by cases e), k, h1, comp, h2⟩
  · rw [dif_neg h]
    exact hd
/-- what lies at an address lies there once -/
theorem zs_names0 : ∀ a, a < 35 → ∀ b, b < 35 → (zzCl a).isSome = true → (zzCl a).map (fun r => r.1) = (zzCl b).map (fun r => r.1) → a = b := by decide +kernel
theorem zs_lt35 {c : Nat} {r : vw_C} (h : zzCl c = some r) : c < 35 := by
  unfold zzCl at h
  split at h <;> first | omega | cases h
theorem zs_names {a b : Nat} {r1 r2 : vw_C} (h1 : zzCl a = some r1) (h2 : zzCl b = some r2) (h : r1.1 = r2.1) : a = b :=
  zs_names0 a (zs_lt35 h1) b (zs_lt35 h2) (by rw [h1]; rfl) (by rw [h1, h2]; exact congrArg some h)
theorem zs_artys0 : ∀ a, a < 6 → ∀ b, b < 6 → zzAr (100 + a) = zzAr (100 + b) → a = b := by decide +kernel
theorem zs_lt106 {t : Nat} {ty : FieldType} (h : zzAr t = some ty) : t < 106 := by
  unfold zzAr at h
  split at h <;> first | omega | cases h
theorem zs_artys {a b : Nat} {ty : FieldType} (h1 : zzAr a = some ty) (h2 : zzAr b = some ty) : a = b := by
  have a1 := zz_arr100 h1
  have b1 := zz_arr100 h2
  have a2 := zs_lt106 h1
  have b2 := zs_lt106 h2
  obtain ⟨i, rfl⟩ := Nat.le.dest a1
  obtain ⟨j, rfl⟩ := Nat.le.dest b1
  rw [zs_artys0 i (by omega) j (by omega) (h1.trans h2.symm)]
theorem zs_n32 {a b : Nat} (ha : a < 2 ^ 31) (hb : b < 2 ^ 31) (h : Int32.ofNat a = Int32.ofNat b) : a = b := by
  have h1 := congrArg Int32.toInt h
  rw [Int32.toInt_ofNat_of_lt ha, Int32.toInt_ofNat_of_lt hb] at h1
  omega
theorem zs_uniq {s : State} {Z : zzG} {q : Nat} {e1 e2 : zzE} {H : Heap} (hK : ∀ (c : Nat) (r : vw_C), zzCl c = some r → zz_K s r.1 r.2.1 r.2.2 (Z.1.1 c) (Z.1.2 c)) (hA : ∀ (t : Nat) (ty : FieldType), zzAr t = some ty → ∀ q, ArrOfT s (Z.1.2 t q) ty) (h1 : zz_at Z false q e1 H) (h2 : zz_at Z false q e2 H) (o1 : e1.1 < 29 ∨ 100 ≤ e1.1 ∨ e2.1 < 100) (o2 : e2.1 < 29 ∨ 100 ≤ e2.1 ∨ e1.1 < 100) : e1 = e2 := by
  obtain ⟨t1, v1⟩ := e1
  obtain ⟨t2, v2⟩ := e2
  obtain ⟨cell, a1, a2, a3, -, -, a6, a7⟩ := h1
  obtain ⟨cell', b1, b2, b3, -, -, b6, b7⟩ := h2
  cases a1.symm.trans b1
  dsimp only at a6 b6 a7 b7 o1 o2
  by_cases c1 : t1 < 100
  · rw [if_pos c1] at a7
    obtain ⟨⟨r1, hr1, l1⟩, f1, -⟩ := a7
    obtain ⟨k1, k2, kC, k3, k4⟩ := hK _ _ hr1
    rw [zz_clC c1] at a6
    by_cases c2 : t2 < 100
    · rw [if_pos c2] at b7
      obtain ⟨⟨r2, hr2, l2⟩, f2, -⟩ := b7
      rw [zz_clC c2] at b6
      obtain ⟨m1, m2, mC, m3, m4⟩ := hK _ _ hr2
      have e9 : r1.1 = r2.1 := by
        obtain ⟨x, hx, hn⟩ := Vm.findClass_spec k2
        obtain ⟨y, hy, hm⟩ := Vm.findClass_spec m2
        rw [← a6] at hx
        rw [← b6] at hy
        cases hx.symm.trans hy
        exact hn.symm.trans hm
      have e8 := zs_names hr1 hr2 e9
      subst e8
      cases hr1.symm.trans hr2
      congr 1
      refine List.ext_getElem? fun k => ?_
      by_cases hk : k < r1.2.2
      · have g1 := f1 k _ (List.getElem?_eq_getElem (show k < v1.length by rw [l1]; exact hk))
        have g2 := f2 k _ (List.getElem?_eq_getElem (show k < v2.length by rw [l2]; exact hk))
        rw [List.getElem?_eq_getElem (show k < v1.length by rw [l1]; exact hk), List.getElem?_eq_getElem (show k < v2.length by rw [l2]; exact hk)]
        exact g1.symm.trans g2
      · rw [List.getElem?_eq_none (by rw [l1]; omega), List.getElem?_eq_none (by rw [l2]; omega)]
    · exfalso
      rw [if_neg c2] at b7
      obtain ⟨ty, hty, -⟩ := b7
      have hc1 : t1 < 29 := by omega
      have ho := k4 (zz_ordM hr1 hc1)
      have b6' : cell.cls = Z.1.2 t2 q := b6.trans (if_neg (fun h => h.elim (fun e => by cases e) (fun h => c2 h)))
      obtain ⟨-, k, p1, comp, p2⟩ := hA _ _ hty q 0 (fun _ => .null)
      have p1' : s.vm.classes[Z.1.2 t2 q]? = some k := p1
      rw [← b6', a6] at p1'
      cases k3.symm.trans p1'
      rw [ho] at p2
      cases p2
  · rw [if_neg c1] at a7
    obtain ⟨ty, hty, n1, n2, -, n4, n5⟩ := a7
    have a6' : cell.cls = Z.1.2 t1 q := a6.trans (if_neg (fun h => h.elim (fun e => by cases e) (fun h => c1 h)))
    obtain ⟨-, k, p1, comp, p2⟩ := hA _ _ hty q 0 (fun _ => .null)
    have p1' : s.vm.classes[Z.1.2 t1 q]? = some k := p1
    by_cases c2 : t2 < 100
    · exfalso
      rw [if_pos c2] at b7
      obtain ⟨⟨r2, hr2, l2⟩, -⟩ := b7
      rw [zz_clC c2] at b6
      obtain ⟨m1, m2, mC, m3, m4⟩ := hK _ _ hr2
      have hc2 : t2 < 29 := by omega
      have ho := m4 (zz_ordM hr2 hc2)
      rw [← a6', b6] at p1'
      cases m3.symm.trans p1'
      rw [ho] at p2
      cases p2
    · rw [if_neg c2] at b7
      obtain ⟨ty', hty', m1, m2, -, m4, m5⟩ := b7
      have b6' : cell.cls = Z.1.2 t2 q := b6.trans (if_neg (fun h => h.elim (fun e => by cases e) (fun h => c2 h)))
      obtain ⟨-, k', p1b, comp', p2b⟩ := hA _ _ hty' q 0 (fun _ => .null)
      have p1b' : s.vm.classes[Z.1.2 t2 q]? = some k' := p1b
      rw [← a6'] at p1'
      rw [← b6'] at p1b'
      cases p1'.symm.trans p1b'
      have e7 : ty = ty' := by
        rw [p2] at p2b
        cases p2b
        rfl
      subst e7
      have e8 := zs_artys hty hty'
      subst e8
      have el := zs_n32 n4 m4 (n2.symm.trans m2)
      congr 1
      refine List.ext_getElem? fun k => ?_
      by_cases hk : k < v1.length
      · have g1 := (n5 k _ (List.getElem?_eq_getElem hk)).1
        have hk2 : k < v2.length := by
          have : v1.length = v2.length := el
          omega
        have g2 := (m5 k _ (List.getElem?_eq_getElem hk2)).1
        rw [List.getElem?_eq_getElem hk, List.getElem?_eq_getElem hk2]
        exact g1.symm.trans g2
      · have : v1.length = v2.length := el
        rw [List.getElem?_eq_none (by omega), List.getElem?_eq_none (by omega)]
theorem zs_eqn {args : Array Value} {s : State} {t : Term} (h : (Cond.eq t .null).before args s = true) : t.eval args s none [] s = some .null := by
  cases hv : t.eval args s none [] s with
  | none => simp [Cond.before, Cond.holds, Cond.value, hv] at h
  | some w =>
    have hz : Term.null.eval args s none [] s = some .null := rfl
    simp only [Cond.before, Cond.holds, Cond.value, hv, hz] at h
    cases w <;> simp_all
theorem zs_eqr {args : Array Value} {s : State} {t u : Term} {a : Nat} (h : (Cond.eq t u).before args s = true) (hu : u.eval args s none [] s = some (.ref a)) : t.eval args s none [] s = some (.ref a) := by
  cases hv : t.eval args s none [] s with
  | none => simp [Cond.before, Cond.holds, Cond.value, hv] at h
  | some w =>
    simp only [Cond.before, Cond.holds, Cond.value, hv, hu] at h
    cases w <;> simp_all
theorem zs_rn {args : Array Value} {s : State} {t : Term} (h : (Cond.isRef t).before args s = true) : ∃ fl a : Nat, t.eval args s none [] s = some (va_rf (if fl = 0 then none else some a)) := by
  obtain ⟨v, h1, h2⟩ := Cond.isRef_spec h
  cases v with
  | null => exact ⟨0, 0, by rw [h1]; rfl⟩
  | ref a => exact ⟨1, a, by rw [h1]; rfl⟩
  | _ => cases h2
theorem zs_vk {own tx : String} {k a : Nat} {args : Array Value} {s : State} (h1 : (Cond.stringRef own k tx).before args s = true) (h2 : (Term.string own k).eval args s none [] s = some (.ref a)) : vk_R own k tx a s := vk_R.of h1 h2
