/-! LAYER Z: switches, constants, casts of arrays, getClass, clone, Object.<init>, inherited statics -/
theorem zz_ne {x v : Int32} {z : Int} (h : ¬ x = v) (hv : v.toInt = z) : x.toInt ≠ z := by
  intro e
  exact h (Int32.toInt_inj.mp (e.trans hv.symm))
def zcastA (Z : zzG) (M : zzM) (r : Option Nat) (t : Nat) (K : Prop) : Prop := match r with
  | none => K
  | some a => match zz_L Z M a with
    | some (true, t', _) => t' = t ∧ K
    | _ => False
/-- the receiver is a made cell -/
def ztyT (Z : zzG) (M : zzM) (r : Option Nat) (P : Nat → Prop) : Prop := match r with
  | none => False
  | some a => match zz_L Z M a with
    | some (true, t, _) => P t
    | _ => False
theorem ztyTS {Z : zzG} {M : zzM} {r : Option Nat} {P : Nat → Prop} (hw : ztyT Z M r P) : ∃ (a t : Nat) (fs : List Value), r = some a ∧ zz_L Z M a = some (true, t, fs) ∧ P t := by
  unfold ztyT at hw
  split at hw
  · exact hw.elim
  · rename_i a
    split at hw
    · rename_i t fs hL
      exact ⟨a, t, fs, rfl, hL, hw⟩
    · exact hw.elim
def zclone (Z : zzG) (M : zzM) (bc bs : Nat) (r : Option Nat) (K : Nat → zzM → Nat → Nat → Prop) : Prop := match r with
  | none => False
  | some a => match zz_L Z M a with
    | some (true, t, vs) => t = 101 ∧ 1 ≤ bc ∧ vs.length ≤ bs ∧ ∀ q : Nat, zz_L Z M q = none → zz_fr Z q → K q (zz_up M q (101, vs)) (bc - 1) (bs - vs.length)
    | _ => False
section ZMORE
variable {G : zzX} {nL : Nat} {M : zzM} {bc bs pc : Nat} {lv : List (Nat × Value)} {rest : List Value} {cc : ByteArray} {own : String} {fr : Nat}
theorem zz_hl (C : zz_C G cc own nL) : (zz_l G).stackTraces = false := by
  obtain ⟨p, l, e, R, s, m, args, below, meth, c, Q, Z⟩ := G
  exact C.2.2.2.2.2.2
theorem zz_tin (C : zz_C G cc own nL) {dflt lo hi : Int} {offs : Array Int} {len j : Nat} {x v : Int32} {off : Int} {tgt : Nat} (d : decode cc pc = .ok (.tableswitch dflt lo hi offs, len)) (e : x = v) (hj : v.toInt - lo = (j : Int)) (h1 : ¬ v.toInt < lo) (h2 : ¬ hi < v.toInt) (ho : offs[j]? = some off) (ht : (pc : Int) + off = (tgt : Int)) (k : zz_T G nL M bc bs tgt lv rest) : zz_T G nL M bc bs pc lv (.int x :: rest) := by
  subst e
  exact zz_step C (fun _ _ _ _ _ _ _ _ _ _ _ _ _ _ _ _ hx hb _ _ _ k => lv_tableIn hx hb d h1 h2 (by rw [hj]; simpa using ho) ht k) k
theorem zz_tout (C : zz_C G cc own nL) {dflt lo hi : Int} {offs : Array Int} {len : Nat} {x : Int32} {tgt : Nat} (d : decode cc pc = .ok (.tableswitch dflt lo hi offs, len)) (ht : (pc : Int) + dflt = (tgt : Int)) (hsz : hi - lo + 1 = (offs.size : Int)) (h : ∀ j : Nat, j < offs.size → x.toInt ≠ lo + (j : Int) ∨ offs[j]? = some dflt) (k : zz_T G nL M bc bs tgt lv rest) : zz_T G nL M bc bs pc lv (.int x :: rest) := by
  by_cases hr : x.toInt < lo ∨ hi < x.toInt
  · exact zz_step C (fun _ _ _ _ _ _ _ _ _ _ _ _ _ _ _ _ hx hb _ _ _ k => lv_tableOut hx hb d hr ht k) k
  · have h1 : ¬ x.toInt < lo := fun q => hr (Or.inl q)
    have h2 : ¬ hi < x.toInt := fun q => hr (Or.inr q)
    rcases h (x.toInt - lo).toNat (by omega) with q | q
    · exact absurd (by omega) q
    · exact zz_step C (fun _ _ _ _ _ _ _ _ _ _ _ _ _ _ _ _ hx hb _ _ _ k => lv_tableIn hx hb d h1 h2 q ht k) k
theorem zz_lsw (C : zz_C G cc own nL) {dflt : Int} {ps : Array (Int × Int)} {len : Nat} {x : Int32} {off : Int} {tgt : Nat} (d : decode cc pc = .ok (.lookupswitch dflt ps, len)) (hp : (ps.toList.zip (ps.toList.drop 1)).all (fun (a, next) => a.1 < next.1) = true) (ho : Op.lookupswitch.offset ps.toList dflt x.toInt = off) (ht : (pc : Int) + off = (tgt : Int)) (k : zz_T G nL M bc bs tgt lv rest) : zz_T G nL M bc bs pc lv (.int x :: rest) :=
  zz_step C (fun _ _ _ _ _ _ _ _ _ _ _ _ _ _ _ _ hx hb _ _ _ k => lv_lookup hx hb d hp ho ht k) k
theorem zz_ldcF (C : zz_C G cc own nL) {i : Nat} {v : UInt32} (d : decode cc pc = .ok (.ldc i, 2)) (q : Cond.constantFloat own i v ∈ lw_all) (k : zz_T G nL M bc bs (pc + 2) lv (.float v :: rest)) : zz_T G nL M bc bs pc lv rest := zz_step C (fun _ _ _ _ _ _ _ _ _ _ _ _ _ _ _ _ hx hb hown hts _ k => lv_ldcf hx hb hown (hts _ q) d k) k
theorem zz_ldcwi (C : zz_C G cc own nL) {i : Nat} {v : Int32} (d : decode cc pc = .ok (.ldc_w i, 3)) (q : Cond.constant own i v ∈ lw_all) (k : zz_T G nL M bc bs (pc + 3) lv (.int v :: rest)) : zz_T G nL M bc bs pc lv rest := zz_step C (fun _ _ _ _ _ _ _ _ _ _ _ _ _ _ _ _ hx hb hown hts _ k => lv_ldcw hx hb hown (hts _ q) d k) k
theorem zz_objInit9 (C : zz_C G cc own nL) (hR : zz_Rm G fr) (hfr : 2 ≤ fr) {i a : Nat} {ro : Option Nat} (hro : ro = some a) (d : decode cc pc = .ok (.invokespecial i, 3)) (q1 : Cond.methodLink own i Lib.objectInit ∈ lw_all) (q2 : Cond.instanceMethod Lib.objectInit ∈ lw_all) (q3 : Cond.code Lib.objectInit ⟨#[0xb1]⟩ 1 none ∈ lw_all) (hca : (rest.map fun v => v.category).sum ≤ 20) (h : zz_T G nL M bc bs (pc + 3) lv rest) : zz_T G nL M bc bs pc lv (va_rf ro :: rest) := by
  subst hro
  have h1 := hR.1
  have h2 := hR.2
  exact zz_objInit C d q1 q2 q3 (by omega) (by omega) h
/-- the cast of an array to its own class -/
theorem zz_castA (C : zz_C G cc own nL) {i t : Nat} {ty : FieldType} {ro : Option Nat} {nm : String} {K : Prop} (d : decode cc pc = .ok (.checkcast i, 3)) (q : Cond.classLink own i nm ∈ lw_all) (ht : zzAr t = some ty) (hra : ∀ (U : State) (cA : ClassId), va_RA U cA ty → U.vm.findClass nm = some cA) (hw : zcastA (zz_Zof G) M ro t K) (h : K → zz_T G nL M bc bs (pc + 3) lv (va_rf ro :: rest)) : zz_T G nL M bc bs pc lv (va_rf ro :: rest) := by
  cases ro with
  | none =>
    have h := h hw
    obtain ⟨p, l, e, R, s, m, args, below, meth, c9, Q, Z⟩ := G
    obtain ⟨hxx, hb, hml, hown, hts, hS, hl⟩ := C
    intro H locs cells slots ls h1 h2 h3 h4 h5
    exact lv_castN hxx hb d (h H locs cells slots ls h1 h2 h3 h4 h5)
  | some a =>
    simp only [zcastA] at hw
    split at hw
    rotate_left
    · exact hw.elim
    rename_i t' vs hL
    obtain ⟨hm, hw⟩ := hw
    subst hm
    have h := h hw
    obtain ⟨p, l, e, R, s, m, args, below, meth, c9, Q, Z⟩ := G
    obtain ⟨hxx, hb, hml, hown, hts, hS, hl⟩ := C
    intro H locs cells slots ls h1 h2 h3 h4 h5
    obtain ⟨cell, c1, c2, -, -, -, c6, -⟩ := h1 _ _ _ (Or.inl hL)
    have c6 := c6.trans zz_clM
    have hnm := hra _ _ (hS.2.2.1 _ _ ht).2.1
    intro T hT X9
    obtain ⟨vm', X', st⟩ := X9.checkcastYes hxx hown (hts _ q) (by rw [hT]; exact c1) c2 hnm (by rw [c6]; exact va_asg _ _) (g := F0 m pc ls (.ref a :: rest)) rfl rfl (by rw [hb]; exact d)
    obtain ⟨t9, a1, b1⟩ := h H locs cells slots ls h1 h2 h3 h4 h5 (T.setVm vm') hT X'
    exact ⟨t9, st t9 a1, b1⟩
abbrev zz_gcl : MethodName := ⟨"java/lang/Object", "getClass", "()Ljava/lang/Class;"⟩
theorem zz_getC (C : zz_C G cc own nL) (hR : zz_Rm G fr) (hfr : 1 ≤ fr) {i j a t : Nat} {b : Bool} {fs : List Value} {ro : Option Nat} {r : vw_C} (d : decode cc pc = .ok (.invokevirtual i, 3)) (hro : ro = some a) (hL : zz_LO (zz_Zof G) M a = some (b, t, fs)) (hr : zzCl t = some r) (hmi : zzMi j = some r.1) (q1 : Cond.methodLink own i zz_gcl ∈ lw_all) (q2 : Cond.declares zz_gcl ∈ lw_tbl) (q3 : Cond.selects r.1 zz_gcl zz_gcl ∈ lw_all) (q4 : Cond.instanceMethod zz_gcl ∈ lw_all) (q5 : Cond.native zz_gcl ∈ lw_all) (hca : (rest.map fun v => v.category).sum ≤ 20)
    (h : zz_T G nL M bc bs (pc + 3) lv (va_rf (some (zz_ad (zz_Zof G) (300 + j))) :: rest)) : zz_T G nL M bc bs pc lv (va_rf ro :: rest) := by
  subst hro
  obtain ⟨p, l, e, R, s, m, args, below, meth, c9, Q, Z⟩ := G
  obtain ⟨hxx, hb, hml, hown, hts, hS, hl⟩ := C
  have hR1 : fr ≤ R.frames := hR.1
  have hR2 : 64 * fr ≤ R.locals := hR.2
  intro H locs cells slots ls h1 h2 h3 h4 h5
  exact va_getC hxx hb (hml.trans h5.1.symm) hown (hts _ q1) (va_Nw.use (A := args) rfl (hS.2.2.2.1 _ q2 rfl)) (hts _ q3) (hts _ q4) (hts _ q5) (hS.2.2.2.2.2.2.1 j _ hmi) (zz_rcv hS hr (h1 _ _ _ (zz_LOr hL))) (by omega) (by omega) d (h H locs cells slots ls h1 h2 h3 h4 h5)
theorem zz_getCA (C : zz_C G cc own nL) (hR : zz_Rm G fr) (hfr : 1 ≤ fr) {i j a t : Nat} {fs : List Value} {ro : Option Nat} {E nm : String} (d : decode cc pc = .ok (.invokevirtual i, 3)) (hro : ro = some a) (hL : zz_L (zz_Zof G) M a = some (true, t, fs)) (hr : zzAr t = some (.object E)) (hmi : zzMi j = some nm) (q1 : Cond.methodLink own i zz_gcl ∈ lw_all) (q2 : Cond.declares zz_gcl ∈ lw_tbl) (q3 : Cond.selects nm zz_gcl zz_gcl ∈ lw_all) (q4 : Cond.instanceMethod zz_gcl ∈ lw_all) (q5 : Cond.native zz_gcl ∈ lw_all) (hca : (rest.map fun v => v.category).sum ≤ 20)
    (h : zz_T G nL M bc bs (pc + 3) lv (va_rf (some (zz_ad (zz_Zof G) (300 + j))) :: rest)) (hnm : "[" ++ (FieldType.object E).toString = nm := by decide +kernel) : zz_T G nL M bc bs pc lv (va_rf ro :: rest) := by
  subst hro
  obtain ⟨p, l, e, R, s, m, args, below, meth, c9, Q, Z⟩ := G
  obtain ⟨hxx, hb, hml, hown, hts, hS, hl⟩ := C
  have hR1 : fr ≤ R.frames := hR.1
  have hR2 : 64 * fr ≤ R.locals := hR.2
  intro H locs cells slots ls h1 h2 h3 h4 h5
  obtain ⟨cell, c1, c2, -, -, -, c6, -⟩ := h1 _ _ _ (Or.inl hL)
  exact va_getC hxx hb (hml.trans h5.1.symm) hown (hts _ q1) (va_Nw.use (A := args) rfl (hS.2.2.2.1 _ q2 rfl)) (hts _ q3) (hts _ q4) (hts _ q5) (hS.2.2.2.2.2.2.1 j _ hmi) ⟨cell, c1, c2, by rw [c6, zz_clM]; exact va_nmO (hS.2.2.1 _ _ hr).2.1 hnm⟩ (by omega) (by omega) d (h H locs cells slots ls h1 h2 h3 h4 h5)
theorem zz_clone (C : zz_C G cc own nL) (hR : zz_Rm G fr) (hfr : 1 ≤ fr) {i : Nat} {ro : Option Nat} {K : Nat → zzM → Nat → Nat → Prop} (d : decode cc pc = .ok (.invokevirtual i, 3)) (q1 : Cond.methodLink own i ⟨"[B", "clone", "()Ljava/lang/Object;"⟩ ∈ lw_all) (q2 : Cond.sameMethod "[B" "java/lang/Object" "clone" "()Ljava/lang/Object;" ∈ lw_all) (q3 : Cond.native ⟨"java/lang/Object", "clone", "()Ljava/lang/Object;"⟩ ∈ lw_all) (q4 : Cond.instanceMethod ⟨"java/lang/Object", "clone", "()Ljava/lang/Object;"⟩ ∈ lw_all) (q5 : Cond.selects "[B" ⟨"[B", "clone", "()Ljava/lang/Object;"⟩ ⟨"java/lang/Object", "clone", "()Ljava/lang/Object;"⟩ ∈ lw_all) (q6 : Cond.castable "[B" "java/lang/Cloneable" ∈ lw_tbl) (hca : (rest.map fun v => v.category).sum ≤ 20) (hw : zclone (zz_Zof G) M bc bs ro K)
    (h : ∀ (q : Nat) (M' : zzM) (bc' bs' : Nat), K q M' bc' bs' → zz_T G nL M' bc' bs' (pc + 3) lv (va_rf (some q) :: rest)) : zz_T G nL M bc bs pc lv (va_rf ro :: rest) := by
  unfold zclone at hw
  split at hw
  · exact hw.elim
  rename_i a
  split at hw
  rotate_left
  · exact hw.elim
  rename_i t vs hL
  obtain ⟨rfl, w1, w2, w3⟩ := hw
  obtain ⟨p, l, e, R, s, m, args, below, meth, c9, Q, Z⟩ := G
  obtain ⟨hxx, hb, hml, hown, hts, hS, hl⟩ := C
  have hR1 : fr ≤ R.frames := hR.1
  have hR2 : 64 * fr ≤ R.locals := hR.2
  intro H locs cells slots ls h1 h2 h3 h4 h5 T hT X9
  obtain ⟨cell, c1, c2, c3, c4, c5, c6, c7, c8, c9', c10, c11⟩ := zz_arr hS (ty := .byte) rfl (h1 _ _ _ (Or.inl hL))
  have hnm : s.vm.findClass "[B" = some cell.cls := by rw [c6 rfl]; exact (hS.2.2.1 101 .byte rfl).2.1
  have hsz : cell.slots.size = vs.length := c9' rfl
  obtain ⟨c0, t0', f1, f2, f3⟩ := Cond.castable_spec (va_Nw.use (A := args) rfl (hS.2.2.2.1 _ q6 rfl))
  cases hnm.symm.trans f1
  obtain ⟨-, kA, hkA, comp, hkind⟩ := State.isArrayOf_alike X9.warmed.alike c2
  obtain ⟨-, kS, hkS, compS, hkindS⟩ := c2
  obtain ⟨vm', X', st⟩ := X9.cloneArray hxx hown (hts _ q1) (hts _ q2) (hts _ q3) (hts _ q4) (hts _ q5) (a := a) (cell := cell) (by rw [hT]; exact c1) (fun k hk => by rw [hk] at c4; cases c4) c3 hnm f2 f3
    (fun i v hv => by
      have hk' : T.vm.classes[cell.cls]? = some kA := hkA
      have hi : i < vs.length := by rw [← hsz]; exact (Array.getElem?_eq_some_iff.mp hv).1
      obtain ⟨g1, g2⟩ := c11 i _ (List.getElem?_eq_getElem hi)
      cases hv.symm.trans g1
      simpa [State.fitsSlot, State.slotType?, hk', hkind] using g2)
    (g := F0 m pc ls (.ref a :: rest)) rfl (h5.1.trans hml.symm) rfl (by rw [hb]; exact d) (by omega) (by show 2 * 0 + _ + 14 ≤ _; omega) (by omega) (by rw [hsz]; omega) (hloader := Vm.clonesLoader_of_array hkS hkindS)
  generalize hce : ({ cls := cell.cls, slots := cell.slots } : Cell) = cE at X' st
  generalize hH1 : H.push cE = H1
  have z1 : H1.size = H.size + 1 := by rw [← hH1, Array.size_push]
  have e1 : H1[H.size]? = some cE := by rw [← hH1, Array.getElem?_push_size]
  have o1 : ∀ q : Nat, q < H.size → H1[q]? = H[q]? := fun q hq => by rw [← hH1, Array.getElem?_push, if_neg (Nat.ne_of_lt hq)]
  have hfr9 : zz_fr Z H.size := zz_freshS hS h2.1
  have hF := hfr9.1
  have hat : zz_at Z true H.size (101, vs) H1 := by
    refine ⟨_, e1, by rw [← hce]; rfl, Or.inr (fun e => by rw [← hce] at e; cases e), fun _ => ⟨by rw [← hce], Nat.le_trans hS.1 h2.1⟩, (fun e => by cases e), by rw [zz_clM, ← hce]; exact c6 rfl, ?_⟩
    rw [if_neg (show ¬ (101:Nat) < 100 by decide)]
    rw [← hce]
    exact ⟨.byte, rfl, c7, c8, c9', c10, c11⟩
  obtain ⟨g0, g1⟩ := zz_R.push hF h1 (fun x hx => o1 x hx) hat
  rw [hsz] at X'
  obtain ⟨t9, b1, b2⟩ := h _ _ _ _ (w3 H.size g0 hfr9) H1 locs (cells + 1) (slots + vs.length) ls g1 ⟨Nat.le_trans h2.1 (by omega), fun x g2 g3 => (o1 x (Nat.lt_of_lt_of_le g2 h2.1)).trans (h2.2.1 x g2 g3), h2.2.2⟩ (by omega) (by omega) h5 ((T.setVm vm').pushCell cE) (by rw [← hH1, ← hT]; rfl) X'
  refine ⟨t9, st t9 ?_, b2⟩
  rw [hT]
  exact b1
end ZMORE
