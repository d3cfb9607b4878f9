/-! LAYER Z: an abstract heap. A cell is a type number (below 100 a class of zzCl, from 100 on an array of zzAr) and its fields or elements; frozen cells (older than the law's start) lie beside the made ones. -/
abbrev zzE : Type := Nat × List Value
abbrev zzM : Type := Nat → Option zzE
/-- the world's constants: class ids and slots; the first address of ours; addresses of statics' objects (from 0), literals (from 100), Class objects (from 300); frozen cells -/
abbrev zzG : Type := va_G × Nat × (Nat → Nat) × (Nat → Option zzE)
def zz_base (Z : zzG) : Nat := Z.2.1
def zz_ad (Z : zzG) (i : Nat) : Nat := Z.2.2.1 i
def zz_F (Z : zzG) (q : Nat) : Option zzE := Z.2.2.2 (2 * q)
/-- enum constants and their like: objects whose class may be of any kind, as far as the premises say; they are read as objects alone -/
def zz_E' (Z : zzG) (q : Nat) : Option zzE := Z.2.2.2 (2 * q + 1)
def zz_fr (Z : zzG) (q : Nat) : Prop := zz_F Z q = none ∧ zz_E' Z q = none
/-- what lies at an address -/
def zz_L (Z : zzG) (M : zzM) (q : Nat) : Option (Bool × zzE) := match zz_F Z q with
  | some e => some (false, e)
  | none => (M q).map (fun e => (true, e))
/-- what lies at an address, read as an object -/
def zz_LO (Z : zzG) (M : zzM) (q : Nat) : Option (Bool × zzE) := match zz_E' Z q with
  | some e => some (false, e)
  | none => zz_L Z M q
theorem zz_LOr {Z : zzG} {M : zzM} {q : Nat} {b : Bool} {e : zzE} (h : zz_LO Z M q = some (b, e)) : zz_L Z M q = some (b, e) ∨ (b = false ∧ zz_E' Z q = some e) := by
  unfold zz_LO at h
  split at h
  · rename_i e' he
    cases h
    exact Or.inr ⟨rfl, he⟩
  · exact Or.inl h
def zz_up (M : zzM) (q : Nat) (e : zzE) : zzM := fun x => if x = q then some e else M x
/-- a cell's class: made cells and objects have their type's; a frozen array has a class of its own -/
def zz_cl (Z : zzG) (mu : Bool) (q t : Nat) : ClassId := if mu = true ∨ t < 100 then Z.1.1 t else Z.1.2 t q
theorem zz_clM {Z : zzG} {q t : Nat} : zz_cl Z true q t = Z.1.1 t := if_pos (Or.inl rfl)
theorem zz_clC {Z : zzG} {mu : Bool} {q t : Nat} (h : t < 100) : zz_cl Z mu q t = Z.1.1 t := if_pos (Or.inr h)
/-- the cell holds what the abstract heap says -/
def zz_at (Z : zzG) (mu : Bool) (q : Nat) (e : zzE) (H : Heap) : Prop :=
  ∃ cell : Cell, H[q]? = some cell ∧ cell.vm.isStatics = false ∧ (e.1 = 34 ∨ cell.vm ≠ .unknown) ∧ (mu = true → cell.vm = .none ∧ zz_base Z ≤ q) ∧ (mu = false → q < zz_base Z) ∧ cell.cls = zz_cl Z mu q e.1 ∧
    (if e.1 < 100 then (∃ r : vw_C, zzCl e.1 = some r ∧ e.2.length = r.2.2) ∧ (∀ (k : Nat) (v : Value), e.2[k]? = some v → cell.slots[Z.1.2 e.1 k]? = some v) ∧ (mu = true → e.1 = 6 → cell.monitor = {})
     else ∃ ty : FieldType, zzAr e.1 = some ty ∧ e.2.length ≤ cell.slots.size ∧ cell.slots.size.toInt32 = Int32.ofNat e.2.length ∧ (mu = true → cell.slots.size = e.2.length) ∧ e.2.length < 2 ^ 31 ∧ ∀ (k : Nat) (v : Value), e.2[k]? = some v → cell.slots[k]? = some v ∧ fits ty v = true)
def zz_R (Z : zzG) (M : zzM) (H : Heap) : Prop := ∀ (q : Nat) (b : Bool) (e : zzE), (zz_L Z M q = some (b, e) ∨ (b = false ∧ zz_E' Z q = some e)) → zz_at Z b q e H
def zz_A (Z : zzG) : Nat → Prop := fun q => zz_base Z ≤ q
/-- classes of which no word says what kind they are (enum constants' own, Sort, Unsafe): their objects aren't made -/
def zz_ord (C : String) : Bool := !(C == "DebateHall$Kind$1" || C == "DebateHall$Kind$2" || C == "DebateHall$Kind$3" || C == "DebateHall$Sort" || C == "jdk/internal/misc/Unsafe")
/-- a class at a state: its id, its fields' slots -/
def zz_K (U : State) (C : String) (T : u_T) (N : Nat) (cC : ClassId) (iS : Nat → Nat) : Prop :=
  (∀ k, k < N → ∃ (cf : ClassId) (kf : Class) (fi : Nat) (fd : Field), U.fieldFound? (T k).1 (T k).2.1 (T k).2.2.1 = some (cf, kf, fi, fd) ∧ fd.slot = iS k ∧ fd.isStatic = false) ∧ U.vm.findClass C = some cC ∧ ∃ kC : Class, U.vm.classes[cC]? = some kC ∧ (zz_ord C = true → kC.kind = .ordinary)
theorem zz_K.moved {u U : State} {C : String} {T : u_T} {N : Nat} {cC : ClassId} {iS : Nat → Nat} (hvm : u.vm.Alike U.vm) (h : zz_K u C T N cC iS) : zz_K U C T N cC iS := by
  obtain ⟨h1, h2, kC, h3, h4⟩ := h
  refine ⟨fun k hk => ?_, by rw [hvm.findClass]; exact h2, ?_⟩
  · obtain ⟨cf, kf, fi, fd, hi, hs, hst⟩ := h1 k hk
    obtain ⟨kf', hi', -⟩ := State.fieldFound?_setVm (s := u) hvm hi
    exact ⟨cf, kf', fi, fd, by simpa only [State.fieldFound?, State.vm_setVm] using hi', hs, hst⟩
  · obtain ⟨k', hk', he⟩ := hvm.2.2 _ _ h3
    exact ⟨k', hk', fun ho => by rw [he]; exact h4 ho⟩
/-- words that don't ride in the lists -/
def zz_Nw : Cond → Bool
  | .fieldLinkNest .. => true
  | .methodLinkNest .. => true
  | .castable .. => true
  | .declares _ => true
  | .arrayOver (.object _) => true
  | _ => false
theorem zz_Nw.warm {w : Cond} (hw : zz_Nw w = true) {s U : State} (hW : s.WarmedH U.vm) (h : va_Nw w s) : va_Nw w U := by
  cases w with
  | fieldLinkNest a i b n d hh => exact va_Nw.warmF hW h
  | methodLinkNest a i x hh => exact va_Nw.warmM hW h
  | castable C T => exact va_Nw.warmC hW h
  | declares x => exact va_Nw.warmD hW h
  | arrayOver t =>
    cases t with
    | object C => exact va_AO.moved hW.alike h
    | _ => exact absurd hw (by simp [zz_Nw])
  | _ => exact absurd hw (by simp [zz_Nw])
/-- what a state says of the world -/
def zz_S (Z : zzG) (U : State) : Prop :=
  zz_base Z ≤ U.heap.size ∧ (∀ (c : Nat) (r : vw_C), zzCl c = some r → zz_K U r.1 r.2.1 r.2.2 (Z.1.1 c) (Z.1.2 c)) ∧ (∀ (t : Nat) (ty : FieldType), zzAr t = some ty → ArrOfT U (Z.1.1 t) ty ∧ va_RA U (Z.1.1 t) ty ∧ ∀ q : Nat, ArrOfT U (Z.1.2 t q) ty) ∧
  (∀ w ∈ lw_tbl, zz_Nw w = true → va_Nw w U) ∧ (∀ (i : Nat) (r : String × String × String), zzSt i = some r → va_Z r.1 r.2.1 r.2.2 (zzSv (zz_ad Z) i) (zz_A Z) U U.heap) ∧
  (∀ (i : Nat) (r : String × Nat × String), zzLi i = some r → vk_R r.1 r.2.1 r.2.2 (zz_ad Z (100 + i)) U) ∧ (∀ (i : Nat) (C : String), zzMi i = some C → va_Mi C (zz_ad Z (300 + i)) U) ∧
  (∀ q ∈ zzIf, va_Fw q.1 q.2.1 q.2.2 U) ∧ (∀ q ∈ zzNc, va_Nc q.1 q.2 U) ∧ (∀ q ∈ zzXs, va_Nw (Cond.selects q.1 q.2 q.2) U) ∧ vx_Zq Bundle.tN "UNASSIGNED_STACK" Bundle.steD (zz_A Z) U U.heap ∧ vx_Zq Bundle.tN "SUPPRESSED_SENTINEL" Bundle.listD (zz_A Z) U U.heap ∧
  (∀ (q : Nat) (e : zzE), (zz_F Z q = some e ∨ zz_E' Z q = some e) → q < zz_base Z)
theorem zz_ordM {c : Nat} {r : vw_C} (h : zzCl c = some r) (hc : c < 29) : zz_ord r.1 = true := by
  unfold zzCl at h
  split at h <;> first | omega | (cases h; decide) | cases h
theorem zz_ifM : ∀ q ∈ zzIf, q.2.1.cls ≠ "java/lang/invoke/MethodHandle" ∧ q.2.1.cls ≠ "java/lang/invoke/VarHandle" := by decide +kernel
theorem zz_S.warm {Z : zzG} {s U : State} (hW : s.WarmedH U.vm) (hz : s.heap.size ≤ U.heap.size) (hk : ∀ q : Nat, q < s.heap.size → ¬ zz_A Z q → U.heap[q]? = s.heap[q]?) (h : zz_S Z s) : zz_S Z U := by
  obtain ⟨h1, h2, h3, h4, h5, h6, h7, h8, h9, hxs, h10, h11, h12⟩ := h
  have hvm := hW.alike
  refine ⟨Nat.le_trans h1 hz, fun c r hr => (h2 c r hr).moved hvm, fun t ty ht => ⟨arrOfT_moved hvm (h3 t ty ht).1, (h3 t ty ht).2.1.moved hvm, fun q => arrOfT_moved hvm ((h3 t ty ht).2.2 q)⟩, fun w hw hn => (zz_Nw.warm hn hW (h4 w hw hn)), fun i r hr => ((h5 i r hr).kept hk).moved hvm, fun i r hr => (h6 i r hr).warm hW, fun i C hi => (h7 i C hi).moved hvm, fun q hq => (h8 q hq).moved (zz_ifM q hq) hvm, fun q hq => (h9 q hq).moved hvm, fun q hq => word_at hW (Or.inl (by first | rfl | simp [Cond.onTables, Cond.keeps, Cond.steady])) (hxs q hq), (h10.kept hk).moved hvm, (h11.kept hk).moved hvm, h12⟩
theorem zz_freshS {Z : zzG} {s : State} {q : Nat} (h : zz_S Z s) (hq : s.heap.size ≤ q) : zz_fr Z q := by
  have h9 := h.2.2.2.2.2.2.2.2.2.2.2.2
  have h1 := h.1
  refine ⟨?_, ?_⟩
  · cases hf : zz_F Z q with
    | none => rfl
    | some e =>
      have := h9 q e (Or.inl hf)
      omega
  · cases hf : zz_E' Z q with
    | none => rfl
    | some e =>
      have := h9 q e (Or.inr hf)
      omega
/-! lookups -/
theorem zz_L_ne {Z : zzG} {M : zzM} {q x : Nat} {e : zzE} (h : x ≠ q) : zz_L Z (zz_up M q e) x = zz_L Z M x := by
  simp [zz_L, zz_up, h]
theorem zz_L_self {Z : zzG} {M : zzM} {q : Nat} {e : zzE} (h : zz_F Z q = none) : zz_L Z (zz_up M q e) q = some (true, e) := by
  simp [zz_L, zz_up, h]
theorem zz_L_true {Z : zzG} {M : zzM} {q : Nat} {e : zzE} (h : zz_L Z M q = some (true, e)) : zz_F Z q = none ∧ M q = some e := by
  unfold zz_L at h
  split at h
  · simp at h
  · rename_i hn
    refine ⟨hn, ?_⟩
    simpa using h
theorem zz_L_up {Z : zzG} {M : zzM} {q x : Nat} {e e0 : zzE} {b : Bool} (h : zz_L Z M q = some (b, e0)) (hb : b = true) : zz_L Z (zz_up M q e) x = if x = q then some (true, e) else zz_L Z M x := by
  subst hb
  by_cases hx : x = q
  · subst hx
    rw [if_pos rfl]
    exact zz_L_self (zz_L_true h).1
  · rw [if_neg hx]
    exact zz_L_ne hx
theorem zz_at.lt {Z : zzG} {b : Bool} {q : Nat} {e : zzE} {H : Heap} (h : zz_at Z b q e H) : q < H.size := by
  obtain ⟨cell, h1, -⟩ := h
  exact (Array.getElem?_eq_some_iff.mp h1).1
theorem zz_at.kept {Z : zzG} {b : Bool} {q : Nat} {e : zzE} {H H1 : Heap} (h : zz_at Z b q e H) (hq : H1[q]? = H[q]?) : zz_at Z b q e H1 := by
  obtain ⟨cell, h1, h2⟩ := h
  exact ⟨cell, by rw [hq]; exact h1, h2⟩
/-- one cell is written -/
theorem zz_R.set {Z : zzG} {M : zzM} {H H1 : Heap} {q : Nat} {e e0 : zzE} (hR : zz_R Z M H) (h : zz_L Z M q = some (true, e0)) (ho : ∀ x : Nat, x ≠ q → H1[x]? = H[x]?) (hn : zz_at Z true q e H1) : zz_R Z (zz_up M q e) H1 := by
  intro x b e1 hx
  rcases hx with hx | hx
  rotate_left
  · have h2 := hR x b e1 (Or.inr hx)
    have hxq : x ≠ q := by
      intro hxq
      subst hxq
      obtain ⟨rfl, -⟩ := hx
      obtain ⟨cl1, -, -, -, -, g1, -⟩ := h2
      obtain ⟨cl2, -, -, -, g2, -⟩ := hR x true e0 (Or.inl h)
      exact absurd (g1 rfl) (Nat.not_lt.mpr (g2 rfl).2)
    exact h2.kept (ho x hxq)
  rw [zz_L_up h rfl] at hx
  by_cases hxq : x = q
  · rw [if_pos hxq] at hx
    cases hx
    subst hxq
    exact hn
  · rw [if_neg hxq] at hx
    exact (hR x b e1 (Or.inl hx)).kept (ho x hxq)
/-- one cell is made -/
theorem zz_R.push {Z : zzG} {M : zzM} {H H1 : Heap} {e : zzE} (hF : zz_F Z H.size = none) (hR : zz_R Z M H) (ho : ∀ x : Nat, x < H.size → H1[x]? = H[x]?) (hn : zz_at Z true H.size e H1) : zz_L Z M H.size = none ∧ zz_R Z (zz_up M H.size e) H1 := by
  have h0 : zz_L Z M H.size = none := by
    cases h : zz_L Z M H.size with
    | none => rfl
    | some y =>
      obtain ⟨b, e1⟩ := y
      exact absurd (hR _ _ _ (Or.inl h)).lt (Nat.lt_irrefl _)
  refine ⟨h0, fun x b e1 hx => ?_⟩
  rcases hx with hx | hx
  rotate_left
  · have h2 := hR x b e1 (Or.inr hx)
    exact h2.kept (ho x h2.lt)
  by_cases hxq : x = H.size
  · subst hxq
    rw [zz_L_self hF] at hx
    cases hx
    exact hn
  · rw [zz_L_ne hxq] at hx
    have h1 := hR x b e1 (Or.inl hx)
    exact h1.kept (ho x h1.lt)
/-! the judgement: the machine stands at pc with these locals and this stack, and its heap is M -/
abbrev zzX : Type := Program × Launch × Env × Room × State × MethodId × Array Value × List Frame × Method × Code × (State → Prop) × zzG
def zz_T (G : zzX) (nL : Nat) (M : zzM) (bc bs pc : Nat) (lv : List (Nat × Value)) (st : List Value) : Prop :=
  match G with
  | (p, l, e, R, s, m, args, below, meth, c, Q, Z) => ∀ (H : Heap) (locs : List Loc) (cells slots : Nat) (ls : Array Slot), zz_R Z M H → va_S (zz_A Z) s.heap H locs → cells + bc ≤ R.cells → slots + bs ≤ R.slots → lv_has ls nL lv → W p l e R s m args below meth c H locs cells slots Q (F0 m pc ls st)
/-- an exception in flight -/
def zz_TX (G : zzX) (nL : Nat) (M : zzM) (bc bs pc : Nat) (lv : List (Nat × Value)) (t q : Nat) : Prop :=
  match G with
  | (p, l, e, R, s, m, args, below, meth, c, Q, Z) => ∀ (H : Heap) (locs : List Loc) (cells slots : Nat) (ls : Array Slot) (st : List Value), zz_R Z M H → va_S (zz_A Z) s.heap H locs → cells + bc ≤ R.cells → slots + bs ≤ R.slots → lv_has ls nL lv → (∃ e : zzE, zz_L Z M q = some (true, (t, e.2))) → vx_W p l e R s m args below meth c H locs cells slots Q (F0 m pc ls st) q
/-- what holds in a method's body -/
def zz_C (G : zzX) (cc : ByteArray) (own : String) (nL : Nat) : Prop :=
  match G with
  | (p, l, e, R, s, m, args, below, meth, c, Q, Z) => p.tables.exec = Jvm.exec ∧ c.code = cc ∧ c.maxLocals = nL ∧ s.vm.findClass own = some m.cls ∧ (∀ w ∈ lw_all, w.before args s = true) ∧ zz_S Z s ∧ l.stackTraces = false
def zz_Zof (G : zzX) : zzG := G.2.2.2.2.2.2.2.2.2.2.2
section ZROW
variable {G : zzX} {nL : Nat} {M : zzM} {bc bs pc pc' : Nat} {lv lv' : List (Nat × Value)} {st st' rest : List Value} {cc : ByteArray} {own : String}
/-- a step that leaves heap and locals -/
theorem zz_step (C : zz_C G cc own nL) (h : ∀ (p : Program) (l : Launch) (e : Env) (R : Room) (s : State) (m : MethodId) (args : Array Value) (below : List Frame) (meth : Method) (c : Code) (Q : State → Prop) (H : Heap) (locs : List Loc) (cells slots : Nat) (ls : Array Slot), p.tables.exec = Jvm.exec → c.code = cc → s.vm.findClass own = some m.cls → (∀ w ∈ lw_all, w.before args s = true) → lv_has ls nL lv → W p l e R s m args below meth c H locs cells slots Q (F0 m pc' ls st') → W p l e R s m args below meth c H locs cells slots Q (F0 m pc ls st))
    (k : zz_T G nL M bc bs pc' lv st') : zz_T G nL M bc bs pc lv st := by
  obtain ⟨p, l, e, R, s, m, args, below, meth, c, Q, Z⟩ := G
  intro H locs cells slots ls h1 h2 h3 h4 h5
  exact h p l e R s m args below meth c Q H locs cells slots ls C.1 C.2.1 C.2.2.2.1 C.2.2.2.2.1 h5 (k H locs cells slots ls h1 h2 h3 h4 h5)
/-- a step that leaves the heap and writes a local -/
theorem zz_stepL (C : zz_C G cc own nL) (h : ∀ (p : Program) (l : Launch) (e : Env) (R : Room) (s : State) (m : MethodId) (args : Array Value) (below : List Frame) (meth : Method) (c : Code) (Q : State → Prop) (H : Heap) (locs : List Loc) (cells slots : Nat) (ls : Array Slot), p.tables.exec = Jvm.exec → c.code = cc → lv_has ls nL lv → (∀ ls' : Array Slot, lv_has ls' nL lv' → W p l e R s m args below meth c H locs cells slots Q (F0 m pc' ls' st')) → W p l e R s m args below meth c H locs cells slots Q (F0 m pc ls st))
    (k : zz_T G nL M bc bs pc' lv' st') : zz_T G nL M bc bs pc lv st := by
  obtain ⟨p, l, e, R, s, m, args, below, meth, c, Q, Z⟩ := G
  intro H locs cells slots ls h1 h2 h3 h4 h5
  exact h p l e R s m args below meth c Q H locs cells slots ls C.1 C.2.1 h5 (fun ls' h6 => k H locs cells slots ls' h1 h2 h3 h4 h6)
/-- a branch that leaves heap and locals -/
theorem zz_stepB {P : Prop} {pc1 pc2 : Nat} {st1 st2 : List Value} (C : zz_C G cc own nL) (h : ∀ (p : Program) (l : Launch) (e : Env) (R : Room) (s : State) (m : MethodId) (args : Array Value) (below : List Frame) (meth : Method) (c : Code) (Q : State → Prop) (H : Heap) (locs : List Loc) (cells slots : Nat) (ls : Array Slot), p.tables.exec = Jvm.exec → c.code = cc → (P → W p l e R s m args below meth c H locs cells slots Q (F0 m pc1 ls st1)) → (¬ P → W p l e R s m args below meth c H locs cells slots Q (F0 m pc2 ls st2)) → W p l e R s m args below meth c H locs cells slots Q (F0 m pc ls st))
    (k1 : P → zz_T G nL M bc bs pc1 lv st1) (k2 : ¬ P → zz_T G nL M bc bs pc2 lv st2) : zz_T G nL M bc bs pc lv st := by
  obtain ⟨p, l, e, R, s, m, args, below, meth, c, Q, Z⟩ := G
  intro H locs cells slots ls h1 h2 h3 h4 h5
  exact h p l e R s m args below meth c Q H locs cells slots ls C.1 C.2.1 (fun hp => k1 hp H locs cells slots ls h1 h2 h3 h4 h5) (fun hp => k2 hp H locs cells slots ls h1 h2 h3 h4 h5)
/-- fewer locals are known -/
theorem zz_sub (h : ∀ q ∈ lv', q ∈ lv) (k : zz_T G nL M bc bs pc lv' st) : zz_T G nL M bc bs pc lv st := by
  obtain ⟨p, l, e, R, s, m, args, below, meth, c, Q, Z⟩ := G
  intro H locs cells slots ls h1 h2 h3 h4 h5
  exact k H locs cells slots ls h1 h2 h3 h4 ⟨h5.1, h5.2.1, fun q hq => h5.2.2 q (h q hq)⟩
end ZROW
