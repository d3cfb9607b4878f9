/-! the pure words of memory, and their rows -/
def zz_fld (Z : zzG) (M : zzM) (r : Option Nat) (cs : List Nat) (k : Nat) : Option Value := match r with
  | none => none
  | some a => match zz_LO Z M a with
    | some (_, t, fs) => if t ∈ cs then fs[k]? else none
    | none => none
def zgI (Z : zzG) (M : zzM) (r : Option Nat) (cs : List Nat) (k : Nat) (K : Int32 → Prop) : Prop := match zz_fld Z M r cs k with
  | some (.int x) => K x
  | _ => False
def zgJ (Z : zzG) (M : zzM) (r : Option Nat) (cs : List Nat) (k : Nat) (K : Int64 → Prop) : Prop := match zz_fld Z M r cs k with
  | some (.long x) => K x
  | _ => False
def zgA (Z : zzG) (M : zzM) (r : Option Nat) (cs : List Nat) (k : Nat) (K : Option Nat → Prop) : Prop := match zz_fld Z M r cs k with
  | some (.ref a) => K (some a)
  | some .null => K none
  | _ => False
def zput (Z : zzG) (M : zzM) (r : Option Nat) (cs : List Nat) (k : Nat) (v : Value) (K : zzM → Prop) : Prop := match r with
  | none => False
  | some a => match zz_L Z M a with
    | some (true, t, fs) => t ∈ cs ∧ k < fs.length ∧ K (zz_up M a (t, fs.set k v))
    | _ => False
def zfit (ty : FieldType) (x : Int32) : Prop := narrow ty (.int x) = .int x ∧ fits ty (.int x) = true
def zz_el (Z : zzG) (M : zzM) (r : Option Nat) (ts : List Nat) (i : Int32) : Option Value := match r with
  | none => none
  | some a => match zz_L Z M a with
    | some (_, t, vs) => if t ∈ ts ∧ ¬ i < 0 then vs[i.toNatClampNeg]? else none
    | none => none
def zaI (Z : zzG) (M : zzM) (r : Option Nat) (ts : List Nat) (i : Int32) (K : Int32 → Prop) : Prop := match zz_el Z M r ts i with
  | some (.int x) => K x
  | _ => False
def zaJ (Z : zzG) (M : zzM) (r : Option Nat) (ts : List Nat) (i : Int32) (K : Int64 → Prop) : Prop := match zz_el Z M r ts i with
  | some (.long x) => K x
  | _ => False
def zaA (Z : zzG) (M : zzM) (r : Option Nat) (ts : List Nat) (i : Int32) (K : Option Nat → Prop) : Prop := match zz_el Z M r ts i with
  | some (.ref a) => K (some a)
  | some .null => K none
  | _ => False
def zast (Z : zzG) (M : zzM) (r : Option Nat) (ts : List Nat) (i : Int32) (v : Value) (K : zzM → Prop) : Prop := match r with
  | none => False
  | some a => match zz_L Z M a with
    | some (true, t, vs) => t ∈ ts ∧ ¬ i < 0 ∧ i.toNatClampNeg < vs.length ∧ K (zz_up M a (t, vs.set i.toNatClampNeg v))
    | _ => False
/-- what may stand in an array of references -/
def zz_may (t c : Nat) : Bool := match t with
  | 103 => decide (c < 29)
  | 104 => decide (c = 24) || decide (c = 25)
  | _ => false
def zastA (Z : zzG) (M : zzM) (r : Option Nat) (i : Int32) (v : Option Nat) (K : zzM → Prop) : Prop := match r with
  | none => False
  | some a => match zz_L Z M a with
    | some (true, t, vs) => (match v with | none => t ∈ [103, 104] | some b => match zz_L Z M b with | some (_, c, _) => zz_may t c = true | none => False) ∧ ¬ i < 0 ∧ i.toNatClampNeg < vs.length ∧ K (zz_up M a (t, vs.set i.toNatClampNeg (va_rf v)))
    | _ => False
def zlen (Z : zzG) (M : zzM) (r : Option Nat) (K : Int32 → Prop) : Prop := match r with
  | none => False
  | some a => match zz_L Z M a with
    | some (_, t, vs) => 100 ≤ t ∧ K (Int32.ofNat vs.length)
    | none => False
def znew (Z : zzG) (M : zzM) (bc bs ci n : Nat) (dv : List Value) (K : Nat → zzM → Nat → Nat → Prop) : Prop := 1 ≤ bc ∧ n ≤ bs ∧ ∀ q : Nat, zz_L Z M q = none → zz_fr Z q → K q (zz_up M q (ci, dv)) (bc - 1) (bs - n)
def znar (Z : zzG) (M : zzM) (bc bs t : Nat) (n : Int32) (dv : Value) (K : Nat → zzM → Nat → Nat → Prop) : Prop := ¬ n < 0 ∧ n.toNatClampNeg * 8 ≤ 536870912 ∧ 1 ≤ bc ∧ n.toNatClampNeg ≤ bs ∧ ∀ q : Nat, zz_L Z M q = none → zz_fr Z q → K q (zz_up M q (t, List.replicate n.toNatClampNeg dv)) (bc - 1) (bs - n.toNatClampNeg)
def zcast (Z : zzG) (M : zzM) (r : Option Nat) (cs : List Nat) (K : Prop) : Prop := match r with
  | none => K
  | some a => match zz_LO Z M a with
    | some (_, t, _) => t ∈ cs ∧ K
    | none => False
def zinst (Z : zzG) (M : zzM) (r : Option Nat) (cs ns : List Nat) (K : Int32 → Prop) : Prop := match r with
  | none => K 0
  | some a => match zz_LO Z M a with
    | some (_, t, _) => if t ∈ cs then K 1 else if t ∈ ns then K 0 else False
    | none => False
def zty (Z : zzG) (M : zzM) (r : Option Nat) (K : Nat → Prop) : Prop := match r with
  | none => False
  | some a => match zz_LO Z M a with
    | some (_, t, _) => K t
    | none => False
def zthr (Z : zzG) (M : zzM) (r : Option Nat) (cs : List Nat) (K : Nat → Nat → Prop) : Prop := match r with
  | none => False
  | some a => match zz_L Z M a with
    | some (true, t, _) => t ∈ cs ∧ K t a
    | _ => False
/-- field k of the classes cs is the one that the link (ref, name, desc) names -/
def zz_fok (cs : List Nat) (k : Nat) (ref name desc : String) : Prop := ∀ t ∈ cs, ∃ r : vw_C, zzCl t = some r ∧ k < r.2.2 ∧ (r.2.1 k).2.1 = name ∧ (r.2.1 k).2.2.1 = desc ∧ ((r.2.1 k).1 = ref ∨ Cond.sameField ref (r.2.1 k).1 name desc ∈ lw_all)
theorem zz_fok1 {t k : Nat} {ref name desc : String} (r : vw_C) (h1 : zzCl t = some r) (h2 : k < r.2.2) (h3 : (r.2.1 k).2.1 = name) (h4 : (r.2.1 k).2.2.1 = desc) (h5 : (r.2.1 k).1 = ref ∨ Cond.sameField ref (r.2.1 k).1 name desc ∈ lw_all) : zz_fok [t] k ref name desc := by
  intro t' ht
  rw [List.mem_singleton] at ht
  subst ht
  exact ⟨r, h1, h2, h3, h4, h5⟩
theorem zz_fokC {t k : Nat} {cs : List Nat} {ref name desc : String} (h1 : zz_fok [t] k ref name desc) (h2 : zz_fok cs k ref name desc) : zz_fok (t :: cs) k ref name desc := by
  intro t' ht
  rcases List.mem_cons.mp ht with e | e
  · exact h1 t' (by rw [e]; exact List.mem_singleton.mpr rfl)
  · exact h2 t' e
section ZHEAP
variable {G : zzX} {nL : Nat} {M : zzM} {bc bs pc : Nat} {lv : List (Nat × Value)} {rest : List Value} {cc : ByteArray} {own : String}
theorem zz_cls100 {c : Nat} {r : vw_C} (h : zzCl c = some r) : c < 100 := by
  rcases Nat.lt_or_ge c 100 with q | q
  · exact q
  · unfold zzCl at h
    split at h <;> first | omega | cases h
theorem zz_arr100 {t : Nat} {ty : FieldType} (h : zzAr t = some ty) : 100 ≤ t := by
  unfold zzAr at h
  split at h <;> first | omega | cases h
/-- a known field of a known cell, on the machine -/
theorem zz_slot {Z : zzG} {s : State} {args : Array Value} {H : Heap} {b : Bool} {q t k : Nat} {fs : List Value} {cs : List Nat} {ref name desc : String} {v : Value} (hts : ∀ w ∈ lw_all, w.before args s = true) (hS : zz_S Z s) (hf : zz_fok cs k ref name desc) (ht : t ∈ cs) (h : zz_at Z b q (t, fs) H) (hv : fs[k]? = some v) :
    ∃ (cell : Cell) (cf : ClassId) (kf : Class) (fi : Nat) (fd : Field), H[q]? = some cell ∧ cell.vm ≠ .unknown ∧ s.fieldFound? ref name desc = some (cf, kf, fi, fd) ∧ fd.isStatic = false ∧ cell.slots[fd.slot]? = some v := by
  obtain ⟨r, r1, r2, r3, r4, r5⟩ := hf t ht
  obtain ⟨cell, c1, c2, c3, -, -, c6, c7⟩ := h
  rw [if_pos (zz_cls100 r1)] at c7
  obtain ⟨k1, -, -⟩ := hS.2.1 t r r1
  obtain ⟨cf, kf, fi, fd, e1, e2, e3⟩ := k1 k r2
  rw [r3, r4] at e1
  have c3 : cell.vm ≠ .unknown := c3.resolve_left (fun e => by
    have e : t = 34 := e
    subst e
    cases r1
    exact absurd r2 (Nat.not_lt_zero _))
  refine ⟨cell, cf, kf, fi, fd, c1, c3, ?_, e3, by rw [e2]; exact c7.2.1 k v hv⟩
  rcases r5 with r5 | r5
  · rw [← r5]; exact e1
  · exact u_same (hts _ r5) _ e1
theorem zz_get (C : zz_C G cc own nL) {i k : Nat} {a : Nat} {t : Nat} {b : Bool} {fs : List Value} {cs : List Nat} {ref name desc : String} {v : Value} (d : decode cc pc = .ok (.getfield i, 3)) (q : Cond.fieldLink own i ref name desc ∈ lw_all) (hf : zz_fok cs k ref name desc) (hL : zz_LO (zz_Zof G) M a = some (b, t, fs)) (ht : t ∈ cs) (hv : fs[k]? = some v)
    (h : zz_T G nL M bc bs (pc + 3) lv (v :: rest)) : zz_T G nL M bc bs pc lv (.ref a :: rest) := by
  obtain ⟨p, l, e, R, s, m, args, below, meth, c, Q, Z⟩ := G
  obtain ⟨hx, hb, hml, hown, hts, hS, hl⟩ := C
  intro H locs cells slots ls h1 h2 h3 h4 h5
  obtain ⟨cell, cf, kf, fi, fd, c1, c2, c3, c4, c5⟩ := zz_slot hts hS hf ht (h1 _ _ _ (zz_LOr hL)) hv
  exact W.getf hx hb hown (hts _ q) c3 c4 c1 c2 c5 rfl rfl d (h H locs cells slots ls h1 h2 h3 h4 h5)
theorem zz_getN (C : zz_C G cc own nL) {i k : Nat} {a : Nat} {t : Nat} {b : Bool} {fs : List Value} {cs : List Nat} {ref name desc host : String} {v : Value} (d : decode cc pc = .ok (.getfield i, 3)) (q : Cond.fieldLinkNest own i ref name desc host ∈ lw_tbl) (hf : zz_fok cs k ref name desc) (hL : zz_LO (zz_Zof G) M a = some (b, t, fs)) (ht : t ∈ cs) (hv : fs[k]? = some v)
    (h : zz_T G nL M bc bs (pc + 3) lv (v :: rest)) : zz_T G nL M bc bs pc lv (.ref a :: rest) := by
  obtain ⟨p, l, e, R, s, m, args, below, meth, c, Q, Z⟩ := G
  obtain ⟨hx, hb, hml, hown, hts, hS, hl⟩ := C
  intro H locs cells slots ls h1 h2 h3 h4 h5
  obtain ⟨cell, cf, kf, fi, fd, c1, c2, c3, c4, c5⟩ := zz_slot hts hS hf ht (h1 _ _ _ (zz_LOr hL)) hv
  exact va_Wgetf hx hb hown (va_Nw.use (A := args) rfl (hS.2.2.2.1 _ q rfl)) c3 c4 c1 c2 c5 rfl rfl d (h H locs cells slots ls h1 h2 h3 h4 h5)
theorem zz_fldS {Z : zzG} {r : Option Nat} {cs : List Nat} {k : Nat} {v : Value} (h : zz_fld Z M r cs k = some v) : ∃ (a t : Nat) (b : Bool) (fs : List Value), r = some a ∧ zz_LO Z M a = some (b, t, fs) ∧ t ∈ cs ∧ fs[k]? = some v := by
  cases r with
  | none => simp [zz_fld] at h
  | some a =>
    simp only [zz_fld] at h
    split at h
    · rename_i b t fs hL
      split at h
      · exact ⟨a, t, b, fs, rfl, hL, by assumption, h⟩
      · cases h
    · cases h
/-- link of a field, own or a nest mate's -/
def zz_flk (own : String) (i : Nat) (ref name desc : String) : Prop := Cond.fieldLink own i ref name desc ∈ lw_all ∨ ∃ host : String, Cond.fieldLinkNest own i ref name desc host ∈ lw_tbl
theorem zz_getV (C : zz_C G cc own nL) {i k : Nat} {r : Option Nat} {cs : List Nat} {ref name desc : String} {v : Value} (d : decode cc pc = .ok (.getfield i, 3)) (q : zz_flk own i ref name desc) (hf : zz_fok cs k ref name desc) (hw : zz_fld (zz_Zof G) M r cs k = some v)
    (h : zz_T G nL M bc bs (pc + 3) lv (v :: rest)) : zz_T G nL M bc bs pc lv (va_rf r :: rest) := by
  obtain ⟨a, t, b, fs, rfl, hL, ht, hv⟩ := zz_fldS hw
  rcases q with q | ⟨host, q⟩
  · exact zz_get C d q hf hL ht hv h
  · exact zz_getN C d q hf hL ht hv h
theorem zz_getI (C : zz_C G cc own nL) {i k : Nat} {r : Option Nat} {cs : List Nat} {ref name desc : String} {K : Int32 → Prop} (d : decode cc pc = .ok (.getfield i, 3)) (q : zz_flk own i ref name desc) (hf : zz_fok cs k ref name desc) (hw : zgI (zz_Zof G) M r cs k K)
    (h : ∀ x : Int32, K x → zz_T G nL M bc bs (pc + 3) lv (.int x :: rest)) : zz_T G nL M bc bs pc lv (va_rf r :: rest) := by
  unfold zgI at hw
  split at hw
  · rename_i x hv
    exact zz_getV C d q hf hv (h x hw)
  · exact hw.elim
theorem zz_getJ (C : zz_C G cc own nL) {i k : Nat} {r : Option Nat} {cs : List Nat} {ref name desc : String} {K : Int64 → Prop} (d : decode cc pc = .ok (.getfield i, 3)) (q : zz_flk own i ref name desc) (hf : zz_fok cs k ref name desc) (hw : zgJ (zz_Zof G) M r cs k K)
    (h : ∀ x : Int64, K x → zz_T G nL M bc bs (pc + 3) lv (.long x :: rest)) : zz_T G nL M bc bs pc lv (va_rf r :: rest) := by
  unfold zgJ at hw
  split at hw
  · rename_i x hv
    exact zz_getV C d q hf hv (h x hw)
  · exact hw.elim
theorem zz_getA (C : zz_C G cc own nL) {i k : Nat} {r : Option Nat} {cs : List Nat} {ref name desc : String} {K : Option Nat → Prop} (d : decode cc pc = .ok (.getfield i, 3)) (q : zz_flk own i ref name desc) (hf : zz_fok cs k ref name desc) (hw : zgA (zz_Zof G) M r cs k K)
    (h : ∀ x : Option Nat, K x → zz_T G nL M bc bs (pc + 3) lv (va_rf x :: rest)) : zz_T G nL M bc bs pc lv (va_rf r :: rest) := by
  unfold zgA at hw
  split at hw
  · rename_i a hv
    exact zz_getV C d q hf hv (h (some a) hw)
  · rename_i hv
    exact zz_getV C d q hf hv (h none hw)
  · exact hw.elim
/-- the cell behind a write of field k -/
theorem zz_wr {Z : zzG} {s : State} {args : Array Value} {H H1 : Heap} {q t k : Nat} {fs : List Value} {r : vw_C} {v : Value} {cell : Cell} (hts : ∀ w ∈ lw_all, w.before args s = true) (hS : zz_S Z s) (hr : zzCl t = some r) (hm : t < 29) (hk : k < fs.length) (h : zz_at Z true q (t, fs) H) (hc : H[q]? = some cell) (h1 : H1[q]? = some (cell.setSlot (Z.1.2 t k) v)) : zz_at Z true q (t, fs.set k v) H1 := by
  obtain ⟨cell', c1, c2, c3, c4, c5, c6, c7⟩ := h
  cases hc.symm.trans c1
  refine ⟨_, h1, c2, c3, c4, c5, c6, ?_⟩
  rw [if_pos (zz_cls100 hr)] at c7 ⊢
  obtain ⟨⟨r', hr', hl⟩, c8, cm⟩ := c7
  cases hr.symm.trans hr'
  refine ⟨⟨r, hr, by simpa using hl⟩, fun j w hj => ?_, fun _ => cm rfl⟩
  obtain ⟨hin, hnm, hty⟩ := zz_mut hr hm
  obtain ⟨k1, k2, k3⟩ := hS.2.1 t r hr
  by_cases hjk : j = k
  · subst hjk
    rw [List.getElem?_set_self hk] at hj
    cases hj
    have hs : (cell.slots[Z.1.2 t j]?).isSome := by
      rw [c8 j fs[j] (List.getElem?_eq_getElem hk)]
      rfl
    have hlt : Z.1.2 t j < cell.slots.size := by
      rcases Nat.lt_or_ge (Z.1.2 t j) cell.slots.size with g | g
      · exact g
      · rw [Array.getElem?_eq_none g] at hs
        cases hs
    simp [Cell.setSlot, hlt]
  · rw [List.getElem?_set_ne (fun e => hjk e.symm)] at hj
    have hjl : j < r.2.2 := by
      have := (List.getElem?_eq_some_iff.mp hj).1
      rw [hl] at this
      exact this
    have hkl : k < r.2.2 := by rw [← hl]; exact hk
    have hne : Z.1.2 t k ≠ Z.1.2 t j := by
      obtain ⟨_, _, _, fa, hia, ea, _⟩ := k1 k hkl
      obtain ⟨_, _, _, fb, hib, eb, _⟩ := k1 j hjl
      rw [← ea, ← eb]
      refine u_apart (u_lays hts hin hkl) (u_lays hts hin hjl) hia hib ?_
      rw [(State.fieldFound?_type hia (hty k hkl)).1, (State.fieldFound?_type hib (hty j hjl)).1]
      exact hnm k hkl j hjl (fun e => hjk e.symm)
    have := slot_ne cell v hne
    rw [this]
    exact c8 j w hj
theorem zz_putV (C : zz_C G cc own nL) {i k a t : Nat} {fs : List Value} {cs : List Nat} {ref name desc : String} {v : Value} {r : vw_C} (d : decode cc pc = .ok (.putfield i, 3)) (q : zz_flk own i ref name desc) (hf : zz_fok cs k ref name desc) (ht : t ∈ cs) (hr : zzCl t = some r) (hm : t < 29) (hfin : (r.2.1 k).2.2.2 = false) (hn : narrow (zzTy t k) v = v) (hfi : fits (zzTy t k) v = true) (hL : zz_L (zz_Zof G) M a = some (true, t, fs)) (hk : k < fs.length)
    (h : zz_T G nL (zz_up M a (t, fs.set k v)) bc bs (pc + 3) lv rest) : zz_T G nL M bc bs pc lv (v :: .ref a :: rest) := by
  obtain ⟨p, l, e, R, s, m, args, below, meth, c, Q, Z⟩ := G
  obtain ⟨hx, hb, hml, hown, hts, hS, hl⟩ := C
  intro H locs cells slots ls h1 h2 h3 h4 h5
  have hat := h1 _ _ _ (Or.inl hL)
  obtain ⟨cell, cf, kf, fi, fd, c1, c2, c3, c4, c5⟩ := zz_slot hts hS hf ht hat (List.getElem?_eq_getElem hk)
  obtain ⟨cell', c1', -, -, c6, -, c7, -⟩ := id hat
  cases c1.symm.trans c1'
  have c7 := c7.trans zz_clM
  obtain ⟨hin, hnm, hty⟩ := zz_mut hr hm
  obtain ⟨r', r1, r2, r3, r4, r5⟩ := hf t ht
  cases hr.symm.trans r1
  obtain ⟨k1, k2, kC, k3, k4⟩ := hS.2.1 t r hr
  have k4 := k4 (zz_ordM hr hm)
  obtain ⟨cf', kf', fi', fd', e1, e2, e3⟩ := k1 k r2
  have hlay := hts _ (hin _ (u_in_lay r2))
  unfold u_lay at hlay
  rw [if_neg (by rw [hfin]; decide)] at hlay
  have hsd := u_store k2 k3 k4 hlay e1 (hty k r2) hn hfi
  have efd : fd = fd' := by
    have e4 : s.fieldFound? ref name desc = some (cf', kf', fi', fd') := by
      rcases r5 with r5 | r5
      · rw [← r5, ← r3, ← r4]; exact e1
      · rw [r3, r4] at e1
        exact u_same (hts _ r5) _ e1
    have := c3.symm.trans e4
    simp at this
    exact this.2.2.2
  subst efd
  have hlt : fd.slot < cell.slots.size := (Array.getElem?_eq_some_iff.mp c5).1
  have fin : ∀ H' : Heap, H'[a]? = some (cell.setSlot fd.slot v) → H'.size = H.size → (∀ q, q ≠ a → H'[q]? = H[q]?) → W p l e R s m args below meth c H' (locs ++ [⟨a, fd.slot⟩]) cells slots Q (F0 m (pc + 3) ls rest) := by
    intro H' g1 g2 g3
    refine h H' _ cells slots ls (h1.set hL g3 (zz_wr hts hS hr hm hk hat c1 (by rw [← e2]; exact g1))) (h2.put g2 g3 (c6 rfl).2) h3 h4 h5
  rcases q with q | ⟨host, q⟩
  · exact W.putK hx hb (f := fd) ⟨hown, hts _ q, ⟨_, _, _, c3⟩, c4⟩ (by rw [c7]; exact hsd) c1 (c6 rfl).1 hlt rfl rfl d fin
  · exact va_WputK hx hb hown (va_Nw.use (A := args) rfl (hS.2.2.2.1 _ q rfl)) c3 c4 (by rw [c7]; exact hsd) c1 (c6 rfl).1 hlt rfl rfl d fin
/-- putfield: the field's type takes the value -/
def zz_pok (cs : List Nat) (k : Nat) : Prop := ∀ t ∈ cs, t < 29 ∧ ∃ r : vw_C, zzCl t = some r ∧ (r.2.1 k).2.2.2 = false
theorem zz_put (C : zz_C G cc own nL) {i k : Nat} {ro : Option Nat} {cs : List Nat} {ref name desc : String} {v : Value} {K : zzM → Prop} (d : decode cc pc = .ok (.putfield i, 3)) (q : zz_flk own i ref name desc) (hf : zz_fok cs k ref name desc) (hp : zz_pok cs k) (hn : ∀ t ∈ cs, narrow (zzTy t k) v = v ∧ fits (zzTy t k) v = true) (hw : zput (zz_Zof G) M ro cs k v K)
    (h : ∀ M' : zzM, K M' → zz_T G nL M' bc bs (pc + 3) lv rest) : zz_T G nL M bc bs pc lv (v :: va_rf ro :: rest) := by
  unfold zput at hw
  split at hw
  · exact hw.elim
  · rename_i a
    split at hw
    · rename_i t fs hL
      obtain ⟨ht, hk, hK⟩ := hw
      obtain ⟨p1, r, p2, p3⟩ := hp t ht
      exact zz_putV C d q hf ht p2 p1 p3 (hn t ht).1 (hn t ht).2 hL hk (h _ hK)
    · exact hw.elim
end ZHEAP
