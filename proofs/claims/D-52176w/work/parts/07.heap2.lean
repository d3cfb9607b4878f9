theorem q2892 : (Jvm.Cond.castable "DebateHall" "java/lang/Object") ∈ lw_tbl := lw_at lw_m12 172 rfl
theorem q2893 : (Jvm.Cond.castable "DebateHall$Tape" "java/lang/Object") ∈ lw_tbl := lw_at lw_m12 173 rfl
theorem q2894 : (Jvm.Cond.castable "DebateHall$Minutes" "java/lang/Object") ∈ lw_tbl := lw_at lw_m12 174 rfl
theorem q2902 : (Jvm.Cond.castable "DebateHall$Reader" "java/lang/Object") ∈ lw_tbl := lw_at lw_m12 182 rfl
theorem q2903 : (Jvm.Cond.castable "DebateHall$Scanner" "java/lang/Object") ∈ lw_tbl := lw_at lw_m12 183 rfl
theorem q2904 : (Jvm.Cond.castable "DebateHall$Token" "java/lang/Object") ∈ lw_tbl := lw_at lw_m12 184 rfl
theorem q2906 : (Jvm.Cond.castable "DebateHall$Fault" "java/lang/Object") ∈ lw_tbl := lw_at lw_m12 186 rfl
theorem q2907 : (Jvm.Cond.castable "DebateHall$Seat" "java/lang/Object") ∈ lw_tbl := lw_at lw_m12 187 rfl
theorem q2908 : (Jvm.Cond.castable "DebateHall$Claim" "java/lang/Object") ∈ lw_tbl := lw_at lw_m12 188 rfl
theorem q2910 : (Jvm.Cond.castable "DebateHall$Several" "java/lang/Object") ∈ lw_tbl := lw_at lw_m12 190 rfl
theorem q2911 : (Jvm.Cond.castable "DebateHall$Denied" "java/lang/Object") ∈ lw_tbl := lw_at lw_m12 191 rfl
theorem q2912 : (Jvm.Cond.castable "DebateHall$Asked" "java/lang/Object") ∈ lw_tbl := lw_at lw_m12 192 rfl
theorem q2914 : (Jvm.Cond.castable "DebateHall$Thrust" "java/lang/Object") ∈ lw_tbl := lw_at lw_m12 194 rfl
theorem q2916 : (Jvm.Cond.castable "DebateHall$Turn" "java/lang/Object") ∈ lw_tbl := lw_at lw_m12 196 rfl
theorem q2918 : (Jvm.Cond.castable "DebateHall$Speaker" "java/lang/Object") ∈ lw_tbl := lw_at lw_m12 198 rfl
theorem q2922 : (Jvm.Cond.castable "DebateHall$Item" "java/lang/Object") ∈ lw_tbl := lw_at lw_m12 202 rfl
theorem q2898 : (Jvm.Cond.castable "DebateHallModel" "java/lang/Object") ∈ lw_tbl := lw_at lw_m12 178 rfl
theorem q2899 : (Jvm.Cond.castable "DebateHallModel$State" "java/lang/Object") ∈ lw_tbl := lw_at lw_m12 179 rfl
theorem q2895 : (Jvm.Cond.castable "java/util/ArrayList" "java/lang/Object") ∈ lw_tbl := lw_at lw_m12 175 rfl
theorem q2896 : (Jvm.Cond.castable "java/util/HashMap" "java/lang/Object") ∈ lw_tbl := lw_at lw_m12 176 rfl
theorem q2897 : (Jvm.Cond.castable "java/lang/StringBuilder" "java/lang/Object") ∈ lw_tbl := lw_at lw_m12 177 rfl
theorem q2891 : (Jvm.Cond.castable "java/lang/String" "java/lang/Object") ∈ lw_tbl := lw_at lw_m12 171 rfl
theorem q2913 : (Jvm.Cond.castable "java/util/Optional" "java/lang/Object") ∈ lw_tbl := lw_at lw_m12 193 rfl
theorem q2917 : (Jvm.Cond.castable "java/util/ArrayList$Itr" "java/lang/Object") ∈ lw_tbl := lw_at lw_m12 197 rfl
theorem q2890 : (Jvm.Cond.castable "java/util/HashMap$Node" "java/lang/Object") ∈ lw_tbl := lw_at lw_m12 170 rfl
theorem q2921 : (Jvm.Cond.castable "java/util/HashMap$TreeNode" "java/lang/Object") ∈ lw_tbl := lw_at lw_m12 201 rfl
theorem q2900 : (Jvm.Cond.castable "java/lang/IllegalStateException" "java/lang/Object") ∈ lw_tbl := lw_at lw_m12 180 rfl
theorem q2901 : (Jvm.Cond.castable "java/lang/IllegalArgumentException" "java/lang/Object") ∈ lw_tbl := lw_at lw_m12 181 rfl
theorem q2925 : (Jvm.Cond.castable "java/lang/IndexOutOfBoundsException" "java/lang/Object") ∈ lw_tbl := lw_at lw_m12 205 rfl
theorem q2928 : (Jvm.Cond.castable "java/util/HashMap$TreeNode" "java/util/HashMap$Node") ∈ lw_tbl := lw_at lw_m12 208 rfl
theorem zz_mayLt {t c : Nat} (h : zz_may t c = true) : c < 29 := by
  unfold zz_may at h
  split at h
  · exact of_decide_eq_true h
  · rcases Bool.or_eq_true_iff.mp h with h | h
    · rw [of_decide_eq_true h]; decide
    · rw [of_decide_eq_true h]; decide
  · cases h
theorem zz_mayW {t c : Nat} (h : zz_may t c = true) : ∃ (r : vw_C) (E : String), zzCl c = some r ∧ zzAr t = some (.object E) ∧ (Cond.castable r.1 E ∈ lw_tbl ∨ r.1 = E) := by
  by_cases h3 : t = 103
  · subst h3
    have hc : c < 29 := by simpa [zz_may] using h
    match c, hc with
    | 0, _ => exact ⟨_, _, rfl, rfl, Or.inl q2892⟩
    | 1, _ => exact ⟨_, _, rfl, rfl, Or.inl q2893⟩
    | 2, _ => exact ⟨_, _, rfl, rfl, Or.inl q2894⟩
    | 3, _ => exact ⟨_, _, rfl, rfl, Or.inl q2902⟩
    | 4, _ => exact ⟨_, _, rfl, rfl, Or.inl q2903⟩
    | 5, _ => exact ⟨_, _, rfl, rfl, Or.inl q2904⟩
    | 6, _ => exact ⟨_, _, rfl, rfl, Or.inl q2906⟩
    | 7, _ => exact ⟨_, _, rfl, rfl, Or.inl q2907⟩
    | 8, _ => exact ⟨_, _, rfl, rfl, Or.inl q2908⟩
    | 9, _ => exact ⟨_, _, rfl, rfl, Or.inl q2910⟩
    | 10, _ => exact ⟨_, _, rfl, rfl, Or.inl q2911⟩
    | 11, _ => exact ⟨_, _, rfl, rfl, Or.inl q2912⟩
    | 12, _ => exact ⟨_, _, rfl, rfl, Or.inl q2914⟩
    | 13, _ => exact ⟨_, _, rfl, rfl, Or.inl q2916⟩
    | 14, _ => exact ⟨_, _, rfl, rfl, Or.inl q2918⟩
    | 15, _ => exact ⟨_, _, rfl, rfl, Or.inl q2922⟩
    | 16, _ => exact ⟨_, _, rfl, rfl, Or.inl q2898⟩
    | 17, _ => exact ⟨_, _, rfl, rfl, Or.inl q2899⟩
    | 18, _ => exact ⟨_, _, rfl, rfl, Or.inl q2895⟩
    | 19, _ => exact ⟨_, _, rfl, rfl, Or.inl q2896⟩
    | 20, _ => exact ⟨_, _, rfl, rfl, Or.inl q2897⟩
    | 21, _ => exact ⟨_, _, rfl, rfl, Or.inl q2891⟩
    | 22, _ => exact ⟨_, _, rfl, rfl, Or.inl q2913⟩
    | 23, _ => exact ⟨_, _, rfl, rfl, Or.inl q2917⟩
    | 24, _ => exact ⟨_, _, rfl, rfl, Or.inl q2890⟩
    | 25, _ => exact ⟨_, _, rfl, rfl, Or.inl q2921⟩
    | 26, _ => exact ⟨_, _, rfl, rfl, Or.inl q2900⟩
    | 27, _ => exact ⟨_, _, rfl, rfl, Or.inl q2901⟩
    | 28, _ => exact ⟨_, _, rfl, rfl, Or.inl q2925⟩
    | n + 29, hc => exact absurd hc (by omega)
  · by_cases h4 : t = 104
    · subst h4
      have hc : c = 24 ∨ c = 25 := by simpa [zz_may] using h
      rcases hc with rfl | rfl
      · exact ⟨_, _, rfl, rfl, Or.inr rfl⟩
      · exact ⟨_, _, rfl, rfl, Or.inl q2928⟩
    · exfalso
      unfold zz_may at h
      split at h
      · exact h3 rfl
      · exact h4 rfl
      · cases h
section ZHEAP2
variable {G : zzX} {nL : Nat} {M : zzM} {bc bs pc : Nat} {lv : List (Nat × Value)} {rest : List Value} {cc : ByteArray} {own : String}
theorem zz_isArr {s : State} {cA : ClassId} {ty : FieldType} {cell : Cell} (h : ArrOfT s cA ty) (hc : cell.cls = cA) (hv : cell.vm.isStatics = false) : s.isArrayOf cell ty := by
  obtain ⟨-, k, h2, comp, h3⟩ := h 0 (fun _ => .null)
  refine ⟨fun q e => (by rw [e] at hv; cases hv), k, by rw [hc]; exact h2, comp, h3⟩
/-- a known array, on the machine -/
theorem zz_arr {Z : zzG} {s : State} {H : Heap} {b : Bool} {q t : Nat} {vs : List Value} {ty : FieldType} (hS : zz_S Z s) (ht : zzAr t = some ty) (h : zz_at Z b q (t, vs) H) :
    ∃ cell : Cell, H[q]? = some cell ∧ s.isArrayOf cell ty ∧ cell.vm ≠ .unknown ∧ cell.vm.isStatics = false ∧ (b = true → cell.vm = .none ∧ zz_base Z ≤ q) ∧ (b = true → cell.cls = Z.1.1 t) ∧ vs.length ≤ cell.slots.size ∧ cell.slots.size.toInt32 = Int32.ofNat vs.length ∧ (b = true → cell.slots.size = vs.length) ∧ vs.length < 2 ^ 31 ∧ ∀ (k : Nat) (v : Value), vs[k]? = some v → cell.slots[k]? = some v ∧ fits ty v = true := by
  obtain ⟨cell, c1, c2, c3, c4, c5, c6, c7⟩ := h
  rw [if_neg (Nat.not_lt.mpr (zz_arr100 ht))] at c7
  obtain ⟨ty', e1, c8⟩ := c7
  cases ht.symm.trans e1
  have hia : s.isArrayOf cell ty := by
    cases b with
    | true => exact zz_isArr (hS.2.2.1 t ty ht).1 (c6.trans zz_clM) c2
    | false => exact zz_isArr ((hS.2.2.1 t ty ht).2.2 q) (c6.trans (if_neg (fun h => h.elim (fun e => by cases e) (fun h => by have h : t < 100 := h; have := zz_arr100 ht; omega)))) c2
  exact ⟨cell, c1, hia, c3.resolve_left (fun e => by have e : t = 34 := e; have := zz_arr100 ht; omega), c2, c4, (fun hb => by subst hb; exact c6.trans zz_clM), c8⟩
theorem zz_elS {Z : zzG} {r : Option Nat} {ts : List Nat} {i : Int32} {v : Value} (h : zz_el Z M r ts i = some v) : ∃ (a t : Nat) (b : Bool) (vs : List Value), r = some a ∧ zz_L Z M a = some (b, t, vs) ∧ t ∈ ts ∧ ¬ i < 0 ∧ vs[i.toNatClampNeg]? = some v := by
  cases r with
  | none => simp [zz_el] at h
  | some a =>
    simp only [zz_el] at h
    split at h
    · rename_i b t vs hL
      split at h
      · rename_i hc
        exact ⟨a, t, b, vs, rfl, hL, hc.1, hc.2, h⟩
      · cases h
    · cases h
theorem zz_bound {cell : Cell} {vs : List Value} {i : Int32} {v : Value} (h1 : vs.length ≤ cell.slots.size) (h2 : ¬ i < 0) (h3 : vs[i.toNatClampNeg]? = some v) : ¬ (i < 0 ∨ cell.slots.size ≤ i.toNatClampNeg) := by
  have := (List.getElem?_eq_some_iff.mp h3).1
  intro h
  rcases h with h | h
  · exact h2 h
  · omega
theorem zz_iald (C : zz_C G cc own nL) {r : Option Nat} {i : Int32} {K : Int32 → Prop} (d : decode cc pc = .ok (.iaload, 1)) (hw : zaI (zz_Zof G) M r [100] i K) (h : ∀ x : Int32, K x → zz_T G nL M bc bs (pc + 1) lv (.int x :: rest)) : zz_T G nL M bc bs pc lv (.int i :: va_rf r :: rest) := by
  unfold zaI at hw
  split at hw
  · rename_i x hv
    obtain ⟨a, t, b, vs, rfl, hL, ht, hi, hx⟩ := zz_elS hv
    rw [List.mem_singleton] at ht
    subst ht
    have h := h x hw
    obtain ⟨p, l, e, R, s, m, args, below, meth, c, Q, Z⟩ := G
    obtain ⟨hxx, hb, hml, hown, hts, hS, hl⟩ := C
    intro H locs cells slots ls h1 h2 h3 h4 h5
    obtain ⟨cell, c1, c2, c3, c4, c5, c6, c7, c8, c9, c10, c11⟩ := zz_arr hS (ty := .int) rfl (h1 _ _ _ (Or.inl hL))
    exact W.iald hxx hb c1 c2 c3 (zz_bound c7 hi hx) (c11 _ _ hx).1 rfl rfl d (h H locs cells slots ls h1 h2 h3 h4 h5)
  · exact hw.elim
theorem zz_bald (C : zz_C G cc own nL) {r : Option Nat} {i : Int32} {K : Int32 → Prop} (d : decode cc pc = .ok (.baload, 1)) (hw : zaI (zz_Zof G) M r [101] i K) (h : ∀ x : Int32, K x → zz_T G nL M bc bs (pc + 1) lv (.int x :: rest)) : zz_T G nL M bc bs pc lv (.int i :: va_rf r :: rest) := by
  unfold zaI at hw
  split at hw
  · rename_i x hv
    obtain ⟨a, t, b, vs, rfl, hL, ht, hi, hx⟩ := zz_elS hv
    rw [List.mem_singleton] at ht
    subst ht
    have h := h x hw
    obtain ⟨p, l, e, R, s, m, args, below, meth, c, Q, Z⟩ := G
    obtain ⟨hxx, hb, hml, hown, hts, hS, hl⟩ := C
    intro H locs cells slots ls h1 h2 h3 h4 h5
    obtain ⟨cell, c1, c2, c3, c4, c5, c6, c7, c8, c9, c10, c11⟩ := zz_arr hS (ty := .byte) rfl (h1 _ _ _ (Or.inl hL))
    exact W.bald hxx hb c1 c2 c3 (zz_bound c7 hi hx) (c11 _ _ hx).1 rfl rfl d (h H locs cells slots ls h1 h2 h3 h4 h5)
  · exact hw.elim
theorem zz_lald (C : zz_C G cc own nL) {r : Option Nat} {i : Int32} {K : Int64 → Prop} (d : decode cc pc = .ok (.laload, 1)) (hw : zaJ (zz_Zof G) M r [102] i K) (h : ∀ x : Int64, K x → zz_T G nL M bc bs (pc + 1) lv (.long x :: rest)) : zz_T G nL M bc bs pc lv (.int i :: va_rf r :: rest) := by
  unfold zaJ at hw
  split at hw
  · rename_i x hv
    obtain ⟨a, t, b, vs, rfl, hL, ht, hi, hx⟩ := zz_elS hv
    rw [List.mem_singleton] at ht
    subst ht
    have h := h x hw
    obtain ⟨p, l, e, R, s, m, args, below, meth, c, Q, Z⟩ := G
    obtain ⟨hxx, hb, hml, hown, hts, hS, hl⟩ := C
    intro H locs cells slots ls h1 h2 h3 h4 h5
    obtain ⟨cell, c1, c2, c3, c4, c5, c6, c7, c8, c9, c10, c11⟩ := zz_arr hS (ty := .long) rfl (h1 _ _ _ (Or.inl hL))
    exact W.lald hxx hb c1 c2 c3 (zz_bound c7 hi hx) (c11 _ _ hx).1 rfl rfl d (h H locs cells slots ls h1 h2 h3 h4 h5)
  · exact hw.elim
theorem zz_aaldV (C : zz_C G cc own nL) {r : Option Nat} {i : Int32} {v : Value} (d : decode cc pc = .ok (.aaload, 1)) (hw : zz_el (zz_Zof G) M r [103, 104, 105] i = some v) (h : zz_T G nL M bc bs (pc + 1) lv (v :: rest)) : zz_T G nL M bc bs pc lv (.int i :: va_rf r :: rest) := by
  obtain ⟨a, t, b, vs, rfl, hL, ht, hi, hx⟩ := zz_elS hw
  obtain ⟨p, l, e, R, s, m, args, below, meth, c, Q, Z⟩ := G
  obtain ⟨hxx, hb, hml, hown, hts, hS, hl⟩ := C
  intro H locs cells slots ls h1 h2 h3 h4 h5
  have hty : ∃ E : String, zzAr t = some (.object E) := by
    simp only [List.mem_cons, List.not_mem_nil, or_false] at ht
    rcases ht with rfl | rfl | rfl <;> exact ⟨_, rfl⟩
  obtain ⟨E, hty⟩ := hty
  obtain ⟨cell, c1, c2, c3, c4, c5, c6, c7, c8, c9, c10, c11⟩ := zz_arr hS hty (h1 _ _ _ (Or.inl hL))
  exact W.aald hxx hb c1 c2 rfl c3 (zz_bound c7 hi hx) (c11 _ _ hx).1 rfl rfl d (h H locs cells slots ls h1 h2 h3 h4 h5)
theorem zz_aald (C : zz_C G cc own nL) {r : Option Nat} {i : Int32} {K : Option Nat → Prop} (d : decode cc pc = .ok (.aaload, 1)) (hw : zaA (zz_Zof G) M r [103, 104, 105] i K) (h : ∀ x : Option Nat, K x → zz_T G nL M bc bs (pc + 1) lv (va_rf x :: rest)) : zz_T G nL M bc bs pc lv (.int i :: va_rf r :: rest) := by
  unfold zaA at hw
  split at hw
  · rename_i a hv
    exact zz_aaldV C d hv (h (some a) hw)
  · rename_i hv
    exact zz_aaldV C d hv (h none hw)
  · exact hw.elim
theorem zz_alen (C : zz_C G cc own nL) {r : Option Nat} {K : Int32 → Prop} (d : decode cc pc = .ok (.arraylength, 1)) (hw : zlen (zz_Zof G) M r K) (h : ∀ x : Int32, K x → zz_T G nL M bc bs (pc + 1) lv (.int x :: rest)) : zz_T G nL M bc bs pc lv (va_rf r :: rest) := by
  unfold zlen at hw
  split at hw
  · exact hw.elim
  · rename_i a
    split at hw
    · rename_i b t vs hL
      have h := h _ hw.2
      obtain ⟨p, l, e, R, s, m, args, below, meth, c, Q, Z⟩ := G
      obtain ⟨hxx, hb, hml, hown, hts, hS, hl⟩ := C
      intro H locs cells slots ls h1 h2 h3 h4 h5
      have h9 : ∃ ty : FieldType, zzAr t = some ty := by
        obtain ⟨cell, -, -, -, -, -, -, c7⟩ := h1 _ _ _ (Or.inl hL)
        rw [if_neg (Nat.not_lt.mpr hw.1)] at c7
        obtain ⟨ty, e1, -⟩ := c7
        exact ⟨ty, e1⟩
      obtain ⟨ty, hty⟩ := h9
      obtain ⟨cell, c1, c2, c3, c4, c5, c6, c7, c8, c9, c10, c11⟩ := zz_arr hS hty (h1 _ _ _ (Or.inl hL))
      exact W.alen hxx hb c1 c2 c8 rfl rfl d (h H locs cells slots ls h1 h2 h3 h4 h5)
    · exact hw.elim
/-- the array behind a write -/
theorem zz_wrA {Z : zzG} {H H1 : Heap} {q t k : Nat} {vs : List Value} {ty : FieldType} {v : Value} {cell : Cell} (ht : zzAr t = some ty) (h : zz_at Z true q (t, vs) H) (hc : H[q]? = some cell) (h1 : H1[q]? = some (cell.setSlot k v)) (hk : k < vs.length) (hf : fits ty v = true) : zz_at Z true q (t, vs.set k v) H1 := by
  obtain ⟨cell', c1, c2, c3, c4, c5, c6, c7⟩ := h
  cases hc.symm.trans c1
  refine ⟨_, h1, c2, c3, c4, c5, c6, ?_⟩
  rw [if_neg (Nat.not_lt.mpr (zz_arr100 ht))] at c7 ⊢
  obtain ⟨ty', e1, d1, d2, d3, d4, d5⟩ := c7
  cases ht.symm.trans e1
  have hz : (cell.setSlot k v).slots.size = cell.slots.size := by simp [Cell.setSlot]
  refine ⟨ty, ht, by rw [hz]; simpa using d1, by rw [hz]; simpa using d2, fun e => by rw [hz]; simpa using d3 e, by simpa using d4, fun j w hj => ?_⟩
  by_cases hjk : j = k
  · subst hjk
    rw [List.getElem?_set_self hk] at hj
    cases hj
    have hlt : j < cell.slots.size := Nat.lt_of_lt_of_le hk d1
    exact ⟨by simp [Cell.setSlot, hlt], hf⟩
  · rw [List.getElem?_set_ne (fun e => hjk e.symm)] at hj
    have := slot_ne cell v (fun e => hjk e.symm : k ≠ j)
    rw [this]
    exact d5 j w hj
theorem zz_astS {Z : zzG} {r : Option Nat} {ts : List Nat} {i : Int32} {v : Value} {K : zzM → Prop} (h : zast Z M r ts i v K) : ∃ (a t : Nat) (vs : List Value), r = some a ∧ zz_L Z M a = some (true, t, vs) ∧ t ∈ ts ∧ ¬ i < 0 ∧ i.toNatClampNeg < vs.length ∧ K (zz_up M a (t, vs.set i.toNatClampNeg v)) := by
  unfold zast at h
  split at h
  · exact h.elim
  · rename_i a
    split at h
    · rename_i t vs hL
      exact ⟨a, t, vs, rfl, hL, h⟩
    · exact h.elim
theorem zz_bnd2 {n k : Nat} {i : Int32} (h2 : ¬ i < 0) (h3 : i.toNatClampNeg < k) (h : n = k) : ¬ (i < 0 ∨ n ≤ i.toNatClampNeg) := by
  intro q
  rcases q with q | q
  · exact h2 q
  · omega
theorem zz_iast (C : zz_C G cc own nL) {r : Option Nat} {i x : Int32} {K : zzM → Prop} (d : decode cc pc = .ok (.iastore, 1)) (hw : zast (zz_Zof G) M r [100] i (.int x) K) (h : ∀ M' : zzM, K M' → zz_T G nL M' bc bs (pc + 1) lv rest) : zz_T G nL M bc bs pc lv (.int x :: .int i :: va_rf r :: rest) := by
  obtain ⟨a, t, vs, rfl, hL, ht, hi, hlt, hK⟩ := zz_astS hw
  rw [List.mem_singleton] at ht
  subst ht
  have h := h _ hK
  obtain ⟨p, l, e, R, s, m, args, below, meth, c, Q, Z⟩ := G
  obtain ⟨hxx, hb, hml, hown, hts, hS, hl⟩ := C
  intro H locs cells slots ls h1 h2 h3 h4 h5
  have hat := h1 _ _ _ (Or.inl hL)
  obtain ⟨cell, c1, c2, c3, c4, c5, c6, c7, c8, c9, c10, c11⟩ := zz_arr hS (ty := .int) rfl hat
  refine W.iast hxx hb c1 c2 c3 (zz_bnd2 hi hlt (c9 rfl)) rfl rfl d fun H' g1 g2 g3 => ?_
  exact h H' _ cells slots ls (h1.set hL g3 (zz_wrA rfl hat c1 g1 hlt rfl)) (h2.put g2 g3 (c5 rfl).2) h3 h4 h5
theorem zz_last (C : zz_C G cc own nL) {r : Option Nat} {i : Int32} {x : Int64} {K : zzM → Prop} (d : decode cc pc = .ok (.lastore, 1)) (hw : zast (zz_Zof G) M r [102] i (.long x) K) (h : ∀ M' : zzM, K M' → zz_T G nL M' bc bs (pc + 1) lv rest) : zz_T G nL M bc bs pc lv (.long x :: .int i :: va_rf r :: rest) := by
  obtain ⟨a, t, vs, rfl, hL, ht, hi, hlt, hK⟩ := zz_astS hw
  rw [List.mem_singleton] at ht
  subst ht
  have h := h _ hK
  obtain ⟨p, l, e, R, s, m, args, below, meth, c, Q, Z⟩ := G
  obtain ⟨hxx, hb, hml, hown, hts, hS, hl⟩ := C
  intro H locs cells slots ls h1 h2 h3 h4 h5
  have hat := h1 _ _ _ (Or.inl hL)
  obtain ⟨cell, c1, c2, c3, c4, c5, c6, c7, c8, c9, c10, c11⟩ := zz_arr hS (ty := .long) rfl hat
  refine W.last hxx hb c1 c2 c3 (zz_bnd2 hi hlt (c9 rfl)) rfl rfl d fun H' g1 g2 g3 => ?_
  exact h H' _ cells slots ls (h1.set hL g3 (zz_wrA rfl hat c1 g1 hlt rfl)) (h2.put g2 g3 (c5 rfl).2) h3 h4 h5
theorem zz_bast (C : zz_C G cc own nL) {r : Option Nat} {i x : Int32} {K : zzM → Prop} (d : decode cc pc = .ok (.bastore, 1)) (hw : zast (zz_Zof G) M r [101] i (.int x.toInt8.toInt32) K) (h : ∀ M' : zzM, K M' → zz_T G nL M' bc bs (pc + 1) lv rest) : zz_T G nL M bc bs pc lv (.int x :: .int i :: va_rf r :: rest) := by
  obtain ⟨a, t, vs, rfl, hL, ht, hi, hlt, hK⟩ := zz_astS hw
  rw [List.mem_singleton] at ht
  subst ht
  have h := h _ hK
  obtain ⟨p, l, e, R, s, m, args, below, meth, c, Q, Z⟩ := G
  obtain ⟨hxx, hb, hml, hown, hts, hS, hl⟩ := C
  intro H locs cells slots ls h1 h2 h3 h4 h5
  have hat := h1 _ _ _ (Or.inl hL)
  obtain ⟨cell, c1, c2, c3, c4, c5, c6, c7, c8, c9, c10, c11⟩ := zz_arr hS (ty := .byte) rfl hat
  refine W.bast hxx hb c1 c2 c3 (zz_bnd2 hi hlt (c9 rfl)) rfl rfl d fun H' g1 g2 g3 => ?_
  exact h H' _ cells slots ls (h1.set hL g3 (zz_wrA rfl hat c1 g1 hlt (pk_fb x))) (h2.put g2 g3 (c5 rfl).2) h3 h4 h5
theorem zz_aast (C : zz_C G cc own nL) {r v : Option Nat} {i : Int32} {K : zzM → Prop} (d : decode cc pc = .ok (.aastore, 1)) (hw : zastA (zz_Zof G) M r i v K) (h : ∀ M' : zzM, K M' → zz_T G nL M' bc bs (pc + 1) lv rest) : zz_T G nL M bc bs pc lv (va_rf v :: .int i :: va_rf r :: rest) := by
  unfold zastA at hw
  split at hw
  · exact hw.elim
  rename_i a
  split at hw
  rotate_left
  · exact hw.elim
  rename_i t vs hL
  obtain ⟨hv, hi, hlt, hK⟩ := hw
  have h := h _ hK
  obtain ⟨p, l, e, R, s, m, args, below, meth, c, Q, Z⟩ := G
  obtain ⟨hxx, hb, hml, hown, hts, hS, hl⟩ := C
  intro H locs cells slots ls h1 h2 h3 h4 h5
  have hat := h1 _ _ _ (Or.inl hL)
  cases v with
  | none =>
    have ht : ∃ E : String, zzAr t = some (.object E) := by
      simp only [List.mem_cons, List.not_mem_nil, or_false] at hv
      rcases hv with rfl | rfl <;> exact ⟨_, rfl⟩
    obtain ⟨E, ht⟩ := ht
    obtain ⟨cell, c1, c2, c3, c4, c5, c6, c7, c8, c9, c10, c11⟩ := zz_arr hS ht hat
    refine va_WaastN hxx hb c1 c2 c3 (zz_bnd2 hi hlt (c9 rfl)) rfl rfl d fun H' g1 g2 g3 => ?_
    exact h H' _ cells slots ls (h1.set hL g3 (zz_wrA ht hat c1 g1 hlt rfl)) (h2.put g2 g3 (c5 rfl).2) h3 h4 h5
  | some b =>
    dsimp only at hv
    split at hv
    rotate_left
    · exact hv.elim
    rename_i b1 c9t vs9 hLb
    obtain ⟨r9, E, r1, r2, r3⟩ := zz_mayW hv
    obtain ⟨cell, c1, c2, c3, c4, c5, c6, c7, c8, c9, c10, c11⟩ := zz_arr hS r2 hat
    obtain ⟨cellV, d1, d2, d3, d4, d5, d6, d7⟩ := h1 _ _ _ (Or.inl hLb)
    have d6 := d6.trans (zz_clC (zz_cls100 r1))
    obtain ⟨kA, comp, a1, a2, a3, a4⟩ := (hS.2.2.1 t _ r2).2.1
    obtain ⟨k1, k2, kC, k3, k4⟩ := hS.2.1 _ _ r1
    have k4 := k4 (zz_ordM r1 (zz_mayLt hv))
    obtain ⟨kE, hkE, -⟩ := Vm.findClass_spec a3
    have hasg : s.vm.assignable cellV.cls comp = true := by
      rcases r3 with r3 | r3
      · obtain ⟨c0, t0, f1, f2, f3⟩ := Cond.castable_spec (va_Nw.use (A := args) rfl (hS.2.2.2.1 _ r3 rfl))
        have q1 : c0 = cellV.cls := Option.some.inj (f1.symm.trans (by rw [d6]; exact k2))
        have q2 : t0 = comp := Option.some.inj (f2.symm.trans a3)
        rw [← q1, ← q2]
        exact f3
      · have q1 : comp = cellV.cls := Option.some.inj (a3.symm.trans (by rw [← r3, d6]; exact k2))
        rw [q1]
        exact va_assign ⟨by rw [d6]; exact k2, kC, by rw [d6]; exact k3, k4⟩
    refine W.aast hxx hb c1 (fun q e => by rw [e] at c4; cases c4) c3 (by rw [c6 rfl]; exact a1) a2 rfl hkE ⟨hi, by rw [c9 rfl]; exact hlt⟩ d1 (fun q e => by rw [e] at d2; cases d2) (by rw [d6]; exact k3) hasg rfl rfl d fun H' g1 g2 g3 => ?_
    exact h H' _ cells slots ls (h1.set hL g3 (zz_wrA r2 hat c1 g1 hlt rfl)) (h2.put g2 g3 (c5 rfl).2) h3 h4 h5
/-- new: an object of class ci with default fields -/
def zz_dflt (ci : Nat) : List Value := match zzCl ci with
  | some r => (List.range r.2.2).map (fun k => defaultValue (zzTy ci k))
  | none => []
theorem zz_new (C : zz_C G cc own nL) {i ci n : Nat} {r : vw_C} {K : Nat → zzM → Nat → Nat → Prop} {dv : List Value} (d : decode cc pc = .ok (.new i, 3)) (hr : zzCl ci = some r) (hm : ci < 29) (q1 : Cond.classLink own i r.1 ∈ lw_all) (q2 : Cond.instantiable r.1 n ∈ lw_all) (q3 : Cond.initialized r.1 ∈ lw_all) (hdv : zz_dflt ci = dv) (hw : znew (zz_Zof G) M bc bs ci n dv K)
    (h : ∀ (q : Nat) (M' : zzM) (bc' bs' : Nat), K q M' bc' bs' → zz_T G nL M' bc' bs' (pc + 3) lv (va_rf (some q) :: rest)) : zz_T G nL M bc bs pc lv rest := by
  obtain ⟨p, l, e, R, s, m, args, below, meth, c, Q, Z⟩ := G
  obtain ⟨hxx, hb, hml, hown, hts, hS, hl⟩ := C
  intro H locs cells slots ls h1 h2 h3 h4 h5
  obtain ⟨w1, w2, w3⟩ := hw
  obtain ⟨k1, k2, kC, k3, k4⟩ := hS.2.1 ci r hr
  have k4 := k4 (zz_ordM hr hm)
  obtain ⟨hin, hnm, hty⟩ := zz_mut hr hm
  refine W.newcK hxx hb hown (hts _ q1) (hts _ q2) (hts _ q3) rfl d (by omega) (by omega) k2 rfl fun H1 kC' hkC e1 z1 o1 => ?_
  cases k3.symm.trans hkC
  have hfr9 : zz_fr Z H.size := zz_freshS hS h2.1
  have hF := hfr9.1
  have hat : zz_at Z true H.size (ci, dv) H1 := by
    refine ⟨_, e1, rfl, Or.inr (fun e => by cases e), fun _ => ⟨rfl, Nat.le_trans hS.1 h2.1⟩, (fun e => by cases e), zz_clM.symm, ?_⟩
    rw [if_pos (zz_cls100 hr)]
    refine ⟨⟨r, hr, ?_⟩, fun k v hk => ?_, fun _ _ => rfl⟩
    · rw [← hdv]
      simp [zz_dflt, hr]
    · rw [← hdv] at hk
      simp only [zz_dflt, hr, List.getElem?_map, Option.map_eq_some_iff] at hk
      obtain ⟨k', hk1, hk2⟩ := hk
      have hkl : k < r.2.2 := by
        have := (List.getElem?_eq_some_iff.mp hk1).1
        simpa using this
      have hkk : k' = k := by
        rw [List.getElem?_range hkl] at hk1
        exact (Option.some.inj hk1).symm
      subst hkk
      obtain ⟨cf, kf, fi, fd, g1, g2, g3⟩ := k1 k' hkl
      have g4 := (u_facts k2 k3 (u_lays hts hin hkl) g1).2.2
      rw [(State.fieldFound?_type g1 (hty k' hkl)).2] at g4
      rw [← g2, ← hk2]
      exact k2_blank g4
  obtain ⟨g0, g1⟩ := zz_R.push hF h1 (fun x hx => o1 x hx) hat
  exact h _ _ _ _ (w3 H.size g0 hfr9) H1 locs (cells + 1) (slots + n) ls g1 ⟨Nat.le_trans h2.1 (by omega), fun x g2 g3 => (o1 x (Nat.lt_of_lt_of_le g2 h2.1)).trans (h2.2.1 x g2 g3), h2.2.2⟩ (by omega) (by omega) h5
theorem zz_pushA {Z : zzG} {s : State} {H H1 : Heap} {locs : List Loc} {t N : Nat} {ty : FieldType} {dv : Value} {cA : ClassId} (hS : zz_S Z s) (h1 : zz_R Z M H) (h2 : va_S (zz_A Z) s.heap H locs) (ht : zzAr t = some ty) (hcA : cA = Z.1.1 t) (hN : N < 2 ^ 31) (hf : fits ty dv = true)
    (e1 : H1[H.size]? = some (arrV cA N (fun _ => dv))) (z1 : H1.size = H.size + 1) (o1 : ∀ q : Nat, q < H.size → H1[q]? = H[q]?) : zz_L Z M H.size = none ∧ zz_fr Z H.size ∧ zz_R Z (zz_up M H.size (t, List.replicate N dv)) H1 ∧ va_S (zz_A Z) s.heap H1 locs := by
  have hfr9 : zz_fr Z H.size := zz_freshS hS h2.1
  have hF := hfr9.1
  have hat : zz_at Z true H.size (t, List.replicate N dv) H1 := by
    refine ⟨_, e1, rfl, Or.inr (fun e => by cases e), fun _ => ⟨rfl, Nat.le_trans hS.1 h2.1⟩, (fun e => by cases e), hcA.trans zz_clM.symm, ?_⟩
    rw [if_neg (Nat.not_lt.mpr (zz_arr100 ht))]
    refine ⟨ty, ht, by rw [arrV_size]; simp, by rw [arrV_size]; simp, fun _ => by rw [arrV_size]; simp, by simpa using hN, fun k v hk => ?_⟩
    have hk1 : k < N := by
      have := (List.getElem?_eq_some_iff.mp hk).1
      simpa using this
    have hk2 : v = dv := by
      rw [List.getElem?_replicate] at hk
      simp [hk1] at hk
      exact hk.symm
    subst hk2
    exact ⟨arrV_read _ _ hk1, hf⟩
  obtain ⟨g0, g1⟩ := zz_R.push hF h1 (fun x hx => o1 x hx) hat
  exact ⟨g0, hfr9, g1, Nat.le_trans h2.1 (by omega), fun x g2 g3 => (o1 x (Nat.lt_of_lt_of_le g2 h2.1)).trans (h2.2.1 x g2 g3), h2.2.2⟩
theorem zz_n31 {n : Int32} : n.toNatClampNeg < 2 ^ 31 := by
  have := n.toInt_lt
  show n.toInt.toNat < 2 ^ 31
  omega
theorem zz_newar (C : zz_C G cc own nL) {at9 : ArrayType} {t : Nat} {ty : FieldType} {n : Int32} {K : Nat → zzM → Nat → Nat → Prop} (d : decode cc pc = .ok (.newarray at9, 2)) (hty : newarray.typeOf at9 = ty) (ht : zzAr t = some ty) (hcb : componentBytes ty ≤ 8) (hra : ∀ (U : State) (cA : ClassId), va_RA U cA ty → U.vm.findClass ("[" ++ ty.toString) = some cA) (hf : fits ty (defaultValue ty) = true) (q : Cond.arrayClass ty ∈ lw_all) (hw : znar (zz_Zof G) M bc bs t n (defaultValue ty) K)
    (h : ∀ (q : Nat) (M' : zzM) (bc' bs' : Nat), K q M' bc' bs' → zz_T G nL M' bc' bs' (pc + 2) lv (va_rf (some q) :: rest)) : zz_T G nL M bc bs pc lv (.int n :: rest) := by
  subst hty
  obtain ⟨p, l, e, R, s, m, args, below, meth, c, Q, Z⟩ := G
  obtain ⟨hxx, hb, hml, hown, hts, hS, hl⟩ := C
  intro H locs cells slots ls h1 h2 h3 h4 h5
  obtain ⟨w0, w1, w2, w3, w4⟩ := hw
  refine va_newaK hxx hb (hts _ q) rfl d rfl w0 rfl (Nat.le_trans (Nat.mul_le_mul_left _ hcb) w1) (by omega) (by omega) rfl fun H1 cA e1 z1 o1 hAr hNm => ?_
  have hcA : cA = Z.1.1 t := Option.some.inj (hNm.symm.trans (hra _ _ (hS.2.2.1 t _ ht).2.1))
  obtain ⟨g0, gF, g1, g2⟩ := zz_pushA hS h1 h2 ht hcA zz_n31 hf e1 z1 o1
  exact h _ _ _ _ (w4 H.size g0 gF) H1 locs (cells + 1) (slots + n.toNatClampNeg) ls g1 g2 (by omega) (by omega) h5
theorem zz_anewar (C : zz_C G cc own nL) {i t : Nat} {E : String} {n : Int32} {K : Nat → zzM → Nat → Nat → Prop} (d : decode cc pc = .ok (.anewarray i, 3)) (ht : zzAr t = some (.object E)) (q1 : Cond.classLink own i E ∈ lw_all) (q2 : Cond.arrayOver (.object E) ∈ lw_tbl) (hw : znar (zz_Zof G) M bc bs t n .null K)
    (h : ∀ (q : Nat) (M' : zzM) (bc' bs' : Nat), K q M' bc' bs' → zz_T G nL M' bc' bs' (pc + 3) lv (va_rf (some q) :: rest)) : zz_T G nL M bc bs pc lv (.int n :: rest) := by
  obtain ⟨p, l, e, R, s, m, args, below, meth, c, Q, Z⟩ := G
  obtain ⟨hxx, hb, hml, hown, hts, hS, hl⟩ := C
  intro H locs cells slots ls h1 h2 h3 h4 h5
  obtain ⟨w0, w1, w2, w3, w4⟩ := hw
  refine W.anew hxx hb hown (hts _ q1) (va_AO.use (hS.2.2.2.1 _ q2 rfl)) rfl d rfl w0 (by omega) (by omega) (by omega) fun cA kA comp f1 f2 f3 f4 => ?_
  obtain ⟨-, -, -, -, -, f5⟩ := (hS.2.2.1 t _ ht).2.1
  have hcA : cA = Z.1.1 t := Option.some.inj (f1.symm.trans f5)
  generalize hH1 : H.push ({ cls := cA, slots := Array.replicate n.toNatClampNeg .null, vm := .none } : Cell) = H1
  have z1 : H1.size = H.size + 1 := by rw [← hH1, Array.size_push]
  have e1 : H1[H.size]? = some (arrV cA n.toNatClampNeg (fun _ => .null)) := by rw [← hH1, Array.getElem?_push_size, ← arrV_new]
  have o1 : ∀ q : Nat, q < H.size → H1[q]? = H[q]? := fun q hq => by rw [← hH1, Array.getElem?_push, if_neg (Nat.ne_of_lt hq)]
  obtain ⟨g0, gF, g1, g2⟩ := zz_pushA hS h1 h2 ht hcA zz_n31 rfl e1 z1 o1
  exact h _ _ _ _ (w4 H.size g0 gF) H1 locs (cells + 1) (slots + n.toNatClampNeg) ls g1 g2 (by omega) (by omega) h5
/-- getstatic -/
theorem zz_gets (C : zz_C G cc own nL) {i j : Nat} {c n de ref : String} {v : Value} (d : decode cc pc = .ok (.getstatic i, 3)) (q : zz_flk own i ref n de) (hs : zzSt j = some (c, n, de)) (href : ref = c ∨ Cond.sameField ref c n de ∈ lw_all) (hv : zzSv (zz_ad (zz_Zof G)) j = v) (h : zz_T G nL M bc bs (pc + 3) lv (v :: rest)) : zz_T G nL M bc bs pc lv rest := by
  obtain ⟨p, l, e, R, s, m, args, below, meth, c9, Q, Z⟩ := G
  obtain ⟨hxx, hb, hml, hown, hts, hS, hl⟩ := C
  intro H locs cells slots ls h1 h2 h3 h4 h5
  have hZ := hS.2.2.2.2.1 j _ hs
  have hv' : zzSv (zz_ad Z) j = v := hv
  rw [hv'] at hZ
  have hsame : ∀ x, s.fieldFound? c n de = some x → s.fieldFound? ref n de = some x := by
    intro x hx
    rcases href with e | e
    · rw [e]; exact hx
    · exact u_same (hts _ e) x hx
  rcases q with q | ⟨host, q⟩
  · exact va_gets hxx hb hZ h2 hown (hts _ q) hsame d (h H locs cells slots ls h1 h2 h3 h4 h5)
  · exact va_getsN hxx hb hZ h2 hown (va_Nw.use (A := args) rfl (hS.2.2.2.1 _ q rfl)) hsame d (h H locs cells slots ls h1 h2 h3 h4 h5)
theorem zz_ldcS (C : zz_C G cc own nL) {i j : Nat} {tx : String} (d : decode cc pc = .ok (.ldc i, 2)) (hs : zzLi j = some (own, i, tx)) (h : zz_T G nL M bc bs (pc + 2) lv (va_rf (some (zz_ad (zz_Zof G) (100 + j))) :: rest)) : zz_T G nL M bc bs pc lv rest := by
  obtain ⟨p, l, e, R, s, m, args, below, meth, c9, Q, Z⟩ := G
  obtain ⟨hxx, hb, hml, hown, hts, hS, hl⟩ := C
  intro H locs cells slots ls h1 h2 h3 h4 h5
  exact va_ldcS hxx hb hown (hS.2.2.2.2.2.1 j _ hs) d (h H locs cells slots ls h1 h2 h3 h4 h5)
theorem zz_ldcM (C : zz_C G cc own nL) {i j : Nat} {cl : String} (d : decode cc pc = .ok (.ldc i, 2)) (q : Cond.classLink own i cl ∈ lw_all) (hs : zzMi j = some cl) (h : zz_T G nL M bc bs (pc + 2) lv (va_rf (some (zz_ad (zz_Zof G) (300 + j))) :: rest)) : zz_T G nL M bc bs pc lv rest := by
  obtain ⟨p, l, e, R, s, m, args, below, meth, c9, Q, Z⟩ := G
  obtain ⟨hxx, hb, hml, hown, hts, hS, hl⟩ := C
  intro H locs cells slots ls h1 h2 h3 h4 h5
  exact va_ldcM hxx hb hown (hts _ q) (hS.2.2.2.2.2.2.1 j _ hs) d (h H locs cells slots ls h1 h2 h3 h4 h5)
/-- the receiver of a call, a cast -/
theorem zz_rcv {Z : zzG} {s : State} {H : Heap} {b : Bool} {q t : Nat} {fs : List Value} {r : vw_C} (hS : zz_S Z s) (hr : zzCl t = some r) (h : zz_at Z b q (t, fs) H) : ∃ cell : Cell, H[q]? = some cell ∧ cell.vm.isStatics = false ∧ s.vm.findClass r.1 = some cell.cls := by
  obtain ⟨cell, c1, c2, -, -, -, c6, -⟩ := h
  exact ⟨cell, c1, c2, by rw [c6, zz_clC (zz_cls100 hr)]; exact (hS.2.1 t r hr).2.1⟩
/-- every class of the list is castable to the class -/
def zz_cok (cs : List Nat) (nm : String) : Prop := ∀ t ∈ cs, ∃ r : vw_C, zzCl t = some r ∧ (r.1 = nm ∨ Cond.castable r.1 nm ∈ lw_tbl)
theorem zz_cast (C : zz_C G cc own nL) {i : Nat} {ro : Option Nat} {cs : List Nat} {nm : String} {K : Prop} (d : decode cc pc = .ok (.checkcast i, 3)) (q : Cond.classLink own i nm ∈ lw_all) (hc : zz_cok cs nm) (hw : zcast (zz_Zof G) M ro cs K) (h : K → zz_T G nL M bc bs (pc + 3) lv (va_rf ro :: rest)) : zz_T G nL M bc bs pc lv (va_rf ro :: rest) := by
  cases ro with
  | none =>
    have h := h hw
    obtain ⟨p, l, e, R, s, m, args, below, meth, c9, Q, Z⟩ := G
    obtain ⟨hxx, hb, hml, hown, hts, hS, hl⟩ := C
    intro H locs cells slots ls h1 h2 h3 h4 h5
    exact lv_castN hxx hb d (h H locs cells slots ls h1 h2 h3 h4 h5)
  | some a =>
    simp only [zcast] at hw
    split at hw
    rotate_left
    · exact hw.elim
    rename_i b t vs hL
    have h := h hw.2
    obtain ⟨p, l, e, R, s, m, args, below, meth, c9, Q, Z⟩ := G
    obtain ⟨hxx, hb, hml, hown, hts, hS, hl⟩ := C
    intro H locs cells slots ls h1 h2 h3 h4 h5
    obtain ⟨r, r1, r2⟩ := hc t hw.1
    have hr := zz_rcv hS r1 (h1 _ _ _ (zz_LOr hL))
    rcases r2 with r2 | r2
    · subst r2
      exact va_castE hxx hb hown (hts _ q) hr d (h H locs cells slots ls h1 h2 h3 h4 h5)
    · exact va_castY hxx hb hown (hts _ q) (hS.2.2.2.1 _ r2 rfl) hr d (h H locs cells slots ls h1 h2 h3 h4 h5)
def zz_nok (ns : List Nat) (nm : String) : Prop := ∀ t ∈ ns, ∃ r : vw_C, zzCl t = some r ∧ (r.1, nm) ∈ zzNc
theorem zz_inst (C : zz_C G cc own nL) {i : Nat} {ro : Option Nat} {cs ns : List Nat} {nm : String} {K : Int32 → Prop} (d : decode cc pc = .ok (.instanceof i, 3)) (q : Cond.classLink own i nm ∈ lw_all) (hc : zz_cok cs nm) (hn : zz_nok ns nm) (hw : zinst (zz_Zof G) M ro cs ns K) (h : ∀ x : Int32, K x → zz_T G nL M bc bs (pc + 3) lv (.int x :: rest)) : zz_T G nL M bc bs pc lv (va_rf ro :: rest) := by
  cases ro with
  | none =>
    have h := h 0 hw
    obtain ⟨p, l, e, R, s, m, args, below, meth, c9, Q, Z⟩ := G
    obtain ⟨hxx, hb, hml, hown, hts, hS, hl⟩ := C
    intro H locs cells slots ls h1 h2 h3 h4 h5
    exact lv_instN hxx hb d (h H locs cells slots ls h1 h2 h3 h4 h5)
  | some a =>
    simp only [zinst] at hw
    split at hw
    rotate_left
    · exact hw.elim
    rename_i b t vs hL
    split at hw
    · rename_i htc
      have h := h 1 hw
      obtain ⟨p, l, e, R, s, m, args, below, meth, c9, Q, Z⟩ := G
      obtain ⟨hxx, hb, hml, hown, hts, hS, hl⟩ := C
      intro H locs cells slots ls h1 h2 h3 h4 h5
      obtain ⟨r, r1, r2⟩ := hc t htc
      have hr := zz_rcv hS r1 (h1 _ _ _ (zz_LOr hL))
      rcases r2 with r2 | r2
      · subst r2
        exact va_instE hxx hb hown (hts _ q) hr d (h H locs cells slots ls h1 h2 h3 h4 h5)
      · exact va_instY hxx hb hown (hts _ q) (hS.2.2.2.1 _ r2 rfl) hr d (h H locs cells slots ls h1 h2 h3 h4 h5)
    · split at hw
      · rename_i htn
        have h := h 0 hw
        obtain ⟨p, l, e, R, s, m, args, below, meth, c9, Q, Z⟩ := G
        obtain ⟨hxx, hb, hml, hown, hts, hS, hl⟩ := C
        intro H locs cells slots ls h1 h2 h3 h4 h5
        obtain ⟨r, r1, r2⟩ := hn t htn
        exact va_instNo hxx hb hown (hts _ q) (hS.2.2.2.2.2.2.2.2.1 _ r2) (zz_rcv hS r1 (h1 _ _ _ (zz_LOr hL))) d (h H locs cells slots ls h1 h2 h3 h4 h5)
      · exact hw.elim
/-- a final field, in the constructor of its own class -/
def zz_meth (G : zzX) : Method := G.2.2.2.2.2.2.2.2.1
def zz_pokF (cs : List Nat) (k : Nat) (own : String) : Prop := ∀ t ∈ cs, t < 29 ∧ ∃ r : vw_C, zzCl t = some r ∧ (r.2.1 k).2.2.2 = true ∧ (r.2.1 k).1 = own
theorem zz_putF (C : zz_C G cc own nL) {i k : Nat} {ro : Option Nat} {cs : List Nat} {ref name desc : String} {v : Value} {K : zzM → Prop} (hin9 : (zz_meth G).name = "<init>") (d : decode cc pc = .ok (.putfield i, 3)) (q : Cond.fieldLink own i ref name desc ∈ lw_all) (hf : zz_fok cs k ref name desc) (hp : zz_pokF cs k own) (hn : ∀ t ∈ cs, narrow (zzTy t k) v = v ∧ fits (zzTy t k) v = true) (hw : zput (zz_Zof G) M ro cs k v K)
    (h : ∀ M' : zzM, K M' → zz_T G nL M' bc bs (pc + 3) lv rest) : zz_T G nL M bc bs pc lv (v :: va_rf ro :: rest) := by
  unfold zput at hw
  split at hw
  · exact hw.elim
  rename_i a
  split at hw
  rotate_left
  · exact hw.elim
  rename_i t fs hL
  obtain ⟨ht, hk, hK⟩ := hw
  obtain ⟨hm, r, hr, hfin, hdecl⟩ := hp t ht
  have h := h _ hK
  obtain ⟨p, l, e, R, s, m, args, below, meth, c, Q, Z⟩ := G
  obtain ⟨hx, hb, hml, hown, hts, hS, hl⟩ := C
  intro H locs cells slots ls h1 h2 h3 h4 h5
  have hat := h1 _ _ _ (Or.inl hL)
  obtain ⟨cell, cf, kf, fi, fd, c1, c2, c3, c4, c5⟩ := zz_slot hts hS hf ht hat (List.getElem?_eq_getElem hk)
  obtain ⟨cell', c1', -, -, c6, -, c7, -⟩ := id hat
  cases c1.symm.trans c1'
  have c7 := c7.trans zz_clM
  obtain ⟨hin, hnm, hty⟩ := zz_mut hr hm
  obtain ⟨r', r1, r2, r3, r4, r5⟩ := hf t ht
  cases hr.symm.trans r1
  obtain ⟨k1, k2, kC, k3, k4⟩ := hS.2.1 t r hr
  have k4 := k4 (zz_ordM hr hm)
  obtain ⟨cf', kf', fi', fd', e1, e2, e3⟩ := k1 k r2
  have hlay := hts _ (hin _ (u_in_lay r2))
  unfold u_lay at hlay
  rw [if_pos hfin] at hlay
  have e4 : s.fieldFound? ref name desc = some (cf', kf', fi', fd') := by
    rcases r5 with r5 | r5
    · rw [← r5, ← r3, ← r4]; exact e1
    · rw [r3, r4] at e1
      exact u_same (hts _ r5) _ e1
  have e5 := c3.symm.trans e4
  simp at e5
  obtain ⟨rfl, rfl, rfl, rfl⟩ := e5
  have hcf : m.cls = cf := by
    obtain ⟨_, _, c', _, _, _, -, -, hf', -, -, -, hown2, -⟩ := Cond.laysFinal_spec hlay
    have e6 : c' = cf := by have := e1.symm.trans hf'; simp at this; exact this.1.symm
    rw [hdecl] at hown2
    rw [← e6]; exact Option.some.inj (hown.symm.trans hown2)
  have h6 := u_fits k2 k3 k4 (Or.inr hlay) e1 (hty k r2) (hn t ht).1 (hn t ht).2
  have hlt : fd.slot < cell.slots.size := (Array.getElem?_eq_some_iff.mp c5).1
  refine W.putFinK hx hb hown (hts _ q) c3 c4 hcf hin9 (by rw [c7]; exact h6) c1 (c6 rfl).1 hlt rfl rfl d fun H' g1 g2 g3 => ?_
  exact h H' _ cells slots ls (h1.set hL g3 (zz_wr hts hS hr hm hk hat c1 (by rw [← e2]; exact g1))) (h2.put g2 g3 (c6 rfl).2) h3 h4 h5
/-- Object.<init> -/
theorem zz_objInit (C : zz_C G cc own nL) {i a : Nat} (d : decode cc pc = .ok (.invokespecial i, 3)) (q1 : Cond.methodLink own i Lib.objectInit ∈ lw_all) (q2 : Cond.instanceMethod Lib.objectInit ∈ lw_all) (q3 : Cond.code Lib.objectInit ⟨#[0xb1]⟩ 1 none ∈ lw_all) (hf : 1 ≤ G.2.2.2.1.frames) (hlo : (rest.map fun v => v.category).sum + 12 ≤ G.2.2.2.1.locals) (h : zz_T G nL M bc bs (pc + 3) lv rest) : zz_T G nL M bc bs pc lv (.ref a :: rest) := by
  obtain ⟨p, l, e, R, s, m, args, below, meth, c, Q, Z⟩ := G
  obtain ⟨hx, hb, hml, hown, hts, hS, hl⟩ := C
  intro H locs cells slots ls h1 h2 h3 h4 h5
  exact W.objInit hx hb hown (hts _ q1) (hts _ q2) (hts _ q3) rfl (by rw [hml]; exact h5.1) rfl d hf (by show 2 * 0 + _ + 12 ≤ _; rw [Nat.mul_zero, Nat.zero_add]; exact hlo) (h H locs cells slots ls h1 h2 h3 h4 h5)
end ZHEAP2
