/-! THE START: the world of the law: zz_S, the frozen cells -/
theorem zl_mem {i : Nat} {c : Cond} (hi : i < 79) {args : Array Value} {s : State} (hq : ∀ c ∈ zs_fl, c.before args s = true) (h : c ∈ zl_conds i) : c.before args s = true := hq c (zl_in i hi c h)
theorem zs_lit {args : Array Value} {s : State} (hq : ∀ c ∈ zs_fl, c.before args s = true) {A : Nat → Prop} (hA : ∀ a : Nat, a < s.heap.size → ¬ A a) : ∃ ad : Nat → Nat × Nat, ∀ i : Nat, i < 79 → (zl_tm i).eval args s none [] s = some (.ref (ad i).1) ∧ va_O "java/lang/String" (ad i).1 A s s.heap ∧ va_OF "java/lang/String" "value" "[B" (.ref (ad i).2) (ad i).1 A s s.heap ∧ va_OF "java/lang/String" "coder" "B" (.int 0) (ad i).1 A s s.heap ∧ va_OF "java/lang/String" "hash" "I" (.int (zl_hash.getD i 0)) (ad i).1 A s s.heap ∧ va_OF "java/lang/String" "hashIsZero" "Z" (.int (zl_hz.getD i 0)) (ad i).1 A s s.heap ∧ va_T .byte (ad i).2 (zl_b i).length (fun j => .int ((zl_b i).getD j 0)) A s s.heap := by
  refine Classical.axiomOfChoice (r := fun i (q : Nat × Nat) => i < 79 → (zl_tm i).eval args s none [] s = some (.ref q.1) ∧ va_O "java/lang/String" q.1 A s s.heap ∧ va_OF "java/lang/String" "value" "[B" (.ref q.2) q.1 A s s.heap ∧ va_OF "java/lang/String" "coder" "B" (.int 0) q.1 A s s.heap ∧ va_OF "java/lang/String" "hash" "I" (.int (zl_hash.getD i 0)) q.1 A s s.heap ∧ va_OF "java/lang/String" "hashIsZero" "Z" (.int (zl_hz.getD i 0)) q.1 A s s.heap ∧ va_T .byte q.2 (zl_b i).length (fun j => .int ((zl_b i).getD j 0)) A s s.heap) fun i => ?_
  by_cases hi : i < 79
  · have hex := zl_mem hi hq (c := .exactly (zl_tm i) "java/lang/String") (by simp [zl_conds])
    have hco := va_eqt (zl_mem hi hq (c := .eq (.field (zl_tm i) "java/lang/String" "coder" "B") (.int 0)) (by simp [zl_conds]))
    have hha := va_eqt (zl_mem hi hq (c := .eq (.field (zl_tm i) "java/lang/String" "hash" "I") (.int (zl_hash.getD i 0))) (by simp [zl_conds]))
    have hhz := va_eqt (zl_mem hi hq (c := .eq (.field (zl_tm i) "java/lang/String" "hashIsZero" "Z") (.int (zl_hz.getD i 0))) (by simp [zl_conds]))
    have har := zl_mem hi hq (c := .arrayOf (.field (zl_tm i) "java/lang/String" "value" "[B") .byte) (by simp [zl_conds])
    have hle := va_eqt (zl_mem hi hq (c := .eq (.length (.field (zl_tm i) "java/lang/String" "value" "[B")) (.int (Int32.ofNat (zl_b i).length))) (by simp [zl_conds]))
    have hel : ∀ j : Nat, j < (zl_b i).length → (Term.elem (.field (zl_tm i) "java/lang/String" "value" "[B") (.int (Int32.ofNat j))).eval args s none [] s = some (.int ((zl_b i).getD j 0)) := fun j hj => va_eqt (zl_mem hi hq (List.mem_append_right _ (List.mem_map.mpr ⟨j, List.mem_range.mpr hj, rfl⟩)))
    obtain ⟨a, c, cA, kA, q1, q2, q3, q4, q5, q6, -⟩ := Cond.exactly_spec (args := args) (first := s) (o := none) (s := s) (idx := []) (t := zl_tm i) (cls := "java/lang/String") hex
    obtain ⟨t, ht, hT⟩ := va_Tof (f := fun j => .int ((zl_b i).getD j 0)) (A := A) (by have := (zl_small i hi).1; omega) har hle hel hA
    exact ⟨(a, t), fun _ => ⟨q1, va_Oof hex q1 hA, vk_OFof q1 ht hA, vk_OFof q1 hco hA, vk_OFof q1 hha hA, vk_OFof q1 hhz hA, hT⟩⟩
  · exact ⟨(0, 0), fun h => absurd h hi⟩
/-! looking up in a list -/
def zs_look (L : List (Nat × zzE)) (q : Nat) : Option zzE := (L.find? fun x => x.1 == q).map fun x => x.2
theorem zs_look1 {L : List (Nat × zzE)} (hu : ∀ p ∈ L, ∀ p' ∈ L, p.1 = p'.1 → p.2 = p'.2) {p : Nat × zzE} (hp : p ∈ L) : zs_look L p.1 = some p.2 := by
  unfold zs_look
  cases h : L.find? fun x => x.1 == p.1 with
  | none =>
    have := List.find?_eq_none.mp h p hp
    simp at this
  | some x =>
    have h1 := List.mem_of_find?_eq_some h
    have h2 := List.find?_some h
    have h3 : x.1 = p.1 := by simpa using h2
    show some x.2 = some p.2
    rw [hu x h1 p hp h3]
theorem zs_look2 {L : List (Nat × zzE)} {q : Nat} {e : zzE} (h : zs_look L q = some e) : (q, e) ∈ L := by
  unfold zs_look at h
  cases h2 : L.find? fun x => x.1 == q with
  | none => rw [h2] at h; cases h
  | some x =>
    rw [h2] at h
    have h1 := List.mem_of_find?_eq_some h2
    have h3 : x.1 = q := by simpa using List.find?_some h2
    cases h
    rw [← h3]
    exact h1
/-! the frozen cells, as the pure law has them -/
def zz_Fro (Z : zzG) (b : Nat) (xs : List Int32) (adV : Nat → Nat) : Prop :=
  (zz_F Z b = some (100, xs.map fun x => .int x) ∧ xs.length ≤ 384 ∧ zz_F Z (zz_ad Z 0) = some (103, []) ∧ zz_F Z (zz_ad Z 7) = some (105, zl_keys.map fun k => .ref (zz_ad Z (100 + k))) ∧ zz_F Z (zz_ad Z 13) = some (102, zl_longs.map fun x => .long x) ∧ zz_F Z (zz_ad Z 11) = some (22, [.null]) ∧
    ∀ i : Nat, i < 79 → zz_F Z (zz_ad Z (100 + i)) = some (21, [.ref (adV i), .int 0, .int (zl_hash.getD i 0), .int (zl_hz.getD i 0)]) ∧ zz_F Z (adV i) = some (101, (zl_b i).map fun x => .int x)) ∧
  zz_E' Z (zz_ad Z 1) = some (33, [.int 0]) ∧ zz_E' Z (zz_ad Z 2) = some (33, [.int 1]) ∧ zz_E' Z (zz_ad Z 3) = some (33, [.int 2]) ∧ zz_E' Z (zz_ad Z 4) = some (33, [.int 3]) ∧ zz_E' Z (zz_ad Z 5) = some (33, [.int 4]) ∧ zz_E' Z (zz_ad Z 6) = some (33, [.int 5]) ∧
  zz_E' Z (zz_ad Z 8) = some (30, [.int 0, .int 10, .int 10]) ∧ zz_E' Z (zz_ad Z 9) = some (31, [.int 1, .int 5, .int 5]) ∧ zz_E' Z (zz_ad Z 10) = some (32, [.int 2, .int 5, .int 5]) ∧ zz_E' Z (zz_ad Z 12) = some (34, []) ∧ ∀ (q : Nat) (e : zzE), zz_F Z q = some e → e.1 < 100 → zz_E' Z q = none
theorem zs_world {s : State} {b L : Nat} {xs : Nat → Int32} (hts : ∀ w ∈ lw_tbl, w.before #[.ref b] s = true) (hq : ∀ c ∈ zs_fl, c.before #[.ref b] s = true) (hX : va_X b L xs s s.heap) (hL : L ≤ 384) : ∃ (Z : zzG) (adV : Nat → Nat), zz_base Z = s.heap.size ∧ zz_S Z s ∧ zz_R Z (fun _ => none) s.heap ∧ zz_Fro Z b ((List.range L).map xs) adV := by
  have htsa : ∀ w ∈ lw_all, w.before #[.ref b] s = true := fun w hw => hts w (lw_all_tbl hw)
  have hA : ∀ a : Nat, a < s.heap.size → ¬ (fun q : Nat => s.heap.size ≤ q) a := fun a h => Nat.not_le.mpr h
  obtain ⟨lt, hlt⟩ := zs_lit hq hA
  obtain ⟨a0, e0, T0⟩ := zs_a0 hq hA
  obtain ⟨a7, e7, T7⟩ := zs_a7 hq hA (adK := fun i => (lt i).1) (fun i hi => (hlt i hi).1)
  obtain ⟨a13, e13, T13⟩ := zs_a13 hq hA
  obtain ⟨a1, e1, O1, f1⟩ := zs_o1 hq hA
  obtain ⟨a2, e2, O2, f2⟩ := zs_o2 hq hA
  obtain ⟨a3, e3, O3, f3⟩ := zs_o3 hq hA
  obtain ⟨a4, e4, O4, f4⟩ := zs_o4 hq hA
  obtain ⟨a5, e5, O5, f5⟩ := zs_o5 hq hA
  obtain ⟨a6, e6, O6, f6⟩ := zs_o6 hq hA
  obtain ⟨a8, e8, O8, f8, g8, h8⟩ := zs_o8 hq hA
  obtain ⟨a9, e9, O9, f9, g9, h9⟩ := zs_o9 hq hA
  obtain ⟨a10, e10, O10, f10, g10, h10⟩ := zs_o10 hq hA
  obtain ⟨a11, e11, O11, f11⟩ := zs_o11 hq hA
  obtain ⟨a12, e12, O12⟩ := zs_o12 hq hA
  obtain ⟨mi, hmi⟩ := zs_ms hq
  obtain ⟨fl, a26, hn⟩ := zs_nul hq
  obtain ⟨kk, hkk⟩ := zs_Ks hq htsa
  obtain ⟨ka, hka⟩ := zs_As hts
  obtain ⟨ad, had⟩ : ∃ ad : Nat → Nat, ad = fun i => if i < 100 then (match i with | 0 => a0 | 1 => a1 | 2 => a2 | 3 => a3 | 4 => a4 | 5 => a5 | 6 => a6 | 7 => a7 | 8 => a8 | 9 => a9 | 10 => a10 | 11 => a11 | 12 => a12 | 13 => a13 | 26 => a26 | _ => 0) else if i < 300 then (lt (i - 100)).1 else if i < 500 then mi (i - 300) else fl := ⟨_, rfl⟩
  have hadL : ∀ i, i < 79 → ad (100 + i) = (lt i).1 := fun i hi => by
    rw [had]
    show (if 100 + i < 100 then _ else if 100 + i < 300 then (lt (100 + i - 100)).1 else _) = _
    rw [if_neg (by omega), if_pos (by omega), show 100 + i - 100 = i by omega]
  have hadM : ∀ i, i < 40 → ad (300 + i) = mi i := fun i hi => by
    rw [had]
    show (if 300 + i < 100 then _ else if 300 + i < 300 then _ else if 300 + i < 500 then mi (300 + i - 300) else _) = _
    rw [if_neg (by omega), if_neg (by omega), if_pos (by omega), show 300 + i - 300 = i by omega]
  obtain ⟨D, hD⟩ : ∃ D : va_G, D = (fun t => if t < 100 then (kk t).1 else ka t, fun t q => if t < 100 then (kk t).2 q else zs_ac s ((zzAr t).getD .int) (ka t) q) := ⟨_, rfl⟩
  have hDK : ∀ (c : Nat) (r : vw_C), zzCl c = some r → zz_K s r.1 r.2.1 r.2.2 (D.1 c) (D.2 c) := fun c r hr => by
    have h := hkk c r hr
    have hc := zz_cls100 hr
    rw [hD]
    show zz_K s r.1 r.2.1 r.2.2 (if c < 100 then (kk c).1 else ka c) (fun q => if c < 100 then (kk c).2 q else _)
    simp only [if_pos hc]
    exact h
  have hD1 : ∀ (t : Nat) (ty : FieldType), zzAr t = some ty → D.1 t = ka t := fun t ty h => by
    rw [hD]
    exact if_neg (Nat.not_lt.mpr (zz_arr100 h))
  have hD2 : ∀ (t : Nat) (ty : FieldType), zzAr t = some ty → ∀ q, D.2 t q = zs_ac s ty (ka t) q := fun t ty h q => by
    rw [hD]
    show (if t < 100 then _ else zs_ac s ((zzAr t).getD .int) (ka t) q) = _
    rw [if_neg (Nat.not_lt.mpr (zz_arr100 h)), h]
    rfl
  obtain ⟨LF, hLF⟩ : ∃ LF : List (Nat × zzE), LF = [(b, (100, ((List.range L).map xs).map fun x => .int x)), (a0, (103, [])), (a7, (105, zl_keys.map fun k => .ref (lt k).1)), (a13, (102, zl_longs.map fun x => .long x)), (a11, (22, [.null]))] ++ ((List.range 79).map (fun i => ((lt i).1, ((21, [.ref (lt i).2, .int 0, .int (zl_hash.getD i 0), .int (zl_hz.getD i 0)]) : zzE))) ++ (List.range 79).map (fun i => ((lt i).2, ((101, (zl_b i).map fun x => .int x) : zzE)))) := ⟨_, rfl⟩
  obtain ⟨LE, hLE⟩ : ∃ LE : List (Nat × zzE), LE = [(a1, (33, [.int 0])), (a2, (33, [.int 1])), (a3, (33, [.int 2])), (a4, (33, [.int 3])), (a5, (33, [.int 4])), (a6, (33, [.int 5])), (a8, (30, [.int 0, .int 10, .int 10])), (a9, (31, [.int 1, .int 5, .int 5])), (a10, (32, [.int 2, .int 5, .int 5])), (a12, (34, []))] := ⟨_, rfl⟩
  obtain ⟨F, hF⟩ : ∃ F : Nat → Option zzE, F = fun n => if n % 2 = 0 then zs_look LF (n / 2) else zs_look LE (n / 2) := ⟨_, rfl⟩
  have hFF : ∀ q, zz_F (D, s.heap.size, ad, F) q = zs_look LF q := fun q => by
    show F (2 * q) = _
    rw [hF]
    show (if 2 * q % 2 = 0 then zs_look LF (2 * q / 2) else _) = _
    rw [if_pos (by omega), show 2 * q / 2 = q by omega]
  have hEE : ∀ q, zz_E' (D, s.heap.size, ad, F) q = zs_look LE q := fun q => by
    show F (2 * q + 1) = _
    rw [hF]
    show (if (2 * q + 1) % 2 = 0 then _ else zs_look LE ((2 * q + 1) / 2)) = _
    rw [if_neg (by omega), show (2 * q + 1) / 2 = q by omega]
  have hac : ∀ (t : Nat) (ty : FieldType), zzAr t = some ty → ∀ (a : Nat) (cell : Cell), s.heap[a]? = some cell → s.isArrayOf cell ty → cell.cls = D.2 t a := fun t ty h a cell h1 h2 => (zs_ac1 h1 h2).trans (hD2 t ty h a).symm
  have hobj1 : ∀ (c a : Nat) (r : vw_C) (o n d : String) (v : Value), zzCl c = some r → va_O r.1 a (fun q : Nat => s.heap.size ≤ q) s s.heap → r.2.2 = 1 → r.2.1 0 = (o, n, d, true) ∨ r.2.1 0 = (o, n, d, false) → va_OF o n d v a (fun q : Nat => s.heap.size ≤ q) s s.heap → zz_at (D, s.heap.size, ad, F) false a (c, [v]) s.heap := fun c a r o n d v hr hO h1 h2 hf => zs_obj hr (hDK c r hr) hO h1.symm (fun k w hk => by
      have hk0 : k = 0 := by
        have := (List.getElem?_eq_some_iff.mp hk).1
        simpa using this
      subst hk0
      cases hk
      rcases h2 with h2 | h2 <;> (rw [h2]; exact hf)) (Or.inr (by simp))
  have hobj3 : ∀ (c a : Nat) (r : vw_C) (v0 v1 v2 : Value), zzCl c = some r → va_O r.1 a (fun q : Nat => s.heap.size ≤ q) s s.heap → r.2.2 = 3 → va_OF (r.2.1 0).1 (r.2.1 0).2.1 (r.2.1 0).2.2.1 v0 a (fun q : Nat => s.heap.size ≤ q) s s.heap → va_OF (r.2.1 1).1 (r.2.1 1).2.1 (r.2.1 1).2.2.1 v1 a (fun q : Nat => s.heap.size ≤ q) s s.heap → va_OF (r.2.1 2).1 (r.2.1 2).2.1 (r.2.1 2).2.2.1 v2 a (fun q : Nat => s.heap.size ≤ q) s s.heap → zz_at (D, s.heap.size, ad, F) false a (c, [v0, v1, v2]) s.heap := fun c a r v0 v1 v2 hr hO h1 k0 k1 k2 => zs_obj hr (hDK c r hr) hO h1.symm (fun k w hk => by
      have hk3 : k < 3 := (List.getElem?_eq_some_iff.mp hk).1
      match k, hk3 with
      | 0, _ => cases hk; exact k0
      | 1, _ => cases hk; exact k1
      | 2, _ => cases hk; exact k2) (Or.inr (by simp))
  have atF : ∀ p ∈ LF, zz_at (D, s.heap.size, ad, F) false p.1 p.2 s.heap ∧ (p.2.1 < 29 ∨ 100 ≤ p.2.1) := by
    intro p hp
    rw [hLF] at hp
    rcases List.mem_append.mp hp with hp | hp
    · simp only [List.mem_cons, List.not_mem_nil, or_false] at hp
      rcases hp with rfl | rfl | rfl | rfl | rfl
      · obtain ⟨scr, x1, x2, x3, x4, x5⟩ := hX
        refine ⟨zs_arr (t := 100) (ty := .int) (N := L) (f := fun j => .int (xs j)) (A := fun q => s.heap.size ≤ q) rfl ⟨scr, x1, x2, x3, by omega, by rw [x4], x5, hA _ (Array.getElem?_eq_some_iff.mp x1).1⟩ (hac 100 .int rfl b) (by omega) (by simp) (fun j hj => by simp [hj]) (fun v hv => ?_), Or.inr (Nat.le_of_ble_eq_true rfl)⟩
        obtain ⟨x, -, rfl⟩ := List.mem_map.mp hv
        rfl
      · exact ⟨zs_arr (t := 103) rfl T0 (hac 103 _ rfl a0) (by decide) rfl (fun j hj => absurd hj (Nat.not_lt_zero j)) (fun v hv => absurd hv List.not_mem_nil), Or.inr (Nat.le_of_ble_eq_true rfl)⟩
      · refine ⟨zs_arr (t := 105) rfl T7 (hac 105 _ rfl a7) (by decide) (by simp [zl_keys]) (fun j hj => ?_) (fun v hv => ?_), Or.inr (Nat.le_of_ble_eq_true rfl)⟩
        · have hj2 : j < zl_keys.length := hj
          simp [List.getElem?_map, List.getElem?_eq_getElem hj2, List.getD_eq_getElem?_getD]
        · obtain ⟨x, -, rfl⟩ := List.mem_map.mp hv
          rfl
      · refine ⟨zs_arr (t := 102) rfl T13 (hac 102 _ rfl a13) (by decide) (by simp [zl_longs]) (fun j hj => ?_) (fun v hv => ?_), Or.inr (Nat.le_of_ble_eq_true rfl)⟩
        · have hj2 : j < zl_longs.length := hj
          simp [List.getElem?_map, List.getElem?_eq_getElem hj2, List.getD_eq_getElem?_getD]
        · obtain ⟨x, -, rfl⟩ := List.mem_map.mp hv
          rfl
      · exact ⟨hobj1 22 a11 (zR_22, zT_22, 1) _ _ _ .null rfl O11 rfl (Or.inl rfl) f11, Or.inl (Nat.le_of_ble_eq_true rfl)⟩
    rcases List.mem_append.mp hp with hp | hp
    · obtain ⟨i, hi, rfl⟩ := List.mem_map.mp hp
      have hi := List.mem_range.mp hi
      obtain ⟨z1, z2, z3, z4, z5, z6, z7⟩ := hlt i hi
      exact ⟨zs_obj (r := (zR_21, zT_21, 4)) rfl (hDK 21 _ rfl) z2 rfl (fun k w hk => by
        have hk4 : k < 4 := (List.getElem?_eq_some_iff.mp hk).1
        match k, hk4 with
        | 0, _ => cases hk; exact z3
        | 1, _ => cases hk; exact z4
        | 2, _ => cases hk; exact z5
        | 3, _ => cases hk; exact z6) (Or.inr (by simp)), Or.inl (Nat.le_of_ble_eq_true rfl)⟩
    · obtain ⟨i, hi, rfl⟩ := List.mem_map.mp hp
      have hi := List.mem_range.mp hi
      obtain ⟨z1, z2, z3, z4, z5, z6, z7⟩ := hlt i hi
      obtain ⟨y1, y2⟩ := zl_small i hi
      refine ⟨zs_arr (t := 101) (ty := .byte) rfl z7 (hac 101 _ rfl _) (by omega) (by simp) (fun j hj => ?_) (fun v hv => ?_), Or.inr (Nat.le_of_ble_eq_true rfl)⟩
      · simp [List.getElem?_map, List.getElem?_eq_getElem hj, List.getD_eq_getElem?_getD]
      · obtain ⟨x, hx, rfl⟩ := List.mem_map.mp hv
        exact y2 x hx
  have atE : ∀ p ∈ LE, zz_at (D, s.heap.size, ad, F) false p.1 p.2 s.heap ∧ p.2.1 < 100 := by
    intro p hp
    rw [hLE] at hp
    simp only [List.mem_cons, List.not_mem_nil, or_false] at hp
    rcases hp with rfl | rfl | rfl | rfl | rfl | rfl | rfl | rfl | rfl | rfl
    · exact ⟨hobj1 33 a1 (zR_33, zT_33, 1) _ _ _ _ rfl O1 rfl (Or.inl rfl) f1, Nat.le_of_ble_eq_true rfl⟩
    · exact ⟨hobj1 33 a2 (zR_33, zT_33, 1) _ _ _ _ rfl O2 rfl (Or.inl rfl) f2, Nat.le_of_ble_eq_true rfl⟩
    · exact ⟨hobj1 33 a3 (zR_33, zT_33, 1) _ _ _ _ rfl O3 rfl (Or.inl rfl) f3, Nat.le_of_ble_eq_true rfl⟩
    · exact ⟨hobj1 33 a4 (zR_33, zT_33, 1) _ _ _ _ rfl O4 rfl (Or.inl rfl) f4, Nat.le_of_ble_eq_true rfl⟩
    · exact ⟨hobj1 33 a5 (zR_33, zT_33, 1) _ _ _ _ rfl O5 rfl (Or.inl rfl) f5, Nat.le_of_ble_eq_true rfl⟩
    · exact ⟨hobj1 33 a6 (zR_33, zT_33, 1) _ _ _ _ rfl O6 rfl (Or.inl rfl) f6, Nat.le_of_ble_eq_true rfl⟩
    · exact ⟨hobj3 30 a8 (zR_30, zT_30, 3) _ _ _ rfl O8 rfl f8 g8 h8, Nat.le_of_ble_eq_true rfl⟩
    · exact ⟨hobj3 31 a9 (zR_31, zT_31, 3) _ _ _ rfl O9 rfl f9 g9 h9, Nat.le_of_ble_eq_true rfl⟩
    · exact ⟨hobj3 32 a10 (zR_32, zT_32, 3) _ _ _ rfl O10 rfl f10 g10 h10, Nat.le_of_ble_eq_true rfl⟩
    · exact ⟨zs_obj (r := (zR_34, zT_34, 0)) rfl (hDK 34 _ rfl) O12 rfl (fun k v hk => by simp at hk) (Or.inl rfl), Nat.le_of_ble_eq_true rfl⟩
  have hAr : ∀ (t : Nat) (ty : FieldType), zzAr t = some ty → ∀ q, ArrOfT s (D.2 t q) ty := fun t ty h q => by
    rw [hD2 t ty h q]
    exact zs_ac2 (hka t ty h).1 q
  have uF : ∀ p ∈ LF, ∀ p' ∈ LF, p.1 = p'.1 → p.2 = p'.2 := fun p hp p' hp' he => by
    obtain ⟨x1, x2⟩ := atF p hp
    obtain ⟨y1, y2⟩ := atF p' hp'
    rw [← he] at y1
    exact zs_uniq (Z := (D, s.heap.size, ad, F)) hDK hAr x1 y1 (by omega) (by omega)
  have uE : ∀ p ∈ LE, ∀ p' ∈ LE, p.1 = p'.1 → p.2 = p'.2 := fun p hp p' hp' he => by
    obtain ⟨x1, x2⟩ := atE p hp
    obtain ⟨y1, y2⟩ := atE p' hp'
    rw [← he] at y1
    exact zs_uniq (Z := (D, s.heap.size, ad, F)) hDK hAr x1 y1 (by omega) (by omega)
  have atAll : ∀ (q : Nat) (e : zzE), (zz_F (D, s.heap.size, ad, F) q = some e ∨ zz_E' (D, s.heap.size, ad, F) q = some e) → zz_at (D, s.heap.size, ad, F) false q e s.heap := fun q e h => by
    rcases h with h | h
    · rw [hFF] at h
      exact (atF _ (zs_look2 h)).1
    · rw [hEE] at h
      exact (atE _ (zs_look2 h)).1
  refine ⟨(D, s.heap.size, ad, F), fun i => (lt i).2, rfl, ?_, ?_, ?_⟩
  · refine ⟨Nat.le_refl _, hDK, fun t ty ht => ⟨by show ArrOfT s (D.1 t) ty; rw [hD1 t ty ht]; exact (hka t ty ht).1, by show va_RA s (D.1 t) ty; rw [hD1 t ty ht]; exact (hka t ty ht).2, hAr t ty ht⟩, fun w hw hn => ?_, ?_, ?_, ?_, zs_if hts, zs_nc hq, zs_xs hts, ?_, ?_, fun q e h => ?_⟩
    · cases w with
      | arrayOver ty =>
        cases ty with
        | object C => exact va_AO.of (hts _ hw)
        | _ => cases hn
      | fieldLinkNest => exact va_Nw.of rfl (hts _ hw)
      | methodLinkNest => exact va_Nw.of rfl (hts _ hw)
      | castable => exact va_Nw.of rfl (hts _ hw)
      | declares => exact va_Nw.of rfl (hts _ hw)
      | _ => cases hn
    · refine zs_st hq hts (A := zz_A (D, s.heap.size, ad, F)) hA (ad := ad) (fun j r hr hj => ?_) ?_
      · match j, hr, hj with
        | 0, hr, _ => cases hr; rw [had]; exact e0
        | 1, hr, _ => cases hr; rw [had]; exact e1
        | 2, hr, _ => cases hr; rw [had]; exact e2
        | 3, hr, _ => cases hr; rw [had]; exact e3
        | 4, hr, _ => cases hr; rw [had]; exact e4
        | 5, hr, _ => cases hr; rw [had]; exact e5
        | 6, hr, _ => cases hr; rw [had]; exact e6
        | 7, hr, _ => cases hr; rw [had]; exact e7
        | 8, hr, _ => cases hr; rw [had]; exact e8
        | 9, hr, _ => cases hr; rw [had]; exact e9
        | 10, hr, _ => cases hr; rw [had]; exact e10
        | 11, hr, _ => cases hr; rw [had]; exact e11
        | 12, hr, _ => cases hr; rw [had]; exact e12
        | 13, hr, _ => cases hr; rw [had]; exact e13
        | n + 14, _, h => omega
      · rw [had]
        exact hn
    · intro i r hr
      have hi : i < 79 := by
        unfold zzLi at hr
        split at hr <;> first | omega | cases hr
      have h := zs_ls hts (adK := fun i => (lt i).1) (fun i hi => (hlt i hi).1) i r hr
      show vk_R r.1 r.2.1 r.2.2 (ad (100 + i)) s
      rw [hadL i hi]
      exact h
    · intro i C hC
      have hi : i < 40 := by
        unfold zzMi at hC
        split at hC <;> first | omega | cases hC
      show va_Mi C (ad (300 + i)) s
      rw [hadM i hi]
      exact hmi i C hC
    · exact zs_zq_UNA hq hts hA
    · exact zs_zq_SUP hq hts hA
    · exact (atAll q e h).lt
  · intro q bb e h
    rcases h with h | ⟨h1, h2⟩
    · unfold zz_L at h
      split at h
      · rename_i e' he
        cases h
        exact atAll q _ (Or.inl he)
      · cases h
    · subst h1
      exact atAll q e (Or.inr h2)
  · have inF : ∀ p ∈ LF, zz_F (D, s.heap.size, ad, F) p.1 = some p.2 := fun p hp => (hFF p.1).trans (zs_look1 uF hp)
    have inE : ∀ p ∈ LE, zz_E' (D, s.heap.size, ad, F) p.1 = some p.2 := fun p hp => (hEE p.1).trans (zs_look1 uE hp)
    have hadS : ∀ i, i < 100 → zz_ad (D, s.heap.size, ad, F) i = (match i with | 0 => a0 | 1 => a1 | 2 => a2 | 3 => a3 | 4 => a4 | 5 => a5 | 6 => a6 | 7 => a7 | 8 => a8 | 9 => a9 | 10 => a10 | 11 => a11 | 12 => a12 | 13 => a13 | 26 => a26 | _ => 0) := fun i hi => by
      show ad i = _
      rw [had]
      exact if_pos hi
    refine ⟨⟨inF (b, _) (by rw [hLF]; simp), by simpa using hL, ?_, ?_, ?_, ?_, fun i hi => ⟨?_, ?_⟩⟩, ?_, ?_, ?_, ?_, ?_, ?_, ?_, ?_, ?_, ?_, fun q e hf he => ?_⟩
    · rw [hadS 0 (by decide)]; exact inF (a0, _) (by rw [hLF]; simp)
    · rw [hadS 7 (by decide)]
      have hk : (zl_keys.map fun k => Value.ref (zz_ad (D, s.heap.size, ad, F) (100 + k))) = zl_keys.map fun k => Value.ref (lt k).1 := by
        refine List.map_congr_left fun k hk => ?_
        have hk79 : k < 79 := by
          have : ∀ k ∈ zl_keys, k < 79 := by decide
          exact this k hk
        show Value.ref (ad (100 + k)) = _
        rw [hadL k hk79]
      rw [hk]
      exact inF (a7, _) (by rw [hLF]; simp)
    · rw [hadS 13 (by decide)]; exact inF (a13, _) (by rw [hLF]; simp)
    · rw [hadS 11 (by decide)]; exact inF (a11, _) (by rw [hLF]; simp)
    · show zz_F _ (ad (100 + i)) = _
      rw [hadL i hi]
      exact inF ((lt i).1, _) (by rw [hLF]; exact List.mem_append_right _ (List.mem_append_left _ (List.mem_map.mpr ⟨i, List.mem_range.mpr hi, rfl⟩)))
    · exact inF ((lt i).2, _) (by rw [hLF]; exact List.mem_append_right _ (List.mem_append_right _ (List.mem_map.mpr ⟨i, List.mem_range.mpr hi, rfl⟩)))
    · rw [hadS 1 (by decide)]; exact inE (a1, _) (by rw [hLE]; simp)
    · rw [hadS 2 (by decide)]; exact inE (a2, _) (by rw [hLE]; simp)
    · rw [hadS 3 (by decide)]; exact inE (a3, _) (by rw [hLE]; simp)
    · rw [hadS 4 (by decide)]; exact inE (a4, _) (by rw [hLE]; simp)
    · rw [hadS 5 (by decide)]; exact inE (a5, _) (by rw [hLE]; simp)
    · rw [hadS 6 (by decide)]; exact inE (a6, _) (by rw [hLE]; simp)
    · rw [hadS 8 (by decide)]; exact inE (a8, _) (by rw [hLE]; simp)
    · rw [hadS 9 (by decide)]; exact inE (a9, _) (by rw [hLE]; simp)
    · rw [hadS 10 (by decide)]; exact inE (a10, _) (by rw [hLE]; simp)
    · rw [hadS 12 (by decide)]; exact inE (a12, _) (by rw [hLE]; simp)
    · cases hg : zz_E' (D, s.heap.size, ad, F) q with
      | none => rfl
      | some e2 =>
        exfalso
        have x1 := atAll q e (Or.inl hf)
        have x2 := atAll q e2 (Or.inr hg)
        rw [hFF] at hf
        rw [hEE] at hg
        have y1 := (atF _ (zs_look2 hf)).2
        have y2 := zs_look2 hg
        have z2 := (atE _ y2).2
        have he29 : e.1 < 29 := y1.resolve_right (fun h => by
          have h : 100 ≤ e.1 := h
          omega)
        have := zs_uniq (Z := (D, s.heap.size, ad, F)) hDK hAr x1 x2 (Or.inl he29) (Or.inr (Or.inr he))
        subst this
        rw [hLE] at y2
        simp only [List.mem_cons, List.not_mem_nil, or_false, Prod.mk.injEq] at y2
        rcases y2 with ⟨-, rfl⟩ | ⟨-, rfl⟩ | ⟨-, rfl⟩ | ⟨-, rfl⟩ | ⟨-, rfl⟩ | ⟨-, rfl⟩ | ⟨-, rfl⟩ | ⟨-, rfl⟩ | ⟨-, rfl⟩ | ⟨-, rfl⟩ <;> exact absurd he29 (Nat.not_lt.mpr (Nat.le_of_ble_eq_true rfl))
