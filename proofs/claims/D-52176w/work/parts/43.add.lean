/-! PURE LAW: ArrayList.add -/
theorem n_shr1 {c : Nat} (h : c < 2 ^ 31) : Int32.ofNat c >>> ((1 : Int32) &&& 31) = Int32.ofNat (c / 2) := by
  rw [show ((1 : Int32) &&& 31) = 1 by decide]
  have h1 : (Int32.ofNat c >>> (1 : Int32)).toInt = (c : Int) >>> 1 := by
    show (Int32.ofNat c >>> (1 : Int32)).toBitVec.toInt = _
    rw [Int32.toBitVec_shiftRight]
    rw [show ((1 : Int32).toBitVec.smod 32) = 1#32 by decide]
    show ((Int32.ofNat c).toBitVec.sshiftRight 1).toInt = _
    rw [BitVec.toInt_sshiftRight]
    show (Int32.ofNat c).toInt >>> 1 = _
    rw [Int32.toInt_ofNat_of_lt h]
  apply Int32.toInt_inj.mp
  rw [h1, Int32.toInt_ofNat_of_lt (by omega), Int.shiftRight_eq_div_pow]
  omega
theorem n_sub {a b : Nat} (h : b ≤ a) : Int32.ofNat a - Int32.ofNat b = Int32.ofNat (a - b) := by
  have := n_add (a - b) b
  rw [Nat.sub_add_cancel h] at this
  rw [← this]
  simp
def ncap (c : Nat) : Nat := if c = 0 then 10 else c + (if 1 < c / 2 then c / 2 else 1)
theorem ncap_lt (c : Nat) : c < ncap c := by unfold ncap; split <;> (try split) <;> omega
theorem ncap_10 {c : Nat} (h : 10 ≤ c) : 10 ≤ ncap c := Nat.le_trans h (Nat.le_of_lt (ncap_lt c))
theorem ls_snoc {xs : List Nat} {y k : Nat} (h : 1 ≤ k) : (vr xs ++ List.replicate k Value.null).set xs.length (.ref y) = vr (xs ++ [y]) ++ List.replicate (k - 1) Value.null := by
  obtain ⟨j, rfl⟩ : ∃ j, k = j + 1 := ⟨k - 1, by omega⟩
  rw [List.set_append_right _ _ (by simp)]
  simp [List.replicate_succ]
/-- the store at the end, in an array with a place free -/
theorem sp_addB {Z : zzG} {M : zzM} {l la c n y ty bc bs : Nat} {mc : Int32} {gs : List Value} {xs : List Nat} {K : Option Value → zzM → Prop} (hw : zz_wf Z M) (hl : M l = some (18, [.int mc, .ref la, .int (Int32.ofNat xs.length)])) (ha : M la = some (103, vr xs ++ List.replicate (c - xs.length) .null)) (hne : l ≠ la) (hc : xs.length < c) (hc2 : c < 2 ^ 20) (hc3 : 10 ≤ c) (hn : n = xs.length) (hy : M y = some (ty, gs)) (hty : ty < 29)
    (hK : ∀ M', zz_wf Z M' → hList Z M' l la c mc (xs ++ [y]) → (∀ q, q ≠ l → q ≠ la → M' q = M q) → K none M') : wp_J2_add_2_B11 Z K (some l) (some y) (some la) (Int32.ofNat n) M bc bs := by
  subst hn
  refine p_astA (L_m hw ha) (L_m hw hy) (by simp [zz_may, hty]) (n_nn (by omega)) (by rw [n_cl (by omega)]; simp; omega) ?_
  have hw1 := hw.set (e := (103, (vr xs ++ List.replicate (c - xs.length) Value.null).set (Int32.ofNat xs.length).toNatClampNeg (.ref y))) ha
  refine m_put hw1 ((up_n hne).trans hl) (by decide) (Nat.le_of_ble_eq_true rfl) fun hw2 => ?_
  refine hK _ hw2 ⟨up_s.trans ?_, Or.inr ⟨?_, hne, by simp; omega, hc3⟩, hc2⟩ fun q q1 q2 => (up_n q1).trans (up_n q2)
  · show some (18, [Value.int mc, .ref la, .int (Int32.ofNat xs.length + 1)]) = _
    rw [show (1 : Int32) = Int32.ofNat 1 from rfl, n_add, List.length_append]
    rfl
  · rw [up_n (Ne.symm hne), up_s, n_cl (by omega), ls_snoc (by omega), List.length_append]
    show some (103, vr (xs ++ [y]) ++ List.replicate (c - xs.length - 1) Value.null) = some (103, vr (xs ++ [y]) ++ List.replicate (c - (xs.length + 1)) Value.null)
    rw [Nat.sub_sub]
theorem sp_copyOf3 {Z : zzG} {M : zzM} {la c nc bc bs : Nat} {vs : List Value} {K : Option Value → zzM → Prop} (hw : zz_wf Z M) (ha : M la = some (103, vs)) (hv : vs.length = c) (hcn : c ≤ nc) (hn : nc < 2 ^ 20) (h1 : 1 ≤ bc) (h2 : nc ≤ bs) (hel : ∀ v ∈ vs, v = .null ∨ ∃ (y ty : Nat) (f : Bool) (gs : List Value), v = .ref y ∧ zz_L Z M y = some (f, ty, gs) ∧ ty < 29)
    (hK : ∀ (q : Nat) (M' : zzM), M q = none → zz_wf Z M' → M' q = some (103, vs ++ List.replicate (nc - c) .null) → (∀ x, x ≠ q → M' x = M x) → K (some (.ref q)) M') : wp_J17_copyOf_2 Z (some la) (Int32.ofNat nc) M bc bs K := by
  refine p_tyT (L_m hw ha) ⟨rfl, 1, nc, h1, h2, ?_⟩
  show (if some (zz_ad Z 300) = some (zz_ad Z 300) then _ else _)
  rw [if_pos rfl]
  refine p_nar hw (n_nn (by omega)) (by rw [n_cl (by omega)]; omega) (Nat.le_refl _) (by rw [n_cl (by omega)]; exact Nat.le_refl _) fun q hq hf hw => ?_
  rw [n_cl (by omega)] at hw ⊢
  have hne : la ≠ q := fun e => by rw [e, hq] at ha; cases ha
  have ha1 := (up_n (M := M) (e := (103, List.replicate nc Value.null)) hne).trans ha
  refine m_len hw ha1 (by decide) ?_
  show (if Int32.ofNat nc < Int32.ofNat vs.length then _ else _)
  rw [if_neg (fun h => by have := (n_lt (by omega) (by omega)).mp h; omega)]
  show zcopy Z _ (some la) (some q) (0 : Int32) (0 : Int32) (Int32.ofNat vs.length) _
  simp only [zcopy, L_m hw ha1, L_m hw up_s]
  have hcl : (Int32.ofNat vs.length).toNatClampNeg = vs.length := n_cl (by omega)
  have h00 : (0 : Int32).toNatClampNeg = 0 := by decide
  rw [hcl, h00]
  refine ⟨trivial, by decide, by decide, by decide, n_nn (by omega), by omega, by simp; omega, fun _ v hm => ?_, ?_⟩
  · rcases hel v (List.mem_of_mem_drop (List.mem_of_mem_take hm)) with h | ⟨y, ty, f, gs, e1, e2, e3⟩
    · exact Or.inl h
    · refine Or.inr ⟨y, ty, f, gs, e1, ?_, e3⟩
      have hyq : y ≠ q := by
        intro e
        rw [e] at e2
        have : zz_L Z M q = none := by simp [zz_L, hf.1, hq]
        rw [this] at e2
        cases e2
      rw [zz_L_ne hyq]
      exact e2
  · rw [up_up]
    refine hK q _ hq (hw.up hf |> fun h => by rw [up_up] at h; exact h) (up_s.trans ?_) fun x hx => up_n hx
    simp [zz_splice, hv]
    rw [← hv, List.take_length]
/-- a full list's array is copied to a larger one -/
theorem sp_growB {Z : zzG} {M : zzM} {l la c bc bs : Nat} {mc sz v1 : Int32} {vs : List Value} {K : Option Value → zzM → Prop} (hw : zz_wf Z M) (hl : M l = some (18, [.int mc, .ref la, .int sz])) (ha : M la = some (103, vs)) (hv : vs.length = c) (hc0 : 10 ≤ c) (h1 : v1 - Int32.ofNat c = Int32.ofNat 1) (hc : ncap c < 2 ^ 20) (b1 : 1 ≤ bc) (b2 : ncap c ≤ bs) (hel : ∀ v ∈ vs, v = .null ∨ ∃ (y ty : Nat) (f : Bool) (gs : List Value), v = .ref y ∧ zz_L Z M y = some (f, ty, gs) ∧ ty < 29)
    (hK : ∀ (q : Nat) (M' : zzM), M q = none → zz_wf Z M' → M' q = some (103, vs ++ List.replicate (ncap c - c) .null) → M' l = some (18, [.int mc, .ref q, .int sz]) → (∀ x, x ≠ q → x ≠ l → M' x = M x) → K (some (.ref q)) M') : wp_J2_grow_2_B20 Z K (some l) v1 (Int32.ofNat c) M bc bs := by
  have hnc : ncap c = c + (if 1 < c / 2 then c / 2 else 1) := by unfold ncap; rw [if_neg (by omega)]
  have hcc : c ≤ ncap c := by rw [hnc]; omega
  unfold wp_J2_grow_2_B20 wp_J15_newLength wp_J16_max wp_J16_max_B10
  rw [h1, n_shr1 (by omega)]
  have key : ∀ g : Nat, c + g = ncap c → (if (Int32.ofNat c + Int32.ofNat g) ≤ (0 : Int32) then False else if (2147483639 : Int32) < (Int32.ofNat c + Int32.ofNat g) then False else zgA Z M (some l) [18] 1 fun x19 => zcc bc bs (fun c9 s9 k9 => wp_J17_copyOf_2 Z x19 (Int32.ofNat c + Int32.ofNat g) M c9 s9 k9) fun r20 M21 bc22 bs23 => zrA r20 fun x24 => zput Z M21 (some l) [18] 1 (va_rf x24) fun M25 => K (some (va_rf x24)) M25) := by
    intro g hg
    rw [n_add, hg]
    rw [if_neg (fun e => by have := (n_le (b := 0) (by omega) (by decide)).mp e; omega)]
    rw [if_neg (fun e => by have := (n_lt (a := 2147483639) (by decide) (by omega)).mp e; omega)]
    refine m_gA (x := some la) hw hl (by decide) rfl ?_
    refine ⟨bc, bs, Nat.le_refl _, Nat.le_refl _, ?_⟩
    refine sp_copyOf3 hw ha hv hcc hc b1 b2 hel fun q M2 q1 w2 a2 f2 => ?_
    have hql : l ≠ q := fun e => by rw [← e, hl] at q1; cases q1
    refine m_put w2 ((f2 l hql).trans hl) (by decide) (Nat.le_of_ble_eq_true rfl) fun w3 => ?_
    exact hK q _ q1 w3 ((up_n (Ne.symm hql)).trans a2) up_s fun x x1 x2 => (up_n x2).trans (f2 x x1)
  by_cases h2c : 1 < c / 2
  · rw [if_pos ((n_lt (by decide) (by omega)).mpr h2c)]
    exact key (c / 2) (by rw [hnc, if_pos h2c])
  · rw [if_neg (fun e => h2c ((n_lt (by decide) (by omega)).mp e))]
    exact key 1 (by rw [hnc, if_neg h2c])
/-- what an add asks for: nothing, or a larger array -/
theorem sp_add {Z : zzG} {M : zzM} {l la c y ty bc bs : Nat} {mc : Int32} {gs : List Value} {xs : List Nat} {K : Option Value → zzM → Prop} (hw : zz_wf Z M) (h : hList Z M l la c mc xs) (hx : ∀ x ∈ xs, ∃ (ty : Nat) (gs : List Value), M x = some (ty, gs) ∧ ty < 29) (hy : M y = some (ty, gs)) (hty : ty < 29) (hyl : y ≠ l) (hxl : l ∉ xs) (hb : xs.length = c → 1 ≤ bc ∧ ncap c ≤ bs) (hc : ncap c < 2 ^ 20)
    (hK : ∀ (la' : Nat) (M' : zzM), zz_wf Z M' → hList Z M' l la' (if xs.length = c then ncap c else c) (mc + 1) (xs ++ [y]) → (la' = la ∨ M la' = none) → (∀ q, q ≠ l → q ≠ la → q ≠ la' → M' q = M q) → K (some (.int 1)) M') : wp_J2_add Z (some l) (some y) M bc bs K := by
  have hlen := h.len
  have hc20 := h.2.2
  refine m_gI hw h.1 (by decide) rfl ?_
  refine m_put hw h.1 (by decide) (Nat.le_of_ble_eq_true rfl) fun hw1 => ?_
  have hl1 : zz_up M l (18, [Value.int mc, .ref la, .int (Int32.ofNat xs.length)].set 0 (.int (mc + 1))) l = some (18, [.int (mc + 1), .ref la, .int (Int32.ofNat xs.length)]) := up_s
  generalize hM1 : zz_up M l (18, [Value.int mc, .ref la, .int (Int32.ofNat xs.length)].set 0 (.int (mc + 1))) = M1 at hw1 hl1 ⊢
  have hoth : ∀ q, q ≠ l → M1 q = M q := fun q hq => by rw [← hM1]; exact up_n hq
  refine m_gA (x := some la) hw1 hl1 (by decide) rfl ?_
  refine m_gI hw1 hl1 (by decide) rfl ?_
  refine m_ty hw1 hl1 ⟨rfl, bc, bs, Nat.le_refl _, Nat.le_refl _, ?_⟩
  have hy1 : M1 y = some (ty, gs) := (hoth y hyl).trans hy
  rcases h.2.1 with ⟨e1, e2, e3, rfl, rfl⟩ | ⟨h2, h4, h5, h6⟩
  · -- the empty array of all lists
    obtain ⟨b1, b2⟩ := hb rfl
    have hlal : la ≠ l := fun e => by rw [e, h.1] at e3; cases e3
    have hz : zz_L Z M1 la = some (false, 103, []) := L_f e2
    refine p_len hz (by decide) ?_
    rw [if_pos (by rfl)]
    refine m_ty hw1 hl1 ⟨rfl, bc, bs, Nat.le_refl _, Nat.le_refl _, ?_⟩
    refine m_gI hw1 hl1 (by decide) rfl ?_
    refine m_ty hw1 hl1 ⟨rfl, bc, bs, Nat.le_refl _, Nat.le_refl _, ?_⟩
    refine m_gA (x := some la) hw1 hl1 (by decide) rfl ?_
    refine p_len hz (by decide) ?_
    rw [if_neg (by decide)]
    refine m_gA (x := some la) hw1 hl1 (by decide) rfl ?_
    rw [if_pos (by rw [e1])]
    show (if (10 : Int32) < Int32.ofNat 0 + 1 then _ else _)
    rw [if_neg (by decide)]
    unfold wp_J16_max_B10 zrI
    dsimp only
    refine p_nar (n := 10) (dv := .null) (t := 103) hw1 (by decide) (by decide) b1 b2 fun q hq hf hw2 => ?_
    have hql : l ≠ q := fun e => by rw [← e, hl1] at hq; cases hq
    have hqy : y ≠ q := fun e => by rw [← e, hy1] at hq; cases hq
    refine m_put hw2 ((up_n hql).trans hl1) (by decide) (Nat.le_of_ble_eq_true rfl) fun hw3 => ?_
    simp only [zrA_rf, zrA_ref]
    refine sp_addB (l := l) (la := q) (c := 10) (mc := mc + 1) (xs := []) hw3 up_s ((up_n (Ne.symm hql)).trans up_s) hql (by decide) (by decide) (by decide) rfl ((up_n hyl).trans ((up_n hqy).trans hy1)) hty fun M4 w4 l4 f4 => ?_
    refine ⟨rfl, hK q M4 w4 (by show hList Z M4 l q (if 0 = 0 then ncap 0 else 0) (mc + 1) ([] ++ [y]); rw [if_pos rfl]; exact l4) (Or.inr ?_) fun x x1 x2 x3 => ?_⟩
    · rw [← hoth q (Ne.symm hql)]; exact hq
    · rw [f4 x x1 x3, up_n x1, up_n x3]; exact hoth x x1
  · have ha1 : M1 la = some (103, vr xs ++ List.replicate (c - xs.length) .null) := (hoth la (Ne.symm h4)).trans h2
    refine m_len hw1 ha1 (by decide) ?_
    have hal : (vr xs ++ List.replicate (c - xs.length) Value.null).length = c := by simp; omega
    rw [hal]
    by_cases hfull : xs.length = c
    · obtain ⟨b1, b2⟩ := hb hfull
      have hnc : ncap c = c + (if 1 < c / 2 then c / 2 else 1) := by unfold ncap; rw [if_neg (by omega)]
      rw [if_pos (by rw [hfull])]
      refine m_ty hw1 hl1 ⟨rfl, bc, bs, Nat.le_refl _, Nat.le_refl _, ?_⟩
      refine m_gI hw1 hl1 (by decide) rfl ?_
      refine m_ty hw1 hl1 ⟨rfl, bc, bs, Nat.le_refl _, Nat.le_refl _, ?_⟩
      refine m_gA (x := some la) hw1 hl1 (by decide) rfl ?_
      refine m_len hw1 ha1 (by decide) ?_
      rw [hal, if_pos (show (0 : Int32) < Int32.ofNat c from (n_lt (a := 0) (by decide) (by omega)).mpr (by omega))]
      refine sp_growB hw1 hl1 ha1 hal h6 ?_ hc b1 b2 (fun v hv => ?_) fun q M2 q1 w2 a2 l2 f2 => ?_
      · rw [hfull, show (1 : Int32) = Int32.ofNat 1 from rfl, n_add, n_sub (by omega), Nat.add_sub_cancel_left]
      · rw [show c - xs.length = 0 by omega, List.replicate_zero, List.append_nil] at hv
        obtain ⟨x, hx1, rfl⟩ := List.mem_map.mp hv
        obtain ⟨ty9, gs9, g1, g2⟩ := hx x hx1
        exact Or.inr ⟨x, ty9, true, gs9, rfl, L_m hw1 ((hoth x (fun e => hxl (e ▸ hx1))).trans g1), g2⟩
      · have hql : l ≠ q := fun e => by rw [← e, hl1] at q1; cases q1
        have hqy : y ≠ q := fun e => by rw [← e, hy1] at q1; cases q1
        simp only [zrA_rf, zrA_ref]
        refine sp_addB (l := l) (la := q) (c := ncap c) (mc := mc + 1) (xs := xs) w2 l2 (a2.trans ?_) hql (by have := ncap_lt c; omega) hc (ncap_10 h6) rfl ((f2 y hqy hyl).trans hy1) hty fun M4 w4 l4 f4 => ?_
        · rw [show c - xs.length = 0 by omega, List.replicate_zero, List.append_nil, hfull]
        · refine ⟨rfl, hK q M4 w4 (by rw [if_pos hfull]; exact l4) (Or.inr ?_) fun x x1 x2 x3 => ?_⟩
          · rw [← hoth q (Ne.symm hql)]; exact q1
          · rw [f4 x x1 x3, f2 x x3 x1]; exact hoth x x1
    · rw [if_neg (fun e => hfull ((n_eq (by omega) (by omega)).mp e))]
      refine sp_addB hw1 hl1 ha1 h4 (by omega) hc20 h6 rfl hy1 hty fun M4 w4 l4 f4 => ?_
      refine ⟨rfl, hK la M4 w4 (by rw [if_neg hfull]; exact l4) (Or.inl rfl) fun x x1 x2 x3 => ?_⟩
      rw [f4 x x1 x2]; exact hoth x x1
