/-! PURE LAW: Strings. hStr: an object (made or a literal), its bytes -/
def hStr (Z : zzG) (M : zzM) (q v : Nat) (bs : List Int32) : Prop := ∃ (b bv : Bool) (h hz : Int32), zz_LO Z M q = some (b, 21, [.ref v, .int 0, .int h, .int hz]) ∧ zz_L Z M v = some (bv, 101, bs.map fun x => .int x) ∧ bs.length < 2 ^ 20
theorem s_len {Z : zzG} {M : zzM} {q v : Nat} {bs : List Int32} {K : Option Value → zzM → Prop} (h : hStr Z M q v bs) (hK : K (some (.int (Int32.ofNat bs.length))) M) : wp_J7_length Z (some q) M K := by
  obtain ⟨b, bv, hh, hz, h1, h2, h3⟩ := h
  refine p_gA (x := some v) h1 (by decide) rfl ?_
  refine p_len h2 (by decide) ?_
  refine p_ty h1 ⟨rfl, ?_⟩
  show (if (1 : Int32) = 0 then _ else _)
  rw [if_neg (by decide)]
  refine p_gI h1 (by decide) rfl ?_
  refine ⟨rfl, ?_⟩
  show K (some (.int (Int32.ofNat (bs.map fun x => Value.int x).length >>> ((0 : Int32) &&& 31)))) M
  rw [List.length_map, show ((0 : Int32) &&& 31) = 0 by decide]
  have : Int32.ofNat bs.length >>> (0 : Int32) = Int32.ofNat bs.length := by
    apply Int32.toBitVec_inj.mp
    rw [Int32.toBitVec_shiftRight, show ((0 : Int32).toBitVec.smod 32) = 0#32 by decide]
    simp
  rw [this]
  exact hK
theorem s_eqL {Z : zzG} {M : zzM} {v v2 : Nat} {bv bv2 : Bool} {bs bs2 : List Int32} {K : Option Value → zzM → Prop} (h : zz_L Z M v = some (bv, 101, bs.map fun x => .int x)) (h2 : zz_L Z M v2 = some (bv2, 101, bs2.map fun x => .int x)) (hl : bs.length = bs2.length) (h3 : bs.length < 2 ^ 20) (hK : K (some (.int (if bs = bs2 then 1 else 0))) M) :
    ∀ d i, i + d = bs.length → bs.take i = bs2.take i → wp_J18_equals_L9 Z K (d + 1) (some v) (some v2) (Int32.ofNat i) M := by
  intro d
  induction d with
  | zero =>
    intro i hi ht
    refine p_len h (by decide) ?_
    rw [if_pos ((n_le (by simp; omega) (by omega)).mpr (by simp; omega))]
    have e : bs = bs2 := by
      rw [List.take_of_length_le (by omega), List.take_of_length_le (by omega)] at ht
      exact ht
    rw [if_pos e] at hK
    exact ⟨rfl, hK⟩
  | succ d ih =>
    intro i hi ht
    refine p_len h (by decide) ?_
    rw [if_neg (fun e => by have := (n_le (by simp; omega) (by omega)).mp e; simp at this; omega)]
    have g1 : i < bs.length := by omega
    have g2 : i < bs2.length := by omega
    refine p_aI (x := bs[i]) h (by decide) (n_nn (by omega)) (by rw [n_cl (by omega)]; simp [g1]) ?_
    refine p_aI (x := bs2[i]) h2 (by decide) (n_nn (by omega)) (by rw [n_cl (by omega)]; simp [g2]) ?_
    by_cases e : bs[i] = bs2[i]
    · rw [if_pos e]
      have := ih (i + 1) (by omega) (by rw [List.take_add_one, List.take_add_one, ht, List.getElem?_eq_getElem g1, List.getElem?_eq_getElem g2, e])
      rw [show Int32.ofNat i + 1 = Int32.ofNat (i + 1) from n_add i 1]
      exact this
    · rw [if_neg e]
      rw [if_neg (fun e2 => e (by simp [e2]))] at hK
      exact ⟨rfl, hK⟩
theorem s_equals18 {Z : zzG} {M : zzM} {v v2 : Nat} {bv bv2 : Bool} {bs bs2 : List Int32} {K : Option Value → zzM → Prop} (h : zz_L Z M v = some (bv, 101, bs.map fun x => .int x)) (h2 : zz_L Z M v2 = some (bv2, 101, bs2.map fun x => .int x)) (h3 : bs.length < 2 ^ 20) (h4 : bs2.length < 2 ^ 20) (hK : K (some (.int (if bs = bs2 then 1 else 0))) M) : wp_J18_equals Z (some v) (some v2) M K := by
  refine p_len h (by decide) ?_
  refine p_len h2 (by decide) ?_
  simp only [List.length_map]
  by_cases e : bs.length = bs2.length
  · rw [if_pos (by rw [e])]
    exact ⟨bs.length + 1, s_eqL h h2 e h3 hK bs.length 0 (by omega) rfl⟩
  · rw [if_neg (fun e2 => e ((n_eq (by omega) (by omega)).mp e2))]
    rw [if_neg (fun e2 => e (by rw [e2]))] at hK
    exact ⟨rfl, hK⟩
/-- equals of two Strings -/
theorem s_equals {Z : zzG} {M : zzM} {q v q2 v2 : Nat} {bs bs2 : List Int32} {K : Option Value → zzM → Prop} (h : hStr Z M q v bs) (h2 : hStr Z M q2 v2 bs2) (hK : K (some (.int (if bs = bs2 then 1 else 0))) M) : wp_J7_equals Z (some q) (some q2) M K := by
  obtain ⟨b, bv, hh, hz, a1, a2, a3⟩ := h
  obtain ⟨b', bv', hh', hz', c1, c2, c3⟩ := h2
  unfold wp_J7_equals
  by_cases e : q = q2
  · subst e
    rw [if_pos rfl]
    have hv : v = v2 := by
      have := a1.symm.trans c1
      simp at this
      exact this.2.1
    subst hv
    have hb : bs = bs2 := by
      have := a2.symm.trans c2
      simp at this
      have h9 := this.2
      exact List.map_inj_right (fun x y h => by cases h; rfl) |>.mp h9
    rw [if_pos hb] at hK
    exact ⟨rfl, hK⟩
  · rw [if_neg (fun e2 => e (Option.some.inj e2))]
    refine p_instY c1 (by decide) ?_
    rw [if_neg (by decide)]
    refine p_cast c1 (by decide) ?_
    rw [if_neg (by decide)]
    refine p_gI a1 (by decide) rfl ?_
    refine p_gI c1 (by decide) rfl ?_
    rw [if_pos rfl]
    unfold wp_J7_equals_B36
    refine p_gA (x := some v) a1 (by decide) rfl ?_
    refine p_gA (x := some v2) c1 (by decide) rfl ?_
    refine s_equals18 a2 c2 a3 c3 ?_
    rw [zrI_int]
    by_cases hb : bs = bs2
    · rw [if_pos hb] at hK ⊢
      rw [if_neg (by decide)]
      exact ⟨rfl, hK⟩
    · rw [if_neg hb] at hK ⊢
      rw [if_pos rfl]
      exact ⟨rfl, hK⟩
