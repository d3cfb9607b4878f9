/-! PURE LAW: tools. M a = some (t, fs) is a made cell; zz_wf: made cells are none of the frozen ones -/
def zz_wf (Z : zzG) (M : zzM) : Prop := ∀ q : Nat, M q ≠ none → zz_fr Z q
theorem zz_wf0 {Z : zzG} : zz_wf Z (fun _ => none) := fun q h => absurd rfl h
theorem zz_wf.up {Z : zzG} {M : zzM} {q : Nat} {e : zzE} (h : zz_wf Z M) (hq : zz_fr Z q) : zz_wf Z (zz_up M q e) := by
  intro x hx
  by_cases hxq : x = q
  · subst hxq; exact hq
  · have : zz_up M q e x = M x := if_neg hxq
    rw [this] at hx
    exact h x hx
theorem zz_wf.set {Z : zzG} {M : zzM} {q : Nat} {e e0 : zzE} (h : zz_wf Z M) (hq : M q = some e0) : zz_wf Z (zz_up M q e) := h.up (h q (by rw [hq]; simp))
theorem up_s {M : zzM} {q : Nat} {e : zzE} : zz_up M q e q = some e := if_pos rfl
theorem up_n {M : zzM} {q x : Nat} {e : zzE} (h : x ≠ q) : zz_up M q e x = M x := if_neg h
theorem up_k {M : zzM} {q x : Nat} {e e1 : zzE} (h : M x = some e1) (hq : M q = none) : zz_up M q e x = some e1 := by
  rw [up_n (fun e => by rw [e] at h; rw [h] at hq; cases hq)]
  exact h
theorem up_up {M : zzM} {q : Nat} {e e1 : zzE} : zz_up (zz_up M q e) q e1 = zz_up M q e1 := by
  funext x
  by_cases h : x = q <;> simp [zz_up, h]
theorem L_m {Z : zzG} {M : zzM} {a : Nat} {e : zzE} (hw : zz_wf Z M) (h : M a = some e) : zz_L Z M a = some (true, e) := by
  have := (hw a (by rw [h]; simp)).1
  simp [zz_L, this, h]
theorem LO_m {Z : zzG} {M : zzM} {a : Nat} {e : zzE} (hw : zz_wf Z M) (h : M a = some e) : zz_LO Z M a = some (true, e) := by
  have := (hw a (by rw [h]; simp)).2
  simp [zz_LO, this, L_m hw h]
theorem L_f {Z : zzG} {M : zzM} {a : Nat} {e : zzE} (h : zz_F Z a = some e) : zz_L Z M a = some (false, e) := by simp [zz_L, h]
theorem LO_f {Z : zzG} {M : zzM} {a : Nat} {e : zzE} (h : zz_F Z a = some e) (h2 : zz_E' Z a = none) : zz_LO Z M a = some (false, e) := by simp [zz_LO, h2, L_f h]
theorem LO_e {Z : zzG} {M : zzM} {a : Nat} {e : zzE} (h : zz_E' Z a = some e) : zz_LO Z M a = some (false, e) := by simp [zz_LO, h]
/-! the words, by what lies at the address -/
section PTOOL
variable {Z : zzG} {M : zzM} {a t k : Nat} {b : Bool} {fs : List Value} {cs : List Nat}
theorem p_gI {x : Int32} {K : Int32 → Prop} (h : zz_LO Z M a = some (b, t, fs)) (ht : t ∈ cs) (hk : fs[k]? = some (.int x)) (hK : K x) : zgI Z M (some a) cs k K := by
  simp only [zgI, zz_fld, h, if_pos ht, hk]; exact hK
theorem p_gJ {x : Int64} {K : Int64 → Prop} (h : zz_LO Z M a = some (b, t, fs)) (ht : t ∈ cs) (hk : fs[k]? = some (.long x)) (hK : K x) : zgJ Z M (some a) cs k K := by
  simp only [zgJ, zz_fld, h, if_pos ht, hk]; exact hK
theorem p_gA {x : Option Nat} {K : Option Nat → Prop} (h : zz_LO Z M a = some (b, t, fs)) (ht : t ∈ cs) (hk : fs[k]? = some (va_rf x)) (hK : K x) : zgA Z M (some a) cs k K := by
  cases x <;> (simp only [zgA, zz_fld, h, if_pos ht, hk, va_rf]; exact hK)
theorem p_put {v : Value} {K : zzM → Prop} (h : zz_L Z M a = some (true, t, fs)) (ht : t ∈ cs) (hk : k < fs.length) (hK : K (zz_up M a (t, fs.set k v))) : zput Z M (some a) cs k v K := by
  simp only [zput, h]; exact ⟨ht, hk, hK⟩
theorem p_aI {i x : Int32} {K : Int32 → Prop} (h : zz_L Z M a = some (b, t, fs)) (ht : t ∈ cs) (hi : ¬ i < 0) (hk : fs[i.toNatClampNeg]? = some (.int x)) (hK : K x) : zaI Z M (some a) cs i K := by
  simp only [zaI, zz_el, h, if_pos (show t ∈ cs ∧ ¬ i < 0 from ⟨ht, hi⟩), hk]; exact hK
theorem p_aJ {i : Int32} {x : Int64} {K : Int64 → Prop} (h : zz_L Z M a = some (b, t, fs)) (ht : t ∈ cs) (hi : ¬ i < 0) (hk : fs[i.toNatClampNeg]? = some (.long x)) (hK : K x) : zaJ Z M (some a) cs i K := by
  simp only [zaJ, zz_el, h, if_pos (show t ∈ cs ∧ ¬ i < 0 from ⟨ht, hi⟩), hk]; exact hK
theorem p_aA {i : Int32} {x : Option Nat} {K : Option Nat → Prop} (h : zz_L Z M a = some (b, t, fs)) (ht : t ∈ cs) (hi : ¬ i < 0) (hk : fs[i.toNatClampNeg]? = some (va_rf x)) (hK : K x) : zaA Z M (some a) cs i K := by
  cases x <;> (simp only [zaA, zz_el, h, if_pos (show t ∈ cs ∧ ¬ i < 0 from ⟨ht, hi⟩), hk, va_rf]; exact hK)
theorem p_ast {i : Int32} {v : Value} {K : zzM → Prop} (h : zz_L Z M a = some (true, t, fs)) (ht : t ∈ cs) (hi : ¬ i < 0) (hk : i.toNatClampNeg < fs.length) (hK : K (zz_up M a (t, fs.set i.toNatClampNeg v))) : zast Z M (some a) cs i v K := by
  simp only [zast, h]; exact ⟨ht, hi, hk, hK⟩
theorem p_astN {i : Int32} {K : zzM → Prop} (h : zz_L Z M a = some (true, t, fs)) (ht : t ∈ [103, 104]) (hi : ¬ i < 0) (hk : i.toNatClampNeg < fs.length) (hK : K (zz_up M a (t, fs.set i.toNatClampNeg .null))) : zastA Z M (some a) i none K := by
  simp only [zastA, h]; exact ⟨ht, hi, hk, hK⟩
theorem p_astA {i : Int32} {y c : Nat} {b9 : Bool} {gs : List Value} {K : zzM → Prop} (h : zz_L Z M a = some (true, t, fs)) (hy : zz_L Z M y = some (b9, c, gs)) (hm : zz_may t c = true) (hi : ¬ i < 0) (hk : i.toNatClampNeg < fs.length) (hK : K (zz_up M a (t, fs.set i.toNatClampNeg (.ref y)))) : zastA Z M (some a) i (some y) K := by
  simp only [zastA, h, hy]; exact ⟨hm, hi, hk, hK⟩
theorem p_len {K : Int32 → Prop} (h : zz_L Z M a = some (b, t, fs)) (ht : 100 ≤ t) (hK : K (Int32.ofNat fs.length)) : zlen Z M (some a) K := by
  simp only [zlen, h]; exact ⟨ht, hK⟩
theorem p_ty {K : Nat → Prop} (h : zz_LO Z M a = some (b, t, fs)) (hK : K t) : zty Z M (some a) K := by
  simp only [zty, h]; exact hK
theorem p_tyT {K : Nat → Prop} (h : zz_L Z M a = some (true, t, fs)) (hK : K t) : ztyT Z M (some a) K := by
  simp only [ztyT, h]; exact hK
theorem p_cast {K : Prop} (h : zz_LO Z M a = some (b, t, fs)) (ht : t ∈ cs) (hK : K) : zcast Z M (some a) cs K := by
  simp only [zcast, h]; exact ⟨ht, hK⟩
theorem p_castN {K : Prop} (hK : K) : zcast Z M none cs K := hK
theorem p_castA {K : Prop} (h : zz_L Z M a = some (true, t, fs)) (hK : K) : zcastA Z M (some a) t K := by
  simp only [zcastA, h]; exact ⟨trivial, hK⟩
theorem p_instY {ns : List Nat} {K : Int32 → Prop} (h : zz_LO Z M a = some (b, t, fs)) (ht : t ∈ cs) (hK : K 1) : zinst Z M (some a) cs ns K := by
  simp only [zinst, h, if_pos ht]; exact hK
theorem p_instN {ns : List Nat} {K : Int32 → Prop} (h : zz_LO Z M a = some (b, t, fs)) (ht : ¬ t ∈ cs) (hn : t ∈ ns) (hK : K 0) : zinst Z M (some a) cs ns K := by
  simp only [zinst, h, if_neg ht, if_pos hn]; exact hK
theorem p_new {bc bs ci n : Nat} {dv : List Value} {K : Nat → zzM → Nat → Nat → Prop} (hw : zz_wf Z M) (h1 : 1 ≤ bc) (h2 : n ≤ bs) (hK : ∀ q : Nat, M q = none → zz_fr Z q → zz_wf Z (zz_up M q (ci, dv)) → K q (zz_up M q (ci, dv)) (bc - 1) (bs - n)) : znew Z M bc bs ci n dv K := by
  refine ⟨h1, h2, fun q hq hf => hK q ?_ hf (hw.up hf)⟩
  simpa [zz_L, hf.1] using hq
theorem p_nar {bc bs t : Nat} {n : Int32} {dv : Value} {K : Nat → zzM → Nat → Nat → Prop} (hw : zz_wf Z M) (h0 : ¬ n < 0) (h3 : n.toNatClampNeg * 8 ≤ 536870912) (h1 : 1 ≤ bc) (h2 : n.toNatClampNeg ≤ bs) (hK : ∀ q : Nat, M q = none → zz_fr Z q → zz_wf Z (zz_up M q (t, List.replicate n.toNatClampNeg dv)) → K q (zz_up M q (t, List.replicate n.toNatClampNeg dv)) (bc - 1) (bs - n.toNatClampNeg)) : znar Z M bc bs t n dv K := by
  refine ⟨h0, h3, h1, h2, fun q hq hf => hK q ?_ hf (hw.up hf)⟩
  simpa [zz_L, hf.1] using hq
end PTOOL
/-! made cells: by M alone -/
section PTOOLM
variable {Z : zzG} {M : zzM} {a t k : Nat} {fs : List Value} {cs : List Nat}
theorem m_gI {x : Int32} {K : Int32 → Prop} (hw : zz_wf Z M) (h : M a = some (t, fs)) (ht : t ∈ cs) (hk : fs[k]? = some (.int x)) (hK : K x) : zgI Z M (some a) cs k K := p_gI (LO_m hw h) ht hk hK
theorem m_gA {x : Option Nat} {K : Option Nat → Prop} (hw : zz_wf Z M) (h : M a = some (t, fs)) (ht : t ∈ cs) (hk : fs[k]? = some (va_rf x)) (hK : K x) : zgA Z M (some a) cs k K := p_gA (LO_m hw h) ht hk hK
theorem m_put {v : Value} {K : zzM → Prop} (hw : zz_wf Z M) (h : M a = some (t, fs)) (ht : t ∈ cs) (hk : k < fs.length) (hK : zz_wf Z (zz_up M a (t, fs.set k v)) → K (zz_up M a (t, fs.set k v))) : zput Z M (some a) cs k v K := p_put (L_m hw h) ht hk (hK (hw.set h))
theorem m_aI {i x : Int32} {K : Int32 → Prop} (hw : zz_wf Z M) (h : M a = some (t, fs)) (ht : t ∈ cs) (hi : ¬ i < 0) (hk : fs[i.toNatClampNeg]? = some (.int x)) (hK : K x) : zaI Z M (some a) cs i K := p_aI (L_m hw h) ht hi hk hK
theorem m_aJ {i : Int32} {x : Int64} {K : Int64 → Prop} (hw : zz_wf Z M) (h : M a = some (t, fs)) (ht : t ∈ cs) (hi : ¬ i < 0) (hk : fs[i.toNatClampNeg]? = some (.long x)) (hK : K x) : zaJ Z M (some a) cs i K := p_aJ (L_m hw h) ht hi hk hK
theorem m_aA {i : Int32} {x : Option Nat} {K : Option Nat → Prop} (hw : zz_wf Z M) (h : M a = some (t, fs)) (ht : t ∈ cs) (hi : ¬ i < 0) (hk : fs[i.toNatClampNeg]? = some (va_rf x)) (hK : K x) : zaA Z M (some a) cs i K := p_aA (L_m hw h) ht hi hk hK
theorem m_ast {i : Int32} {v : Value} {K : zzM → Prop} (hw : zz_wf Z M) (h : M a = some (t, fs)) (ht : t ∈ cs) (hi : ¬ i < 0) (hk : i.toNatClampNeg < fs.length) (hK : zz_wf Z (zz_up M a (t, fs.set i.toNatClampNeg v)) → K (zz_up M a (t, fs.set i.toNatClampNeg v))) : zast Z M (some a) cs i v K := p_ast (L_m hw h) ht hi hk (hK (hw.set h))
theorem m_len {K : Int32 → Prop} (hw : zz_wf Z M) (h : M a = some (t, fs)) (ht : 100 ≤ t) (hK : K (Int32.ofNat fs.length)) : zlen Z M (some a) K := p_len (L_m hw h) ht hK
theorem m_ty {K : Nat → Prop} (hw : zz_wf Z M) (h : M a = some (t, fs)) (hK : K t) : zty Z M (some a) K := p_ty (LO_m hw h) hK
theorem m_cast {K : Prop} (hw : zz_wf Z M) (h : M a = some (t, fs)) (ht : t ∈ cs) (hK : K) : zcast Z M (some a) cs K := p_cast (LO_m hw h) ht hK
end PTOOLM
/-! machine ints as numbers: nI n (kit) for n < 2^31 -/
theorem n_nn {n : Nat} (h : n < 2 ^ 31) : ¬ Int32.ofNat n < 0 := by
  rw [Int32.lt_iff_toInt_lt, Int32.toInt_ofNat_of_lt h]
  simp
theorem n_cl {n : Nat} (h : n < 2 ^ 31) : (Int32.ofNat n).toNatClampNeg = n := by
  show (Int32.ofNat n).toInt.toNat = n
  rw [Int32.toInt_ofNat_of_lt h]
  simp
theorem n_lt {a b : Nat} (ha : a < 2 ^ 31) (hb : b < 2 ^ 31) : Int32.ofNat a < Int32.ofNat b ↔ a < b := by
  rw [Int32.lt_iff_toInt_lt, Int32.toInt_ofNat_of_lt ha, Int32.toInt_ofNat_of_lt hb]
  omega
theorem n_le {a b : Nat} (ha : a < 2 ^ 31) (hb : b < 2 ^ 31) : Int32.ofNat a ≤ Int32.ofNat b ↔ a ≤ b := by
  rw [Int32.le_iff_toInt_le, Int32.toInt_ofNat_of_lt ha, Int32.toInt_ofNat_of_lt hb]
  omega
theorem n_eq {a b : Nat} (ha : a < 2 ^ 31) (hb : b < 2 ^ 31) : Int32.ofNat a = Int32.ofNat b ↔ a = b := ⟨zs_n32 ha hb, fun h => by rw [h]⟩
theorem n_add (a b : Nat) : Int32.ofNat a + Int32.ofNat b = Int32.ofNat (a + b) := (Int32.ofNat_add a b).symm
/-! answers of calls -/
theorem zrA_ref {q : Nat} {K : Option Nat → Prop} : zrA (some (.ref q)) K = K (some q) := rfl
theorem zrA_rf {r : Option Nat} {K : Option Nat → Prop} : zrA (some (va_rf r)) K = K r := by cases r <;> rfl
theorem zrI_int {x : Int32} {K : Int32 → Prop} : zrI (some (.int x)) K = K x := rfl
theorem zrV_n {K : Prop} : zrV none K = K := rfl
