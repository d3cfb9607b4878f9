/-! PURE LAW: ArrayList of objects -/
/-- a list of objects, by their addresses -/
abbrev vr (xs : List Nat) : List Value := xs.map .ref
def hList (Z : zzG) (M : zzM) (l la c : Nat) (mc : Int32) (xs : List Nat) : Prop :=
  M l = some (18, [.int mc, .ref la, .int (Int32.ofNat xs.length)]) ∧ ((la = zz_ad Z 0 ∧ zz_F Z la = some (103, []) ∧ M la = none ∧ xs = [] ∧ c = 0) ∨ (M la = some (103, vr xs ++ List.replicate (c - xs.length) .null) ∧ l ≠ la ∧ xs.length ≤ c ∧ 10 ≤ c)) ∧ c < 2 ^ 20
theorem hList.len {Z : zzG} {M : zzM} {l la c : Nat} {mc : Int32} {xs : List Nat} (h : hList Z M l la c mc xs) : xs.length ≤ c := by
  obtain ⟨-, h | h, -⟩ := h
  · rw [h.2.2.2.1]; exact Nat.zero_le _
  · exact h.2.2.1
theorem hList.keep {Z : zzG} {M M' : zzM} {l la c : Nat} {mc : Int32} {xs : List Nat} (h : hList Z M l la c mc xs) (h1 : M' l = M l) (h2 : M' la = M la) : hList Z M' l la c mc xs := by
  obtain ⟨a1, a2, a3⟩ := h
  refine ⟨h1.trans a1, ?_, a3⟩
  rw [h2]
  exact a2
theorem sp_lsize {Z : zzG} {M : zzM} {l la c : Nat} {mc : Int32} {xs : List Nat} {K : Option Value → zzM → Prop} (hw : zz_wf Z M) (h : hList Z M l la c mc xs) (hK : K (some (.int (Int32.ofNat xs.length))) M) : wp_J2_size Z (some l) M K :=
  m_gI hw h.1 (by decide) rfl hK
theorem sp_data {Z : zzG} {M : zzM} {l la c i y : Nat} {mc : Int32} {xs : List Nat} {K : Option Nat → Prop} (hw : zz_wf Z M) (h : hList Z M l la c mc xs) (hi : xs[i]? = some y) (hK : K (some y)) : zaA Z M (some la) [103, 104, 105] (Int32.ofNat i) K := by
  obtain ⟨h1, h2, h3⟩ := h
  have hlt := (List.getElem?_eq_some_iff.mp hi).1
  rcases h2 with ⟨-, -, -, rfl, -⟩ | ⟨h2, h4, h5, -⟩
  · exact absurd hlt (Nat.not_lt_zero i)
  · refine m_aA (x := some y) hw h2 (by decide) (n_nn (by omega)) ?_ hK
    rw [n_cl (by omega), List.getElem?_append_left (by simpa using hlt)]
    simp [hi, va_rf]
theorem sp_lget {Z : zzG} {M : zzM} {l la c i y : Nat} {mc : Int32} {xs : List Nat} {K : Option Value → zzM → Prop} (hw : zz_wf Z M) (h : hList Z M l la c mc xs) (hi : xs[i]? = some y) (hK : K (some (.ref y)) M) : wp_J2_get Z (some l) (Int32.ofNat i) M K := by
  have hlt := (List.getElem?_eq_some_iff.mp hi).1
  have hl := h.len
  have h3 := h.2.2
  refine m_gI hw h.1 (by decide) rfl ?_
  show (if Int32.ofNat i < 0 then _ else _)
  rw [if_neg (n_nn (by omega))]
  show (if Int32.ofNat i < Int32.ofNat xs.length then _ else _)
  rw [if_pos ((n_lt (by omega) (by omega)).mpr hlt)]
  refine m_ty hw h.1 ⟨rfl, ?_⟩
  refine m_gA (x := some la) hw h.1 (by decide) rfl ?_
  exact sp_data hw h hi hK
/-- an iterator that stands ahead of place i -/
def hItr (M : zzM) (it l i : Nat) (mc : Int32) : Prop := ∃ lr : Int32, M it = some (23, [.int (Int32.ofNat i), .int lr, .int mc, .ref l])
theorem sp_iter {Z : zzG} {M : zzM} {l la c bc bs : Nat} {mc : Int32} {xs : List Nat} {K : Option Value → zzM → Prop} (hw : zz_wf Z M) (h : hList Z M l la c mc xs) (h1 : 1 ≤ bc) (h2 : 4 ≤ bs)
    (hK : ∀ (it : Nat) (M' : zzM), M it = none → zz_wf Z M' → hItr M' it l 0 mc → (∀ q, q ≠ it → M' q = M q) → K (some (.ref it)) M') : wp_J2_iterator Z (some l) M bc bs K := by
  refine p_new hw h1 h2 fun it hq hf hw => ?_
  have hl : l ≠ it := fun e => by rw [← e, h.1] at hq; cases hq
  refine m_put hw up_s (by decide) (Nat.le_of_ble_eq_true rfl) fun hw => ?_
  rw [up_up] at hw ⊢
  refine m_ty hw up_s ?_
  refine m_put hw up_s (by decide) (Nat.le_of_ble_eq_true rfl) fun hw => ?_
  rw [up_up] at hw ⊢
  refine m_gA (x := some l) hw up_s (by decide) rfl ?_
  refine m_gI hw ((up_n hl).trans h.1) (by decide) rfl ?_
  refine m_put hw up_s (by decide) (Nat.le_of_ble_eq_true rfl) fun hw => ?_
  rw [up_up] at hw ⊢
  exact hK it _ hq hw ⟨_, up_s⟩ fun q h => up_n h
theorem sp_hasNext {Z : zzG} {M : zzM} {l la c it i : Nat} {mc : Int32} {xs : List Nat} {K : Option Value → zzM → Prop} (hw : zz_wf Z M) (h : hList Z M l la c mc xs) (hi : hItr M it l i mc) (hle : i ≤ xs.length) (hK : K (some (.int (if i < xs.length then 1 else 0))) M) : wp_J24_hasNext Z (some it) M K := by
  obtain ⟨lr, hi⟩ := hi
  have hl := h.len
  have h3 := h.2.2
  refine m_gI hw hi (by decide) rfl ?_
  refine m_gA (x := some l) hw hi (by decide) rfl ?_
  refine m_gI hw h.1 (by decide) rfl ?_
  by_cases e : i < xs.length
  · rw [if_neg (fun e2 => by have := (n_eq (by omega) (by omega)).mp e2; omega)]
    rw [if_pos e] at hK
    exact ⟨rfl, hK⟩
  · rw [if_pos ((n_eq (by omega) (by omega)).mpr (by omega))]
    rw [if_neg e] at hK
    exact ⟨rfl, hK⟩
theorem sp_next {Z : zzG} {M : zzM} {l la c it i y : Nat} {mc : Int32} {xs : List Nat} {K : Option Value → zzM → Prop} (hw : zz_wf Z M) (h : hList Z M l la c mc xs) (hi : hItr M it l i mc) (hla : it ≠ la) (hy : xs[i]? = some y)
    (hK : ∀ M', zz_wf Z M' → hItr M' it l (i + 1) mc → (∀ q, q ≠ it → M' q = M q) → K (some (.ref y)) M') : wp_J24_next Z (some it) M K := by
  obtain ⟨lr, hi⟩ := hi
  have hlt := (List.getElem?_eq_some_iff.mp hy).1
  have hl := h.len
  have h3 := h.2.2
  have hil : l ≠ it := fun e => by
    have := h.1
    rw [e, hi] at this
    cases this
  refine m_ty hw hi ⟨rfl, ?_⟩
  refine m_gA (x := some l) hw hi (by decide) rfl ?_
  refine m_gI hw h.1 (by decide) rfl ?_
  refine m_gI hw hi (by decide) rfl ?_
  rw [if_pos rfl]
  refine m_gI hw hi (by decide) rfl ?_
  refine m_gA (x := some l) hw hi (by decide) rfl ?_
  refine m_gI hw h.1 (by decide) rfl ?_
  rw [if_pos ((n_lt (by omega) (by omega)).mpr hlt)]
  refine m_gA (x := some l) hw hi (by decide) rfl ?_
  refine m_gA (x := some la) hw h.1 (by decide) rfl ?_
  have hd : M la = some (103, vr xs ++ List.replicate (c - xs.length) .null) := by
    rcases h.2.1 with ⟨-, -, -, e, -⟩ | h2
    · rw [e] at hlt; exact absurd hlt (Nat.not_lt_zero i)
    · exact h2.1
  refine m_len hw hd (by decide) ?_
  rw [if_pos ((n_lt (by omega) (by simp; omega)).mpr (by simp; omega))]
  refine m_put hw hi (by decide) (Nat.le_of_ble_eq_true rfl) fun hw => ?_
  refine m_put hw up_s (by decide) (Nat.le_of_ble_eq_true rfl) fun hw => ?_
  rw [up_up] at hw ⊢
  refine sp_data hw (h.keep (up_n hil) (up_n (Ne.symm hla))) hy ?_
  refine hK _ hw ⟨Int32.ofNat i, up_s.trans ?_⟩ fun q h => up_n h
  show some (23, [Value.int (Int32.ofNat i + 1), .int (Int32.ofNat i), .int mc, .ref l]) = _
  rw [show (1 : Int32) = Int32.ofNat 1 from rfl, n_add]
