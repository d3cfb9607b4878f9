/-! PURE LAW: String.hashCode of a made String: the cache may be filled -/
def hMStr (M : zzM) (q v : Nat) (bs : List Int32) : Prop := ∃ h hz : Int32, M q = some (21, [.ref v, .int 0, .int h, .int hz]) ∧ M v = some (101, bs.map fun x => .int x) ∧ bs.length < 2 ^ 20 ∧ (h ≠ 0 → h = sHash bs) ∧ (hz ≠ 0 → sHash bs = 0) ∧ q ≠ v
theorem hMStr.str {Z : zzG} {M : zzM} {q v : Nat} {bs : List Int32} (hw : zz_wf Z M) (h : hMStr M q v bs) : hStr Z M q v bs := by
  obtain ⟨a, b, h1, h2, h3, -⟩ := h
  exact ⟨true, true, a, b, LO_m hw h1, L_m hw h2, h3⟩
theorem s_hash {Z : zzG} {M : zzM} {q v : Nat} {bs : List Int32} {K : Option Value → zzM → Prop} (hw : zz_wf Z M) (h : hMStr M q v bs) (hK : ∀ M', zz_wf Z M' → hMStr M' q v bs → (∀ x, x ≠ q → M' x = M x) → K (some (.int (sHash bs))) M') : wp_J7_hashCode Z (some q) M K := by
  obtain ⟨a, b, h1, h2, h3, h4, h5, h6⟩ := id h
  refine m_gI hw h1 (by decide) rfl ?_
  by_cases ha : a = 0
  · subst ha
    rw [if_pos rfl]
    refine m_gI hw h1 (by decide) rfl ?_
    by_cases hb : b = 0
    · subst hb
      rw [if_pos rfl]
      refine m_ty hw h1 ⟨rfl, ?_⟩
      unfold wp_J7_isLatin1
      rw [if_neg (by decide)]
      refine m_gI hw h1 (by decide) rfl ?_
      rw [if_pos rfl]
      refine ⟨rfl, ?_⟩
      dsimp only
      rw [zrI_int, if_neg (by decide)]
      refine m_gA (x := some v) hw h1 (by decide) rfl ?_
      refine s_hash18 (L_m hw h2) h3 ?_
      rw [zrI_int]
      by_cases hs : sHash bs = 0
      · rw [if_pos hs]
        refine ⟨⟨rfl, rfl⟩, ?_⟩
        refine m_put hw h1 (by decide) (Nat.le_of_ble_eq_true rfl) fun hw => ?_
        exact hK _ hw ⟨0, 1, up_s, (up_n (Ne.symm h6)).trans h2, h3, fun e => absurd rfl e, fun _ => hs, h6⟩ fun x hx => up_n hx
      · rw [if_neg hs]
        refine m_put hw h1 (by decide) (Nat.le_of_ble_eq_true rfl) fun hw => ?_
        exact hK _ hw ⟨sHash bs, 0, up_s, (up_n (Ne.symm h6)).trans h2, h3, fun _ => rfl, fun e => absurd rfl e, h6⟩ fun x hx => up_n hx
    · rw [if_neg hb]
      have := h5 hb
      have hk := hK M hw h (fun _ _ => rfl)
      rw [this] at hk
      exact hk
  · rw [if_neg ha]
    have := h4 ha
    have hk := hK M hw h (fun _ _ => rfl)
    rw [← this] at hk
    exact hk
