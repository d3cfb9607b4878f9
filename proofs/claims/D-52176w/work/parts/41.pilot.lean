/-! PURE LAW: the tape -/
/-- the tape object t with its array bt: the first n places of bs are told -/
def hTape (M : zzM) (t bt : Nat) (bs : List Value) (n : Nat) : Prop := M t = some (1, [.ref bt, .int (Int32.ofNat n)]) ∧ M bt = some (101, bs) ∧ bs.length = 2000 ∧ n ≤ 2000 ∧ t ≠ bt
/-- the four bytes of an int -/
def fb (v : Int32) (k : Int32) : Value := .int ((v >>> (k &&& 31)).toInt8.toInt32).toInt8.toInt32
theorem sp_putL {Z : zzG} {t bt : Nat} {v : Int32} {K : Option Value → zzM → Prop} {M : zzM} {bs : List Value} {n m : Nat} {k : Int32} (hw : zz_wf Z M) (h : hTape M t bt bs n) (hn : n + 1 ≤ 2000) (hk : ¬ k < 0)
    (hK : ∀ M', zz_wf Z M' → hTape M' t bt (bs.set n (fb v k)) (n + 1) → (∀ q, q ≠ t → q ≠ bt → M' q = M q) → wp_X2_put_L3 Z K m (some t) v (k + (-8)) M') : wp_X2_put_L3 Z K (m + 1) (some t) v k M := by
  obtain ⟨h1, h2, h3, h4, h5⟩ := h
  show (if k < 0 then _ else _)
  rw [if_neg hk]
  refine m_gA (x := some bt) hw h1 (by decide) rfl ?_
  refine m_gI hw h1 (by decide) rfl ?_
  refine m_ast hw h2 (by decide) (n_nn (by omega)) (by rw [n_cl (by omega), h3]; omega) fun hw => ?_
  have h1' : zz_up M bt (101, bs.set (Int32.ofNat n).toNatClampNeg (fb v k)) t = some (1, [.ref bt, .int (Int32.ofNat n)]) := (up_n h5).trans h1
  refine m_gI hw h1' (by decide) rfl ?_
  refine m_put hw h1' (by decide) (Nat.le_of_ble_eq_true rfl) fun hw => ?_
  refine hK _ hw ⟨up_s.trans ?_, ?_, by rw [List.length_set]; exact h3, by omega, h5⟩ fun q q1 q2 => ?_
  · show some (1, [Value.ref bt, Value.int (Int32.ofNat n + 1)]) = _
    rw [show (1 : Int32) = Int32.ofNat 1 from rfl, n_add]
  · rw [up_n (Ne.symm h5), up_s, n_cl (by omega)]
    rfl
  · rw [up_n q1, up_n q2]
theorem sp_put {Z : zzG} {t bt : Nat} {v : Int32} {K : Option Value → zzM → Prop} {M : zzM} {bs : List Value} {n : Nat} (hw : zz_wf Z M) (h : hTape M t bt bs n) (hn : n + 4 ≤ 2000)
    (hK : ∀ M', zz_wf Z M' → hTape M' t bt ((((bs.set n (fb v 24)).set (n + 1) (fb v 16)).set (n + 2) (fb v 8)).set (n + 3) (fb v 0)) (n + 4) → (∀ q, q ≠ t → q ≠ bt → M' q = M q) → K none M') : wp_X2_put Z (some t) v M K := by
  refine ⟨5, ?_⟩
  refine sp_putL hw h (by omega) (by decide) fun M1 w1 t1 f1 => ?_
  refine sp_putL w1 t1 (by omega) (by decide) fun M2 w2 t2 f2 => ?_
  refine sp_putL w2 t2 (by omega) (by decide) fun M3 w3 t3 f3 => ?_
  refine sp_putL w3 t3 (by omega) (by decide) fun M4 w4 t4 f4 => ?_
  refine hK M4 w4 t4 fun q q1 q2 => ?_
  rw [f4 q q1 q2, f3 q q1 q2, f2 q q1 q2, f1 q q1 q2]
