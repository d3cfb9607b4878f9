/-! PURE LAW: charAt, hashCode of Strings -/
theorem s_b255 {x : Int32} (h : x.toInt8.toInt32 = x) : narrow .char (.int (((x &&& (255 : Int32)).toUInt32 % 65536).toInt32)) = .int (((x &&& (255 : Int32)).toUInt32 % 65536).toInt32) := by
  simp only [narrow]
  congr 1
  have h2 : ∀ y : UInt32, y % 65536 % 65536 = y % 65536 := fun y => by
    apply UInt32.toNat_inj.mp
    simp [UInt32.toNat_mod]
  simp [h2]
/-- the hash of bytes -/
def sHash (bs : List Int32) : Int32 := bs.foldl (fun h b => (31 : Int32) * h + (b &&& 255)) 0
theorem s_hashL {Z : zzG} {M : zzM} {v : Nat} {bv : Bool} {bs : List Int32} {K : Option Value → zzM → Prop} (h : zz_L Z M v = some (bv, 101, bs.map fun x => .int x)) (h3 : bs.length < 2 ^ 20) (hK : K (some (.int (sHash bs))) M) :
    ∀ d i a, i + d = bs.length → a = sHash (bs.take i) → wp_J15_signedHashCode_L8 Z K (d + 1) a (some v) (Int32.ofNat bs.length) (Int32.ofNat i) M := by
  intro d
  induction d with
  | zero =>
    intro i a hi ha
    show (if Int32.ofNat bs.length ≤ Int32.ofNat i then _ else _)
    rw [if_pos ((n_le (by omega) (by omega)).mpr (by omega)), ha, List.take_of_length_le (by omega)]
    exact hK
  | succ d ih =>
    intro i a hi ha
    have g1 : i < bs.length := by omega
    show (if Int32.ofNat bs.length ≤ Int32.ofNat i then _ else _)
    rw [if_neg (fun e => by have := (n_le (by omega) (by omega)).mp e; omega)]
    refine p_aI (x := bs[i]) h (by decide) (n_nn (by omega)) (by rw [n_cl (by omega)]; simp [g1]) ?_
    have := ih (i + 1) ((31 : Int32) * a + (bs[i] &&& 255)) (by omega) (by
      rw [ha, List.take_add_one, List.getElem?_eq_getElem g1]
      unfold sHash
      rw [List.foldl_append]
      rfl)
    rw [show Int32.ofNat i + 1 = Int32.ofNat (i + 1) from n_add i 1]
    exact this
theorem s_hash18 {Z : zzG} {M : zzM} {v : Nat} {bs : List Int32} {K : Option Value → zzM → Prop} (h : zz_L Z M v = some (true, 101, bs.map fun x => .int x)) (h3 : bs.length < 2 ^ 20) (hK : K (some (.int (sHash bs))) M) : wp_J18_hashCode Z (some v) M K := by
  refine p_len h (by decide) ?_
  simp only [List.length_map]
  by_cases e0 : bs.length = 0
  · rw [if_pos (by rw [e0]; rfl)]
    have : bs = [] := List.length_eq_zero_iff.mp e0
    subst this
    exact hK
  · rw [if_neg (show ¬ Int32.ofNat bs.length = 0 from fun e => e0 ((n_eq (b := 0) (by omega) (by decide)).mp e))]
    by_cases e1 : bs.length = 1
    · rw [if_pos (by rw [e1]; rfl)]
      obtain ⟨x, rfl⟩ := List.length_eq_one_iff.mp e1
      refine p_aI (x := x) h (by decide) (by decide) rfl ?_
      have : sHash [x] = x &&& 255 := by simp [sHash]
      rw [this] at hK
      exact hK
    · rw [if_neg (show ¬ Int32.ofNat bs.length = 1 from fun e => e1 ((n_eq (b := 1) (by omega) (by decide)).mp e))]
      refine p_len h (by decide) ?_
      simp only [List.length_map]
      unfold wp_J15_vectorizedHashCode
      rw [if_pos rfl]
      refine p_castA h ?_
      refine ⟨bs.length + 1, ?_⟩
      have e : (0 : Int32) + Int32.ofNat bs.length = Int32.ofNat bs.length := by simp
      rw [e]
      refine s_hashL (K := fun r1 M2 => zrI r1 fun x5 => (fun r4 M5 => zrI r4 fun x8 => wp_J18_hashCode_B51 Z K x8 M5) (some (Value.int x5)) M2) h h3 ?_ bs.length 0 0 (by omega) rfl
      exact hK
