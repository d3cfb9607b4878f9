/-! PURE LAW: charAt, hashCode of Strings -/
theorem s_b255 {x : Int32} (h : x.toInt8.toInt32 = x) : narrow .char (.int (((x &&& (255 : Int32)).toUInt32 % 65536).toInt32)) = .int (((x &&& (255 : Int32)).toUInt32 % 65536).toInt32) := by
  simp only [narrow]
  congr 1
  have h2 : ∀ y : UInt32, y % 65536 % 65536 = y % 65536 := fun y => by
    apply UInt32.toNat_inj.mp
    simp [UInt32.toNat_mod]
  simp [h2]
/-- the hash of bytes -/
def sHash (bs : List Int32) : Int32 := bs.foldl (fun h b => (31 : Int32) * h + (b &&& 255)) 0
theorem s_hashL {Z : zzG} {M : zzM} {v : Nat} {bv : Bool} {bs : List Int32} {K : Option Value → zzM → Prop} (h : zz_L Z M v = some (bv, 101, bs.map fun x => .int x)) (h3 : bs.length < 2 ^ 20) (hK : K (some (.int (sHash bs))) M) :
    ∀ d i a, i + d = bs.length → a = sHash (bs.take i) → wp_J15_signedHashCode_L8 Z K (d + 1) a (some v) (Int32.ofNat bs.length) (Int32.ofNat i) M := by
  intro d
  induction d with
  | zero =>
    intro i a hi ha
    show (if Int32.ofNat bs.length ≤ Int32.ofNat i then _ else _)
    rw [if_pos ((n_le (by omega) (by omega)).mpr (by omega)), ha, List.take_of_length_le (by omega)]
    exact hK
  | succ d ih =>
    intro i a hi ha
    have g1 : i < bs.length := by omega
    show (if Int32.ofNat bs.length ≤ Int32.ofNat i then _ else _)
    rw [if_neg (fun e => by have := (n_le (by omega) (by omega)).mp e; omega)]
    refine p_aI (x := bs[i]) h (by decide) (n_nn (by omega)) (by rw [n_cl (by omega)]; simp [g1]) ?_
    have := ih (i + 1) ((31 : Int32) * a + (bs[i] &&& 255)) (by omega) (by
      rw [ha, List.take_add_one, List.getElem?_eq_getElem g1]
      unfold sHash
      rw [List.foldl_append]
      rfl)
    rw [show Int32.ofNat i + 1 = Int32.ofNat (i + 1) from n_add i 1]
    exact this
