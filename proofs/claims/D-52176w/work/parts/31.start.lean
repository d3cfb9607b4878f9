/-! THE START: the law's entry out of the pure law (the rows ahead of it are SKELETON.whole's, behind PART A) -/
def zz_Pure : Prop := ∀ (Z : zzG) (b : Nat) (xs : List Int32) (adV : Nat → Nat), zz_Fro Z b xs adV → wp_L_law Z (some b) (fun _ => none) 1201152 5457322 (fun v _ => v = some (.int 1))
def R_law : String := "DebateHallLaw"
def lw_P (b : Addr) (xs : List Int32) (args : Array Value) (s : State) : Prop := args = #[.ref b] ∧ s.IntsAt b xs ∧ xs.length ≤ 384 ∧ (Jvm.Cond.and given_1 narrow_1).before args s = true
def lw_Q (_ : Array Value) (s : State) (o : Outcome) (t : State) : Prop := o = .returned (some (.int 1)) ∧ Framed s o t [] 1201152 5457322
def lw_Z (below : List Frame) (a : Array Value) (s : State) : State → Prop := fun t => ∃ o, t.status = .running ∧ Ended t below o ∧ lw_Q a s o t
def lw_At (p : Program) (s : State) (m : MethodId) (meth : Method) (c : Code) (b L : Nat) (xs : Nat → Int32) : Prop :=
  p.tables.exec = Jvm.exec ∧ c.code = code ∧ meth.sig.returnType = ret ∧ c.maxLocals = 9 ∧ s.vm.findClass R_law = some m.cls ∧ (∀ w ∈ lw_tbl, w.before #[Value.ref b] s = true) ∧ va_X b L xs s s.heap ∧ b < s.heap.size ∧ meth.locks = false ∧ (Jvm.Cond.and given_1 narrow_1).before #[Value.ref b] s = true
theorem whole_start (hpure : zz_Pure) {p : Program} {e : Env} {s : State} {m : MethodId} {below : List Frame} {meth : Method} {c : Code} (l : Launch) (hflags : l.flags = flags0) {b L : Nat} {xs : Nat → Int32} (hL : L ≤ 384) (C0 : lw_At p s m meth c b L xs) : W p l e room_1 s m #[Value.ref b] below meth c s.heap [] 0 0 (lw_Z below #[Value.ref b] s) (entryFrame m ([Value.ref b] : List Value).toArray 9) := by
  obtain ⟨hx, hb, hr, hml, hown, hts, hX, hbl, hlk, hgv⟩ := C0
  obtain ⟨Z, adV, hbase, hS, hR, hFro⟩ := zs_world hts (flat_of_before _ hgv) hX hL
  have hw := hpure Z b _ adV hFro
  have hl : l.stackTraces = false := by
    rw [Launch.stackTraces, hflags]
    decide +kernel
  have htsa : ∀ w ∈ lw_all, w.before #[Value.ref b] s = true := fun w hw => hts w (lw_all_tbl hw)
  have hT := okw_L_law (G := (p, l, e, room_1, s, m, #[Value.ref b], below, meth, c, zz_MQ below Z (fun v _ => v = some (.int 1)) (fun _ _ _ => False) 1201152 5457322 #[Value.ref b] s, Z)) ⟨hx, hb, hml, hown, htsa, hS, hl⟩ (K := fun v _ => v = some (.int 1)) ⟨rfl, hlk, hr⟩ trivial ⟨Nat.le_of_ble_eq_true rfl, Nat.le_of_ble_eq_true rfl⟩ hw
  have hfit : (lg_sl [Value.ref b]).length ≤ 9 := Nat.le_of_ble_eq_true rfl
  have hW : W p l e room_1 s m #[Value.ref b] below meth c s.heap [] 0 0 (zz_MQ below Z (fun v _ => v = some (.int 1)) (fun _ _ _ => False) 1201152 5457322 #[Value.ref b] s) (entryFrame m ([Value.ref b] : List Value).toArray 9) := by
    rw [lg_entry_eq]
    exact hT s.heap [] 0 0 _ hR va_S.rf (by decide) (by decide) (lv_entry [Value.ref b] hfit)
  intro T hT0 X
  obtain ⟨t, a1, o, b1, b2, b3, b4⟩ := hW T hT0 X
  refine ⟨t, a1, o, b1, b2, ?_⟩
  rcases b4 with ⟨v, M', rfl, hv, -, LL, ⟨f1, f2, f3⟩, hLL⟩ | ⟨q, ty, fs, M', LL, -, h, -⟩
  · refine ⟨by rw [hv], f1, f2, ?_⟩
    obtain ⟨g1, g2, g3, g4, g5, g6⟩ := f3
    refine ⟨g1, g2, g3, g4, g5, fun q c0 hc => ?_⟩
    obtain ⟨c9, k1, k2, k3, k4⟩ := g6 q c0 hc
    refine ⟨c9, k1, k2, k3, fun i hi => k4 i fun hm => ?_⟩
    have h1 := hLL _ hm
    have h2 : q < s.heap.size := (Array.getElem?_eq_some_iff.mp hc).1
    have h3 : zz_base Z ≤ q := h1
    rw [hbase] at h3
    exact absurd h3 (Nat.not_le.mpr h2)
  · exact h.elim
