/-! LAYER Z: small facts of the printed walks -/
theorem zz_sl0 : (lg_sl []).length = 0 := rfl
theorem zz_slI (x : Int32) (as : List Value) : (lg_sl (.int x :: as)).length = (lg_sl as).length + 1 := by simp [lg_sl, Value.category]
theorem zz_slJ (x : Int64) (as : List Value) : (lg_sl (.long x :: as)).length = (lg_sl as).length + 2 := by simp [lg_sl, Value.category]
theorem zz_slA (r : Option Nat) (as : List Value) : (lg_sl (va_rf r :: as)).length = (lg_sl as).length + 1 := by
  simp only [lg_sl, List.flatMap_cons, zz_cat]
  simp
theorem zz_la0 (n : Nat) : lv_args n [] = [] := rfl
theorem zz_laI (n : Nat) (x : Int32) (as : List Value) : lv_args n (.int x :: as) = (n, .int x) :: lv_args (n + 1) as := rfl
theorem zz_laJ (n : Nat) (x : Int64) (as : List Value) : lv_args n (.long x :: as) = (n, .long x) :: lv_args (n + 2) as := rfl
theorem zz_laA (n : Nat) (r : Option Nat) (as : List Value) : lv_args n (va_rf r :: as) = (n, va_rf r) :: lv_args (n + 1) as := by
  simp only [lv_args, zz_cat]
  rfl
theorem zz_catI (x : Int32) : (Value.int x).category = 1 := rfl
theorem zz_catJ (x : Int64) : (Value.long x).category = 2 := rfl
theorem zz_catD (x : UInt64) : (Value.double x).category = 2 := rfl
theorem zz_lswD2 {k0 k1 o0 o1 d x : Int} (h0 : x ≠ k0) (h1 : x ≠ k1) : Op.lookupswitch.offset [(k0, o0), (k1, o1)] d x = d := by
  simp [Op.lookupswitch.offset, Ne.symm h0, Ne.symm h1, h0, h1]
theorem zz_ifp {P A B : Prop} {i : Decidable P} (h : P) (hw : @ite Prop P i A B) : A := by rwa [if_pos h] at hw
theorem zz_ifn {P A B : Prop} {i : Decidable P} (h : ¬ P) (hw : @ite Prop P i A B) : B := by rwa [if_neg h] at hw
theorem zz_pokFC {t k : Nat} {own : String} {cs : List Nat} (h1 : zz_pokF [t] k own) (h2 : zz_pokF cs k own) : zz_pokF (t :: cs) k own := by
  intro t' ht
  rcases List.mem_cons.mp ht with e | e
  · exact h1 t' (by rw [e]; exact List.mem_singleton.mpr rfl)
  · exact h2 t' e
