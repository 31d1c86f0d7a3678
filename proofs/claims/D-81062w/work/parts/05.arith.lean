/-! ARITHMETIC: numbers are Int, the machine's operations by Int32 and Int64 -/
def j_add (a b : Int) : Int := (Int32.ofInt a + Int32.ofInt b).toInt
def j_sub (a b : Int) : Int := (Int32.ofInt a - Int32.ofInt b).toInt
def j_mul (a b : Int) : Int := (Int32.ofInt a * Int32.ofInt b).toInt
def j_and (a b : Int) : Int := (Int32.ofInt a &&& Int32.ofInt b).toInt
def j_or (a b : Int) : Int := (Int32.ofInt a ||| Int32.ofInt b).toInt
def j_xor (a b : Int) : Int := (Int32.ofInt a ^^^ Int32.ofInt b).toInt
def j_shl (a b : Int) : Int := (Int32.ofInt a <<< (Int32.ofInt b &&& 31)).toInt
def j_shr (a b : Int) : Int := (Int32.ofInt a >>> (Int32.ofInt b &&& 31)).toInt
def j_div (a b : Int) : Int := (Int32.ofInt a / Int32.ofInt b).toInt
def j_rem (a b : Int) : Int := (Int32.ofInt a - Int32.ofInt a / Int32.ofInt b * Int32.ofInt b).toInt
def j_neg (a : Int) : Int := (-Int32.ofInt a).toInt
def j_i2b (a : Int) : Int := (Int32.ofInt a).toInt8.toInt32.toInt
def j_l2i (a : Int) : Int := (Int64.ofInt a).toInt32.toInt
def j_i2l (a : Int) : Int := (Int32.ofInt a).toInt64.toInt
def j_ladd (a b : Int) : Int := (Int64.ofInt a + Int64.ofInt b).toInt
def j_lmul (a b : Int) : Int := (Int64.ofInt a * Int64.ofInt b).toInt
def j_lor (a b : Int) : Int := (Int64.ofInt a ||| Int64.ofInt b).toInt
def j_lshl (a b : Int) : Int := (Int64.ofInt a <<< ((Int32.ofInt b).toInt64 &&& 63)).toInt
theorem r_add {M : jx_M} {n : Nat} {G : List Nat} {pc : Nat} (d : decode (jx_cc M) pc = .ok (.iadd, 1)) : jx_R2 M n G 1 1 1 pc (pc + 1) (fun a b => jx_pure (j_add a b)) := by
  intro L A p l e R s m args below meth c F hC env σ H locs ls st hI hn a b ha hb o env2 σ2 hf k
  cases hf
  have h := k (jx_rng _) H locs ls hI
  rw [jx_v1, j_add, Int32.ofInt_toInt] at h
  exact lv_iadd hC.1 hC.2.1 d h
theorem r_sub {M : jx_M} {n : Nat} {G : List Nat} {pc : Nat} (d : decode (jx_cc M) pc = .ok (.isub, 1)) : jx_R2 M n G 1 1 1 pc (pc + 1) (fun a b => jx_pure (j_sub a b)) := by
  intro L A p l e R s m args below meth c F hC env σ H locs ls st hI hn a b ha hb o env2 σ2 hf k
  cases hf
  have h := k (jx_rng _) H locs ls hI
  rw [jx_v1, j_sub, Int32.ofInt_toInt] at h
  exact lv_isub hC.1 hC.2.1 d h
theorem r_mul {M : jx_M} {n : Nat} {G : List Nat} {pc : Nat} (d : decode (jx_cc M) pc = .ok (.imul, 1)) : jx_R2 M n G 1 1 1 pc (pc + 1) (fun a b => jx_pure (j_mul a b)) := by
  intro L A p l e R s m args below meth c F hC env σ H locs ls st hI hn a b ha hb o env2 σ2 hf k
  cases hf
  have h := k (jx_rng _) H locs ls hI
  rw [jx_v1, j_mul, Int32.ofInt_toInt] at h
  exact lv_imul hC.1 hC.2.1 d h
theorem r_and {M : jx_M} {n : Nat} {G : List Nat} {pc : Nat} (d : decode (jx_cc M) pc = .ok (.iand, 1)) : jx_R2 M n G 1 1 1 pc (pc + 1) (fun a b => jx_pure (j_and a b)) := by
  intro L A p l e R s m args below meth c F hC env σ H locs ls st hI hn a b ha hb o env2 σ2 hf k
  cases hf
  have h := k (jx_rng _) H locs ls hI
  rw [jx_v1, j_and, Int32.ofInt_toInt] at h
  exact lv_iand hC.1 hC.2.1 d h
theorem r_or {M : jx_M} {n : Nat} {G : List Nat} {pc : Nat} (d : decode (jx_cc M) pc = .ok (.ior, 1)) : jx_R2 M n G 1 1 1 pc (pc + 1) (fun a b => jx_pure (j_or a b)) := by
  intro L A p l e R s m args below meth c F hC env σ H locs ls st hI hn a b ha hb o env2 σ2 hf k
  cases hf
  have h := k (jx_rng _) H locs ls hI
  rw [jx_v1, j_or, Int32.ofInt_toInt] at h
  exact lv_ior hC.1 hC.2.1 d h
theorem r_xor {M : jx_M} {n : Nat} {G : List Nat} {pc : Nat} (d : decode (jx_cc M) pc = .ok (.ixor, 1)) : jx_R2 M n G 1 1 1 pc (pc + 1) (fun a b => jx_pure (j_xor a b)) := by
  intro L A p l e R s m args below meth c F hC env σ H locs ls st hI hn a b ha hb o env2 σ2 hf k
  cases hf
  have h := k (jx_rng _) H locs ls hI
  rw [jx_v1, j_xor, Int32.ofInt_toInt] at h
  exact lv_ixor hC.1 hC.2.1 d h
theorem r_shl {M : jx_M} {n : Nat} {G : List Nat} {pc : Nat} (d : decode (jx_cc M) pc = .ok (.ishl, 1)) : jx_R2 M n G 1 1 1 pc (pc + 1) (fun a b => jx_pure (j_shl a b)) := by
  intro L A p l e R s m args below meth c F hC env σ H locs ls st hI hn a b ha hb o env2 σ2 hf k
  cases hf
  have h := k (jx_rng _) H locs ls hI
  rw [jx_v1, j_shl, Int32.ofInt_toInt] at h
  exact lv_ishl hC.1 hC.2.1 d h
theorem r_shr {M : jx_M} {n : Nat} {G : List Nat} {pc : Nat} (d : decode (jx_cc M) pc = .ok (.ishr, 1)) : jx_R2 M n G 1 1 1 pc (pc + 1) (fun a b => jx_pure (j_shr a b)) := by
  intro L A p l e R s m args below meth c F hC env σ H locs ls st hI hn a b ha hb o env2 σ2 hf k
  cases hf
  have h := k (jx_rng _) H locs ls hI
  rw [jx_v1, j_shr, Int32.ofInt_toInt] at h
  exact lv_ishr hC.1 hC.2.1 d h
theorem r_div {M : jx_M} {n : Nat} {G : List Nat} {pc : Nat} (d : decode (jx_cc M) pc = .ok (.idiv, 1)) : jx_R2 M n G 1 1 1 pc (pc + 1) (fun a b e σ => if b = 0 then none else some (.ok (j_div a b), e, σ)) := by
  intro L A p l e R s m args below meth c F hC env σ H locs ls st hI hn a b ha hb o env2 σ2 hf k
  by_cases h0 : b = 0
  · simp [h0] at hf
  · simp only [h0, if_false] at hf
    cases hf
    have h := k (jx_rng _) H locs ls hI
    rw [jx_v1, j_div, Int32.ofInt_toInt] at h
    exact lv_idiv hC.1 hC.2.1 d (fun q => h0 (by have := congrArg Int32.toInt q; rw [jx_ti hb] at this; exact this)) h
theorem r_rem {M : jx_M} {n : Nat} {G : List Nat} {pc : Nat} (d : decode (jx_cc M) pc = .ok (.irem, 1)) : jx_R2 M n G 1 1 1 pc (pc + 1) (fun a b e σ => if b = 0 then none else some (.ok (j_rem a b), e, σ)) := by
  intro L A p l e R s m args below meth c F hC env σ H locs ls st hI hn a b ha hb o env2 σ2 hf k
  by_cases h0 : b = 0
  · simp [h0] at hf
  · simp only [h0, if_false] at hf
    cases hf
    have h := k (jx_rng _) H locs ls hI
    rw [jx_v1, j_rem, Int32.ofInt_toInt] at h
    exact lv_irem hC.1 hC.2.1 d (fun q => h0 (by have := congrArg Int32.toInt q; rw [jx_ti hb] at this; exact this)) h
/-- of booleans a boolean -/
theorem r_zand {M : jx_M} {n : Nat} {G : List Nat} {pc : Nat} (d : decode (jx_cc M) pc = .ok (.iand, 1)) : jx_R2 M n G 3 3 3 pc (pc + 1) (fun a b => jx_pure (j_and a b)) := by
  intro L A p l e R s m args below meth c F hC env σ H locs ls st hI hn a b ha hb o env2 σ2 hf k
  cases hf
  have h2 : jx_ok L 3 (j_and a b) := by
    refine jx_ok3.mpr ?_
    rcases jx_ok3.mp ha with rfl | rfl <;> rcases jx_ok3.mp hb with rfl | rfl <;> decide
  have h := k h2 H locs ls hI
  rw [jx_vi (by decide) (by decide), j_and, Int32.ofInt_toInt] at h
  exact lv_iand hC.1 hC.2.1 d h
/-- of booleans a boolean -/
theorem r_zor {M : jx_M} {n : Nat} {G : List Nat} {pc : Nat} (d : decode (jx_cc M) pc = .ok (.ior, 1)) : jx_R2 M n G 3 3 3 pc (pc + 1) (fun a b => jx_pure (j_or a b)) := by
  intro L A p l e R s m args below meth c F hC env σ H locs ls st hI hn a b ha hb o env2 σ2 hf k
  cases hf
  have h2 : jx_ok L 3 (j_or a b) := by
    refine jx_ok3.mpr ?_
    rcases jx_ok3.mp ha with rfl | rfl <;> rcases jx_ok3.mp hb with rfl | rfl <;> decide
  have h := k h2 H locs ls hI
  rw [jx_vi (by decide) (by decide), j_or, Int32.ofInt_toInt] at h
  exact lv_ior hC.1 hC.2.1 d h
/-- of booleans a boolean -/
theorem r_zxor {M : jx_M} {n : Nat} {G : List Nat} {pc : Nat} (d : decode (jx_cc M) pc = .ok (.ixor, 1)) : jx_R2 M n G 3 3 3 pc (pc + 1) (fun a b => jx_pure (j_xor a b)) := by
  intro L A p l e R s m args below meth c F hC env σ H locs ls st hI hn a b ha hb o env2 σ2 hf k
  cases hf
  have h2 : jx_ok L 3 (j_xor a b) := by
    refine jx_ok3.mpr ?_
    rcases jx_ok3.mp ha with rfl | rfl <;> rcases jx_ok3.mp hb with rfl | rfl <;> decide
  have h := k h2 H locs ls hI
  rw [jx_vi (by decide) (by decide), j_xor, Int32.ofInt_toInt] at h
  exact lv_ixor hC.1 hC.2.1 d h
theorem r_ladd {M : jx_M} {n : Nat} {G : List Nat} {pc : Nat} (d : decode (jx_cc M) pc = .ok (.ladd, 1)) : jx_R2 M n G 2 2 2 pc (pc + 1) (fun a b => jx_pure (j_ladd a b)) := by
  intro L A p l e R s m args below meth c F hC env σ H locs ls st hI hn a b ha hb o env2 σ2 hf k
  cases hf
  have h := k (jx_rngl _) H locs ls hI
  rw [jx_v2, j_ladd, Int64.ofInt_toInt] at h
  exact lv_ladd hC.1 hC.2.1 d h
theorem r_lmul {M : jx_M} {n : Nat} {G : List Nat} {pc : Nat} (d : decode (jx_cc M) pc = .ok (.lmul, 1)) : jx_R2 M n G 2 2 2 pc (pc + 1) (fun a b => jx_pure (j_lmul a b)) := by
  intro L A p l e R s m args below meth c F hC env σ H locs ls st hI hn a b ha hb o env2 σ2 hf k
  cases hf
  have h := k (jx_rngl _) H locs ls hI
  rw [jx_v2, j_lmul, Int64.ofInt_toInt] at h
  exact lv_lmul hC.1 hC.2.1 d h
theorem r_lor {M : jx_M} {n : Nat} {G : List Nat} {pc : Nat} (d : decode (jx_cc M) pc = .ok (.lor, 1)) : jx_R2 M n G 2 2 2 pc (pc + 1) (fun a b => jx_pure (j_lor a b)) := by
  intro L A p l e R s m args below meth c F hC env σ H locs ls st hI hn a b ha hb o env2 σ2 hf k
  cases hf
  have h := k (jx_rngl _) H locs ls hI
  rw [jx_v2, j_lor, Int64.ofInt_toInt] at h
  exact lv_lor hC.1 hC.2.1 d h
theorem r_lshl {M : jx_M} {n : Nat} {G : List Nat} {pc : Nat} (d : decode (jx_cc M) pc = .ok (.lshl, 1)) : jx_R2 M n G 2 1 2 pc (pc + 1) (fun a b => jx_pure (j_lshl a b)) := by
  intro L A p l e R s m args below meth c F hC env σ H locs ls st hI hn a b ha hb o env2 σ2 hf k
  cases hf
  have h := k (jx_rngl _) H locs ls hI
  rw [jx_v2, j_lshl, Int64.ofInt_toInt] at h
  exact lv_lshl hC.1 hC.2.1 d rfl h
theorem r_neg {M : jx_M} {n : Nat} {G : List Nat} {pc : Nat} (d : decode (jx_cc M) pc = .ok (.ineg, 1)) : jx_R1 M n G 1 1 pc (pc + 1) (fun a => jx_pure (j_neg a)) := by
  intro L A p l e R s m args below meth c F hC env σ H locs ls st hI hn a ha o env2 σ2 hf k
  cases hf
  have h := k (jx_rng _) H locs ls hI
  rw [jx_v1, j_neg, Int32.ofInt_toInt] at h
  exact lv_ineg hC.1 hC.2.1 d h
theorem r_l2i {M : jx_M} {n : Nat} {G : List Nat} {pc : Nat} (d : decode (jx_cc M) pc = .ok (.l2i, 1)) : jx_R1 M n G 2 1 pc (pc + 1) (fun a => jx_pure (j_l2i a)) := by
  intro L A p l e R s m args below meth c F hC env σ H locs ls st hI hn a ha o env2 σ2 hf k
  cases hf
  have h := k (jx_rng _) H locs ls hI
  rw [jx_v1, j_l2i, Int32.ofInt_toInt] at h
  exact lv_l2i hC.1 hC.2.1 d rfl h
theorem r_i2l {M : jx_M} {n : Nat} {G : List Nat} {pc : Nat} (d : decode (jx_cc M) pc = .ok (.i2l, 1)) : jx_R1 M n G 1 2 pc (pc + 1) (fun a => jx_pure (j_i2l a)) := by
  intro L A p l e R s m args below meth c F hC env σ H locs ls st hI hn a ha o env2 σ2 hf k
  cases hf
  have h := k (jx_rngl _) H locs ls hI
  rw [jx_v2, j_i2l, Int64.ofInt_toInt] at h
  exact lv_i2l hC.1 hC.2.1 d rfl h
theorem j_i2b_rng (a : Int) : -128 ≤ j_i2b a ∧ j_i2b a ≤ 127 := by
  unfold j_i2b
  rw [Int8.toInt_toInt32]
  have h1 := Int8.le_toInt (Int32.ofInt a).toInt8
  have h2 := Int8.toInt_lt (Int32.ofInt a).toInt8
  omega
theorem r_i2b {M : jx_M} {n : Nat} {G : List Nat} {pc : Nat} (d : decode (jx_cc M) pc = .ok (.i2b, 1)) : jx_R1 M n G 1 4 pc (pc + 1) (fun a => jx_pure (j_i2b a)) := by
  intro L A p l e R s m args below meth c F hC env σ H locs ls st hI hn a ha o env2 σ2 hf k
  cases hf
  have h := k (j_i2b_rng a) H locs ls hI
  rw [jx_vi (by decide) (by decide), j_i2b, Int32.ofInt_toInt] at h
  exact lv_i2b hC.1 hC.2.1 d rfl h
