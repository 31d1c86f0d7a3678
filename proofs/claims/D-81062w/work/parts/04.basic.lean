/-! BASIC: rows of one, two and three values, constants, locals, arithmetic, conditions, statements -/
/-- the continuation of an expression -/
abbrev jx_kE (M : jx_M) (G : List Nat) (t pc2 : Nat) (L : jx_L) (A : Nat → Prop) (p : Program) (l : Launch) (e : Env) (R : Room) (s : State) (m : MethodId) (args : Array Value) (below : List Frame) (meth : Method) (c : Code) (F : jx_R → jx_S → Prop) (st : List Value) (o : Except jx_R Int) (env2 : jx_E) (σ2 : jx_S) : Prop :=
  match o with
  | .ok v => jx_ok L t v → ∀ H2 locs2 ls2, jx_I M L A G s env2 σ2 H2 locs2 ls2 → W p l e R s m args below meth c H2 locs2 (jx_nc L) (jx_ns L) (jx_Q L A (jx_rt M) F s below) (F0 m pc2 ls2 (jx_v L t v :: st))
  | .error r => F r σ2
abbrev jx_kS (M : jx_M) (G : List Nat) (pc2 : Nat) (L : jx_L) (A : Nat → Prop) (p : Program) (l : Launch) (e : Env) (R : Room) (s : State) (m : MethodId) (args : Array Value) (below : List Frame) (meth : Method) (c : Code) (F : jx_R → jx_S → Prop) (o : Except jx_R Unit) (env2 : jx_E) (σ2 : jx_S) : Prop :=
  match o with
  | .ok _ => ∀ H2 locs2 ls2, jx_I M L A G s env2 σ2 H2 locs2 ls2 → W p l e R s m args below meth c H2 locs2 (jx_nc L) (jx_ns L) (jx_Q L A (jx_rt M) F s below) (F0 m pc2 ls2 [])
  | .error r => F r σ2
/-- one instruction (or a few) over one value on the stack -/
def jx_R1 (M : jx_M) (n : Nat) (G : List Nat) (t t2 pc pc2 : Nat) (h : Int → jx_X Int) : Prop :=
  ∀ (L : jx_L) (A : Nat → Prop) (p : Program) (l : Launch) (e : Env) (R : Room) (s : State) (m : MethodId) (args : Array Value) (below : List Frame) (meth : Method) (c : Code) (F : jx_R → jx_S → Prop),
    jx_C M L A p R s m args meth c → ∀ (env : jx_E) (σ : jx_S) (H : Heap) (locs : List Loc) (ls : Array Slot) (st : List Value), jx_I M L A G s env σ H locs ls → jx_ct st ≤ n → ∀ v, jx_ok L t v →
    ∀ o env2 σ2, h v env σ = some (o, env2, σ2) → jx_kE M G t2 pc2 L A p l e R s m args below meth c F st o env2 σ2 →
    W p l e R s m args below meth c H locs (jx_nc L) (jx_ns L) (jx_Q L A (jx_rt M) F s below) (F0 m pc ls (jx_v L t v :: st))
/-- over two values, the second on top -/
def jx_R2 (M : jx_M) (n : Nat) (G : List Nat) (t1 t2 t3 pc pc2 : Nat) (h : Int → Int → jx_X Int) : Prop :=
  ∀ (L : jx_L) (A : Nat → Prop) (p : Program) (l : Launch) (e : Env) (R : Room) (s : State) (m : MethodId) (args : Array Value) (below : List Frame) (meth : Method) (c : Code) (F : jx_R → jx_S → Prop),
    jx_C M L A p R s m args meth c → ∀ (env : jx_E) (σ : jx_S) (H : Heap) (locs : List Loc) (ls : Array Slot) (st : List Value), jx_I M L A G s env σ H locs ls → jx_ct st ≤ n → ∀ a b, jx_ok L t1 a → jx_ok L t2 b →
    ∀ o env2 σ2, h a b env σ = some (o, env2, σ2) → jx_kE M G t3 pc2 L A p l e R s m args below meth c F st o env2 σ2 →
    W p l e R s m args below meth c H locs (jx_nc L) (jx_ns L) (jx_Q L A (jx_rt M) F s below) (F0 m pc ls (jx_v L t2 b :: jx_v L t1 a :: st))
theorem jx_cat (L : jx_L) (t : Nat) (v : Int) : (jx_v L t v).category = if t = 2 then 2 else 1 := by
  unfold jx_v
  by_cases h : t = 2
  · simp [h, Value.category]
  · by_cases h2 : t < 5
    · simp [h, h2, Value.category]
    · simp only [h, h2, if_false]
      cases jx_r L t v <;> simp [va_rf, Value.category]
theorem jx_ct_cons (L : jx_L) (t : Nat) (v : Int) (st : List Value) : jx_ct (jx_v L t v :: st) = (if t = 2 then 2 else 1) + jx_ct st := by
  simp only [jx_ct, List.map_cons, List.sum_cons, jx_cat]
theorem jx_x1 {M : jx_M} {n : Nat} {G : List Nat} {t t2 pc pc1 pc2 : Nat} {f : jx_X Int} {h : Int → jx_X Int} (h1 : jx_XE M n G t pc pc1 f) (h2 : jx_R1 M n G t t2 pc1 pc2 h) : jx_XE M n G t2 pc pc2 (jx_bind f h) := by
  intro L A p l e R s m args below meth c F hC env σ H locs ls st hI hn o env2 σ2 hf k
  rcases jx_bind_inv hf with ⟨r, h3, rfl⟩ | ⟨a, e1, s1, h3, h4⟩
  · exact h1 L A p l e R s m args below meth c F hC env σ H locs ls st hI hn _ _ _ h3 k
  · exact h1 L A p l e R s m args below meth c F hC env σ H locs ls st hI hn _ _ _ h3 (fun hv H2 locs2 ls2 hI2 => h2 L A p l e R s m args below meth c F hC e1 s1 H2 locs2 ls2 st hI2 hn a hv o env2 σ2 h4 k)
theorem jx_x2 {M : jx_M} {n n2 : Nat} {G : List Nat} {t1 t2 t3 pc p1 p2 p3 : Nat} {f g : jx_X Int} {h : Int → Int → jx_X Int} (h1 : jx_XE M n G t1 pc p1 f) (h2 : jx_XE M n2 G t2 p1 p2 g) (h3 : jx_R2 M n G t1 t2 t3 p2 p3 h) (hn2 : (if t1 = 2 then 2 else 1) + n ≤ n2) :
    jx_XE M n G t3 pc p3 (jx_bind f fun a => jx_bind g fun b => h a b) := by
  intro L A p l e R s m args below meth c F hC env σ H locs ls st hI hn o env2 σ2 hf k
  rcases jx_bind_inv hf with ⟨r, h4, rfl⟩ | ⟨a, e1, s1, h4, h5⟩
  · exact h1 L A p l e R s m args below meth c F hC env σ H locs ls st hI hn _ _ _ h4 k
  · refine h1 L A p l e R s m args below meth c F hC env σ H locs ls st hI hn _ _ _ h4 (fun hv H2 locs2 ls2 hI2 => ?_)
    have hn3 : jx_ct (jx_v L t1 a :: st) ≤ n2 := by rw [jx_ct_cons]; omega
    rcases jx_bind_inv h5 with ⟨r, h6, rfl⟩ | ⟨b, e2, s2, h6, h7⟩
    · exact h2 L A p l e R s m args below meth c F hC e1 s1 H2 locs2 ls2 _ hI2 hn3 _ _ _ h6 k
    · exact h2 L A p l e R s m args below meth c F hC e1 s1 H2 locs2 ls2 _ hI2 hn3 _ _ _ h6 (fun hb H3 locs3 ls3 hI3 => h3 L A p l e R s m args below meth c F hC e2 s2 H3 locs3 ls3 st hI3 hn a b hv hb o env2 σ2 h7 k)
/-! values -/
theorem jx_vi {L : jx_L} {t : Nat} (h2 : t ≠ 2) (h5 : t < 5) (v : Int) : jx_v L t v = .int (Int32.ofInt v) := by simp [jx_v, h2, h5]
theorem jx_v1 {L : jx_L} (v : Int) : jx_v L 1 v = .int (Int32.ofInt v) := rfl
theorem jx_v2 {L : jx_L} (v : Int) : jx_v L 2 v = .long (Int64.ofInt v) := rfl
theorem jx_vr {L : jx_L} {t : Nat} (h5 : 5 ≤ t) (v : Int) : jx_v L t v = va_rf (jx_r L t v) := by
  have h2 : t ≠ 2 := by omega
  have h3 : ¬ t < 5 := by omega
  simp [jx_v, h2, h3]
theorem jx_rng (x : Int32) : -2147483648 ≤ x.toInt ∧ x.toInt ≤ 2147483647 := by
  have h1 := Int32.le_toInt x
  have h2 := Int32.toInt_lt x
  omega
theorem jx_rngl (x : Int64) : -9223372036854775808 ≤ x.toInt ∧ x.toInt ≤ 9223372036854775807 := by
  have h1 := Int64.le_toInt x
  have h2 := Int64.toInt_lt x
  omega
theorem jx_ok1 {L : jx_L} {v : Int} : jx_ok L 1 v ↔ -2147483648 ≤ v ∧ v ≤ 2147483647 := Iff.rfl
theorem jx_ok2 {L : jx_L} {v : Int} : jx_ok L 2 v ↔ -9223372036854775808 ≤ v ∧ v ≤ 9223372036854775807 := Iff.rfl
theorem jx_ok3 {L : jx_L} {v : Int} : jx_ok L 3 v ↔ v = 0 ∨ v = 1 := Iff.rfl
theorem jx_ok4 {L : jx_L} {v : Int} : jx_ok L 4 v ↔ -128 ≤ v ∧ v ≤ 127 := Iff.rfl
theorem jx_oki {L : jx_L} {t : Nat} {v : Int} (h0 : t ≠ 0) (h2 : t ≠ 2) (h5 : t < 5) (h : jx_ok L t v) : -2147483648 ≤ v ∧ v ≤ 2147483647 := by
  rcases (show t = 1 ∨ t = 3 ∨ t = 4 by omega) with rfl | rfl | rfl
  · exact h
  · rcases jx_ok3.mp h with rfl | rfl <;> decide
  · have := jx_ok4.mp h; omega
theorem jx_ti {v : Int} (h : -2147483648 ≤ v ∧ v ≤ 2147483647) : (Int32.ofInt v).toInt = v := Int32.toInt_ofInt_of_le (by omega) (by omega)
theorem jx_tl {v : Int} (h : -9223372036854775808 ≤ v ∧ v ≤ 9223372036854775807) : (Int64.ofInt v).toInt = v := Int64.toInt_ofInt_of_le (by omega) (by omega)
/-- a smaller type is one of ints -/
theorem jx_sub {M : jx_M} {n : Nat} {G : List Nat} {t pc pc2 : Nat} {f : jx_X Int} (h : jx_XE M n G t pc pc2 f) (h0 : t ≠ 0) (h2 : t ≠ 2) (h5 : t < 5) : jx_XE M n G 1 pc pc2 f := by
  intro L A p l e R s m args below meth c F hC env σ H locs ls st hI hn o env2 σ2 hf k
  refine h L A p l e R s m args below meth c F hC env σ H locs ls st hI hn o env2 σ2 hf ?_
  cases o with
  | error r => exact k
  | ok v =>
    intro hv H2 locs2 ls2 hI2
    rw [jx_vi h2 h5]
    exact k (jx_oki h0 h2 h5 hv) H2 locs2 ls2 hI2
/-! constants, locals -/
def jx_c (v : Int) : jx_X Int := jx_pure v
def jx_ld (i : Nat) : jx_X Int := fun e σ => some (.ok (e.getD i 0), e, σ)
theorem x_iconst {M : jx_M} {n : Nat} {G : List Nat} {pc : Nat} (v : Int) (d : decode (jx_cc M) pc = .ok (.iconst v, 1)) (hv : -2147483648 ≤ v ∧ v ≤ 2147483647) : jx_XE M n G 1 pc (pc + 1) (jx_c v) := by
  intro L A p l e R s m args below meth c F hC env σ H locs ls st hI hn o env2 σ2 hf k
  cases hf
  exact lv_iconst hC.1 hC.2.1 d rfl (k hv H locs ls hI)
theorem x_zconst {M : jx_M} {n : Nat} {G : List Nat} {pc : Nat} (v : Int) (d : decode (jx_cc M) pc = .ok (.iconst v, 1)) (hv : v = 0 ∨ v = 1) : jx_XE M n G 3 pc (pc + 1) (jx_c v) := by
  intro L A p l e R s m args below meth c F hC env σ H locs ls st hI hn o env2 σ2 hf k
  cases hf
  exact lv_iconst hC.1 hC.2.1 d rfl (k hv H locs ls hI)
theorem x_bipush {M : jx_M} {n : Nat} {G : List Nat} {pc : Nat} (v : Int) (d : decode (jx_cc M) pc = .ok (.bipush v, 2)) (hv : -2147483648 ≤ v ∧ v ≤ 2147483647) (he : (Int8.ofInt v).toInt32 = Int32.ofInt v) : jx_XE M n G 1 pc (pc + 2) (jx_c v) := by
  intro L A p l e R s m args below meth c F hC env σ H locs ls st hI hn o env2 σ2 hf k
  cases hf
  exact lv_bipush hC.1 hC.2.1 d he (k hv H locs ls hI)
theorem x_sipush {M : jx_M} {n : Nat} {G : List Nat} {pc : Nat} (v : Int) (d : decode (jx_cc M) pc = .ok (.sipush v, 3)) (hv : -2147483648 ≤ v ∧ v ≤ 2147483647) (he : (Int16.ofInt v).toInt32 = Int32.ofInt v) : jx_XE M n G 1 pc (pc + 3) (jx_c v) := by
  intro L A p l e R s m args below meth c F hC env σ H locs ls st hI hn o env2 σ2 hf k
  cases hf
  exact lv_sipush hC.1 hC.2.1 d he (k hv H locs ls hI)
theorem x_lconst {M : jx_M} {n : Nat} {G : List Nat} {pc : Nat} (v : Fin 2) (d : decode (jx_cc M) pc = .ok (.lconst v, 1)) : jx_XE M n G 2 pc (pc + 1) (jx_c (v.val : Int)) := by
  intro L A p l e R s m args below meth c F hC env σ H locs ls st hI hn o env2 σ2 hf k
  cases hf
  have hv : (v.val : Int) < 2 := by have := v.isLt; omega
  exact lv_lconst hC.1 hC.2.1 d (by rcases v with ⟨v, hv2⟩; rcases v with _ | _ | v <;> first | rfl | omega) (k (jx_ok2.mpr (by omega)) H locs ls hI)
theorem x_ldc {M : jx_M} {n : Nat} {G : List Nat} {pc idx : Nat} (v : Int) (d : decode (jx_cc M) pc = .ok (.ldc idx, 2)) (hw : Cond.constant (jx_own M) idx (Int32.ofInt v) ∈ jx_tb) (hv : -2147483648 ≤ v ∧ v ≤ 2147483647) : jx_XE M n G 1 pc (pc + 2) (jx_c v) := by
  intro L A p l e R s m args below meth c F hC env σ H locs ls st hI hn o env2 σ2 hf k
  cases hf
  exact lv_ldc hC.1 hC.2.1 hC.2.2.2.1 (hC.2.2.2.2.1 _ hw) d (k hv H locs ls hI)
theorem x_ldcw {M : jx_M} {n : Nat} {G : List Nat} {pc idx : Nat} (v : Int) (d : decode (jx_cc M) pc = .ok (.ldc_w idx, 3)) (hw : Cond.constant (jx_own M) idx (Int32.ofInt v) ∈ jx_tb) (hv : -2147483648 ≤ v ∧ v ≤ 2147483647) : jx_XE M n G 1 pc (pc + 3) (jx_c v) := by
  intro L A p l e R s m args below meth c F hC env σ H locs ls st hI hn o env2 σ2 hf k
  cases hf
  exact lv_ldcw hC.1 hC.2.1 hC.2.2.2.1 (hC.2.2.2.2.1 _ hw) d (k hv H locs ls hI)
theorem x_ldc2 {M : jx_M} {n : Nat} {G : List Nat} {pc idx : Nat} (v : Int) (d : decode (jx_cc M) pc = .ok (.ldc2_w idx, 3)) (hw : Cond.constantLong (jx_own M) idx (Int64.ofInt v) ∈ jx_tb) (hv : -9223372036854775808 ≤ v ∧ v ≤ 9223372036854775807) : jx_XE M n G 2 pc (pc + 3) (jx_c v) := by
  intro L A p l e R s m args below meth c F hC env σ H locs ls st hI hn o env2 σ2 hf k
  cases hf
  exact lv_ldc2 hC.1 hC.2.1 hC.2.2.2.1 (hC.2.2.2.2.1 _ hw) d (k hv H locs ls hI)
theorem x_ild {M : jx_M} {n : Nat} {G : List Nat} {t pc : Nat} (i : Nat) (d : decode (jx_cc M) pc = .ok (.iload i, 2)) (hG : G[i]? = some t) (h0 : t ≠ 0) (h2 : t ≠ 2) (h5 : t < 5) : jx_XE M n G t pc (pc + 2) (jx_ld i) := by
  intro L A p l e R s m args below meth c F hC env σ H locs ls st hI hn o env2 σ2 hf k
  cases hf
  obtain ⟨a1, a2⟩ := hI.2.2.2.2.2.2 i t hG h0
  rw [jx_vi h2 h5] at a1
  refine lv_iload hC.1 hC.2.1 d a1 ?_
  have h := k a2 H locs ls hI
  rw [jx_vi h2 h5] at h
  exact h
theorem x_ildn {M : jx_M} {n : Nat} {G : List Nat} {t pc : Nat} (i : Fin 4) (d : decode (jx_cc M) pc = .ok (.iload_n i, 1)) (hG : G[i.val]? = some t) (h0 : t ≠ 0) (h2 : t ≠ 2) (h5 : t < 5) : jx_XE M n G t pc (pc + 1) (jx_ld i.val) := by
  intro L A p l e R s m args below meth c F hC env σ H locs ls st hI hn o env2 σ2 hf k
  cases hf
  obtain ⟨a1, a2⟩ := hI.2.2.2.2.2.2 _ t hG h0
  rw [jx_vi h2 h5] at a1
  refine lv_iload_n hC.1 hC.2.1 d rfl a1 ?_
  have h := k a2 H locs ls hI
  rw [jx_vi h2 h5] at h
  exact h
theorem x_lld {M : jx_M} {n : Nat} {G : List Nat} {pc : Nat} (i : Nat) (d : decode (jx_cc M) pc = .ok (.lload i, 2)) (hG : G[i]? = some 2) : jx_XE M n G 2 pc (pc + 2) (jx_ld i) := by
  intro L A p l e R s m args below meth c F hC env σ H locs ls st hI hn o env2 σ2 hf k
  cases hf
  obtain ⟨a1, a2⟩ := hI.2.2.2.2.2.2 i 2 hG (by decide)
  exact lv_lload hC.1 hC.2.1 d a1 (k a2 H locs ls hI)
theorem x_lldn {M : jx_M} {n : Nat} {G : List Nat} {pc : Nat} (i : Fin 4) (d : decode (jx_cc M) pc = .ok (.lload_n i, 1)) (hG : G[i.val]? = some 2) : jx_XE M n G 2 pc (pc + 1) (jx_ld i.val) := by
  intro L A p l e R s m args below meth c F hC env σ H locs ls st hI hn o env2 σ2 hf k
  cases hf
  obtain ⟨a1, a2⟩ := hI.2.2.2.2.2.2 _ 2 hG (by decide)
  exact lv_lload_n hC.1 hC.2.1 d rfl a1 (k a2 H locs ls hI)
theorem x_ald {M : jx_M} {n : Nat} {G : List Nat} {t pc : Nat} (i : Nat) (d : decode (jx_cc M) pc = .ok (.aload i, 2)) (hG : G[i]? = some t) (h5 : 5 ≤ t) : jx_XE M n G t pc (pc + 2) (jx_ld i) := by
  intro L A p l e R s m args below meth c F hC env σ H locs ls st hI hn o env2 σ2 hf k
  cases hf
  obtain ⟨a1, a2⟩ := hI.2.2.2.2.2.2 i t hG (by omega)
  have h := k a2 H locs ls hI
  rw [jx_vr h5] at a1 h
  cases hr : jx_r L t (env.getD i 0) with
  | none => rw [hr] at a1 h; exact lv_aloadN hC.1 hC.2.1 d a1 h
  | some x => rw [hr] at a1 h; exact lv_aload hC.1 hC.2.1 d a1 h
theorem x_aldn {M : jx_M} {n : Nat} {G : List Nat} {t pc : Nat} (i : Fin 4) (d : decode (jx_cc M) pc = .ok (.aload_n i, 1)) (hG : G[i.val]? = some t) (h5 : 5 ≤ t) : jx_XE M n G t pc (pc + 1) (jx_ld i.val) := by
  intro L A p l e R s m args below meth c F hC env σ H locs ls st hI hn o env2 σ2 hf k
  cases hf
  obtain ⟨a1, a2⟩ := hI.2.2.2.2.2.2 _ t hG (by omega)
  have h := k a2 H locs ls hI
  rw [jx_vr h5] at a1 h
  cases hr : jx_r L t (env.getD i.val 0) with
  | none => rw [hr] at a1 h; exact lv_aload_nN hC.1 hC.2.1 d rfl a1 h
  | some x => rw [hr] at a1 h; exact lv_aload_n hC.1 hC.2.1 d rfl a1 h
theorem x_null {M : jx_M} {n : Nat} {G : List Nat} {pc : Nat} (t : Nat) (d : decode (jx_cc M) pc = .ok (.aconst_null, 1)) (h5 : 5 ≤ t) (h7 : t ≠ 7) (h8 : t ≠ 8) : jx_XE M n G t pc (pc + 1) (jx_c 0) := by
  intro L A p l e R s m args below meth c F hC env σ H locs ls st hI hn o env2 σ2 hf k
  cases hf
  have h := k (by unfold jx_ok; repeat (first | exact trivial | exact Or.inl rfl | omega | split)) H locs ls hI
  rw [jx_vr h5] at h
  exact lv_null hC.1 hC.2.1 d h
