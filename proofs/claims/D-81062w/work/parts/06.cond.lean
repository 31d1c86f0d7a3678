/-! CONDITIONS -/
abbrev jx_kC (M : jx_M) (G : List Nat) (pt pf : Nat) (L : jx_L) (A : Nat → Prop) (p : Program) (l : Launch) (e : Env) (R : Room) (s : State) (m : MethodId) (args : Array Value) (below : List Frame) (meth : Method) (c : Code) (F : jx_R → jx_S → Prop) (st : List Value) (o : Except jx_R Bool) (env2 : jx_E) (σ2 : jx_S) : Prop :=
  match o with
  | .ok b => ∀ H2 locs2 ls2, jx_I M L A G s env2 σ2 H2 locs2 ls2 → W p l e R s m args below meth c H2 locs2 (jx_nc L) (jx_ns L) (jx_Q L A (jx_rt M) F s below) (F0 m (if b then pt else pf) ls2 st)
  | .error r => F r σ2
def jx_C1 (M : jx_M) (n : Nat) (G : List Nat) (t pc pt pf : Nat) (h : Int → Bool) : Prop :=
  ∀ (L : jx_L) (A : Nat → Prop) (p : Program) (l : Launch) (e : Env) (R : Room) (s : State) (m : MethodId) (args : Array Value) (below : List Frame) (meth : Method) (c : Code) (F : jx_R → jx_S → Prop),
    jx_C M L A p R s m args meth c → ∀ (H : Heap) (locs : List Loc) (ls : Array Slot) (st : List Value), ∀ v, jx_ok L t v →
    W p l e R s m args below meth c H locs (jx_nc L) (jx_ns L) (jx_Q L A (jx_rt M) F s below) (F0 m (if h v then pt else pf) ls st) →
    W p l e R s m args below meth c H locs (jx_nc L) (jx_ns L) (jx_Q L A (jx_rt M) F s below) (F0 m pc ls (jx_v L t v :: st))
def jx_C2 (M : jx_M) (n : Nat) (G : List Nat) (t1 t2 pc pt pf : Nat) (h : Int → Int → Bool) : Prop :=
  ∀ (L : jx_L) (A : Nat → Prop) (p : Program) (l : Launch) (e : Env) (R : Room) (s : State) (m : MethodId) (args : Array Value) (below : List Frame) (meth : Method) (c : Code) (F : jx_R → jx_S → Prop),
    jx_C M L A p R s m args meth c → ∀ (H : Heap) (locs : List Loc) (ls : Array Slot) (st : List Value), ∀ a b, jx_ok L t1 a → jx_ok L t2 b →
    W p l e R s m args below meth c H locs (jx_nc L) (jx_ns L) (jx_Q L A (jx_rt M) F s below) (F0 m (if h a b then pt else pf) ls st) →
    W p l e R s m args below meth c H locs (jx_nc L) (jx_ns L) (jx_Q L A (jx_rt M) F s below) (F0 m pc ls (jx_v L t2 b :: jx_v L t1 a :: st))
theorem jx_c1 {M : jx_M} {n : Nat} {G : List Nat} {t pc p1 pt pf : Nat} {f : jx_X Int} {h : Int → Bool} (h1 : jx_XE M n G t pc p1 f) (h2 : jx_C1 M n G t p1 pt pf h) : jx_XC M n G pc pt pf (jx_bind f fun v => jx_pure (h v)) := by
  intro L A p l e R s m args below meth c F hC env σ H locs ls st hI hn o env2 σ2 hf k
  rcases jx_bind_inv hf with ⟨r, h3, rfl⟩ | ⟨a, e1, s1, h3, h4⟩
  · exact h1 L A p l e R s m args below meth c F hC env σ H locs ls st hI hn _ _ _ h3 k
  · cases h4
    exact h1 L A p l e R s m args below meth c F hC env σ H locs ls st hI hn _ _ _ h3 (fun hv H2 locs2 ls2 hI2 => h2 L A p l e R s m args below meth c F hC H2 locs2 ls2 st a hv (k H2 locs2 ls2 hI2))
theorem jx_c2 {M : jx_M} {n n2 : Nat} {G : List Nat} {t1 t2 pc p1 p2 pt pf : Nat} {f g : jx_X Int} {h : Int → Int → Bool} (h1 : jx_XE M n G t1 pc p1 f) (h2 : jx_XE M n2 G t2 p1 p2 g) (h3 : jx_C2 M n G t1 t2 p2 pt pf h) (hn2 : (if t1 = 2 then 2 else 1) + n ≤ n2) :
    jx_XC M n G pc pt pf (jx_bind f fun a => jx_bind g fun b => jx_pure (h a b)) := by
  intro L A p l e R s m args below meth c F hC env σ H locs ls st hI hn o env2 σ2 hf k
  rcases jx_bind_inv hf with ⟨r, h4, rfl⟩ | ⟨a, e1, s1, h4, h5⟩
  · exact h1 L A p l e R s m args below meth c F hC env σ H locs ls st hI hn _ _ _ h4 k
  · refine h1 L A p l e R s m args below meth c F hC env σ H locs ls st hI hn _ _ _ h4 (fun hv H2 locs2 ls2 hI2 => ?_)
    have hn3 : jx_ct (jx_v L t1 a :: st) ≤ n2 := by rw [jx_ct_cons]; omega
    rcases jx_bind_inv h5 with ⟨r, h6, rfl⟩ | ⟨b, e2, s2, h6, h7⟩
    · exact h2 L A p l e R s m args below meth c F hC e1 s1 H2 locs2 ls2 _ hI2 hn3 _ _ _ h6 k
    · cases h7
      exact h2 L A p l e R s m args below meth c F hC e1 s1 H2 locs2 ls2 _ hI2 hn3 _ _ _ h6 (fun hb H3 locs3 ls3 hI3 => h3 L A p l e R s m args below meth c F hC H3 locs3 ls3 st a b hv hb (k H3 locs3 ls3 hI3))
theorem j_lt32 {a b : Int} (ha : -2147483648 ≤ a ∧ a ≤ 2147483647) (hb : -2147483648 ≤ b ∧ b ≤ 2147483647) : Int32.ofInt a < Int32.ofInt b ↔ a < b := by
  rw [Int32.lt_iff_toInt_lt, jx_ti ha, jx_ti hb]
theorem j_le32 {a b : Int} (ha : -2147483648 ≤ a ∧ a ≤ 2147483647) (hb : -2147483648 ≤ b ∧ b ≤ 2147483647) : Int32.ofInt a ≤ Int32.ofInt b ↔ a ≤ b := by
  rw [Int32.le_iff_toInt_le, jx_ti ha, jx_ti hb]
theorem j_eq32 {a b : Int} (ha : -2147483648 ≤ a ∧ a ≤ 2147483647) (hb : -2147483648 ≤ b ∧ b ≤ 2147483647) : Int32.ofInt a = Int32.ofInt b ↔ a = b := by
  rw [← Int32.toInt_inj, jx_ti ha, jx_ti hb]
theorem j_lt64 {a b : Int} (ha : -9223372036854775808 ≤ a ∧ a ≤ 9223372036854775807) (hb : -9223372036854775808 ≤ b ∧ b ≤ 9223372036854775807) : Int64.ofInt a < Int64.ofInt b ↔ a < b := by
  rw [Int64.lt_iff_toInt_lt, jx_tl ha, jx_tl hb]
theorem j_eq64 {a b : Int} (ha : -9223372036854775808 ≤ a ∧ a ≤ 9223372036854775807) (hb : -9223372036854775808 ≤ b ∧ b ≤ 9223372036854775807) : Int64.ofInt a = Int64.ofInt b ↔ a = b := by
  rw [← Int64.toInt_inj, jx_tl ha, jx_tl hb]
theorem j_lcmp {a b : Int} (ha : -9223372036854775808 ≤ a ∧ a ≤ 9223372036854775807) (hb : -9223372036854775808 ≤ b ∧ b ≤ 9223372036854775807) : lg_cmp (Int64.ofInt a) (Int64.ofInt b) = if b < a then 1 else if a = b then 0 else -1 := by
  unfold lg_cmp
  simp only [j_lt64 hb ha, j_eq64 ha hb]
theorem cit_eq {M : jx_M} {n : Nat} {G : List Nat} {pc tgt : Nat} {off : Int} (d : decode (jx_cc M) pc = .ok (.if_icmp .eq off, 3)) (ht : (pc : Int) + off = (tgt : Int)) : jx_C2 M n G 1 1 pc tgt (pc + 3) (fun a b => decide (a = b)) := by
  intro L A p l e R s m args below meth c F hC H locs ls st a b ha hb k
  dsimp only at k
  have ha := jx_ok1.mp ha
  have hb := jx_ok1.mp hb
  have hz : Int32.ofInt a = Int32.ofInt b ↔ a = b := j_eq32 ha hb
  refine lv_icmp_eq hC.1 hC.2.1 d ht (fun q => ?_) (fun q => ?_)
  · have q2 : a = b := hz.mp q
    have hd : decide (a = b) = true := by first | exact decide_eq_true (by omega) | exact decide_eq_false (by omega)
    rw [if_pos hd] at k
    exact k
  · have q2 : ¬ (a = b) := fun z => q (hz.mpr z)
    have hd : decide (a = b) = false := by first | exact decide_eq_true (by omega) | exact decide_eq_false (by omega)
    rw [if_neg (fun z => Bool.false_ne_true (hd.symm.trans z))] at k
    exact k
theorem cif_eq {M : jx_M} {n : Nat} {G : List Nat} {pc tgt : Nat} {off : Int} (d : decode (jx_cc M) pc = .ok (.if_icmp .eq off, 3)) (ht : (pc : Int) + off = (tgt : Int)) : jx_C2 M n G 1 1 pc (pc + 3) tgt (fun a b => decide (a ≠ b)) := by
  intro L A p l e R s m args below meth c F hC H locs ls st a b ha hb k
  dsimp only at k
  have ha := jx_ok1.mp ha
  have hb := jx_ok1.mp hb
  have hz : Int32.ofInt a = Int32.ofInt b ↔ a = b := j_eq32 ha hb
  refine lv_icmp_eq hC.1 hC.2.1 d ht (fun q => ?_) (fun q => ?_)
  · have q2 : a = b := hz.mp q
    have hd : decide (a ≠ b) = false := by first | exact decide_eq_true (by omega) | exact decide_eq_false (by omega)
    rw [if_neg (fun z => Bool.false_ne_true (hd.symm.trans z))] at k
    exact k
  · have q2 : ¬ (a = b) := fun z => q (hz.mpr z)
    have hd : decide (a ≠ b) = true := by first | exact decide_eq_true (by omega) | exact decide_eq_false (by omega)
    rw [if_pos hd] at k
    exact k
theorem czt_eq {M : jx_M} {n : Nat} {G : List Nat} {pc tgt : Nat} {off : Int} (d : decode (jx_cc M) pc = .ok (.ifCond .eq off, 3)) (ht : (pc : Int) + off = (tgt : Int)) : jx_C1 M n G 1 pc tgt (pc + 3) (fun a => decide (a = 0)) := by
  intro L A p l e R s m args below meth c F hC H locs ls st a ha k
  dsimp only at k
  have hb : -2147483648 ≤ (0 : Int) ∧ (0 : Int) ≤ 2147483647 := by omega
  have ha := jx_ok1.mp ha
  have hz : Int32.ofInt a = (0 : Int32) ↔ a = 0 := j_eq32 ha hb
  refine lv_if_eq hC.1 hC.2.1 d ht (fun q => ?_) (fun q => ?_)
  · have q2 : a = 0 := hz.mp q
    have hd : decide (a = 0) = true := by first | exact decide_eq_true (by omega) | exact decide_eq_false (by omega)
    rw [if_pos hd] at k
    exact k
  · have q2 : ¬ (a = 0) := fun z => q (hz.mpr z)
    have hd : decide (a = 0) = false := by first | exact decide_eq_true (by omega) | exact decide_eq_false (by omega)
    rw [if_neg (fun z => Bool.false_ne_true (hd.symm.trans z))] at k
    exact k
theorem czf_eq {M : jx_M} {n : Nat} {G : List Nat} {pc tgt : Nat} {off : Int} (d : decode (jx_cc M) pc = .ok (.ifCond .eq off, 3)) (ht : (pc : Int) + off = (tgt : Int)) : jx_C1 M n G 1 pc (pc + 3) tgt (fun a => decide (a ≠ 0)) := by
  intro L A p l e R s m args below meth c F hC H locs ls st a ha k
  dsimp only at k
  have hb : -2147483648 ≤ (0 : Int) ∧ (0 : Int) ≤ 2147483647 := by omega
  have ha := jx_ok1.mp ha
  have hz : Int32.ofInt a = (0 : Int32) ↔ a = 0 := j_eq32 ha hb
  refine lv_if_eq hC.1 hC.2.1 d ht (fun q => ?_) (fun q => ?_)
  · have q2 : a = 0 := hz.mp q
    have hd : decide (a ≠ 0) = false := by first | exact decide_eq_true (by omega) | exact decide_eq_false (by omega)
    rw [if_neg (fun z => Bool.false_ne_true (hd.symm.trans z))] at k
    exact k
  · have q2 : ¬ (a = 0) := fun z => q (hz.mpr z)
    have hd : decide (a ≠ 0) = true := by first | exact decide_eq_true (by omega) | exact decide_eq_false (by omega)
    rw [if_pos hd] at k
    exact k
theorem cit_ne {M : jx_M} {n : Nat} {G : List Nat} {pc tgt : Nat} {off : Int} (d : decode (jx_cc M) pc = .ok (.if_icmp .ne off, 3)) (ht : (pc : Int) + off = (tgt : Int)) : jx_C2 M n G 1 1 pc tgt (pc + 3) (fun a b => decide (a ≠ b)) := by
  intro L A p l e R s m args below meth c F hC H locs ls st a b ha hb k
  dsimp only at k
  have ha := jx_ok1.mp ha
  have hb := jx_ok1.mp hb
  have hz : Int32.ofInt a = Int32.ofInt b ↔ a = b := j_eq32 ha hb
  refine lv_icmp_ne hC.1 hC.2.1 d ht (fun q => ?_) (fun q => ?_)
  · have q2 : ¬ (a = b) := fun z => q (hz.mpr z)
    have hd : decide (a ≠ b) = true := by first | exact decide_eq_true (by omega) | exact decide_eq_false (by omega)
    rw [if_pos hd] at k
    exact k
  · have q2 : a = b := hz.mp q
    have hd : decide (a ≠ b) = false := by first | exact decide_eq_true (by omega) | exact decide_eq_false (by omega)
    rw [if_neg (fun z => Bool.false_ne_true (hd.symm.trans z))] at k
    exact k
theorem cif_ne {M : jx_M} {n : Nat} {G : List Nat} {pc tgt : Nat} {off : Int} (d : decode (jx_cc M) pc = .ok (.if_icmp .ne off, 3)) (ht : (pc : Int) + off = (tgt : Int)) : jx_C2 M n G 1 1 pc (pc + 3) tgt (fun a b => decide (a = b)) := by
  intro L A p l e R s m args below meth c F hC H locs ls st a b ha hb k
  dsimp only at k
  have ha := jx_ok1.mp ha
  have hb := jx_ok1.mp hb
  have hz : Int32.ofInt a = Int32.ofInt b ↔ a = b := j_eq32 ha hb
  refine lv_icmp_ne hC.1 hC.2.1 d ht (fun q => ?_) (fun q => ?_)
  · have q2 : ¬ (a = b) := fun z => q (hz.mpr z)
    have hd : decide (a = b) = false := by first | exact decide_eq_true (by omega) | exact decide_eq_false (by omega)
    rw [if_neg (fun z => Bool.false_ne_true (hd.symm.trans z))] at k
    exact k
  · have q2 : a = b := hz.mp q
    have hd : decide (a = b) = true := by first | exact decide_eq_true (by omega) | exact decide_eq_false (by omega)
    rw [if_pos hd] at k
    exact k
theorem czt_ne {M : jx_M} {n : Nat} {G : List Nat} {pc tgt : Nat} {off : Int} (d : decode (jx_cc M) pc = .ok (.ifCond .ne off, 3)) (ht : (pc : Int) + off = (tgt : Int)) : jx_C1 M n G 1 pc tgt (pc + 3) (fun a => decide (a ≠ 0)) := by
  intro L A p l e R s m args below meth c F hC H locs ls st a ha k
  dsimp only at k
  have hb : -2147483648 ≤ (0 : Int) ∧ (0 : Int) ≤ 2147483647 := by omega
  have ha := jx_ok1.mp ha
  have hz : Int32.ofInt a = (0 : Int32) ↔ a = 0 := j_eq32 ha hb
  refine lv_if_ne hC.1 hC.2.1 d ht (fun q => ?_) (fun q => ?_)
  · have q2 : ¬ (a = 0) := fun z => q (hz.mpr z)
    have hd : decide (a ≠ 0) = true := by first | exact decide_eq_true (by omega) | exact decide_eq_false (by omega)
    rw [if_pos hd] at k
    exact k
  · have q2 : a = 0 := hz.mp q
    have hd : decide (a ≠ 0) = false := by first | exact decide_eq_true (by omega) | exact decide_eq_false (by omega)
    rw [if_neg (fun z => Bool.false_ne_true (hd.symm.trans z))] at k
    exact k
theorem czf_ne {M : jx_M} {n : Nat} {G : List Nat} {pc tgt : Nat} {off : Int} (d : decode (jx_cc M) pc = .ok (.ifCond .ne off, 3)) (ht : (pc : Int) + off = (tgt : Int)) : jx_C1 M n G 1 pc (pc + 3) tgt (fun a => decide (a = 0)) := by
  intro L A p l e R s m args below meth c F hC H locs ls st a ha k
  dsimp only at k
  have hb : -2147483648 ≤ (0 : Int) ∧ (0 : Int) ≤ 2147483647 := by omega
  have ha := jx_ok1.mp ha
  have hz : Int32.ofInt a = (0 : Int32) ↔ a = 0 := j_eq32 ha hb
  refine lv_if_ne hC.1 hC.2.1 d ht (fun q => ?_) (fun q => ?_)
  · have q2 : ¬ (a = 0) := fun z => q (hz.mpr z)
    have hd : decide (a = 0) = false := by first | exact decide_eq_true (by omega) | exact decide_eq_false (by omega)
    rw [if_neg (fun z => Bool.false_ne_true (hd.symm.trans z))] at k
    exact k
  · have q2 : a = 0 := hz.mp q
    have hd : decide (a = 0) = true := by first | exact decide_eq_true (by omega) | exact decide_eq_false (by omega)
    rw [if_pos hd] at k
    exact k
theorem cit_lt {M : jx_M} {n : Nat} {G : List Nat} {pc tgt : Nat} {off : Int} (d : decode (jx_cc M) pc = .ok (.if_icmp .lt off, 3)) (ht : (pc : Int) + off = (tgt : Int)) : jx_C2 M n G 1 1 pc tgt (pc + 3) (fun a b => decide (a < b)) := by
  intro L A p l e R s m args below meth c F hC H locs ls st a b ha hb k
  dsimp only at k
  have ha := jx_ok1.mp ha
  have hb := jx_ok1.mp hb
  have hz : Int32.ofInt a < Int32.ofInt b ↔ a < b := j_lt32 ha hb
  refine lv_icmp_lt hC.1 hC.2.1 d ht (fun q => ?_) (fun q => ?_)
  · have q2 : a < b := hz.mp q
    have hd : decide (a < b) = true := by first | exact decide_eq_true (by omega) | exact decide_eq_false (by omega)
    rw [if_pos hd] at k
    exact k
  · have q2 : ¬ (a < b) := fun z => q (hz.mpr z)
    have hd : decide (a < b) = false := by first | exact decide_eq_true (by omega) | exact decide_eq_false (by omega)
    rw [if_neg (fun z => Bool.false_ne_true (hd.symm.trans z))] at k
    exact k
theorem cif_lt {M : jx_M} {n : Nat} {G : List Nat} {pc tgt : Nat} {off : Int} (d : decode (jx_cc M) pc = .ok (.if_icmp .lt off, 3)) (ht : (pc : Int) + off = (tgt : Int)) : jx_C2 M n G 1 1 pc (pc + 3) tgt (fun a b => decide (b ≤ a)) := by
  intro L A p l e R s m args below meth c F hC H locs ls st a b ha hb k
  dsimp only at k
  have ha := jx_ok1.mp ha
  have hb := jx_ok1.mp hb
  have hz : Int32.ofInt a < Int32.ofInt b ↔ a < b := j_lt32 ha hb
  refine lv_icmp_lt hC.1 hC.2.1 d ht (fun q => ?_) (fun q => ?_)
  · have q2 : a < b := hz.mp q
    have hd : decide (b ≤ a) = false := by first | exact decide_eq_true (by omega) | exact decide_eq_false (by omega)
    rw [if_neg (fun z => Bool.false_ne_true (hd.symm.trans z))] at k
    exact k
  · have q2 : ¬ (a < b) := fun z => q (hz.mpr z)
    have hd : decide (b ≤ a) = true := by first | exact decide_eq_true (by omega) | exact decide_eq_false (by omega)
    rw [if_pos hd] at k
    exact k
theorem czt_lt {M : jx_M} {n : Nat} {G : List Nat} {pc tgt : Nat} {off : Int} (d : decode (jx_cc M) pc = .ok (.ifCond .lt off, 3)) (ht : (pc : Int) + off = (tgt : Int)) : jx_C1 M n G 1 pc tgt (pc + 3) (fun a => decide (a < 0)) := by
  intro L A p l e R s m args below meth c F hC H locs ls st a ha k
  dsimp only at k
  have hb : -2147483648 ≤ (0 : Int) ∧ (0 : Int) ≤ 2147483647 := by omega
  have ha := jx_ok1.mp ha
  have hz : Int32.ofInt a < (0 : Int32) ↔ a < 0 := j_lt32 ha hb
  refine lv_if_lt hC.1 hC.2.1 d ht (fun q => ?_) (fun q => ?_)
  · have q2 : a < 0 := hz.mp q
    have hd : decide (a < 0) = true := by first | exact decide_eq_true (by omega) | exact decide_eq_false (by omega)
    rw [if_pos hd] at k
    exact k
  · have q2 : ¬ (a < 0) := fun z => q (hz.mpr z)
    have hd : decide (a < 0) = false := by first | exact decide_eq_true (by omega) | exact decide_eq_false (by omega)
    rw [if_neg (fun z => Bool.false_ne_true (hd.symm.trans z))] at k
    exact k
theorem czf_lt {M : jx_M} {n : Nat} {G : List Nat} {pc tgt : Nat} {off : Int} (d : decode (jx_cc M) pc = .ok (.ifCond .lt off, 3)) (ht : (pc : Int) + off = (tgt : Int)) : jx_C1 M n G 1 pc (pc + 3) tgt (fun a => decide (0 ≤ a)) := by
  intro L A p l e R s m args below meth c F hC H locs ls st a ha k
  dsimp only at k
  have hb : -2147483648 ≤ (0 : Int) ∧ (0 : Int) ≤ 2147483647 := by omega
  have ha := jx_ok1.mp ha
  have hz : Int32.ofInt a < (0 : Int32) ↔ a < 0 := j_lt32 ha hb
  refine lv_if_lt hC.1 hC.2.1 d ht (fun q => ?_) (fun q => ?_)
  · have q2 : a < 0 := hz.mp q
    have hd : decide (0 ≤ a) = false := by first | exact decide_eq_true (by omega) | exact decide_eq_false (by omega)
    rw [if_neg (fun z => Bool.false_ne_true (hd.symm.trans z))] at k
    exact k
  · have q2 : ¬ (a < 0) := fun z => q (hz.mpr z)
    have hd : decide (0 ≤ a) = true := by first | exact decide_eq_true (by omega) | exact decide_eq_false (by omega)
    rw [if_pos hd] at k
    exact k
theorem cit_ge {M : jx_M} {n : Nat} {G : List Nat} {pc tgt : Nat} {off : Int} (d : decode (jx_cc M) pc = .ok (.if_icmp .ge off, 3)) (ht : (pc : Int) + off = (tgt : Int)) : jx_C2 M n G 1 1 pc tgt (pc + 3) (fun a b => decide (b ≤ a)) := by
  intro L A p l e R s m args below meth c F hC H locs ls st a b ha hb k
  dsimp only at k
  have ha := jx_ok1.mp ha
  have hb := jx_ok1.mp hb
  have hz : Int32.ofInt b ≤ Int32.ofInt a ↔ b ≤ a := j_le32 hb ha
  refine lv_icmp_ge hC.1 hC.2.1 d ht (fun q => ?_) (fun q => ?_)
  · have q2 : b ≤ a := hz.mp q
    have hd : decide (b ≤ a) = true := by first | exact decide_eq_true (by omega) | exact decide_eq_false (by omega)
    rw [if_pos hd] at k
    exact k
  · have q2 : ¬ (b ≤ a) := fun z => q (hz.mpr z)
    have hd : decide (b ≤ a) = false := by first | exact decide_eq_true (by omega) | exact decide_eq_false (by omega)
    rw [if_neg (fun z => Bool.false_ne_true (hd.symm.trans z))] at k
    exact k
theorem cif_ge {M : jx_M} {n : Nat} {G : List Nat} {pc tgt : Nat} {off : Int} (d : decode (jx_cc M) pc = .ok (.if_icmp .ge off, 3)) (ht : (pc : Int) + off = (tgt : Int)) : jx_C2 M n G 1 1 pc (pc + 3) tgt (fun a b => decide (a < b)) := by
  intro L A p l e R s m args below meth c F hC H locs ls st a b ha hb k
  dsimp only at k
  have ha := jx_ok1.mp ha
  have hb := jx_ok1.mp hb
  have hz : Int32.ofInt b ≤ Int32.ofInt a ↔ b ≤ a := j_le32 hb ha
  refine lv_icmp_ge hC.1 hC.2.1 d ht (fun q => ?_) (fun q => ?_)
  · have q2 : b ≤ a := hz.mp q
    have hd : decide (a < b) = false := by first | exact decide_eq_true (by omega) | exact decide_eq_false (by omega)
    rw [if_neg (fun z => Bool.false_ne_true (hd.symm.trans z))] at k
    exact k
  · have q2 : ¬ (b ≤ a) := fun z => q (hz.mpr z)
    have hd : decide (a < b) = true := by first | exact decide_eq_true (by omega) | exact decide_eq_false (by omega)
    rw [if_pos hd] at k
    exact k
theorem czt_ge {M : jx_M} {n : Nat} {G : List Nat} {pc tgt : Nat} {off : Int} (d : decode (jx_cc M) pc = .ok (.ifCond .ge off, 3)) (ht : (pc : Int) + off = (tgt : Int)) : jx_C1 M n G 1 pc tgt (pc + 3) (fun a => decide (0 ≤ a)) := by
  intro L A p l e R s m args below meth c F hC H locs ls st a ha k
  dsimp only at k
  have hb : -2147483648 ≤ (0 : Int) ∧ (0 : Int) ≤ 2147483647 := by omega
  have ha := jx_ok1.mp ha
  have hz : (0 : Int32) ≤ Int32.ofInt a ↔ 0 ≤ a := j_le32 hb ha
  refine lv_if_ge hC.1 hC.2.1 d ht (fun q => ?_) (fun q => ?_)
  · have q2 : 0 ≤ a := hz.mp q
    have hd : decide (0 ≤ a) = true := by first | exact decide_eq_true (by omega) | exact decide_eq_false (by omega)
    rw [if_pos hd] at k
    exact k
  · have q2 : ¬ (0 ≤ a) := fun z => q (hz.mpr z)
    have hd : decide (0 ≤ a) = false := by first | exact decide_eq_true (by omega) | exact decide_eq_false (by omega)
    rw [if_neg (fun z => Bool.false_ne_true (hd.symm.trans z))] at k
    exact k
theorem czf_ge {M : jx_M} {n : Nat} {G : List Nat} {pc tgt : Nat} {off : Int} (d : decode (jx_cc M) pc = .ok (.ifCond .ge off, 3)) (ht : (pc : Int) + off = (tgt : Int)) : jx_C1 M n G 1 pc (pc + 3) tgt (fun a => decide (a < 0)) := by
  intro L A p l e R s m args below meth c F hC H locs ls st a ha k
  dsimp only at k
  have hb : -2147483648 ≤ (0 : Int) ∧ (0 : Int) ≤ 2147483647 := by omega
  have ha := jx_ok1.mp ha
  have hz : (0 : Int32) ≤ Int32.ofInt a ↔ 0 ≤ a := j_le32 hb ha
  refine lv_if_ge hC.1 hC.2.1 d ht (fun q => ?_) (fun q => ?_)
  · have q2 : 0 ≤ a := hz.mp q
    have hd : decide (a < 0) = false := by first | exact decide_eq_true (by omega) | exact decide_eq_false (by omega)
    rw [if_neg (fun z => Bool.false_ne_true (hd.symm.trans z))] at k
    exact k
  · have q2 : ¬ (0 ≤ a) := fun z => q (hz.mpr z)
    have hd : decide (a < 0) = true := by first | exact decide_eq_true (by omega) | exact decide_eq_false (by omega)
    rw [if_pos hd] at k
    exact k
theorem cit_gt {M : jx_M} {n : Nat} {G : List Nat} {pc tgt : Nat} {off : Int} (d : decode (jx_cc M) pc = .ok (.if_icmp .gt off, 3)) (ht : (pc : Int) + off = (tgt : Int)) : jx_C2 M n G 1 1 pc tgt (pc + 3) (fun a b => decide (b < a)) := by
  intro L A p l e R s m args below meth c F hC H locs ls st a b ha hb k
  dsimp only at k
  have ha := jx_ok1.mp ha
  have hb := jx_ok1.mp hb
  have hz : Int32.ofInt b < Int32.ofInt a ↔ b < a := j_lt32 hb ha
  refine lv_icmp_gt hC.1 hC.2.1 d ht (fun q => ?_) (fun q => ?_)
  · have q2 : b < a := hz.mp q
    have hd : decide (b < a) = true := by first | exact decide_eq_true (by omega) | exact decide_eq_false (by omega)
    rw [if_pos hd] at k
    exact k
  · have q2 : ¬ (b < a) := fun z => q (hz.mpr z)
    have hd : decide (b < a) = false := by first | exact decide_eq_true (by omega) | exact decide_eq_false (by omega)
    rw [if_neg (fun z => Bool.false_ne_true (hd.symm.trans z))] at k
    exact k
theorem cif_gt {M : jx_M} {n : Nat} {G : List Nat} {pc tgt : Nat} {off : Int} (d : decode (jx_cc M) pc = .ok (.if_icmp .gt off, 3)) (ht : (pc : Int) + off = (tgt : Int)) : jx_C2 M n G 1 1 pc (pc + 3) tgt (fun a b => decide (a ≤ b)) := by
  intro L A p l e R s m args below meth c F hC H locs ls st a b ha hb k
  dsimp only at k
  have ha := jx_ok1.mp ha
  have hb := jx_ok1.mp hb
  have hz : Int32.ofInt b < Int32.ofInt a ↔ b < a := j_lt32 hb ha
  refine lv_icmp_gt hC.1 hC.2.1 d ht (fun q => ?_) (fun q => ?_)
  · have q2 : b < a := hz.mp q
    have hd : decide (a ≤ b) = false := by first | exact decide_eq_true (by omega) | exact decide_eq_false (by omega)
    rw [if_neg (fun z => Bool.false_ne_true (hd.symm.trans z))] at k
    exact k
  · have q2 : ¬ (b < a) := fun z => q (hz.mpr z)
    have hd : decide (a ≤ b) = true := by first | exact decide_eq_true (by omega) | exact decide_eq_false (by omega)
    rw [if_pos hd] at k
    exact k
theorem czt_gt {M : jx_M} {n : Nat} {G : List Nat} {pc tgt : Nat} {off : Int} (d : decode (jx_cc M) pc = .ok (.ifCond .gt off, 3)) (ht : (pc : Int) + off = (tgt : Int)) : jx_C1 M n G 1 pc tgt (pc + 3) (fun a => decide (0 < a)) := by
  intro L A p l e R s m args below meth c F hC H locs ls st a ha k
  dsimp only at k
  have hb : -2147483648 ≤ (0 : Int) ∧ (0 : Int) ≤ 2147483647 := by omega
  have ha := jx_ok1.mp ha
  have hz : (0 : Int32) < Int32.ofInt a ↔ 0 < a := j_lt32 hb ha
  refine lv_if_gt hC.1 hC.2.1 d ht (fun q => ?_) (fun q => ?_)
  · have q2 : 0 < a := hz.mp q
    have hd : decide (0 < a) = true := by first | exact decide_eq_true (by omega) | exact decide_eq_false (by omega)
    rw [if_pos hd] at k
    exact k
  · have q2 : ¬ (0 < a) := fun z => q (hz.mpr z)
    have hd : decide (0 < a) = false := by first | exact decide_eq_true (by omega) | exact decide_eq_false (by omega)
    rw [if_neg (fun z => Bool.false_ne_true (hd.symm.trans z))] at k
    exact k
theorem czf_gt {M : jx_M} {n : Nat} {G : List Nat} {pc tgt : Nat} {off : Int} (d : decode (jx_cc M) pc = .ok (.ifCond .gt off, 3)) (ht : (pc : Int) + off = (tgt : Int)) : jx_C1 M n G 1 pc (pc + 3) tgt (fun a => decide (a ≤ 0)) := by
  intro L A p l e R s m args below meth c F hC H locs ls st a ha k
  dsimp only at k
  have hb : -2147483648 ≤ (0 : Int) ∧ (0 : Int) ≤ 2147483647 := by omega
  have ha := jx_ok1.mp ha
  have hz : (0 : Int32) < Int32.ofInt a ↔ 0 < a := j_lt32 hb ha
  refine lv_if_gt hC.1 hC.2.1 d ht (fun q => ?_) (fun q => ?_)
  · have q2 : 0 < a := hz.mp q
    have hd : decide (a ≤ 0) = false := by first | exact decide_eq_true (by omega) | exact decide_eq_false (by omega)
    rw [if_neg (fun z => Bool.false_ne_true (hd.symm.trans z))] at k
    exact k
  · have q2 : ¬ (0 < a) := fun z => q (hz.mpr z)
    have hd : decide (a ≤ 0) = true := by first | exact decide_eq_true (by omega) | exact decide_eq_false (by omega)
    rw [if_pos hd] at k
    exact k
theorem cit_le {M : jx_M} {n : Nat} {G : List Nat} {pc tgt : Nat} {off : Int} (d : decode (jx_cc M) pc = .ok (.if_icmp .le off, 3)) (ht : (pc : Int) + off = (tgt : Int)) : jx_C2 M n G 1 1 pc tgt (pc + 3) (fun a b => decide (a ≤ b)) := by
  intro L A p l e R s m args below meth c F hC H locs ls st a b ha hb k
  dsimp only at k
  have ha := jx_ok1.mp ha
  have hb := jx_ok1.mp hb
  have hz : Int32.ofInt a ≤ Int32.ofInt b ↔ a ≤ b := j_le32 ha hb
  refine lv_icmp_le hC.1 hC.2.1 d ht (fun q => ?_) (fun q => ?_)
  · have q2 : a ≤ b := hz.mp q
    have hd : decide (a ≤ b) = true := by first | exact decide_eq_true (by omega) | exact decide_eq_false (by omega)
    rw [if_pos hd] at k
    exact k
  · have q2 : ¬ (a ≤ b) := fun z => q (hz.mpr z)
    have hd : decide (a ≤ b) = false := by first | exact decide_eq_true (by omega) | exact decide_eq_false (by omega)
    rw [if_neg (fun z => Bool.false_ne_true (hd.symm.trans z))] at k
    exact k
theorem cif_le {M : jx_M} {n : Nat} {G : List Nat} {pc tgt : Nat} {off : Int} (d : decode (jx_cc M) pc = .ok (.if_icmp .le off, 3)) (ht : (pc : Int) + off = (tgt : Int)) : jx_C2 M n G 1 1 pc (pc + 3) tgt (fun a b => decide (b < a)) := by
  intro L A p l e R s m args below meth c F hC H locs ls st a b ha hb k
  dsimp only at k
  have ha := jx_ok1.mp ha
  have hb := jx_ok1.mp hb
  have hz : Int32.ofInt a ≤ Int32.ofInt b ↔ a ≤ b := j_le32 ha hb
  refine lv_icmp_le hC.1 hC.2.1 d ht (fun q => ?_) (fun q => ?_)
  · have q2 : a ≤ b := hz.mp q
    have hd : decide (b < a) = false := by first | exact decide_eq_true (by omega) | exact decide_eq_false (by omega)
    rw [if_neg (fun z => Bool.false_ne_true (hd.symm.trans z))] at k
    exact k
  · have q2 : ¬ (a ≤ b) := fun z => q (hz.mpr z)
    have hd : decide (b < a) = true := by first | exact decide_eq_true (by omega) | exact decide_eq_false (by omega)
    rw [if_pos hd] at k
    exact k
theorem czt_le {M : jx_M} {n : Nat} {G : List Nat} {pc tgt : Nat} {off : Int} (d : decode (jx_cc M) pc = .ok (.ifCond .le off, 3)) (ht : (pc : Int) + off = (tgt : Int)) : jx_C1 M n G 1 pc tgt (pc + 3) (fun a => decide (a ≤ 0)) := by
  intro L A p l e R s m args below meth c F hC H locs ls st a ha k
  dsimp only at k
  have hb : -2147483648 ≤ (0 : Int) ∧ (0 : Int) ≤ 2147483647 := by omega
  have ha := jx_ok1.mp ha
  have hz : Int32.ofInt a ≤ (0 : Int32) ↔ a ≤ 0 := j_le32 ha hb
  refine lv_if_le hC.1 hC.2.1 d ht (fun q => ?_) (fun q => ?_)
  · have q2 : a ≤ 0 := hz.mp q
    have hd : decide (a ≤ 0) = true := by first | exact decide_eq_true (by omega) | exact decide_eq_false (by omega)
    rw [if_pos hd] at k
    exact k
  · have q2 : ¬ (a ≤ 0) := fun z => q (hz.mpr z)
    have hd : decide (a ≤ 0) = false := by first | exact decide_eq_true (by omega) | exact decide_eq_false (by omega)
    rw [if_neg (fun z => Bool.false_ne_true (hd.symm.trans z))] at k
    exact k
theorem czf_le {M : jx_M} {n : Nat} {G : List Nat} {pc tgt : Nat} {off : Int} (d : decode (jx_cc M) pc = .ok (.ifCond .le off, 3)) (ht : (pc : Int) + off = (tgt : Int)) : jx_C1 M n G 1 pc (pc + 3) tgt (fun a => decide (0 < a)) := by
  intro L A p l e R s m args below meth c F hC H locs ls st a ha k
  dsimp only at k
  have hb : -2147483648 ≤ (0 : Int) ∧ (0 : Int) ≤ 2147483647 := by omega
  have ha := jx_ok1.mp ha
  have hz : Int32.ofInt a ≤ (0 : Int32) ↔ a ≤ 0 := j_le32 ha hb
  refine lv_if_le hC.1 hC.2.1 d ht (fun q => ?_) (fun q => ?_)
  · have q2 : a ≤ 0 := hz.mp q
    have hd : decide (0 < a) = false := by first | exact decide_eq_true (by omega) | exact decide_eq_false (by omega)
    rw [if_neg (fun z => Bool.false_ne_true (hd.symm.trans z))] at k
    exact k
  · have q2 : ¬ (a ≤ 0) := fun z => q (hz.mpr z)
    have hd : decide (0 < a) = true := by first | exact decide_eq_true (by omega) | exact decide_eq_false (by omega)
    rw [if_pos hd] at k
    exact k
theorem clt_eq {M : jx_M} {n : Nat} {G : List Nat} {pc tgt : Nat} {off : Int} (d1 : decode (jx_cc M) pc = .ok (.lcmp, 1)) (d : decode (jx_cc M) (pc + 1) = .ok (.ifCond .eq off, 3)) (ht : ((pc + 1 : Nat) : Int) + off = (tgt : Int)) : jx_C2 M n G 2 2 pc tgt (pc + 1 + 3) (fun a b => decide (a = b)) := by
  intro L A p l e R s m args below meth c F hC H locs ls st a b ha hb k
  dsimp only at k
  refine W.lcmp hC.1 hC.2.1 d1 ?_
  rw [j_lcmp (jx_ok2.mp ha) (jx_ok2.mp hb)]
  refine lv_if_eq hC.1 hC.2.1 d ht (fun q => ?_) (fun q => ?_)
  · have hd : decide (a = b) = true := by
      rcases Int.lt_trichotomy a b with h | h | h
      · rw [if_neg (by omega), if_neg (by omega)] at q; first | exact decide_eq_true (by omega) | exact decide_eq_false (by omega) | exact absurd q (by decide)
      · rw [if_neg (by omega), if_pos h] at q; first | exact decide_eq_true (by omega) | exact decide_eq_false (by omega) | exact absurd q (by decide)
      · rw [if_pos h] at q; first | exact decide_eq_true (by omega) | exact decide_eq_false (by omega) | exact absurd q (by decide)
    rw [if_pos hd] at k
    exact k
  · have hd : decide (a = b) = false := by
      rcases Int.lt_trichotomy a b with h | h | h
      · rw [if_neg (by omega), if_neg (by omega)] at q; first | exact decide_eq_true (by omega) | exact decide_eq_false (by omega) | exact absurd q (by decide)
      · rw [if_neg (by omega), if_pos h] at q; first | exact decide_eq_true (by omega) | exact decide_eq_false (by omega) | exact absurd q (by decide)
      · rw [if_pos h] at q; first | exact decide_eq_true (by omega) | exact decide_eq_false (by omega) | exact absurd q (by decide)
    rw [if_neg (fun z => Bool.false_ne_true (hd.symm.trans z))] at k
    exact k
theorem clf_eq {M : jx_M} {n : Nat} {G : List Nat} {pc tgt : Nat} {off : Int} (d1 : decode (jx_cc M) pc = .ok (.lcmp, 1)) (d : decode (jx_cc M) (pc + 1) = .ok (.ifCond .eq off, 3)) (ht : ((pc + 1 : Nat) : Int) + off = (tgt : Int)) : jx_C2 M n G 2 2 pc (pc + 1 + 3) tgt (fun a b => decide (a ≠ b)) := by
  intro L A p l e R s m args below meth c F hC H locs ls st a b ha hb k
  dsimp only at k
  refine W.lcmp hC.1 hC.2.1 d1 ?_
  rw [j_lcmp (jx_ok2.mp ha) (jx_ok2.mp hb)]
  refine lv_if_eq hC.1 hC.2.1 d ht (fun q => ?_) (fun q => ?_)
  · have hd : decide (a ≠ b) = false := by
      rcases Int.lt_trichotomy a b with h | h | h
      · rw [if_neg (by omega), if_neg (by omega)] at q; first | exact decide_eq_true (by omega) | exact decide_eq_false (by omega) | exact absurd q (by decide)
      · rw [if_neg (by omega), if_pos h] at q; first | exact decide_eq_true (by omega) | exact decide_eq_false (by omega) | exact absurd q (by decide)
      · rw [if_pos h] at q; first | exact decide_eq_true (by omega) | exact decide_eq_false (by omega) | exact absurd q (by decide)
    rw [if_neg (fun z => Bool.false_ne_true (hd.symm.trans z))] at k
    exact k
  · have hd : decide (a ≠ b) = true := by
      rcases Int.lt_trichotomy a b with h | h | h
      · rw [if_neg (by omega), if_neg (by omega)] at q; first | exact decide_eq_true (by omega) | exact decide_eq_false (by omega) | exact absurd q (by decide)
      · rw [if_neg (by omega), if_pos h] at q; first | exact decide_eq_true (by omega) | exact decide_eq_false (by omega) | exact absurd q (by decide)
      · rw [if_pos h] at q; first | exact decide_eq_true (by omega) | exact decide_eq_false (by omega) | exact absurd q (by decide)
    rw [if_pos hd] at k
    exact k
theorem clt_ne {M : jx_M} {n : Nat} {G : List Nat} {pc tgt : Nat} {off : Int} (d1 : decode (jx_cc M) pc = .ok (.lcmp, 1)) (d : decode (jx_cc M) (pc + 1) = .ok (.ifCond .ne off, 3)) (ht : ((pc + 1 : Nat) : Int) + off = (tgt : Int)) : jx_C2 M n G 2 2 pc tgt (pc + 1 + 3) (fun a b => decide (a ≠ b)) := by
  intro L A p l e R s m args below meth c F hC H locs ls st a b ha hb k
  dsimp only at k
  refine W.lcmp hC.1 hC.2.1 d1 ?_
  rw [j_lcmp (jx_ok2.mp ha) (jx_ok2.mp hb)]
  refine lv_if_ne hC.1 hC.2.1 d ht (fun q => ?_) (fun q => ?_)
  · have hd : decide (a ≠ b) = true := by
      rcases Int.lt_trichotomy a b with h | h | h
      · rw [if_neg (by omega), if_neg (by omega)] at q; first | exact decide_eq_true (by omega) | exact decide_eq_false (by omega) | exact absurd q (by decide)
      · rw [if_neg (by omega), if_pos h] at q; first | exact decide_eq_true (by omega) | exact decide_eq_false (by omega) | exact absurd q (by decide)
      · rw [if_pos h] at q; first | exact decide_eq_true (by omega) | exact decide_eq_false (by omega) | exact absurd q (by decide)
    rw [if_pos hd] at k
    exact k
  · have hd : decide (a ≠ b) = false := by
      rcases Int.lt_trichotomy a b with h | h | h
      · rw [if_neg (by omega), if_neg (by omega)] at q; first | exact decide_eq_true (by omega) | exact decide_eq_false (by omega) | exact absurd q (by decide)
      · rw [if_neg (by omega), if_pos h] at q; first | exact decide_eq_true (by omega) | exact decide_eq_false (by omega) | exact absurd q (by decide)
      · rw [if_pos h] at q; first | exact decide_eq_true (by omega) | exact decide_eq_false (by omega) | exact absurd q (by decide)
    rw [if_neg (fun z => Bool.false_ne_true (hd.symm.trans z))] at k
    exact k
theorem clf_ne {M : jx_M} {n : Nat} {G : List Nat} {pc tgt : Nat} {off : Int} (d1 : decode (jx_cc M) pc = .ok (.lcmp, 1)) (d : decode (jx_cc M) (pc + 1) = .ok (.ifCond .ne off, 3)) (ht : ((pc + 1 : Nat) : Int) + off = (tgt : Int)) : jx_C2 M n G 2 2 pc (pc + 1 + 3) tgt (fun a b => decide (a = b)) := by
  intro L A p l e R s m args below meth c F hC H locs ls st a b ha hb k
  dsimp only at k
  refine W.lcmp hC.1 hC.2.1 d1 ?_
  rw [j_lcmp (jx_ok2.mp ha) (jx_ok2.mp hb)]
  refine lv_if_ne hC.1 hC.2.1 d ht (fun q => ?_) (fun q => ?_)
  · have hd : decide (a = b) = false := by
      rcases Int.lt_trichotomy a b with h | h | h
      · rw [if_neg (by omega), if_neg (by omega)] at q; first | exact decide_eq_true (by omega) | exact decide_eq_false (by omega) | exact absurd q (by decide)
      · rw [if_neg (by omega), if_pos h] at q; first | exact decide_eq_true (by omega) | exact decide_eq_false (by omega) | exact absurd q (by decide)
      · rw [if_pos h] at q; first | exact decide_eq_true (by omega) | exact decide_eq_false (by omega) | exact absurd q (by decide)
    rw [if_neg (fun z => Bool.false_ne_true (hd.symm.trans z))] at k
    exact k
  · have hd : decide (a = b) = true := by
      rcases Int.lt_trichotomy a b with h | h | h
      · rw [if_neg (by omega), if_neg (by omega)] at q; first | exact decide_eq_true (by omega) | exact decide_eq_false (by omega) | exact absurd q (by decide)
      · rw [if_neg (by omega), if_pos h] at q; first | exact decide_eq_true (by omega) | exact decide_eq_false (by omega) | exact absurd q (by decide)
      · rw [if_pos h] at q; first | exact decide_eq_true (by omega) | exact decide_eq_false (by omega) | exact absurd q (by decide)
    rw [if_pos hd] at k
    exact k
theorem clt_lt {M : jx_M} {n : Nat} {G : List Nat} {pc tgt : Nat} {off : Int} (d1 : decode (jx_cc M) pc = .ok (.lcmp, 1)) (d : decode (jx_cc M) (pc + 1) = .ok (.ifCond .lt off, 3)) (ht : ((pc + 1 : Nat) : Int) + off = (tgt : Int)) : jx_C2 M n G 2 2 pc tgt (pc + 1 + 3) (fun a b => decide (a < b)) := by
  intro L A p l e R s m args below meth c F hC H locs ls st a b ha hb k
  dsimp only at k
  refine W.lcmp hC.1 hC.2.1 d1 ?_
  rw [j_lcmp (jx_ok2.mp ha) (jx_ok2.mp hb)]
  refine lv_if_lt hC.1 hC.2.1 d ht (fun q => ?_) (fun q => ?_)
  · have hd : decide (a < b) = true := by
      rcases Int.lt_trichotomy a b with h | h | h
      · rw [if_neg (by omega), if_neg (by omega)] at q; first | exact decide_eq_true (by omega) | exact decide_eq_false (by omega) | exact absurd q (by decide)
      · rw [if_neg (by omega), if_pos h] at q; first | exact decide_eq_true (by omega) | exact decide_eq_false (by omega) | exact absurd q (by decide)
      · rw [if_pos h] at q; first | exact decide_eq_true (by omega) | exact decide_eq_false (by omega) | exact absurd q (by decide)
    rw [if_pos hd] at k
    exact k
  · have hd : decide (a < b) = false := by
      rcases Int.lt_trichotomy a b with h | h | h
      · rw [if_neg (by omega), if_neg (by omega)] at q; first | exact decide_eq_true (by omega) | exact decide_eq_false (by omega) | exact absurd q (by decide)
      · rw [if_neg (by omega), if_pos h] at q; first | exact decide_eq_true (by omega) | exact decide_eq_false (by omega) | exact absurd q (by decide)
      · rw [if_pos h] at q; first | exact decide_eq_true (by omega) | exact decide_eq_false (by omega) | exact absurd q (by decide)
    rw [if_neg (fun z => Bool.false_ne_true (hd.symm.trans z))] at k
    exact k
theorem clf_lt {M : jx_M} {n : Nat} {G : List Nat} {pc tgt : Nat} {off : Int} (d1 : decode (jx_cc M) pc = .ok (.lcmp, 1)) (d : decode (jx_cc M) (pc + 1) = .ok (.ifCond .lt off, 3)) (ht : ((pc + 1 : Nat) : Int) + off = (tgt : Int)) : jx_C2 M n G 2 2 pc (pc + 1 + 3) tgt (fun a b => decide (b ≤ a)) := by
  intro L A p l e R s m args below meth c F hC H locs ls st a b ha hb k
  dsimp only at k
  refine W.lcmp hC.1 hC.2.1 d1 ?_
  rw [j_lcmp (jx_ok2.mp ha) (jx_ok2.mp hb)]
  refine lv_if_lt hC.1 hC.2.1 d ht (fun q => ?_) (fun q => ?_)
  · have hd : decide (b ≤ a) = false := by
      rcases Int.lt_trichotomy a b with h | h | h
      · rw [if_neg (by omega), if_neg (by omega)] at q; first | exact decide_eq_true (by omega) | exact decide_eq_false (by omega) | exact absurd q (by decide)
      · rw [if_neg (by omega), if_pos h] at q; first | exact decide_eq_true (by omega) | exact decide_eq_false (by omega) | exact absurd q (by decide)
      · rw [if_pos h] at q; first | exact decide_eq_true (by omega) | exact decide_eq_false (by omega) | exact absurd q (by decide)
    rw [if_neg (fun z => Bool.false_ne_true (hd.symm.trans z))] at k
    exact k
  · have hd : decide (b ≤ a) = true := by
      rcases Int.lt_trichotomy a b with h | h | h
      · rw [if_neg (by omega), if_neg (by omega)] at q; first | exact decide_eq_true (by omega) | exact decide_eq_false (by omega) | exact absurd q (by decide)
      · rw [if_neg (by omega), if_pos h] at q; first | exact decide_eq_true (by omega) | exact decide_eq_false (by omega) | exact absurd q (by decide)
      · rw [if_pos h] at q; first | exact decide_eq_true (by omega) | exact decide_eq_false (by omega) | exact absurd q (by decide)
    rw [if_pos hd] at k
    exact k
theorem clt_ge {M : jx_M} {n : Nat} {G : List Nat} {pc tgt : Nat} {off : Int} (d1 : decode (jx_cc M) pc = .ok (.lcmp, 1)) (d : decode (jx_cc M) (pc + 1) = .ok (.ifCond .ge off, 3)) (ht : ((pc + 1 : Nat) : Int) + off = (tgt : Int)) : jx_C2 M n G 2 2 pc tgt (pc + 1 + 3) (fun a b => decide (b ≤ a)) := by
  intro L A p l e R s m args below meth c F hC H locs ls st a b ha hb k
  dsimp only at k
  refine W.lcmp hC.1 hC.2.1 d1 ?_
  rw [j_lcmp (jx_ok2.mp ha) (jx_ok2.mp hb)]
  refine lv_if_ge hC.1 hC.2.1 d ht (fun q => ?_) (fun q => ?_)
  · have hd : decide (b ≤ a) = true := by
      rcases Int.lt_trichotomy a b with h | h | h
      · rw [if_neg (by omega), if_neg (by omega)] at q; first | exact decide_eq_true (by omega) | exact decide_eq_false (by omega) | exact absurd q (by decide)
      · rw [if_neg (by omega), if_pos h] at q; first | exact decide_eq_true (by omega) | exact decide_eq_false (by omega) | exact absurd q (by decide)
      · rw [if_pos h] at q; first | exact decide_eq_true (by omega) | exact decide_eq_false (by omega) | exact absurd q (by decide)
    rw [if_pos hd] at k
    exact k
  · have hd : decide (b ≤ a) = false := by
      rcases Int.lt_trichotomy a b with h | h | h
      · rw [if_neg (by omega), if_neg (by omega)] at q; first | exact decide_eq_true (by omega) | exact decide_eq_false (by omega) | exact absurd q (by decide)
      · rw [if_neg (by omega), if_pos h] at q; first | exact decide_eq_true (by omega) | exact decide_eq_false (by omega) | exact absurd q (by decide)
      · rw [if_pos h] at q; first | exact decide_eq_true (by omega) | exact decide_eq_false (by omega) | exact absurd q (by decide)
    rw [if_neg (fun z => Bool.false_ne_true (hd.symm.trans z))] at k
    exact k
theorem clf_ge {M : jx_M} {n : Nat} {G : List Nat} {pc tgt : Nat} {off : Int} (d1 : decode (jx_cc M) pc = .ok (.lcmp, 1)) (d : decode (jx_cc M) (pc + 1) = .ok (.ifCond .ge off, 3)) (ht : ((pc + 1 : Nat) : Int) + off = (tgt : Int)) : jx_C2 M n G 2 2 pc (pc + 1 + 3) tgt (fun a b => decide (a < b)) := by
  intro L A p l e R s m args below meth c F hC H locs ls st a b ha hb k
  dsimp only at k
  refine W.lcmp hC.1 hC.2.1 d1 ?_
  rw [j_lcmp (jx_ok2.mp ha) (jx_ok2.mp hb)]
  refine lv_if_ge hC.1 hC.2.1 d ht (fun q => ?_) (fun q => ?_)
  · have hd : decide (a < b) = false := by
      rcases Int.lt_trichotomy a b with h | h | h
      · rw [if_neg (by omega), if_neg (by omega)] at q; first | exact decide_eq_true (by omega) | exact decide_eq_false (by omega) | exact absurd q (by decide)
      · rw [if_neg (by omega), if_pos h] at q; first | exact decide_eq_true (by omega) | exact decide_eq_false (by omega) | exact absurd q (by decide)
      · rw [if_pos h] at q; first | exact decide_eq_true (by omega) | exact decide_eq_false (by omega) | exact absurd q (by decide)
    rw [if_neg (fun z => Bool.false_ne_true (hd.symm.trans z))] at k
    exact k
  · have hd : decide (a < b) = true := by
      rcases Int.lt_trichotomy a b with h | h | h
      · rw [if_neg (by omega), if_neg (by omega)] at q; first | exact decide_eq_true (by omega) | exact decide_eq_false (by omega) | exact absurd q (by decide)
      · rw [if_neg (by omega), if_pos h] at q; first | exact decide_eq_true (by omega) | exact decide_eq_false (by omega) | exact absurd q (by decide)
      · rw [if_pos h] at q; first | exact decide_eq_true (by omega) | exact decide_eq_false (by omega) | exact absurd q (by decide)
    rw [if_pos hd] at k
    exact k
theorem jx_r_eq {L : jx_L} {A : Nat → Prop} (hL : jx_lok L A) {a b : Int} (ha : jx_ok L 6 a) (hb : jx_ok L 6 b) : jx_r L 6 a = jx_r L 6 b ↔ a = b := by
  have ha : 0 ≤ a ∧ a ≤ 27 := ha
  have hb : 0 ≤ b ∧ b ≤ 27 := hb
  refine ⟨fun h => ?_, fun h => by rw [h]⟩
  unfold jx_r at h
  by_cases h1 : a = 0 <;> by_cases h2 : b = 0
  · rw [h1, h2]
  · simp [h1, h2] at h
  · simp [h1, h2] at h
  · simp [h1, h2] at h
    exact hL.2.2.2.2.2.1 a b (by omega) ha.2 (by omega) hb.2 h
theorem cat_eq {M : jx_M} {n : Nat} {G : List Nat} {pc tgt : Nat} {off : Int} (d : decode (jx_cc M) pc = .ok (.if_acmp .eq off, 3)) (ht : (pc : Int) + off = (tgt : Int)) : jx_C2 M n G 6 6 pc tgt (pc + 3) (fun a b => decide (a = b)) := by
  intro L A p l e R s m args below meth c F hC H locs ls st a b ha hb k
  dsimp only at k
  have hz := jx_r_eq hC.2.2.2.2.2.2.1 ha hb
  rw [jx_vr (by decide), jx_vr (by decide)]
  refine lv_acmp_eq hC.1 hC.2.1 d ht (fun q => ?_) (fun q => ?_)
  · have q2 : a = b := hz.mp q
    have hd : decide (a = b) = true := by first | exact decide_eq_true (by omega) | exact decide_eq_false (by omega)
    rw [if_pos hd] at k
    exact k
  · have q2 : ¬ a = b := fun z => q (hz.mpr z)
    have hd : decide (a = b) = false := by first | exact decide_eq_true (by omega) | exact decide_eq_false (by omega)
    rw [if_neg (fun z => Bool.false_ne_true (hd.symm.trans z))] at k
    exact k
theorem caf_eq {M : jx_M} {n : Nat} {G : List Nat} {pc tgt : Nat} {off : Int} (d : decode (jx_cc M) pc = .ok (.if_acmp .eq off, 3)) (ht : (pc : Int) + off = (tgt : Int)) : jx_C2 M n G 6 6 pc (pc + 3) tgt (fun a b => decide (a ≠ b)) := by
  intro L A p l e R s m args below meth c F hC H locs ls st a b ha hb k
  dsimp only at k
  have hz := jx_r_eq hC.2.2.2.2.2.2.1 ha hb
  rw [jx_vr (by decide), jx_vr (by decide)]
  refine lv_acmp_eq hC.1 hC.2.1 d ht (fun q => ?_) (fun q => ?_)
  · have q2 : a = b := hz.mp q
    have hd : decide (a ≠ b) = false := by first | exact decide_eq_true (by omega) | exact decide_eq_false (by omega)
    rw [if_neg (fun z => Bool.false_ne_true (hd.symm.trans z))] at k
    exact k
  · have q2 : ¬ a = b := fun z => q (hz.mpr z)
    have hd : decide (a ≠ b) = true := by first | exact decide_eq_true (by omega) | exact decide_eq_false (by omega)
    rw [if_pos hd] at k
    exact k
theorem cat_ne {M : jx_M} {n : Nat} {G : List Nat} {pc tgt : Nat} {off : Int} (d : decode (jx_cc M) pc = .ok (.if_acmp .ne off, 3)) (ht : (pc : Int) + off = (tgt : Int)) : jx_C2 M n G 6 6 pc tgt (pc + 3) (fun a b => decide (a ≠ b)) := by
  intro L A p l e R s m args below meth c F hC H locs ls st a b ha hb k
  dsimp only at k
  have hz := jx_r_eq hC.2.2.2.2.2.2.1 ha hb
  rw [jx_vr (by decide), jx_vr (by decide)]
  refine lv_acmp_ne hC.1 hC.2.1 d ht (fun q => ?_) (fun q => ?_)
  · have q2 : ¬ a = b := fun z => q (hz.mpr z)
    have hd : decide (a ≠ b) = true := by first | exact decide_eq_true (by omega) | exact decide_eq_false (by omega)
    rw [if_pos hd] at k
    exact k
  · have q2 : a = b := hz.mp q
    have hd : decide (a ≠ b) = false := by first | exact decide_eq_true (by omega) | exact decide_eq_false (by omega)
    rw [if_neg (fun z => Bool.false_ne_true (hd.symm.trans z))] at k
    exact k
theorem caf_ne {M : jx_M} {n : Nat} {G : List Nat} {pc tgt : Nat} {off : Int} (d : decode (jx_cc M) pc = .ok (.if_acmp .ne off, 3)) (ht : (pc : Int) + off = (tgt : Int)) : jx_C2 M n G 6 6 pc (pc + 3) tgt (fun a b => decide (a = b)) := by
  intro L A p l e R s m args below meth c F hC H locs ls st a b ha hb k
  dsimp only at k
  have hz := jx_r_eq hC.2.2.2.2.2.2.1 ha hb
  rw [jx_vr (by decide), jx_vr (by decide)]
  refine lv_acmp_ne hC.1 hC.2.1 d ht (fun q => ?_) (fun q => ?_)
  · have q2 : ¬ a = b := fun z => q (hz.mpr z)
    have hd : decide (a = b) = false := by first | exact decide_eq_true (by omega) | exact decide_eq_false (by omega)
    rw [if_neg (fun z => Bool.false_ne_true (hd.symm.trans z))] at k
    exact k
  · have q2 : a = b := hz.mp q
    have hd : decide (a = b) = true := by first | exact decide_eq_true (by omega) | exact decide_eq_false (by omega)
    rw [if_pos hd] at k
    exact k
theorem jx_r_none {L : jx_L} {t : Nat} {v : Int} (h8 : t ≠ 8) : jx_r L t v = none ↔ v = 0 := by
  unfold jx_r
  by_cases h : v = 0
  · simp [h]
  · simp only [h, h8, if_false, iff_false]
    repeat (first | simp | split)
theorem cnt_ifnull {M : jx_M} {n : Nat} {G : List Nat} {t pc tgt : Nat} {off : Int} (d : decode (jx_cc M) pc = .ok (.ifnull off, 3)) (ht : (pc : Int) + off = (tgt : Int)) (h5 : 5 ≤ t) (h8 : t ≠ 8) : jx_C1 M n G t pc tgt (pc + 3) (fun a => decide (a = 0)) := by
  intro L A p l e R s m args below meth c F hC H locs ls st a ha k
  dsimp only at k
  rw [jx_vr h5]
  cases hr : jx_r L t a with
  | none =>
    have q2 : a = 0 := (jx_r_none h8).mp hr
    have hd : decide (a = 0) = true := by first | exact decide_eq_true (by omega) | exact decide_eq_false (by omega)
    rw [if_pos hd] at k
    exact lv_ifnullN hC.1 hC.2.1 d ht k
  | some x =>
    have q2 : ¬ a = 0 := fun z => by rw [(jx_r_none h8).mpr z] at hr; cases hr
    have hd : decide (a = 0) = false := by first | exact decide_eq_true (by omega) | exact decide_eq_false (by omega)
    rw [if_neg (fun z => Bool.false_ne_true (hd.symm.trans z))] at k
    exact lv_ifnull hC.1 hC.2.1 d k
theorem cnf_ifnull {M : jx_M} {n : Nat} {G : List Nat} {t pc tgt : Nat} {off : Int} (d : decode (jx_cc M) pc = .ok (.ifnull off, 3)) (ht : (pc : Int) + off = (tgt : Int)) (h5 : 5 ≤ t) (h8 : t ≠ 8) : jx_C1 M n G t pc (pc + 3) tgt (fun a => decide (a ≠ 0)) := by
  intro L A p l e R s m args below meth c F hC H locs ls st a ha k
  dsimp only at k
  rw [jx_vr h5]
  cases hr : jx_r L t a with
  | none =>
    have q2 : a = 0 := (jx_r_none h8).mp hr
    have hd : decide (a ≠ 0) = false := by first | exact decide_eq_true (by omega) | exact decide_eq_false (by omega)
    rw [if_neg (fun z => Bool.false_ne_true (hd.symm.trans z))] at k
    exact lv_ifnullN hC.1 hC.2.1 d ht k
  | some x =>
    have q2 : ¬ a = 0 := fun z => by rw [(jx_r_none h8).mpr z] at hr; cases hr
    have hd : decide (a ≠ 0) = true := by first | exact decide_eq_true (by omega) | exact decide_eq_false (by omega)
    rw [if_pos hd] at k
    exact lv_ifnull hC.1 hC.2.1 d k
theorem cnt_ifnonnull {M : jx_M} {n : Nat} {G : List Nat} {t pc tgt : Nat} {off : Int} (d : decode (jx_cc M) pc = .ok (.ifnonnull off, 3)) (ht : (pc : Int) + off = (tgt : Int)) (h5 : 5 ≤ t) (h8 : t ≠ 8) : jx_C1 M n G t pc tgt (pc + 3) (fun a => decide (a ≠ 0)) := by
  intro L A p l e R s m args below meth c F hC H locs ls st a ha k
  dsimp only at k
  rw [jx_vr h5]
  cases hr : jx_r L t a with
  | none =>
    have q2 : a = 0 := (jx_r_none h8).mp hr
    have hd : decide (a ≠ 0) = false := by first | exact decide_eq_true (by omega) | exact decide_eq_false (by omega)
    rw [if_neg (fun z => Bool.false_ne_true (hd.symm.trans z))] at k
    exact lv_ifnonnullN hC.1 hC.2.1 d k
  | some x =>
    have q2 : ¬ a = 0 := fun z => by rw [(jx_r_none h8).mpr z] at hr; cases hr
    have hd : decide (a ≠ 0) = true := by first | exact decide_eq_true (by omega) | exact decide_eq_false (by omega)
    rw [if_pos hd] at k
    exact lv_ifnonnull hC.1 hC.2.1 d ht k
theorem cnf_ifnonnull {M : jx_M} {n : Nat} {G : List Nat} {t pc tgt : Nat} {off : Int} (d : decode (jx_cc M) pc = .ok (.ifnonnull off, 3)) (ht : (pc : Int) + off = (tgt : Int)) (h5 : 5 ≤ t) (h8 : t ≠ 8) : jx_C1 M n G t pc (pc + 3) tgt (fun a => decide (a = 0)) := by
  intro L A p l e R s m args below meth c F hC H locs ls st a ha k
  dsimp only at k
  rw [jx_vr h5]
  cases hr : jx_r L t a with
  | none =>
    have q2 : a = 0 := (jx_r_none h8).mp hr
    have hd : decide (a = 0) = true := by first | exact decide_eq_true (by omega) | exact decide_eq_false (by omega)
    rw [if_pos hd] at k
    exact lv_ifnonnullN hC.1 hC.2.1 d k
  | some x =>
    have q2 : ¬ a = 0 := fun z => by rw [(jx_r_none h8).mpr z] at hr; cases hr
    have hd : decide (a = 0) = false := by first | exact decide_eq_true (by omega) | exact decide_eq_false (by omega)
    rw [if_neg (fun z => Bool.false_ne_true (hd.symm.trans z))] at k
    exact lv_ifnonnull hC.1 hC.2.1 d ht k
def jx_not (f : jx_X Bool) : jx_X Bool := jx_bind f fun b => jx_pure (!b)
def jx_and (f g : jx_X Bool) : jx_X Bool := jx_bind f fun b => if b then g else jx_pure false
def jx_or (f g : jx_X Bool) : jx_X Bool := jx_bind f fun b => if b then jx_pure true else g
theorem x_not {M : jx_M} {n : Nat} {G : List Nat} {pc pt pf : Nat} {f : jx_X Bool} (h : jx_XC M n G pc pf pt f) : jx_XC M n G pc pt pf (jx_not f) := by
  intro L A p l e R s m args below meth c F hC env σ H locs ls st hI hn o env2 σ2 hf k
  rcases jx_bind_inv hf with ⟨r, h3, rfl⟩ | ⟨b, e1, s1, h3, h4⟩
  · exact h L A p l e R s m args below meth c F hC env σ H locs ls st hI hn _ _ _ h3 k
  · cases h4
    refine h L A p l e R s m args below meth c F hC env σ H locs ls st hI hn _ _ _ h3 (fun H2 locs2 ls2 hI2 => ?_)
    have := k H2 locs2 ls2 hI2
    cases b <;> exact this
theorem x_and {M : jx_M} {n : Nat} {G : List Nat} {pc p1 pt pf : Nat} {f g : jx_X Bool} (h1 : jx_XC M n G pc p1 pf f) (h2 : jx_XC M n G p1 pt pf g) : jx_XC M n G pc pt pf (jx_and f g) := by
  intro L A p l e R s m args below meth c F hC env σ H locs ls st hI hn o env2 σ2 hf k
  rcases jx_bind_inv hf with ⟨r, h3, rfl⟩ | ⟨b, e1, s1, h3, h4⟩
  · exact h1 L A p l e R s m args below meth c F hC env σ H locs ls st hI hn _ _ _ h3 k
  · refine h1 L A p l e R s m args below meth c F hC env σ H locs ls st hI hn _ _ _ h3 (fun H2 locs2 ls2 hI2 => ?_)
    cases b with
    | true => exact h2 L A p l e R s m args below meth c F hC e1 s1 H2 locs2 ls2 st hI2 hn o env2 σ2 h4 k
    | false => cases h4; exact k H2 locs2 ls2 hI2
theorem x_or {M : jx_M} {n : Nat} {G : List Nat} {pc p1 pt pf : Nat} {f g : jx_X Bool} (h1 : jx_XC M n G pc pt p1 f) (h2 : jx_XC M n G p1 pt pf g) : jx_XC M n G pc pt pf (jx_or f g) := by
  intro L A p l e R s m args below meth c F hC env σ H locs ls st hI hn o env2 σ2 hf k
  rcases jx_bind_inv hf with ⟨r, h3, rfl⟩ | ⟨b, e1, s1, h3, h4⟩
  · exact h1 L A p l e R s m args below meth c F hC env σ H locs ls st hI hn _ _ _ h3 k
  · refine h1 L A p l e R s m args below meth c F hC env σ H locs ls st hI hn _ _ _ h3 (fun H2 locs2 ls2 hI2 => ?_)
    cases b with
    | false => exact h2 L A p l e R s m args below meth c F hC e1 s1 H2 locs2 ls2 st hI2 hn o env2 σ2 h4 k
    | true => cases h4; exact k H2 locs2 ls2 hI2
/-- a jump -/
theorem x_gotoE {M : jx_M} {n : Nat} {G : List Nat} {t pc p1 tgt : Nat} {off : Int} {f : jx_X Int} (h : jx_XE M n G t pc p1 f) (d : decode (jx_cc M) p1 = .ok (.goto off, 3)) (ht : (p1 : Int) + off = (tgt : Int)) : jx_XE M n G t pc tgt f := by
  intro L A p l e R s m args below meth c F hC env σ H locs ls st hI hn o env2 σ2 hf k
  refine h L A p l e R s m args below meth c F hC env σ H locs ls st hI hn o env2 σ2 hf ?_
  cases o with
  | error r => exact k
  | ok v => exact fun hv H2 locs2 ls2 hI2 => lv_goto hC.1 hC.2.1 d ht (k hv H2 locs2 ls2 hI2)
/-- c ? a : b -/
def jx_cnd {α : Type} (c : jx_X Bool) (f g : jx_X α) : jx_X α := jx_bind c fun b => if b then f else g
theorem x_cnd {M : jx_M} {n : Nat} {G : List Nat} {t pc pt pf pe : Nat} {c : jx_X Bool} {f g : jx_X Int} (h0 : jx_XC M n G pc pt pf c) (h1 : jx_XE M n G t pt pe f) (h2 : jx_XE M n G t pf pe g) : jx_XE M n G t pc pe (jx_cnd c f g) := by
  intro L A p l e R s m args below meth c F hC env σ H locs ls st hI hn o env2 σ2 hf k
  rcases jx_bind_inv hf with ⟨r, h3, rfl⟩ | ⟨b, e1, s1, h3, h4⟩
  · exact h0 L A p l e R s m args below meth c F hC env σ H locs ls st hI hn _ _ _ h3 k
  · refine h0 L A p l e R s m args below meth c F hC env σ H locs ls st hI hn _ _ _ h3 (fun H2 locs2 ls2 hI2 => ?_)
    cases b with
    | true => exact h1 L A p l e R s m args below meth c F hC e1 s1 H2 locs2 ls2 st hI2 hn o env2 σ2 h4 k
    | false => exact h2 L A p l e R s m args below meth c F hC e1 s1 H2 locs2 ls2 st hI2 hn o env2 σ2 h4 k
/-- a value's test where the value is a boolean -/
theorem c1_sub {M : jx_M} {n : Nat} {G : List Nat} {t pc pt pf : Nat} {h : Int → Bool} (h1 : jx_C1 M n G 1 pc pt pf h) (h0 : t ≠ 0) (h2 : t ≠ 2) (h5 : t < 5) : jx_C1 M n G t pc pt pf h := by
  intro L A p l e R s m args below meth c F hC H locs ls st a ha k
  rw [jx_vi h2 h5]
  exact h1 L A p l e R s m args below meth c F hC H locs ls st a (jx_oki h0 h2 h5 ha) k
