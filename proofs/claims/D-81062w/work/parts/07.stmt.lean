/-! STATEMENTS -/
def jx_skip : jx_X Unit := jx_pure ()
def jx_seq (f g : jx_X Unit) : jx_X Unit := jx_bind f fun _ => g
def jx_set (i : Nat) (v : Int) : jx_X Unit := fun e σ => some (.ok (), e.set i v, σ)
def jx_ret (v : Int) : jx_X Unit := fun e σ => some (.error (.ok v), e, σ)
def jx_thr (v : Int) : jx_X Unit := fun e σ => if v = 0 then none else some (.error (.error v), e, σ)
/-- types of the locals behind a store -/
def jx_gst (G : List Nat) (i t : Nat) : List Nat :=
  let G1 := if 1 ≤ i ∧ G[i - 1]? = some 2 then G.set (i - 1) 0 else G
  if t = 2 then (G1.set i 2).set (i + 1) 0 else G1.set i t
theorem jx_gst_spec {G : List Nat} {i t j t2 : Nat} (h : (jx_gst G i t)[j]? = some t2) (h0 : t2 ≠ 0) : (j = i ∧ t2 = t) ∨ (j ≠ i ∧ (t = 2 → j ≠ i + 1) ∧ G[j]? = some t2 ∧ ¬ (j + 1 = i ∧ t2 = 2)) := by
  have key : ∀ (G1 : List Nat), G1 = (if 1 ≤ i ∧ G[i - 1]? = some 2 then G.set (i - 1) 0 else G) → G1[j]? = some t2 → G[j]? = some t2 ∧ ¬ (j + 1 = i ∧ t2 = 2) := by
    intro G1 e hj
    subst e
    split at hj
    · rename_i hc
      by_cases hji : i - 1 = j
      · subst hji
        have hl : i - 1 < G.length := (List.getElem?_eq_some_iff.mp hc.2).1
        rw [List.getElem?_set_self hl] at hj
        exact absurd (Option.some.inj hj).symm h0
      · rw [List.getElem?_set_ne hji] at hj
        exact ⟨hj, fun q => hji (by omega)⟩
    · rename_i hc
      refine ⟨hj, fun q => hc ⟨by omega, ?_⟩⟩
      rw [← q.2, ← hj]
      congr 1
      omega
  unfold jx_gst at h
  simp only at h
  generalize hG1 : (if 1 ≤ i ∧ G[i - 1]? = some 2 then G.set (i - 1) 0 else G) = G1 at h
  by_cases ht : t = 2
  · rw [if_pos ht] at h
    by_cases hj1 : i + 1 = j
    · subst hj1
      rw [List.getElem?_set] at h
      simp only [if_true] at h
      split at h
      · exact absurd (Option.some.inj h).symm h0
      · cases h
    · rw [List.getElem?_set_ne hj1] at h
      by_cases hji : i = j
      · subst hji
        rw [List.getElem?_set] at h
        simp only [if_true] at h
        split at h
        · exact Or.inl ⟨rfl, by rw [ht]; exact (Option.some.inj h).symm⟩
        · cases h
      · rw [List.getElem?_set_ne hji] at h
        obtain ⟨k1, k2⟩ := key _ hG1.symm h
        exact Or.inr ⟨Ne.symm hji, fun _ => Ne.symm hj1, k1, k2⟩
  · rw [if_neg ht] at h
    by_cases hji : i = j
    · subst hji
      rw [List.getElem?_set] at h
      simp only [if_true] at h
      split at h
      · exact Or.inl ⟨rfl, (Option.some.inj h).symm⟩
      · cases h
    · rw [List.getElem?_set_ne hji] at h
      obtain ⟨k1, k2⟩ := key _ hG1.symm h
      exact Or.inr ⟨Ne.symm hji, fun q => absurd q ht, k1, k2⟩
/-- all values that the locals hold -/
def jx_all (ls : Array Slot) : List (Nat × Value) := (List.range ls.size).filterMap fun j => match (ls[j]? : Option Slot) with
  | some (Slot.val w) => some (j, w)
  | _ => none
theorem jx_all_mem {ls : Array Slot} {j : Nat} {w : Value} (h : ls[j]? = some (.val w)) : (j, w) ∈ jx_all ls :=
  List.mem_filterMap.mpr ⟨j, List.mem_range.mpr (Array.getElem?_eq_some_iff.mp h).1, by rw [h]⟩
theorem jx_all_has {ls : Array Slot} {nl : Nat} (hs : ls.size = nl) (hw : lv_wf ls) : lv_has ls nl (jx_all ls) := by
  refine ⟨hs, hw, fun q hq => ?_⟩
  obtain ⟨j, -, hj⟩ := List.mem_filterMap.mp hq
  split at hj
  · rename_i w hw
    cases hj
    exact hw
  · cases hj
theorem jx_getD_set_ne {l : List Int} {i j : Nat} {v : Int} (h : j ≠ i) : (l.set i v).getD j 0 = l.getD j 0 := by
  simp only [List.getD_eq_getElem?_getD, List.getElem?_set_ne (Ne.symm h)]
theorem jx_getD_set {l : List Int} {i : Nat} {v : Int} (h : i < l.length) : (l.set i v).getD i 0 = v := by
  simp only [List.getD_eq_getElem?_getD, List.getElem?_set_self h, Option.getD_some]
theorem jx_hl_set1 {L : jx_L} {nl : Nat} {G : List Nat} {env : jx_E} {ls ls2 : Array Slot} {i t : Nat} {v : Int} (h : jx_hl L nl G env ls) (hi : i < nl) (ht : t ≠ 2) (hv : jx_ok L t v)
    (h2 : lv_has ls2 nl ((i, jx_v L t v) :: (jx_all ls).filter (fun q => !(q.1 == i) && !(q.1 + 1 == i && q.2.category == 2)))) : jx_hl L nl (jx_gst G i t) (env.set i v) ls2 := by
  obtain ⟨a1, a2, a3, a4⟩ := h
  refine ⟨h2.1, by rw [List.length_set]; exact a2, h2.2.1, fun j t2 hj h0 => ?_⟩
  rcases jx_gst_spec hj h0 with ⟨rfl, rfl⟩ | ⟨n1, -, n3, n4⟩
  · rw [jx_getD_set (by omega)]
    exact ⟨h2.2.2 _ List.mem_cons_self, hv⟩
  · obtain ⟨b1, b2⟩ := a4 j t2 n3 h0
    rw [jx_getD_set_ne n1]
    refine ⟨h2.2.2 (j, _) (List.mem_cons_of_mem _ (List.mem_filter.mpr ⟨jx_all_mem b1, ?_⟩)), b2⟩
    simp only [Bool.and_eq_true, Bool.not_eq_true', beq_eq_false_iff_ne, ne_eq, Bool.and_eq_false_iff]
    refine ⟨n1, ?_⟩
    by_cases hq : j + 1 = i
    · right
      show ¬ (jx_v L t2 (env.getD j 0)).category = 2
      rw [jx_cat, if_neg (fun z => n4 ⟨hq, z⟩)]
      decide
    · left
      exact hq
theorem jx_hl_set2 {L : jx_L} {nl : Nat} {G : List Nat} {env : jx_E} {ls ls2 : Array Slot} {i : Nat} {v : Int} (h : jx_hl L nl G env ls) (hi : i + 1 < nl) (hv : jx_ok L 2 v)
    (h2 : lv_has ls2 nl ((i, jx_v L 2 v) :: (jx_all ls).filter (fun q => !(q.1 == i) && (!(q.1 == i + 1) && !(q.1 + 1 == i && q.2.category == 2))))) : jx_hl L nl (jx_gst G i 2) (env.set i v) ls2 := by
  obtain ⟨a1, a2, a3, a4⟩ := h
  refine ⟨h2.1, by rw [List.length_set]; exact a2, h2.2.1, fun j t2 hj h0 => ?_⟩
  rcases jx_gst_spec hj h0 with ⟨rfl, rfl⟩ | ⟨n1, n2, n3, n4⟩
  · rw [jx_getD_set (by omega)]
    exact ⟨h2.2.2 _ List.mem_cons_self, hv⟩
  · obtain ⟨b1, b2⟩ := a4 j t2 n3 h0
    rw [jx_getD_set_ne n1]
    refine ⟨h2.2.2 (j, _) (List.mem_cons_of_mem _ (List.mem_filter.mpr ⟨jx_all_mem b1, ?_⟩)), b2⟩
    simp only [Bool.and_eq_true, Bool.not_eq_true', beq_eq_false_iff_ne, ne_eq, Bool.and_eq_false_iff]
    refine ⟨n1, n2 rfl, ?_⟩
    by_cases hq : j + 1 = i
    · right
      show ¬ (jx_v L t2 (env.getD j 0)).category = 2
      rw [jx_cat, if_neg (fun z => n4 ⟨hq, z⟩)]
      decide
    · left
      exact hq
/-- one value is taken off: a row to a statement -/
def jx_S1 (M : jx_M) (G G2 : List Nat) (t pc pc2 : Nat) (h : Int → jx_X Unit) : Prop :=
  ∀ (L : jx_L) (A : Nat → Prop) (p : Program) (l : Launch) (e : Env) (R : Room) (s : State) (m : MethodId) (args : Array Value) (below : List Frame) (meth : Method) (c : Code) (F : jx_R → jx_S → Prop),
    jx_C M L A p R s m args meth c → ∀ (env : jx_E) (σ : jx_S) (H : Heap) (locs : List Loc) (ls : Array Slot), jx_I M L A G s env σ H locs ls → ∀ v, jx_ok L t v →
    ∀ o env2 σ2, h v env σ = some (o, env2, σ2) → jx_kS M G2 pc2 L A p l e R s m args below meth c F o env2 σ2 →
    W p l e R s m args below meth c H locs (jx_nc L) (jx_ns L) (jx_Q L A (jx_rt M) F s below) (F0 m pc ls [jx_v L t v])
theorem jx_se {M : jx_M} {G G2 : List Nat} {t pc p1 p2 : Nat} {f : jx_X Int} {h : Int → jx_X Unit} (h1 : jx_XE M 0 G t pc p1 f) (h2 : jx_S1 M G G2 t p1 p2 h) : jx_XS M G G2 pc p2 (jx_bind f h) := by
  intro L A p l e R s m args below meth c F hC env σ H locs ls hI o env2 σ2 hf k
  rcases jx_bind_inv hf with ⟨r, h3, rfl⟩ | ⟨a, e1, s1, h3, h4⟩
  · exact h1 L A p l e R s m args below meth c F hC env σ H locs ls [] hI (Nat.zero_le _) _ _ _ h3 k
  · exact h1 L A p l e R s m args below meth c F hC env σ H locs ls [] hI (Nat.zero_le _) _ _ _ h3 (fun hv H2 locs2 ls2 hI2 => h2 L A p l e R s m args below meth c F hC e1 s1 H2 locs2 ls2 hI2 a hv o env2 σ2 h4 k)
theorem s_ist {M : jx_M} {G : List Nat} {t pc : Nat} (i : Nat) (d : decode (jx_cc M) pc = .ok (.istore i, 2)) (hi : i < jx_nl M) (h2 : t ≠ 2) (h5 : t < 5) : jx_S1 M G (jx_gst G i t) t pc (pc + 2) (jx_set i) := by
  intro L A p l e R s m args below meth c F hC env σ H locs ls hI v hv o env2 σ2 hf k
  cases hf
  obtain ⟨i1, i2, i3, i4⟩ := hI
  rw [jx_vi h2 h5]
  refine lv_istore hC.1 hC.2.1 d (jx_all_has i4.1 i4.2.2.1) hi rfl (fun ls2 h => k H locs ls2 ⟨i1, i2, i3, ?_⟩)
  rw [← jx_vi (L := L) h2 h5] at h
  exact jx_hl_set1 i4 hi h2 hv h
theorem s_istn {M : jx_M} {G : List Nat} {t pc : Nat} (i : Fin 4) (d : decode (jx_cc M) pc = .ok (.istore_n i, 1)) (hi : i.val < jx_nl M) (h2 : t ≠ 2) (h5 : t < 5) : jx_S1 M G (jx_gst G i.val t) t pc (pc + 1) (jx_set i.val) := by
  intro L A p l e R s m args below meth c F hC env σ H locs ls hI v hv o env2 σ2 hf k
  cases hf
  obtain ⟨i1, i2, i3, i4⟩ := hI
  rw [jx_vi h2 h5]
  refine lv_istore_n hC.1 hC.2.1 d rfl (jx_all_has i4.1 i4.2.2.1) hi rfl (fun ls2 h => k H locs ls2 ⟨i1, i2, i3, ?_⟩)
  rw [← jx_vi (L := L) h2 h5] at h
  exact jx_hl_set1 i4 hi h2 hv h
theorem s_lst {M : jx_M} {G : List Nat} {pc : Nat} (i : Nat) (d : decode (jx_cc M) pc = .ok (.lstore i, 2)) (hi : i + 1 < jx_nl M) : jx_S1 M G (jx_gst G i 2) 2 pc (pc + 2) (jx_set i) := by
  intro L A p l e R s m args below meth c F hC env σ H locs ls hI v hv o env2 σ2 hf k
  cases hf
  obtain ⟨i1, i2, i3, i4⟩ := hI
  exact lv_lstore hC.1 hC.2.1 d (jx_all_has i4.1 i4.2.2.1) hi rfl (fun ls2 h => k H locs ls2 ⟨i1, i2, i3, jx_hl_set2 i4 hi hv h⟩)
theorem s_lstn {M : jx_M} {G : List Nat} {pc : Nat} (i : Fin 4) (d : decode (jx_cc M) pc = .ok (.lstore_n i, 1)) (hi : i.val + 1 < jx_nl M) : jx_S1 M G (jx_gst G i.val 2) 2 pc (pc + 1) (jx_set i.val) := by
  intro L A p l e R s m args below meth c F hC env σ H locs ls hI v hv o env2 σ2 hf k
  cases hf
  obtain ⟨i1, i2, i3, i4⟩ := hI
  exact lv_lstore_n hC.1 hC.2.1 d rfl (jx_all_has i4.1 i4.2.2.1) hi rfl (fun ls2 h => k H locs ls2 ⟨i1, i2, i3, jx_hl_set2 i4 hi hv h⟩)
theorem s_ast {M : jx_M} {G : List Nat} {t pc : Nat} (i : Nat) (d : decode (jx_cc M) pc = .ok (.astore i, 2)) (hi : i < jx_nl M) (h5 : 5 ≤ t) : jx_S1 M G (jx_gst G i t) t pc (pc + 2) (jx_set i) := by
  intro L A p l e R s m args below meth c F hC env σ H locs ls hI v hv o env2 σ2 hf k
  cases hf
  obtain ⟨i1, i2, i3, i4⟩ := hI
  have key : ∀ ls2, lv_has ls2 (jx_nl M) ((i, va_rf (jx_r L t v)) :: (jx_all ls).filter (fun q => !(q.1 == i) && !(q.1 + 1 == i && q.2.category == 2))) → jx_hl L (jx_nl M) (jx_gst G i t) (env.set i v) ls2 := fun ls2 h => by
    rw [← jx_vr (L := L) h5] at h
    exact jx_hl_set1 i4 hi (by omega) hv h
  rw [jx_vr h5]
  cases hr : jx_r L t v with
  | none =>
    rw [hr] at key
    exact lv_astoreN hC.1 hC.2.1 d (jx_all_has i4.1 i4.2.2.1) hi rfl (fun ls2 h => k H locs ls2 ⟨i1, i2, i3, key ls2 h⟩)
  | some x =>
    rw [hr] at key
    exact lv_astore hC.1 hC.2.1 d (jx_all_has i4.1 i4.2.2.1) hi rfl (fun ls2 h => k H locs ls2 ⟨i1, i2, i3, key ls2 h⟩)
theorem s_astn {M : jx_M} {G : List Nat} {t pc : Nat} (i : Fin 4) (d : decode (jx_cc M) pc = .ok (.astore_n i, 1)) (hi : i.val < jx_nl M) (h5 : 5 ≤ t) : jx_S1 M G (jx_gst G i.val t) t pc (pc + 1) (jx_set i.val) := by
  intro L A p l e R s m args below meth c F hC env σ H locs ls hI v hv o env2 σ2 hf k
  cases hf
  obtain ⟨i1, i2, i3, i4⟩ := hI
  have key : ∀ ls2, lv_has ls2 (jx_nl M) ((i.val, va_rf (jx_r L t v)) :: (jx_all ls).filter (fun q => !(q.1 == i.val) && !(q.1 + 1 == i.val && q.2.category == 2))) → jx_hl L (jx_nl M) (jx_gst G i.val t) (env.set i.val v) ls2 := fun ls2 h => by
    rw [← jx_vr (L := L) h5] at h
    exact jx_hl_set1 i4 hi (by omega) hv h
  rw [jx_vr h5]
  cases hr : jx_r L t v with
  | none =>
    rw [hr] at key
    exact lv_astore_nN hC.1 hC.2.1 d rfl (jx_all_has i4.1 i4.2.2.1) hi rfl (fun ls2 h => k H locs ls2 ⟨i1, i2, i3, key ls2 h⟩)
  | some x =>
    rw [hr] at key
    exact lv_astore_n hC.1 hC.2.1 d rfl (jx_all_has i4.1 i4.2.2.1) hi rfl (fun ls2 h => k H locs ls2 ⟨i1, i2, i3, key ls2 h⟩)
/-- i++ of a local -/
def jx_inc (i : Nat) (v : Int) : jx_X Unit := fun e σ => some (.ok (), e.set i (j_add (e.getD i 0) v), σ)
theorem jx_hl_inc {L : jx_L} {nl : Nat} {G : List Nat} {env : jx_E} {ls ls2 : Array Slot} {i : Nat} {v : Int} (h : jx_hl L nl G env ls) (hi : i < nl) (hG : G[i]? = some 1) (hv : jx_ok L 1 v)
    (h2 : lv_has ls2 nl ((i, jx_v L 1 v) :: ((i, .int (Int32.ofInt (env.getD i 0))) :: jx_all ls).filter (fun q => !(q.1 == i) && !(q.1 + 1 == i && q.2.category == 2)))) : jx_hl L nl G (env.set i v) ls2 := by
  obtain ⟨a1, a2, a3, a4⟩ := h
  refine ⟨h2.1, by rw [List.length_set]; exact a2, h2.2.1, fun j t2 hj h0 => ?_⟩
  by_cases hji : j = i
  · subst hji
    cases hG.symm.trans hj
    rw [jx_getD_set (by omega)]
    exact ⟨h2.2.2 _ List.mem_cons_self, hv⟩
  · obtain ⟨b1, b2⟩ := a4 j t2 hj h0
    rw [jx_getD_set_ne hji]
    refine ⟨h2.2.2 (j, _) (List.mem_cons_of_mem _ (List.mem_filter.mpr ⟨List.mem_cons_of_mem _ (jx_all_mem b1), ?_⟩)), b2⟩
    simp only [Bool.and_eq_true, Bool.not_eq_true', beq_eq_false_iff_ne, ne_eq, Bool.and_eq_false_iff]
    refine ⟨hji, ?_⟩
    by_cases hq : j + 1 = i
    · right
      show ¬ (jx_v L t2 (env.getD j 0)).category = 2
      rw [jx_cat]
      by_cases h2 : t2 = 2
      · exfalso
        have b3 := (a4 i 1 hG (by decide)).1
        have b4 := a3.1 j _ b1 (by rw [jx_cat, if_pos h2])
        rw [hq] at b4
        rw [b4] at b3
        cases b3
      · rw [if_neg h2]; decide
    · left
      exact hq
theorem x_inc {M : jx_M} {G : List Nat} {pc : Nat} (i : Nat) (v : Int) (d : decode (jx_cc M) pc = .ok (.iinc i v, 3)) (hi : i < jx_nl M) (hG : G[i]? = some 1) : jx_XS M G G pc (pc + 3) (jx_inc i v) := by
  intro L A p l e R s m args below meth c F hC env σ H locs ls hI o env2 σ2 hf k
  cases hf
  obtain ⟨i1, i2, i3, i4⟩ := hI
  have b := (i4.2.2.2 i 1 hG (by decide)).1
  have hh : lv_has ls (jx_nl M) ((i, .int (Int32.ofInt (env.getD i 0))) :: jx_all ls) := by
    have h9 := jx_all_has i4.1 i4.2.2.1
    refine ⟨h9.1, h9.2.1, fun q hq => ?_⟩
    rcases List.mem_cons.mp hq with rfl | hq
    · exact b
    · exact h9.2.2 q hq
  refine lv_iinc (k := 0) hC.1 hC.2.1 d hh rfl rfl hi rfl (fun ls2 h => k H locs ls2 ⟨i1, i2, i3, jx_hl_inc i4 hi hG (jx_rng _) ?_⟩)
  rw [jx_v1, j_add, Int32.ofInt_toInt]
  exact h
/-- i++ of a local, its value ahead of it on the stack -/
theorem x_seq {M : jx_M} {G G1 G2 : List Nat} {pc p1 p2 : Nat} {f g : jx_X Unit} (h1 : jx_XS M G G1 pc p1 f) (h2 : jx_XS M G1 G2 p1 p2 g) : jx_XS M G G2 pc p2 (jx_seq f g) := by
  intro L A p l e R s m args below meth c F hC env σ H locs ls hI o env2 σ2 hf k
  rcases jx_bind_inv hf with ⟨r, h3, rfl⟩ | ⟨a, e1, s1, h3, h4⟩
  · exact h1 L A p l e R s m args below meth c F hC env σ H locs ls hI _ _ _ h3 k
  · exact h1 L A p l e R s m args below meth c F hC env σ H locs ls hI _ _ _ h3 (fun H2 locs2 ls2 hI2 => h2 L A p l e R s m args below meth c F hC e1 s1 H2 locs2 ls2 hI2 o env2 σ2 h4 k)
theorem x_skip {M : jx_M} {G : List Nat} {pc : Nat} : jx_XS M G G pc pc jx_skip := by
  intro L A p l e R s m args below meth c F hC env σ H locs ls hI o env2 σ2 hf k
  cases hf
  exact k H locs ls hI
/-- less is said of the locals -/
def jx_le (G2 G : List Nat) : Bool := (List.range G2.length).all fun i => G2.getD i 0 == 0 || G[i]? == some (G2.getD i 0)
theorem jx_le_spec {G G2 : List Nat} (h : jx_le G2 G = true) {i t : Nat} (hi : G2[i]? = some t) (h0 : t ≠ 0) : G[i]? = some t := by
  have hl := (List.getElem?_eq_some_iff.mp hi).1
  have h1 := List.all_eq_true.mp h i (List.mem_range.mpr hl)
  have h2 : G2.getD i 0 = t := by simp [List.getD_eq_getElem?_getD, hi]
  rw [h2] at h1
  simp only [Bool.or_eq_true, beq_iff_eq] at h1
  rcases h1 with h1 | h1
  · exact absurd h1 h0
  · exact h1
theorem jx_I.le {M : jx_M} {L : jx_L} {A : Nat → Prop} {G G2 : List Nat} {s : State} {env : jx_E} {σ : jx_S} {H : Heap} {locs : List Loc} {ls : Array Slot} (h : jx_le G2 G = true) (hI : jx_I M L A G s env σ H locs ls) : jx_I M L A G2 s env σ H locs ls :=
  ⟨hI.1, hI.2.1, hI.2.2.1, hI.2.2.2.1, hI.2.2.2.2.1, hI.2.2.2.2.2.1, fun i t hi h0 => hI.2.2.2.2.2.2 i t (jx_le_spec h hi h0) h0⟩
theorem x_wk {M : jx_M} {G G1 G2 : List Nat} {pc p2 : Nat} {f : jx_X Unit} (h : jx_XS M G G1 pc p2 f) (hle : jx_le G2 G1 = true) : jx_XS M G G2 pc p2 f := by
  intro L A p l e R s m args below meth c F hC env σ H locs ls hI o env2 σ2 hf k
  refine h L A p l e R s m args below meth c F hC env σ H locs ls hI o env2 σ2 hf ?_
  cases o with
  | error r => exact k
  | ok u => exact fun H2 locs2 ls2 hI2 => k H2 locs2 ls2 (hI2.le hle)
theorem x_goto {M : jx_M} {G G2 : List Nat} {pc p1 tgt : Nat} {off : Int} {f : jx_X Unit} (h : jx_XS M G G2 pc p1 f) (d : decode (jx_cc M) p1 = .ok (.goto off, 3)) (ht : (p1 : Int) + off = (tgt : Int)) : jx_XS M G G2 pc tgt f := by
  intro L A p l e R s m args below meth c F hC env σ H locs ls hI o env2 σ2 hf k
  refine h L A p l e R s m args below meth c F hC env σ H locs ls hI o env2 σ2 hf ?_
  cases o with
  | error r => exact k
  | ok u => exact fun H2 locs2 ls2 hI2 => lv_goto hC.1 hC.2.1 d ht (k H2 locs2 ls2 hI2)
theorem x_ite {M : jx_M} {G G2 : List Nat} {pc pt pf pe : Nat} {c : jx_X Bool} {f g : jx_X Unit} (h0 : jx_XC M 0 G pc pt pf c) (h1 : jx_XS M G G2 pt pe f) (h2 : jx_XS M G G2 pf pe g) : jx_XS M G G2 pc pe (jx_cnd c f g) := by
  intro L A p l e R s m args below meth c F hC env σ H locs ls hI o env2 σ2 hf k
  rcases jx_bind_inv hf with ⟨r, h3, rfl⟩ | ⟨b, e1, s1, h3, h4⟩
  · exact h0 L A p l e R s m args below meth c F hC env σ H locs ls [] hI (Nat.zero_le _) _ _ _ h3 k
  · refine h0 L A p l e R s m args below meth c F hC env σ H locs ls [] hI (Nat.zero_le _) _ _ _ h3 (fun H2 locs2 ls2 hI2 => ?_)
    cases b with
    | true => exact h1 L A p l e R s m args below meth c F hC e1 s1 H2 locs2 ls2 hI2 o env2 σ2 h4 k
    | false => exact h2 L A p l e R s m args below meth c F hC e1 s1 H2 locs2 ls2 hI2 o env2 σ2 h4 k
/-- loops, so many rounds at most -/
def jx_wh (c : jx_X Bool) (b : jx_X Unit) : Nat → jx_X Unit
  | 0 => fun _ _ => none
  | n + 1 => jx_bind c fun t => if t then jx_bind b fun _ => jx_wh c b n else jx_pure ()
def jx_N : Nat := 4294967296
def jx_while (c : jx_X Bool) (b : jx_X Unit) : jx_X Unit := jx_wh c b jx_N
theorem x_while {M : jx_M} {G : List Nat} {pc pt pf : Nat} {c : jx_X Bool} {b : jx_X Unit} (h0 : jx_XC M 0 G pc pt pf c) (h1 : jx_XS M G G pt pc b) : jx_XS M G G pc pf (jx_while c b) := by
  have key : ∀ n, jx_XS M G G pc pf (jx_wh c b n) := by
    intro n
    induction n with
    | zero =>
      intro L A p l e R s m args below meth c F hC env σ H locs ls hI o env2 σ2 hf k
      cases hf
    | succ n ih =>
      intro L A p l e R s m args below meth c F hC env σ H locs ls hI o env2 σ2 hf k
      rcases jx_bind_inv hf with ⟨r, h3, rfl⟩ | ⟨t, e1, s1, h3, h4⟩
      · exact h0 L A p l e R s m args below meth c F hC env σ H locs ls [] hI (Nat.zero_le _) _ _ _ h3 k
      · refine h0 L A p l e R s m args below meth c F hC env σ H locs ls [] hI (Nat.zero_le _) _ _ _ h3 (fun H2 locs2 ls2 hI2 => ?_)
        cases t with
        | true =>
          rcases jx_bind_inv h4 with ⟨r, h5, rfl⟩ | ⟨u, e2, s2, h5, h6⟩
          · exact h1 L A p l e R s m args below meth c F hC e1 s1 H2 locs2 ls2 hI2 _ _ _ h5 k
          · exact h1 L A p l e R s m args below meth c F hC e1 s1 H2 locs2 ls2 hI2 _ _ _ h5 (fun H3 locs3 ls3 hI3 => ih L A p l e R s m args below meth c F hC e2 s2 H3 locs3 ls3 hI3 o env2 σ2 h6 k)
        | false =>
          cases h4
          exact k H2 locs2 ls2 hI2
  exact key jx_N
/-! leaving the method -/
theorem jx_Wend {M : jx_M} {L : jx_L} {A : Nat → Prop} {s : State} {below : List Frame} {F : jx_R → jx_S → Prop} {G : List Nat} {env : jx_E} {σ : jx_S} {H : Heap} {locs : List Loc} {ls : Array Slot}
    (hI : jx_I M L A G s env σ H locs ls) {r : jx_R} (hF : F r σ) {o : Outcome} (ho : jx_out L (jx_rt M) r o) {t : State} (ht : t.heap = H) (hrun : t.status = .running) (hend : Ended t below o) (hW : s.WarmedH t.vm) (hfr : s.sameButNew ({ t with vm := s.vm } : State) locs (jx_nc L) (jx_ns L)) : jx_Q L A (jx_rt M) F s below t :=
  ⟨o, hrun, hend, ⟨r, σ, hF, ho, by rw [ht]; exact hI.1, hI.2.1⟩, hI.2.2.1.F ht, locs, ⟨hW, hfr⟩, hI.2.2.1.2.2⟩
theorem s_iret {M : jx_M} {G G2 : List Nat} {t pc pc2 : Nat} {ty : FieldType} (d : decode (jx_cc M) pc = .ok (.ireturn, 1)) (hre : jx_re M = some ty) (hrt : jx_rt M = t) (hty : (t = 1 ∧ ty = .int) ∨ (t = 3 ∧ ty = .boolean)) : jx_S1 M G G2 t pc pc2 jx_ret := by
  intro L A p l e R s m args below meth c F hC env σ H locs ls hI v hv o env2 σ2 hf k
  cases hf
  have k : F (.ok v) σ := k
  obtain ⟨hexec, hb, -, -, -, -, -, -, ⟨hr, hlocks⟩, -⟩ := hC
  have hr2 : meth.sig.returnType = some ty := hr.trans hre
  have hv2 : jx_v L t v = .int (Int32.ofInt v) := jx_vi (by omega) (by omega) v
  have hn : narrow ty (.int (Int32.ofInt v)) = .int (Int32.ofInt v) := by
    rcases hty with ⟨rfl, rfl⟩ | ⟨rfl, rfl⟩
    · rfl
    · rcases jx_ok3.mp hv with rfl | rfl <;> rfl
  have ho : jx_out L (jx_rt M) (.ok v) (.returned (some (.int (Int32.ofInt v)))) := by
    refine ⟨?_, by rw [hrt]; exact hv⟩
    rw [hrt, if_neg (by omega), hv2]
  rw [hv2]
  intro T hT X
  obtain ⟨fs, hret, hrun, hended, hW, hframe⟩ := X.leave (v := some (.int (Int32.ofInt v))) (fun h => by rw [hr2] at h; cases h)
  have hmeth' : T.vm.method? m = some meth := X.method'
  refine ⟨T.setFrames fs, ?_, jx_Wend hI k ho hT hrun hended hW hframe⟩
  jvm_step X.here [X.here.top, hexec, hb, d, hmeth', hr2, hn]
  (try refine ⟨rfl, ?_⟩); (try refine ⟨rfl, ?_⟩)
  first | (intro acts; rw [hret _ acts rfl rfl rfl]) | rw [hret _ _ rfl rfl rfl]
  exact Steps.refl _
theorem s_lret {M : jx_M} {G G2 : List Nat} {pc pc2 : Nat} (d : decode (jx_cc M) pc = .ok (.lreturn, 1)) (hre : jx_re M = some .long) (hrt : jx_rt M = 2) : jx_S1 M G G2 2 pc pc2 jx_ret := by
  intro L A p l e R s m args below meth c F hC env σ H locs ls hI v hv o env2 σ2 hf k
  cases hf
  have k : F (.ok v) σ := k
  obtain ⟨hexec, hb, -, -, -, -, -, -, ⟨hr, hlocks⟩, -⟩ := hC
  have hr2 : meth.sig.returnType = some .long := hr.trans hre
  have ho : jx_out L (jx_rt M) (.ok v) (.returned (some (.long (Int64.ofInt v)))) := by
    refine ⟨?_, by rw [hrt]; exact hv⟩
    rw [hrt, if_neg (by omega), jx_v2]
  rw [jx_v2]
  intro T hT X
  obtain ⟨fs, hret, hrun, hended, hW, hframe⟩ := X.leave (v := some (.long (Int64.ofInt v))) (fun h => by rw [hr2] at h; cases h)
  have hmeth' : T.vm.method? m = some meth := X.method'
  refine ⟨T.setFrames fs, ?_, jx_Wend hI k ho hT hrun hended hW hframe⟩
  jvm_step X.here [X.here.top, hexec, hb, d, hmeth', hr2, narrow]
  (try refine ⟨rfl, ?_⟩); (try refine ⟨rfl, ?_⟩)
  first | (intro acts; rw [hret _ acts rfl rfl rfl]) | rw [hret _ _ rfl rfl rfl]
  exact Steps.refl _
theorem s_aret {M : jx_M} {G G2 : List Nat} {t pc pc2 : Nat} {C : String} (d : decode (jx_cc M) pc = .ok (.areturn, 1)) (hre : jx_re M = some (.object C)) (hrt : jx_rt M = t) (h5 : 5 ≤ t) : jx_S1 M G G2 t pc pc2 jx_ret := by
  intro L A p l e R s m args below meth c F hC env σ H locs ls hI v hv o env2 σ2 hf k
  cases hf
  have k : F (.ok v) σ := k
  obtain ⟨hexec, hb, -, -, -, -, -, -, ⟨hr, hlocks⟩, -⟩ := hC
  have hr2 : meth.sig.returnType = some (.object C) := hr.trans hre
  have ho : jx_out L (jx_rt M) (.ok v) (.returned (some (va_rf (jx_r L t v)))) := by
    refine ⟨?_, by rw [hrt]; exact hv⟩
    rw [hrt, if_neg (by omega), jx_vr h5]
  rw [jx_vr h5]
  intro T hT X
  obtain ⟨fs, hret, hrun, hended, hW, hframe⟩ := X.leave (v := some (va_rf (jx_r L t v))) (fun h => by rw [hr2] at h; cases h)
  have hmeth' : T.vm.method? m = some meth := X.method'
  refine ⟨T.setFrames fs, ?_, jx_Wend hI k ho hT hrun hended hW hframe⟩
  cases hq : jx_r L t v <;> rw [hq] at hret <;> simp only [va_rf] at hret <;>
    (jvm_step X.here [X.here.top, hexec, hb, d, hmeth', hr2, va_rf]
     (try refine ⟨rfl, ?_⟩); (try refine ⟨rfl, ?_⟩)
     first | (intro acts; rw [hret _ acts rfl rfl rfl]) | rw [hret _ _ rfl rfl rfl]
     exact Steps.refl _)
theorem x_vret {M : jx_M} {G G2 : List Nat} {pc pc2 : Nat} (d : decode (jx_cc M) pc = .ok (.return_, 1)) (hre : jx_re M = none) (hrt : jx_rt M = 0) : jx_XS M G G2 pc pc2 (jx_ret 0) := by
  intro L A p l e R s m args below meth c F hC env σ H locs ls hI o env2 σ2 hf k
  cases hf
  have k : F (.ok 0) σ := k
  obtain ⟨hexec, hb, -, -, -, -, -, -, ⟨hr, hlocks⟩, -⟩ := hC
  have hr2 : meth.sig.returnType = none := hr.trans hre
  have ho : jx_out L (jx_rt M) (.ok 0) (.returned none) := by
    refine ⟨?_, by rw [hrt]; exact trivial⟩
    rw [hrt, if_pos rfl]
  intro T hT X
  obtain ⟨fs, hret, hrun, hended, hW, hframe⟩ := X.leave (v := none) (fun _ => rfl)
  have hmeth' : T.vm.method? m = some meth := X.method'
  refine ⟨T.setFrames fs, ?_, jx_Wend hI k ho hT hrun hended hW hframe⟩
  jvm_step X.here [X.here.top, hexec, hb, d, hmeth', hr2]
  (try refine ⟨rfl, ?_⟩); (try refine ⟨rfl, ?_⟩)
  first | (intro acts; rw [hret _ acts rfl rfl rfl]) | rw [hret _ _ rfl rfl rfl]
  exact Steps.refl _
theorem jx_nohh {M : jx_M} {L : jx_L} {A : Nat → Prop} {p : Program} {R : Room} {s : State} {m : MethodId} {args : Array Value} {meth : Method} {c : Code} (hC : jx_C M L A p R s m args meth c) (hh : jx_hh M = []) (pc : Nat) : ∀ x ∈ c.exceptionTable.toList, covers x pc = false := by
  have h := hC.2.2.2.2.2.2.2.2.2
  rw [hh] at h
  intro x hx
  have h2 : c.exceptionTable.toList = [] := List.map_eq_nil_iff.mp h
  rw [h2] at hx
  cases hx
theorem s_thr {M : jx_M} {G G2 : List Nat} {pc pc2 : Nat} (d : decode (jx_cc M) pc = .ok (.athrow, 1)) (hh : jx_hh M = []) : jx_S1 M G G2 (10 + jx_refusal) pc pc2 jx_thr := by
  intro L A p l e R s m args below meth c F hC env σ H locs ls hI v hv o env2 σ2 hf k
  have hno := jx_nohh hC hh pc
  obtain ⟨hexec, hb, -, -, -, -, -, -, ⟨hr, hlocks⟩, -⟩ := hC
  by_cases h0 : v = 0
  · simp [jx_thr, h0] at hf
  · simp only [jx_thr, h0, if_false] at hf
    cases hf
    have k : F (.error v) σ := k
    have hvv : jx_v L (10 + jx_refusal) v = .ref (jx_ad L v 0) := by
      rw [jx_vr (by decide)]
      simp [jx_r, h0, jx_refusal, va_rf]
    rw [hvv]
    intro T hT X
    obtain ⟨h1, h2, h3, h4, h5⟩ := X.athrowLeaves (g := F0 m pc ls [.ref (jx_ad L v 0)]) hexec rfl rfl rfl hno rfl (by rw [hb]; exact d)
    exact ⟨_, h1, jx_Wend hI k (show jx_out L (jx_rt M) (.error v) _ from ⟨rfl, hv, h0⟩) hT h2 h3 h4 h5⟩
