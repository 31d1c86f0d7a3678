/-! CALLS, by kinds -/
/-- arguments, from left to right -/
def jx_XA (M : jx_M) (n : Nat) (G : List Nat) (ts : List Nat) (pc pc2 : Nat) (f : jx_X (List Int)) : Prop :=
  ∀ (L : jx_L) (A : Nat → Prop) (p : Program) (l : Launch) (e : Env) (R : Room) (s : State) (m : MethodId) (args : Array Value) (below : List Frame) (meth : Method) (c : Code) (F : jx_R → jx_S → Prop),
    jx_C M L A p R s m args meth c → ∀ (env : jx_E) (σ : jx_S) (H : Heap) (locs : List Loc) (ls : Array Slot) (st : List Value), jx_I M L A G s env σ H locs ls → jx_ct st ≤ n →
    ∀ o env2 σ2, f env σ = some (o, env2, σ2) →
    (match o with
      | .ok vs => jx_oks L ts vs → ∀ H2 locs2 ls2, jx_I M L A G s env2 σ2 H2 locs2 ls2 → W p l e R s m args below meth c H2 locs2 (jx_nc L) (jx_ns L) (jx_Q L A (jx_rt M) F s below) (F0 m pc2 ls2 ((jx_vals L ts vs).reverse ++ st))
      | .error r => F r σ2) →
    W p l e R s m args below meth c H locs (jx_nc L) (jx_ns L) (jx_Q L A (jx_rt M) F s below) (F0 m pc ls st)
def jx_nil : jx_X (List Int) := jx_pure []
def jx_cons (f : jx_X Int) (g : jx_X (List Int)) : jx_X (List Int) := jx_bind f fun v => jx_bind g fun vs => jx_pure (v :: vs)
theorem xa_nil {M : jx_M} {n : Nat} {G : List Nat} {pc : Nat} : jx_XA M n G [] pc pc jx_nil := by
  intro L A p l e R s m args below meth c F hC env σ H locs ls st hI hn o env2 σ2 hf k
  cases hf
  exact k trivial H locs ls hI
theorem xa_cons {M : jx_M} {n n2 : Nat} {G ts : List Nat} {t pc p1 p2 : Nat} {f : jx_X Int} {g : jx_X (List Int)} (h1 : jx_XE M n G t pc p1 f) (h2 : jx_XA M n2 G ts p1 p2 g) (hn : (if t = 2 then 2 else 1) + n ≤ n2) (h0 : t ≠ 0) : jx_XA M n G (t :: ts) pc p2 (jx_cons f g) := by
  intro L A p l e R s m args below meth c F hC env σ H locs ls st hI hst o env2 σ2 hf k
  rcases jx_bind_inv hf with ⟨r, q1, rfl⟩ | ⟨v, e1, s1, q1, q2⟩
  · exact h1 L A p l e R s m args below meth c F hC env σ H locs ls st hI hst _ _ _ q1 k
  refine h1 L A p l e R s m args below meth c F hC env σ H locs ls st hI hst _ _ _ q1 (fun hv H2 locs2 ls2 hI2 => ?_)
  have hc : jx_ct (jx_v L t v :: st) ≤ n2 := by rw [jx_ct_cons]; omega
  rcases jx_bind_inv q2 with ⟨r, q3, rfl⟩ | ⟨vs, e2, s2, q3, q4⟩
  · exact h2 L A p l e R s m args below meth c F hC e1 s1 H2 locs2 ls2 _ hI2 hc _ _ _ q3 k
  cases q4
  refine h2 L A p l e R s m args below meth c F hC e1 s1 H2 locs2 ls2 _ hI2 hc _ _ _ q3 (fun hvs H3 locs3 ls3 hI3 => ?_)
  have h := k ⟨⟨h0, hv⟩, hvs⟩ H3 locs3 ls3 hI3
  simp only [jx_vals, List.reverse_cons, List.append_assoc, List.singleton_append] at h
  exact h
def jx_call (f : List Int → jx_S → Option (jx_R × jx_S)) (vs : List Int) : jx_X Int := fun e σ => match f vs σ with
  | none => none
  | some (.ok v, s2) => some (.ok v, e, s2)
  | some (.error x, s2) => some (.error (.error x), e, s2)
/-- on an object -/
def jx_vc (f : List Int → jx_S → Option (jx_R × jx_S)) (vs : List Int) : jx_X Int := if vs.headD 0 = 0 then fun _ _ => none else jx_call f vs
theorem jx_warm {L : jx_L} {A : Nat → Prop} {s U : State} {args : Array Value} (hts : ∀ w ∈ jx_tb, w.before args s = true) (hW : s.WarmedH U.vm) : ∀ w ∈ jx_tb, ∀ a' : Array Value, w.before a' U = true := by
  intro w hw a'
  refine word_at hW ?_ (hts w hw)
  have h := (List.mem_filter.mp hw).2
  unfold jx_good at h
  rw [Bool.or_eq_true] at h
  rcases h with h | h
  · exact Or.inl h
  · cases w <;> first | exact Or.inr ⟨_, rfl⟩ | simp [jx_arr] at h
theorem jx_oks_len {L : jx_L} : ∀ {ts : List Nat} {vs : List Int}, jx_oks L ts vs → (jx_vals L ts vs).length = ts.length
  | [], [], _ => rfl
  | [], _ :: _, h => by simp [jx_oks] at h
  | _ :: _, [], h => by simp [jx_oks] at h
  | _ :: _, _ :: _, h => by simp [jx_vals, jx_oks_len h.2]
/-- links of a call -/
def jx_VL (own : String) (idx : Nat) (y : MethodName) : Prop := Cond.methodLink own idx y ∈ jx_tb ∧ Cond.instanceMethod y ∈ jx_tb ∧ Cond.selects y.cls y y ∈ jx_tb
def jx_SL (own : String) (idx : Nat) (y : MethodName) : Prop := (Cond.methodLink own idx y ∈ jx_tb ∨ ∃ host, Cond.methodLinkNest own idx y host ∈ jx_nw) ∧ Cond.static y ∈ jx_tb
/-- what a method's own words say: its code, its class is there; how many arguments -/
def jx_ML (y : MethodName) (M : jx_M) (n : Nat) : Prop := jx_wd y M ∈ jx_tb ∧ Cond.initialized y.cls ∈ jx_tb ∧ (y.cls ≠ "java/lang/invoke/MethodHandle" ∧ y.cls ≠ "java/lang/invoke/VarHandle") ∧ (parseMethodDescriptor y.desc).map (fun d => d.parameters.length) = some n
/-- the caller may nest the callee -/
def jx_fitsIn (M Mc : jx_M) : Bool := decide (jx_fr Mc + 1 ≤ jx_fr M) && decide (8 + (jx_nl Mc + 11) + jx_lo Mc ≤ jx_lo M)
/-- no handler of the method stands over pc -/
def jx_nohand (M : jx_M) (pc : Nat) : Bool := (jx_hh M).all fun q => !(decide (q.1 ≤ pc) && decide (pc < q.2.1))
theorem jx_nocov {M : jx_M} {L : jx_L} {A : Nat → Prop} {p : Program} {R : Room} {s : State} {m : MethodId} {args : Array Value} {meth : Method} {c : Code} (hC : jx_C M L A p R s m args meth c) {pc : Nat} (hh : jx_nohand M pc = true) : ∀ x ∈ c.exceptionTable.toList, covers x pc = false := by
  have h := hC.2.2.2.2.2.2.2.2.2
  intro x hx
  have h1 : (x.startPc, x.endPc, x.handlerPc, x.catchType) ∈ jx_hh M := by
    rw [← h]
    exact List.mem_map.mpr ⟨x, hx, rfl⟩
  have h2 := List.all_eq_true.mp hh _ h1
  simp only [Bool.not_eq_true', Bool.and_eq_false_iff, decide_eq_false_iff_not] at h2
  simp only [covers, Bool.and_eq_false_iff, decide_eq_false_iff_not]
  exact h2
section
variable {M Mc : jx_M} {L : jx_L} {A : Nat → Prop} {p : Program} {l : Launch} {e : Env} {R : Room} {s : State} {m : MethodId} {args : Array Value} {below : List Frame} {meth : Method} {c : Code} {F : jx_R → jx_S → Prop} {G : List Nat} {env : jx_E} {σ s2 : jx_S} {H : Heap} {locs : List Loc} {ls : Array Slot} {st : List Value} {y : MethodName} {ts : List Nat} {f : List Int → jx_S → Option (jx_R × jx_S)} {idx pc n : Nat} {vs : List Int} {r : jx_R}
/-- behind the invoking instruction -/
theorem jx_after (hM : jx_Met y Mc ts f) (hC : jx_C M L A p R s m args meth c) (hI : jx_I M L A G s env σ H locs ls) (hml : jx_ML y Mc n) (hfit : jx_fitsIn M Mc = true) (hnh : jx_nohand M pc = true) {T : State} (hT : T.heap = H) {vm₁ : Vm} (X₁ : Stand p l e R s m args below meth c (T.setVm vm₁) locs (jx_nc L) (jx_ns L)) {mk : MethodId} (hn : s.methodNamed? y = some mk) {ig : Instr} (hdg : decode c.code pc = .ok (ig, 3)) (hst : jx_ct st ≤ 8)
    (hf : f vs σ = some (r, s2)) (hok : jx_oks L ts vs) (hr1 : ∀ v, r = .ok v → jx_ok L (jx_rt Mc) v → ∀ H2 locs2, jx_rep L s2 H2 → jx_tok L s2 → va_S A s.heap H2 locs2 → W p l e R s m args below meth c H2 locs2 (jx_nc L) (jx_ns L) (jx_Q L A (jx_rt M) F s below) (F0 m (pc + 3) ls ((if jx_rt Mc = 0 then [] else [jx_v L (jx_rt Mc) v]) ++ st))) (hr2 : ∀ x, r = .error x → F (.error x) s2) :
    ∃ t, Steps p.tables e below (doInvoke e ((T.setVm vm₁).setTop (F0 m pc ls st)) [] mk (jx_vals L ts vs).toArray).1 t ∧ jx_Q L A (jx_rt M) F s below t := by
  have hwd := jx_warm (L := L) (A := A) hC.2.2.2.2.1 X₁.warmed
  have hfit2 := hfit
  simp only [jx_fitsIn, Bool.and_eq_true, decide_eq_true_eq] at hfit2
  obtain ⟨rf, rl, rc, rs⟩ := hC.2.2.2.2.2.2.2.1
  have hlocks := hC.2.2.2.2.2.2.2.2.1.2
  have hKU : jx_K L A (T.setVm vm₁) := hC.2.2.2.2.2.1.to X₁.warmed (fun a h1 h2 => by show T.heap[a]? = _; rw [hT]; exact hI.2.2.1.2.1 a h1 h2)
  obtain ⟨o, U', Lc, a1, a2, a3, a4, a5, a6, a7⟩ := jx_back hM X₁ hC.2.2.2.2.2.2.1 (g := F0 m pc ls st) rfl (by show ls.size = _; rw [hI.2.2.2.1, hC.2.2.1]) hdg (X₁.named hn) (by rw [rf]; exact hfit2.1) (by rw [rl]; exact hfit2.2) (lv_room hst) rc rs (hwd _ hml.1 _) hwd (fun a' => hwd _ hml.1 a') (hwd _ hml.2.1 _) hf hok (by show jx_rep L σ T.heap; rw [hT]; exact hI.1) hI.2.1 hKU
  have hS : va_S A s.heap U'.heap (locs ++ Lc) := by
    have e1 : (T.setVm vm₁).heap = H := hT
    rw [e1] at a4
    refine ⟨Nat.le_trans hI.2.2.1.1 a4.1, fun q h1 h2 => (a4.2 q (Nat.lt_of_lt_of_le h1 hI.2.2.1.1) h2).trans (hI.2.2.1.2.1 q h1 h2), fun q hq => ?_⟩
    rcases List.mem_append.mp hq with hq | hq
    · exact hI.2.2.1.2.2 q hq
    · exact a5 q hq
  cases r with
  | ok v =>
    obtain ⟨rfl, b2⟩ := a1
    obtain ⟨t, c1, c2⟩ := hr1 v rfl b2 U'.heap (locs ++ Lc) a2 a3 hS U' rfl a6
    refine ⟨t, ?_, c2⟩
    refine Steps.trans a7 ?_
    have e9 : (if jx_rt Mc = 0 then none else some (jx_v L (jx_rt Mc) v) : Option Value).toList = (if jx_rt Mc = 0 then [] else [jx_v L (jx_rt Mc) v]) := by split <;> rfl
    rw [e9]
    exact c1
  | error x =>
    obtain ⟨rfl, b2, b3⟩ := a1
    obtain ⟨d1, d2, d3, d4, d5⟩ := a6.leaveThrown (jx_ad L x 0) (g := F0 m pc ls st) rfl rfl rfl (jx_nocov hC hnh)
    refine ⟨_, Steps.trans a7 d1, ⟨.threw (jx_ad L x 0), d2, d3, ⟨.error x, s2, hr2 x rfl, ⟨rfl, b2, b3⟩, a2, a3⟩, hS.F rfl, locs ++ Lc, ⟨d4, d5⟩, hS.2.2⟩⟩
/-- invokevirtual -/
theorem jx_Wv (hM : jx_Met y Mc ts f) (hC : jx_C M L A p R s m args meth c) (hI : jx_I M L A G s env σ H locs ls) {k : Nat} {ts' : List Nat} (hts' : ts = (10 + k) :: ts') (hk : k < 16) (hcls : y.cls = jx_cn k) (hml : jx_ML y Mc ts'.length) (hl : jx_VL (jx_own M) idx y) (hfit : jx_fitsIn M Mc = true) (hnh : jx_nohand M pc = true) (d : decode (jx_cc M) pc = .ok (.invokevirtual idx, 3)) (hst : jx_ct st ≤ 8)
    (hf : f vs σ = some (r, s2)) (hok : jx_oks L ts vs) (h0 : vs.headD 0 ≠ 0) (hr1 : ∀ v, r = .ok v → jx_ok L (jx_rt Mc) v → ∀ H2 locs2, jx_rep L s2 H2 → jx_tok L s2 → va_S A s.heap H2 locs2 → W p l e R s m args below meth c H2 locs2 (jx_nc L) (jx_ns L) (jx_Q L A (jx_rt M) F s below) (F0 m (pc + 3) ls ((if jx_rt Mc = 0 then [] else [jx_v L (jx_rt Mc) v]) ++ st))) (hr2 : ∀ x, r = .error x → F (.error x) s2) :
    W p l e R s m args below meth c H locs (jx_nc L) (jx_ns L) (jx_Q L A (jx_rt M) F s below) (F0 m pc ls ((jx_vals L ts vs).reverse ++ st)) := by
  subst hts'
  cases vs with
  | nil => exact absurd rfl h0
  | cons x vs =>
    have h0 : x ≠ 0 := h0
    obtain ⟨g1, g2⟩ := jx_obj (by omega) hok.1.2 h0
    have hts := hC.2.2.2.2.1
    obtain ⟨hl1, hl2, hl3⟩ := hl
    intro T hT X
    obtain ⟨mk, methM, hnamed, hmethM, hstM, habM⟩ := Cond.instanceMethod_spec (hts _ hl2)
    have ho := jx_rep_a hI.1 g1 (by decide)
    unfold jx_at at ho
    rw [if_pos rfl, g2] at ho
    obtain ⟨cellB, c1, c2, c3, -⟩ := ho
    have hcls2 := (hC.2.2.2.2.2.1.1.1 k _ (jx_cls_at hk)).2
    obtain ⟨q0, r2, m2, q1, q2, q3, q4, kP, hkP, hkPi⟩ := Cond.selects_spec (hts _ hl3)
    have hq : q0 = cellB.cls := by
      rw [hcls] at q1
      rw [c2]
      exact Option.some.inj (q1.symm.trans hcls2.1)
    subst hq
    cases (State.methodFound?_of_named hnamed hml.2.2.1).symm.trans q2
    cases hnamed.symm.trans q3
    have hselP : selectMethod e.platform s.vm cellB.cls mk = .method mk := by rw [Launch.admits_selectMethod X.admits]; exact q4
    obtain ⟨methM', cM, hmethM', -, -, -, -, -, -, hsigM⟩ := jx_wd_spec hnamed (hts _ hml.1)
    cases hmethM.symm.trans hmethM'
    have hlen : (jx_vals L ts' vs).length = methM.sig.parameters.length := by
      rw [jx_oks_len hok.2]
      have h9 := hml.2.2.2
      rw [hsigM] at h9
      exact (Option.some.inj h9).symm
    have hvals : jx_vals L ((10 + k) :: ts') (x :: vs) = .ref (jx_ad L x 0) :: jx_vals L ts' vs := by
      simp only [jx_vals]
      rw [jx_vobj (by omega) h0]
    obtain ⟨vm₁, X₁, hstep₁⟩ := X.invokevirtual hC.1 hC.2.2.2.1 (hts _ hl1) hnamed hmethM hstM hkP hkPi hml.2.2.1 (a := jx_ad L x 0) (cell := cellB) (by rw [hT]; exact c1)
      (fun z h => by rw [c3] at h; cases h) hselP hmethM habM hkP hkPi (g := F0 m pc ls ((jx_vals L ((10 + k) :: ts') (x :: vs)).reverse ++ st)) rfl (argsL := jx_vals L ts' vs) (rest := st) hlen (by show _ = _; rw [hvals]; simp) (by rw [hC.2.1]; exact d)
    obtain ⟨t, e1, e2⟩ := jx_after hM hC hI hml hfit hnh hT X₁ hnamed (by rw [hC.2.1]; exact d) hst hf hok hr1 hr2
    refine ⟨t, hstep₁ t (fun acts => ?_), e2⟩
    rw [doInvoke_state]
    rw [doInvoke_state] at e1
    rw [hvals] at e1
    exact e1
/-- invokestatic -/
theorem jx_Ws (hM : jx_Met y Mc ts f) (hC : jx_C M L A p R s m args meth c) (hI : jx_I M L A G s env σ H locs ls) (hml : jx_ML y Mc ts.length) (hl : jx_SL (jx_own M) idx y) (hfit : jx_fitsIn M Mc = true) (hnh : jx_nohand M pc = true) (d : decode (jx_cc M) pc = .ok (.invokestatic idx, 3)) (hst : jx_ct st ≤ 8)
    (hf : f vs σ = some (r, s2)) (hok : jx_oks L ts vs) (hr1 : ∀ v, r = .ok v → jx_ok L (jx_rt Mc) v → ∀ H2 locs2, jx_rep L s2 H2 → jx_tok L s2 → va_S A s.heap H2 locs2 → W p l e R s m args below meth c H2 locs2 (jx_nc L) (jx_ns L) (jx_Q L A (jx_rt M) F s below) (F0 m (pc + 3) ls ((if jx_rt Mc = 0 then [] else [jx_v L (jx_rt Mc) v]) ++ st))) (hr2 : ∀ x, r = .error x → F (.error x) s2) :
    W p l e R s m args below meth c H locs (jx_nc L) (jx_ns L) (jx_Q L A (jx_rt M) F s below) (F0 m pc ls ((jx_vals L ts vs).reverse ++ st)) := by
  have hts := hC.2.2.2.2.1
  obtain ⟨hl1, hl2⟩ := hl
  intro T hT X
  have hcode := hts _ hml.1
  have hini := hts _ hml.2.1
  have hnamed0 : ∃ mk, s.methodNamed? y = some mk := by
    unfold jx_wd at hcode
    split at hcode
    · exact Cond.code_named hcode
    · obtain ⟨m9, _, _, hn9, -⟩ := Cond.codeWith_spec hcode
      exact ⟨m9, hn9⟩
  obtain ⟨mk, hnamed⟩ := hnamed0
  obtain ⟨methM, cM, hmethM, -, -, -, -, -, -, hsigM⟩ := jx_wd_spec hnamed hcode
  have hstatic : methM.isStatic = true := Cond.static_spec hnamed hmethM (hts _ hl2)
  obtain ⟨kP, hkP, -⟩ := className_of_methodNamed hnamed
  have hinitP : kP.init = .initialized := Cond.initialized_spec (findClass_of_methodNamed hnamed) hkP hini
  have hlen : (jx_vals L ts vs).length = methM.sig.parameters.length := by
    rw [jx_oks_len hok]
    have h9 := hml.2.2.2
    rw [hsigM] at h9
    exact (Option.some.inj h9).symm
  have fin : ∀ vm₁, Stand p l e R s m args below meth c (T.setVm vm₁) locs (jx_nc L) (jx_ns L) → (∀ target, (∀ acts, Steps p.tables e below (doInvoke e ((T.setVm vm₁).setTop { F0 m pc ls ((jx_vals L ts vs).reverse ++ st) with stack := st }) acts mk (jx_vals L ts vs).toArray).1 target) → Steps p.tables e below (T.setTop (F0 m pc ls ((jx_vals L ts vs).reverse ++ st))) target) → ∃ t, Steps p.tables e below (T.setTop (F0 m pc ls ((jx_vals L ts vs).reverse ++ st))) t ∧ jx_Q L A (jx_rt M) F s below t := by
    intro vm₁ X₁ hstep₁
    obtain ⟨t, e1, e2⟩ := jx_after hM hC hI hml hfit hnh hT X₁ hnamed (by rw [hC.2.1]; exact d) hst hf hok hr1 hr2
    refine ⟨t, hstep₁ t (fun acts => ?_), e2⟩
    rw [doInvoke_state]
    rw [doInvoke_state] at e1
    exact e1
  rcases hl1 with hl1 | ⟨host, hl1⟩
  · obtain ⟨vm₁, X₁, hstep₁⟩ := X.invokestatic hC.1 hC.2.2.2.1 (hts _ hl1) hnamed hmethM hstatic hkP hinitP hml.2.2.1 (g := F0 m pc ls ((jx_vals L ts vs).reverse ++ st)) rfl (argsL := jx_vals L ts vs) (rest := st) hlen rfl (by rw [hC.2.1]; exact d)
    exact fin vm₁ X₁ hstep₁
  · obtain ⟨vm₁, X₁, hstep₁⟩ := X.invokestaticNest hC.1 hC.2.2.2.1 (va_Nw.use rfl (hC.2.2.2.2.2.1.2.1 _ hl1)) hnamed hmethM hstatic hkP hinitP hml.2.2.1 (g := F0 m pc ls ((jx_vals L ts vs).reverse ++ st)) rfl (argsL := jx_vals L ts vs) (rest := st) hlen rfl (by rw [hC.2.1]; exact d)
    exact fin vm₁ X₁ hstep₁
end
theorem jx_call_inv {f : List Int → jx_S → Option (jx_R × jx_S)} {vs : List Int} {e e2 : jx_E} {σ s2 : jx_S} {o : Except jx_R Int} (h : jx_call f vs e σ = some (o, e2, s2)) : e2 = e ∧ ((∃ v, f vs σ = some (.ok v, s2) ∧ o = .ok v) ∨ ∃ x, f vs σ = some (.error x, s2) ∧ o = .error (.error x)) := by
  unfold jx_call at h
  split at h
  · cases h
  · rename_i v s3 hf
    cases h
    exact ⟨rfl, Or.inl ⟨v, hf, rfl⟩⟩
  · rename_i x s3 hf
    cases h
    exact ⟨rfl, Or.inr ⟨x, hf, rfl⟩⟩
theorem x_callV {M Mc : jx_M} {n : Nat} {G ts : List Nat} {pc p1 idx t : Nat} {fs : jx_X (List Int)} {y : MethodName} {f : List Int → jx_S → Option (jx_R × jx_S)} (k : Nat) (ha : jx_XA M n G ((10 + k) :: ts) pc p1 fs) (hM : jx_Met y Mc ((10 + k) :: ts) f) (hml : jx_ML y Mc ts.length) (hl : jx_VL (jx_own M) idx y) (d : decode (jx_cc M) p1 = .ok (.invokevirtual idx, 3)) (hcls : y.cls = jx_cn k) (hk : k < 16) (hfit : jx_fitsIn M Mc = true) (hnh : jx_nohand M p1 = true) (hn : n ≤ 8) (hrt : jx_rt Mc = t) (ht : t ≠ 0) :
    jx_XE M n G t pc (p1 + 3) (jx_bind fs (jx_vc f)) := by
  intro L A p l e R s m args below meth c F hC env σ H locs ls st hI hst o env2 σ2 hf kk
  rcases jx_bind_inv hf with ⟨r, q1, rfl⟩ | ⟨vs, e1, s1, q1, q2⟩
  · exact ha L A p l e R s m args below meth c F hC env σ H locs ls st hI hst _ _ _ q1 kk
  refine ha L A p l e R s m args below meth c F hC env σ H locs ls st hI hst _ _ _ q1 (fun hvs H2 locs2 ls2 hI2 => ?_)
  unfold jx_vc at q2
  split at q2
  · cases q2
  rename_i h0
  obtain ⟨rfl, q3⟩ := jx_call_inv q2
  rcases q3 with ⟨v, q4, rfl⟩ | ⟨x, q4, rfl⟩
  · refine jx_Wv hM hC hI2 rfl hk hcls hml hl hfit hnh d (Nat.le_trans hst hn) q4 hvs h0 (fun v' hv hok H3 locs3 r1 r2 r3 => ?_) (fun x h => by cases h)
    cases hv
    rw [hrt] at hok
    have := kk hok H3 locs3 ls2 ⟨r1, r2, r3, hI2.2.2.2⟩
    rw [hrt, if_neg ht]
    exact this
  · exact jx_Wv hM hC hI2 rfl hk hcls hml hl hfit hnh d (Nat.le_trans hst hn) q4 hvs h0 (fun v' hv => by cases hv) (fun x' h => by cases h; exact kk)
theorem x_callS {M Mc : jx_M} {n : Nat} {G ts : List Nat} {pc p1 idx t : Nat} {fs : jx_X (List Int)} {y : MethodName} {f : List Int → jx_S → Option (jx_R × jx_S)} (ha : jx_XA M n G ts pc p1 fs) (hM : jx_Met y Mc ts f) (hml : jx_ML y Mc ts.length) (hl : jx_SL (jx_own M) idx y) (d : decode (jx_cc M) p1 = .ok (.invokestatic idx, 3)) (hfit : jx_fitsIn M Mc = true) (hnh : jx_nohand M p1 = true) (hn : n ≤ 8) (hrt : jx_rt Mc = t) (ht : t ≠ 0) :
    jx_XE M n G t pc (p1 + 3) (jx_bind fs (jx_call f)) := by
  intro L A p l e R s m args below meth c F hC env σ H locs ls st hI hst o env2 σ2 hf kk
  rcases jx_bind_inv hf with ⟨r, q1, rfl⟩ | ⟨vs, e1, s1, q1, q2⟩
  · exact ha L A p l e R s m args below meth c F hC env σ H locs ls st hI hst _ _ _ q1 kk
  refine ha L A p l e R s m args below meth c F hC env σ H locs ls st hI hst _ _ _ q1 (fun hvs H2 locs2 ls2 hI2 => ?_)
  obtain ⟨rfl, q3⟩ := jx_call_inv q2
  rcases q3 with ⟨v, q4, rfl⟩ | ⟨x, q4, rfl⟩
  · refine jx_Ws hM hC hI2 hml hl hfit hnh d (Nat.le_trans hst hn) q4 hvs (fun v' hv hok H3 locs3 r1 r2 r3 => ?_) (fun x h => by cases h)
    cases hv
    rw [hrt] at hok
    have := kk hok H3 locs3 ls2 ⟨r1, r2, r3, hI2.2.2.2⟩
    rw [hrt, if_neg ht]
    exact this
  · exact jx_Ws hM hC hI2 hml hl hfit hnh d (Nat.le_trans hst hn) q4 hvs (fun v' hv => by cases hv) (fun x' h => by cases h; exact kk)
/-- a value is dropped (pure) -/
def jx_drop (f : jx_X Int) : jx_X Unit := jx_bind f fun _ => jx_pure ()
theorem x_callVv {M Mc : jx_M} {G ts : List Nat} {pc p1 idx : Nat} {fs : jx_X (List Int)} {y : MethodName} {f : List Int → jx_S → Option (jx_R × jx_S)} (k : Nat) (ha : jx_XA M 0 G ((10 + k) :: ts) pc p1 fs) (hM : jx_Met y Mc ((10 + k) :: ts) f) (hml : jx_ML y Mc ts.length) (hl : jx_VL (jx_own M) idx y) (d : decode (jx_cc M) p1 = .ok (.invokevirtual idx, 3)) (hcls : y.cls = jx_cn k) (hk : k < 16) (hfit : jx_fitsIn M Mc = true) (hnh : jx_nohand M p1 = true) (hrt : jx_rt Mc = 0) :
    jx_XS M G G pc (p1 + 3) (jx_drop (jx_bind fs (jx_vc f))) := by
  intro L A p l e R s m args below meth c F hC env σ H locs ls hI o env2 σ2 hf kk
  rcases jx_bind_inv hf with ⟨r, q1, rfl⟩ | ⟨v, e1, s1, q1, q2⟩
  · rcases jx_bind_inv q1 with ⟨r', q3, hrr⟩ | ⟨vs, e3, s3, q3, q4⟩
    · cases hrr
      exact ha L A p l e R s m args below meth c F hC env σ H locs ls [] hI (Nat.zero_le _) _ _ _ q3 kk
    · refine ha L A p l e R s m args below meth c F hC env σ H locs ls [] hI (Nat.zero_le _) _ _ _ q3 (fun hvs H2 locs2 ls2 hI2 => ?_)
      unfold jx_vc at q4
      split at q4
      · cases q4
      rename_i h0
      obtain ⟨rfl, q5⟩ := jx_call_inv q4
      rcases q5 with ⟨v, q6, hz⟩ | ⟨x, q6, hz⟩
      · cases hz
      · cases hz
        exact jx_Wv hM hC hI2 rfl hk hcls hml hl hfit hnh d (Nat.zero_le _) q6 hvs h0 (fun v' hv => by cases hv) (fun x' h => by cases h; exact kk)
  · cases q2
    rcases jx_bind_inv q1 with ⟨r', q3, hrr⟩ | ⟨vs, e3, s3, q3, q4⟩
    · cases hrr
    refine ha L A p l e R s m args below meth c F hC env σ H locs ls [] hI (Nat.zero_le _) _ _ _ q3 (fun hvs H2 locs2 ls2 hI2 => ?_)
    unfold jx_vc at q4
    split at q4
    · cases q4
    rename_i h0
    obtain ⟨rfl, q5⟩ := jx_call_inv q4
    rcases q5 with ⟨v, q6, hz⟩ | ⟨x, q6, hz⟩
    · cases hz
      refine jx_Wv hM hC hI2 rfl hk hcls hml hl hfit hnh d (Nat.zero_le _) q6 hvs h0 (fun v' hv hok H3 locs3 r1 r2 r3 => ?_) (fun x h => by cases h)
      rw [hrt, if_pos rfl]
      exact kk H3 locs3 ls2 ⟨r1, r2, r3, hI2.2.2.2⟩
    · cases hz
theorem x_callSv {M Mc : jx_M} {G ts : List Nat} {pc p1 idx : Nat} {fs : jx_X (List Int)} {y : MethodName} {f : List Int → jx_S → Option (jx_R × jx_S)} (ha : jx_XA M 0 G ts pc p1 fs) (hM : jx_Met y Mc ts f) (hml : jx_ML y Mc ts.length) (hl : jx_SL (jx_own M) idx y) (d : decode (jx_cc M) p1 = .ok (.invokestatic idx, 3)) (hfit : jx_fitsIn M Mc = true) (hnh : jx_nohand M p1 = true) (hrt : jx_rt Mc = 0) :
    jx_XS M G G pc (p1 + 3) (jx_drop (jx_bind fs (jx_call f))) := by
  intro L A p l e R s m args below meth c F hC env σ H locs ls hI o env2 σ2 hf kk
  rcases jx_bind_inv hf with ⟨r, q1, rfl⟩ | ⟨v, e1, s1, q1, q2⟩
  · rcases jx_bind_inv q1 with ⟨r', q3, hrr⟩ | ⟨vs, e3, s3, q3, q4⟩
    · cases hrr
      exact ha L A p l e R s m args below meth c F hC env σ H locs ls [] hI (Nat.zero_le _) _ _ _ q3 kk
    · refine ha L A p l e R s m args below meth c F hC env σ H locs ls [] hI (Nat.zero_le _) _ _ _ q3 (fun hvs H2 locs2 ls2 hI2 => ?_)
      obtain ⟨rfl, q5⟩ := jx_call_inv q4
      rcases q5 with ⟨v, q6, hz⟩ | ⟨x, q6, hz⟩
      · cases hz
      · cases hz
        exact jx_Ws hM hC hI2 hml hl hfit hnh d (Nat.zero_le _) q6 hvs (fun v' hv => by cases hv) (fun x' h => by cases h; exact kk)
  · cases q2
    rcases jx_bind_inv q1 with ⟨r', q3, hrr⟩ | ⟨vs, e3, s3, q3, q4⟩
    · cases hrr
    refine ha L A p l e R s m args below meth c F hC env σ H locs ls [] hI (Nat.zero_le _) _ _ _ q3 (fun hvs H2 locs2 ls2 hI2 => ?_)
    obtain ⟨rfl, q5⟩ := jx_call_inv q4
    rcases q5 with ⟨v, q6, hz⟩ | ⟨x, q6, hz⟩
    · cases hz
      refine jx_Ws hM hC hI2 hml hl hfit hnh d (Nat.zero_le _) q6 hvs (fun v' hv hok H3 locs3 r1 r2 r3 => ?_) (fun x h => by cases h)
      rw [hrt, if_pos rfl]
      exact kk H3 locs3 ls2 ⟨r1, r2, r3, hI2.2.2.2⟩
    · cases hz
