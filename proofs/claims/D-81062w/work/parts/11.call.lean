/-! CALLS: contracts, entry, the call itself (it returns or throws) -/
def jx_vals (L : jx_L) : List Nat → List Int → List Value
  | t :: ts, v :: vs => jx_v L t v :: jx_vals L ts vs
  | _, _ => []
def jx_oks (L : jx_L) : List Nat → List Int → Prop
  | t :: ts, v :: vs => (t ≠ 0 ∧ jx_ok L t v) ∧ jx_oks L ts vs
  | [], [] => True
  | _, _ => False
/-- locals at the entry, and their types -/
def jx_e0 : List Nat → List Int → jx_E
  | t :: ts, v :: vs => if t = 2 then v :: 0 :: jx_e0 ts vs else v :: jx_e0 ts vs
  | _, _ => []
def jx_g0 : List Nat → List Nat
  | t :: ts => if t = 2 then 2 :: 0 :: jx_g0 ts else t :: jx_g0 ts
  | [] => []
def jx_en (ts : List Nat) (nl : Nat) (vs : List Int) : jx_E := jx_e0 ts vs ++ List.replicate (nl - (jx_g0 ts).length) 0
def jx_run (ts : List Nat) (nl : Nat) (b : jx_X Unit) (vs : List Int) (σ : jx_S) : Option (jx_R × jx_S) := match b (jx_en ts nl vs) σ with
  | some (.error r, _, s2) => some (r, s2)
  | _ => none
/-- the word of a method's code -/
def jx_wd (y : MethodName) (M : jx_M) : Cond := if jx_hh M = [] then .code y (jx_cc M) (jx_nl M) (jx_re M) else .codeWith y (jx_cc M) (jx_nl M) (jx_re M) (jx_hh M)
def jx_rm (M : jx_M) : Room := { frames := jx_fr M, cells := 0, slots := 0, locals := jx_lo M }
/-- a contract: what f says, the method does -/
def jx_Met (y : MethodName) (M : jx_M) (ts : List Nat) (f : List Int → jx_S → Option (jx_R × jx_S)) : Prop :=
  ∀ (l : Launch) (L : jx_L) (A : Nat → Prop), jx_lok L A → ∀ (vs : List Int) (σ : jx_S) (r : jx_R) (s2 : jx_S), f vs σ = some (r, s2) → jx_oks L ts vs →
    MetFree l y (headSpec (jx_wd y M :: jx_tb) (jx_rm M)) (fun a U => a = (jx_vals L ts vs).toArray ∧ jx_rep L σ U.heap ∧ jx_tok L σ ∧ jx_K L A U) (fun _ _ _ _ _ => True)
      (fun _ st o t => (jx_out L (jx_rt M) r o ∧ jx_rep L s2 t.heap ∧ jx_tok L s2) ∧ va_F A st t ∧ ∃ Lc, (st.WarmedH t.vm ∧ st.sameButNew ({ t with vm := st.vm } : State) Lc 0 0) ∧ ∀ q ∈ Lc, A q.base)
theorem jx_wd_spec {y : MethodName} {M : jx_M} {a : Array Value} {U : State} {mk : MethodId} (hn : U.methodNamed? y = some mk) (h : (jx_wd y M).before a U = true) :
    ∃ meth c, U.vm.method? mk = some meth ∧ meth.code = some c ∧ c.code = jx_cc M ∧ c.maxLocals = jx_nl M ∧ meth.sig.returnType = jx_re M ∧ meth.locks = false ∧ c.exceptionTable.toList.map (fun h => (h.startPc, h.endPc, h.handlerPc, h.catchType)) = jx_hh M ∧ parseMethodDescriptor y.desc = some meth.sig := by
  unfold jx_wd at h
  by_cases hh : jx_hh M = []
  · rw [if_pos hh] at h
    obtain ⟨meth, c, h1, h2, h3, h4, h5, h6, h7, h8⟩ := Cond.code_spec hn h
    refine ⟨meth, c, h1, h2, h3, h4, h5, h6, ?_, h8⟩
    rw [hh]
    have : c.exceptionTable.toList = [] := by simpa using h7
    rw [this]
    rfl
  · rw [if_neg hh] at h
    obtain ⟨m9, meth, c, hn9, h1, h2, h3, h4, h5, h6, h7, h8⟩ := Cond.codeWith_spec h
    cases hn.symm.trans hn9
    exact ⟨meth, c, h1, h2, h3, h4, h6, h7, h5, h8⟩
theorem jx_sl_len (L : jx_L) : ∀ (ts : List Nat) (vs : List Int), jx_oks L ts vs → (lg_sl (jx_vals L ts vs)).length = (jx_g0 ts).length ∧ (jx_e0 ts vs).length = (jx_g0 ts).length
  | [], [], _ => ⟨rfl, rfl⟩
  | [], _ :: _, h => by simp [jx_oks] at h
  | _ :: _, [], h => by simp [jx_oks] at h
  | t :: ts, v :: vs, h => by
    obtain ⟨h1, h2⟩ := jx_sl_len L ts vs h.2
    have e : lg_sl (jx_vals L (t :: ts) (v :: vs)) = (if (jx_v L t v).category = 2 then [Slot.val (jx_v L t v), .second] else [Slot.val (jx_v L t v)]) ++ lg_sl (jx_vals L ts vs) := by
      simp [jx_vals, lg_sl]
    rw [e, jx_cat]
    by_cases ht : t = 2
    · simp [ht, jx_g0, jx_e0, h1, h2]
    · simp [ht, jx_g0, jx_e0, h1, h2]
theorem jx_args_at (L : jx_L) : ∀ (ts : List Nat) (vs : List Int) (off : Nat), jx_oks L ts vs → ∀ (i t : Nat), (jx_g0 ts)[i]? = some t → t ≠ 0 → (off + i, jx_v L t ((jx_e0 ts vs).getD i 0)) ∈ lv_args off (jx_vals L ts vs) ∧ jx_ok L t ((jx_e0 ts vs).getD i 0)
  | [], [], _, _, i, t, h, _ => by simp [jx_g0] at h
  | [], _ :: _, _, h, _, _, _, _ => by simp [jx_oks] at h
  | _ :: _, [], _, h, _, _, _, _ => by simp [jx_oks] at h
  | t0 :: ts, v :: vs, off, h, i, t, hi, h0 => by
    obtain ⟨⟨h1, h2⟩, h3⟩ := h
    have hcat := jx_cat L t0 v
    by_cases ht : t0 = 2
    · subst ht
      simp only [jx_g0, if_true] at hi
      simp only [jx_e0, if_true, jx_vals, lv_args, hcat]
      rcases i with _ | _ | i
      · simp at hi
        subst hi
        exact ⟨List.mem_cons_self, h2⟩
      · simp at hi
        exact absurd hi.symm h0
      · simp only [List.getElem?_cons_succ] at hi
        obtain ⟨a1, a2⟩ := jx_args_at L ts vs (off + 2) h3 i t hi h0
        refine ⟨List.mem_cons_of_mem _ ?_, a2⟩
        rw [show off + (i + 1 + 1) = off + 2 + i by omega]
        exact a1
    · simp only [jx_g0, ht, if_false] at hi
      simp only [jx_e0, ht, if_false, jx_vals, lv_args, hcat]
      rcases i with _ | i
      · simp at hi
        subst hi
        exact ⟨List.mem_cons_self, h2⟩
      · simp only [List.getElem?_cons_succ] at hi
        obtain ⟨a1, a2⟩ := jx_args_at L ts vs (off + 1) h3 i t hi h0
        refine ⟨List.mem_cons_of_mem _ ?_, a2⟩
        rw [show off + (i + 1) = off + 1 + i by omega]
        rw [if_neg (by decide)]
        exact a1
/-- a method's contract out of the walk of its body -/
theorem jx_met {y : MethodName} {M : jx_M} {ts : List Nat} {b : jx_X Unit} {pc2 : Nat} {G2 : List Nat} (hy : plainFor y = true) (hown : y.cls = jx_own M) (hlen : (jx_g0 ts).length ≤ jx_nl M) (h : jx_XS M (jx_g0 ts ++ List.replicate (jx_nl M - (jx_g0 ts).length) 0) G2 0 pc2 b) : jx_Met y M ts (jx_run ts (jx_nl M) b) := by
  intro l L A hL vs σ r s2 hf hok
  refine MetFree.of_bodySF (code := jx_cc M) (maxLocals := jx_nl M) (ret := jx_re M) hy ?_ ?_
  · intro args s m hp hn
    obtain ⟨meth, c, h1, h2, h3, h4, h5, h6, -⟩ := jx_wd_spec hn (atoms_spec (ws := jx_wd y M :: jx_tb) hp _ List.mem_cons_self)
    exact ⟨meth, c, h1, h2, h3, h4, h5, h6⟩
  · intro p e s m args below meth c s₁ B hml hP _
    obtain ⟨rfl, hr, hT, hK⟩ := hP
    have hts := atoms_spec (ws := jx_wd y M :: jx_tb) B.pre
    obtain ⟨meth', c', h1, h2, h3, h4, h5, h6, h7, -⟩ := jx_wd_spec B.named (hts _ List.mem_cons_self)
    cases B.method.symm.trans h1
    have hcode : meth.code = some c := (Stand.of_body B).code
    cases hcode.symm.trans h2
    have hC : jx_C M (jx_z L) A p (headSpec (jx_wd y M :: jx_tb) (jx_rm M)).room s m (jx_vals L ts vs).toArray meth c :=
      ⟨B.exec, B.bytes, h4, by rw [← hown]; exact findClass_of_methodNamed B.named, fun w hw => hts w (List.mem_cons_of_mem _ hw), hK, hL, ⟨rfl, rfl, Nat.zero_le _, Nat.zero_le _⟩, ⟨h5, h6⟩, h7⟩
    have hh0 : s₁.heap = s.heap := by rw [B.state]; rfl
    obtain ⟨l1, l2⟩ := jx_sl_len L ts vs hok
    have hl := lv_entry (jx_vals L ts vs) (n := jx_nl M) (by rw [l1]; exact hlen)
    have hI : jx_I M (jx_z L) A (jx_g0 ts ++ List.replicate (jx_nl M - (jx_g0 ts).length) 0) s (jx_en ts (jx_nl M) vs) σ s.heap [] ((lg_sl (jx_vals L ts vs) ++ List.replicate (jx_nl M - (lg_sl (jx_vals L ts vs)).length) Slot.unset).toArray) := by
      refine ⟨hr, hT, va_S.rf, hl.1, ?_, hl.2.1, fun i t hi h0 => ?_⟩
      · unfold jx_en
        rw [List.length_append, List.length_replicate, l2]
        omega
      · have hlt : i < (jx_g0 ts).length := by
          rcases Nat.lt_or_ge i (jx_g0 ts).length with q | q
          · exact q
          · exfalso
            rw [List.getElem?_append_right q, List.getElem?_replicate] at hi
            split at hi
            · exact h0 (Option.some.inj hi).symm
            · cases hi
        rw [List.getElem?_append_left hlt] at hi
        obtain ⟨a1, a2⟩ := jx_args_at L ts vs 0 hok i t hi h0
        have e1 : (jx_en ts (jx_nl M) vs).getD i 0 = (jx_e0 ts vs).getD i 0 := by
          unfold jx_en
          simp only [List.getD_eq_getElem?_getD]
          rw [List.getElem?_append_left (by rw [l2]; exact hlt)]
        rw [e1]
        refine ⟨?_, a2⟩
        have := hl.2.2 _ a1
        rw [Nat.zero_add] at this
        exact this
    unfold jx_run at hf
    split at hf
    · rename_i r' e' s' hb
      cases hf
      have K : W p l e (headSpec (jx_wd y M :: jx_tb) (jx_rm M)).room s m (jx_vals L ts vs).toArray below meth c s.heap [] 0 0 (jx_Q (jx_z L) A (jx_rt M) (fun r' s' => r' = r ∧ s' = s2) s below) (entryFrame m (jx_vals L ts vs).toArray (jx_nl M)) := by
        rw [lg_entry_eq]
        exact h (jx_z L) A p l e _ s m _ below meth c (fun r' s' => r' = r ∧ s' = s2) hC _ σ s.heap [] _ hI _ _ _ hb ⟨rfl, rfl⟩
      obtain ⟨t, a1, o, b1, b2, ⟨r', s', ⟨rfl, rfl⟩, b3, b4, b5⟩, b6, b7⟩ := K s₁ hh0 (Stand.of_body B)
      exact ⟨t, o, a1, b1, b2, ⟨b3, b4, b5⟩, b6, b7⟩
    · cases hf
/-- the call of a method by its contract: it comes back, or throws -/
theorem jx_back {y : MethodName} {M : jx_M} {ts : List Nat} {f : List Int → jx_S → Option (jx_R × jx_S)} (hM : jx_Met y M ts f) {p : Program} {l : Launch} {e : Env} {R : Room} {s : State} {m : MethodId} {args : Array Value} {below : List Frame} {meth : Method} {c : Code} {U : State} {locs : List Loc} {L : jx_L} {A : Nat → Prop}
    {nc ns : Nat} (X : Stand p l e R s m args below meth c U locs nc ns) (hL : jx_lok L A) {g : JFrame} {ig : Instr} (hg : g.method = m) (hsize : g.locals.size = c.maxLocals) (hdg : decode c.code g.pc = .ok (ig, 3)) {mk : MethodId} (hn : U.methodNamed? y = some mk) (hfr : jx_fr M + 1 ≤ R.frames) (hlo : 8 + (jx_nl M + 11) + jx_lo M ≤ R.locals) (hW : 2 * g.monitorRoom + (g.stack.map fun v => v.category).sum ≤ 8) (hnc : nc ≤ R.cells) (hns : ns ≤ R.slots)
    (hwd : (jx_wd y M).before #[] U = true) (hwo : ∀ w ∈ jx_tb, ∀ a' : Array Value, w.before a' U = true) (hwd2 : ∀ a' : Array Value, (jx_wd y M).before a' U = true) (hini : (Cond.initialized y.cls).before #[] U = true)
    {vs : List Int} {σ s2 : jx_S} {r : jx_R} (hf : f vs σ = some (r, s2)) (hok : jx_oks L ts vs) (hr : jx_rep L σ U.heap) (hT : jx_tok L σ) (hK : jx_K L A U) :
    ∃ (o : Outcome) (U' : State) (Lc : List Loc), jx_out L (jx_rt M) r o ∧ jx_rep L s2 U'.heap ∧ jx_tok L s2 ∧ (U.heap.size ≤ U'.heap.size ∧ ∀ q : Nat, q < U.heap.size → ¬ A q → U'.heap[q]? = U.heap[q]?) ∧ (∀ q ∈ Lc, A q.base) ∧ Stand p l e R s m args below meth c U' (locs ++ Lc) nc ns ∧
      (match o with
        | .returned v => Steps p.tables e below (doInvoke e (U.setTop g) [] mk (jx_vals L ts vs).toArray).1 (U'.setTop { g with pc := g.pc + 3, stack := v.toList ++ g.stack })
        | .threw a => Steps p.tables e below (doInvoke e (U.setTop g) [] mk (jx_vals L ts vs).toArray).1 ((U'.setTop g).pushFrame (.throwing a))) := by
  have hM2 := hM l L A hL vs σ r s2 hf hok
  obtain ⟨methY, cY, hmY, hcY, -, hlY, -⟩ := jx_wd_spec hn hwd
  obtain ⟨kY, hkY, -⟩ := className_of_methodNamed hn
  have hinitY : kY.init = .initialized := Cond.initialized_spec (findClass_of_methodNamed hn) hkY hini
  have h : At U g.method c below := by rw [hg]; exact X.here
  have happ : (headSpec (jx_wd y M :: jx_tb) (jx_rm M)).appliesLoose y e.platform (U.calling g mk (jx_vals L ts vs).toArray) = true :=
    Spec.appliesLoose_calling (g := g) h hdg hn hkY hinitY
      (X.room_calling (g := g) (R' := jx_rm M) hsize hmY hcY hfr (by rw [hlY]; show _ + _ + (jx_nl M + 11) + jx_lo M ≤ _; omega) hnc hns)
      (atoms_intro fun w hw => by
        rcases List.mem_cons.mp hw with rfl | hw
        · exact hwd2 _
        · exact hwo w hw _)
  obtain ⟨mid, hmid⟩ := h.above
  have hfr2 : (U.setTop g).frames = (.java g :: mid) ++ below := by rw [State.frames_setTop' g h.top, hmid]; rfl
  have hheap : (U.calling g mk (jx_vals L ts vs).toArray).heap = U.heap := rfl
  have hK2 : jx_K L A (U.calling g mk (jx_vals L ts vs).toArray) := hK.to (State.WarmedH.refl U) (fun _ _ _ => rfl)
  obtain ⟨o, s₂, hsteps, -, hend, ⟨q1, q2, q3⟩, q4, Lc, ⟨q5, q6⟩, q7⟩ := Steps.callFree hM2 p X.admits X.cas X.clock (acts := []) hfr2 happ ⟨rfl, hr, hT, hK2⟩ trivial
  rw [State.frames_setTop' g h.top] at hend
  obtain ⟨e2, w2, w3, w4, w5, w6⟩ := q6
  have e3 : s₂ = ({ (U.calling g mk (jx_vals L ts vs).toArray).setFrames s₂.frames with heap := s₂.heap, slotsUsed := s₂.slotsUsed } : State).setVm s₂.vm := by
    have : s₂ = ({ s₂ with vm := (U.calling g mk (jx_vals L ts vs).toArray).vm } : State).setVm s₂.vm := rfl
    rw [show ({ s₂ with vm := (U.calling g mk (jx_vals L ts vs).toArray).vm } : State) = _ from e2] at this
    exact this
  have hW' : U.WarmedH s₂.vm := q5
  obtain ⟨g₀, hg0⟩ := Option.isSome_iff_exists.mp h.top
  obtain ⟨rr, hrr⟩ := State.topJava?_eq_some.mp hg0
  have hr' : (({ U with heap := s₂.heap, slotsUsed := s₂.slotsUsed } : State).setVm s₂.vm).frames = .java g₀ :: rr := hrr
  have hsame : U.sameButNew ({ U with heap := s₂.heap, slotsUsed := s₂.slotsUsed } : State) Lc 0 0 := by
    refine ⟨?_, w2, w3, w4, w5, w6⟩
    obtain ⟨t, ht, -⟩ := State.frames_cons hrr
    show ({ U with heap := s₂.heap, slotsUsed := s₂.slotsUsed } : State) = { U.setFrames U.frames with heap := s₂.heap, slotsUsed := s₂.slotsUsed }
    rw [State.setFrames_self ht]
  subst hg
  have X' : Stand p l e R s g.method args below meth c (({ U with heap := s₂.heap, slotsUsed := s₂.slotsUsed } : State).setVm s₂.vm) (locs ++ Lc) nc ns :=
    ⟨X.admits, X.cas, X.clock, X.frames, X.room, X.hears, X.method, X.code, (X.here.setHeapUsed s₂.heap s₂.slotsUsed).setVm hW'.alike, X.tail, State.WarmedH.trans X.warmed hW', X.limits, X.bytes, X.same.trans (hsame.setVm s.vm)⟩
  refine ⟨o, ({ U with heap := s₂.heap, slotsUsed := s₂.slotsUsed } : State).setVm s₂.vm, Lc, q1, q2, q3, ⟨q4.1, q4.2⟩, q7, X', ?_⟩
  cases o with
  | returned v =>
    obtain ⟨c₂, i₂, len₂, hc₂, hd₂, hf₂⟩ := hend
    have hcc : c₂ = c := by
      have h1 : s₂.code? g.method = U.code? g.method := by
        rw [State.code?_eq, State.code?_eq, hW'.alike.method?]
      exact Option.some.inj (hc₂.symm.trans (h1.trans h.code))
    subst hcc
    have hlen : len₂ = 3 := by rw [hdg] at hd₂; cases hd₂; rfl
    subst hlen
    have hs₂ : s₂ = (({ U with heap := s₂.heap, slotsUsed := s₂.slotsUsed } : State).setVm s₂.vm).setTop { g with pc := g.pc + 3, stack := v.toList ++ g.stack } := by
      refine e3.trans ?_
      rw [hf₂, State.calling_eq h.top, State.setFrames_setFrames, State.setTop_of_frames _ hr', hrr]
      rfl
    show Steps p.tables e below _ ((({ U with heap := s₂.heap, slotsUsed := s₂.slotsUsed } : State).setVm s₂.vm).setTop { g with pc := g.pc + 3, stack := v.toList ++ g.stack })
    rw [← hs₂]
    exact hsteps
  | threw a =>
    have hf₂ : s₂.frames = .throwing a :: .java g :: U.frames.tail := hend
    have hs₂ : s₂ = ((({ U with heap := s₂.heap, slotsUsed := s₂.slotsUsed } : State).setVm s₂.vm).setTop g).pushFrame (.throwing a) := by
      refine e3.trans ?_
      rw [hf₂, State.calling_eq h.top, State.setFrames_setFrames, State.pushFrame, State.frames_setTop _ hr', State.setTop_of_frames _ hr', State.setFrames_setFrames, hrr]
      rfl
    show Steps p.tables e below _ (((({ U with heap := s₂.heap, slotsUsed := s₂.slotsUsed } : State).setVm s₂.vm).setTop g).pushFrame (.throwing a))
    rw [← hs₂]
    exact hsteps
