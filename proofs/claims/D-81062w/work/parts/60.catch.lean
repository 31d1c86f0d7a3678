/-! A CALL IN A try WHOSE catch TAKES THE REFUSAL -/
/-- a void call; what it throws goes to B -/
def jx_tryc (fs : jx_X (List Int)) (f : List Int → jx_S → Option (jx_R × jx_S)) (B : Int → jx_X Unit) : jx_X Unit :=
  jx_bind fs fun vs e σ => if vs.headD 0 = 0 then none else match f vs σ with
    | none => none
    | some (.ok _, s2) => some (.ok (), e, s2)
    | some (.error x, s2) => B x e s2
theorem s1_seq {M : jx_M} {G G1 G2 : List Nat} {t pc p1 p2 : Nat} {h : Int → jx_X Unit} {g : jx_X Unit} (h1 : jx_S1 M G G1 t pc p1 h) (h2 : jx_XS M G1 G2 p1 p2 g) : jx_S1 M G G2 t pc p2 (fun v => jx_seq (h v) g) := by
  intro L A p l e R s m args below meth c F hC env σ H locs ls hI v hv o env2 σ2 hf k
  rcases jx_bind_inv hf with ⟨r, h3, rfl⟩ | ⟨a, e1, s1, h3, h4⟩
  · exact h1 L A p l e R s m args below meth c F hC env σ H locs ls hI v hv _ _ _ h3 k
  · exact h1 L A p l e R s m args below meth c F hC env σ H locs ls hI v hv _ _ _ h3 (fun H2 locs2 ls2 hI2 => h2 L A p l e R s m args below meth c F hC e1 s1 H2 locs2 ls2 hI2 o env2 σ2 h4 k)
/-- the search at a handler that takes the thing's own class -/
theorem jx_golink {Q : Handler → Pre} {E : CtlPost} {e : Env} {d : Bool} {acts : List Action} {S : State} {f : JFrame} {a : Addr} {x : ExceptionTableEntry} {cell : Cell} (hx : covers x f.pc = true) (h0 : x.catchType ≠ 0) (hl : S.vm.ClassLinks e.platform f.method.cls x.catchType cell.cls) (hcell : S.heap[a]? = some cell) (hobj : ∀ k, cell.vm ≠ .statics k) (hk : ∃ k, S.vm.classes[cell.cls]? = some k) :
    wp (findHandler.go f a [x]) Q E e d acts S ↔ Q (.found x.handlerPc) d acts (S.setVm (S.vm.noted f.method.cls x.catchType (.cls cell.cls))) := by
  simp only [covers] at hx
  obtain ⟨h1, h2⟩ := (resolveClass_links e.toSetting hl).op (op := VmOp.resolveClass f.method.cls x.catchType) rfl
  obtain ⟨k, hk⟩ := hk
  obtain ⟨k', hk', -⟩ := ((Vm.Alike.refl S.vm).noted f.method.cls x.catchType (.cls cell.cls)).2.2 _ _ hk
  have hs : (S.vm.noted f.method.cls x.catchType (.cls cell.cls)).assignable cell.cls cell.cls = true := by
    unfold Vm.assignable Vm.assignableAux
    simp only [beq_self_eq_true, Bool.true_or]
  simp [findHandler.go, hx, h0, h1, h2, hcell, hobj, hk', hs, VmOp.dirties, VmOp.acts]
/-- what was thrown into the walked method is caught by its one handler, whose class may not have been looked up yet -/
theorem jx_caught {p : Program} {l : Launch} {e : Env} {R : Room} {s : State} {m : MethodId} {args : Array Value} {below : List Frame} {meth : Method} {c : Code} {T : State} {locs : List Loc} {cells slots : Nat} (X : Stand p l e R s m args below meth c T locs cells slots) (a : Addr) {g : JFrame} (hg : g.method = m) {cell : Cell} (hcell : T.heap[a]? = some cell) (hvm : cell.vm = .none) (xe : ExceptionTableEntry) (hx1 : c.exceptionTable.toList = [xe]) (hcov : covers xe g.pc = true) (h0 : xe.catchType ≠ 0)
    {own name : String} (hown : s.vm.findClass own = some m.cls) (hlink : (Cond.classLink own xe.catchType name).before args s = true) (hcT : s.vm.findClass name = some cell.cls) :
    ∃ vm', Stand p l e R s m args below meth c (T.setVm vm') locs cells slots ∧ ∀ target, Steps p.tables e below ((T.setVm vm').setTop { g with pc := xe.handlerPc, stack := [.ref a] }) target → Steps p.tables e below ((T.setTop g).pushFrame (.throwing a)) target := by
  subst hg
  have hpl : e.platform.magicAccessors = ({} : Platform).magicAccessors := by rw [X.admits.platform]
  obtain ⟨c', hc', hcl⟩ := Cond.classLink_spec hown hlink e.platform hpl
  cases hcT.symm.trans hc'
  have hlT : T.vm.ClassLinks e.platform g.method.cls xe.catchType cell.cls := X.warmed.classLinks hcl
  obtain ⟨dk, _, _, kt, hd, _, _, _, _, hkt, _, hopen⟩ := hcl.here
  have hW' : s.WarmedH (T.vm.noted g.method.cls xe.catchType (.cls cell.cls)) := X.warmed.noted hd hopen (State.rightAt_cls hcl)
  obtain ⟨kt', hkt', -⟩ := hW'.alike.2.2 _ _ hkt
  refine ⟨T.vm.noted g.method.cls xe.catchType (.cls cell.cls), X.noted hW', fun target hrest => ?_⟩
  have hobj : ∀ k, cell.vm ≠ .statics k := fun k h => by rw [hvm] at h; cases h
  have hfind : ∀ (Q : Handler → Pre) (E : CtlPost) (d : Bool) (acts : List Action), wp (findHandler g a) Q E e d acts ((T.setTop g).pushFrame (.throwing a)) ↔ Q (.found xe.handlerPc) d acts (((T.setTop g).pushFrame (.throwing a)).setVm (T.vm.noted g.method.cls xe.catchType (.cls cell.cls))) := by
    intro Q E d acts
    rw [W.findHandler_eq (s := (T.setTop g).pushFrame (.throwing a)) (meth := meth) (code := c) (by rw [Stand.throwing_vm]; exact X.method') X.code, hx1]
    have hl2 : ((T.setTop g).pushFrame (.throwing a)).vm.ClassLinks e.platform g.method.cls xe.catchType cell.cls := by rw [Stand.throwing_vm]; exact hlT
    have hk2 : ∃ k, ((T.setTop g).pushFrame (.throwing a)).vm.classes[cell.cls]? = some k := by
      obtain ⟨k9, hk9, -⟩ := X.warmed.alike.2.2 _ _ hkt
      exact ⟨k9, by rw [Stand.throwing_vm]; exact hk9⟩
    rw [jx_golink hcov h0 hl2 (by rw [Stand.throwing_heap]; exact hcell) hobj hk2, Stand.throwing_vm]
  have hstep : (stepThrowing e ((T.setTop g).pushFrame (.throwing a)) a (.java g :: T.frames.tail)).Is ((((T.setTop g).pushFrame (.throwing a)).setVm (T.vm.noted g.method.cls xe.catchType (.cls cell.cls))).setFrames (.java { g with pc := xe.handlerPc, stack := [.ref a] } :: T.frames.tail)) [] := by
    simp only [stepThrowing, searchFrame, vmDo]
    generalize hr : Sem.go _ e false [] ((T.setTop g).pushFrame (.throwing a)) = res
    obtain ⟨as, rfl, hq⟩ := Sem.eq_ok_of hr (a := Handler.found xe.handlerPc) (s' := ((T.setTop g).pushFrame (.throwing a)).setVm (T.vm.noted g.method.cls xe.catchType (.cls cell.cls))) (acts' := []) (by simp [hfind _ _ _ _])
    exact ⟨rfl, hq⟩
  have h := X.here
  obtain ⟨hgo, hw⟩ := h.throwing (g := g) a
  refine Steps.head hgo hw ?_
  obtain ⟨g₀, hg0⟩ := Option.isSome_iff_exists.mp h.top
  obtain ⟨r, hr⟩ := State.topJava?_eq_some.mp hg0
  rw [stepThread_throwing (frames_entered h.top _), hstep.1]
  have hr' : (T.setVm (T.vm.noted g.method.cls xe.catchType (.cls cell.cls))).frames = .java g₀ :: r := hr
  rw [State.setTop_of_frames _ hr'] at hrest
  have z : ∀ (u : State) (v : Vm) (F G : List Frame), ((u.setFrames F).setVm v).setFrames G = (u.setVm v).setFrames G := fun u v F G => by
    have h1 : (u.setFrames F).setVm v = (u.setVm v).setFrames F := rfl
    rw [h1, State.setFrames_setFrames]
  rw [hr, List.tail_cons, State.pushFrame, z, State.setTop_of_frames _ hr, z]
  exact hrest
section
variable {M Mc : jx_M} {L : jx_L} {A : Nat → Prop} {p : Program} {l : Launch} {e : Env} {R : Room} {s : State} {m : MethodId} {args : Array Value} {below : List Frame} {meth : Method} {c : Code} {F : jx_R → jx_S → Prop} {G : List Nat} {env : jx_E} {σ s2 : jx_S} {H : Heap} {locs : List Loc} {ls : Array Slot} {st : List Value} {y : MethodName} {ts : List Nat} {f : List Int → jx_S → Option (jx_R × jx_S)} {vs : List Int} {r : jx_R} {n pc idx : Nat}
theorem jx_afterC {ha hb hp ct : Nat} (hh : jx_hh M = [(ha, hb, hp, ct)]) (hcov : ha ≤ pc ∧ pc < hb) (hct : ct ≠ 0) (hlk : Cond.classLink (jx_own M) ct "LiveHouse$Refusal" ∈ jx_tb)
    (hM : jx_Met y Mc ts f) (hC : jx_C M L A p R s m args meth c) (hI : jx_I M L A G s env σ H locs ls) (hml : jx_ML y Mc n) (hfit : jx_fitsIn M Mc = true) {T : State} (hT : T.heap = H) {vm₁ : Vm} (X₁ : Stand p l e R s m args below meth c (T.setVm vm₁) locs (jx_nc L) (jx_ns L)) {mk : MethodId} (hn : s.methodNamed? y = some mk) {ig : Instr} (hdg : decode c.code (F0 m pc ls st).pc = .ok (ig, 3)) (hst : jx_ct st ≤ 8)
    (hf : f vs σ = some (r, s2)) (hok : jx_oks L ts vs) (hr1 : ∀ v, r = .ok v → jx_ok L (jx_rt Mc) v → ∀ H2 locs2, jx_rep L s2 H2 → jx_tok L s2 → va_S A s.heap H2 locs2 → W p l e R s m args below meth c H2 locs2 (jx_nc L) (jx_ns L) (jx_Q L A (jx_rt M) F s below) (F0 m (pc + 3) ls ((if jx_rt Mc = 0 then [] else [jx_v L (jx_rt Mc) v]) ++ st)))
    (hr2 : ∀ x, r = .error x → jx_ok L (10 + jx_refusal) x → x ≠ 0 → ∀ H2 locs2, jx_rep L s2 H2 → jx_tok L s2 → va_S A s.heap H2 locs2 → W p l e R s m args below meth c H2 locs2 (jx_nc L) (jx_ns L) (jx_Q L A (jx_rt M) F s below) (F0 m hp ls [.ref (jx_ad L x 0)])) :
    ∃ t, Steps p.tables e below (doInvoke e ((T.setVm vm₁).setTop (F0 m pc ls st)) [] mk (jx_vals L ts vs).toArray).1 t ∧ jx_Q L A (jx_rt M) F s below t := by
  have hwd := jx_warm (L := L) (A := A) hC.2.2.2.2.1 X₁.warmed
  have hfit2 := hfit
  simp only [jx_fitsIn, Bool.and_eq_true, decide_eq_true_eq] at hfit2
  obtain ⟨rf, rl, rc, rs⟩ := hC.2.2.2.2.2.2.2.1
  have hlocks := hC.2.2.2.2.2.2.2.2.1.2
  have hKU : jx_K L A (T.setVm vm₁) := hC.2.2.2.2.2.1.to X₁.warmed (fun a h1 h2 => by show T.heap[a]? = _; rw [hT]; exact hI.2.2.1.2.1 a h1 h2)
  obtain ⟨o, U', Lc, a1, a2, a3, a4, a5, a6, a7⟩ := jx_back hM X₁ hC.2.2.2.2.2.2.1 (g := F0 m pc ls st) rfl (by show ls.size = _; rw [hI.2.2.2.1, hC.2.2.1]) hdg (X₁.named hn) (by rw [rf]; exact hfit2.1) (by rw [rl]; exact hfit2.2) (lv_room hst) rc rs (hwd _ hml.1 _) hwd (fun a' => hwd _ hml.1 a') (hwd _ hml.2.1 _) hf hok (by show jx_rep L σ T.heap; rw [hT]; exact hI.1) hI.2.1 hKU
  have hS : va_S A s.heap U'.heap (locs ++ Lc) := by
    have e1 : (T.setVm vm₁).heap = H := hT
    rw [e1] at a4
    refine ⟨Nat.le_trans hI.2.2.1.1 a4.1, fun q h1 h2 => (a4.2 q (Nat.lt_of_lt_of_le h1 hI.2.2.1.1) h2).trans (hI.2.2.1.2.1 q h1 h2), fun q hq => ?_⟩
    rcases List.mem_append.mp hq with hq | hq
    · exact hI.2.2.1.2.2 q hq
    · exact a5 q hq
  cases r with
  | ok v =>
    obtain ⟨rfl, b2⟩ := a1
    obtain ⟨t, c1, c2⟩ := hr1 v rfl b2 U'.heap (locs ++ Lc) a2 a3 hS U' rfl a6
    refine ⟨t, ?_, c2⟩
    refine Steps.trans a7 ?_
    have e9 : (if jx_rt Mc = 0 then none else some (jx_v L (jx_rt Mc) v) : Option Value).toList = (if jx_rt Mc = 0 then [] else [jx_v L (jx_rt Mc) v]) := by split <;> rfl
    rw [e9]
    exact c1
  | error x =>
    obtain ⟨rfl, b2, b3⟩ := a1
    obtain ⟨g1, g2⟩ := jx_obj (k := jx_refusal) (by decide) b2 b3
    have ho := jx_rep_a a2 g1 (by decide)
    unfold jx_at at ho
    rw [if_pos rfl, g2] at ho
    obtain ⟨cellB, c1, c2, c3, -⟩ := ho
    have hcls2 := (hC.2.2.2.2.2.1.1.1 jx_refusal _ (jx_cls_at (by decide))).2
    have hnm : jx_cn jx_refusal = "LiveHouse$Refusal" := rfl
    rw [hnm] at hcls2
    have hmap := hC.2.2.2.2.2.2.2.2.2
    rw [hh] at hmap
    obtain ⟨xe, rest, hx1, hx2, hx3⟩ := List.map_eq_cons_iff.mp hmap
    have hx3' : rest = [] := List.map_eq_nil_iff.mp hx3
    subst hx3'
    have hct2 : xe.catchType = ct := by injection hx2 with q1 q2; injection q2 with q3 q4; injection q4
    have hcv : covers xe pc = true := by
      injection hx2 with q1 q2
      injection q2 with q3 q4
      simp only [covers, Bool.and_eq_true, decide_eq_true_eq]
      omega
    have hhp : xe.handlerPc = hp := by injection hx2 with q1 q2; injection q2 with q3 q4; injection q4
    obtain ⟨vm', XV, hsteps⟩ := jx_caught a6 (jx_ad L x 0) (g := F0 m pc ls st) rfl c1 c3 xe hx1 hcv (by rw [hct2]; exact hct) hC.2.2.2.1 (by rw [hct2]; exact hC.2.2.2.2.1 _ hlk) (by rw [c2]; exact hcls2.1)
    obtain ⟨t, d1, d2⟩ := hr2 x rfl b2 b3 U'.heap (locs ++ Lc) a2 a3 hS (U'.setVm vm') rfl XV
    refine ⟨t, Steps.trans a7 (hsteps t ?_), d2⟩
    rw [hhp]
    exact d1
theorem jx_WvC {ha hb hp ct : Nat} (hh : jx_hh M = [(ha, hb, hp, ct)]) (hcov : ha ≤ pc ∧ pc < hb) (hct : ct ≠ 0) (hlk : Cond.classLink (jx_own M) ct "LiveHouse$Refusal" ∈ jx_tb)
    (hM : jx_Met y Mc ts f) (hC : jx_C M L A p R s m args meth c) (hI : jx_I M L A G s env σ H locs ls) {k : Nat} {ts' : List Nat} (hts' : ts = (10 + k) :: ts') (hk : k < 16) (hcls : y.cls = jx_cn k) (hml : jx_ML y Mc ts'.length) (hl : jx_VL (jx_own M) idx y) (hfit : jx_fitsIn M Mc = true) (d : decode (jx_cc M) pc = .ok (.invokevirtual idx, 3)) (hst : jx_ct st ≤ 8)
    (hf : f vs σ = some (r, s2)) (hok : jx_oks L ts vs) (h0 : vs.headD 0 ≠ 0) (hr1 : ∀ v, r = .ok v → jx_ok L (jx_rt Mc) v → ∀ H2 locs2, jx_rep L s2 H2 → jx_tok L s2 → va_S A s.heap H2 locs2 → W p l e R s m args below meth c H2 locs2 (jx_nc L) (jx_ns L) (jx_Q L A (jx_rt M) F s below) (F0 m (pc + 3) ls ((if jx_rt Mc = 0 then [] else [jx_v L (jx_rt Mc) v]) ++ st)))
    (hr2 : ∀ x, r = .error x → jx_ok L (10 + jx_refusal) x → x ≠ 0 → ∀ H2 locs2, jx_rep L s2 H2 → jx_tok L s2 → va_S A s.heap H2 locs2 → W p l e R s m args below meth c H2 locs2 (jx_nc L) (jx_ns L) (jx_Q L A (jx_rt M) F s below) (F0 m hp ls [.ref (jx_ad L x 0)])) :
    W p l e R s m args below meth c H locs (jx_nc L) (jx_ns L) (jx_Q L A (jx_rt M) F s below) (F0 m pc ls ((jx_vals L ts vs).reverse ++ st)) := by
  subst hts'
  cases vs with
  | nil => exact absurd rfl h0
  | cons x vs =>
    have h0 : x ≠ 0 := h0
    obtain ⟨g1, g2⟩ := jx_obj (by omega) hok.1.2 h0
    have hts := hC.2.2.2.2.1
    obtain ⟨hl1, hl2, hl3⟩ := hl
    intro T hT X
    obtain ⟨mk, methM, hnamed, hmethM, hstM, habM⟩ := Cond.instanceMethod_spec (hts _ hl2)
    have ho := jx_rep_a hI.1 g1 (by decide)
    unfold jx_at at ho
    rw [if_pos rfl, g2] at ho
    obtain ⟨cellB, c1, c2, c3, -⟩ := ho
    have hcls2 := (hC.2.2.2.2.2.1.1.1 k _ (jx_cls_at hk)).2
    obtain ⟨q0, r2, m2, q1, q2, q3, q4, kP, hkP, hkPi⟩ := Cond.selects_spec (hts _ hl3)
    have hq : q0 = cellB.cls := by
      rw [hcls] at q1
      rw [c2]
      exact Option.some.inj (q1.symm.trans hcls2.1)
    subst hq
    cases (State.methodFound?_of_named hnamed hml.2.2.1).symm.trans q2
    cases hnamed.symm.trans q3
    have hselP : selectMethod e.platform s.vm cellB.cls mk = .method mk := by rw [Launch.admits_selectMethod X.admits]; exact q4
    obtain ⟨methM', cM, hmethM', -, -, -, -, -, -, hsigM⟩ := jx_wd_spec hnamed (hts _ hml.1)
    cases hmethM.symm.trans hmethM'
    have hlen : (jx_vals L ts' vs).length = methM.sig.parameters.length := by
      rw [jx_oks_len hok.2]
      have h9 := hml.2.2.2
      rw [hsigM] at h9
      exact (Option.some.inj h9).symm
    have hvals : jx_vals L ((10 + k) :: ts') (x :: vs) = .ref (jx_ad L x 0) :: jx_vals L ts' vs := by
      simp only [jx_vals]
      rw [jx_vobj (by omega) h0]
    obtain ⟨vm₁, X₁, hstep₁⟩ := X.invokevirtual hC.1 hC.2.2.2.1 (hts _ hl1) hnamed hmethM hstM hkP hkPi hml.2.2.1 (a := jx_ad L x 0) (cell := cellB) (by rw [hT]; exact c1)
      (fun z h => by rw [c3] at h; cases h) hselP hmethM habM hkP hkPi (g := F0 m pc ls ((jx_vals L ((10 + k) :: ts') (x :: vs)).reverse ++ st)) rfl (argsL := jx_vals L ts' vs) (rest := st) hlen (by show _ = _; rw [hvals]; simp) (by rw [hC.2.1]; exact d)
    obtain ⟨t, e1, e2⟩ := jx_afterC hh hcov hct hlk hM hC hI hml hfit hT X₁ hnamed (by rw [hC.2.1]; exact d) hst hf hok hr1 hr2
    refine ⟨t, hstep₁ t (fun acts => ?_), e2⟩
    rw [doInvoke_state]
    rw [doInvoke_state] at e1
    rw [hvals] at e1
    exact e1
end
theorem x_tryc {M Mc : jx_M} {G ts : List Nat} {pc p1 idx : Nat} {fs : jx_X (List Int)} {y : MethodName} {f : List Int → jx_S → Option (jx_R × jx_S)} {B : Int → jx_X Unit} {ha hb hp ct : Nat} (k : Nat) (hxa : jx_XA M 0 G ((10 + k) :: ts) pc p1 fs) (hM : jx_Met y Mc ((10 + k) :: ts) f) (hml : jx_ML y Mc ts.length) (hl : jx_VL (jx_own M) idx y) (d : decode (jx_cc M) p1 = .ok (.invokevirtual idx, 3)) (hcls : y.cls = jx_cn k) (hk : k < 16) (hfit : jx_fitsIn M Mc = true) (hrt : jx_rt Mc = 0)
    (hh : jx_hh M = [(ha, hb, hp, ct)]) (hcov : ha ≤ p1 ∧ p1 < hb) (hct : ct ≠ 0) (hlk : Cond.classLink (jx_own M) ct "LiveHouse$Refusal" ∈ jx_tb) (hB : jx_S1 M G G 22 hp (p1 + 3) B) :
    jx_XS M G G pc (p1 + 3) (jx_tryc fs f B) := by
  intro L A p l e R s m args below meth c F hC env σ H locs ls hI o env2 σ2 hf kk
  rcases jx_bind_inv hf with ⟨r, q1, rfl⟩ | ⟨vs, e1, s1, q1, q2⟩
  · exact hxa L A p l e R s m args below meth c F hC env σ H locs ls [] hI (Nat.zero_le _) _ _ _ q1 kk
  refine hxa L A p l e R s m args below meth c F hC env σ H locs ls [] hI (Nat.zero_le _) _ _ _ q1 (fun hvs H2 locs2 ls2 hI2 => ?_)
  split at q2
  · cases q2
  rename_i h0
  split at q2
  · cases q2
  · rename_i v s3 q3
    cases q2
    refine jx_WvC hh hcov hct hlk hM hC hI2 rfl hk hcls hml hl hfit d (Nat.zero_le _) q3 hvs h0 (fun v' hv hok H3 locs3 r1 r2 r3 => ?_) (fun x h => by cases h)
    rw [hrt, if_pos rfl]
    exact kk H3 locs3 ls2 ⟨r1, r2, r3, hI2.2.2.2⟩
  · rename_i x s3 q3
    refine jx_WvC hh hcov hct hlk hM hC hI2 rfl hk hcls hml hl hfit d (Nat.zero_le _) q3 hvs h0 (fun v' hv => by cases hv) (fun x' hx hok hne H3 locs3 r1 r2 r3 => ?_)
    cases hx
    have := hB L A p l e R s m args below meth c F hC e1 s3 H3 locs3 ls2 ⟨r1, r2, r3, hI2.2.2.2⟩ x hok o env2 σ2 q2 kk
    have hv : jx_v L 22 x = .ref (jx_ad L x 0) := jx_vobj (k := 12) (by decide) hne
    rw [hv] at this
    exact this
theorem rf_link : Cond.classLink "LiveHouse" 161 "LiveHouse$Refusal" ∈ jx_tb := (jx_in_tb (jx_t5 (List.mem_of_getElem? (i := 65) rfl)) rfl)
