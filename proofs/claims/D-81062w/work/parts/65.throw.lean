/-! THROWABLE's constructors: by hand, then printed by throwgen.py -/
def jx_thP (L : jx_L) (A : Nat → Prop) (a : Nat) (iS : Nat → Nat) (V : Nat → Value) (Hs : Heap) (U : State) : Prop := U.heap = Hs ∧ jx_K L A U ∧ jx_SX L A U ∧ u_Kn U "LiveHouse$Refusal" jx_T6 6 ((jx_D L).1 12) iS ∧ t_OB a ((jx_D L).1 12) 6 iS Hs V
def jx_thQ (L : jx_L) (a : Nat) (iS : Nat → Nat) (V : Nat → Value) (Hs : Heap) (_ : Unit) (t : State) : Prop := t.heap.size = Hs.size ∧ (∀ q : Nat, q ≠ a → t.heap[q]? = Hs[q]?) ∧ ∃ V', t_OB a ((jx_D L).1 12) 6 iS t.heap V' ∧ V' 0 = V 0 ∧ V' 1 = V 1
/-- the contract of a constructor above Refusal's: it writes none of fault and line -/
def jx_Th (y : MethodName) (M : jx_M) : Prop :=
  ∀ (l : Launch) (L : jx_L) (A : Nat → Prop) (a : Nat) (iS : Nat → Nat) (V : Nat → Value) (Hs : Heap), jx_lok L A → A a →
    Met l y (Cond.code y (jx_cc M) (jx_nl M) none :: jx_tb) (jx_crm M 1 0) (va_Pc [.ref a, .null, .null, .int 0, .int 0] (jx_thP L A a iS V Hs)) (va_Qv (fun _ : Unit => True) (jx_thQ L a iS V Hs) A) 0 0 A
theorem jx_thr_of {y : MethodName} {M : jx_M} (hy : plainName y.cls = true) (hin : y.name = "<init>") (hown : y.cls = jx_own M)
    (hb : ∀ (l : Launch) (L : jx_L) (A : Nat → Prop) (a : Nat) (iS : Nat → Nat) (V : Nat → Value) (p : Program) (e : Env) (R : Room) (s : State) (m : MethodId) (args : Array Value) (below : List Frame) (meth : Method) (c : Code), jx_CK M L A p R s m args meth c → A a → u_Kn s "LiveHouse$Refusal" jx_T6 6 ((jx_D L).1 12) iS → t_OB a ((jx_D L).1 12) 6 iS s.heap V → args = ([.ref a, .null, .null, .int 0, .int 0] : List Value).toArray →
      W p l e R s m args below meth c s.heap [] 0 0 (MQ below (va_Qv (fun _ : Unit => True) (jx_thQ L a iS V s.heap) A) args s 0 0 A) (entryFrame m args (jx_nl M))) : jx_Th y M := by
  intro l L A a iS V Hs hL hA
  refine Met.ofW (cc := jx_cc M) (maxL := jx_nl M) (ret := none) hy rfl ?_
  intro p e s m args below meth c s₁ B hml hv
  obtain ⟨rfl, hHs, hK, hSX, hk6, hO⟩ := hv
  subst hHs
  have hts := atoms_spec (ws := Cond.code y (jx_cc M) (jx_nl M) none :: jx_tb) B.pre
  have hnm : meth.name = "<init>" := by
    have := (name_of_methodNamed B.named B.method).1
    rw [hin] at this
    exact this
  exact hb l L A a iS V p e _ s m _ below meth c ⟨B.exec, B.bytes, hml, by rw [← hown]; exact findClass_of_methodNamed B.named, fun w hw => hts w (List.mem_cons_of_mem _ hw), hK, hL, ⟨rfl, rfl⟩, B.returns, B.notSynchronized, hnm, hSX⟩ hA hk6 hO rfl
section
variable {M Mc : jx_M} {L : jx_L} {A : Nat → Prop} {p : Program} {l : Launch} {e : Env} {R : Room} {s : State} {m : MethodId} {args : Array Value} {below : List Frame} {meth : Method} {c : Code} {Q : State → Prop} {H : Heap} {locs : List Loc} {ls : Array Slot} {st : List Value} {cells slots : Nat} {pc idx a : Nat} {iS : Nat → Nat} {V : Nat → Value}
theorem jx_ap6 (hts : ∀ w ∈ jx_tb, w.before args s = true) (hk6 : u_Kn s "LiveHouse$Refusal" jx_T6 6 ((jx_D L).1 12) iS) : ∀ x y, x < 6 → y < 6 → x ≠ y → iS x ≠ iS y := by
  have hK' : va_K ((fun _ => (jx_D L).1 12), fun _ => iS) [("LiveHouse$Refusal", jx_T6, 6)] [] s := by
    refine ⟨fun c q hq => ?_, fun k q h => by cases h⟩
    cases c with
    | zero => cases hq; exact hk6
    | succ c => cases hq
  exact va_apart (own := "") (ci := 0) hts jx_t6_in jx_ty6 jx_ty6_ok (by decide) hK' rfl
/-- a field of Throwable is set -/
theorem b_t6 (hC : jx_CK M L A p R s m args meth c) (hk6 : u_Kn s "LiveHouse$Refusal" jx_T6 6 ((jx_D L).1 12) iS) (hO : t_OB a ((jx_D L).1 12) 6 iS H V) (hS : va_S A s.heap H locs) (hA : A a) (j : Nat) (hj : 2 ≤ j ∧ j < 6) (hl : Cond.fieldLink (jx_own M) idx (jx_T6 j).1 (jx_T6 j).2.1 (jx_T6 j).2.2.1 ∈ jx_tb) {v : Value} (hv : narrow (jx_ty6 j) v = v ∧ fits (jx_ty6 j) v = true) (d : decode (jx_cc M) pc = .ok (.putfield idx, 3))
    (kk : ∀ H' locs', t_OB a ((jx_D L).1 12) 6 iS H' (updV V j v) → H'.size = H.size → (∀ q : Nat, q ≠ a → H'[q]? = H[q]?) → va_S A s.heap H' locs' → W p l e R s m args below meth c H' locs' cells slots Q (F0 m (pc + 3) ls st)) : W p l e R s m args below meth c H locs cells slots Q (F0 m pc ls (v :: .ref a :: st)) := by
  obtain ⟨hexec, hb, -, hownc, hts, -⟩ := hC
  obtain ⟨cell, q1, q2, q3, q4⟩ := hO
  have hap := jx_ap6 hts hk6
  obtain ⟨hSl, hfc, kC, hkC, hkind⟩ := hk6
  obtain ⟨cf, kf, fi, f, hi, hsl⟩ := hSl j hj.2
  have hst := (u_facts hfc hkC (u_lays hts jx_t6_in hj.2) hi).1
  have hlay := hts _ (jx_t6_in _ (u_in_lay hj.2))
  unfold u_lay at hlay
  have hnf : (jx_T6 j).2.2.2 = false := by
    rcases (show j = 2 ∨ j = 3 ∨ j = 4 ∨ j = 5 by omega) with rfl | rfl | rfl | rfl <;> rfl
  rw [if_neg (by rw [hnf]; decide)] at hlay
  have h6 := u_store hfc hkC hkind hlay hi (jx_ty6_ok j hj.2) hv.1 hv.2
  refine W.putK hexec hb (f := f) ⟨hownc, hts _ hl, ⟨_, _, _, hi⟩, hst⟩ (by rw [q2]; exact h6) q1 q3 (by rw [hsl]; exact k2_hasslot (q4 j hj.2)) (g := F0 m pc ls (v :: .ref a :: st)) rfl rfl d (fun H' e1 e2 e3 => ?_)
  rw [hsl] at e1
  exact kk H' _ ⟨_, e1, q2, q3, t_set q4 hap hj.2 v⟩ e2 e3 (hS.put e2 e3 hA)
/-- the call of a constructor above -/
theorem b_sup (hC : jx_CK M L A p R s m args meth c) (hS : va_S A s.heap H locs) (hls : ls.size = jx_nl M) {y : MethodName} (hM : jx_Th y Mc) (hA : A a) (hk6 : u_Kn s "LiveHouse$Refusal" jx_T6 6 ((jx_D L).1 12) iS) (hO : t_OB a ((jx_D L).1 12) 6 iS H V)
    (hcw : Cond.code y (jx_cc Mc) (jx_nl Mc) none ∈ jx_tb) (hini : Cond.initialized y.cls ∈ jx_tb) (hlk : Cond.methodLink (jx_own M) idx y ∈ jx_tb) (hin : Cond.instanceMethod y ∈ jx_tb) (hy : y.name = "<init>") (hd : y.cls ≠ "java/lang/invoke/MethodHandle" ∧ y.cls ≠ "java/lang/invoke/VarHandle" ∧ (parseMethodDescriptor y.desc).map (fun d => d.parameters.length) = some 4) (hfit : jx_fitsIn M Mc = true) (hst : jx_ct st ≤ 8) (d : decode (jx_cc M) pc = .ok (.invokespecial idx, 3))
    (kk : ∀ H' locs' V', H'.size = H.size → (∀ q : Nat, q ≠ a → H'[q]? = H[q]?) → t_OB a ((jx_D L).1 12) 6 iS H' V' → V' 0 = V 0 → V' 1 = V 1 → va_S A s.heap H' locs' → W p l e R s m args below meth c H' locs' cells slots Q (F0 m (pc + 3) ls st)) (hcs : cells ≤ R.cells ∧ slots ≤ R.slots := by exact ⟨Nat.zero_le _, Nat.zero_le _⟩) : W p l e R s m args below meth c H locs cells slots Q (F0 m pc ls (.int 0 :: .int 0 :: .null :: .null :: .ref a :: st)) := by
  obtain ⟨hexec, hb, hml, hown, hts, hK, hL, ⟨rf, rl⟩, -, -, -, hSX⟩ := hC
  have hfit2 := hfit
  simp only [jx_fitsIn, Bool.and_eq_true, decide_eq_true_eq] at hfit2
  have hws : ∀ w ∈ Cond.code y (jx_cc Mc) (jx_nl Mc) none :: jx_tb, ∀ (a' : Array Value) (U : State), s.WarmedH U.vm → w.before a' U = true := by
    intro w hw a' U hW
    rcases List.mem_cons.mp hw with rfl | hw
    · exact jx_warm (L := L) (A := A) hts hW _ hcw a'
    · exact jx_warm (L := L) (A := A) hts hW _ hw a'
  have hnp : ∀ sig, parseMethodDescriptor y.desc = some sig → 4 = sig.parameters.length := fun sig h => by
    have h2 := hd.2.2
    rw [h] at h2
    exact (Option.some.inj h2).symm
  have hcw2 : CallB R s args (jx_own M) idx y (jx_cc Mc) (jx_nl Mc) none (Cond.code y (jx_cc Mc) (jx_nl Mc) none :: jx_tb) (jx_crm Mc 1 0) 0 0 4 :=
    ⟨rfl, rfl, by rw [rf]; exact hfit2.1, by rw [rl]; exact hfit2.2, hws, List.mem_cons_self, hts _ hcw, hts _ hini, ⟨hd.1, hd.2.1⟩, hnp, hts _ hlk⟩
  have hp : PreS s H (va_Pc [.ref a, .null, .null, .int 0, .int 0] (jx_thP L A a iS V H)) (.ref a :: [.null, .null, .int 0, .int 0]) := by
    refine ⟨fun a' U g mk q => ?_, fun U hU hW => ⟨rfl, hU, ?_, ?_, u_Kn_moved hW.alike hk6, hO⟩⟩
    · obtain ⟨q0, q1, q2, q3, q4, q5⟩ := q
      exact ⟨q0, q1, q2.to (State.WarmedH.refl U) (fun _ _ _ => rfl), q3.to (State.WarmedH.refl U) (fun _ _ _ => rfl), u_Kn_moved (u := U) (U := U.calling g mk a') (Vm.Alike.refl U.vm) q4, q5⟩
    · exact hK.to hW (fun q h1 h2 => by rw [hU]; exact hS.2.1 q h1 h2)
    · exact hSX.to hW (fun q h1 h2 => by rw [hU]; exact hS.2.1 q h1 h2)
  refine va_callv (va_runI (As := [.null, .null, .int 0, .int 0]) (rest := st) (b := a) (Ts := jx_tb) ⟨hexec, hb, hml, hown, hts⟩ (hM l L A a iS V H hL hA) ⟨hcw2, hy, hts _ hin⟩ hp rfl rfl hls rfl (lv_room hst) d hcs) hS (fun q _ h => h) (fun q h => h) (fun u t H1 locs1 ht hvm _ hB hz hk hS1 => ?_)
  obtain ⟨g1, g2, V', g3, g4, g5⟩ := hB
  rw [ht] at g1 g2 g3
  exact kk H1 locs1 V' g1 g2 g3 g4 g5 hS1
end
def y_Throwable_init : MethodName := ⟨"java/lang/Throwable", "<init>", "(Ljava/lang/String;Ljava/lang/Throwable;ZZ)V"⟩
def M_Throwable_init : jx_M := ("java/lang/Throwable", prog_28_method_5_code, 5, 1, 30, 0, none, [])
def P_Throwable_init_0 : List (Nat × List Nat) := [(0, [42]), (1, [183, 0, 1]), (4, [42]), (5, [42]), (6, [181, 0, 7]), (9, [42]), (10, [178, 0, 13]), (13, [181, 0, 17]), (16, [42]), (17, [178, 0, 20]), (20, [181, 0, 24]), (23, [21, 4]), (25, [153, 0, 11]), (28, [42]), (29, [182, 0, 27]), (32, [87]), (33, [167, 0, 8]), (36, [42]), (37, [1]), (38, [181, 0, 17]), (41, [42]), (42, [43]), (43, [181, 0, 31]), (46, [42]), (47, [44]), (48, [181, 0, 7]), (51, [29]), (52, [154, 0, 8]), (55, [42]), (56, [1]), (57, [181, 0, 24]), (60, [177])]
theorem b_Throwable_init_0 {k q : Nat} {bs : List Nat} (h : P_Throwable_init_0[k]? = some (q, bs)) : jx_B (jx_cc M_Throwable_init) q bs := jx_chk_at 0 P_Throwable_init_0 (by decide +kernel) k q bs h
theorem ct_Throwable_init : jx_Th y_Throwable_init M_Throwable_init := by
  refine jx_thr_of (by decide) rfl rfl ?_
  intro l L A a iS V p e R s m args below meth c hC hA hk6 hO hargs
  subst hargs
  have hS : va_S A s.heap s.heap [] := va_S.rf
  have hl := lv_entry ([.ref a, .null, .null, .int 0, .int 0]) (n := jx_nl M_Throwable_init) (Nat.le_of_ble_eq_true rfl)
  rw [lg_entry_eq]
  generalize (lg_sl ([.ref a, .null, .null, .int 0, .int 0]) ++ List.replicate (jx_nl M_Throwable_init - (lg_sl ([.ref a, .null, .null, .int 0, .int 0])).length) Slot.unset).toArray = ls at hl ⊢
  have h0 : ls[0]? = some (.val (.ref a)) := hl.2.2 (0, .ref a) (List.mem_of_getElem? (i := 0) rfl)
  have h1 : ls[1]? = some (.val .null) := hl.2.2 (1, .null) (List.mem_of_getElem? (i := 1) rfl)
  have h2 : ls[2]? = some (.val .null) := hl.2.2 (2, .null) (List.mem_of_getElem? (i := 2) rfl)
  have h3 : ls[3]? = some (.val (.int 0)) := hl.2.2 (3, .int 0) (List.mem_of_getElem? (i := 3) rfl)
  have h4 : ls[4]? = some (.val (.int 0)) := hl.2.2 (4, .int 0) (List.mem_of_getElem? (i := 4) rfl)
  refine lv_aload_n hC.1 hC.2.1 (dc_42 (b_Throwable_init_0 (k := 0) rfl)) rfl h0 ?_
  refine W.objInit hC.1 hC.2.1 hC.2.2.2.1 (hC.2.2.2.2.1 _ (jx_in_tb (jx_t1 (List.mem_of_getElem? (i := 68) rfl)) rfl)) (hC.2.2.2.2.1 _ ob_inst) (hC.2.2.2.2.1 _ ob_code) rfl (by rw [hC.2.2.1]; exact hl.1) rfl (dc_183 (b_Throwable_init_0 (k := 1) rfl) rfl) (by rw [hC.2.2.2.2.2.2.2.1.1]; exact Nat.le_of_ble_eq_true rfl) (by rw [hC.2.2.2.2.2.2.2.1.2]; exact Nat.le_of_ble_eq_true rfl) ?_
  refine W.eq (g2 := F0 m 4 ls []) rfl ?_
  refine lv_aload_n hC.1 hC.2.1 (dc_42 (b_Throwable_init_0 (k := 2) rfl)) rfl h0 ?_
  refine lv_aload_n hC.1 hC.2.1 (dc_42 (b_Throwable_init_0 (k := 3) rfl)) rfl h0 ?_
  refine b_t6 hC hk6 hO hS hA 2 (by decide) (jx_in_tb (jx_t1 (List.mem_of_getElem? (i := 100) rfl)) rfl) ⟨rfl, rfl⟩ (dc_181 (b_Throwable_init_0 (k := 4) rfl) rfl) (fun H1 locs1 hO z1 o1 hS => ?_)
  refine lv_aload_n hC.1 hC.2.1 (dc_42 (b_Throwable_init_0 (k := 5) rfl)) rfl h0 ?_
  obtain ⟨u10, hu10⟩ := hC.2.2.2.2.2.2.2.2.2.2.2.2.1
  refine va_gets hC.1 hC.2.1 hu10 hS hC.2.2.2.1 (hC.2.2.2.2.1 _ (jx_in_tb (jx_t1 (List.mem_of_getElem? (i := 69) rfl)) rfl)) (fun _ h9 => h9) (dc_178 (b_Throwable_init_0 (k := 6) rfl) rfl) ?_
  refine b_t6 hC hk6 hO hS hA 3 (by decide) (jx_in_tb (jx_t1 (List.mem_of_getElem? (i := 101) rfl)) rfl) ⟨by cases u10 <;> rfl, by cases u10 <;> rfl⟩ (dc_181 (b_Throwable_init_0 (k := 7) rfl) rfl) (fun H2 locs2 hO z2 o2 hS => ?_)
  refine lv_aload_n hC.1 hC.2.1 (dc_42 (b_Throwable_init_0 (k := 8) rfl)) rfl h0 ?_
  obtain ⟨u17, hu17⟩ := hC.2.2.2.2.2.2.2.2.2.2.2.2.2.1
  refine va_gets hC.1 hC.2.1 hu17 hS hC.2.2.2.1 (hC.2.2.2.2.1 _ (jx_in_tb (jx_t1 (List.mem_of_getElem? (i := 71) rfl)) rfl)) (fun _ h9 => h9) (dc_178 (b_Throwable_init_0 (k := 9) rfl) rfl) ?_
  refine b_t6 hC hk6 hO hS hA 4 (by decide) (jx_in_tb (jx_t1 (List.mem_of_getElem? (i := 102) rfl)) rfl) ⟨by cases u17 <;> rfl, by cases u17 <;> rfl⟩ (dc_181 (b_Throwable_init_0 (k := 10) rfl) rfl) (fun H3 locs3 hO z3 o3 hS => ?_)
  refine lv_iload hC.1 hC.2.1 (dc_21 (b_Throwable_init_0 (k := 11) rfl)) h4 ?_
  refine lv_if_eq (tgt := 36) hC.1 hC.2.1 (dc_153 (b_Throwable_init_0 (k := 12) rfl) rfl) rfl (fun _ => ?_) (fun q => absurd rfl q)
  refine lv_aload_n hC.1 hC.2.1 (dc_42 (b_Throwable_init_0 (k := 17) rfl)) rfl h0 ?_
  refine lv_null hC.1 hC.2.1 (dc_1 (b_Throwable_init_0 (k := 18) rfl)) ?_
  refine b_t6 hC hk6 hO hS hA 3 (by decide) (jx_in_tb (jx_t1 (List.mem_of_getElem? (i := 101) rfl)) rfl) ⟨rfl, rfl⟩ (dc_181 (b_Throwable_init_0 (k := 19) rfl) rfl) (fun H4 locs4 hO z4 o4 hS => ?_)
  refine lv_aload_n hC.1 hC.2.1 (dc_42 (b_Throwable_init_0 (k := 20) rfl)) rfl h0 ?_
  refine lv_aload_nN hC.1 hC.2.1 (dc_43 (b_Throwable_init_0 (k := 21) rfl)) rfl h1 ?_
  refine b_t6 hC hk6 hO hS hA 5 (by decide) (jx_in_tb (jx_t1 (List.mem_of_getElem? (i := 99) rfl)) rfl) ⟨rfl, rfl⟩ (dc_181 (b_Throwable_init_0 (k := 22) rfl) rfl) (fun H5 locs5 hO z5 o5 hS => ?_)
  refine lv_aload_n hC.1 hC.2.1 (dc_42 (b_Throwable_init_0 (k := 23) rfl)) rfl h0 ?_
  refine lv_aload_nN hC.1 hC.2.1 (dc_44 (b_Throwable_init_0 (k := 24) rfl)) rfl h2 ?_
  refine b_t6 hC hk6 hO hS hA 2 (by decide) (jx_in_tb (jx_t1 (List.mem_of_getElem? (i := 100) rfl)) rfl) ⟨rfl, rfl⟩ (dc_181 (b_Throwable_init_0 (k := 25) rfl) rfl) (fun H6 locs6 hO z6 o6 hS => ?_)
  refine lv_iload_n hC.1 hC.2.1 (dc_29 (b_Throwable_init_0 (k := 26) rfl)) rfl h3 ?_
  refine lv_if_ne (tgt := 60) hC.1 hC.2.1 (dc_154 (b_Throwable_init_0 (k := 27) rfl) rfl) rfl (fun q => absurd rfl q) (fun _ => ?_)
  refine lv_aload_n hC.1 hC.2.1 (dc_42 (b_Throwable_init_0 (k := 28) rfl)) rfl h0 ?_
  refine lv_null hC.1 hC.2.1 (dc_1 (b_Throwable_init_0 (k := 29) rfl)) ?_
  refine b_t6 hC hk6 hO hS hA 4 (by decide) (jx_in_tb (jx_t1 (List.mem_of_getElem? (i := 102) rfl)) rfl) ⟨rfl, rfl⟩ (dc_181 (b_Throwable_init_0 (k := 30) rfl) rfl) (fun H7 locs7 hO z7 o7 hS => ?_)
  exact W.vret hC.1 hC.2.1 hC.2.2.2.2.2.2.2.2.1 (fun t ht hW => by subst ht; exact ⟨⟨(), rfl, trivial, by omega, fun q hq => by rw [o7 q hq, o6 q hq, o5 q hq, o4 q hq, o3 q hq, o2 q hq, o1 q hq], _, hO, rfl, rfl⟩, hS.F rfl⟩) hS.2.2 (dc_177 (b_Throwable_init_0 (k := 31) rfl)) (hlocks := hC.2.2.2.2.2.2.2.2.2.1)
def y_Exception_init : MethodName := ⟨"java/lang/Exception", "<init>", "(Ljava/lang/String;Ljava/lang/Throwable;ZZ)V"⟩
def M_Exception_init : jx_M := ("java/lang/Exception", prog_21_method_5_code, 5, 2, 70, 0, none, [])
def P_Exception_init_0 : List (Nat × List Nat) := [(0, [42]), (1, [43]), (2, [44]), (3, [29]), (4, [21, 4]), (6, [183, 0, 16]), (9, [177])]
theorem b_Exception_init_0 {k q : Nat} {bs : List Nat} (h : P_Exception_init_0[k]? = some (q, bs)) : jx_B (jx_cc M_Exception_init) q bs := jx_chk_at 0 P_Exception_init_0 (by decide +kernel) k q bs h
theorem ct_Exception_init : jx_Th y_Exception_init M_Exception_init := by
  refine jx_thr_of (by decide) rfl rfl ?_
  intro l L A a iS V p e R s m args below meth c hC hA hk6 hO hargs
  subst hargs
  have hS : va_S A s.heap s.heap [] := va_S.rf
  have hl := lv_entry ([.ref a, .null, .null, .int 0, .int 0]) (n := jx_nl M_Exception_init) (Nat.le_of_ble_eq_true rfl)
  rw [lg_entry_eq]
  generalize (lg_sl ([.ref a, .null, .null, .int 0, .int 0]) ++ List.replicate (jx_nl M_Exception_init - (lg_sl ([.ref a, .null, .null, .int 0, .int 0])).length) Slot.unset).toArray = ls at hl ⊢
  have h0 : ls[0]? = some (.val (.ref a)) := hl.2.2 (0, .ref a) (List.mem_of_getElem? (i := 0) rfl)
  have h1 : ls[1]? = some (.val .null) := hl.2.2 (1, .null) (List.mem_of_getElem? (i := 1) rfl)
  have h2 : ls[2]? = some (.val .null) := hl.2.2 (2, .null) (List.mem_of_getElem? (i := 2) rfl)
  have h3 : ls[3]? = some (.val (.int 0)) := hl.2.2 (3, .int 0) (List.mem_of_getElem? (i := 3) rfl)
  have h4 : ls[4]? = some (.val (.int 0)) := hl.2.2 (4, .int 0) (List.mem_of_getElem? (i := 4) rfl)
  refine lv_aload_n hC.1 hC.2.1 (dc_42 (b_Exception_init_0 (k := 0) rfl)) rfl h0 ?_
  refine lv_aload_nN hC.1 hC.2.1 (dc_43 (b_Exception_init_0 (k := 1) rfl)) rfl h1 ?_
  refine lv_aload_nN hC.1 hC.2.1 (dc_44 (b_Exception_init_0 (k := 2) rfl)) rfl h2 ?_
  refine lv_iload_n hC.1 hC.2.1 (dc_29 (b_Exception_init_0 (k := 3) rfl)) rfl h3 ?_
  refine lv_iload hC.1 hC.2.1 (dc_21 (b_Exception_init_0 (k := 4) rfl)) h4 ?_
  refine b_sup hC hS hl.1 ct_Throwable_init hA hk6 hO (jx_in_tb (jx_t1 (List.mem_of_getElem? (i := 93) rfl)) rfl) (jx_in_tb (jx_t1 (List.mem_of_getElem? (i := 3) rfl)) rfl) (jx_in_tb (jx_t1 (List.mem_of_getElem? (i := 91) rfl)) rfl) (jx_in_tb (jx_t1 (List.mem_of_getElem? (i := 92) rfl)) rfl) rfl ⟨by decide, by decide, by decide +kernel⟩ rfl (Nat.zero_le _) (dc_183 (b_Exception_init_0 (k := 5) rfl) rfl) (fun H1 locs1 V1 z1 o1 hO1 e0 e1 hS => ?_)
  exact W.vret hC.1 hC.2.1 hC.2.2.2.2.2.2.2.2.1 (fun t ht hW => ⟨⟨(), rfl, trivial, by rw [ht]; exact z1, fun q hq => by rw [ht]; exact o1 q hq, _, by rw [ht]; exact hO1, e0, e1⟩, hS.F ht⟩) hS.2.2 (dc_177 (b_Exception_init_0 (k := 6) rfl)) (hlocks := hC.2.2.2.2.2.2.2.2.2.1)
def y_RuntimeException_init : MethodName := ⟨"java/lang/RuntimeException", "<init>", "(Ljava/lang/String;Ljava/lang/Throwable;ZZ)V"⟩
def M_RuntimeException_init : jx_M := ("java/lang/RuntimeException", prog_23_method_5_code, 5, 3, 110, 0, none, [])
def P_RuntimeException_init_0 : List (Nat × List Nat) := [(0, [42]), (1, [43]), (2, [44]), (3, [29]), (4, [21, 4]), (6, [183, 0, 16]), (9, [177])]
theorem b_RuntimeException_init_0 {k q : Nat} {bs : List Nat} (h : P_RuntimeException_init_0[k]? = some (q, bs)) : jx_B (jx_cc M_RuntimeException_init) q bs := jx_chk_at 0 P_RuntimeException_init_0 (by decide +kernel) k q bs h
theorem ct_RuntimeException_init : jx_Th y_RuntimeException_init M_RuntimeException_init := by
  refine jx_thr_of (by decide) rfl rfl ?_
  intro l L A a iS V p e R s m args below meth c hC hA hk6 hO hargs
  subst hargs
  have hS : va_S A s.heap s.heap [] := va_S.rf
  have hl := lv_entry ([.ref a, .null, .null, .int 0, .int 0]) (n := jx_nl M_RuntimeException_init) (Nat.le_of_ble_eq_true rfl)
  rw [lg_entry_eq]
  generalize (lg_sl ([.ref a, .null, .null, .int 0, .int 0]) ++ List.replicate (jx_nl M_RuntimeException_init - (lg_sl ([.ref a, .null, .null, .int 0, .int 0])).length) Slot.unset).toArray = ls at hl ⊢
  have h0 : ls[0]? = some (.val (.ref a)) := hl.2.2 (0, .ref a) (List.mem_of_getElem? (i := 0) rfl)
  have h1 : ls[1]? = some (.val .null) := hl.2.2 (1, .null) (List.mem_of_getElem? (i := 1) rfl)
  have h2 : ls[2]? = some (.val .null) := hl.2.2 (2, .null) (List.mem_of_getElem? (i := 2) rfl)
  have h3 : ls[3]? = some (.val (.int 0)) := hl.2.2 (3, .int 0) (List.mem_of_getElem? (i := 3) rfl)
  have h4 : ls[4]? = some (.val (.int 0)) := hl.2.2 (4, .int 0) (List.mem_of_getElem? (i := 4) rfl)
  refine lv_aload_n hC.1 hC.2.1 (dc_42 (b_RuntimeException_init_0 (k := 0) rfl)) rfl h0 ?_
  refine lv_aload_nN hC.1 hC.2.1 (dc_43 (b_RuntimeException_init_0 (k := 1) rfl)) rfl h1 ?_
  refine lv_aload_nN hC.1 hC.2.1 (dc_44 (b_RuntimeException_init_0 (k := 2) rfl)) rfl h2 ?_
  refine lv_iload_n hC.1 hC.2.1 (dc_29 (b_RuntimeException_init_0 (k := 3) rfl)) rfl h3 ?_
  refine lv_iload hC.1 hC.2.1 (dc_21 (b_RuntimeException_init_0 (k := 4) rfl)) h4 ?_
  refine b_sup hC hS hl.1 ct_Exception_init hA hk6 hO (jx_in_tb (jx_t1 (List.mem_of_getElem? (i := 90) rfl)) rfl) (jx_in_tb (jx_t1 (List.mem_of_getElem? (i := 4) rfl)) rfl) (jx_in_tb (jx_t1 (List.mem_of_getElem? (i := 88) rfl)) rfl) (jx_in_tb (jx_t1 (List.mem_of_getElem? (i := 89) rfl)) rfl) rfl ⟨by decide, by decide, by decide +kernel⟩ rfl (Nat.zero_le _) (dc_183 (b_RuntimeException_init_0 (k := 5) rfl) rfl) (fun H1 locs1 V1 z1 o1 hO1 e0 e1 hS => ?_)
  exact W.vret hC.1 hC.2.1 hC.2.2.2.2.2.2.2.2.1 (fun t ht hW => ⟨⟨(), rfl, trivial, by rw [ht]; exact z1, fun q hq => by rw [ht]; exact o1 q hq, _, by rw [ht]; exact hO1, e0, e1⟩, hS.F ht⟩) hS.2.2 (dc_177 (b_RuntimeException_init_0 (k := 6) rfl)) (hlocks := hC.2.2.2.2.2.2.2.2.2.1)
