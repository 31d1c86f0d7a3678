/-! THE LAW, from its entry to its end; printed by begingen.py out of begin.txt -/
def R_law : String := "LiveHouseLaw"
def lw_P (b : Addr) (xs : List Int32) (args : Array Value) (s : State) : Prop := args = #[.ref b] ∧ s.IntsAt b xs ∧ xs.length ≤ 24576 ∧ (Jvm.Cond.and given_1 narrow_1).before args s = true
def lw_Q (_ : Array Value) (s : State) (o : Outcome) (t : State) : Prop := o = .returned (some (.int 1)) ∧ Framed s o t [] 608192 7228522
def lw_Z (below : List Frame) (a : Array Value) (s : State) : State → Prop := fun t => ∃ o, t.status = .running ∧ Ended t below o ∧ lw_Q a s o t
def jx_CL (M : jx_M) (L : jx_L) (A : Nat → Prop) (p : Program) (R : Room) (s : State) (m : MethodId) (args : Array Value) (c : Code) : Prop :=
  p.tables.exec = Jvm.exec ∧ c.code = jx_cc M ∧ c.maxLocals = jx_nl M ∧ s.vm.findClass (jx_own M) = some m.cls ∧ (∀ w ∈ jx_tb, w.before args s = true) ∧ jx_K L A s ∧ jx_lok L A ∧ (R.frames = jx_fr M ∧ R.locals = jx_lo M) ∧ jx_SX L A s
section
variable {M Mc : jx_M} {L : jx_L} {A : Nat → Prop} {p : Program} {l : Launch} {e : Env} {R : Room} {s : State} {m : MethodId} {args : Array Value} {below : List Frame} {meth : Method} {c : Code} {Q : State → Prop} {H : Heap} {locs : List Loc} {ls : Array Slot} {st : List Value} {cells slots : Nat} {σ : jx_S} {pc idx : Nat}
/-- new: with fields as they are at first -/
theorem lw_new (hC : jx_CL M L A p R s m args c) (hS : va_S A s.heap H locs) (x2 : Int) (k2 N : Nat) (hsz : H.size = jx_ad L x2 0) (hk2 : k2 < 16) (hlk : Cond.classLink (jx_own M) idx (jx_cn k2) ∈ jx_tb) (hins : Cond.instantiable (jx_cn k2) N ∈ jx_tb) (hini : Cond.initialized (jx_cn k2) ∈ jx_tb) (hcells : cells + 1 ≤ R.cells) (hslots : slots + N ≤ R.slots) (d : decode (jx_cc M) pc = .ok (.new idx, 3))
    (kk : ∀ H', jx_bd L σ x2 k2 1 [] (jx_df k2) H' H' → (∀ q : Nat, q < H.size → H'[q]? = H[q]?) → va_S A s.heap H' locs → W p l e R s m args below meth c H' locs (cells + 1) (slots + N) Q (F0 m (pc + 3) ls (.ref (jx_ad L x2 0) :: st))) : W p l e R s m args below meth c H locs cells slots Q (F0 m pc ls st) := by
  obtain ⟨hexec, hb, hml, hown, hts, hK, hL, -, hSX⟩ := hC
  have hKn := hK.1.1 k2 _ (jx_cls_at hk2)
  refine W.newcK hexec hb hown (hts _ hlk) (hts _ hins) (hts _ hini) (g := F0 m pc ls st) rfl d hcells hslots hKn.2.1 rfl fun H1 kC hkC e1 z1 o1 => ?_
  have := kk H1 ⟨by omega, by rw [← hsz]; exact jx_born hts hK hk2 hkC e1, fun y g _ h1 h2 => by omega, fun _ _ => rfl, fun _ _ h => by cases h⟩ o1 ⟨Nat.le_trans hS.1 (by omega), fun q h1 h2 => (o1 q (Nat.lt_of_lt_of_le h1 hS.1)).trans (hS.2.1 q h1 h2), hS.2.2⟩
  rw [← hsz] at this
  exact this
theorem lw_hws (hC : jx_CL M L A p R s m args c) {y : MethodName} (hcw : Cond.code y (jx_cc Mc) (jx_nl Mc) none ∈ jx_tb) : ∀ w ∈ Cond.code y (jx_cc Mc) (jx_nl Mc) none :: jx_tb, ∀ (a' : Array Value) (U : State), s.WarmedH U.vm → w.before a' U = true := by
  intro w hw a' U hW
  rcases List.mem_cons.mp hw with rfl | hw
  · exact jx_warm (L := L) (A := A) hC.2.2.2.2.1 hW _ hcw a'
  · exact jx_warm (L := L) (A := A) hC.2.2.2.2.1 hW _ hw a'
/-- a constructor without arguments is called -/
theorem lw_call (hC : jx_CL M L A p R s m args c) (hS : va_S A s.heap H locs) {y : MethodName} {x2 : Int} {n2 sl : Nat} {B : Unit → State → Prop} {P : State → Prop} (hM : Met l y (Cond.code y (jx_cc Mc) (jx_nl Mc) none :: jx_tb) (jx_crm Mc n2 sl) (va_Pc [.ref (jx_ad L x2 0)] P) (va_Qv (fun _ : Unit => True) B A) (n2 - 1) sl A)
    (hP1 : ∀ (a : Array Value) (U : State) (g : JFrame) (mk : MethodId), P U → P (U.calling g mk a)) (hP2 : ∀ U : State, U.heap = H → s.WarmedH U.vm → P U) (hls : ls.size = jx_nl M)
    (hcw : Cond.code y (jx_cc Mc) (jx_nl Mc) none ∈ jx_tb) (hini : Cond.initialized y.cls ∈ jx_tb) (hlk : Cond.methodLink (jx_own M) idx y ∈ jx_tb) (hin : Cond.instanceMethod y ∈ jx_tb) (hy : y.name = "<init>") (hd : y.cls ≠ "java/lang/invoke/MethodHandle" ∧ y.cls ≠ "java/lang/invoke/VarHandle" ∧ (parseMethodDescriptor y.desc).map (fun d => d.parameters.length) = some 0) (hfit : jx_fitsIn M Mc = true) (hst : jx_ct st ≤ 8) (hcells : cells + (n2 - 1) ≤ R.cells) (hslots : slots + sl ≤ R.slots) (d : decode (jx_cc M) pc = .ok (.invokespecial idx, 3))
    (kk : ∀ (t : State) (H' : Heap) (locs' : List Loc), t.heap = H' → B () t → H.size ≤ H'.size → (∀ q : Nat, q < H.size → ¬ A q → H'[q]? = H[q]?) → va_S A s.heap H' locs' → W p l e R s m args below meth c H' locs' (cells + (n2 - 1)) (slots + sl) Q (F0 m (pc + 3) ls st)) : W p l e R s m args below meth c H locs cells slots Q (F0 m pc ls (.ref (jx_ad L x2 0) :: st)) := by
  have hws := lw_hws hC hcw
  obtain ⟨hexec, hb, hml, hown, hts, hK, hL, ⟨rf, rl⟩, hSX⟩ := hC
  have hfit2 := hfit
  simp only [jx_fitsIn, Bool.and_eq_true, decide_eq_true_eq] at hfit2
  have hnp : ∀ sig, parseMethodDescriptor y.desc = some sig → ([] : List Value).length = sig.parameters.length := fun sig h => by
    have h2 := hd.2.2
    rw [h] at h2
    exact (Option.some.inj h2).symm
  have hp : PreS s H (va_Pc [.ref (jx_ad L x2 0)] P) [.ref (jx_ad L x2 0)] := by
    refine ⟨fun a U g mk q => ?_, fun U hU hW => ⟨rfl, hP2 U hU hW⟩⟩
    obtain ⟨q0, q1⟩ := q
    exact ⟨q0, hP1 a U g mk q1⟩
  have hcw2 : CallB R s args (jx_own M) idx y (jx_cc Mc) (jx_nl Mc) none (Cond.code y (jx_cc Mc) (jx_nl Mc) none :: jx_tb) (jx_crm Mc n2 sl) (n2 - 1) sl ([] : List Value).length :=
    ⟨rfl, rfl, by rw [rf]; exact hfit2.1, by rw [rl]; exact hfit2.2, hws, List.mem_cons_self, hts _ hcw, hts _ hini, ⟨hd.1, hd.2.1⟩, hnp, hts _ hlk⟩
  have hrun : va_Run p l e R s m args below meth c H locs cells slots (n2 - 1) sl (F0 m pc ls (([] : List Value).reverse ++ .ref (jx_ad L x2 0) :: st)) st (va_Qv (fun _ : Unit => True) B A (Value.ref (jx_ad L x2 0) :: ([] : List Value)).toArray) A :=
    va_runI (As := []) (rest := st) (b := jx_ad L x2 0) (Ts := jx_tb) ⟨hexec, hb, hml, hown, hts⟩ hM ⟨hcw2, hy, hts _ hin⟩ hp rfl rfl hls rfl (lv_room hst) d ⟨hcells, hslots⟩
  exact va_callv hrun hS (fun q _ h => h) (fun q h => h) (fun u t H1 locs1 ht hvm _ hB hz hk hS1 => kk t H1 locs1 ht hB hz hk hS1)
end
theorem jx_K_L {base b n : Nat} {D : va_G} {dA : Nat → ClassId} {st op : Int → Nat} {nc ns nc2 ns2 : Nat} {A : Nat → Prop} {U : State} (h : jx_K (jx_L1 base b D dA st op nc ns) A U) : jx_K (jx_L0 base b n D dA st op nc2 ns2) A U := by
  unfold jx_K jx_KO jx_KS jx_ty jx_v jx_r at h ⊢
  dsimp only [jx_L1, jx_L0, jx_D, jx_dA, jx_st, jx_op] at h ⊢
  exact h
theorem jx_ad_L {base b n : Nat} {D : va_G} {dA : Nat → ClassId} {st op : Int → Nat} {nc ns nc2 ns2 : Nat} {y : Int} {g : Nat} : jx_ad (jx_L0 base b n D dA st op nc2 ns2) y g = jx_ad (jx_L1 base b D dA st op nc ns) y g := by
  dsimp only [jx_L0, jx_L1, jx_ad]
theorem jx_v_G {L L2 : jx_L} (h1 : jx_ad L = jx_ad L2) (h5 : jx_st L = jx_st L2) (h6 : jx_op L = jx_op L2) (t : Nat) (v : Int) : jx_v L t v = jx_v L2 t v := by
  unfold jx_v jx_r
  rw [h1, h5, h6]
theorem jx_at_G {L L2 : jx_L} {σ σ2 : jx_S} {H : Heap} {y : Int} {g : Nat} (h1 : jx_ad L = jx_ad L2) (h2 : jx_cl L = jx_cl L2) (h3 : jx_D L = jx_D L2) (h4 : jx_dA L = jx_dA L2) (h5 : jx_st L = jx_st L2) (h6 : jx_op L = jx_op L2) (hσ : ∀ h i, h ≠ 288 → σ2 y h i = σ y h i) (h288 : g ≠ 288) (h9 : jx_at L σ H y g) : jx_at L2 σ2 H y g := by
  unfold jx_at at h9 ⊢
  rw [h1, h2, h3, h4] at h9
  by_cases hg : g = 0
  · subst hg
    rw [if_pos rfl] at h9 ⊢
    refine h9.to (fun j hj => ?_)
    unfold jx_fv
    by_cases hc9 : 100 ≤ jx_ft (jx_fo (jx_cl L2 y) + j)
    · rw [if_pos hc9, if_pos hc9, h1]
    · rw [if_neg hc9, if_neg hc9, hσ _ _ (fun z => hc9 (by rw [z]; decide)), jx_v_G h1 h5 h6]
  · rw [if_neg hg] at h9 ⊢
    refine h9.trans (congrArg some (jx_arrV_ext fun j hj => ?_))
    rw [hσ _ _ h288, jx_v_G h1 h5 h6]
theorem jx_at_L {base b n : Nat} {D : va_G} {dA : Nat → ClassId} {st op : Int → Nat} {nc ns nc2 ns2 : Nat} {σ : jx_S} {f : Int → Int} {H : Heap} {y : Int} {g : Nat} (h288 : g ≠ 288) (h9 : jx_at (jx_L1 base b D dA st op nc ns) σ H y g) : jx_at (jx_L0 base b n D dA st op nc2 ns2) (jx_ws σ f) H y g := by
  refine jx_at_G (L := jx_L1 base b D dA st op nc ns) ?_ ?_ ?_ ?_ ?_ ?_ ?_ h288 h9
  · dsimp only [jx_L0, jx_L1, jx_ad]
  · dsimp only [jx_L0, jx_L1, jx_cl]
  · dsimp only [jx_L0, jx_L1, jx_D]
  · dsimp only [jx_L0, jx_L1, jx_dA]
  · dsimp only [jx_L0, jx_L1, jx_st]
  · dsimp only [jx_L0, jx_L1, jx_op]
  · intro h i hh
    unfold jx_ws
    rw [if_neg hh]
theorem jx_ad_S {base b n : Nat} {D : va_G} {dA : Nat → ClassId} {st op : Int → Nat} {nc ns : Nat} {y : Int} : jx_ad (jx_L0 base b n D dA st op nc ns) y 288 = b := by
  dsimp only [jx_L0, jx_ad]
  rw [if_pos rfl]
section
variable {p : Program} {l : Launch} {e : Env} {s : State} {m : MethodId} {below : List Frame} {meth : Method} {c : Code} {D : va_G} {dA : Nat → ClassId} {st op : Int → Nat} {b n : Nat} {xs : Nat → Int32}
set_option maxHeartbeats 1000000 in
theorem law_whole {σ1 σ2 : jx_S} {e1 e2 : jx_E} (hn : n ≤ 24576) (hexec : p.tables.exec = Jvm.exec) (hb : c.code = code) (hret : meth.sig.returnType = ret) (hml : c.maxLocals = 4) (hown : s.vm.findClass "LiveHouseLaw" = some m.cls) (hts : ∀ w ∈ jx_tb, w.before #[Value.ref b] s = true) (hX : va_X b n xs s s.heap) (hbs : b < s.heap.size) (hlocks : meth.locks = false) (hexc : c.exceptionTable.toList.map (fun h => (h.startPc, h.endPc, h.handlerPc, h.catchType)) = [])
    (hK : jx_K (jx_L1 s.heap.size b D dA st op 0 0) (fun q => s.heap.size ≤ q) s) (hSX : jx_SX (jx_L1 s.heap.size b D dA st op 0 0) (fun q => s.heap.size ≤ q) s) (hop : ∀ i j : Int, 1 ≤ i → i ≤ 27 → 1 ≤ j → j ≤ 27 → op i = op j → i = j) (hcl : ∀ cell, s.heap[b]? = some cell → cell.cls = dA 288)
    (hrunM : f_Model_init [jx_id 11088 0, 0] jx_s0 = some (.error (.ok 0), e1, σ1))
    (hrunL : f_Law_law [jx_ac 288 ((1000000 + n : Nat) : Int), jx_id 0 1, jx_id 11088 0, 0] (jx_ws σ1 (fun i => (xs i.toNat).toInt)) = some (.error (.ok 1), e2, σ2)) :
    W p l e room_1 s m #[Value.ref b] below meth c s.heap [] 0 0 (lw_Z below #[Value.ref b] s) (entryFrame m ([Value.ref b] : List Value).toArray 4) := by
  have hlok := jx_L1_lok (D := D) (dA := dA) (st := st) (nc := 0) (ns := 0) hbs hop
  have hstd : jx_std (jx_L1 s.heap.size b D dA st op 0 0) jx_s0 := jx_L1_std
  have hC : jx_CL M_Law_law (jx_L1 s.heap.size b D dA st op 0 0) (fun q => s.heap.size ≤ q) p room_1 s m #[Value.ref b] c := ⟨hexec, hb, hml, hown, hts, hK, hlok, ⟨rfl, rfl⟩, hSX⟩
  have hsubH : ∀ q ∈ jx_b_House 0, q ∈ jx_cs (jx_L1 s.heap.size b D dA st op 0 0) := fun q hq => List.mem_append.mpr (Or.inl hq)
  have hsubM : ∀ q ∈ jx_b_Model 11088, q ∈ jx_cs (jx_L1 s.heap.size b D dA st op 0 0) := fun q hq => List.mem_append.mpr (Or.inr hq)
  have aH : jx_ad (jx_L1 s.heap.size b D dA st op 0 0) (jx_id 0 1) 0 = s.heap.size := by
    show (if (0 : Nat) = 288 then b else s.heap.size + (jx_id 0 1 / 16).toNat + jx_ao 0) = _
    rw [if_neg (by decide), (jx_id_div 0 1 (by decide)).1]
    rfl
  have aM : jx_ad (jx_L1 s.heap.size b D dA st op 0 0) (jx_id 11088 0) 0 = s.heap.size + 11088 := by
    show (if (0 : Nat) = 288 then b else s.heap.size + (jx_id 11088 0 / 16).toNat + jx_ao 0) = _
    rw [if_neg (by decide), (jx_id_div 11088 0 (by decide)).1]
    rfl
  have hl := lv_entry ([.ref b]) (n := 4) (Nat.le_of_ble_eq_true rfl)
  rw [lg_entry_eq]
  generalize (lg_sl ([Value.ref b]) ++ List.replicate (4 - (lg_sl ([Value.ref b])).length) Slot.unset).toArray = ls at hl ⊢
  have hl : lv_has ls 4 [(0, .ref b)] := hl
  have hS : va_S (fun q => s.heap.size ≤ q) s.heap s.heap [] := va_S.rf
  refine lw_new (M := M_Law_law) (σ := jx_s0) hC hS (jx_id 0 1) 1 31 aH.symm (by decide) (jx_in_tb (jx_t1 (List.mem_of_getElem? (i := 29) rfl)) rfl) (jx_in_tb (jx_t1 (List.mem_of_getElem? (i := 30) rfl)) rfl) (jx_in_tb (jx_t1 (List.mem_of_getElem? (i := 1) rfl)) rfl) (by decide) (by decide) (dc_187 (b_Law_law_0 (k := 0) rfl) rfl) (fun H1 hB1 o1 hS1 => ?_)
  refine lv_dup hexec hb (dc_89 (b_Law_law_0 (k := 1) rfl)) rfl ?_
  refine lw_call (M := M_Law_law) (Mc := M_House_init) (y := y_House_init) (n2 := 11088) (sl := 241655) hC hS1 (ct_House_init l _ _ _ (jx_id 0 1) [] H1 hlok (hsubH _ (hd_House 0)) ⟨hstd, rfl, hsubH, rfl⟩) ?_ ?_ hl.1 (jx_in_tb (jx_t1 (List.mem_of_getElem? (i := 33) rfl)) rfl) (jx_in_tb (jx_t1 (List.mem_of_getElem? (i := 1) rfl)) rfl) (jx_in_tb (jx_t1 (List.mem_of_getElem? (i := 31) rfl)) rfl) (jx_in_tb (jx_t1 (List.mem_of_getElem? (i := 32) rfl)) rfl) rfl ⟨by decide, by decide, by decide +kernel⟩ rfl (Nat.le_of_ble_eq_true rfl) (by decide) (by decide) (dc_183 (b_Law_law_0 (k := 2) rfl) rfl) (fun t2 H2 locs2 ht2 hB2 hz2 hk2 hS2 => ?_)
  · rintro a U g mk ⟨q1, q2, q3, q4, q5⟩
    exact ⟨q1, q2, q3.to (State.WarmedH.refl U) (fun _ _ _ => rfl), q4.to (State.WarmedH.refl U) (fun _ _ _ => rfl), fun hk => absurd hk (by decide)⟩
  · intro U hU hW
    exact ⟨hU, hB1, hK.to hW (fun a h1 h2 => by rw [hU]; exact hS1.2.1 a h1 h2), hSX.to hW (fun a h1 h2 => by rw [hU]; exact hS1.2.1 a h1 h2), fun hk => absurd hk (by decide)⟩
  obtain ⟨fs2, hB2, hfs2⟩ := hB2
  rw [ht2] at hB2
  refine lv_astore_n hexec hb (i := 1) (dc_76 (b_Law_law_0 (k := 3) rfl)) rfl hl (by decide) rfl (fun ls2 hl2 => ?_)
  have hsz2 : H2.size = jx_ad (jx_L1 s.heap.size b D dA st op 0 0) (jx_id 11088 0) 0 := by
    have := hB2.1
    rw [aH] at this
    rw [aM]
    exact this
  refine lw_new (M := M_Law_law) (σ := jx_s0) hC hS2 (jx_id 11088 0) 0 100 hsz2 (by decide) (jx_in_tb (jx_t8 (List.mem_of_getElem? (i := 192) rfl)) rfl) (jx_in_tb (jx_t8 (List.mem_of_getElem? (i := 193) rfl)) rfl) (jx_in_tb (jx_t1 (List.mem_of_getElem? (i := 21) rfl)) rfl) (by decide) (by decide) (dc_187 (b_Law_law_0 (k := 4) rfl) rfl) (fun H3 hB3 o3 hS3 => ?_)
  refine lv_dup hexec hb (dc_89 (b_Law_law_0 (k := 5) rfl)) rfl ?_
  have hcel : ∀ y g, (y, g) ∈ jx_cs (jx_L1 s.heap.size b D dA st op 0 0) → (jx_ad (jx_L1 s.heap.size b D dA st op 0 0) y g < jx_ad (jx_L1 s.heap.size b D dA st op 0 0) (jx_id 11088 0) 0 ∧ jx_at (jx_L1 s.heap.size b D dA st op 0 0) jx_s0 H3 y g) ∨ (jx_ad (jx_L1 s.heap.size b D dA st op 0 0) (jx_id 11088 0) 0 ≤ jx_ad (jx_L1 s.heap.size b D dA st op 0 0) y g ∧ jx_ad (jx_L1 s.heap.size b D dA st op 0 0) y g < jx_ad (jx_L1 s.heap.size b D dA st op 0 0) (jx_id 11088 0) 0 + 88) := by
    intro y g hy
    rw [aM]
    rcases jx_L1_split y g hy with ⟨h1, h2, h3⟩ | ⟨h1, h2, h3⟩
    · refine Or.inl ⟨h3, ?_⟩
      have hlt : jx_ad (jx_L1 s.heap.size b D dA st op 0 0) y g < H2.size := by rw [hsz2, aM]; exact h3
      refine jx_at_kept (H := H2) ?_ (o3 _ hlt)
      rcases Nat.lt_or_eq_of_le h2 with q | q
      · rcases hB2.2.2.1 y g hy (by rw [aH]; exact q) (by rw [aH]; exact h3) with ⟨-, i, z⟩ | z
        · cases z
        · exact z
      · have := hlok.1 (y, g) (jx_id 0 1, 0) hy (hsubH _ (hd_House 0)) (by show jx_ad _ y g = jx_ad _ (jx_id 0 1) 0; rw [aH]; exact q.symm)
        cases this
        unfold jx_at
        rw [if_pos rfl, hstd.2.1 0 1 (by decide)]
        exact hB2.2.1.to (fun j hj => hfs2 j hj)
    · exact Or.inr ⟨h2, by omega⟩
  refine lw_call (M := M_Law_law) (Mc := M_Model_init) (y := y_Model_init) (n2 := 88) (sl := 178185) hC hS3 (ct_Model_init l _ _ H3 e1 σ1 hlok (hsubM _ (hd_Model 11088)) hstd hsubM jx_L1_288 hrunM) ?_ ?_ hl2.1 (jx_in_tb (jx_t8 (List.mem_of_getElem? (i := 196) rfl)) rfl) (jx_in_tb (jx_t1 (List.mem_of_getElem? (i := 21) rfl)) rfl) (jx_in_tb (jx_t8 (List.mem_of_getElem? (i := 194) rfl)) rfl) (jx_in_tb (jx_t8 (List.mem_of_getElem? (i := 195) rfl)) rfl) rfl ⟨by decide, by decide, by decide +kernel⟩ rfl (Nat.le_of_ble_eq_true rfl) (by decide) (by decide) (dc_183 (b_Law_law_0 (k := 6) rfl) rfl) (fun t4 H4 locs4 ht4 hB4 hz4 hk4 hS4 => ?_)
  · rintro a U g mk ⟨⟨q1, q2, q3, q4, q5⟩, q6, q7⟩
    exact ⟨⟨q1, q2, q3.to (State.WarmedH.refl U) (fun _ _ _ => rfl), q4.to (State.WarmedH.refl U) (fun _ _ _ => rfl), fun hk => absurd hk (by decide)⟩, q6, q7⟩
  · intro U hU hW
    exact ⟨⟨hU, hB3, hK.to hW (fun a h1 h2 => by rw [hU]; exact hS3.2.1 a h1 h2), hSX.to hW (fun a h1 h2 => by rw [hU]; exact hS3.2.1 a h1 h2), fun hk => absurd hk (by decide)⟩, jx_L1_tok, hcel⟩
  obtain ⟨hrep4, htok4⟩ := hB4
  rw [ht4] at hrep4
  refine lv_astore_n hexec hb (i := 2) (dc_77 (b_Law_law_0 (k := 7) rfl)) rfl hl2 (by decide) rfl (fun ls4 hl4 => ?_)
  -- the loop
  have hlok0 := jx_L0_lok (n := n) (D := D) (dA := dA) (st := st) (nc := 11176) (ns := 419971) hbs hn hop
  have hC0 : jx_C M_Law_law (jx_L0 s.heap.size b n D dA st op 11176 419971) (fun q => s.heap.size ≤ q) p room_1 s m #[Value.ref b] meth c := ⟨hexec, hb, hml, hown, hts, jx_K_L hK, hlok0, ⟨rfl, rfl, Nat.le_of_ble_eq_true rfl, Nat.le_of_ble_eq_true rfl⟩, ⟨hret, hlocks⟩, hexc⟩
  have hf : ∀ i : Int, 0 ≤ i → i < (n : Int) → -2147483648 ≤ (xs i.toNat).toInt ∧ (xs i.toNat).toInt ≤ 2147483647 := fun i _ _ => ⟨Int32.le_toInt _, by have := Int32.toInt_lt (xs i.toNat); omega⟩
  have hln : jx_ln ((1000000 + n : Nat) : Int) 288 = (n : Int) := by unfold jx_ln; rw [if_pos rfl]; omega
  have hI : jx_I M_Law_law (jx_L0 s.heap.size b n D dA st op 11176 419971) (fun q => s.heap.size ≤ q) [101, 11, 10, 0] s [jx_ac 288 ((1000000 + n : Nat) : Int), jx_id 0 1, jx_id 11088 0, 0] (jx_ws σ1 (fun i => (xs i.toNat).toInt)) H4 locs4 ls4 := by
    refine ⟨?_, jx_ws_tok htok4 hf, hS4, hl4.1, rfl, hl4.2.1, ?_⟩
    · intro y g hy
      rcases List.mem_append.mp hy with hy | hy
      · have h288 : g ≠ 288 := jx_L1_288 (base := s.heap.size) (b := b) (D := D) (dA := dA) (st := st) (op := op) (nc := 0) (ns := 0) (y, g) hy
        exact jx_rp_a (jx_at_L h288 (jx_rep_a hrep4 hy h288)) h288
      · obtain ⟨rfl, rfl⟩ := Prod.mk.inj (List.mem_singleton.mp hy)
        unfold jx_rp
        rw [if_pos rfl]
        obtain ⟨scr, x1, x2, x3, x4, x5⟩ := hX
        have hb4 : H4[b]? = some scr := by
          rw [hS4.2.1 b hbs (by omega), x1]
        have had : jx_ad (jx_L0 s.heap.size b n D dA st op 11176 419971) ((1000000 + n : Nat) : Int) 288 = b := jx_ad_S
        refine ⟨scr, by rw [had]; exact hb4, hcl scr x1, x2.1, x3, by rw [x4, hln]; rfl, fun j hj => ?_⟩
        rw [hln] at hj
        rw [x5 j (by simpa using hj)]
        have e : jx_ws σ1 (fun i => (xs i.toNat).toInt) ((1000000 + n : Nat) : Int) 288 (j : Int) = (xs j).toInt := by
          unfold jx_ws
          rw [if_pos rfl]
          simp
        rw [e, jx_v1, Int32.ofInt_toInt]
    · intro i t hi ht
      match i, hi with
      | 0, hi =>
        cases hi
        have v1 : jx_ac 288 ((1000000 + n : Nat) : Int) / 1024 = ((1000000 + n : Nat) : Int) := by unfold jx_ac; omega
        have v2 : (jx_ac 288 ((1000000 + n : Nat) : Int) % 1024).toNat = 288 := by unfold jx_ac; omega
        have v3 : jx_ac 288 ((1000000 + n : Nat) : Int) ≠ 0 := by unfold jx_ac; omega
        have v4 : 0 < jx_ac 288 ((1000000 + n : Nat) : Int) := by unfold jx_ac; omega
        refine ⟨?_, ?_⟩
        · show ls4[0]? = some (.val (jx_v _ (100 + 1) (jx_ac 288 ((1000000 + n : Nat) : Int))))
          rw [jx_varr v3, v1, v2]
          rw [jx_ad_S]
          exact hl4.2.2 (0, .ref b) (by simp [Value.category])
        · show jx_ok _ 101 (jx_ac 288 ((1000000 + n : Nat) : Int))
          refine Or.inr ⟨v4, ?_, ?_⟩
          · rw [v1, v2]
            exact List.mem_append.mpr (Or.inr (List.mem_singleton.mpr rfl))
          · rw [v2]
            rfl
      | 1, hi =>
        cases hi
        refine ⟨?_, Or.inr ⟨List.mem_append.mpr (Or.inl (List.mem_append.mpr (Or.inl (hd_House 0)))), rfl⟩⟩
        show ls4[1]? = some (.val (jx_v (jx_L0 s.heap.size b n D dA st op 11176 419971) (10 + 1) (jx_id 0 1)))
        rw [jx_vobj (by decide) (by decide), jx_ad_L]
        exact hl4.2.2 (1, .ref (jx_ad (jx_L1 s.heap.size b D dA st op 0 0) (jx_id 0 1) 0)) (by simp [Value.category])
      | 2, hi =>
        cases hi
        refine ⟨?_, Or.inr ⟨List.mem_append.mpr (Or.inl (List.mem_append.mpr (Or.inr (hd_Model 11088)))), rfl⟩⟩
        show ls4[2]? = some (.val (jx_v (jx_L0 s.heap.size b n D dA st op 11176 419971) (10 + 0) (jx_id 11088 0)))
        rw [jx_vobj (by decide) (by decide), jx_ad_L]
        exact hl4.2.2 (2, .ref (jx_ad (jx_L1 s.heap.size b D dA st op 0 0) (jx_id 11088 0) 0)) (by simp [Value.category])
      | 3, hi => cases hi; exact absurd rfl ht
  intro T hT X
  obtain ⟨t, a1, o, d1, d2, ⟨r', s', ⟨rfl, rfl⟩, d3, d4, d5⟩, d6, Lc, d7, d8⟩ := t_Law_law (jx_L0 s.heap.size b n D dA st op 11176 419971) (fun q => s.heap.size ≤ q) p l e room_1 s m #[Value.ref b] below meth c (fun r' s' => r' = .ok 1 ∧ s' = σ2) hC0 _ _ _ _ ls4 hI _ _ _ hrunL ⟨rfl, rfl⟩ T hT X
  refine ⟨t, a1, o, d1, d2, d3.1, ⟨_, d3.1⟩, d7.1, ?_⟩
  exact (State.sameButNew.drop_fresh (L := []) (J := Lc) d7.2 d8).mono (Nat.le_of_ble_eq_true rfl) (Nat.le_of_ble_eq_true rfl)
end
