/-! Op.values(): by hand, then printed by opsgen.py -/
def jx_opF (L : jx_L) (j : Nat) : Value := .ref (jx_op L ((j : Int) + 1))
def jx_vP (L : jx_L) (A : Nat → Prop) (Hs : Heap) (U : State) : Prop := U.heap = Hs ∧ jx_K L A U ∧ jx_SX L A U
def jx_vQ (L : jx_L) (Hs : Heap) (_ : Unit) (ra : Nat) (t : State) : Prop := ra = Hs.size ∧ t.heap.size = Hs.size + 1 ∧ t.heap[Hs.size]? = some (arrV (jx_dA L 6) 27 (jx_opF L)) ∧ ∀ q : Nat, q < Hs.size → t.heap[q]? = Hs[q]?
section
variable {p : Program} {l : Launch} {e : Env} {R : Room} {s : State} {m : MethodId} {args : Array Value} {below : List Frame} {meth : Method} {c : Code} {H : Heap} {locs : List Loc} {cells slots : Nat} {Q : State → Prop} {cc : ByteArray} {pc : Nat} {ls : Array Slot} {rest : List Value} {a : Nat}
/-- an array of references is cloned: the new cell is the next one -/
theorem b_clone (hexec : p.tables.exec = Jvm.exec) (hb : c.code = cc) (hml : c.maxLocals = ls.size) {own ad : String} {index : Nat} (hown : s.vm.findClass own = some m.cls)
    (hlink : (Cond.methodLink own index ⟨ad, "clone", "()Ljava/lang/Object;"⟩).before args s = true) (hsame : (Cond.sameMethod ad "java/lang/Object" "clone" "()Ljava/lang/Object;").before args s = true)
    (hnat : (Cond.native ⟨"java/lang/Object", "clone", "()Ljava/lang/Object;"⟩).before args s = true) (hinst : (Cond.instanceMethod ⟨"java/lang/Object", "clone", "()Ljava/lang/Object;"⟩).before args s = true)
    (hsel : (Cond.selects ad ⟨ad, "clone", "()Ljava/lang/Object;"⟩ ⟨"java/lang/Object", "clone", "()Ljava/lang/Object;"⟩).before args s = true) (hcl : va_Nw (.castable ad "java/lang/Cloneable") s)
    {cA : ClassId} {n : Nat} {f : Nat → Value} {ty : FieldType} {cell : Cell} (hcell : H[a]? = some cell) (hq : cell.cls = cA ∧ cell.slots = (arrV cA n f).slots ∧ (∀ k, cell.vm ≠ .statics k) ∧ cell.vm ≠ .unknown) (hArr : ArrOfT s cA ty) (hnm : s.vm.findClass ad = some cA) (hfit : ∀ i : Nat, i < n → fits ty (f i) = true)
    (hframes : 1 ≤ R.frames) (hlocals : (rest.map fun v => v.category).sum + 14 ≤ R.locals) (hcells : cells + 1 ≤ R.cells) (hslots : slots + n ≤ R.slots) (hdg : decode cc pc = .ok (.invokevirtual index, 3))
    (kk : ∀ H1 : Heap, H1[H.size]? = some (arrV cA n f) → H1.size = H.size + 1 → (∀ q : Nat, q < H.size → H1[q]? = H[q]?) → W p l e R s m args below meth c H1 locs (cells + 1) (slots + n) Q (F0 m (pc + 3) ls (.ref H.size :: rest))) : W p l e R s m args below meth c H locs cells slots Q (F0 m pc ls (.ref a :: rest)) := by
  obtain ⟨rfl, hq1, hq2, hq3⟩ := hq
  have hsz : (arrV cell.cls n f).slots.size = n := arrV_size _ _ _
  obtain ⟨c0, t0, f1, f2, f3⟩ := Cond.castable_spec (va_Nw.use (A := args) rfl hcl)
  cases hnm.symm.trans f1
  intro T hT X
  have hcellT : T.heap[a]? = some cell := by rw [hT]; exact hcell
  obtain ⟨-, kA, hkA, comp, hkind⟩ := State.isArrayOf_alike X.warmed.alike (hArr 0 (fun _ => .null))
  obtain ⟨-, kS, hkS, compS, hkindS⟩ := hArr 0 (fun _ => .null)
  obtain ⟨vm', X', st⟩ := X.cloneArray hexec hown hlink hsame hnat hinst hsel (a := a) (cell := cell) hcellT hq2 hq3 hnm f2 f3
    (fun i v hv => by
      have hk' : T.vm.classes[cell.cls]? = some kA := hkA
      rw [hq1] at hv
      simpa [State.fitsSlot, State.slotType?, hk', hkind] using va_fit hfit i v hv)
    (g := F0 m pc ls (.ref a :: rest)) rfl (by rw [hml]) rfl (by rw [hb]; exact hdg) hframes (by show 2 * 0 + _ + 14 ≤ _; omega) hcells (by rw [hq1, hsz]; exact hslots) (hloader := Vm.clonesLoader_of_array hkS hkindS)
  have hcellE : ({ cls := cell.cls, slots := cell.slots } : Cell) = arrV cell.cls n f := by rw [hq1]; rfl
  have hsz2 : cell.slots.size = n := by rw [hq1]; exact hsz
  rw [hcellE, hsz2] at X'
  generalize hH1 : H.push (arrV cell.cls n f) = H1
  have z1 : H1.size = H.size + 1 := by rw [← hH1, Array.size_push]
  have e1 : H1[H.size]? = some (arrV cell.cls n f) := by rw [← hH1, Array.getElem?_push_size]
  have o1 : ∀ q : Nat, q < H.size → H1[q]? = H[q]? := fun q hq => by rw [← hH1, Array.getElem?_push, if_neg (Nat.ne_of_lt hq)]
  obtain ⟨t, b1, b2⟩ := kk H1 e1 z1 o1 ((T.setVm vm').pushCell (arrV cell.cls n f)) (by rw [← hH1, ← hT]; rfl) X'
  refine ⟨t, st t ?_, b2⟩
  rw [hcellE, hT]
  exact b1
theorem b_cast (hexec : p.tables.exec = Jvm.exec) (hb : c.code = cc) {own nm : String} {index : Nat} (hown : s.vm.findClass own = some m.cls) (hlink : (Cond.classLink own index nm).before args s = true) {cA : ClassId} {n : Nat} {f : Nat → Value} (hcell : H[a]? = some (arrV cA n f)) (hnm : s.vm.findClass nm = some cA) (hdg : decode cc pc = .ok (.checkcast index, 3))
    (k : W p l e R s m args below meth c H locs cells slots Q (F0 m (pc + 3) ls (.ref a :: rest))) : W p l e R s m args below meth c H locs cells slots Q (F0 m pc ls (.ref a :: rest)) := by
  intro T hT X
  obtain ⟨vm', X', st⟩ := X.checkcastYes hexec hown hlink (by rw [hT]; exact hcell) rfl hnm (va_asg _ _) (g := F0 m pc ls (.ref a :: rest)) rfl rfl (by rw [hb]; exact hdg)
  obtain ⟨t, a1, b1⟩ := k (T.setVm vm') hT X'
  exact ⟨t, st t a1, b1⟩
end
def y_Op_values : MethodName := ⟨"LiveHouse$Op", "values", "()[LLiveHouse$Op;"⟩
def M_Op_values : jx_M := ("LiveHouse$Op", prog_10_method_1_code, 0, 1, 30, 106, some (.array (.object "LiveHouse$Op")), [])
def P_Op_values_0 : List (Nat × List Nat) := [(0, [178, 0, 85]), (3, [182, 0, 89]), (6, [192, 0, 90]), (9, [176])]
theorem b_Op_values_0 {k q : Nat} {bs : List Nat} (h : P_Op_values_0[k]? = some (q, bs)) : jx_B (jx_cc M_Op_values) q bs := jx_chk_at 0 P_Op_values_0 (by decide +kernel) k q bs h
theorem ct_Op_values : ∀ (l : Launch) (L : jx_L) (A : Nat → Prop) (Hs : Heap), jx_lok L A → A Hs.size → Met l y_Op_values (Cond.code y_Op_values (jx_cc M_Op_values) (jx_nl M_Op_values) (jx_re M_Op_values) :: jx_tb) { frames := 1, cells := 1, slots := 27, locals := 30 } (va_Pc [] (jx_vP L A Hs)) (va_Qr (fun _ : Unit => True) (jx_vQ L Hs) A) 1 27 A := by
  intro l L A Hs hL hAs
  refine Met.ofW (cc := jx_cc M_Op_values) (maxL := jx_nl M_Op_values) (ret := jx_re M_Op_values) (by decide) rfl ?_
  intro p e s m args below meth c s₁ B hml hv
  obtain ⟨rfl, hHs, hK, hSX⟩ := hv
  subst hHs
  have hts := atoms_spec (ws := Cond.code y_Op_values (jx_cc M_Op_values) (jx_nl M_Op_values) (jx_re M_Op_values) :: jx_tb) B.pre
  have ht : ∀ w ∈ jx_tb, w.before (([] : List Value).toArray) s = true := fun w hw => hts w (List.mem_cons_of_mem _ hw)
  have hown : s.vm.findClass "LiveHouse$Op" = some m.cls := findClass_of_methodNamed B.named
  have hlocks := B.notSynchronized
  obtain ⟨-, -, -, w, hw1, hw2, ⟨cellV, hw3, hw3b⟩, hw4, B0, hB0⟩ := hSX
  have hBs : B0 ≤ s.heap.size := (hB0 _).mp hAs
  obtain ⟨i0, hi0⟩ := List.mem_iff_getElem?.mp (show 6 ∈ jx_atl by decide)
  obtain ⟨hArr, hra⟩ := hK.1.2 i0 (jx_dA L 6, jx_fty0 6) (by show (jx_atl.map _)[i0]? = _; rw [List.getElem?_map, hi0]; rfl)
  obtain ⟨kA, comp, k1, k2, k3, k4⟩ := hra
  have hnm : s.vm.findClass "[LLiveHouse$Op;" = some (jx_dA L 6) := by
    have e9 : "[" ++ (FieldType.object "LiveHouse$Op").toString = "[LLiveHouse$Op;" := by decide +kernel
    rw [← e9]
    exact k4
  have hl := lv_entry ([] : List Value) (n := jx_nl M_Op_values) (Nat.le_of_ble_eq_true rfl)
  rw [lg_entry_eq]
  generalize (lg_sl ([] : List Value) ++ List.replicate (jx_nl M_Op_values - (lg_sl ([] : List Value)).length) Slot.unset).toArray = ls at hl ⊢
  have hS : va_S A s.heap s.heap [] := va_S.rf
  refine va_gets B.exec B.bytes hw1 hS hown (ht _ (jx_in_tb (jx_t1 (List.mem_of_getElem? (i := 166) rfl)) rfl)) (fun _ h9 => h9) (dc_178 (b_Op_values_0 (k := 0) rfl) rfl) ?_
  refine b_clone B.exec B.bytes (by rw [hml]; exact hl.1.symm) hown (ht _ (jx_in_tb (jx_t1 (List.mem_of_getElem? (i := 168) rfl)) rfl)) (ht _ (jx_in_tb (jx_t1 (List.mem_of_getElem? (i := 169) rfl)) rfl)) (ht _ (jx_in_tb (jx_t1 (List.mem_of_getElem? (i := 170) rfl)) rfl)) (ht _ (jx_in_tb (jx_t1 (List.mem_of_getElem? (i := 171) rfl)) rfl)) (ht _ (jx_in_tb (jx_t1 (List.mem_of_getElem? (i := 172) rfl)) rfl)) hw4 hw3 hw3b hArr hnm (fun _ _ => rfl) (Nat.le_of_ble_eq_true rfl) (Nat.le_of_ble_eq_true rfl) (Nat.le_of_ble_eq_true rfl) (Nat.le_of_ble_eq_true rfl) (dc_182 (b_Op_values_0 (k := 1) rfl) rfl) (fun H1 e1 z1 o1 => ?_)
  refine b_cast B.exec B.bytes hown (ht _ (jx_in_tb (jx_t1 (List.mem_of_getElem? (i := 175) rfl)) rfl)) e1 hnm (dc_192 (b_Op_values_0 (k := 2) rfl) rfl) ?_
  have hS1 : va_S A s.heap H1 [] := ⟨by omega, fun q h1 h2 => o1 q h1, fun q h => by cases h⟩
  exact W.aret B.exec B.bytes B.returns (Or.inr ⟨_, rfl⟩) (Or.inr ⟨_, rfl⟩) (fun t ht2 hW => by subst ht2; exact ⟨⟨(), s.heap.size, rfl, trivial, rfl, z1, e1, o1⟩, hS1.F rfl⟩) hS1.2.2 (dc_176 (b_Op_values_0 (k := 3) rfl))
section
variable {M : jx_M} {L : jx_L} {A : Nat → Prop} {p : Program} {l : Launch} {e : Env} {R : Room} {s : State} {m : MethodId} {args : Array Value} {below : List Frame} {meth : Method} {c : Code} {Q : State → Prop} {H0 H : Heap} {locs : List Loc} {ls : Array Slot} {st : List Value} {cells slots : Nat} {r k n : Nat} {ex : List (Nat × Nat)} {fs : Nat → Value} {pc idx : Nat}
/-- Op.values(): the array of the field 151 -/
theorem b_ops (hC : jx_CK M L A p R s m args meth c) (hstd : jx_std L jx_s0) (hB : jx_bd L jx_s0 (jx_id r 3) 3 n ex fs H0 H) (hS : va_S A s.heap H locs) (hxg : (jx_id r 3, 151) ∈ jx_cs L) (hn : jx_ao 151 = n) (h0 : 0 < n) (hls : ls.size = jx_nl M) (hlk : Cond.methodLink (jx_own M) idx y_Op_values ∈ jx_tb) (hfr : 2 ≤ R.frames) (hlo : 8 + (jx_nl M_Op_values + 11) + 30 ≤ R.locals) (hst : jx_ct st ≤ 8) (hcells : cells + 1 ≤ R.cells) (hslots : slots + 27 ≤ R.slots) (d : decode (jx_cc M) pc = .ok (.invokestatic idx, 3))
    (kk : ∀ H' locs', jx_bd L jx_s0 (jx_id r 3) 3 (n + 1) ex fs H0 H' → va_S A s.heap H' locs' → W p l e R s m args below meth c H' locs' (cells + 1) (slots + 27) Q (F0 m (pc + 3) ls (.ref (jx_ad L (jx_id r 3) 151) :: st))) : W p l e R s m args below meth c H locs cells slots Q (F0 m pc ls st) := by
  obtain ⟨hexec, hb, hml, hown, hts, hK, hL, -, -, -, -, hSX⟩ := hC
  have had := jx_sad hstd (r := r) (k := 3) (g := 151) (by decide) (by decide) hn
  have hAs : A H.size := by
    have := hL.2.1 (jx_id r 3, 151) hxg (show (151 : Nat) ≠ jx_script by decide)
    rw [hB.1, ← had]
    exact this
  have hcw : Cond.code y_Op_values (jx_cc M_Op_values) (jx_nl M_Op_values) (jx_re M_Op_values) ∈ jx_tb := (jx_in_tb (jx_t1 (List.mem_of_getElem? (i := 165) rfl)) rfl)
  have hini : Cond.initialized y_Op_values.cls ∈ jx_tb := (jx_in_tb (jx_t1 (List.mem_of_getElem? (i := 9) rfl)) rfl)
  have hstt : Cond.static y_Op_values ∈ jx_tb := (jx_in_tb (jx_t1 (List.mem_of_getElem? (i := 164) rfl)) rfl)
  have hws : ∀ w ∈ Cond.code y_Op_values (jx_cc M_Op_values) (jx_nl M_Op_values) (jx_re M_Op_values) :: jx_tb, ∀ (a' : Array Value) (U : State), s.WarmedH U.vm → w.before a' U = true := by
    intro w hw a' U hW
    rcases List.mem_cons.mp hw with rfl | hw
    · exact jx_warm (L := L) (A := A) hts hW _ hcw a'
    · exact jx_warm (L := L) (A := A) hts hW _ hw a'
  have hcw2 : CallB R s args (jx_own M) idx y_Op_values (jx_cc M_Op_values) (jx_nl M_Op_values) (jx_re M_Op_values) (Cond.code y_Op_values (jx_cc M_Op_values) (jx_nl M_Op_values) (jx_re M_Op_values) :: jx_tb) { frames := 1, cells := 1, slots := 27, locals := 30 } 1 27 0 :=
    ⟨rfl, rfl, hfr, hlo, hws, List.mem_cons_self, hts _ hcw, hts _ hini, ⟨by decide, by decide⟩, fun sig h => by
      have h2 : (parseMethodDescriptor y_Op_values.desc).map (fun d => d.parameters.length) = some 0 := by decide +kernel
      rw [h] at h2
      exact (Option.some.inj h2).symm, hts _ hlk⟩
  have hp : PreS s H (va_Pc [] (jx_vP L A H)) [] := by
    refine ⟨fun a' U g mk q => ?_, fun U hU hW => ⟨rfl, hU, ?_, ?_⟩⟩
    · obtain ⟨q0, q1, q2, q3⟩ := q
      exact ⟨q0, q1, q2.to (State.WarmedH.refl U) (fun _ _ _ => rfl), q3.to (State.WarmedH.refl U) (fun _ _ _ => rfl)⟩
    · exact hK.to hW (fun q h1 h2 => by rw [hU]; exact hS.2.1 q h1 h2)
    · exact hSX.to hW (fun q h1 h2 => by rw [hU]; exact hS.2.1 q h1 h2)
  refine va_callr (va_runS (As := []) (rest := st) (Ts := jx_tb) ⟨hexec, hb, hml, hown, hts⟩ (ct_Op_values l L A H hL hAs) ⟨hcw2, hts _ hstt⟩ hp rfl rfl hls rfl (lv_room hst) d ⟨hcells, hslots⟩) hS (fun q _ h => h) (fun q h => h) (fun u ra t H1 locs1 ht hvm _ hB1 hz hk hS1 => ?_)
  obtain ⟨rfl, g2, g3, g4⟩ := hB1
  rw [ht] at g2 g3 g4
  have hat : jx_at L jx_s0 H1 (jx_id r 3) 151 := by
    unfold jx_at
    rw [if_neg (by decide), had, ← hB.1, g3]
    refine congrArg some (jx_arrV_ext fun j hj => ?_)
    show Value.ref _ = jx_v L 6 _
    have hs0 : jx_s0 (jx_id r 3) 151 (j : Int) = (j : Int) + 1 := rfl
    rw [hs0, jx_vr (by decide)]
    unfold jx_r
    rw [if_neg (by omega)]
    rfl
  have r1 := (b_push hL hB hS hxg had h0 g2 g4 (Or.inr ⟨rfl, hat⟩)).1
  have := kk H1 locs1 r1 hS1
  rw [had, ← hB.1] at this
  exact this
end
