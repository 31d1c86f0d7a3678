/-! CONSTRUCTORS: an object under construction -/
/-- classes whose arrays are made -/
def jx_oar (t : Nat) : Bool := [2, 4, 6, 8, 10, 13, 15].contains t
/-- what stands still besides: classes of arrays, three statics, the array of all Op constants -/
def jx_SX (L : jx_L) (A : Nat → Prop) (U : State) : Prop :=
  (∀ t, jx_oar t = true → va_AO (jx_cn t) U) ∧ (∃ a : Option Nat, va_Z "java/lang/Throwable" "UNASSIGNED_STACK" "[Ljava/lang/StackTraceElement;" (va_rf a) A U U.heap) ∧ (∃ a : Option Nat, va_Z "java/lang/Throwable" "SUPPRESSED_SENTINEL" "Ljava/util/List;" (va_rf a) A U U.heap) ∧
  ∃ w, va_Z "LiveHouse$Op" "$VALUES" "[LLiveHouse$Op;" (.ref w) A U U.heap ∧ ¬ A w ∧ (∃ cell : Cell, U.heap[w]? = some cell ∧ cell.cls = jx_dA L 6 ∧ cell.slots = (arrV (jx_dA L 6) 27 (fun j => .ref (jx_op L ((j : Int) + 1)))).slots ∧ (∀ k, cell.vm ≠ .statics k) ∧ cell.vm ≠ .unknown) ∧ va_Nw (.castable "[LLiveHouse$Op;" "java/lang/Cloneable") U ∧ ∃ B : Nat, ∀ q, A q ↔ B ≤ q
theorem jx_SX.to {L : jx_L} {A : Nat → Prop} {u U : State} (h : jx_SX L A u) (hW : u.WarmedH U.vm) (hH : ∀ a : Nat, a < u.heap.size → ¬ A a → U.heap[a]? = u.heap[a]?) : jx_SX L A U := by
  obtain ⟨h1, ⟨a, h2⟩, ⟨b, h3⟩, w, h4, h5, ⟨cell, h6, h6b⟩, h7, h8⟩ := h
  exact ⟨fun t ht => (h1 t ht).moved hW.alike, ⟨a, (va_Z.moved hW.alike h2).kept hH⟩, ⟨b, (va_Z.moved hW.alike h3).kept hH⟩, w, (va_Z.moved hW.alike h4).kept hH, h5, ⟨cell, by rw [hH w (Array.getElem?_eq_some_iff.mp h6).1 h5]; exact h6, h6b⟩, va_Nw.warmC hW h7, h8⟩
/-- the fields of a Refusal with those that Throwable's constructor sets -/
def jx_T6 : u_T := fun j => [("LiveHouse$Refusal", "fault", "I", false), ("LiveHouse$Refusal", "line", "I", false), ("java/lang/Throwable", "cause", "Ljava/lang/Throwable;", false), ("java/lang/Throwable", "stackTrace", "[Ljava/lang/StackTraceElement;", false), ("java/lang/Throwable", "suppressedExceptions", "Ljava/util/List;", false), ("java/lang/Throwable", "detailMessage", "Ljava/lang/String;", false)].getD j ("", "", "", false)
def jx_R6 (L : jx_L) (x : Int) (U : State) (H : Heap) : Prop := ∃ iS V, u_Kn U "LiveHouse$Refusal" jx_T6 6 ((jx_D L).1 12) iS ∧ t_OB (jx_ad L x 0) ((jx_D L).1 12) 6 iS H V
/-- what is known in a constructor's walk -/
def jx_CK (M : jx_M) (L : jx_L) (A : Nat → Prop) (p : Program) (R : Room) (s : State) (m : MethodId) (args : Array Value) (meth : Method) (c : Code) : Prop :=
  p.tables.exec = Jvm.exec ∧ c.code = jx_cc M ∧ c.maxLocals = jx_nl M ∧ s.vm.findClass (jx_own M) = some m.cls ∧ (∀ w ∈ jx_tb, w.before args s = true) ∧ jx_K L A s ∧ jx_lok L A ∧ (R.frames = jx_fr M ∧ R.locals = jx_lo M) ∧ meth.sig.returnType = none ∧ meth.locks = false ∧ meth.name = "<init>" ∧ jx_SX L A s
/-- the array of the field g is filled up to i -/
def jx_pa (L : jx_L) (σ : jx_S) (H : Heap) (x : Int) (g i : Nat) : Prop := H[jx_ad L x g]? = some (arrV (jx_dA L (jx_ft g - 100)) (jx_ln x g).toNat (fun j => if j < i then jx_v L (jx_ft g - 100) (σ x g (j : Int)) else .null))
/-- the object x of class k: n cells from its own on are there, those behind it (but the arrays of its fields 'ex') as they will be; its own fields are fs; below all is as it was -/
def jx_bd (L : jx_L) (σ : jx_S) (x : Int) (k n : Nat) (ex : List (Nat × Nat)) (fs : Nat → Value) (H0 H : Heap) : Prop :=
  H.size = jx_ad L x 0 + n ∧ t_OB (jx_ad L x 0) ((jx_D L).1 k) (jx_nf k) ((jx_D L).2 k) H fs ∧
  (∀ y g, (y, g) ∈ jx_cs L → jx_ad L x 0 < jx_ad L y g → jx_ad L y g < jx_ad L x 0 + n → (y = x ∧ ∃ i, (g, i) ∈ ex) ∨ jx_at L σ H y g) ∧ (∀ q : Nat, q < jx_ad L x 0 → H[q]? = H0[q]?) ∧
  ∀ h i, (h, i) ∈ ex → jx_ad L x 0 < jx_ad L x h ∧ jx_ad L x h < jx_ad L x 0 + n ∧ jx_pa L σ H x h i
theorem jx_arrV_ext {cI : ClassId} {N : Nat} {f f2 : Nat → Value} (h : ∀ j, j < N → f j = f2 j) : arrV cI N f = arrV cI N f2 := by
  unfold arrV
  congr 2
  funext j
  exact h j.val j.isLt
theorem jx_at_kept {L : jx_L} {σ : jx_S} {H H1 : Heap} {y : Int} {g : Nat} (h : jx_at L σ H y g) (he : H1[jx_ad L y g]? = H[jx_ad L y g]?) : jx_at L σ H1 y g := by
  unfold jx_at at h ⊢
  by_cases hg : g = 0
  · subst hg
    rw [if_pos rfl] at h ⊢
    exact h.kept he
  · rw [if_neg hg] at h ⊢
    rw [he]
    exact h
section
variable {M : jx_M} {L : jx_L} {A : Nat → Prop} {p : Program} {l : Launch} {e : Env} {R : Room} {s : State} {m : MethodId} {args : Array Value} {below : List Frame} {meth : Method} {c : Code} {Q : State → Prop} {H0 H : Heap} {locs : List Loc} {ls : Array Slot} {st : List Value} {cells slots : Nat} {σ : jx_S} {x : Int} {k n : Nat} {ex : List (Nat × Nat)} {fs : Nat → Value} {pc idx : Nat}
/-- a field of it is set -/
theorem b_put (hC : jx_CK M L A p R s m args meth c) (hB : jx_bd L σ x k n ex fs H0 H) (hS : va_S A s.heap H locs) (hx : (x, 0) ∈ jx_cs L) (j g : Nat) (hl : Cond.fieldLink (jx_own M) idx (jx_fd g).1 (jx_fd g).2.1 (jx_fd g).2.2.1 ∈ jx_tb) (hown : jx_own M = (jx_fd g).1) (hg : jx_fo k + j = g) (hk : k < 16) (hj : j < jx_nf k) {v : Value} (hv : narrow (jx_fty (jx_ft g)) v = v ∧ fits (jx_fty (jx_ft g)) v = true) (d : decode (jx_cc M) pc = .ok (.putfield idx, 3))
    (kk : ∀ H' locs', jx_bd L σ x k n ex (updV fs j v) H0 H' → va_S A s.heap H' locs' → W p l e R s m args below meth c H' locs' cells slots Q (F0 m (pc + 3) ls st)) : W p l e R s m args below meth c H locs cells slots Q (F0 m pc ls (v :: .ref (jx_ad L x 0) :: st)) := by
  obtain ⟨hexec, hb, -, hownc, hts, hK, hL, -, -, -, hin, -⟩ := hC
  obtain ⟨b1, ⟨cell, q1, q2, q3, q4⟩, b3, b4, b5⟩ := hB
  obtain ⟨hSl, hfc, kC, hkC, hkind⟩ := hK.1.1 k _ (jx_cls_at hk)
  obtain ⟨cf, kf, fi, f, hi, hsl⟩ := hSl j hj
  have hst := (u_facts hfc hkC (u_lays hts (jx_lay_ok hk) hj) hi).1
  obtain ⟨o1, o2, o3, o4⟩ := jx_own_ok k hk j hj
  have hty : ∀ i, i < jx_nf k → parseFieldDescriptor (jx_T k i).2.2.1 = some (jx_fty (jx_ft (jx_fo k + i))) := fun i hi => by
    obtain ⟨-, -, z3, z4⟩ := jx_own_ok k hk i hi
    exact jx_fty_ok _ z3 z4
  have hap := va_apart (own := jx_own M) hts (jx_lay_ok hk) (fun i => jx_fty (jx_ft (jx_fo k + i))) hty (jx_nm hk) hK.1 (jx_cls_at hk)
  have hlay := hts _ (jx_lay_ok hk _ (u_in_lay hj))
  have hTg : jx_T k j = jx_fd g := by rw [← hg]; rfl
  have hd : parseFieldDescriptor (jx_fd g).2.2.1 = some (jx_fty (jx_ft g)) := by rw [← hg]; exact jx_fty_ok _ o3 o4
  have hi : s.fieldFound? (jx_T k j).1 (jx_T k j).2.1 (jx_T k j).2.2.1 = some (cf, kf, fi, f) := hi
  rw [hTg] at hi
  have hAx : A (jx_ad L x 0) := hL.2.1 (x, 0) hx (show (0 : Nat) ≠ jx_script by decide)
  have fin : ∀ H', H'[jx_ad L x 0]? = some (cell.setSlot f.slot v) → H'.size = H.size → (∀ q, q ≠ jx_ad L x 0 → H'[q]? = H[q]?) → W p l e R s m args below meth c H' (locs ++ [⟨jx_ad L x 0, f.slot⟩]) cells slots Q (F0 m (pc + 3) ls st) := by
    intro H' e1 e2 e3
    rw [hsl] at e1
    refine kk H' _ ⟨by rw [e2]; exact b1, ⟨_, e1, q2, q3, t_set q4 hap hj v⟩, fun y h hy h1 h2 => ?_, fun q hq => (e3 q (by omega)).trans (b4 q hq), fun h i hi => ⟨(b5 h i hi).1, (b5 h i hi).2.1, by unfold jx_pa; rw [e3 _ (by have := (b5 h i hi).1; omega)]; exact (b5 h i hi).2.2⟩⟩ (hS.put e2 e3 hAx)
    rcases b3 y h hy h1 h2 with z | z
    · exact Or.inl z
    · exact Or.inr (jx_at_kept z (e3 _ (by omega)))
  unfold u_lay at hlay
  rw [hTg] at hlay
  by_cases hfin : (jx_fd g).2.2.2 = true
  · rw [if_pos hfin] at hlay
    have hcf : m.cls = cf := by
      obtain ⟨_, _, c', _, _, _, -, -, hf', -, -, -, hown2, -⟩ := Cond.laysFinal_spec hlay
      have e1 : c' = cf := by have := hi.symm.trans hf'; simp at this; exact this.1.symm
      rw [← hown] at hown2
      rw [← e1]
      exact Option.some.inj (hownc.symm.trans hown2)
    have h6 := u_fits hfc hkC hkind (Or.inr hlay) hi hd hv.1 hv.2
    exact W.putFinK hexec hb hownc (hts _ hl) hi hst hcf hin (by rw [q2]; exact h6) q1 q3 (by rw [hsl]; exact k2_hasslot (q4 j hj)) rfl rfl d fin
  · rw [if_neg hfin] at hlay
    have h6 := u_store hfc hkC hkind hlay hi hd hv.1 hv.2
    exact W.putK hexec hb (f := f) ⟨hownc, hts _ hl, ⟨_, _, _, hi⟩, hst⟩ (by rw [q2]; exact h6) q1 q3 (by rw [hsl]; exact k2_hasslot (q4 j hj)) rfl rfl d fin
/-- a cell is laid behind: it is the array of its field g -/
theorem b_push (hL : jx_lok L A) (hB : jx_bd L σ x k n ex fs H0 H) (hS : va_S A s.heap H locs) {g : Nat} {H1 : Heap} {ex1 : List (Nat × Nat)} (hxg : (x, g) ∈ jx_cs L) (had : jx_ad L x g = jx_ad L x 0 + n) (h0 : 0 < n) (z1 : H1.size = H.size + 1) (o1 : ∀ q, q < H.size → H1[q]? = H[q]?) (hn : (ex1 = (g, 0) :: ex ∧ jx_pa L σ H1 x g 0) ∨ (ex1 = ex ∧ jx_at L σ H1 x g)) : jx_bd L σ x k (n + 1) ex1 fs H0 H1 ∧ va_S A s.heap H1 locs := by
  obtain ⟨b1, b2, b3, b4, b5⟩ := hB
  have hex : ∀ i, i ∈ ex → i ∈ ex1 := by
    rcases hn with ⟨rfl, -⟩ | ⟨rfl, -⟩
    · exact fun i hi => List.mem_cons_of_mem _ hi
    · exact fun i hi => hi
  refine ⟨⟨by omega, b2.kept (o1 _ (by omega)), fun y h hy h1 h2 => ?_, fun q hq => (o1 q (by omega)).trans (b4 q hq), fun h i hi => ?_⟩, ⟨Nat.le_trans hS.1 (by omega), fun q h1 h2 => (o1 q (Nat.lt_of_lt_of_le h1 hS.1)).trans (hS.2.1 q h1 h2), hS.2.2⟩⟩
  · by_cases hlt : jx_ad L y h < jx_ad L x 0 + n
    · rcases b3 y h hy h1 hlt with ⟨rfl, i, z1⟩ | z
      · exact Or.inl ⟨rfl, i, hex _ z1⟩
      · exact Or.inr (jx_at_kept z (o1 _ (by omega)))
    · have heq : jx_ad L y h = jx_ad L x g := by omega
      have := hL.1 (y, h) (x, g) hy hxg heq
      cases this
      rcases hn with ⟨rfl, z⟩ | ⟨rfl, z⟩
      · exact Or.inl ⟨rfl, 0, List.mem_cons_self⟩
      · exact Or.inr z
  · have old : (h, i) ∈ ex → jx_ad L x 0 < jx_ad L x h ∧ jx_ad L x h < jx_ad L x 0 + (n + 1) ∧ jx_pa L σ H1 x h i := fun hi => by
      obtain ⟨z1, z2, z3⟩ := b5 h i hi
      exact ⟨z1, by omega, by unfold jx_pa; rw [o1 _ (by omega)]; exact z3⟩
    rcases hn with ⟨rfl, z⟩ | ⟨rfl, z⟩
    · rcases List.mem_cons.mp hi with q | q
      · cases q
        exact ⟨by omega, by omega, z⟩
      · exact old q
    · exact old hi
/-- newarray of numbers: the array of its field g -/
theorem b_arr (hC : jx_CK M L A p R s m args meth c) (hB : jx_bd L σ x k n ex fs H0 H) (hS : va_S A s.heap H locs) {at' : ArrayType} (t g N : Nat) (hxg : (x, g) ∈ jx_cs L) (had : jx_ad L x g = jx_ad L x 0 + n) (h0 : 0 < n) (hta : newarray.typeOf at' = jx_fty0 t) (ht : (t, jx_ft g) = (1, 101) ∨ (t, jx_ft g) = (2, 102) ∨ (t, jx_ft g) = (3, 103) ∨ (t, jx_ft g) = (4, 104)) (hln : jx_ln x g = (N : Int)) (hz : ∀ i : Nat, i < N → σ x g (i : Int) = 0) (hg0 : g ≠ 0) (hN : N ≤ 70000) (hw : Cond.arrayClass (jx_fty0 t) ∈ jx_tb) (hcells : cells + 1 ≤ R.cells) (hslots : slots + N ≤ R.slots) (d : decode (jx_cc M) pc = .ok (.newarray at', 2))
    (kk : ∀ H', jx_bd L σ x k (n + 1) ex fs H0 H' → va_S A s.heap H' locs → W p l e R s m args below meth c H' locs (cells + 1) (slots + N) Q (F0 m (pc + 2) ls (.ref (jx_ad L x g) :: st))) : W p l e R s m args below meth c H locs cells slots Q (F0 m pc ls (.int (Int32.ofInt N) :: st)) := by
  have hK := hC.2.2.2.2.2.1
  have hts := hC.2.2.2.2.1
  have hL := hC.2.2.2.2.2.2.1
  have hti : (Int32.ofInt N).toInt = (N : Int) := jx_ti (by omega)
  have hcl : (Int32.ofInt N).toNatClampNeg = N := by
    show (Int32.ofInt N).toInt.toNat = N
    rw [hti]
    omega
  have hneg : ¬ (Int32.ofInt N) < 0 := by
    intro hlt
    have := Int32.lt_iff_toInt_lt.mp hlt
    rw [hti] at this
    simp at this
    omega
  refine va_newaK hC.1 hC.2.1 (atype := at') (by rw [hta]; exact hts _ hw) (g := F0 m pc ls (.int (Int32.ofInt N) :: st)) rfl d rfl hneg hcl ?_ hcells hslots rfl fun H1 cA e1 z1 o1 hAr hNm => ?_
  · have : componentBytes (newarray.typeOf at') ≤ 8 := by cases at' <;> decide
    calc N * componentBytes (newarray.typeOf at') ≤ 70000 * 8 := Nat.mul_le_mul hN this
      _ ≤ 536870912 := by decide
  have hmem : t ∈ jx_atl := by
    rcases ht with h | h | h | h <;> · injection h with h1 h2; subst h1; decide
  obtain ⟨i0, hi0⟩ := List.mem_iff_getElem?.mp hmem
  have hra := (hK.1.2 i0 (jx_dA L t, jx_fty0 t) (by show (jx_atl.map _)[i0]? = _; rw [List.getElem?_map, hi0]; rfl)).2
  have hcA : cA = jx_dA L t := by
    rw [hta] at hNm
    rcases ht with h | h | h | h <;> · injection h with h1 h2; subst h1; exact Option.some.inj (hNm.symm.trans hra)
  subst hcA
  have hat : jx_at L σ H1 x g := by
    unfold jx_at
    rw [if_neg hg0, had, ← hB.1, e1, hln]
    rw [hta]
    have hN2 : ((N : Int)).toNat = N := by omega
    rw [hN2]
    rcases ht with h | h | h | h
    all_goals
      injection h with h1 h2
      subst h1
      rw [h2]
      refine congrArg some (jx_arrV_ext fun j hj => ?_)
      rw [hz j hj]
      rfl
  obtain ⟨r1, r2⟩ := b_push hL hB hS hxg had h0 z1 o1 (Or.inr ⟨rfl, hat⟩)
  have := kk H1 r1 r2
  rw [had, ← hB.1] at this
  exact this
/-- anewarray: the array of its field g, still empty -/
theorem b_oarr (hC : jx_CK M L A p R s m args meth c) (hB : jx_bd L σ x k n ex fs H0 H) (hS : va_S A s.heap H locs) (t g N : Nat) (hxg : (x, g) ∈ jx_cs L) (had : jx_ad L x g = jx_ad L x 0 + n) (h0 : 0 < n) (ht : jx_ft g = 110 + t) (ht2 : 10 + t ∈ jx_atl) (hln : jx_ln x g = (N : Int)) (hN : N ≤ 70000) (hto : jx_fty0 (10 + t) = .object (jx_cn t)) (hlk : Cond.classLink (jx_own M) idx (jx_cn t) ∈ jx_tb) (hw : jx_oar t = true) (hcells : cells + 1 ≤ R.cells) (hslots : slots + N ≤ R.slots) (d : decode (jx_cc M) pc = .ok (.anewarray idx, 3))
    (kk : ∀ H', jx_bd L σ x k (n + 1) ((g, 0) :: ex) fs H0 H' → va_S A s.heap H' locs → W p l e R s m args below meth c H' locs (cells + 1) (slots + N) Q (F0 m (pc + 3) ls (.ref (jx_ad L x g) :: st))) : W p l e R s m args below meth c H locs cells slots Q (F0 m pc ls (.int (Int32.ofInt N) :: st)) := by
  have hK := hC.2.2.2.2.2.1
  have hts := hC.2.2.2.2.1
  have hL := hC.2.2.2.2.2.2.1
  have hti : (Int32.ofInt N).toInt = (N : Int) := jx_ti (by omega)
  have hcl : (Int32.ofInt N).toNatClampNeg = N := by
    show (Int32.ofInt N).toInt.toNat = N
    rw [hti]
    omega
  have hneg : ¬ (Int32.ofInt N) < 0 := by
    intro hlt
    have := Int32.lt_iff_toInt_lt.mp hlt
    rw [hti] at this
    simp at this
    omega
  refine W.anew hC.1 hC.2.1 hC.2.2.2.1 (hts _ hlk) (hC.2.2.2.2.2.2.2.2.2.2.2.1 t hw) (g := F0 m pc ls (.int (Int32.ofInt N) :: st)) rfl d rfl hneg (by rw [hcl]; omega) hcells (by rw [hcl]; exact hslots) fun cA kA comp f1 f2 f3 f4 => ?_
  rw [hcl]
  generalize hH1 : H.push ({ cls := cA, slots := Array.replicate N .null, vm := .none } : Cell) = H1
  have z1 : H1.size = H.size + 1 := by rw [← hH1, Array.size_push]
  have e1 : H1[H.size]? = some (arrV cA N (fun _ => .null)) := by rw [← hH1, Array.getElem?_push_size, ← arrV_new]
  have o1 : ∀ q : Nat, q < H.size → H1[q]? = H[q]? := fun q hq => by rw [← hH1, Array.getElem?_push, if_neg (Nat.ne_of_lt hq)]
  obtain ⟨i0, hi0⟩ := List.mem_iff_getElem?.mp ht2
  have hra := (hK.1.2 i0 (jx_dA L (10 + t), jx_fty0 (10 + t)) (by show (jx_atl.map _)[i0]? = _; rw [List.getElem?_map, hi0]; rfl)).2
  rw [hto] at hra
  obtain ⟨kA', comp', -, -, -, h4⟩ := hra
  have hcA : cA = jx_dA L (10 + t) := Option.some.inj (f1.symm.trans h4)
  subst hcA
  have hpa : jx_pa L σ H1 x g 0 := by
    unfold jx_pa
    have e2 : jx_ft g - 100 = 10 + t := by omega
    have e3 : ((N : Int)).toNat = N := by omega
    rw [had, ← hB.1, e1, hln, e2, e3]
    exact congrArg some (jx_arrV_ext fun j hj => by simp)
  obtain ⟨r1, r2⟩ := b_push hL hB hS hxg had h0 z1 o1 (Or.inl ⟨rfl, hpa⟩)
  have := kk H1 r1 r2
  rw [had, ← hB.1] at this
  exact this
/-- the uppermost array that was empty is full -/
theorem b_full {g N : Nat} (hB : jx_bd L σ x k n ((g, N) :: ex) fs H0 H) (hln : jx_ln x g = (N : Int)) (hg0 : g ≠ 0) : jx_bd L σ x k n ex fs H0 H := by
  obtain ⟨b1, b2, b3, b4, b5⟩ := hB
  refine ⟨b1, b2, fun y h hy h1 h2 => ?_, b4, fun h i hi => b5 h i (List.mem_cons_of_mem _ hi)⟩
  rcases b3 y h hy h1 h2 with ⟨rfl, i, z1⟩ | z
  · rcases List.mem_cons.mp z1 with q | q
    · cases q
      right
      unfold jx_at
      rw [if_neg hg0, (b5 g N List.mem_cons_self).2.2, hln]
      exact congrArg some (jx_arrV_ext fun j hj => by rw [if_pos (by omega)])
    · exact Or.inl ⟨rfl, i, q⟩
  · exact Or.inr z
/-- the arrays that are still to be filled, in another order -/
theorem b_ex {ex1 : List (Nat × Nat)} (hB : jx_bd L σ x k n ex fs H0 H) (h : ∀ q, q ∈ ex ↔ q ∈ ex1) : jx_bd L σ x k n ex1 fs H0 H := by
  obtain ⟨b1, b2, b3, b4, b5⟩ := hB
  refine ⟨b1, b2, fun y g hy h1 h2 => ?_, b4, fun g i hi => b5 g i ((h _).mpr hi)⟩
  rcases b3 y g hy h1 h2 with ⟨rfl, i, z1⟩ | z
  · exact Or.inl ⟨rfl, i, (h _).mp z1⟩
  · exact Or.inr z
/-- its child x2 was made: all of its cells are there -/
theorem b_child (hL : jx_lok L A) (hB : jx_bd L σ x k n ex fs H0 H) {x2 : Int} {k2 n2 : Nat} {fs2 : Nat → Value} {H1 : Heap} (h0 : 0 < n) (hx2 : (x2, 0) ∈ jx_cs L) (hk2 : jx_cl L x2 = k2) (had : jx_ad L x2 0 = jx_ad L x 0 + n) (hB2 : jx_bd L σ x2 k2 n2 [] fs2 H H1) (hn2 : 0 < n2) (hf2 : ∀ j, j < jx_nf k2 → fs2 j = jx_fv L σ x2 (jx_fo k2 + j)) : jx_bd L σ x k (n + n2) ex fs H0 H1 := by
  obtain ⟨b1, b2, b3, b4, b5⟩ := hB
  obtain ⟨c1, c2, c3, c4, -⟩ := hB2
  rw [had] at c1 c3 c4
  refine ⟨by omega, b2.kept (c4 _ (by omega)), fun y h hy h1 h2 => ?_, fun q hq => (c4 q (by omega)).trans (b4 q hq), fun h i hi => ⟨(b5 h i hi).1, by have := (b5 h i hi).2.1; omega, by unfold jx_pa; rw [c4 _ (b5 h i hi).2.1]; exact (b5 h i hi).2.2⟩⟩
  rcases Nat.lt_trichotomy (jx_ad L y h) (jx_ad L x 0 + n) with q | q | q
  · rcases b3 y h hy h1 q with ⟨rfl, i, z1⟩ | z
    · exact Or.inl ⟨rfl, i, z1⟩
    · exact Or.inr (jx_at_kept z (c4 _ q))
  · have := hL.1 (y, h) (x2, 0) hy hx2 (show jx_ad L y h = jx_ad L x2 0 by omega)
    cases this
    right
    unfold jx_at
    rw [if_pos rfl, hk2]
    exact c2.to hf2
  · rcases c3 y h hy q (by omega) with ⟨-, i, z1⟩ | z
    · cases z1
    · exact Or.inr z
/-- aastore: the next place of an array that is being filled -/
theorem b_fill (hC : jx_CK M L A p R s m args meth c) {g i : Nat} (hB : jx_bd L σ x k n ((g, i) :: ex) fs H0 H) (hS : va_S A s.heap H locs) (hne : ∀ h j, (h, j) ∈ ex → jx_ad L x h ≠ jx_ad L x g) (hxg : (x, g) ∈ jx_cs L) (hg : g ≠ jx_script) (t N : Nat) (hg0 : g ≠ 0) (ht : jx_ft g = 110 + t) (ht2 : 10 + t ∈ jx_atl) (ht3 : t < 16) (hln : jx_ln x g = (N : Int)) (hi : i < N) (hN : N ≤ 70000) (x2 : Int) (hx2 : (x2, 0) ∈ jx_cs L) (hxx : x2 ≠ x) (hk2 : jx_cl L x2 = t) (h02 : x2 ≠ 0) (hr : jx_ad L x 0 < jx_ad L x2 0 ∧ jx_ad L x2 0 < jx_ad L x 0 + n) (hv : σ x g (i : Int) = x2) (d : decode (jx_cc M) pc = .ok (.aastore, 1))
    (kk : ∀ H' locs', jx_bd L σ x k n ((g, i + 1) :: ex) fs H0 H' → va_S A s.heap H' locs' → W p l e R s m args below meth c H' locs' cells slots Q (F0 m (pc + 1) ls st)) : W p l e R s m args below meth c H locs cells slots Q (F0 m pc ls (.ref (jx_ad L x2 0) :: .int (Int32.ofInt i) :: .ref (jx_ad L x g) :: st)) := by
  obtain ⟨hexec, hb, -, -, hts, hK, hL, -⟩ := hC
  obtain ⟨b1, b2, b3, b4, b5⟩ := hB
  obtain ⟨p1, p2, p3⟩ := b5 g i List.mem_cons_self
  have hto : jx_fty0 (10 + t) = .object (jx_cn t) := by
    unfold jx_fty0
    repeat rw [if_neg (by omega)]
    rw [Nat.add_sub_cancel_left]
  obtain ⟨hA1, hA2⟩ := jx_KT hK ht2
  rw [hto] at hA1 hA2
  have hat2 : jx_at L σ H x2 0 := by
    rcases b3 x2 0 hx2 hr.1 hr.2 with ⟨z, -⟩ | z
    · exact absurd z hxx
    · exact z
  unfold jx_at at hat2
  rw [if_pos rfl, hk2] at hat2
  obtain ⟨cellV, c1, c2, c3, -⟩ := hat2
  have hcls := (hK.1.1 t _ (jx_cls_at ht3)).2
  obtain ⟨kA, comp, k1, k2, k3, -⟩ := hA2
  have hcomp : comp = (jx_D L).1 t := Option.some.inj (k3.symm.trans hcls.1)
  subst hcomp
  obtain ⟨kC, hkC, -⟩ := hcls.2
  have hti : (Int32.ofInt i).toInt = (i : Int) := jx_ti (by omega)
  have hcl : (Int32.ofInt i).toNatClampNeg = i := by
    show (Int32.ofInt i).toInt.toNat = i
    rw [hti]
    omega
  have hneg : ¬ (Int32.ofInt i) < 0 := by
    intro hlt
    have := Int32.lt_iff_toInt_lt.mp hlt
    rw [hti] at this
    simp at this
    omega
  have e100 : jx_ft g - 100 = 10 + t := by omega
  have eN : (jx_ln x g).toNat = N := by rw [hln]; omega
  unfold jx_pa at p3
  rw [e100, eN] at p3
  refine W.aast hexec hb p3 (fun q h => by cases h) (fun h => by cases h) k1 k2 rfl hkC ⟨hneg, by rw [arrV_size, hcl]; exact hi⟩ c1 (fun q h => by rw [c3] at h; cases h) (by rw [c2]; exact hkC) (by rw [c2]; exact va_assign hcls) (g := F0 m pc ls (.ref (jx_ad L x2 0) :: .int (Int32.ofInt i) :: .ref (jx_ad L x g) :: st)) rfl rfl d (fun H' e1 e2 e3 => ?_)
  have hAx : A (jx_ad L x g) := hL.2.1 (x, g) hxg hg
  have hnew : jx_pa L σ H' x g (i + 1) := by
    unfold jx_pa
    rw [e1, e100, eN, hcl, arrV_store]
    refine congrArg some (jx_arrV_ext fun j hj => ?_)
    unfold updV
    by_cases hj2 : j = i
    · subst hj2
      rw [if_pos rfl, if_pos (by omega), hv, jx_vobj (by omega) h02]
    · rw [if_neg hj2]
      show (if j < i then jx_v L (10 + t) (σ x g (j : Int)) else Value.null) = _
      by_cases hj3 : j < i
      · rw [if_pos hj3, if_pos (by omega)]
      · rw [if_neg hj3, if_neg (by omega)]
  refine kk H' _ ⟨by rw [e2]; exact b1, b2.kept (e3 (jx_ad L x 0) (Nat.ne_of_lt p1)), fun y h hy h1 h2 => ?_, fun q hq => (e3 q (Nat.ne_of_lt (Nat.lt_trans hq p1))).trans (b4 q hq), fun h j hj => ?_⟩ (hS.put e2 e3 hAx)
  · by_cases hyg : (y, h) = (x, g)
    · cases hyg
      exact Or.inl ⟨rfl, i + 1, List.mem_cons_self⟩
    · rcases b3 y h hy h1 h2 with ⟨rfl, j, z⟩ | z
      · rcases List.mem_cons.mp z with q | q
        · cases q
          exact absurd rfl hyg
        · exact Or.inl ⟨rfl, j, List.mem_cons_of_mem _ q⟩
      · exact Or.inr (jx_at_kept z (e3 _ (fun q => hyg (hL.1 (y, h) (x, g) hy hxg q))))
  · rcases List.mem_cons.mp hj with q | q
    · cases q
      exact ⟨p1, p2, hnew⟩
    · obtain ⟨z1, z2, z3⟩ := b5 h j (List.mem_cons_of_mem _ q)
      exact ⟨z1, z2, by unfold jx_pa; rw [e3 _ (hne h j q)]; exact z3⟩
end
/-- what a field is at first -/
def jx_df (k j : Nat) : Value := defaultValue (jx_fty (jx_ft (jx_fo k + j)))
def jx_crm (M : jx_M) (n sl : Nat) : Room := { frames := jx_fr M, cells := n - 1, slots := sl, locals := jx_lo M }
def jx_cP (L : jx_L) (A : Nat → Prop) (σ : jx_S) (x : Int) (k : Nat) (Hs : Heap) (U : State) : Prop := U.heap = Hs ∧ jx_bd L σ x k 1 [] (jx_df k) Hs Hs ∧ jx_K L A U ∧ jx_SX L A U ∧ (k = 12 → jx_R6 L x U Hs)
def jx_cQ (L : jx_L) (σ : jx_S) (x : Int) (k n : Nat) (Hs : Heap) (_ : Unit) (t : State) : Prop := ∃ fs, jx_bd L σ x k n [] fs Hs t.heap ∧ ∀ j, j < jx_nf k → fs j = jx_fv L σ x (jx_fo k + j)
/-- a constructor's contract: of class k, n cells with the object's own, sl slots; 'pre' says of the layout and the start what it needs -/
def jx_Ct (y : MethodName) (M : jx_M) (k n sl : Nat) (pre : jx_L → jx_S → Int → List Value → Prop) : Prop :=
  ∀ (l : Launch) (L : jx_L) (A : Nat → Prop) (σ : jx_S) (x : Int) (vs : List Value) (Hs : Heap), jx_lok L A → (x, 0) ∈ jx_cs L → pre L σ x vs →
    Met l y (Cond.code y (jx_cc M) (jx_nl M) none :: jx_tb) (jx_crm M n sl) (va_Pc (.ref (jx_ad L x 0) :: vs) (jx_cP L A σ x k Hs)) (va_Qv (fun _ : Unit => True) (jx_cQ L σ x k n Hs) A) (n - 1) sl A
section
variable {M Mc : jx_M} {L : jx_L} {A : Nat → Prop} {p : Program} {l : Launch} {e : Env} {R : Room} {s : State} {m : MethodId} {args : Array Value} {below : List Frame} {meth : Method} {c : Code} {Q : State → Prop} {H0 H : Heap} {locs : List Loc} {ls : Array Slot} {st : List Value} {cells slots : Nat} {σ : jx_S} {x : Int} {k n : Nat} {ex : List (Nat × Nat)} {fs : Nat → Value} {pc idx : Nat}
theorem jx_born {kC : Class} {a : Nat} (hts : ∀ w ∈ jx_tb, w.before args s = true) (hK : jx_K L A s) (hk : k < 16) (hkC : s.vm.classes[(jx_D L).1 k]? = some kC) (h : H[a]? = some (blank ((jx_D L).1 k) kC)) : t_OB a ((jx_D L).1 k) (jx_nf k) ((jx_D L).2 k) H (jx_df k) := by
  refine u_born (fun j => jx_fty (jx_ft (jx_fo k + j))) hts (jx_lay_ok hk) (hK.1.1 k _ (jx_cls_at hk)) hkC h (fun j hj => ?_)
  obtain ⟨-, -, z3, z4⟩ := jx_own_ok k hk j hj
  exact jx_fty_ok _ z3 z4
theorem jx_t6_in : ∀ w ∈ u_ws "LiveHouse$Refusal" jx_T6 6, w ∈ jx_tb := by
  intro w hw
  obtain ⟨j, hj, rfl⟩ := List.mem_map.mp hw
  have hj := List.mem_range.mp hj
  match j, hj with
  | 0, _ => exact jx_lay_ok (k := 12) (by decide) _ (u_in_lay (k := 0) (by decide))
  | 1, _ => exact jx_lay_ok (k := 12) (by decide) _ (u_in_lay (k := 1) (by decide))
  | 2, _ => exact (jx_in_tb (jx_t1 (List.mem_of_getElem? (i := 54) rfl)) rfl)
  | 3, _ => exact (jx_in_tb (jx_t1 (List.mem_of_getElem? (i := 56) rfl)) rfl)
  | 4, _ => exact (jx_in_tb (jx_t1 (List.mem_of_getElem? (i := 58) rfl)) rfl)
  | 5, _ => exact (jx_in_tb (jx_t1 (List.mem_of_getElem? (i := 60) rfl)) rfl)
  | q + 6, h => exact absurd h (by omega)
def jx_ty6 (j : Nat) : FieldType := [FieldType.int, .int, .object "java/lang/Throwable", .array (.object "java/lang/StackTraceElement"), .object "java/util/List", .object "java/lang/String"].getD j .int
theorem jx_ty6_ok : ∀ j, j < 6 → parseFieldDescriptor (jx_T6 j).2.2.1 = some (jx_ty6 j) := by decide +kernel
theorem jx_born6 {kC : Class} {a : Nat} {N : Nat} (hts : ∀ w ∈ jx_tb, w.before args s = true) (hKn : u_Kn s (jx_cn 12) (jx_T 12) (jx_nf 12) ((jx_D L).1 12) ((jx_D L).2 12)) (hkC : s.vm.classes[(jx_D L).1 12]? = some kC) (h : H[a]? = some (blank ((jx_D L).1 12) kC)) (hins : (Cond.instantiable (jx_cn 12) N).before args s = true) : ∃ iS V, u_Kn s "LiveHouse$Refusal" jx_T6 6 ((jx_D L).1 12) iS ∧ t_OB a ((jx_D L).1 12) 6 iS H V := by
  obtain ⟨cC, iS, hk6⟩ := u_known (C := "LiveHouse$Refusal") (T := jx_T6) (N := 6) hts jx_t6_in hins
  have hc : cC = (jx_D L).1 12 := Option.some.inj (hk6.2.1.symm.trans hKn.2.1)
  subst hc
  exact ⟨iS, _, hk6, u_born jx_ty6 hts jx_t6_in hk6 hkC h jx_ty6_ok⟩
/-- new: the child x2, with fields as they are at first -/
theorem b_new (hC : jx_CK M L A p R s m args meth c) (hB : jx_bd L σ x k n ex fs H0 H) (hS : va_S A s.heap H locs) (x2 : Int) (k2 N : Nat) (had : jx_ad L x2 0 = jx_ad L x 0 + n) (hk2 : k2 < 16) (hlk : Cond.classLink (jx_own M) idx (jx_cn k2) ∈ jx_tb) (hins : Cond.instantiable (jx_cn k2) N ∈ jx_tb) (hini : Cond.initialized (jx_cn k2) ∈ jx_tb) (hcells : cells + 1 ≤ R.cells) (hslots : slots + N ≤ R.slots) (d : decode (jx_cc M) pc = .ok (.new idx, 3))
    (kk : ∀ H', jx_bd L σ x2 k2 1 [] (jx_df k2) H' H' → (k2 = 12 → jx_R6 L x2 s H') → (∀ q : Nat, q < H.size → H'[q]? = H[q]?) → va_S A s.heap H' locs → W p l e R s m args below meth c H' locs (cells + 1) (slots + N) Q (F0 m (pc + 3) ls (.ref (jx_ad L x2 0) :: st))) : W p l e R s m args below meth c H locs cells slots Q (F0 m pc ls st) := by
  have hK := hC.2.2.2.2.2.1
  have hts := hC.2.2.2.2.1
  have hKn := hK.1.1 k2 _ (jx_cls_at hk2)
  refine W.newcK hC.1 hC.2.1 hC.2.2.2.1 (hts _ hlk) (hts _ hins) (hts _ hini) (g := F0 m pc ls st) rfl d hcells hslots hKn.2.1 rfl fun H1 kC hkC e1 z1 o1 => ?_
  have hsz : H.size = jx_ad L x2 0 := by rw [hB.1, had]
  have := kk H1 ⟨by omega, by rw [← hsz]; exact jx_born hts hK hk2 hkC e1, fun y g _ h1 h2 => by omega, fun _ _ => rfl, fun _ _ h => by cases h⟩ (fun hk => by rw [hk] at hKn e1 hkC hins; unfold jx_R6; rw [← hsz]; exact jx_born6 hts hKn hkC e1 (hts _ hins)) o1 ⟨Nat.le_trans hS.1 (by omega), fun q h1 h2 => (o1 q (Nat.lt_of_lt_of_le h1 hS.1)).trans (hS.2.1 q h1 h2), hS.2.2⟩
  rw [← hsz] at this
  exact this
/-- a constructor's link, by a nest mate or not -/
def jx_IL (own : String) (idx : Nat) (y : MethodName) : Prop := Cond.methodLink own idx y ∈ jx_tb ∨ ∃ host, Cond.methodLinkNest own idx y host ∈ jx_nw
/-- the call of a constructor -/
theorem b_call (hC : jx_CK M L A p R s m args meth c) (hS : va_S A s.heap H locs) {y : MethodName} {x2 : Int} {k2 n2 sl : Nat} {pre : jx_L → jx_S → Int → List Value → Prop} {vs : List Value} (hM : jx_Ct y Mc k2 n2 sl pre) (hx2 : (x2, 0) ∈ jx_cs L) (hpre : pre L σ x2 vs) (hB2 : jx_bd L σ x2 k2 1 [] (jx_df k2) H H) (hR6 : k2 = 12 → jx_R6 L x2 s H) (hls : ls.size = jx_nl M)
    (hcw : Cond.code y (jx_cc Mc) (jx_nl Mc) none ∈ jx_tb) (hini : Cond.initialized y.cls ∈ jx_tb) (hlk : jx_IL (jx_own M) idx y) (hin : Cond.instanceMethod y ∈ jx_tb) (hy : y.name = "<init>") (hd : y.cls ≠ "java/lang/invoke/MethodHandle" ∧ y.cls ≠ "java/lang/invoke/VarHandle" ∧ (parseMethodDescriptor y.desc).map (fun d => d.parameters.length) = some vs.length) (hfit : jx_fitsIn M Mc = true) (hst : jx_ct st ≤ 8) (hcells : cells + (n2 - 1) ≤ R.cells) (hslots : slots + sl ≤ R.slots) (d : decode (jx_cc M) pc = .ok (.invokespecial idx, 3))
    (kk : ∀ H' locs' fs2, jx_bd L σ x2 k2 n2 [] fs2 H H' → (∀ j, j < jx_nf k2 → fs2 j = jx_fv L σ x2 (jx_fo k2 + j)) → va_S A s.heap H' locs' → W p l e R s m args below meth c H' locs' (cells + (n2 - 1)) (slots + sl) Q (F0 m (pc + 3) ls st)) : W p l e R s m args below meth c H locs cells slots Q (F0 m pc ls (vs.reverse ++ .ref (jx_ad L x2 0) :: st)) := by
  obtain ⟨hexec, hb, hml, hown, hts, hK, hL, ⟨rf, rl⟩, -, -, -, hSX⟩ := hC
  have hfit2 := hfit
  simp only [jx_fitsIn, Bool.and_eq_true, decide_eq_true_eq] at hfit2
  have hws : ∀ w ∈ Cond.code y (jx_cc Mc) (jx_nl Mc) none :: jx_tb, ∀ (a' : Array Value) (U : State), s.WarmedH U.vm → w.before a' U = true := by
    intro w hw a' U hW
    rcases List.mem_cons.mp hw with rfl | hw
    · exact jx_warm (L := L) (A := A) hts hW _ hcw a'
    · exact jx_warm (L := L) (A := A) hts hW _ hw a'
  have hnp : ∀ sig, parseMethodDescriptor y.desc = some sig → vs.length = sig.parameters.length := fun sig h => by
    have h2 := hd.2.2
    rw [h] at h2
    exact (Option.some.inj h2).symm
  have hp : PreS s H (va_Pc (.ref (jx_ad L x2 0) :: vs) (jx_cP L A σ x2 k2 H)) (.ref (jx_ad L x2 0) :: vs) := by
    refine ⟨fun a U g mk q => ?_, fun U hU hW => ⟨rfl, hU, hB2, ?_⟩⟩
    · obtain ⟨q0, q1, q2, q3, q4, q5⟩ := q
      refine ⟨q0, q1, q2, q3.to (State.WarmedH.refl U) (fun _ _ _ => rfl), q4.to (State.WarmedH.refl U) (fun _ _ _ => rfl), fun hk => ?_⟩
      obtain ⟨iS, V, z1, z2⟩ := q5 hk
      exact ⟨iS, V, u_Kn_moved (u := U) (U := U.calling g mk a) (Vm.Alike.refl U.vm) z1, z2⟩
    · refine ⟨hK.to hW (fun a h1 h2 => by rw [hU]; exact hS.2.1 a h1 h2), hSX.to hW (fun a h1 h2 => by rw [hU]; exact hS.2.1 a h1 h2), fun hk => ?_⟩
      obtain ⟨iS, V, z1, z2⟩ := hR6 hk
      exact ⟨iS, V, u_Kn_moved hW.alike z1, z2⟩
  have hrun : va_Run p l e R s m args below meth c H locs cells slots (n2 - 1) sl (F0 m pc ls (vs.reverse ++ .ref (jx_ad L x2 0) :: st)) st (va_Qv (fun _ : Unit => True) (jx_cQ L σ x2 k2 n2 H) A (Value.ref (jx_ad L x2 0) :: vs).toArray) A := by
    rcases hlk with hlk | ⟨host, hlk⟩
    · have hcw2 : CallB R s args (jx_own M) idx y (jx_cc Mc) (jx_nl Mc) none (Cond.code y (jx_cc Mc) (jx_nl Mc) none :: jx_tb) (jx_crm Mc n2 sl) (n2 - 1) sl vs.length :=
        ⟨rfl, rfl, by rw [rf]; exact hfit2.1, by rw [rl]; exact hfit2.2, hws, List.mem_cons_self, hts _ hcw, hts _ hini, ⟨hd.1, hd.2.1⟩, hnp, hts _ hlk⟩
      exact va_runI (As := vs) (rest := st) (b := jx_ad L x2 0) (Ts := jx_tb) ⟨hexec, hb, hml, hown, hts⟩ (hM l L A σ x2 vs H hL hx2 hpre) ⟨hcw2, hy, hts _ hin⟩ hp rfl rfl hls rfl (lv_room hst) d ⟨hcells, hslots⟩
    · have hcw2 : va_CN R s args (jx_own M) idx y host (jx_cc Mc) (jx_nl Mc) none (Cond.code y (jx_cc Mc) (jx_nl Mc) none :: jx_tb) (jx_crm Mc n2 sl) (n2 - 1) sl vs.length :=
        ⟨⟨rfl, rfl, by rw [rf]; exact hfit2.1, by rw [rl]; exact hfit2.2, hws, List.mem_cons_self⟩, hts _ hcw, hts _ hini, ⟨hd.1, hd.2.1⟩, hnp, va_Nw.use rfl (hK.2.1 _ hlk)⟩
      exact va_runIN (As := vs) (rest := st) (b := jx_ad L x2 0) (Ts := jx_tb) ⟨hexec, hb, hml, hown, hts⟩ (hM l L A σ x2 vs H hL hx2 hpre) ⟨hcw2, hy, hts _ hin⟩ hp rfl rfl hls rfl (lv_room hst) d ⟨hcells, hslots⟩
  refine va_callv hrun hS (fun q _ h => h) (fun q h => h) (fun u t H1 locs1 ht hvm _ hB hz hk hS1 => ?_)
  obtain ⟨fs2, g1, g2⟩ := hB
  rw [ht] at g1
  exact kk H1 locs1 fs2 g1 g2 hS1
end
/-- a constructor's contract out of the walk of its body -/
theorem jx_ctr {y : MethodName} {M : jx_M} {k n sl : Nat} {pre : jx_L → jx_S → Int → List Value → Prop} (hy : plainName y.cls = true) (hin : y.name = "<init>") (hown : y.cls = jx_own M)
    (hb : ∀ (l : Launch) (L : jx_L) (A : Nat → Prop) (σ : jx_S) (x : Int) (vs : List Value) (p : Program) (e : Env) (R : Room) (s : State) (m : MethodId) (args : Array Value) (below : List Frame) (meth : Method) (c : Code), jx_CK M L A p R s m args meth c → R.cells = n - 1 → R.slots = sl → (x, 0) ∈ jx_cs L → pre L σ x vs → jx_bd L σ x k 1 [] (jx_df k) s.heap s.heap → (k = 12 → jx_R6 L x s s.heap) → args = (.ref (jx_ad L x 0) :: vs).toArray →
      W p l e R s m args below meth c s.heap [] 0 0 (MQ below (va_Qv (fun _ : Unit => True) (jx_cQ L σ x k n s.heap) A) args s (n - 1) sl A) (entryFrame m args (jx_nl M))) : jx_Ct y M k n sl pre := by
  intro l L A σ x vs Hs hL hx hpre
  refine Met.ofW (cc := jx_cc M) (maxL := jx_nl M) (ret := none) hy rfl ?_
  intro p e s m args below meth c s₁ B hml hv
  obtain ⟨rfl, hHs, hB, hK, hSX, hR6⟩ := hv
  subst hHs
  have hts := atoms_spec (ws := Cond.code y (jx_cc M) (jx_nl M) none :: jx_tb) B.pre
  have hnm : meth.name = "<init>" := by
    have := (name_of_methodNamed B.named B.method).1
    rw [hin] at this
    exact this
  exact hb l L A σ x vs p e _ s m _ below meth c ⟨B.exec, B.bytes, hml, by rw [← hown]; exact findClass_of_methodNamed B.named, fun w hw => hts w (List.mem_cons_of_mem _ hw), hK, hL, ⟨rfl, rfl⟩, B.returns, B.notSynchronized, hnm, hSX⟩ rfl rfl hx hpre hB hR6 rfl
