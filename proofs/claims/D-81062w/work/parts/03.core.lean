/-! CORE: pure state, layout of the world, what 'the code from pc to pc2 does the pure thing f' means -/
/-- pure state: object, field (global number), place -> value -/
abbrev jx_S : Type := Int → Nat → Int → Int
abbrev jx_E : Type := List Int
/-- a method's end: ok v (returned), error x (threw the object x) -/
abbrev jx_R : Type := Except Int Int
abbrev jx_X (α : Type) : Type := jx_E → jx_S → Option (Except jx_R α × jx_E × jx_S)
def jx_pure {α : Type} (a : α) : jx_X α := fun e σ => some (.ok a, e, σ)
def jx_bind {α β : Type} (f : jx_X α) (g : α → jx_X β) : jx_X β := fun e σ => match f e σ with
  | none => none
  | some (.error r, e1, s1) => some (.error r, e1, s1)
  | some (.ok a, e1, s1) => g a e1 s1
theorem jx_bind_ok {α β : Type} {f : jx_X α} {g : α → jx_X β} {e e1 : jx_E} {σ s1 : jx_S} {a : α} (h : f e σ = some (.ok a, e1, s1)) : jx_bind f g e σ = g a e1 s1 := by
  simp only [jx_bind, h]
theorem jx_bind_err {α β : Type} {f : jx_X α} {g : α → jx_X β} {e e1 : jx_E} {σ s1 : jx_S} {r : jx_R} (h : f e σ = some (.error r, e1, s1)) : jx_bind f g e σ = some (.error r, e1, s1) := by
  simp only [jx_bind, h]
theorem jx_bind_inv {α β : Type} {f : jx_X α} {g : α → jx_X β} {e e2 : jx_E} {σ s2 : jx_S} {o : Except jx_R β} (h : jx_bind f g e σ = some (o, e2, s2)) :
    (∃ r, f e σ = some (.error r, e2, s2) ∧ o = .error r) ∨ ∃ a e1 s1, f e σ = some (.ok a, e1, s1) ∧ g a e1 s1 = some (o, e2, s2) := by
  unfold jx_bind at h
  split at h
  · cases h
  · rename_i r e1 s1 hf
    cases h
    exact Or.inl ⟨r, hf, rfl⟩
  · rename_i a e1 s1 hf
    exact Or.inr ⟨a, e1, s1, hf, h⟩
/-- layout: the cells (object x: (x, 0); the array of its field g: (x, g)), their addresses, the class of an object, the kit's class data, array classes by type code, addresses of String constants and of Op constants -/
abbrev jx_L : Type := List (Int × Nat) × (Int → Nat → Nat) × (Int → Nat) × va_G × (Nat → ClassId) × (Int → Nat) × (Int → Nat) × Nat × Nat
abbrev jx_cs (L : jx_L) : List (Int × Nat) := L.1
abbrev jx_ad (L : jx_L) : Int → Nat → Nat := L.2.1
abbrev jx_cl (L : jx_L) : Int → Nat := L.2.2.1
abbrev jx_D (L : jx_L) : va_G := L.2.2.2.1
abbrev jx_dA (L : jx_L) : Nat → ClassId := L.2.2.2.2.1
abbrev jx_st (L : jx_L) : Int → Nat := L.2.2.2.2.2.1
abbrev jx_op (L : jx_L) : Int → Nat := L.2.2.2.2.2.2.1
/-- cells and slots that were taken ahead (0 in a method; in the law what its constructors took) -/
abbrev jx_nc (L : jx_L) : Nat := L.2.2.2.2.2.2.2.1
abbrev jx_ns (L : jx_L) : Nat := L.2.2.2.2.2.2.2.2
def jx_z (L : jx_L) : jx_L := (jx_cs L, jx_ad L, jx_cl L, jx_D L, jx_dA L, jx_st L, jx_op L, 0, 0)
/-- types: 1 int, 2 long, 3 boolean, 4 byte, 5 String, 6 Op, 7 the bytes of a String, 8 a formatter (what it is is not said), 10 + k an object of class k, 100 + t an array of t -/
def jx_r (L : jx_L) (t : Nat) (v : Int) : Option Nat :=
  if v = 0 then none else if t = 5 then some (jx_st L v) else if t = 6 then some (jx_op L v) else if t = 7 then some (jx_st L (-v)) else if t = 8 then (if jx_st L 100 = 0 then none else some (jx_st L 100 - 1)) else if t < 100 then some (jx_ad L v 0) else some (jx_ad L (v / 1024) (v % 1024).toNat)
def jx_v (L : jx_L) (t : Nat) (v : Int) : Value :=
  if t = 2 then .long (Int64.ofInt v) else if t < 5 then .int (Int32.ofInt v) else va_rf (jx_r L t v)
def jx_ok (L : jx_L) (t : Nat) (v : Int) : Prop :=
  if t = 0 then True
  else if t = 1 then -2147483648 ≤ v ∧ v ≤ 2147483647
  else if t = 2 then -9223372036854775808 ≤ v ∧ v ≤ 9223372036854775807
  else if t = 3 then v = 0 ∨ v = 1
  else if t = 4 then -128 ≤ v ∧ v ≤ 127
  else if t = 5 then 0 ≤ v ∧ v ≤ 41
  else if t = 6 then 0 ≤ v ∧ v ≤ 27
  else if t = 7 then 1 ≤ v ∧ v ≤ 41
  else if t = 8 then v = 1
  else if t < 100 then v = 0 ∨ ((v, 0) ∈ jx_cs L ∧ jx_cl L v + 10 = t)
  else v = 0 ∨ (0 < v ∧ (v / 1024, (v % 1024).toNat) ∈ jx_cs L ∧ jx_ft (v % 1024).toNat = t)
/-- a slot of an object -/
def jx_fv (L : jx_L) (σ : jx_S) (x : Int) (g : Nat) : Value := if 100 ≤ jx_ft g then .ref (jx_ad L x g) else jx_v L (jx_ft g) (σ x g 0)
/-- the heap holds the cell (x, g) -/
def jx_at (L : jx_L) (σ : jx_S) (H : Heap) (x : Int) (g : Nat) : Prop :=
  if g = 0 then t_OB (jx_ad L x 0) ((jx_D L).1 (jx_cl L x)) (jx_nf (jx_cl L x)) ((jx_D L).2 (jx_cl L x)) H (fun j => jx_fv L σ x (jx_fo (jx_cl L x) + j))
  else H[jx_ad L x g]? = some (arrV (jx_dA L (jx_ft g - 100)) (jx_ln x g).toNat (fun j => jx_v L (jx_ft g - 100) (σ x g (j : Int))))
/-- the script's cell: nothing is said of what the law's caller may have put into it besides -/
def jx_scat (L : jx_L) (σ : jx_S) (H : Heap) (x : Int) : Prop := ∃ cell : Cell, H[jx_ad L x 288]? = some cell ∧ cell.cls = jx_dA L 288 ∧ (∀ k, cell.vm ≠ .statics k) ∧ cell.vm ≠ .unknown ∧ cell.slots.size = (jx_ln x 288).toNat ∧ ∀ j : Nat, j < (jx_ln x 288).toNat → cell.slots[j]? = some (jx_v L 1 (σ x 288 (j : Int)))
def jx_rp (L : jx_L) (σ : jx_S) (H : Heap) (x : Int) (g : Nat) : Prop := if g = 288 then jx_scat L σ H x else jx_at L σ H x g
def jx_rep (L : jx_L) (σ : jx_S) (H : Heap) : Prop := ∀ x g, (x, g) ∈ jx_cs L → jx_rp L σ H x g
theorem jx_rep_a {L : jx_L} {σ : jx_S} {H : Heap} {x : Int} {g : Nat} (h : jx_rep L σ H) (hx : (x, g) ∈ jx_cs L) (hg : g ≠ 288) : jx_at L σ H x g := by
  have := h x g hx
  unfold jx_rp at this
  rw [if_neg hg] at this
  exact this
theorem jx_rep_s {L : jx_L} {σ : jx_S} {H : Heap} {x : Int} (h : jx_rep L σ H) (hx : (x, 288) ∈ jx_cs L) : jx_scat L σ H x := by
  have := h x 288 hx
  unfold jx_rp at this
  rw [if_pos rfl] at this
  exact this
theorem jx_rp_a {L : jx_L} {σ : jx_S} {H : Heap} {x : Int} {g : Nat} (h : jx_at L σ H x g) (hg : g ≠ 288) : jx_rp L σ H x g := by
  unfold jx_rp
  rw [if_neg hg]
  exact h
theorem jx_rp_s {L : jx_L} {σ σ2 : jx_S} {H H2 : Heap} {x : Int} (h : jx_scat L σ H x) (hH : H2[jx_ad L x 288]? = H[jx_ad L x 288]?) (hσ : ∀ i, σ2 x 288 i = σ x 288 i) : jx_rp L σ2 H2 x 288 := by
  unfold jx_rp
  rw [if_pos rfl]
  obtain ⟨cell, h1, h2, h3, h4, h5, h6⟩ := h
  exact ⟨cell, by rw [hH, h1], h2, h3, h4, h5, fun j hj => by rw [hσ]; exact h6 j hj⟩
/-- the state is typed -/
def jx_tok (L : jx_L) (σ : jx_S) : Prop :=
  (∀ x, (x, 0) ∈ jx_cs L → ∀ j, j < jx_nf (jx_cl L x) → if 100 ≤ jx_ft (jx_fo (jx_cl L x) + j) then (x, jx_fo (jx_cl L x) + j) ∈ jx_cs L else jx_ok L (jx_ft (jx_fo (jx_cl L x) + j)) (σ x (jx_fo (jx_cl L x) + j) 0)) ∧
  ∀ x g, (x, g) ∈ jx_cs L → g ≠ 0 → ∀ i : Int, 0 ≤ i → i < jx_ln x g → jx_ok L (jx_ft g - 100) (σ x g i)
/-- the layout is sound: addresses apart, all but the script may be written -/
def jx_lok (L : jx_L) (A : Nat → Prop) : Prop :=
  (∀ p q, p ∈ jx_cs L → q ∈ jx_cs L → jx_ad L p.1 p.2 = jx_ad L q.1 q.2 → p = q) ∧
  (∀ p, p ∈ jx_cs L → p.2 ≠ jx_script → A (jx_ad L p.1 p.2)) ∧
  (∀ x g, (x, g) ∈ jx_cs L → 0 < x ∧ x < 1099511627776) ∧
  (∀ x g, (x, g) ∈ jx_cs L → g ≠ 0 → 100 ≤ jx_ft g ∧ g < 1024) ∧
  (∀ x, (x, 0) ∈ jx_cs L → jx_cl L x < jx_ncl) ∧
  (∀ i j : Int, 1 ≤ i → i ≤ 27 → 1 ≤ j → j ≤ 27 → jx_op L i = jx_op L j → i = j) ∧
  ∀ x g, (x, g) ∈ jx_cs L → 0 ≤ jx_ln x g ∧ jx_ln x g ≤ 1000000
/-- array classes of the world -/
def jx_ty (L : jx_L) : List (ClassId × FieldType) := jx_atl.map fun t => (jx_dA L t, jx_fty0 t)
/-- the Op constants, their statics and fields -/
def jx_KO (L : jx_L) (A : Nat → Prop) (U : State) : Prop :=
  (∀ i : Nat, i < 27 → va_Z "LiveHouse$Op" (jx_opn.getD i "") "LLiveHouse$Op;" (.ref (jx_op L ((i : Int) + 1))) A U U.heap ∧ va_O "LiveHouse$Op" (jx_op L ((i : Int) + 1)) A U U.heap ∧
    va_OF "LiveHouse$Op" "names" "I" (.int (jx_opi.getD i 0)) (jx_op L ((i : Int) + 1)) A U U.heap ∧ va_OF "java/lang/Enum" "ordinal" "I" (.int (Int32.ofNat i)) (jx_op L ((i : Int) + 1)) A U U.heap ∧
    va_OF "LiveHouse$Op" "word" "Ljava/lang/String;" (.ref (jx_st L (jx_opw.getD i 0))) (jx_op L ((i : Int) + 1)) A U U.heap) ∧
  va_Z "java/lang/String" "COMPACT_STRINGS" "Z" (.int 1) A U U.heap ∧ va_Z "jdk/internal/util/Preconditions" "SIOOBE_FORMATTER" "Ljava/util/function/BiFunction;" (jx_v L 8 1) A U U.heap
/-- the String constants -/
def jx_KS (L : jx_L) (A : Nat → Prop) (U : State) : Prop :=
  ∀ i : Nat, i < jx_stl.length → va_O "java/lang/String" (jx_st L ((i : Int) + 1)) A U U.heap ∧ va_OF "java/lang/String" "coder" "B" (.int 0) (jx_st L ((i : Int) + 1)) A U U.heap ∧
    va_OF "java/lang/String" "value" "[B" (.ref (jx_st L (-((i : Int) + 1)))) (jx_st L ((i : Int) + 1)) A U U.heap ∧ va_T .byte (jx_st L (-((i : Int) + 1))) (jx_stl.getD i 0) (fun j => .int ((jx_sbl.getD i []).getD j 0)) A U U.heap
/-- what the tables and the constants are -/
def jx_K (L : jx_L) (A : Nat → Prop) (U : State) : Prop :=
  va_K (jx_D L) jx_cls (jx_ty L) U ∧ (∀ w ∈ jx_nw, va_Nw w U) ∧ (∀ q ∈ jx_strs, vk_R q.1 q.2.1 q.2.2.1 (jx_st L q.2.2.2) U) ∧ jx_KO L A U ∧ jx_KS L A U ∧ ArrOfT U (jx_dA L 288) .int
theorem jx_K.to {L : jx_L} {A : Nat → Prop} {u U : State} (h : jx_K L A u) (hW : u.WarmedH U.vm) (hH : ∀ a : Nat, a < u.heap.size → ¬ A a → U.heap[a]? = u.heap[a]?) : jx_K L A U := by
  obtain ⟨h1, h2, h3, h4, h5, h6⟩ := h
  refine ⟨h1.moved hW.alike, fun w hw => ?_, fun q hq => (h3 q hq).warm hW, ⟨fun i hi => ?_, ?_, ?_⟩, fun i hi => ?_, arrOfT_moved hW.alike h6⟩
  · have hn : jx_nest w = true := (List.mem_filter.mp hw).2
    have h := h2 w hw
    cases w <;> first | exact va_Nw.warmF hW h | exact va_Nw.warmM hW h | simp [jx_nest] at hn
  · obtain ⟨a1, a2, a3, a4, a5⟩ := h4.1 i hi
    exact ⟨(va_Z.moved hW.alike a1).kept hH, (va_O.moved hW.alike a2).kept hH, (va_OF.moved hW.alike a3).kept hH, (va_OF.moved hW.alike a4).kept hH, (va_OF.moved hW.alike a5).kept hH⟩
  · exact (va_Z.moved hW.alike h4.2.1).kept hH
  · exact (va_Z.moved hW.alike h4.2.2).kept hH
  · obtain ⟨a1, a2, a3, a4⟩ := h5 i hi
    exact ⟨(va_O.moved hW.alike a1).kept hH, (va_OF.moved hW.alike a2).kept hH, (va_OF.moved hW.alike a3).kept hH, (va_T.moved hW.alike a4).kept hH⟩
/-- one place of the state is written -/
def jx_up (σ : jx_S) (x : Int) (g : Nat) (i v : Int) : jx_S := fun y h j => if y = x ∧ h = g ∧ j = i then v else σ y h j
/-- a method: its class, bytes, size of locals, room (frames, words), result (type code, type), handlers -/
abbrev jx_M : Type := String × ByteArray × Nat × Nat × Nat × Nat × Option FieldType × List (Nat × Nat × Nat × Nat)
abbrev jx_own (M : jx_M) : String := M.1
abbrev jx_cc (M : jx_M) : ByteArray := M.2.1
abbrev jx_nl (M : jx_M) : Nat := M.2.2.1
abbrev jx_fr (M : jx_M) : Nat := M.2.2.2.1
abbrev jx_lo (M : jx_M) : Nat := M.2.2.2.2.1
abbrev jx_rt (M : jx_M) : Nat := M.2.2.2.2.2.1
abbrev jx_re (M : jx_M) : Option FieldType := M.2.2.2.2.2.2.1
abbrev jx_hh (M : jx_M) : List (Nat × Nat × Nat × Nat) := M.2.2.2.2.2.2.2
/-- how a method's end looks on the machine -/
def jx_out (L : jx_L) (rt : Nat) (r : jx_R) (o : Outcome) : Prop := match r with
  | .ok v => o = .returned (if rt = 0 then none else some (jx_v L rt v)) ∧ jx_ok L rt v
  | .error x => o = .threw (jx_ad L x 0) ∧ jx_ok L (10 + jx_refusal) x ∧ x ≠ 0
/-- the end of the walk of a method: one that 'F' allows -/
def jx_Q (L : jx_L) (A : Nat → Prop) (rt : Nat) (F : jx_R → jx_S → Prop) (s : State) (below : List Frame) : State → Prop := fun t =>
  ∃ o, t.status = .running ∧ Ended t below o ∧ (∃ r σ, F r σ ∧ jx_out L rt r o ∧ jx_rep L σ t.heap ∧ jx_tok L σ) ∧ va_F A s t ∧
    ∃ Lc, (s.WarmedH t.vm ∧ s.sameButNew ({ t with vm := s.vm } : State) Lc (jx_nc L) (jx_ns L)) ∧ ∀ q ∈ Lc, A q.base
/-- what is known in a method's walk -/
def jx_C (M : jx_M) (L : jx_L) (A : Nat → Prop) (p : Program) (R : Room) (s : State) (m : MethodId) (args : Array Value) (meth : Method) (c : Code) : Prop :=
  p.tables.exec = Jvm.exec ∧ c.code = jx_cc M ∧ c.maxLocals = jx_nl M ∧ s.vm.findClass (jx_own M) = some m.cls ∧ (∀ w ∈ jx_tb, w.before args s = true) ∧ jx_K L A s ∧ jx_lok L A ∧
  (R.frames = jx_fr M ∧ R.locals = jx_lo M ∧ jx_nc L ≤ R.cells ∧ jx_ns L ≤ R.slots) ∧ (meth.sig.returnType = jx_re M ∧ meth.locks = false) ∧ c.exceptionTable.toList.map (fun h => (h.startPc, h.endPc, h.handlerPc, h.catchType)) = jx_hh M
/-- the locals hold what 'G' (types by place; 0: nothing is said) and the environment say -/
def jx_hl (L : jx_L) (nl : Nat) (G : List Nat) (env : jx_E) (ls : Array Slot) : Prop :=
  ls.size = nl ∧ env.length = nl ∧ lv_wf ls ∧ ∀ i t, G[i]? = some t → t ≠ 0 → ls[i]? = some (.val (jx_v L t (env.getD i 0))) ∧ jx_ok L t (env.getD i 0)
/-- what holds between two instructions -/
def jx_I (M : jx_M) (L : jx_L) (A : Nat → Prop) (G : List Nat) (s : State) (env : jx_E) (σ : jx_S) (H : Heap) (locs : List Loc) (ls : Array Slot) : Prop :=
  jx_rep L σ H ∧ jx_tok L σ ∧ va_S A s.heap H locs ∧ jx_hl L (jx_nl M) G env ls
abbrev jx_ct (st : List Value) : Nat := (st.map fun v => v.category).sum
/-- the code from pc to pc2 computes f, a value of type t, onto the stack (at most n words lie there) -/
def jx_XE (M : jx_M) (n : Nat) (G : List Nat) (t pc pc2 : Nat) (f : jx_X Int) : Prop :=
  ∀ (L : jx_L) (A : Nat → Prop) (p : Program) (l : Launch) (e : Env) (R : Room) (s : State) (m : MethodId) (args : Array Value) (below : List Frame) (meth : Method) (c : Code) (F : jx_R → jx_S → Prop),
    jx_C M L A p R s m args meth c → ∀ (env : jx_E) (σ : jx_S) (H : Heap) (locs : List Loc) (ls : Array Slot) (st : List Value), jx_I M L A G s env σ H locs ls → jx_ct st ≤ n →
    ∀ o env2 σ2, f env σ = some (o, env2, σ2) →
    (match o with
      | .ok v => jx_ok L t v → ∀ H2 locs2 ls2, jx_I M L A G s env2 σ2 H2 locs2 ls2 → W p l e R s m args below meth c H2 locs2 (jx_nc L) (jx_ns L) (jx_Q L A (jx_rt M) F s below) (F0 m pc2 ls2 (jx_v L t v :: st))
      | .error r => F r σ2) →
    W p l e R s m args below meth c H locs (jx_nc L) (jx_ns L) (jx_Q L A (jx_rt M) F s below) (F0 m pc ls st)
/-- the code from pc goes to pt if f is true, to pf if it is false -/
def jx_XC (M : jx_M) (n : Nat) (G : List Nat) (pc pt pf : Nat) (f : jx_X Bool) : Prop :=
  ∀ (L : jx_L) (A : Nat → Prop) (p : Program) (l : Launch) (e : Env) (R : Room) (s : State) (m : MethodId) (args : Array Value) (below : List Frame) (meth : Method) (c : Code) (F : jx_R → jx_S → Prop),
    jx_C M L A p R s m args meth c → ∀ (env : jx_E) (σ : jx_S) (H : Heap) (locs : List Loc) (ls : Array Slot) (st : List Value), jx_I M L A G s env σ H locs ls → jx_ct st ≤ n →
    ∀ o env2 σ2, f env σ = some (o, env2, σ2) →
    (match o with
      | .ok b => ∀ H2 locs2 ls2, jx_I M L A G s env2 σ2 H2 locs2 ls2 → W p l e R s m args below meth c H2 locs2 (jx_nc L) (jx_ns L) (jx_Q L A (jx_rt M) F s below) (F0 m (if b then pt else pf) ls2 st)
      | .error r => F r σ2) →
    W p l e R s m args below meth c H locs (jx_nc L) (jx_ns L) (jx_Q L A (jx_rt M) F s below) (F0 m pc ls st)
/-- the code from pc to pc2 does f -/
def jx_XS (M : jx_M) (G G2 : List Nat) (pc pc2 : Nat) (f : jx_X Unit) : Prop :=
  ∀ (L : jx_L) (A : Nat → Prop) (p : Program) (l : Launch) (e : Env) (R : Room) (s : State) (m : MethodId) (args : Array Value) (below : List Frame) (meth : Method) (c : Code) (F : jx_R → jx_S → Prop),
    jx_C M L A p R s m args meth c → ∀ (env : jx_E) (σ : jx_S) (H : Heap) (locs : List Loc) (ls : Array Slot), jx_I M L A G s env σ H locs ls →
    ∀ o env2 σ2, f env σ = some (o, env2, σ2) →
    (match o with
      | .ok _ => ∀ H2 locs2 ls2, jx_I M L A G2 s env2 σ2 H2 locs2 ls2 → W p l e R s m args below meth c H2 locs2 (jx_nc L) (jx_ns L) (jx_Q L A (jx_rt M) F s below) (F0 m pc2 ls2 [])
      | .error r => F r σ2) →
    W p l e R s m args below meth c H locs (jx_nc L) (jx_ns L) (jx_Q L A (jx_rt M) F s below) (F0 m pc ls [])
