/-! THE START: strings and Op constants, out of what is given at the law's entry; printed by startgen.py -/
def st_sa (args : Array Value) (s : State) (t : Term) : Nat := match t.eval args s none [] s with
  | some (.ref a) => a
  | _ => 0
theorem st_ref {args : Array Value} {s : State} {t : Term} {a : Nat} (h : t.eval args s none [] s = some (.ref a)) : t.eval args s none [] s = some (.ref (st_sa args s t)) := by
  unfold st_sa
  rw [h]
theorem st_ex {args : Array Value} {s : State} {t : Term} {C : String} (h : (Cond.exactly t C).before args s = true) : t.eval args s none [] s = some (.ref (st_sa args s t)) := by
  obtain ⟨a, c, cell, k, h1, -⟩ := Cond.exactly_spec h
  exact st_ref h1
def st_t : List Term := [.string "LiveHouse$BuildReader" 87, .string "LiveHouse$Reader" 74, .string "LiveHouse$Reader" 80, .string "LiveHouse$Reader" 82, .string "LiveHouse$BuildReader" 118, .string "LiveHouse$BuildReader" 123, .string "LiveHouse$BuildReader" 128, .string "LiveHouse$BuildReader" 131, .string "LiveHouse$RulesReader" 75, .string "LiveHouse$RulesReader" 81, .string "LiveHouse$RulesReader" 82, .string "LiveHouse$RulesReader" 84, .string "LiveHouse$RulesReader" 86, .string "LiveHouse$RulesReader" 88, .string "LiveHouse$Exp" 47, .string "LiveHouse$Exp" 49, .string "LiveHouse$Exp" 51, .string "LiveHouse$Exp" 53, .string "LiveHouse$Exp" 55, .string "LiveHouseModel" 335, .string "LiveHouse$Op" 117, .string "LiveHouse$Op" 189, .string "LiveHouse$Op" 192, .string "LiveHouse$Op" 195, .string "LiveHouse$Op" 186, .string "LiveHouse$Op" 198, .string "LiveHouse$Op" 156, .string "LiveHouse$Op" 159, .string "LiveHouse$Op" 144, .string "LiveHouse$Op" 141, .string "LiveHouse$Op" 126, .string "LiveHouse$Op" 135, .string "LiveHouse$Op" 138, .string "LiveHouse$Op" 183, .string "LiveHouse$Op" 129, .string "LiveHouse$Op" 132, .string "LiveHouse$Op" 168, .string "LiveHouse$Op" 171, .string "LiveHouse$Op" 174, .string "LiveHouse$Op" 177, .string "LiveHouse$Op" 180]
def st_fv (t : Term) : Term := .field t "java/lang/String" "value" "[B"
def st_o (i : Nat) : Term := .static "LiveHouse$Op" (jx_opn.getD i "") "LLiveHouse$Op;"
/-- where the strings lie, their bytes, and (at 100) the formatter of an exception's text -/
def st_st (args : Array Value) (s : State) (fm : Nat) (v : Int) : Nat := if v = 100 then fm else if 0 < v then st_sa args s (st_t.getD (v - 1).toNat (.int 0)) else st_sa args s (st_fv (st_t.getD (-v - 1).toNat (.int 0)))
def st_op (args : Array Value) (s : State) (v : Int) : Nat := st_sa args s (st_o (v - 1).toNat)
/-- what is known of a string -/
def st_sp (args : Array Value) (s : State) (A : Nat → Prop) (fm i : Nat) : Prop :=
  va_O "java/lang/String" (st_st args s fm ((i : Int) + 1)) A s s.heap ∧ va_OF "java/lang/String" "coder" "B" (.int 0) (st_st args s fm ((i : Int) + 1)) A s s.heap ∧
    va_OF "java/lang/String" "value" "[B" (.ref (st_st args s fm (-((i : Int) + 1)))) (st_st args s fm ((i : Int) + 1)) A s s.heap ∧ va_T .byte (st_st args s fm (-((i : Int) + 1))) (jx_stl.getD i 0) (fun j => .int ((jx_sbl.getD i []).getD j 0)) A s s.heap
theorem st_of {args : Array Value} {s : State} {A : Nat → Prop} {fm i N : Nat} {t : Term} (h1 : t.eval args s none [] s = some (.ref (st_st args s fm ((i : Int) + 1)))) (h2 : (Cond.exactly t "java/lang/String").before args s = true) (h3 : (Term.field t "java/lang/String" "coder" "B").eval args s none [] s = some (.int 0)) (h4 : (Cond.arrayOf (st_fv t) .byte).before args s = true) (hN : N < 2 ^ 31) (h5 : (Term.length (st_fv t)).eval args s none [] s = some (.int (Int32.ofNat N))) (h6 : ∀ j : Nat, j < N → (Term.elem (st_fv t) (.int (Int32.ofNat j))).eval args s none [] s = some (.int ((jx_sbl.getD i []).getD j 0))) (hA : ∀ a : Nat, a < s.heap.size → ¬ A a) (he : st_t.getD i (.int 0) = t := by rfl) (hN2 : jx_stl.getD i 0 = N := by rfl) : st_sp args s A fm i := by
  obtain ⟨v, ht, hT⟩ := va_Tof hN h4 h5 h6 hA
  have hv : st_st args s fm (-((i : Int) + 1)) = v := by
    unfold st_st
    rw [if_neg (by omega), if_neg (by omega), show (-(-((i : Int) + 1)) - 1).toNat = i by omega, he]
    unfold st_sa
    rw [ht]
  refine ⟨va_Oof h2 h1 hA, vk_OFof h1 h3 hA, ?_, ?_⟩
  · rw [hv]
    exact vk_OFof h1 ht hA
  · rw [hv, hN2]
    exact hT
/-- what is known of an Op constant -/
def st_opp (args : Array Value) (s : State) (A : Nat → Prop) (fm i : Nat) : Prop :=
  va_Z "LiveHouse$Op" (jx_opn.getD i "") "LLiveHouse$Op;" (.ref (st_op args s ((i : Int) + 1))) A s s.heap ∧ va_O "LiveHouse$Op" (st_op args s ((i : Int) + 1)) A s s.heap ∧
    va_OF "LiveHouse$Op" "names" "I" (.int (jx_opi.getD i 0)) (st_op args s ((i : Int) + 1)) A s s.heap ∧ va_OF "java/lang/Enum" "ordinal" "I" (.int (Int32.ofNat i)) (st_op args s ((i : Int) + 1)) A s s.heap ∧
    va_OF "LiveHouse$Op" "word" "Ljava/lang/String;" (.ref (st_st args s fm (jx_opw.getD i 0))) (st_op args s ((i : Int) + 1)) A s s.heap
theorem st_opof {args : Array Value} {s : State} {A : Nat → Prop} {fm i : Nat} {a b : Nat} {z : Int32} (h1 : (st_o i).eval args s none [] s = some (.ref a)) (h2 : (Cond.exactly (st_o i) "LiveHouse$Op").before args s = true) (h3 : (Cond.laysStatic "LiveHouse$Op" (jx_opn.getD i "") "LLiveHouse$Op;").before args s = true) (h4 : (Cond.initialized "LiveHouse$Op").before args s = true) (h5 : (Term.field (st_o i) "LiveHouse$Op" "names" "I").eval args s none [] s = some (.int z)) (h6 : (Term.field (st_o i) "java/lang/Enum" "ordinal" "I").eval args s none [] s = some (.int (Int32.ofNat i))) (h7 : (Term.field (st_o i) "LiveHouse$Op" "word" "Ljava/lang/String;").eval args s none [] s = some (.ref b)) (hA : ∀ a : Nat, a < s.heap.size → ¬ A a) (hz : jx_opi.getD i 0 = z := by rfl) (hb : st_st args s fm (jx_opw.getD i 0) = b := by rfl) : st_opp args s A fm i := by
  have ha : st_op args s ((i : Int) + 1) = a := by
    unfold st_op
    rw [show ((i : Int) + 1 - 1).toNat = i by omega]
    unfold st_sa
    rw [h1]
  unfold st_opp
  rw [ha, hz, hb]
  exact ⟨va_Zof h3 h4 h1 hA, va_Oof h2 h1 hA, vk_OFof h1 h5 hA, vk_OFof h1 h6 hA, vk_OFof h1 h7 hA⟩
section
variable {args : Array Value} {s : State} {A : Nat → Prop} {fm : Nat}
set_option maxRecDepth 40000 in
theorem st_e0 (hs : ∀ w ∈ flatC (Jvm.Cond.and given_1 narrow_1), w.before args s = true) : (Term.string "LiveHouse$BuildReader" 87).eval args s none [] s = some (.ref (st_st args s fm 1)) := (st_ex (hs _ (List.mem_of_getElem? (i := 167) rfl)))
set_option maxRecDepth 40000 in
theorem st_e1 (hs : ∀ w ∈ flatC (Jvm.Cond.and given_1 narrow_1), w.before args s = true) : (Term.string "LiveHouse$Reader" 74).eval args s none [] s = some (.ref (st_st args s fm 2)) := (st_ex (hs _ (List.mem_of_getElem? (i := 176) rfl)))
set_option maxRecDepth 40000 in
theorem st_e2 (hs : ∀ w ∈ flatC (Jvm.Cond.and given_1 narrow_1), w.before args s = true) : (Term.string "LiveHouse$Reader" 80).eval args s none [] s = some (.ref (st_st args s fm 3)) := (st_ex (hs _ (List.mem_of_getElem? (i := 183) rfl)))
set_option maxRecDepth 40000 in
theorem st_e3 (hs : ∀ w ∈ flatC (Jvm.Cond.and given_1 narrow_1), w.before args s = true) : (Term.string "LiveHouse$Reader" 82).eval args s none [] s = some (.ref (st_st args s fm 4)) := (st_ex (hs _ (List.mem_of_getElem? (i := 191) rfl)))
set_option maxRecDepth 40000 in
theorem st_e4 (hs : ∀ w ∈ flatC (Jvm.Cond.and given_1 narrow_1), w.before args s = true) : (Term.string "LiveHouse$BuildReader" 118).eval args s none [] s = some (.ref (st_st args s fm 5)) := (st_ex (hs _ (List.mem_of_getElem? (i := 198) rfl)))
set_option maxRecDepth 40000 in
theorem st_e5 (hs : ∀ w ∈ flatC (Jvm.Cond.and given_1 narrow_1), w.before args s = true) : (Term.string "LiveHouse$BuildReader" 144).eval args s none [] s = some (.ref (st_st args s fm 2)) := va_eqR (hs _ (List.mem_of_getElem? (i := 214) rfl)) (st_e1 hs)
set_option maxRecDepth 40000 in
theorem st_e6 (hs : ∀ w ∈ flatC (Jvm.Cond.and given_1 narrow_1), w.before args s = true) : (Term.string "LiveHouse$BuildReader" 149).eval args s none [] s = some (.ref (st_st args s fm 3)) := va_eqR (hs _ (List.mem_of_getElem? (i := 223) rfl)) (st_e2 hs)
set_option maxRecDepth 40000 in
theorem st_e7 (hs : ∀ w ∈ flatC (Jvm.Cond.and given_1 narrow_1), w.before args s = true) : (Term.string "LiveHouse$BuildReader" 123).eval args s none [] s = some (.ref (st_st args s fm 6)) := (st_ex (hs _ (List.mem_of_getElem? (i := 224) rfl)))
set_option maxRecDepth 40000 in
theorem st_e8 (hs : ∀ w ∈ flatC (Jvm.Cond.and given_1 narrow_1), w.before args s = true) : (Term.string "LiveHouse$BuildReader" 128).eval args s none [] s = some (.ref (st_st args s fm 7)) := (st_ex (hs _ (List.mem_of_getElem? (i := 234) rfl)))
set_option maxRecDepth 40000 in
theorem st_e9 (hs : ∀ w ∈ flatC (Jvm.Cond.and given_1 narrow_1), w.before args s = true) : (Term.string "LiveHouse$BuildReader" 131).eval args s none [] s = some (.ref (st_st args s fm 8)) := (st_ex (hs _ (List.mem_of_getElem? (i := 244) rfl)))
set_option maxRecDepth 40000 in
theorem st_e10 (hs : ∀ w ∈ flatC (Jvm.Cond.and given_1 narrow_1), w.before args s = true) : (Term.string "LiveHouse$RulesReader" 75).eval args s none [] s = some (.ref (st_st args s fm 9)) := (st_ex (hs _ (List.mem_of_getElem? (i := 253) rfl)))
set_option maxRecDepth 40000 in
theorem st_e11 (hs : ∀ w ∈ flatC (Jvm.Cond.and given_1 narrow_1), w.before args s = true) : (Term.string "LiveHouse$RulesReader" 81).eval args s none [] s = some (.ref (st_st args s fm 10)) := (st_ex (hs _ (List.mem_of_getElem? (i := 261) rfl)))
set_option maxRecDepth 40000 in
theorem st_e12 (hs : ∀ w ∈ flatC (Jvm.Cond.and given_1 narrow_1), w.before args s = true) : (Term.string "LiveHouse$RulesReader" 82).eval args s none [] s = some (.ref (st_st args s fm 11)) := (st_ex (hs _ (List.mem_of_getElem? (i := 269) rfl)))
set_option maxRecDepth 40000 in
theorem st_e13 (hs : ∀ w ∈ flatC (Jvm.Cond.and given_1 narrow_1), w.before args s = true) : (Term.string "LiveHouse$RulesReader" 84).eval args s none [] s = some (.ref (st_st args s fm 12)) := (st_ex (hs _ (List.mem_of_getElem? (i := 276) rfl)))
set_option maxRecDepth 40000 in
theorem st_e14 (hs : ∀ w ∈ flatC (Jvm.Cond.and given_1 narrow_1), w.before args s = true) : (Term.string "LiveHouse$RulesReader" 86).eval args s none [] s = some (.ref (st_st args s fm 13)) := (st_ex (hs _ (List.mem_of_getElem? (i := 283) rfl)))
set_option maxRecDepth 40000 in
theorem st_e15 (hs : ∀ w ∈ flatC (Jvm.Cond.and given_1 narrow_1), w.before args s = true) : (Term.string "LiveHouse$RulesReader" 88).eval args s none [] s = some (.ref (st_st args s fm 14)) := (st_ex (hs _ (List.mem_of_getElem? (i := 291) rfl)))
set_option maxRecDepth 40000 in
theorem st_e16 (hs : ∀ w ∈ flatC (Jvm.Cond.and given_1 narrow_1), w.before args s = true) : (Term.string "LiveHouse$Exp" 41).eval args s none [] s = some (.ref (st_st args s fm 4)) := va_eqR (hs _ (List.mem_of_getElem? (i := 306) rfl)) (st_e3 hs)
set_option maxRecDepth 40000 in
theorem st_e17 (hs : ∀ w ∈ flatC (Jvm.Cond.and given_1 narrow_1), w.before args s = true) : (Term.string "LiveHouse$Exp" 47).eval args s none [] s = some (.ref (st_st args s fm 15)) := (st_ex (hs _ (List.mem_of_getElem? (i := 307) rfl)))
set_option maxRecDepth 40000 in
theorem st_e18 (hs : ∀ w ∈ flatC (Jvm.Cond.and given_1 narrow_1), w.before args s = true) : (Term.string "LiveHouse$Exp" 49).eval args s none [] s = some (.ref (st_st args s fm 16)) := (st_ex (hs _ (List.mem_of_getElem? (i := 314) rfl)))
set_option maxRecDepth 40000 in
theorem st_e19 (hs : ∀ w ∈ flatC (Jvm.Cond.and given_1 narrow_1), w.before args s = true) : (Term.string "LiveHouse$Exp" 51).eval args s none [] s = some (.ref (st_st args s fm 17)) := (st_ex (hs _ (List.mem_of_getElem? (i := 321) rfl)))
set_option maxRecDepth 40000 in
theorem st_e20 (hs : ∀ w ∈ flatC (Jvm.Cond.and given_1 narrow_1), w.before args s = true) : (Term.string "LiveHouse$Exp" 53).eval args s none [] s = some (.ref (st_st args s fm 18)) := (st_ex (hs _ (List.mem_of_getElem? (i := 328) rfl)))
set_option maxRecDepth 40000 in
theorem st_e21 (hs : ∀ w ∈ flatC (Jvm.Cond.and given_1 narrow_1), w.before args s = true) : (Term.string "LiveHouse$Exp" 55).eval args s none [] s = some (.ref (st_st args s fm 19)) := (st_ex (hs _ (List.mem_of_getElem? (i := 336) rfl)))
set_option maxRecDepth 40000 in
theorem st_e22 (hs : ∀ w ∈ flatC (Jvm.Cond.and given_1 narrow_1), w.before args s = true) : (Term.string "LiveHouseModel" 340).eval args s none [] s = some (.ref (st_st args s fm 1)) := va_eqR (hs _ (List.mem_of_getElem? (i := 353) rfl)) (st_e0 hs)
set_option maxRecDepth 40000 in
theorem st_e23 (hs : ∀ w ∈ flatC (Jvm.Cond.and given_1 narrow_1), w.before args s = true) : (Term.string "LiveHouseModel" 313).eval args s none [] s = some (.ref (st_st args s fm 2)) := va_eqR (hs _ (List.mem_of_getElem? (i := 361) rfl)) (st_e1 hs)
set_option maxRecDepth 40000 in
theorem st_e24 (hs : ∀ w ∈ flatC (Jvm.Cond.and given_1 narrow_1), w.before args s = true) : (Term.string "LiveHouseModel" 319).eval args s none [] s = some (.ref (st_st args s fm 3)) := va_eqR (hs _ (List.mem_of_getElem? (i := 371) rfl)) (st_e2 hs)
set_option maxRecDepth 40000 in
theorem st_e25 (hs : ∀ w ∈ flatC (Jvm.Cond.and given_1 narrow_1), w.before args s = true) : (Term.string "LiveHouseModel" 321).eval args s none [] s = some (.ref (st_st args s fm 4)) := va_eqR (hs _ (List.mem_of_getElem? (i := 380) rfl)) (st_e3 hs)
set_option maxRecDepth 40000 in
theorem st_e26 (hs : ∀ w ∈ flatC (Jvm.Cond.and given_1 narrow_1), w.before args s = true) : (Term.string "LiveHouseModel" 345).eval args s none [] s = some (.ref (st_st args s fm 5)) := va_eqR (hs _ (List.mem_of_getElem? (i := 391) rfl)) (st_e4 hs)
set_option maxRecDepth 40000 in
theorem st_e27 (hs : ∀ w ∈ flatC (Jvm.Cond.and given_1 narrow_1), w.before args s = true) : (Term.string "LiveHouseModel" 350).eval args s none [] s = some (.ref (st_st args s fm 6)) := va_eqR (hs _ (List.mem_of_getElem? (i := 402) rfl)) (st_e7 hs)
set_option maxRecDepth 40000 in
theorem st_e28 (hs : ∀ w ∈ flatC (Jvm.Cond.and given_1 narrow_1), w.before args s = true) : (Term.string "LiveHouseModel" 355).eval args s none [] s = some (.ref (st_st args s fm 7)) := va_eqR (hs _ (List.mem_of_getElem? (i := 413) rfl)) (st_e8 hs)
set_option maxRecDepth 40000 in
theorem st_e29 (hs : ∀ w ∈ flatC (Jvm.Cond.and given_1 narrow_1), w.before args s = true) : (Term.string "LiveHouseModel" 360).eval args s none [] s = some (.ref (st_st args s fm 8)) := va_eqR (hs _ (List.mem_of_getElem? (i := 423) rfl)) (st_e9 hs)
set_option maxRecDepth 40000 in
theorem st_e30 (hs : ∀ w ∈ flatC (Jvm.Cond.and given_1 narrow_1), w.before args s = true) : (Term.string "LiveHouseModel" 335).eval args s none [] s = some (.ref (st_st args s fm 20)) := (st_ex (hs _ (List.mem_of_getElem? (i := 424) rfl)))
set_option maxRecDepth 40000 in
theorem st_e31 (hs : ∀ w ∈ flatC (Jvm.Cond.and given_1 narrow_1), w.before args s = true) : (Term.string "LiveHouseModel" 595).eval args s none [] s = some (.ref (st_st args s fm 9)) := va_eqR (hs _ (List.mem_of_getElem? (i := 559) rfl)) (st_e10 hs)
set_option maxRecDepth 40000 in
theorem st_e32 (hs : ∀ w ∈ flatC (Jvm.Cond.and given_1 narrow_1), w.before args s = true) : (Term.string "LiveHouseModel" 596).eval args s none [] s = some (.ref (st_st args s fm 10)) := va_eqR (hs _ (List.mem_of_getElem? (i := 568) rfl)) (st_e11 hs)
set_option maxRecDepth 40000 in
theorem st_e33 (hs : ∀ w ∈ flatC (Jvm.Cond.and given_1 narrow_1), w.before args s = true) : (Term.string "LiveHouseModel" 598).eval args s none [] s = some (.ref (st_st args s fm 11)) := va_eqR (hs _ (List.mem_of_getElem? (i := 576) rfl)) (st_e12 hs)
set_option maxRecDepth 40000 in
theorem st_e34 (hs : ∀ w ∈ flatC (Jvm.Cond.and given_1 narrow_1), w.before args s = true) : (Term.string "LiveHouseModel" 600).eval args s none [] s = some (.ref (st_st args s fm 12)) := va_eqR (hs _ (List.mem_of_getElem? (i := 584) rfl)) (st_e13 hs)
set_option maxRecDepth 40000 in
theorem st_e35 (hs : ∀ w ∈ flatC (Jvm.Cond.and given_1 narrow_1), w.before args s = true) : (Term.string "LiveHouseModel" 602).eval args s none [] s = some (.ref (st_st args s fm 13)) := va_eqR (hs _ (List.mem_of_getElem? (i := 593) rfl)) (st_e14 hs)
set_option maxRecDepth 40000 in
theorem st_e36 (hs : ∀ w ∈ flatC (Jvm.Cond.and given_1 narrow_1), w.before args s = true) : (Term.string "LiveHouseModel" 604).eval args s none [] s = some (.ref (st_st args s fm 14)) := va_eqR (hs _ (List.mem_of_getElem? (i := 602) rfl)) (st_e15 hs)
set_option maxRecDepth 40000 in
theorem st_e37 (hs : ∀ w ∈ flatC (Jvm.Cond.and given_1 narrow_1), w.before args s = true) : (Term.string "LiveHouseModel" 606).eval args s none [] s = some (.ref (st_st args s fm 15)) := va_eqR (hs _ (List.mem_of_getElem? (i := 610) rfl)) (st_e17 hs)
set_option maxRecDepth 40000 in
theorem st_e38 (hs : ∀ w ∈ flatC (Jvm.Cond.and given_1 narrow_1), w.before args s = true) : (Term.string "LiveHouseModel" 608).eval args s none [] s = some (.ref (st_st args s fm 16)) := va_eqR (hs _ (List.mem_of_getElem? (i := 618) rfl)) (st_e18 hs)
set_option maxRecDepth 40000 in
theorem st_e39 (hs : ∀ w ∈ flatC (Jvm.Cond.and given_1 narrow_1), w.before args s = true) : (Term.string "LiveHouseModel" 610).eval args s none [] s = some (.ref (st_st args s fm 17)) := va_eqR (hs _ (List.mem_of_getElem? (i := 626) rfl)) (st_e19 hs)
set_option maxRecDepth 40000 in
theorem st_e40 (hs : ∀ w ∈ flatC (Jvm.Cond.and given_1 narrow_1), w.before args s = true) : (Term.string "LiveHouseModel" 612).eval args s none [] s = some (.ref (st_st args s fm 18)) := va_eqR (hs _ (List.mem_of_getElem? (i := 635) rfl)) (st_e20 hs)
set_option maxRecDepth 40000 in
theorem st_e41 (hs : ∀ w ∈ flatC (Jvm.Cond.and given_1 narrow_1), w.before args s = true) : (Term.string "LiveHouseModel" 614).eval args s none [] s = some (.ref (st_st args s fm 19)) := va_eqR (hs _ (List.mem_of_getElem? (i := 644) rfl)) (st_e21 hs)
set_option maxRecDepth 40000 in
theorem st_e42 (hs : ∀ w ∈ flatC (Jvm.Cond.and given_1 narrow_1), w.before args s = true) : (Term.string "LiveHouse$Op" 117).eval args s none [] s = some (.ref (st_st args s fm 21)) := (st_ex (hs _ (List.mem_of_getElem? (i := 645) rfl)))
set_option maxRecDepth 40000 in
theorem st_e43 (hs : ∀ w ∈ flatC (Jvm.Cond.and given_1 narrow_1), w.before args s = true) : (Term.string "LiveHouse$Op" 189).eval args s none [] s = some (.ref (st_st args s fm 22)) := (st_ex (hs _ (List.mem_of_getElem? (i := 653) rfl)))
set_option maxRecDepth 40000 in
theorem st_e44 (hs : ∀ w ∈ flatC (Jvm.Cond.and given_1 narrow_1), w.before args s = true) : (Term.string "LiveHouse$Op" 192).eval args s none [] s = some (.ref (st_st args s fm 23)) := (st_ex (hs _ (List.mem_of_getElem? (i := 659) rfl)))
set_option maxRecDepth 40000 in
theorem st_e45 (hs : ∀ w ∈ flatC (Jvm.Cond.and given_1 narrow_1), w.before args s = true) : (Term.string "LiveHouse$Op" 147).eval args s none [] s = some (.ref (st_st args s fm 15)) := va_eqR (hs _ (List.mem_of_getElem? (i := 675) rfl)) (st_e17 hs)
set_option maxRecDepth 40000 in
theorem st_e46 (hs : ∀ w ∈ flatC (Jvm.Cond.and given_1 narrow_1), w.before args s = true) : (Term.string "LiveHouse$Op" 165).eval args s none [] s = some (.ref (st_st args s fm 19)) := va_eqR (hs _ (List.mem_of_getElem? (i := 685) rfl)) (st_e21 hs)
set_option maxRecDepth 40000 in
theorem st_e47 (hs : ∀ w ∈ flatC (Jvm.Cond.and given_1 narrow_1), w.before args s = true) : (Term.string "LiveHouse$Op" 195).eval args s none [] s = some (.ref (st_st args s fm 24)) := (st_ex (hs _ (List.mem_of_getElem? (i := 687) rfl)))
set_option maxRecDepth 40000 in
theorem st_e48 (hs : ∀ w ∈ flatC (Jvm.Cond.and given_1 narrow_1), w.before args s = true) : (Term.string "LiveHouse$Op" 186).eval args s none [] s = some (.ref (st_st args s fm 25)) := (st_ex (hs _ (List.mem_of_getElem? (i := 693) rfl)))
set_option maxRecDepth 40000 in
theorem st_e49 (hs : ∀ w ∈ flatC (Jvm.Cond.and given_1 narrow_1), w.before args s = true) : (Term.string "LiveHouse$Op" 198).eval args s none [] s = some (.ref (st_st args s fm 26)) := (st_ex (hs _ (List.mem_of_getElem? (i := 701) rfl)))
set_option maxRecDepth 40000 in
theorem st_e50 (hs : ∀ w ∈ flatC (Jvm.Cond.and given_1 narrow_1), w.before args s = true) : (Term.string "LiveHouse$Op" 156).eval args s none [] s = some (.ref (st_st args s fm 27)) := (st_ex (hs _ (List.mem_of_getElem? (i := 709) rfl)))
set_option maxRecDepth 40000 in
theorem st_e51 (hs : ∀ w ∈ flatC (Jvm.Cond.and given_1 narrow_1), w.before args s = true) : (Term.string "LiveHouse$Op" 159).eval args s none [] s = some (.ref (st_st args s fm 28)) := (st_ex (hs _ (List.mem_of_getElem? (i := 716) rfl)))
set_option maxRecDepth 40000 in
theorem st_e52 (hs : ∀ w ∈ flatC (Jvm.Cond.and given_1 narrow_1), w.before args s = true) : (Term.string "LiveHouse$Op" 144).eval args s none [] s = some (.ref (st_st args s fm 29)) := (st_ex (hs _ (List.mem_of_getElem? (i := 723) rfl)))
set_option maxRecDepth 40000 in
theorem st_e53 (hs : ∀ w ∈ flatC (Jvm.Cond.and given_1 narrow_1), w.before args s = true) : (Term.string "LiveHouse$Op" 141).eval args s none [] s = some (.ref (st_st args s fm 30)) := (st_ex (hs _ (List.mem_of_getElem? (i := 730) rfl)))
set_option maxRecDepth 40000 in
theorem st_e54 (hs : ∀ w ∈ flatC (Jvm.Cond.and given_1 narrow_1), w.before args s = true) : (Term.string "LiveHouse$Op" 123).eval args s none [] s = some (.ref (st_st args s fm 4)) := va_eqR (hs _ (List.mem_of_getElem? (i := 744) rfl)) (st_e3 hs)
set_option maxRecDepth 40000 in
theorem st_e55 (hs : ∀ w ∈ flatC (Jvm.Cond.and given_1 narrow_1), w.before args s = true) : (Term.string "LiveHouse$Op" 126).eval args s none [] s = some (.ref (st_st args s fm 31)) := (st_ex (hs _ (List.mem_of_getElem? (i := 747) rfl)))
set_option maxRecDepth 40000 in
theorem st_e56 (hs : ∀ w ∈ flatC (Jvm.Cond.and given_1 narrow_1), w.before args s = true) : (Term.string "LiveHouse$Op" 135).eval args s none [] s = some (.ref (st_st args s fm 32)) := (st_ex (hs _ (List.mem_of_getElem? (i := 754) rfl)))
set_option maxRecDepth 40000 in
theorem st_e57 (hs : ∀ w ∈ flatC (Jvm.Cond.and given_1 narrow_1), w.before args s = true) : (Term.string "LiveHouse$Op" 138).eval args s none [] s = some (.ref (st_st args s fm 33)) := (st_ex (hs _ (List.mem_of_getElem? (i := 762) rfl)))
set_option maxRecDepth 40000 in
theorem st_e58 (hs : ∀ w ∈ flatC (Jvm.Cond.and given_1 narrow_1), w.before args s = true) : (Term.string "LiveHouse$Op" 183).eval args s none [] s = some (.ref (st_st args s fm 34)) := (st_ex (hs _ (List.mem_of_getElem? (i := 771) rfl)))
set_option maxRecDepth 40000 in
theorem st_e59 (hs : ∀ w ∈ flatC (Jvm.Cond.and given_1 narrow_1), w.before args s = true) : (Term.string "LiveHouse$Op" 129).eval args s none [] s = some (.ref (st_st args s fm 35)) := (st_ex (hs _ (List.mem_of_getElem? (i := 779) rfl)))
set_option maxRecDepth 40000 in
theorem st_e60 (hs : ∀ w ∈ flatC (Jvm.Cond.and given_1 narrow_1), w.before args s = true) : (Term.string "LiveHouse$Op" 132).eval args s none [] s = some (.ref (st_st args s fm 36)) := (st_ex (hs _ (List.mem_of_getElem? (i := 787) rfl)))
set_option maxRecDepth 40000 in
theorem st_e61 (hs : ∀ w ∈ flatC (Jvm.Cond.and given_1 narrow_1), w.before args s = true) : (Term.string "LiveHouse$Op" 150).eval args s none [] s = some (.ref (st_st args s fm 16)) := va_eqR (hs _ (List.mem_of_getElem? (i := 803) rfl)) (st_e18 hs)
set_option maxRecDepth 40000 in
theorem st_e62 (hs : ∀ w ∈ flatC (Jvm.Cond.and given_1 narrow_1), w.before args s = true) : (Term.string "LiveHouse$Op" 153).eval args s none [] s = some (.ref (st_st args s fm 17)) := va_eqR (hs _ (List.mem_of_getElem? (i := 812) rfl)) (st_e19 hs)
set_option maxRecDepth 40000 in
theorem st_e63 (hs : ∀ w ∈ flatC (Jvm.Cond.and given_1 narrow_1), w.before args s = true) : (Term.string "LiveHouse$Op" 162).eval args s none [] s = some (.ref (st_st args s fm 18)) := va_eqR (hs _ (List.mem_of_getElem? (i := 822) rfl)) (st_e20 hs)
set_option maxRecDepth 40000 in
theorem st_e64 (hs : ∀ w ∈ flatC (Jvm.Cond.and given_1 narrow_1), w.before args s = true) : (Term.string "LiveHouse$Op" 168).eval args s none [] s = some (.ref (st_st args s fm 37)) := (st_ex (hs _ (List.mem_of_getElem? (i := 824) rfl)))
set_option maxRecDepth 40000 in
theorem st_e65 (hs : ∀ w ∈ flatC (Jvm.Cond.and given_1 narrow_1), w.before args s = true) : (Term.string "LiveHouse$Op" 171).eval args s none [] s = some (.ref (st_st args s fm 38)) := (st_ex (hs _ (List.mem_of_getElem? (i := 832) rfl)))
set_option maxRecDepth 40000 in
theorem st_e66 (hs : ∀ w ∈ flatC (Jvm.Cond.and given_1 narrow_1), w.before args s = true) : (Term.string "LiveHouse$Op" 174).eval args s none [] s = some (.ref (st_st args s fm 39)) := (st_ex (hs _ (List.mem_of_getElem? (i := 840) rfl)))
set_option maxRecDepth 40000 in
theorem st_e67 (hs : ∀ w ∈ flatC (Jvm.Cond.and given_1 narrow_1), w.before args s = true) : (Term.string "LiveHouse$Op" 177).eval args s none [] s = some (.ref (st_st args s fm 40)) := (st_ex (hs _ (List.mem_of_getElem? (i := 849) rfl)))
set_option maxRecDepth 40000 in
theorem st_e68 (hs : ∀ w ∈ flatC (Jvm.Cond.and given_1 narrow_1), w.before args s = true) : (Term.string "LiveHouse$Op" 180).eval args s none [] s = some (.ref (st_st args s fm 41)) := (st_ex (hs _ (List.mem_of_getElem? (i := 856) rfl)))
set_option maxRecDepth 40000 in
theorem st_s0 (hs : ∀ w ∈ flatC (Jvm.Cond.and given_1 narrow_1), w.before args s = true) (hA : ∀ a : Nat, a < s.heap.size → ¬ A a) : st_sp args s A fm 0 := by
  refine st_of (st_e0 hs) (hs _ (List.mem_of_getElem? (i := 167) rfl)) (va_eqt (hs _ (List.mem_of_getElem? (i := 168) rfl))) (hs _ (List.mem_of_getElem? (i := 169) rfl)) (N := 5) (by decide) (va_eqt (hs _ (List.mem_of_getElem? (i := 170) rfl))) (fun j hj => ?_) hA
  exact match j, hj with
    | 0, _ => va_eqt (hs _ (List.mem_of_getElem? (i := 171) rfl))
    | 1, _ => va_eqt (hs _ (List.mem_of_getElem? (i := 172) rfl))
    | 2, _ => va_eqt (hs _ (List.mem_of_getElem? (i := 173) rfl))
    | 3, _ => va_eqt (hs _ (List.mem_of_getElem? (i := 174) rfl))
    | 4, _ => va_eqt (hs _ (List.mem_of_getElem? (i := 175) rfl))
    | q + 5, h => absurd h (by omega)
set_option maxRecDepth 40000 in
theorem st_s1 (hs : ∀ w ∈ flatC (Jvm.Cond.and given_1 narrow_1), w.before args s = true) (hA : ∀ a : Nat, a < s.heap.size → ¬ A a) : st_sp args s A fm 1 := by
  refine st_of (st_e1 hs) (hs _ (List.mem_of_getElem? (i := 176) rfl)) (va_eqt (hs _ (List.mem_of_getElem? (i := 177) rfl))) (hs _ (List.mem_of_getElem? (i := 178) rfl)) (N := 3) (by decide) (va_eqt (hs _ (List.mem_of_getElem? (i := 179) rfl))) (fun j hj => ?_) hA
  exact match j, hj with
    | 0, _ => va_eqt (hs _ (List.mem_of_getElem? (i := 180) rfl))
    | 1, _ => va_eqt (hs _ (List.mem_of_getElem? (i := 181) rfl))
    | 2, _ => va_eqt (hs _ (List.mem_of_getElem? (i := 182) rfl))
    | q + 3, h => absurd h (by omega)
set_option maxRecDepth 40000 in
theorem st_s2 (hs : ∀ w ∈ flatC (Jvm.Cond.and given_1 narrow_1), w.before args s = true) (hA : ∀ a : Nat, a < s.heap.size → ¬ A a) : st_sp args s A fm 2 := by
  refine st_of (st_e2 hs) (hs _ (List.mem_of_getElem? (i := 183) rfl)) (va_eqt (hs _ (List.mem_of_getElem? (i := 184) rfl))) (hs _ (List.mem_of_getElem? (i := 185) rfl)) (N := 4) (by decide) (va_eqt (hs _ (List.mem_of_getElem? (i := 186) rfl))) (fun j hj => ?_) hA
  exact match j, hj with
    | 0, _ => va_eqt (hs _ (List.mem_of_getElem? (i := 187) rfl))
    | 1, _ => va_eqt (hs _ (List.mem_of_getElem? (i := 188) rfl))
    | 2, _ => va_eqt (hs _ (List.mem_of_getElem? (i := 189) rfl))
    | 3, _ => va_eqt (hs _ (List.mem_of_getElem? (i := 190) rfl))
    | q + 4, h => absurd h (by omega)
set_option maxRecDepth 40000 in
theorem st_s3 (hs : ∀ w ∈ flatC (Jvm.Cond.and given_1 narrow_1), w.before args s = true) (hA : ∀ a : Nat, a < s.heap.size → ¬ A a) : st_sp args s A fm 3 := by
  refine st_of (st_e3 hs) (hs _ (List.mem_of_getElem? (i := 191) rfl)) (va_eqt (hs _ (List.mem_of_getElem? (i := 192) rfl))) (hs _ (List.mem_of_getElem? (i := 193) rfl)) (N := 3) (by decide) (va_eqt (hs _ (List.mem_of_getElem? (i := 194) rfl))) (fun j hj => ?_) hA
  exact match j, hj with
    | 0, _ => va_eqt (hs _ (List.mem_of_getElem? (i := 195) rfl))
    | 1, _ => va_eqt (hs _ (List.mem_of_getElem? (i := 196) rfl))
    | 2, _ => va_eqt (hs _ (List.mem_of_getElem? (i := 197) rfl))
    | q + 3, h => absurd h (by omega)
set_option maxRecDepth 40000 in
theorem st_s4 (hs : ∀ w ∈ flatC (Jvm.Cond.and given_1 narrow_1), w.before args s = true) (hA : ∀ a : Nat, a < s.heap.size → ¬ A a) : st_sp args s A fm 4 := by
  refine st_of (st_e4 hs) (hs _ (List.mem_of_getElem? (i := 198) rfl)) (va_eqt (hs _ (List.mem_of_getElem? (i := 199) rfl))) (hs _ (List.mem_of_getElem? (i := 200) rfl)) (N := 5) (by decide) (va_eqt (hs _ (List.mem_of_getElem? (i := 201) rfl))) (fun j hj => ?_) hA
  exact match j, hj with
    | 0, _ => va_eqt (hs _ (List.mem_of_getElem? (i := 202) rfl))
    | 1, _ => va_eqt (hs _ (List.mem_of_getElem? (i := 203) rfl))
    | 2, _ => va_eqt (hs _ (List.mem_of_getElem? (i := 204) rfl))
    | 3, _ => va_eqt (hs _ (List.mem_of_getElem? (i := 205) rfl))
    | 4, _ => va_eqt (hs _ (List.mem_of_getElem? (i := 206) rfl))
    | q + 5, h => absurd h (by omega)
set_option maxRecDepth 40000 in
theorem st_s5 (hs : ∀ w ∈ flatC (Jvm.Cond.and given_1 narrow_1), w.before args s = true) (hA : ∀ a : Nat, a < s.heap.size → ¬ A a) : st_sp args s A fm 5 := by
  refine st_of (st_e7 hs) (hs _ (List.mem_of_getElem? (i := 224) rfl)) (va_eqt (hs _ (List.mem_of_getElem? (i := 225) rfl))) (hs _ (List.mem_of_getElem? (i := 226) rfl)) (N := 6) (by decide) (va_eqt (hs _ (List.mem_of_getElem? (i := 227) rfl))) (fun j hj => ?_) hA
  exact match j, hj with
    | 0, _ => va_eqt (hs _ (List.mem_of_getElem? (i := 228) rfl))
    | 1, _ => va_eqt (hs _ (List.mem_of_getElem? (i := 229) rfl))
    | 2, _ => va_eqt (hs _ (List.mem_of_getElem? (i := 230) rfl))
    | 3, _ => va_eqt (hs _ (List.mem_of_getElem? (i := 231) rfl))
    | 4, _ => va_eqt (hs _ (List.mem_of_getElem? (i := 232) rfl))
    | 5, _ => va_eqt (hs _ (List.mem_of_getElem? (i := 233) rfl))
    | q + 6, h => absurd h (by omega)
set_option maxRecDepth 40000 in
theorem st_s6 (hs : ∀ w ∈ flatC (Jvm.Cond.and given_1 narrow_1), w.before args s = true) (hA : ∀ a : Nat, a < s.heap.size → ¬ A a) : st_sp args s A fm 6 := by
  refine st_of (st_e8 hs) (hs _ (List.mem_of_getElem? (i := 234) rfl)) (va_eqt (hs _ (List.mem_of_getElem? (i := 235) rfl))) (hs _ (List.mem_of_getElem? (i := 236) rfl)) (N := 6) (by decide) (va_eqt (hs _ (List.mem_of_getElem? (i := 237) rfl))) (fun j hj => ?_) hA
  exact match j, hj with
    | 0, _ => va_eqt (hs _ (List.mem_of_getElem? (i := 238) rfl))
    | 1, _ => va_eqt (hs _ (List.mem_of_getElem? (i := 239) rfl))
    | 2, _ => va_eqt (hs _ (List.mem_of_getElem? (i := 240) rfl))
    | 3, _ => va_eqt (hs _ (List.mem_of_getElem? (i := 241) rfl))
    | 4, _ => va_eqt (hs _ (List.mem_of_getElem? (i := 242) rfl))
    | 5, _ => va_eqt (hs _ (List.mem_of_getElem? (i := 243) rfl))
    | q + 6, h => absurd h (by omega)
set_option maxRecDepth 40000 in
theorem st_s7 (hs : ∀ w ∈ flatC (Jvm.Cond.and given_1 narrow_1), w.before args s = true) (hA : ∀ a : Nat, a < s.heap.size → ¬ A a) : st_sp args s A fm 7 := by
  refine st_of (st_e9 hs) (hs _ (List.mem_of_getElem? (i := 244) rfl)) (va_eqt (hs _ (List.mem_of_getElem? (i := 245) rfl))) (hs _ (List.mem_of_getElem? (i := 246) rfl)) (N := 5) (by decide) (va_eqt (hs _ (List.mem_of_getElem? (i := 247) rfl))) (fun j hj => ?_) hA
  exact match j, hj with
    | 0, _ => va_eqt (hs _ (List.mem_of_getElem? (i := 248) rfl))
    | 1, _ => va_eqt (hs _ (List.mem_of_getElem? (i := 249) rfl))
    | 2, _ => va_eqt (hs _ (List.mem_of_getElem? (i := 250) rfl))
    | 3, _ => va_eqt (hs _ (List.mem_of_getElem? (i := 251) rfl))
    | 4, _ => va_eqt (hs _ (List.mem_of_getElem? (i := 252) rfl))
    | q + 5, h => absurd h (by omega)
set_option maxRecDepth 40000 in
theorem st_s8 (hs : ∀ w ∈ flatC (Jvm.Cond.and given_1 narrow_1), w.before args s = true) (hA : ∀ a : Nat, a < s.heap.size → ¬ A a) : st_sp args s A fm 8 := by
  refine st_of (st_e10 hs) (hs _ (List.mem_of_getElem? (i := 253) rfl)) (va_eqt (hs _ (List.mem_of_getElem? (i := 254) rfl))) (hs _ (List.mem_of_getElem? (i := 255) rfl)) (N := 4) (by decide) (va_eqt (hs _ (List.mem_of_getElem? (i := 256) rfl))) (fun j hj => ?_) hA
  exact match j, hj with
    | 0, _ => va_eqt (hs _ (List.mem_of_getElem? (i := 257) rfl))
    | 1, _ => va_eqt (hs _ (List.mem_of_getElem? (i := 258) rfl))
    | 2, _ => va_eqt (hs _ (List.mem_of_getElem? (i := 259) rfl))
    | 3, _ => va_eqt (hs _ (List.mem_of_getElem? (i := 260) rfl))
    | q + 4, h => absurd h (by omega)
set_option maxRecDepth 40000 in
theorem st_s9 (hs : ∀ w ∈ flatC (Jvm.Cond.and given_1 narrow_1), w.before args s = true) (hA : ∀ a : Nat, a < s.heap.size → ¬ A a) : st_sp args s A fm 9 := by
  refine st_of (st_e11 hs) (hs _ (List.mem_of_getElem? (i := 261) rfl)) (va_eqt (hs _ (List.mem_of_getElem? (i := 262) rfl))) (hs _ (List.mem_of_getElem? (i := 263) rfl)) (N := 4) (by decide) (va_eqt (hs _ (List.mem_of_getElem? (i := 264) rfl))) (fun j hj => ?_) hA
  exact match j, hj with
    | 0, _ => va_eqt (hs _ (List.mem_of_getElem? (i := 265) rfl))
    | 1, _ => va_eqt (hs _ (List.mem_of_getElem? (i := 266) rfl))
    | 2, _ => va_eqt (hs _ (List.mem_of_getElem? (i := 267) rfl))
    | 3, _ => va_eqt (hs _ (List.mem_of_getElem? (i := 268) rfl))
    | q + 4, h => absurd h (by omega)
set_option maxRecDepth 40000 in
theorem st_s10 (hs : ∀ w ∈ flatC (Jvm.Cond.and given_1 narrow_1), w.before args s = true) (hA : ∀ a : Nat, a < s.heap.size → ¬ A a) : st_sp args s A fm 10 := by
  refine st_of (st_e12 hs) (hs _ (List.mem_of_getElem? (i := 269) rfl)) (va_eqt (hs _ (List.mem_of_getElem? (i := 270) rfl))) (hs _ (List.mem_of_getElem? (i := 271) rfl)) (N := 3) (by decide) (va_eqt (hs _ (List.mem_of_getElem? (i := 272) rfl))) (fun j hj => ?_) hA
  exact match j, hj with
    | 0, _ => va_eqt (hs _ (List.mem_of_getElem? (i := 273) rfl))
    | 1, _ => va_eqt (hs _ (List.mem_of_getElem? (i := 274) rfl))
    | 2, _ => va_eqt (hs _ (List.mem_of_getElem? (i := 275) rfl))
    | q + 3, h => absurd h (by omega)
set_option maxRecDepth 40000 in
theorem st_s11 (hs : ∀ w ∈ flatC (Jvm.Cond.and given_1 narrow_1), w.before args s = true) (hA : ∀ a : Nat, a < s.heap.size → ¬ A a) : st_sp args s A fm 11 := by
  refine st_of (st_e13 hs) (hs _ (List.mem_of_getElem? (i := 276) rfl)) (va_eqt (hs _ (List.mem_of_getElem? (i := 277) rfl))) (hs _ (List.mem_of_getElem? (i := 278) rfl)) (N := 3) (by decide) (va_eqt (hs _ (List.mem_of_getElem? (i := 279) rfl))) (fun j hj => ?_) hA
  exact match j, hj with
    | 0, _ => va_eqt (hs _ (List.mem_of_getElem? (i := 280) rfl))
    | 1, _ => va_eqt (hs _ (List.mem_of_getElem? (i := 281) rfl))
    | 2, _ => va_eqt (hs _ (List.mem_of_getElem? (i := 282) rfl))
    | q + 3, h => absurd h (by omega)
set_option maxRecDepth 40000 in
theorem st_s12 (hs : ∀ w ∈ flatC (Jvm.Cond.and given_1 narrow_1), w.before args s = true) (hA : ∀ a : Nat, a < s.heap.size → ¬ A a) : st_sp args s A fm 12 := by
  refine st_of (st_e14 hs) (hs _ (List.mem_of_getElem? (i := 283) rfl)) (va_eqt (hs _ (List.mem_of_getElem? (i := 284) rfl))) (hs _ (List.mem_of_getElem? (i := 285) rfl)) (N := 4) (by decide) (va_eqt (hs _ (List.mem_of_getElem? (i := 286) rfl))) (fun j hj => ?_) hA
  exact match j, hj with
    | 0, _ => va_eqt (hs _ (List.mem_of_getElem? (i := 287) rfl))
    | 1, _ => va_eqt (hs _ (List.mem_of_getElem? (i := 288) rfl))
    | 2, _ => va_eqt (hs _ (List.mem_of_getElem? (i := 289) rfl))
    | 3, _ => va_eqt (hs _ (List.mem_of_getElem? (i := 290) rfl))
    | q + 4, h => absurd h (by omega)
set_option maxRecDepth 40000 in
theorem st_s13 (hs : ∀ w ∈ flatC (Jvm.Cond.and given_1 narrow_1), w.before args s = true) (hA : ∀ a : Nat, a < s.heap.size → ¬ A a) : st_sp args s A fm 13 := by
  refine st_of (st_e15 hs) (hs _ (List.mem_of_getElem? (i := 291) rfl)) (va_eqt (hs _ (List.mem_of_getElem? (i := 292) rfl))) (hs _ (List.mem_of_getElem? (i := 293) rfl)) (N := 4) (by decide) (va_eqt (hs _ (List.mem_of_getElem? (i := 294) rfl))) (fun j hj => ?_) hA
  exact match j, hj with
    | 0, _ => va_eqt (hs _ (List.mem_of_getElem? (i := 295) rfl))
    | 1, _ => va_eqt (hs _ (List.mem_of_getElem? (i := 296) rfl))
    | 2, _ => va_eqt (hs _ (List.mem_of_getElem? (i := 297) rfl))
    | 3, _ => va_eqt (hs _ (List.mem_of_getElem? (i := 298) rfl))
    | q + 4, h => absurd h (by omega)
set_option maxRecDepth 40000 in
theorem st_s14 (hs : ∀ w ∈ flatC (Jvm.Cond.and given_1 narrow_1), w.before args s = true) (hA : ∀ a : Nat, a < s.heap.size → ¬ A a) : st_sp args s A fm 14 := by
  refine st_of (st_e17 hs) (hs _ (List.mem_of_getElem? (i := 307) rfl)) (va_eqt (hs _ (List.mem_of_getElem? (i := 308) rfl))) (hs _ (List.mem_of_getElem? (i := 309) rfl)) (N := 3) (by decide) (va_eqt (hs _ (List.mem_of_getElem? (i := 310) rfl))) (fun j hj => ?_) hA
  exact match j, hj with
    | 0, _ => va_eqt (hs _ (List.mem_of_getElem? (i := 311) rfl))
    | 1, _ => va_eqt (hs _ (List.mem_of_getElem? (i := 312) rfl))
    | 2, _ => va_eqt (hs _ (List.mem_of_getElem? (i := 313) rfl))
    | q + 3, h => absurd h (by omega)
set_option maxRecDepth 40000 in
theorem st_s15 (hs : ∀ w ∈ flatC (Jvm.Cond.and given_1 narrow_1), w.before args s = true) (hA : ∀ a : Nat, a < s.heap.size → ¬ A a) : st_sp args s A fm 15 := by
  refine st_of (st_e18 hs) (hs _ (List.mem_of_getElem? (i := 314) rfl)) (va_eqt (hs _ (List.mem_of_getElem? (i := 315) rfl))) (hs _ (List.mem_of_getElem? (i := 316) rfl)) (N := 3) (by decide) (va_eqt (hs _ (List.mem_of_getElem? (i := 317) rfl))) (fun j hj => ?_) hA
  exact match j, hj with
    | 0, _ => va_eqt (hs _ (List.mem_of_getElem? (i := 318) rfl))
    | 1, _ => va_eqt (hs _ (List.mem_of_getElem? (i := 319) rfl))
    | 2, _ => va_eqt (hs _ (List.mem_of_getElem? (i := 320) rfl))
    | q + 3, h => absurd h (by omega)
set_option maxRecDepth 40000 in
theorem st_s16 (hs : ∀ w ∈ flatC (Jvm.Cond.and given_1 narrow_1), w.before args s = true) (hA : ∀ a : Nat, a < s.heap.size → ¬ A a) : st_sp args s A fm 16 := by
  refine st_of (st_e19 hs) (hs _ (List.mem_of_getElem? (i := 321) rfl)) (va_eqt (hs _ (List.mem_of_getElem? (i := 322) rfl))) (hs _ (List.mem_of_getElem? (i := 323) rfl)) (N := 3) (by decide) (va_eqt (hs _ (List.mem_of_getElem? (i := 324) rfl))) (fun j hj => ?_) hA
  exact match j, hj with
    | 0, _ => va_eqt (hs _ (List.mem_of_getElem? (i := 325) rfl))
    | 1, _ => va_eqt (hs _ (List.mem_of_getElem? (i := 326) rfl))
    | 2, _ => va_eqt (hs _ (List.mem_of_getElem? (i := 327) rfl))
    | q + 3, h => absurd h (by omega)
set_option maxRecDepth 40000 in
theorem st_s17 (hs : ∀ w ∈ flatC (Jvm.Cond.and given_1 narrow_1), w.before args s = true) (hA : ∀ a : Nat, a < s.heap.size → ¬ A a) : st_sp args s A fm 17 := by
  refine st_of (st_e20 hs) (hs _ (List.mem_of_getElem? (i := 328) rfl)) (va_eqt (hs _ (List.mem_of_getElem? (i := 329) rfl))) (hs _ (List.mem_of_getElem? (i := 330) rfl)) (N := 4) (by decide) (va_eqt (hs _ (List.mem_of_getElem? (i := 331) rfl))) (fun j hj => ?_) hA
  exact match j, hj with
    | 0, _ => va_eqt (hs _ (List.mem_of_getElem? (i := 332) rfl))
    | 1, _ => va_eqt (hs _ (List.mem_of_getElem? (i := 333) rfl))
    | 2, _ => va_eqt (hs _ (List.mem_of_getElem? (i := 334) rfl))
    | 3, _ => va_eqt (hs _ (List.mem_of_getElem? (i := 335) rfl))
    | q + 4, h => absurd h (by omega)
set_option maxRecDepth 40000 in
theorem st_s18 (hs : ∀ w ∈ flatC (Jvm.Cond.and given_1 narrow_1), w.before args s = true) (hA : ∀ a : Nat, a < s.heap.size → ¬ A a) : st_sp args s A fm 18 := by
  refine st_of (st_e21 hs) (hs _ (List.mem_of_getElem? (i := 336) rfl)) (va_eqt (hs _ (List.mem_of_getElem? (i := 337) rfl))) (hs _ (List.mem_of_getElem? (i := 338) rfl)) (N := 4) (by decide) (va_eqt (hs _ (List.mem_of_getElem? (i := 339) rfl))) (fun j hj => ?_) hA
  exact match j, hj with
    | 0, _ => va_eqt (hs _ (List.mem_of_getElem? (i := 340) rfl))
    | 1, _ => va_eqt (hs _ (List.mem_of_getElem? (i := 341) rfl))
    | 2, _ => va_eqt (hs _ (List.mem_of_getElem? (i := 342) rfl))
    | 3, _ => va_eqt (hs _ (List.mem_of_getElem? (i := 343) rfl))
    | q + 4, h => absurd h (by omega)
set_option maxRecDepth 40000 in
theorem st_s19 (hs : ∀ w ∈ flatC (Jvm.Cond.and given_1 narrow_1), w.before args s = true) (hA : ∀ a : Nat, a < s.heap.size → ¬ A a) : st_sp args s A fm 19 := by
  refine st_of (st_e30 hs) (hs _ (List.mem_of_getElem? (i := 424) rfl)) (va_eqt (hs _ (List.mem_of_getElem? (i := 425) rfl))) (hs _ (List.mem_of_getElem? (i := 426) rfl)) (N := 123) (by decide) (va_eqt (hs _ (List.mem_of_getElem? (i := 427) rfl))) (fun j hj => ?_) hA
  exact match j, hj with
    | 0, _ => va_eqt (hs _ (List.mem_of_getElem? (i := 428) rfl))
    | 1, _ => va_eqt (hs _ (List.mem_of_getElem? (i := 429) rfl))
    | 2, _ => va_eqt (hs _ (List.mem_of_getElem? (i := 430) rfl))
    | 3, _ => va_eqt (hs _ (List.mem_of_getElem? (i := 431) rfl))
    | 4, _ => va_eqt (hs _ (List.mem_of_getElem? (i := 432) rfl))
    | 5, _ => va_eqt (hs _ (List.mem_of_getElem? (i := 433) rfl))
    | 6, _ => va_eqt (hs _ (List.mem_of_getElem? (i := 434) rfl))
    | 7, _ => va_eqt (hs _ (List.mem_of_getElem? (i := 435) rfl))
    | 8, _ => va_eqt (hs _ (List.mem_of_getElem? (i := 436) rfl))
    | 9, _ => va_eqt (hs _ (List.mem_of_getElem? (i := 437) rfl))
    | 10, _ => va_eqt (hs _ (List.mem_of_getElem? (i := 438) rfl))
    | 11, _ => va_eqt (hs _ (List.mem_of_getElem? (i := 439) rfl))
    | 12, _ => va_eqt (hs _ (List.mem_of_getElem? (i := 440) rfl))
    | 13, _ => va_eqt (hs _ (List.mem_of_getElem? (i := 441) rfl))
    | 14, _ => va_eqt (hs _ (List.mem_of_getElem? (i := 442) rfl))
    | 15, _ => va_eqt (hs _ (List.mem_of_getElem? (i := 443) rfl))
    | 16, _ => va_eqt (hs _ (List.mem_of_getElem? (i := 444) rfl))
    | 17, _ => va_eqt (hs _ (List.mem_of_getElem? (i := 445) rfl))
    | 18, _ => va_eqt (hs _ (List.mem_of_getElem? (i := 446) rfl))
    | 19, _ => va_eqt (hs _ (List.mem_of_getElem? (i := 447) rfl))
    | 20, _ => va_eqt (hs _ (List.mem_of_getElem? (i := 448) rfl))
    | 21, _ => va_eqt (hs _ (List.mem_of_getElem? (i := 449) rfl))
    | 22, _ => va_eqt (hs _ (List.mem_of_getElem? (i := 450) rfl))
    | 23, _ => va_eqt (hs _ (List.mem_of_getElem? (i := 451) rfl))
    | 24, _ => va_eqt (hs _ (List.mem_of_getElem? (i := 452) rfl))
    | 25, _ => va_eqt (hs _ (List.mem_of_getElem? (i := 453) rfl))
    | 26, _ => va_eqt (hs _ (List.mem_of_getElem? (i := 454) rfl))
    | 27, _ => va_eqt (hs _ (List.mem_of_getElem? (i := 455) rfl))
    | 28, _ => va_eqt (hs _ (List.mem_of_getElem? (i := 456) rfl))
    | 29, _ => va_eqt (hs _ (List.mem_of_getElem? (i := 457) rfl))
    | 30, _ => va_eqt (hs _ (List.mem_of_getElem? (i := 458) rfl))
    | 31, _ => va_eqt (hs _ (List.mem_of_getElem? (i := 459) rfl))
    | 32, _ => va_eqt (hs _ (List.mem_of_getElem? (i := 460) rfl))
    | 33, _ => va_eqt (hs _ (List.mem_of_getElem? (i := 461) rfl))
    | 34, _ => va_eqt (hs _ (List.mem_of_getElem? (i := 462) rfl))
    | 35, _ => va_eqt (hs _ (List.mem_of_getElem? (i := 463) rfl))
    | 36, _ => va_eqt (hs _ (List.mem_of_getElem? (i := 464) rfl))
    | 37, _ => va_eqt (hs _ (List.mem_of_getElem? (i := 465) rfl))
    | 38, _ => va_eqt (hs _ (List.mem_of_getElem? (i := 466) rfl))
    | 39, _ => va_eqt (hs _ (List.mem_of_getElem? (i := 467) rfl))
    | 40, _ => va_eqt (hs _ (List.mem_of_getElem? (i := 468) rfl))
    | 41, _ => va_eqt (hs _ (List.mem_of_getElem? (i := 469) rfl))
    | 42, _ => va_eqt (hs _ (List.mem_of_getElem? (i := 470) rfl))
    | 43, _ => va_eqt (hs _ (List.mem_of_getElem? (i := 471) rfl))
    | 44, _ => va_eqt (hs _ (List.mem_of_getElem? (i := 472) rfl))
    | 45, _ => va_eqt (hs _ (List.mem_of_getElem? (i := 473) rfl))
    | 46, _ => va_eqt (hs _ (List.mem_of_getElem? (i := 474) rfl))
    | 47, _ => va_eqt (hs _ (List.mem_of_getElem? (i := 475) rfl))
    | 48, _ => va_eqt (hs _ (List.mem_of_getElem? (i := 476) rfl))
    | 49, _ => va_eqt (hs _ (List.mem_of_getElem? (i := 477) rfl))
    | 50, _ => va_eqt (hs _ (List.mem_of_getElem? (i := 478) rfl))
    | 51, _ => va_eqt (hs _ (List.mem_of_getElem? (i := 479) rfl))
    | 52, _ => va_eqt (hs _ (List.mem_of_getElem? (i := 480) rfl))
    | 53, _ => va_eqt (hs _ (List.mem_of_getElem? (i := 481) rfl))
    | 54, _ => va_eqt (hs _ (List.mem_of_getElem? (i := 482) rfl))
    | 55, _ => va_eqt (hs _ (List.mem_of_getElem? (i := 483) rfl))
    | 56, _ => va_eqt (hs _ (List.mem_of_getElem? (i := 484) rfl))
    | 57, _ => va_eqt (hs _ (List.mem_of_getElem? (i := 485) rfl))
    | 58, _ => va_eqt (hs _ (List.mem_of_getElem? (i := 486) rfl))
    | 59, _ => va_eqt (hs _ (List.mem_of_getElem? (i := 487) rfl))
    | 60, _ => va_eqt (hs _ (List.mem_of_getElem? (i := 488) rfl))
    | 61, _ => va_eqt (hs _ (List.mem_of_getElem? (i := 489) rfl))
    | 62, _ => va_eqt (hs _ (List.mem_of_getElem? (i := 490) rfl))
    | 63, _ => va_eqt (hs _ (List.mem_of_getElem? (i := 491) rfl))
    | 64, _ => va_eqt (hs _ (List.mem_of_getElem? (i := 492) rfl))
    | 65, _ => va_eqt (hs _ (List.mem_of_getElem? (i := 493) rfl))
    | 66, _ => va_eqt (hs _ (List.mem_of_getElem? (i := 494) rfl))
    | 67, _ => va_eqt (hs _ (List.mem_of_getElem? (i := 495) rfl))
    | 68, _ => va_eqt (hs _ (List.mem_of_getElem? (i := 496) rfl))
    | 69, _ => va_eqt (hs _ (List.mem_of_getElem? (i := 497) rfl))
    | 70, _ => va_eqt (hs _ (List.mem_of_getElem? (i := 498) rfl))
    | 71, _ => va_eqt (hs _ (List.mem_of_getElem? (i := 499) rfl))
    | 72, _ => va_eqt (hs _ (List.mem_of_getElem? (i := 500) rfl))
    | 73, _ => va_eqt (hs _ (List.mem_of_getElem? (i := 501) rfl))
    | 74, _ => va_eqt (hs _ (List.mem_of_getElem? (i := 502) rfl))
    | 75, _ => va_eqt (hs _ (List.mem_of_getElem? (i := 503) rfl))
    | 76, _ => va_eqt (hs _ (List.mem_of_getElem? (i := 504) rfl))
    | 77, _ => va_eqt (hs _ (List.mem_of_getElem? (i := 505) rfl))
    | 78, _ => va_eqt (hs _ (List.mem_of_getElem? (i := 506) rfl))
    | 79, _ => va_eqt (hs _ (List.mem_of_getElem? (i := 507) rfl))
    | 80, _ => va_eqt (hs _ (List.mem_of_getElem? (i := 508) rfl))
    | 81, _ => va_eqt (hs _ (List.mem_of_getElem? (i := 509) rfl))
    | 82, _ => va_eqt (hs _ (List.mem_of_getElem? (i := 510) rfl))
    | 83, _ => va_eqt (hs _ (List.mem_of_getElem? (i := 511) rfl))
    | 84, _ => va_eqt (hs _ (List.mem_of_getElem? (i := 512) rfl))
    | 85, _ => va_eqt (hs _ (List.mem_of_getElem? (i := 513) rfl))
    | 86, _ => va_eqt (hs _ (List.mem_of_getElem? (i := 514) rfl))
    | 87, _ => va_eqt (hs _ (List.mem_of_getElem? (i := 515) rfl))
    | 88, _ => va_eqt (hs _ (List.mem_of_getElem? (i := 516) rfl))
    | 89, _ => va_eqt (hs _ (List.mem_of_getElem? (i := 517) rfl))
    | 90, _ => va_eqt (hs _ (List.mem_of_getElem? (i := 518) rfl))
    | 91, _ => va_eqt (hs _ (List.mem_of_getElem? (i := 519) rfl))
    | 92, _ => va_eqt (hs _ (List.mem_of_getElem? (i := 520) rfl))
    | 93, _ => va_eqt (hs _ (List.mem_of_getElem? (i := 521) rfl))
    | 94, _ => va_eqt (hs _ (List.mem_of_getElem? (i := 522) rfl))
    | 95, _ => va_eqt (hs _ (List.mem_of_getElem? (i := 523) rfl))
    | 96, _ => va_eqt (hs _ (List.mem_of_getElem? (i := 524) rfl))
    | 97, _ => va_eqt (hs _ (List.mem_of_getElem? (i := 525) rfl))
    | 98, _ => va_eqt (hs _ (List.mem_of_getElem? (i := 526) rfl))
    | 99, _ => va_eqt (hs _ (List.mem_of_getElem? (i := 527) rfl))
    | 100, _ => va_eqt (hs _ (List.mem_of_getElem? (i := 528) rfl))
    | 101, _ => va_eqt (hs _ (List.mem_of_getElem? (i := 529) rfl))
    | 102, _ => va_eqt (hs _ (List.mem_of_getElem? (i := 530) rfl))
    | 103, _ => va_eqt (hs _ (List.mem_of_getElem? (i := 531) rfl))
    | 104, _ => va_eqt (hs _ (List.mem_of_getElem? (i := 532) rfl))
    | 105, _ => va_eqt (hs _ (List.mem_of_getElem? (i := 533) rfl))
    | 106, _ => va_eqt (hs _ (List.mem_of_getElem? (i := 534) rfl))
    | 107, _ => va_eqt (hs _ (List.mem_of_getElem? (i := 535) rfl))
    | 108, _ => va_eqt (hs _ (List.mem_of_getElem? (i := 536) rfl))
    | 109, _ => va_eqt (hs _ (List.mem_of_getElem? (i := 537) rfl))
    | 110, _ => va_eqt (hs _ (List.mem_of_getElem? (i := 538) rfl))
    | 111, _ => va_eqt (hs _ (List.mem_of_getElem? (i := 539) rfl))
    | 112, _ => va_eqt (hs _ (List.mem_of_getElem? (i := 540) rfl))
    | 113, _ => va_eqt (hs _ (List.mem_of_getElem? (i := 541) rfl))
    | 114, _ => va_eqt (hs _ (List.mem_of_getElem? (i := 542) rfl))
    | 115, _ => va_eqt (hs _ (List.mem_of_getElem? (i := 543) rfl))
    | 116, _ => va_eqt (hs _ (List.mem_of_getElem? (i := 544) rfl))
    | 117, _ => va_eqt (hs _ (List.mem_of_getElem? (i := 545) rfl))
    | 118, _ => va_eqt (hs _ (List.mem_of_getElem? (i := 546) rfl))
    | 119, _ => va_eqt (hs _ (List.mem_of_getElem? (i := 547) rfl))
    | 120, _ => va_eqt (hs _ (List.mem_of_getElem? (i := 548) rfl))
    | 121, _ => va_eqt (hs _ (List.mem_of_getElem? (i := 549) rfl))
    | 122, _ => va_eqt (hs _ (List.mem_of_getElem? (i := 550) rfl))
    | q + 123, h => absurd h (by omega)
set_option maxRecDepth 40000 in
theorem st_s20 (hs : ∀ w ∈ flatC (Jvm.Cond.and given_1 narrow_1), w.before args s = true) (hA : ∀ a : Nat, a < s.heap.size → ¬ A a) : st_sp args s A fm 20 := by
  refine st_of (st_e42 hs) (hs _ (List.mem_of_getElem? (i := 645) rfl)) (va_eqt (hs _ (List.mem_of_getElem? (i := 646) rfl))) (hs _ (List.mem_of_getElem? (i := 647) rfl)) (N := 4) (by decide) (va_eqt (hs _ (List.mem_of_getElem? (i := 648) rfl))) (fun j hj => ?_) hA
  exact match j, hj with
    | 0, _ => va_eqt (hs _ (List.mem_of_getElem? (i := 649) rfl))
    | 1, _ => va_eqt (hs _ (List.mem_of_getElem? (i := 650) rfl))
    | 2, _ => va_eqt (hs _ (List.mem_of_getElem? (i := 651) rfl))
    | 3, _ => va_eqt (hs _ (List.mem_of_getElem? (i := 652) rfl))
    | q + 4, h => absurd h (by omega)
set_option maxRecDepth 40000 in
theorem st_s21 (hs : ∀ w ∈ flatC (Jvm.Cond.and given_1 narrow_1), w.before args s = true) (hA : ∀ a : Nat, a < s.heap.size → ¬ A a) : st_sp args s A fm 21 := by
  refine st_of (st_e43 hs) (hs _ (List.mem_of_getElem? (i := 653) rfl)) (va_eqt (hs _ (List.mem_of_getElem? (i := 654) rfl))) (hs _ (List.mem_of_getElem? (i := 655) rfl)) (N := 2) (by decide) (va_eqt (hs _ (List.mem_of_getElem? (i := 656) rfl))) (fun j hj => ?_) hA
  exact match j, hj with
    | 0, _ => va_eqt (hs _ (List.mem_of_getElem? (i := 657) rfl))
    | 1, _ => va_eqt (hs _ (List.mem_of_getElem? (i := 658) rfl))
    | q + 2, h => absurd h (by omega)
set_option maxRecDepth 40000 in
theorem st_s22 (hs : ∀ w ∈ flatC (Jvm.Cond.and given_1 narrow_1), w.before args s = true) (hA : ∀ a : Nat, a < s.heap.size → ¬ A a) : st_sp args s A fm 22 := by
  refine st_of (st_e44 hs) (hs _ (List.mem_of_getElem? (i := 659) rfl)) (va_eqt (hs _ (List.mem_of_getElem? (i := 660) rfl))) (hs _ (List.mem_of_getElem? (i := 661) rfl)) (N := 5) (by decide) (va_eqt (hs _ (List.mem_of_getElem? (i := 662) rfl))) (fun j hj => ?_) hA
  exact match j, hj with
    | 0, _ => va_eqt (hs _ (List.mem_of_getElem? (i := 663) rfl))
    | 1, _ => va_eqt (hs _ (List.mem_of_getElem? (i := 664) rfl))
    | 2, _ => va_eqt (hs _ (List.mem_of_getElem? (i := 665) rfl))
    | 3, _ => va_eqt (hs _ (List.mem_of_getElem? (i := 666) rfl))
    | 4, _ => va_eqt (hs _ (List.mem_of_getElem? (i := 667) rfl))
    | q + 5, h => absurd h (by omega)
set_option maxRecDepth 40000 in
theorem st_s23 (hs : ∀ w ∈ flatC (Jvm.Cond.and given_1 narrow_1), w.before args s = true) (hA : ∀ a : Nat, a < s.heap.size → ¬ A a) : st_sp args s A fm 23 := by
  refine st_of (st_e47 hs) (hs _ (List.mem_of_getElem? (i := 687) rfl)) (va_eqt (hs _ (List.mem_of_getElem? (i := 688) rfl))) (hs _ (List.mem_of_getElem? (i := 689) rfl)) (N := 2) (by decide) (va_eqt (hs _ (List.mem_of_getElem? (i := 690) rfl))) (fun j hj => ?_) hA
  exact match j, hj with
    | 0, _ => va_eqt (hs _ (List.mem_of_getElem? (i := 691) rfl))
    | 1, _ => va_eqt (hs _ (List.mem_of_getElem? (i := 692) rfl))
    | q + 2, h => absurd h (by omega)
set_option maxRecDepth 40000 in
theorem st_s24 (hs : ∀ w ∈ flatC (Jvm.Cond.and given_1 narrow_1), w.before args s = true) (hA : ∀ a : Nat, a < s.heap.size → ¬ A a) : st_sp args s A fm 24 := by
  refine st_of (st_e48 hs) (hs _ (List.mem_of_getElem? (i := 693) rfl)) (va_eqt (hs _ (List.mem_of_getElem? (i := 694) rfl))) (hs _ (List.mem_of_getElem? (i := 695) rfl)) (N := 4) (by decide) (va_eqt (hs _ (List.mem_of_getElem? (i := 696) rfl))) (fun j hj => ?_) hA
  exact match j, hj with
    | 0, _ => va_eqt (hs _ (List.mem_of_getElem? (i := 697) rfl))
    | 1, _ => va_eqt (hs _ (List.mem_of_getElem? (i := 698) rfl))
    | 2, _ => va_eqt (hs _ (List.mem_of_getElem? (i := 699) rfl))
    | 3, _ => va_eqt (hs _ (List.mem_of_getElem? (i := 700) rfl))
    | q + 4, h => absurd h (by omega)
set_option maxRecDepth 40000 in
theorem st_s25 (hs : ∀ w ∈ flatC (Jvm.Cond.and given_1 narrow_1), w.before args s = true) (hA : ∀ a : Nat, a < s.heap.size → ¬ A a) : st_sp args s A fm 25 := by
  refine st_of (st_e49 hs) (hs _ (List.mem_of_getElem? (i := 701) rfl)) (va_eqt (hs _ (List.mem_of_getElem? (i := 702) rfl))) (hs _ (List.mem_of_getElem? (i := 703) rfl)) (N := 4) (by decide) (va_eqt (hs _ (List.mem_of_getElem? (i := 704) rfl))) (fun j hj => ?_) hA
  exact match j, hj with
    | 0, _ => va_eqt (hs _ (List.mem_of_getElem? (i := 705) rfl))
    | 1, _ => va_eqt (hs _ (List.mem_of_getElem? (i := 706) rfl))
    | 2, _ => va_eqt (hs _ (List.mem_of_getElem? (i := 707) rfl))
    | 3, _ => va_eqt (hs _ (List.mem_of_getElem? (i := 708) rfl))
    | q + 4, h => absurd h (by omega)
set_option maxRecDepth 40000 in
theorem st_s26 (hs : ∀ w ∈ flatC (Jvm.Cond.and given_1 narrow_1), w.before args s = true) (hA : ∀ a : Nat, a < s.heap.size → ¬ A a) : st_sp args s A fm 26 := by
  refine st_of (st_e50 hs) (hs _ (List.mem_of_getElem? (i := 709) rfl)) (va_eqt (hs _ (List.mem_of_getElem? (i := 710) rfl))) (hs _ (List.mem_of_getElem? (i := 711) rfl)) (N := 3) (by decide) (va_eqt (hs _ (List.mem_of_getElem? (i := 712) rfl))) (fun j hj => ?_) hA
  exact match j, hj with
    | 0, _ => va_eqt (hs _ (List.mem_of_getElem? (i := 713) rfl))
    | 1, _ => va_eqt (hs _ (List.mem_of_getElem? (i := 714) rfl))
    | 2, _ => va_eqt (hs _ (List.mem_of_getElem? (i := 715) rfl))
    | q + 3, h => absurd h (by omega)
set_option maxRecDepth 40000 in
theorem st_s27 (hs : ∀ w ∈ flatC (Jvm.Cond.and given_1 narrow_1), w.before args s = true) (hA : ∀ a : Nat, a < s.heap.size → ¬ A a) : st_sp args s A fm 27 := by
  refine st_of (st_e51 hs) (hs _ (List.mem_of_getElem? (i := 716) rfl)) (va_eqt (hs _ (List.mem_of_getElem? (i := 717) rfl))) (hs _ (List.mem_of_getElem? (i := 718) rfl)) (N := 3) (by decide) (va_eqt (hs _ (List.mem_of_getElem? (i := 719) rfl))) (fun j hj => ?_) hA
  exact match j, hj with
    | 0, _ => va_eqt (hs _ (List.mem_of_getElem? (i := 720) rfl))
    | 1, _ => va_eqt (hs _ (List.mem_of_getElem? (i := 721) rfl))
    | 2, _ => va_eqt (hs _ (List.mem_of_getElem? (i := 722) rfl))
    | q + 3, h => absurd h (by omega)
set_option maxRecDepth 40000 in
theorem st_s28 (hs : ∀ w ∈ flatC (Jvm.Cond.and given_1 narrow_1), w.before args s = true) (hA : ∀ a : Nat, a < s.heap.size → ¬ A a) : st_sp args s A fm 28 := by
  refine st_of (st_e52 hs) (hs _ (List.mem_of_getElem? (i := 723) rfl)) (va_eqt (hs _ (List.mem_of_getElem? (i := 724) rfl))) (hs _ (List.mem_of_getElem? (i := 725) rfl)) (N := 3) (by decide) (va_eqt (hs _ (List.mem_of_getElem? (i := 726) rfl))) (fun j hj => ?_) hA
  exact match j, hj with
    | 0, _ => va_eqt (hs _ (List.mem_of_getElem? (i := 727) rfl))
    | 1, _ => va_eqt (hs _ (List.mem_of_getElem? (i := 728) rfl))
    | 2, _ => va_eqt (hs _ (List.mem_of_getElem? (i := 729) rfl))
    | q + 3, h => absurd h (by omega)
set_option maxRecDepth 40000 in
theorem st_s29 (hs : ∀ w ∈ flatC (Jvm.Cond.and given_1 narrow_1), w.before args s = true) (hA : ∀ a : Nat, a < s.heap.size → ¬ A a) : st_sp args s A fm 29 := by
  refine st_of (st_e53 hs) (hs _ (List.mem_of_getElem? (i := 730) rfl)) (va_eqt (hs _ (List.mem_of_getElem? (i := 731) rfl))) (hs _ (List.mem_of_getElem? (i := 732) rfl)) (N := 3) (by decide) (va_eqt (hs _ (List.mem_of_getElem? (i := 733) rfl))) (fun j hj => ?_) hA
  exact match j, hj with
    | 0, _ => va_eqt (hs _ (List.mem_of_getElem? (i := 734) rfl))
    | 1, _ => va_eqt (hs _ (List.mem_of_getElem? (i := 735) rfl))
    | 2, _ => va_eqt (hs _ (List.mem_of_getElem? (i := 736) rfl))
    | q + 3, h => absurd h (by omega)
set_option maxRecDepth 40000 in
theorem st_s30 (hs : ∀ w ∈ flatC (Jvm.Cond.and given_1 narrow_1), w.before args s = true) (hA : ∀ a : Nat, a < s.heap.size → ¬ A a) : st_sp args s A fm 30 := by
  refine st_of (st_e55 hs) (hs _ (List.mem_of_getElem? (i := 747) rfl)) (va_eqt (hs _ (List.mem_of_getElem? (i := 748) rfl))) (hs _ (List.mem_of_getElem? (i := 749) rfl)) (N := 3) (by decide) (va_eqt (hs _ (List.mem_of_getElem? (i := 750) rfl))) (fun j hj => ?_) hA
  exact match j, hj with
    | 0, _ => va_eqt (hs _ (List.mem_of_getElem? (i := 751) rfl))
    | 1, _ => va_eqt (hs _ (List.mem_of_getElem? (i := 752) rfl))
    | 2, _ => va_eqt (hs _ (List.mem_of_getElem? (i := 753) rfl))
    | q + 3, h => absurd h (by omega)
set_option maxRecDepth 40000 in
theorem st_s31 (hs : ∀ w ∈ flatC (Jvm.Cond.and given_1 narrow_1), w.before args s = true) (hA : ∀ a : Nat, a < s.heap.size → ¬ A a) : st_sp args s A fm 31 := by
  refine st_of (st_e56 hs) (hs _ (List.mem_of_getElem? (i := 754) rfl)) (va_eqt (hs _ (List.mem_of_getElem? (i := 755) rfl))) (hs _ (List.mem_of_getElem? (i := 756) rfl)) (N := 4) (by decide) (va_eqt (hs _ (List.mem_of_getElem? (i := 757) rfl))) (fun j hj => ?_) hA
  exact match j, hj with
    | 0, _ => va_eqt (hs _ (List.mem_of_getElem? (i := 758) rfl))
    | 1, _ => va_eqt (hs _ (List.mem_of_getElem? (i := 759) rfl))
    | 2, _ => va_eqt (hs _ (List.mem_of_getElem? (i := 760) rfl))
    | 3, _ => va_eqt (hs _ (List.mem_of_getElem? (i := 761) rfl))
    | q + 4, h => absurd h (by omega)
set_option maxRecDepth 40000 in
theorem st_s32 (hs : ∀ w ∈ flatC (Jvm.Cond.and given_1 narrow_1), w.before args s = true) (hA : ∀ a : Nat, a < s.heap.size → ¬ A a) : st_sp args s A fm 32 := by
  refine st_of (st_e57 hs) (hs _ (List.mem_of_getElem? (i := 762) rfl)) (va_eqt (hs _ (List.mem_of_getElem? (i := 763) rfl))) (hs _ (List.mem_of_getElem? (i := 764) rfl)) (N := 5) (by decide) (va_eqt (hs _ (List.mem_of_getElem? (i := 765) rfl))) (fun j hj => ?_) hA
  exact match j, hj with
    | 0, _ => va_eqt (hs _ (List.mem_of_getElem? (i := 766) rfl))
    | 1, _ => va_eqt (hs _ (List.mem_of_getElem? (i := 767) rfl))
    | 2, _ => va_eqt (hs _ (List.mem_of_getElem? (i := 768) rfl))
    | 3, _ => va_eqt (hs _ (List.mem_of_getElem? (i := 769) rfl))
    | 4, _ => va_eqt (hs _ (List.mem_of_getElem? (i := 770) rfl))
    | q + 5, h => absurd h (by omega)
set_option maxRecDepth 40000 in
theorem st_s33 (hs : ∀ w ∈ flatC (Jvm.Cond.and given_1 narrow_1), w.before args s = true) (hA : ∀ a : Nat, a < s.heap.size → ¬ A a) : st_sp args s A fm 33 := by
  refine st_of (st_e58 hs) (hs _ (List.mem_of_getElem? (i := 771) rfl)) (va_eqt (hs _ (List.mem_of_getElem? (i := 772) rfl))) (hs _ (List.mem_of_getElem? (i := 773) rfl)) (N := 4) (by decide) (va_eqt (hs _ (List.mem_of_getElem? (i := 774) rfl))) (fun j hj => ?_) hA
  exact match j, hj with
    | 0, _ => va_eqt (hs _ (List.mem_of_getElem? (i := 775) rfl))
    | 1, _ => va_eqt (hs _ (List.mem_of_getElem? (i := 776) rfl))
    | 2, _ => va_eqt (hs _ (List.mem_of_getElem? (i := 777) rfl))
    | 3, _ => va_eqt (hs _ (List.mem_of_getElem? (i := 778) rfl))
    | q + 4, h => absurd h (by omega)
set_option maxRecDepth 40000 in
theorem st_s34 (hs : ∀ w ∈ flatC (Jvm.Cond.and given_1 narrow_1), w.before args s = true) (hA : ∀ a : Nat, a < s.heap.size → ¬ A a) : st_sp args s A fm 34 := by
  refine st_of (st_e59 hs) (hs _ (List.mem_of_getElem? (i := 779) rfl)) (va_eqt (hs _ (List.mem_of_getElem? (i := 780) rfl))) (hs _ (List.mem_of_getElem? (i := 781) rfl)) (N := 4) (by decide) (va_eqt (hs _ (List.mem_of_getElem? (i := 782) rfl))) (fun j hj => ?_) hA
  exact match j, hj with
    | 0, _ => va_eqt (hs _ (List.mem_of_getElem? (i := 783) rfl))
    | 1, _ => va_eqt (hs _ (List.mem_of_getElem? (i := 784) rfl))
    | 2, _ => va_eqt (hs _ (List.mem_of_getElem? (i := 785) rfl))
    | 3, _ => va_eqt (hs _ (List.mem_of_getElem? (i := 786) rfl))
    | q + 4, h => absurd h (by omega)
set_option maxRecDepth 40000 in
theorem st_s35 (hs : ∀ w ∈ flatC (Jvm.Cond.and given_1 narrow_1), w.before args s = true) (hA : ∀ a : Nat, a < s.heap.size → ¬ A a) : st_sp args s A fm 35 := by
  refine st_of (st_e60 hs) (hs _ (List.mem_of_getElem? (i := 787) rfl)) (va_eqt (hs _ (List.mem_of_getElem? (i := 788) rfl))) (hs _ (List.mem_of_getElem? (i := 789) rfl)) (N := 5) (by decide) (va_eqt (hs _ (List.mem_of_getElem? (i := 790) rfl))) (fun j hj => ?_) hA
  exact match j, hj with
    | 0, _ => va_eqt (hs _ (List.mem_of_getElem? (i := 791) rfl))
    | 1, _ => va_eqt (hs _ (List.mem_of_getElem? (i := 792) rfl))
    | 2, _ => va_eqt (hs _ (List.mem_of_getElem? (i := 793) rfl))
    | 3, _ => va_eqt (hs _ (List.mem_of_getElem? (i := 794) rfl))
    | 4, _ => va_eqt (hs _ (List.mem_of_getElem? (i := 795) rfl))
    | q + 5, h => absurd h (by omega)
set_option maxRecDepth 40000 in
theorem st_s36 (hs : ∀ w ∈ flatC (Jvm.Cond.and given_1 narrow_1), w.before args s = true) (hA : ∀ a : Nat, a < s.heap.size → ¬ A a) : st_sp args s A fm 36 := by
  refine st_of (st_e64 hs) (hs _ (List.mem_of_getElem? (i := 824) rfl)) (va_eqt (hs _ (List.mem_of_getElem? (i := 825) rfl))) (hs _ (List.mem_of_getElem? (i := 826) rfl)) (N := 4) (by decide) (va_eqt (hs _ (List.mem_of_getElem? (i := 827) rfl))) (fun j hj => ?_) hA
  exact match j, hj with
    | 0, _ => va_eqt (hs _ (List.mem_of_getElem? (i := 828) rfl))
    | 1, _ => va_eqt (hs _ (List.mem_of_getElem? (i := 829) rfl))
    | 2, _ => va_eqt (hs _ (List.mem_of_getElem? (i := 830) rfl))
    | 3, _ => va_eqt (hs _ (List.mem_of_getElem? (i := 831) rfl))
    | q + 4, h => absurd h (by omega)
set_option maxRecDepth 40000 in
theorem st_s37 (hs : ∀ w ∈ flatC (Jvm.Cond.and given_1 narrow_1), w.before args s = true) (hA : ∀ a : Nat, a < s.heap.size → ¬ A a) : st_sp args s A fm 37 := by
  refine st_of (st_e65 hs) (hs _ (List.mem_of_getElem? (i := 832) rfl)) (va_eqt (hs _ (List.mem_of_getElem? (i := 833) rfl))) (hs _ (List.mem_of_getElem? (i := 834) rfl)) (N := 4) (by decide) (va_eqt (hs _ (List.mem_of_getElem? (i := 835) rfl))) (fun j hj => ?_) hA
  exact match j, hj with
    | 0, _ => va_eqt (hs _ (List.mem_of_getElem? (i := 836) rfl))
    | 1, _ => va_eqt (hs _ (List.mem_of_getElem? (i := 837) rfl))
    | 2, _ => va_eqt (hs _ (List.mem_of_getElem? (i := 838) rfl))
    | 3, _ => va_eqt (hs _ (List.mem_of_getElem? (i := 839) rfl))
    | q + 4, h => absurd h (by omega)
set_option maxRecDepth 40000 in
theorem st_s38 (hs : ∀ w ∈ flatC (Jvm.Cond.and given_1 narrow_1), w.before args s = true) (hA : ∀ a : Nat, a < s.heap.size → ¬ A a) : st_sp args s A fm 38 := by
  refine st_of (st_e66 hs) (hs _ (List.mem_of_getElem? (i := 840) rfl)) (va_eqt (hs _ (List.mem_of_getElem? (i := 841) rfl))) (hs _ (List.mem_of_getElem? (i := 842) rfl)) (N := 5) (by decide) (va_eqt (hs _ (List.mem_of_getElem? (i := 843) rfl))) (fun j hj => ?_) hA
  exact match j, hj with
    | 0, _ => va_eqt (hs _ (List.mem_of_getElem? (i := 844) rfl))
    | 1, _ => va_eqt (hs _ (List.mem_of_getElem? (i := 845) rfl))
    | 2, _ => va_eqt (hs _ (List.mem_of_getElem? (i := 846) rfl))
    | 3, _ => va_eqt (hs _ (List.mem_of_getElem? (i := 847) rfl))
    | 4, _ => va_eqt (hs _ (List.mem_of_getElem? (i := 848) rfl))
    | q + 5, h => absurd h (by omega)
set_option maxRecDepth 40000 in
theorem st_s39 (hs : ∀ w ∈ flatC (Jvm.Cond.and given_1 narrow_1), w.before args s = true) (hA : ∀ a : Nat, a < s.heap.size → ¬ A a) : st_sp args s A fm 39 := by
  refine st_of (st_e67 hs) (hs _ (List.mem_of_getElem? (i := 849) rfl)) (va_eqt (hs _ (List.mem_of_getElem? (i := 850) rfl))) (hs _ (List.mem_of_getElem? (i := 851) rfl)) (N := 3) (by decide) (va_eqt (hs _ (List.mem_of_getElem? (i := 852) rfl))) (fun j hj => ?_) hA
  exact match j, hj with
    | 0, _ => va_eqt (hs _ (List.mem_of_getElem? (i := 853) rfl))
    | 1, _ => va_eqt (hs _ (List.mem_of_getElem? (i := 854) rfl))
    | 2, _ => va_eqt (hs _ (List.mem_of_getElem? (i := 855) rfl))
    | q + 3, h => absurd h (by omega)
set_option maxRecDepth 40000 in
theorem st_s40 (hs : ∀ w ∈ flatC (Jvm.Cond.and given_1 narrow_1), w.before args s = true) (hA : ∀ a : Nat, a < s.heap.size → ¬ A a) : st_sp args s A fm 40 := by
  refine st_of (st_e68 hs) (hs _ (List.mem_of_getElem? (i := 856) rfl)) (va_eqt (hs _ (List.mem_of_getElem? (i := 857) rfl))) (hs _ (List.mem_of_getElem? (i := 858) rfl)) (N := 2) (by decide) (va_eqt (hs _ (List.mem_of_getElem? (i := 859) rfl))) (fun j hj => ?_) hA
  exact match j, hj with
    | 0, _ => va_eqt (hs _ (List.mem_of_getElem? (i := 860) rfl))
    | 1, _ => va_eqt (hs _ (List.mem_of_getElem? (i := 861) rfl))
    | q + 2, h => absurd h (by omega)
set_option maxRecDepth 40000 in
theorem st_KS (hs : ∀ w ∈ flatC (Jvm.Cond.and given_1 narrow_1), w.before args s = true) (hA : ∀ a : Nat, a < s.heap.size → ¬ A a) : ∀ i : Nat, i < jx_stl.length → st_sp args s A fm i := fun i hi => match i, hi with
  | 0, _ => st_s0 hs hA
  | 1, _ => st_s1 hs hA
  | 2, _ => st_s2 hs hA
  | 3, _ => st_s3 hs hA
  | 4, _ => st_s4 hs hA
  | 5, _ => st_s5 hs hA
  | 6, _ => st_s6 hs hA
  | 7, _ => st_s7 hs hA
  | 8, _ => st_s8 hs hA
  | 9, _ => st_s9 hs hA
  | 10, _ => st_s10 hs hA
  | 11, _ => st_s11 hs hA
  | 12, _ => st_s12 hs hA
  | 13, _ => st_s13 hs hA
  | 14, _ => st_s14 hs hA
  | 15, _ => st_s15 hs hA
  | 16, _ => st_s16 hs hA
  | 17, _ => st_s17 hs hA
  | 18, _ => st_s18 hs hA
  | 19, _ => st_s19 hs hA
  | 20, _ => st_s20 hs hA
  | 21, _ => st_s21 hs hA
  | 22, _ => st_s22 hs hA
  | 23, _ => st_s23 hs hA
  | 24, _ => st_s24 hs hA
  | 25, _ => st_s25 hs hA
  | 26, _ => st_s26 hs hA
  | 27, _ => st_s27 hs hA
  | 28, _ => st_s28 hs hA
  | 29, _ => st_s29 hs hA
  | 30, _ => st_s30 hs hA
  | 31, _ => st_s31 hs hA
  | 32, _ => st_s32 hs hA
  | 33, _ => st_s33 hs hA
  | 34, _ => st_s34 hs hA
  | 35, _ => st_s35 hs hA
  | 36, _ => st_s36 hs hA
  | 37, _ => st_s37 hs hA
  | 38, _ => st_s38 hs hA
  | 39, _ => st_s39 hs hA
  | 40, _ => st_s40 hs hA
  | q + 41, h => absurd h (by show ¬ (q + 41 < 41); omega)
set_option maxRecDepth 40000 in
theorem st_KR (hs : ∀ w ∈ flatC (Jvm.Cond.and given_1 narrow_1), w.before args s = true) (hts0 : ∀ w ∈ tables_1, w.before args s = true) : ∀ q ∈ jx_strs, vk_R q.1 q.2.1 q.2.2.1 (st_st args s fm q.2.2.2) s := (List.forall_mem_cons.mpr ⟨vk_R.of (hts0 _ (jx_t5 (List.mem_of_getElem? (i := 101) rfl))) (st_e0 hs), (List.forall_mem_cons.mpr ⟨vk_R.of (hts0 _ (jx_t5 (List.mem_of_getElem? (i := 175) rfl))) (st_e1 hs), (List.forall_mem_cons.mpr ⟨vk_R.of (hts0 _ (jx_t5 (List.mem_of_getElem? (i := 177) rfl))) (st_e2 hs), (List.forall_mem_cons.mpr ⟨vk_R.of (hts0 _ (jx_t5 (List.mem_of_getElem? (i := 178) rfl))) (st_e3 hs), (List.forall_mem_cons.mpr ⟨vk_R.of (hts0 _ (jx_t5 (List.mem_of_getElem? (i := 184) rfl))) (st_e4 hs), (List.forall_mem_cons.mpr ⟨vk_R.of (hts0 _ (jx_t5 (List.mem_of_getElem? (i := 193) rfl))) (st_e5 hs), (List.forall_mem_cons.mpr ⟨vk_R.of (hts0 _ (jx_t5 (List.mem_of_getElem? (i := 203) rfl))) (st_e6 hs), (List.forall_mem_cons.mpr ⟨vk_R.of (hts0 _ (jx_t5 (List.mem_of_getElem? (i := 204) rfl))) (st_e7 hs), (List.forall_mem_cons.mpr ⟨vk_R.of (hts0 _ (jx_t5 (List.mem_of_getElem? (i := 213) rfl))) (st_e8 hs), (List.forall_mem_cons.mpr ⟨vk_R.of (hts0 _ (jx_t5 (List.mem_of_getElem? (i := 230) rfl))) (st_e9 hs), (List.forall_mem_cons.mpr ⟨vk_R.of (hts0 _ (jx_t7 (List.mem_of_getElem? (i := 140) rfl))) (st_e10 hs), (List.forall_mem_cons.mpr ⟨vk_R.of (hts0 _ (jx_t7 (List.mem_of_getElem? (i := 142) rfl))) (st_e11 hs), (List.forall_mem_cons.mpr ⟨vk_R.of (hts0 _ (jx_t7 (List.mem_of_getElem? (i := 143) rfl))) (st_e12 hs), (List.forall_mem_cons.mpr ⟨vk_R.of (hts0 _ (jx_t7 (List.mem_of_getElem? (i := 144) rfl))) (st_e13 hs), (List.forall_mem_cons.mpr ⟨vk_R.of (hts0 _ (jx_t7 (List.mem_of_getElem? (i := 145) rfl))) (st_e14 hs), (List.forall_mem_cons.mpr ⟨vk_R.of (hts0 _ (jx_t7 (List.mem_of_getElem? (i := 146) rfl))) (st_e15 hs), (List.forall_mem_cons.mpr ⟨vk_R.of (hts0 _ (jx_t7 (List.mem_of_getElem? (i := 155) rfl))) (st_e16 hs), (List.forall_mem_cons.mpr ⟨vk_R.of (hts0 _ (jx_t7 (List.mem_of_getElem? (i := 157) rfl))) (st_e17 hs), (List.forall_mem_cons.mpr ⟨vk_R.of (hts0 _ (jx_t7 (List.mem_of_getElem? (i := 158) rfl))) (st_e18 hs), (List.forall_mem_cons.mpr ⟨vk_R.of (hts0 _ (jx_t7 (List.mem_of_getElem? (i := 159) rfl))) (st_e19 hs), (List.forall_mem_cons.mpr ⟨vk_R.of (hts0 _ (jx_t7 (List.mem_of_getElem? (i := 160) rfl))) (st_e20 hs), (List.forall_mem_cons.mpr ⟨vk_R.of (hts0 _ (jx_t7 (List.mem_of_getElem? (i := 161) rfl))) (st_e21 hs), (List.forall_mem_cons.mpr ⟨vk_R.of (hts0 _ (jx_t10 (List.mem_of_getElem? (i := 70) rfl))) (st_e22 hs), (List.forall_mem_cons.mpr ⟨vk_R.of (hts0 _ (jx_t10 (List.mem_of_getElem? (i := 88) rfl))) (st_e23 hs), (List.forall_mem_cons.mpr ⟨vk_R.of (hts0 _ (jx_t10 (List.mem_of_getElem? (i := 89) rfl))) (st_e24 hs), (List.forall_mem_cons.mpr ⟨vk_R.of (hts0 _ (jx_t10 (List.mem_of_getElem? (i := 90) rfl))) (st_e25 hs), (List.forall_mem_cons.mpr ⟨vk_R.of (hts0 _ (jx_t10 (List.mem_of_getElem? (i := 102) rfl))) (st_e26 hs), (List.forall_mem_cons.mpr ⟨vk_R.of (hts0 _ (jx_t10 (List.mem_of_getElem? (i := 115) rfl))) (st_e27 hs), (List.forall_mem_cons.mpr ⟨vk_R.of (hts0 _ (jx_t10 (List.mem_of_getElem? (i := 124) rfl))) (st_e28 hs), (List.forall_mem_cons.mpr ⟨vk_R.of (hts0 _ (jx_t10 (List.mem_of_getElem? (i := 134) rfl))) (st_e29 hs), (List.forall_mem_cons.mpr ⟨vk_R.of (hts0 _ (jx_t10 (List.mem_of_getElem? (i := 151) rfl))) (st_e30 hs), (List.forall_mem_cons.mpr ⟨vk_R.of (hts0 _ (jx_t11 (List.mem_of_getElem? (i := 213) rfl))) (st_e31 hs), (List.forall_mem_cons.mpr ⟨vk_R.of (hts0 _ (jx_t11 (List.mem_of_getElem? (i := 214) rfl))) (st_e32 hs), (List.forall_mem_cons.mpr ⟨vk_R.of (hts0 _ (jx_t11 (List.mem_of_getElem? (i := 215) rfl))) (st_e33 hs), (List.forall_mem_cons.mpr ⟨vk_R.of (hts0 _ (jx_t11 (List.mem_of_getElem? (i := 216) rfl))) (st_e34 hs), (List.forall_mem_cons.mpr ⟨vk_R.of (hts0 _ (jx_t11 (List.mem_of_getElem? (i := 217) rfl))) (st_e35 hs), (List.forall_mem_cons.mpr ⟨vk_R.of (hts0 _ (jx_t11 (List.mem_of_getElem? (i := 218) rfl))) (st_e36 hs), (List.forall_mem_cons.mpr ⟨vk_R.of (hts0 _ (jx_t11 (List.mem_of_getElem? (i := 223) rfl))) (st_e37 hs), (List.forall_mem_cons.mpr ⟨vk_R.of (hts0 _ (jx_t11 (List.mem_of_getElem? (i := 224) rfl))) (st_e38 hs), (List.forall_mem_cons.mpr ⟨vk_R.of (hts0 _ (jx_t11 (List.mem_of_getElem? (i := 225) rfl))) (st_e39 hs), (List.forall_mem_cons.mpr ⟨vk_R.of (hts0 _ (jx_t11 (List.mem_of_getElem? (i := 226) rfl))) (st_e40 hs), (List.forall_mem_cons.mpr ⟨vk_R.of (hts0 _ (jx_t11 (List.mem_of_getElem? (i := 227) rfl))) (st_e41 hs), (List.forall_mem_cons.mpr ⟨vk_R.of (hts0 _ (jx_t12 (List.mem_of_getElem? (i := 196) rfl))) (st_e42 hs), (List.forall_mem_cons.mpr ⟨vk_R.of (hts0 _ (jx_t12 (List.mem_of_getElem? (i := 197) rfl))) (st_e43 hs), (List.forall_mem_cons.mpr ⟨vk_R.of (hts0 _ (jx_t12 (List.mem_of_getElem? (i := 198) rfl))) (st_e44 hs), (List.forall_mem_cons.mpr ⟨vk_R.of (hts0 _ (jx_t12 (List.mem_of_getElem? (i := 199) rfl))) (st_e45 hs), (List.forall_mem_cons.mpr ⟨vk_R.of (hts0 _ (jx_t12 (List.mem_of_getElem? (i := 200) rfl))) (st_e46 hs), (List.forall_mem_cons.mpr ⟨vk_R.of (hts0 _ (jx_t12 (List.mem_of_getElem? (i := 201) rfl))) (st_e47 hs), (List.forall_mem_cons.mpr ⟨vk_R.of (hts0 _ (jx_t12 (List.mem_of_getElem? (i := 202) rfl))) (st_e48 hs), (List.forall_mem_cons.mpr ⟨vk_R.of (hts0 _ (jx_t12 (List.mem_of_getElem? (i := 203) rfl))) (st_e49 hs), (List.forall_mem_cons.mpr ⟨vk_R.of (hts0 _ (jx_t12 (List.mem_of_getElem? (i := 204) rfl))) (st_e50 hs), (List.forall_mem_cons.mpr ⟨vk_R.of (hts0 _ (jx_t12 (List.mem_of_getElem? (i := 205) rfl))) (st_e51 hs), (List.forall_mem_cons.mpr ⟨vk_R.of (hts0 _ (jx_t12 (List.mem_of_getElem? (i := 206) rfl))) (st_e52 hs), (List.forall_mem_cons.mpr ⟨vk_R.of (hts0 _ (jx_t12 (List.mem_of_getElem? (i := 207) rfl))) (st_e53 hs), (List.forall_mem_cons.mpr ⟨vk_R.of (hts0 _ (jx_t12 (List.mem_of_getElem? (i := 208) rfl))) (st_e54 hs), (List.forall_mem_cons.mpr ⟨vk_R.of (hts0 _ (jx_t12 (List.mem_of_getElem? (i := 209) rfl))) (st_e55 hs), (List.forall_mem_cons.mpr ⟨vk_R.of (hts0 _ (jx_t12 (List.mem_of_getElem? (i := 210) rfl))) (st_e56 hs), (List.forall_mem_cons.mpr ⟨vk_R.of (hts0 _ (jx_t12 (List.mem_of_getElem? (i := 211) rfl))) (st_e57 hs), (List.forall_mem_cons.mpr ⟨vk_R.of (hts0 _ (jx_t12 (List.mem_of_getElem? (i := 212) rfl))) (st_e58 hs), (List.forall_mem_cons.mpr ⟨vk_R.of (hts0 _ (jx_t12 (List.mem_of_getElem? (i := 213) rfl))) (st_e59 hs), (List.forall_mem_cons.mpr ⟨vk_R.of (hts0 _ (jx_t12 (List.mem_of_getElem? (i := 214) rfl))) (st_e60 hs), (List.forall_mem_cons.mpr ⟨vk_R.of (hts0 _ (jx_t12 (List.mem_of_getElem? (i := 215) rfl))) (st_e61 hs), (List.forall_mem_cons.mpr ⟨vk_R.of (hts0 _ (jx_t12 (List.mem_of_getElem? (i := 216) rfl))) (st_e62 hs), (List.forall_mem_cons.mpr ⟨vk_R.of (hts0 _ (jx_t12 (List.mem_of_getElem? (i := 217) rfl))) (st_e63 hs), (List.forall_mem_cons.mpr ⟨vk_R.of (hts0 _ (jx_t12 (List.mem_of_getElem? (i := 218) rfl))) (st_e64 hs), (List.forall_mem_cons.mpr ⟨vk_R.of (hts0 _ (jx_t12 (List.mem_of_getElem? (i := 219) rfl))) (st_e65 hs), (List.forall_mem_cons.mpr ⟨vk_R.of (hts0 _ (jx_t12 (List.mem_of_getElem? (i := 220) rfl))) (st_e66 hs), (List.forall_mem_cons.mpr ⟨vk_R.of (hts0 _ (jx_t12 (List.mem_of_getElem? (i := 221) rfl))) (st_e67 hs), (List.forall_mem_cons.mpr ⟨vk_R.of (hts0 _ (jx_t12 (List.mem_of_getElem? (i := 222) rfl))) (st_e68 hs), (fun _ h => (List.not_mem_nil h).elim)⟩)⟩)⟩)⟩)⟩)⟩)⟩)⟩)⟩)⟩)⟩)⟩)⟩)⟩)⟩)⟩)⟩)⟩)⟩)⟩)⟩)⟩)⟩)⟩)⟩)⟩)⟩)⟩)⟩)⟩)⟩)⟩)⟩)⟩)⟩)⟩)⟩)⟩)⟩)⟩)⟩)⟩)⟩)⟩)⟩)⟩)⟩)⟩)⟩)⟩)⟩)⟩)⟩)⟩)⟩)⟩)⟩)⟩)⟩)⟩)⟩)⟩)⟩)⟩)⟩)⟩)⟩)⟩)⟩)
set_option maxRecDepth 40000 in
theorem st_o0 (hs : ∀ w ∈ flatC (Jvm.Cond.and given_1 narrow_1), w.before args s = true) (hts0 : ∀ w ∈ tables_1, w.before args s = true) (hA : ∀ a : Nat, a < s.heap.size → ¬ A a) : st_opp args s A fm 0 :=
  st_opof (st_ex (hs _ (List.mem_of_getElem? (i := 43) rfl))) (hs _ (List.mem_of_getElem? (i := 43) rfl)) (hts0 _ (jx_t5 (List.mem_of_getElem? (i := 236) rfl))) (hts0 _ (jx_t1 (List.mem_of_getElem? (i := 9) rfl))) (va_eqt (hs _ (List.mem_of_getElem? (i := 46) rfl))) (va_eqt (hs _ (List.mem_of_getElem? (i := 44) rfl))) (va_eqv (hs _ (List.mem_of_getElem? (i := 45) rfl)) (st_e42 hs)) hA
set_option maxRecDepth 40000 in
theorem st_o1 (hs : ∀ w ∈ flatC (Jvm.Cond.and given_1 narrow_1), w.before args s = true) (hts0 : ∀ w ∈ tables_1, w.before args s = true) (hA : ∀ a : Nat, a < s.heap.size → ¬ A a) : st_opp args s A fm 1 :=
  st_opof (st_ex (hs _ (List.mem_of_getElem? (i := 91) rfl))) (hs _ (List.mem_of_getElem? (i := 91) rfl)) (hts0 _ (jx_t8 (List.mem_of_getElem? (i := 43) rfl))) (hts0 _ (jx_t1 (List.mem_of_getElem? (i := 9) rfl))) (va_eqt (hs _ (List.mem_of_getElem? (i := 94) rfl))) (va_eqt (hs _ (List.mem_of_getElem? (i := 92) rfl))) (va_eqv (hs _ (List.mem_of_getElem? (i := 93) rfl)) (st_e54 hs)) hA
set_option maxRecDepth 40000 in
theorem st_o2 (hs : ∀ w ∈ flatC (Jvm.Cond.and given_1 narrow_1), w.before args s = true) (hts0 : ∀ w ∈ tables_1, w.before args s = true) (hA : ∀ a : Nat, a < s.heap.size → ¬ A a) : st_opp args s A fm 2 :=
  st_opof (st_ex (hs _ (List.mem_of_getElem? (i := 95) rfl))) (hs _ (List.mem_of_getElem? (i := 95) rfl)) (hts0 _ (jx_t8 (List.mem_of_getElem? (i := 45) rfl))) (hts0 _ (jx_t1 (List.mem_of_getElem? (i := 9) rfl))) (va_eqt (hs _ (List.mem_of_getElem? (i := 98) rfl))) (va_eqt (hs _ (List.mem_of_getElem? (i := 96) rfl))) (va_eqv (hs _ (List.mem_of_getElem? (i := 97) rfl)) (st_e55 hs)) hA
set_option maxRecDepth 40000 in
theorem st_o3 (hs : ∀ w ∈ flatC (Jvm.Cond.and given_1 narrow_1), w.before args s = true) (hts0 : ∀ w ∈ tables_1, w.before args s = true) (hA : ∀ a : Nat, a < s.heap.size → ¬ A a) : st_opp args s A fm 3 :=
  st_opof (st_ex (hs _ (List.mem_of_getElem? (i := 111) rfl))) (hs _ (List.mem_of_getElem? (i := 111) rfl)) (hts0 _ (jx_t12 (List.mem_of_getElem? (i := 186) rfl))) (hts0 _ (jx_t1 (List.mem_of_getElem? (i := 9) rfl))) (va_eqt (hs _ (List.mem_of_getElem? (i := 114) rfl))) (va_eqt (hs _ (List.mem_of_getElem? (i := 112) rfl))) (va_eqv (hs _ (List.mem_of_getElem? (i := 113) rfl)) (st_e59 hs)) hA
set_option maxRecDepth 40000 in
theorem st_o4 (hs : ∀ w ∈ flatC (Jvm.Cond.and given_1 narrow_1), w.before args s = true) (hts0 : ∀ w ∈ tables_1, w.before args s = true) (hA : ∀ a : Nat, a < s.heap.size → ¬ A a) : st_opp args s A fm 4 :=
  st_opof (st_ex (hs _ (List.mem_of_getElem? (i := 115) rfl))) (hs _ (List.mem_of_getElem? (i := 115) rfl)) (hts0 _ (jx_t12 (List.mem_of_getElem? (i := 187) rfl))) (hts0 _ (jx_t1 (List.mem_of_getElem? (i := 9) rfl))) (va_eqt (hs _ (List.mem_of_getElem? (i := 118) rfl))) (va_eqt (hs _ (List.mem_of_getElem? (i := 116) rfl))) (va_eqv (hs _ (List.mem_of_getElem? (i := 117) rfl)) (st_e60 hs)) hA
set_option maxRecDepth 40000 in
theorem st_o5 (hs : ∀ w ∈ flatC (Jvm.Cond.and given_1 narrow_1), w.before args s = true) (hts0 : ∀ w ∈ tables_1, w.before args s = true) (hA : ∀ a : Nat, a < s.heap.size → ¬ A a) : st_opp args s A fm 5 :=
  st_opof (st_ex (hs _ (List.mem_of_getElem? (i := 99) rfl))) (hs _ (List.mem_of_getElem? (i := 99) rfl)) (hts0 _ (jx_t8 (List.mem_of_getElem? (i := 53) rfl))) (hts0 _ (jx_t1 (List.mem_of_getElem? (i := 9) rfl))) (va_eqt (hs _ (List.mem_of_getElem? (i := 102) rfl))) (va_eqt (hs _ (List.mem_of_getElem? (i := 100) rfl))) (va_eqv (hs _ (List.mem_of_getElem? (i := 101) rfl)) (st_e56 hs)) hA
set_option maxRecDepth 40000 in
theorem st_o6 (hs : ∀ w ∈ flatC (Jvm.Cond.and given_1 narrow_1), w.before args s = true) (hts0 : ∀ w ∈ tables_1, w.before args s = true) (hA : ∀ a : Nat, a < s.heap.size → ¬ A a) : st_opp args s A fm 6 :=
  st_opof (st_ex (hs _ (List.mem_of_getElem? (i := 103) rfl))) (hs _ (List.mem_of_getElem? (i := 103) rfl)) (hts0 _ (jx_t8 (List.mem_of_getElem? (i := 55) rfl))) (hts0 _ (jx_t1 (List.mem_of_getElem? (i := 9) rfl))) (va_eqt (hs _ (List.mem_of_getElem? (i := 106) rfl))) (va_eqt (hs _ (List.mem_of_getElem? (i := 104) rfl))) (va_eqv (hs _ (List.mem_of_getElem? (i := 105) rfl)) (st_e57 hs)) hA
set_option maxRecDepth 40000 in
theorem st_o7 (hs : ∀ w ∈ flatC (Jvm.Cond.and given_1 narrow_1), w.before args s = true) (hts0 : ∀ w ∈ tables_1, w.before args s = true) (hA : ∀ a : Nat, a < s.heap.size → ¬ A a) : st_opp args s A fm 7 :=
  st_opof (st_ex (hs _ (List.mem_of_getElem? (i := 87) rfl))) (hs _ (List.mem_of_getElem? (i := 87) rfl)) (hts0 _ (jx_t7 (List.mem_of_getElem? (i := 55) rfl))) (hts0 _ (jx_t1 (List.mem_of_getElem? (i := 9) rfl))) (va_eqt (hs _ (List.mem_of_getElem? (i := 90) rfl))) (va_eqt (hs _ (List.mem_of_getElem? (i := 88) rfl))) (va_eqv (hs _ (List.mem_of_getElem? (i := 89) rfl)) (st_e53 hs)) hA
set_option maxRecDepth 40000 in
theorem st_o8 (hs : ∀ w ∈ flatC (Jvm.Cond.and given_1 narrow_1), w.before args s = true) (hts0 : ∀ w ∈ tables_1, w.before args s = true) (hA : ∀ a : Nat, a < s.heap.size → ¬ A a) : st_opp args s A fm 8 :=
  st_opof (st_ex (hs _ (List.mem_of_getElem? (i := 83) rfl))) (hs _ (List.mem_of_getElem? (i := 83) rfl)) (hts0 _ (jx_t7 (List.mem_of_getElem? (i := 21) rfl))) (hts0 _ (jx_t1 (List.mem_of_getElem? (i := 9) rfl))) (va_eqt (hs _ (List.mem_of_getElem? (i := 86) rfl))) (va_eqt (hs _ (List.mem_of_getElem? (i := 84) rfl))) (va_eqv (hs _ (List.mem_of_getElem? (i := 85) rfl)) (st_e52 hs)) hA
set_option maxRecDepth 40000 in
theorem st_o9 (hs : ∀ w ∈ flatC (Jvm.Cond.and given_1 narrow_1), w.before args s = true) (hts0 : ∀ w ∈ tables_1, w.before args s = true) (hA : ∀ a : Nat, a < s.heap.size → ¬ A a) : st_opp args s A fm 9 :=
  st_opof (st_ex (hs _ (List.mem_of_getElem? (i := 55) rfl))) (hs _ (List.mem_of_getElem? (i := 55) rfl)) (hts0 _ (jx_t6 (List.mem_of_getElem? (i := 55) rfl))) (hts0 _ (jx_t1 (List.mem_of_getElem? (i := 9) rfl))) (va_eqt (hs _ (List.mem_of_getElem? (i := 58) rfl))) (va_eqt (hs _ (List.mem_of_getElem? (i := 56) rfl))) (va_eqv (hs _ (List.mem_of_getElem? (i := 57) rfl)) (st_e45 hs)) hA
set_option maxRecDepth 40000 in
theorem st_o10 (hs : ∀ w ∈ flatC (Jvm.Cond.and given_1 narrow_1), w.before args s = true) (hts0 : ∀ w ∈ tables_1, w.before args s = true) (hA : ∀ a : Nat, a < s.heap.size → ¬ A a) : st_opp args s A fm 10 :=
  st_opof (st_ex (hs _ (List.mem_of_getElem? (i := 119) rfl))) (hs _ (List.mem_of_getElem? (i := 119) rfl)) (hts0 _ (jx_t12 (List.mem_of_getElem? (i := 188) rfl))) (hts0 _ (jx_t1 (List.mem_of_getElem? (i := 9) rfl))) (va_eqt (hs _ (List.mem_of_getElem? (i := 122) rfl))) (va_eqt (hs _ (List.mem_of_getElem? (i := 120) rfl))) (va_eqv (hs _ (List.mem_of_getElem? (i := 121) rfl)) (st_e61 hs)) hA
set_option maxRecDepth 40000 in
theorem st_o11 (hs : ∀ w ∈ flatC (Jvm.Cond.and given_1 narrow_1), w.before args s = true) (hts0 : ∀ w ∈ tables_1, w.before args s = true) (hA : ∀ a : Nat, a < s.heap.size → ¬ A a) : st_opp args s A fm 11 :=
  st_opof (st_ex (hs _ (List.mem_of_getElem? (i := 123) rfl))) (hs _ (List.mem_of_getElem? (i := 123) rfl)) (hts0 _ (jx_t12 (List.mem_of_getElem? (i := 189) rfl))) (hts0 _ (jx_t1 (List.mem_of_getElem? (i := 9) rfl))) (va_eqt (hs _ (List.mem_of_getElem? (i := 126) rfl))) (va_eqt (hs _ (List.mem_of_getElem? (i := 124) rfl))) (va_eqv (hs _ (List.mem_of_getElem? (i := 125) rfl)) (st_e62 hs)) hA
set_option maxRecDepth 40000 in
theorem st_o12 (hs : ∀ w ∈ flatC (Jvm.Cond.and given_1 narrow_1), w.before args s = true) (hts0 : ∀ w ∈ tables_1, w.before args s = true) (hA : ∀ a : Nat, a < s.heap.size → ¬ A a) : st_opp args s A fm 12 :=
  st_opof (st_ex (hs _ (List.mem_of_getElem? (i := 75) rfl))) (hs _ (List.mem_of_getElem? (i := 75) rfl)) (hts0 _ (jx_t6 (List.mem_of_getElem? (i := 224) rfl))) (hts0 _ (jx_t1 (List.mem_of_getElem? (i := 9) rfl))) (va_eqt (hs _ (List.mem_of_getElem? (i := 78) rfl))) (va_eqt (hs _ (List.mem_of_getElem? (i := 76) rfl))) (va_eqv (hs _ (List.mem_of_getElem? (i := 77) rfl)) (st_e50 hs)) hA
set_option maxRecDepth 40000 in
theorem st_o13 (hs : ∀ w ∈ flatC (Jvm.Cond.and given_1 narrow_1), w.before args s = true) (hts0 : ∀ w ∈ tables_1, w.before args s = true) (hA : ∀ a : Nat, a < s.heap.size → ¬ A a) : st_opp args s A fm 13 :=
  st_opof (st_ex (hs _ (List.mem_of_getElem? (i := 79) rfl))) (hs _ (List.mem_of_getElem? (i := 79) rfl)) (hts0 _ (jx_t6 (List.mem_of_getElem? (i := 226) rfl))) (hts0 _ (jx_t1 (List.mem_of_getElem? (i := 9) rfl))) (va_eqt (hs _ (List.mem_of_getElem? (i := 82) rfl))) (va_eqt (hs _ (List.mem_of_getElem? (i := 80) rfl))) (va_eqv (hs _ (List.mem_of_getElem? (i := 81) rfl)) (st_e51 hs)) hA
set_option maxRecDepth 40000 in
theorem st_o14 (hs : ∀ w ∈ flatC (Jvm.Cond.and given_1 narrow_1), w.before args s = true) (hts0 : ∀ w ∈ tables_1, w.before args s = true) (hA : ∀ a : Nat, a < s.heap.size → ¬ A a) : st_opp args s A fm 14 :=
  st_opof (st_ex (hs _ (List.mem_of_getElem? (i := 127) rfl))) (hs _ (List.mem_of_getElem? (i := 127) rfl)) (hts0 _ (jx_t12 (List.mem_of_getElem? (i := 190) rfl))) (hts0 _ (jx_t1 (List.mem_of_getElem? (i := 9) rfl))) (va_eqt (hs _ (List.mem_of_getElem? (i := 130) rfl))) (va_eqt (hs _ (List.mem_of_getElem? (i := 128) rfl))) (va_eqv (hs _ (List.mem_of_getElem? (i := 129) rfl)) (st_e63 hs)) hA
set_option maxRecDepth 40000 in
theorem st_o15 (hs : ∀ w ∈ flatC (Jvm.Cond.and given_1 narrow_1), w.before args s = true) (hts0 : ∀ w ∈ tables_1, w.before args s = true) (hA : ∀ a : Nat, a < s.heap.size → ¬ A a) : st_opp args s A fm 15 :=
  st_opof (st_ex (hs _ (List.mem_of_getElem? (i := 59) rfl))) (hs _ (List.mem_of_getElem? (i := 59) rfl)) (hts0 _ (jx_t6 (List.mem_of_getElem? (i := 57) rfl))) (hts0 _ (jx_t1 (List.mem_of_getElem? (i := 9) rfl))) (va_eqt (hs _ (List.mem_of_getElem? (i := 62) rfl))) (va_eqt (hs _ (List.mem_of_getElem? (i := 60) rfl))) (va_eqv (hs _ (List.mem_of_getElem? (i := 61) rfl)) (st_e46 hs)) hA
set_option maxRecDepth 40000 in
theorem st_o16 (hs : ∀ w ∈ flatC (Jvm.Cond.and given_1 narrow_1), w.before args s = true) (hts0 : ∀ w ∈ tables_1, w.before args s = true) (hA : ∀ a : Nat, a < s.heap.size → ¬ A a) : st_opp args s A fm 16 :=
  st_opof (st_ex (hs _ (List.mem_of_getElem? (i := 131) rfl))) (hs _ (List.mem_of_getElem? (i := 131) rfl)) (hts0 _ (jx_t12 (List.mem_of_getElem? (i := 191) rfl))) (hts0 _ (jx_t1 (List.mem_of_getElem? (i := 9) rfl))) (va_eqt (hs _ (List.mem_of_getElem? (i := 134) rfl))) (va_eqt (hs _ (List.mem_of_getElem? (i := 132) rfl))) (va_eqv (hs _ (List.mem_of_getElem? (i := 133) rfl)) (st_e64 hs)) hA
set_option maxRecDepth 40000 in
theorem st_o17 (hs : ∀ w ∈ flatC (Jvm.Cond.and given_1 narrow_1), w.before args s = true) (hts0 : ∀ w ∈ tables_1, w.before args s = true) (hA : ∀ a : Nat, a < s.heap.size → ¬ A a) : st_opp args s A fm 17 :=
  st_opof (st_ex (hs _ (List.mem_of_getElem? (i := 135) rfl))) (hs _ (List.mem_of_getElem? (i := 135) rfl)) (hts0 _ (jx_t12 (List.mem_of_getElem? (i := 192) rfl))) (hts0 _ (jx_t1 (List.mem_of_getElem? (i := 9) rfl))) (va_eqt (hs _ (List.mem_of_getElem? (i := 138) rfl))) (va_eqt (hs _ (List.mem_of_getElem? (i := 136) rfl))) (va_eqv (hs _ (List.mem_of_getElem? (i := 137) rfl)) (st_e65 hs)) hA
set_option maxRecDepth 40000 in
theorem st_o18 (hs : ∀ w ∈ flatC (Jvm.Cond.and given_1 narrow_1), w.before args s = true) (hts0 : ∀ w ∈ tables_1, w.before args s = true) (hA : ∀ a : Nat, a < s.heap.size → ¬ A a) : st_opp args s A fm 18 :=
  st_opof (st_ex (hs _ (List.mem_of_getElem? (i := 139) rfl))) (hs _ (List.mem_of_getElem? (i := 139) rfl)) (hts0 _ (jx_t12 (List.mem_of_getElem? (i := 193) rfl))) (hts0 _ (jx_t1 (List.mem_of_getElem? (i := 9) rfl))) (va_eqt (hs _ (List.mem_of_getElem? (i := 142) rfl))) (va_eqt (hs _ (List.mem_of_getElem? (i := 140) rfl))) (va_eqv (hs _ (List.mem_of_getElem? (i := 141) rfl)) (st_e66 hs)) hA
set_option maxRecDepth 40000 in
theorem st_o19 (hs : ∀ w ∈ flatC (Jvm.Cond.and given_1 narrow_1), w.before args s = true) (hts0 : ∀ w ∈ tables_1, w.before args s = true) (hA : ∀ a : Nat, a < s.heap.size → ¬ A a) : st_opp args s A fm 19 :=
  st_opof (st_ex (hs _ (List.mem_of_getElem? (i := 143) rfl))) (hs _ (List.mem_of_getElem? (i := 143) rfl)) (hts0 _ (jx_t12 (List.mem_of_getElem? (i := 194) rfl))) (hts0 _ (jx_t1 (List.mem_of_getElem? (i := 9) rfl))) (va_eqt (hs _ (List.mem_of_getElem? (i := 146) rfl))) (va_eqt (hs _ (List.mem_of_getElem? (i := 144) rfl))) (va_eqv (hs _ (List.mem_of_getElem? (i := 145) rfl)) (st_e67 hs)) hA
set_option maxRecDepth 40000 in
theorem st_o20 (hs : ∀ w ∈ flatC (Jvm.Cond.and given_1 narrow_1), w.before args s = true) (hts0 : ∀ w ∈ tables_1, w.before args s = true) (hA : ∀ a : Nat, a < s.heap.size → ¬ A a) : st_opp args s A fm 20 :=
  st_opof (st_ex (hs _ (List.mem_of_getElem? (i := 147) rfl))) (hs _ (List.mem_of_getElem? (i := 147) rfl)) (hts0 _ (jx_t12 (List.mem_of_getElem? (i := 195) rfl))) (hts0 _ (jx_t1 (List.mem_of_getElem? (i := 9) rfl))) (va_eqt (hs _ (List.mem_of_getElem? (i := 150) rfl))) (va_eqt (hs _ (List.mem_of_getElem? (i := 148) rfl))) (va_eqv (hs _ (List.mem_of_getElem? (i := 149) rfl)) (st_e68 hs)) hA
set_option maxRecDepth 40000 in
theorem st_o21 (hs : ∀ w ∈ flatC (Jvm.Cond.and given_1 narrow_1), w.before args s = true) (hts0 : ∀ w ∈ tables_1, w.before args s = true) (hA : ∀ a : Nat, a < s.heap.size → ¬ A a) : st_opp args s A fm 21 :=
  st_opof (st_ex (hs _ (List.mem_of_getElem? (i := 107) rfl))) (hs _ (List.mem_of_getElem? (i := 107) rfl)) (hts0 _ (jx_t8 (List.mem_of_getElem? (i := 58) rfl))) (hts0 _ (jx_t1 (List.mem_of_getElem? (i := 9) rfl))) (va_eqt (hs _ (List.mem_of_getElem? (i := 110) rfl))) (va_eqt (hs _ (List.mem_of_getElem? (i := 108) rfl))) (va_eqv (hs _ (List.mem_of_getElem? (i := 109) rfl)) (st_e58 hs)) hA
set_option maxRecDepth 40000 in
theorem st_o22 (hs : ∀ w ∈ flatC (Jvm.Cond.and given_1 narrow_1), w.before args s = true) (hts0 : ∀ w ∈ tables_1, w.before args s = true) (hA : ∀ a : Nat, a < s.heap.size → ¬ A a) : st_opp args s A fm 22 :=
  st_opof (st_ex (hs _ (List.mem_of_getElem? (i := 67) rfl))) (hs _ (List.mem_of_getElem? (i := 67) rfl)) (hts0 _ (jx_t6 (List.mem_of_getElem? (i := 78) rfl))) (hts0 _ (jx_t1 (List.mem_of_getElem? (i := 9) rfl))) (va_eqt (hs _ (List.mem_of_getElem? (i := 70) rfl))) (va_eqt (hs _ (List.mem_of_getElem? (i := 68) rfl))) (va_eqv (hs _ (List.mem_of_getElem? (i := 69) rfl)) (st_e48 hs)) hA
set_option maxRecDepth 40000 in
theorem st_o23 (hs : ∀ w ∈ flatC (Jvm.Cond.and given_1 narrow_1), w.before args s = true) (hts0 : ∀ w ∈ tables_1, w.before args s = true) (hA : ∀ a : Nat, a < s.heap.size → ¬ A a) : st_opp args s A fm 23 :=
  st_opof (st_ex (hs _ (List.mem_of_getElem? (i := 47) rfl))) (hs _ (List.mem_of_getElem? (i := 47) rfl)) (hts0 _ (jx_t6 (List.mem_of_getElem? (i := 2) rfl))) (hts0 _ (jx_t1 (List.mem_of_getElem? (i := 9) rfl))) (va_eqt (hs _ (List.mem_of_getElem? (i := 50) rfl))) (va_eqt (hs _ (List.mem_of_getElem? (i := 48) rfl))) (va_eqv (hs _ (List.mem_of_getElem? (i := 49) rfl)) (st_e43 hs)) hA
set_option maxRecDepth 40000 in
theorem st_o24 (hs : ∀ w ∈ flatC (Jvm.Cond.and given_1 narrow_1), w.before args s = true) (hts0 : ∀ w ∈ tables_1, w.before args s = true) (hA : ∀ a : Nat, a < s.heap.size → ¬ A a) : st_opp args s A fm 24 :=
  st_opof (st_ex (hs _ (List.mem_of_getElem? (i := 51) rfl))) (hs _ (List.mem_of_getElem? (i := 51) rfl)) (hts0 _ (jx_t6 (List.mem_of_getElem? (i := 4) rfl))) (hts0 _ (jx_t1 (List.mem_of_getElem? (i := 9) rfl))) (va_eqt (hs _ (List.mem_of_getElem? (i := 54) rfl))) (va_eqt (hs _ (List.mem_of_getElem? (i := 52) rfl))) (va_eqv (hs _ (List.mem_of_getElem? (i := 53) rfl)) (st_e44 hs)) hA
set_option maxRecDepth 40000 in
theorem st_o25 (hs : ∀ w ∈ flatC (Jvm.Cond.and given_1 narrow_1), w.before args s = true) (hts0 : ∀ w ∈ tables_1, w.before args s = true) (hA : ∀ a : Nat, a < s.heap.size → ¬ A a) : st_opp args s A fm 25 :=
  st_opof (st_ex (hs _ (List.mem_of_getElem? (i := 63) rfl))) (hs _ (List.mem_of_getElem? (i := 63) rfl)) (hts0 _ (jx_t6 (List.mem_of_getElem? (i := 76) rfl))) (hts0 _ (jx_t1 (List.mem_of_getElem? (i := 9) rfl))) (va_eqt (hs _ (List.mem_of_getElem? (i := 66) rfl))) (va_eqt (hs _ (List.mem_of_getElem? (i := 64) rfl))) (va_eqv (hs _ (List.mem_of_getElem? (i := 65) rfl)) (st_e47 hs)) hA
set_option maxRecDepth 40000 in
theorem st_o26 (hs : ∀ w ∈ flatC (Jvm.Cond.and given_1 narrow_1), w.before args s = true) (hts0 : ∀ w ∈ tables_1, w.before args s = true) (hA : ∀ a : Nat, a < s.heap.size → ¬ A a) : st_opp args s A fm 26 :=
  st_opof (st_ex (hs _ (List.mem_of_getElem? (i := 71) rfl))) (hs _ (List.mem_of_getElem? (i := 71) rfl)) (hts0 _ (jx_t6 (List.mem_of_getElem? (i := 84) rfl))) (hts0 _ (jx_t1 (List.mem_of_getElem? (i := 9) rfl))) (va_eqt (hs _ (List.mem_of_getElem? (i := 74) rfl))) (va_eqt (hs _ (List.mem_of_getElem? (i := 72) rfl))) (va_eqv (hs _ (List.mem_of_getElem? (i := 73) rfl)) (st_e49 hs)) hA
set_option maxRecDepth 40000 in
theorem st_KO (hs : ∀ w ∈ flatC (Jvm.Cond.and given_1 narrow_1), w.before args s = true) (hts0 : ∀ w ∈ tables_1, w.before args s = true) (hA : ∀ a : Nat, a < s.heap.size → ¬ A a) : ∀ i : Nat, i < 27 → st_opp args s A fm i := fun i hi => match i, hi with
  | 0, _ => st_o0 hs hts0 hA
  | 1, _ => st_o1 hs hts0 hA
  | 2, _ => st_o2 hs hts0 hA
  | 3, _ => st_o3 hs hts0 hA
  | 4, _ => st_o4 hs hts0 hA
  | 5, _ => st_o5 hs hts0 hA
  | 6, _ => st_o6 hs hts0 hA
  | 7, _ => st_o7 hs hts0 hA
  | 8, _ => st_o8 hs hts0 hA
  | 9, _ => st_o9 hs hts0 hA
  | 10, _ => st_o10 hs hts0 hA
  | 11, _ => st_o11 hs hts0 hA
  | 12, _ => st_o12 hs hts0 hA
  | 13, _ => st_o13 hs hts0 hA
  | 14, _ => st_o14 hs hts0 hA
  | 15, _ => st_o15 hs hts0 hA
  | 16, _ => st_o16 hs hts0 hA
  | 17, _ => st_o17 hs hts0 hA
  | 18, _ => st_o18 hs hts0 hA
  | 19, _ => st_o19 hs hts0 hA
  | 20, _ => st_o20 hs hts0 hA
  | 21, _ => st_o21 hs hts0 hA
  | 22, _ => st_o22 hs hts0 hA
  | 23, _ => st_o23 hs hts0 hA
  | 24, _ => st_o24 hs hts0 hA
  | 25, _ => st_o25 hs hts0 hA
  | 26, _ => st_o26 hs hts0 hA
  | q + 27, h => absurd h (by omega)
end
