/-! THE CLAIM out of the pure law; printed by endgen.py out of end.txt (lw_walk and what follows began as the SKELETON's rows) -/
def LAWP : Prop := ∀ (n : Nat) (xs : Nat → Int32), n ≤ 24576 → ∃ e1 σ1 e2 σ2, f_Model_init [jx_id 11088 0, 0] jx_s0 = some (.error (.ok 0), e1, σ1) ∧ f_Law_law [jx_ac 288 ((1000000 + n : Nat) : Int), jx_id 0 1, jx_id 11088 0, 0] (jx_ws σ1 (fun i => (xs i.toNat).toInt)) = some (.error (.ok 1), e2, σ2)
theorem st_arP {args : Array Value} {s : State} {ty : FieldType} (hp : ∀ C, ty ≠ .object C) (h : (Cond.arrayClass ty).before args s = true) : ∃ cA, ArrOfT s cA ty ∧ va_RA s cA ty := by
  obtain ⟨c, k, comp, h1, h2, h3⟩ := Cond.arrayClass_spec h
  refine ⟨c, fun n z => ⟨fun q e => (by cases e), k, h2, comp, h3⟩, ?_⟩
  unfold va_RA
  split
  · exact absurd rfl (hp _)
  · exact h1
theorem st_arO {args : Array Value} {s : State} {C : String} (h : (Cond.arrayOver (.object C)).before args s = true) : ∃ cA, ArrOfT s cA (.object C) ∧ va_RA s cA (.object C) := by
  obtain ⟨comp, c, k, h1, h2, h3, h4, h5⟩ := Cond.arrayOver_spec h
  exact ⟨c, fun n z => ⟨fun q e => (by cases e), k, h3, comp, h4⟩, k, comp, h3, h4, h1, h5⟩
theorem st_all {args : Array Value} {s : State} {t : Term} {a : Nat} {cell : Cell} (ht : ∀ idx, t.eval args s none idx s = some (.ref a)) (hc : s.arrayAt? a = some cell) (h : (Cond.all t (.le (.index 0) (.int 26))).before args s = true) : cell.slots.size ≤ 27 := by
  have h2 : (Cond.all t (.le (.index 0) (.int 26))).value args s none s [] = some true := by
    simpa [Cond.before, Cond.holds] using h
  have key := Cond.all_elim (ht []) hc h2
  by_cases hsz : cell.slots.size ≤ 27
  · exact hsz
  · have := key 27 (by omega)
    simp [Cond.value, Term.eval] at this
    exact absurd this (by decide)
section
variable {s : State} {b n : Nat} {xs : Nat → Int32}
set_option maxRecDepth 40000 in
theorem st_start (hX : va_X b n xs s s.heap) (hbs : b < s.heap.size) (hts0 : ∀ w ∈ lw_tbl, w.before #[Value.ref b] s = true) (hgv : (Jvm.Cond.and given_1 narrow_1).before #[Value.ref b] s = true) :
    ∃ (D : va_G) (dA : Nat → ClassId) (st op : Int → Nat), jx_K (jx_L1 s.heap.size b D dA st op 0 0) (fun q => s.heap.size ≤ q) s ∧ jx_SX (jx_L1 s.heap.size b D dA st op 0 0) (fun q => s.heap.size ≤ q) s ∧ (∀ i j : Int, 1 ≤ i → i ≤ 27 → 1 ≤ j → j ≤ 27 → op i = op j → i = j) ∧ ∀ cell, s.heap[b]? = some cell → cell.cls = dA 288 := by
  have hts : ∀ w ∈ jx_tb, w.before #[Value.ref b] s = true := fun w hw => hts0 w (List.mem_filter.mp hw).1
  have htb1 : ∀ w ∈ tables_1, w.before #[Value.ref b] s = true := fun w hw => hts0 w (List.mem_append.mpr (Or.inr hw))
  have hs := flat_of_before _ hgv
  have hA : ∀ a : Nat, a < s.heap.size → ¬ (s.heap.size ≤ a) := fun a h => by omega
  have hD : ∀ k, ∃ (cC : ClassId) (iS : Nat → Nat), k < 16 → u_Kn s (jx_cn k) (jx_T k) (jx_nf k) cC iS := by
    intro k
    by_cases hk : k < 16
    · have : ∃ (cC : ClassId) (iS : Nat → Nat), u_Kn s (jx_cn k) (jx_T k) (jx_nf k) cC iS := match k, hk with
        | 0, _ => u_known hts (jx_lay_ok (k := 0) (by decide)) (hts _ (jx_in_tb (jx_t8 (List.mem_of_getElem? (i := 193) rfl)) rfl))
        | 1, _ => u_known hts (jx_lay_ok (k := 1) (by decide)) (hts _ (jx_in_tb (jx_t1 (List.mem_of_getElem? (i := 30) rfl)) rfl))
        | 2, _ => u_known hts (jx_lay_ok (k := 2) (by decide)) (hts _ (jx_in_tb (jx_t2 (List.mem_of_getElem? (i := 88) rfl)) rfl))
        | 3, _ => u_known hts (jx_lay_ok (k := 3) (by decide)) (hts _ (jx_in_tb (jx_t1 (List.mem_of_getElem? (i := 158) rfl)) rfl))
        | 4, _ => u_known hts (jx_lay_ok (k := 4) (by decide)) (hts _ (jx_in_tb (jx_t2 (List.mem_of_getElem? (i := 102) rfl)) rfl))
        | 5, _ => u_known hts (jx_lay_ok (k := 5) (by decide)) (hts _ (jx_in_tb (jx_t3 (List.mem_of_getElem? (i := 60) rfl)) rfl))
        | 6, _ => u_known hts (jx_lay_ok (k := 6) (by decide)) (hts _ (jx_in_tb (jx_t1 (List.mem_of_getElem? (i := 231) rfl)) rfl))
        | 7, _ => u_known hts (jx_lay_ok (k := 7) (by decide)) (hts _ (jx_in_tb (jx_t1 (List.mem_of_getElem? (i := 177) rfl)) rfl))
        | 8, _ => u_known hts (jx_lay_ok (k := 8) (by decide)) (hts _ (jx_in_tb (jx_t2 (List.mem_of_getElem? (i := 95) rfl)) rfl))
        | 9, _ => u_known hts (jx_lay_ok (k := 9) (by decide)) (hts _ (jx_in_tb (jx_t2 (List.mem_of_getElem? (i := 44) rfl)) rfl))
        | 10, _ => u_known hts (jx_lay_ok (k := 10) (by decide)) (hts _ (jx_in_tb (jx_t3 (List.mem_of_getElem? (i := 184) rfl)) rfl))
        | 11, _ => u_known hts (jx_lay_ok (k := 11) (by decide)) (hts _ (jx_in_tb (jx_t1 (List.mem_of_getElem? (i := 38) rfl)) rfl))
        | 12, _ => u_known hts (jx_lay_ok (k := 12) (by decide)) (hts _ (jx_in_tb (jx_t1 (List.mem_of_getElem? (i := 44) rfl)) rfl))
        | 13, _ => u_known hts (jx_lay_ok (k := 13) (by decide)) (hts _ (jx_in_tb (jx_t3 (List.mem_of_getElem? (i := 54) rfl)) rfl))
        | 14, _ => u_known hts (jx_lay_ok (k := 14) (by decide)) (hts _ (jx_in_tb (jx_t1 (List.mem_of_getElem? (i := 225) rfl)) rfl))
        | 15, _ => u_known hts (jx_lay_ok (k := 15) (by decide)) (hts _ (jx_in_tb (jx_t4 (List.mem_of_getElem? (i := 132) rfl)) rfl))
        | q + 16, h => absurd h (by omega)
      obtain ⟨c, i, h⟩ := this
      exact ⟨c, i, fun _ => h⟩
    · exact ⟨default, fun _ => 0, fun h => absurd h hk⟩
  have hdA0 : ∀ t ∈ jx_atl, ∃ cA, ArrOfT s cA (jx_fty0 t) ∧ va_RA s cA (jx_fty0 t) := (List.forall_mem_cons.mpr ⟨st_arP (ty := .int) (fun _ => by simp) (hts _ (jx_in_tb (jx_t1 (List.mem_of_getElem? (i := 116) rfl)) rfl)), (List.forall_mem_cons.mpr ⟨st_arP (ty := .long) (fun _ => by simp) (hts _ (jx_in_tb (jx_t1 (List.mem_of_getElem? (i := 195) rfl)) rfl)), (List.forall_mem_cons.mpr ⟨st_arP (ty := .boolean) (fun _ => by simp) (hts _ (jx_in_tb (jx_t2 (List.mem_of_getElem? (i := 20) rfl)) rfl)), (List.forall_mem_cons.mpr ⟨st_arP (ty := .byte) (fun _ => by simp) (hts _ (jx_in_tb (jx_t1 (List.mem_of_getElem? (i := 115) rfl)) rfl)), (List.forall_mem_cons.mpr ⟨st_arO (C := "LiveHouse$Op") (htb1 _ (jx_t1 (List.mem_of_getElem? (i := 174) rfl))), (List.forall_mem_cons.mpr ⟨st_arO (C := "LiveHouse$Build") (htb1 _ (jx_t2 (List.mem_of_getElem? (i := 87) rfl))), (List.forall_mem_cons.mpr ⟨st_arO (C := "LiveHouse$Code") (htb1 _ (jx_t2 (List.mem_of_getElem? (i := 101) rfl))), (List.forall_mem_cons.mpr ⟨st_arO (C := "LiveHouse$Exp") (htb1 _ (jx_t3 (List.mem_of_getElem? (i := 86) rfl))), (List.forall_mem_cons.mpr ⟨st_arO (C := "LiveHouse$Method") (htb1 _ (jx_t2 (List.mem_of_getElem? (i := 94) rfl))), (List.forall_mem_cons.mpr ⟨st_arO (C := "LiveHouse$Program") (htb1 _ (jx_t3 (List.mem_of_getElem? (i := 181) rfl))), (List.forall_mem_cons.mpr ⟨st_arO (C := "LiveHouse$Rules") (htb1 _ (jx_t3 (List.mem_of_getElem? (i := 53) rfl))), (List.forall_mem_cons.mpr ⟨st_arO (C := "LiveHouse$Traffic") (htb1 _ (jx_t3 (List.mem_of_getElem? (i := 183) rfl))), (fun _ h => (List.not_mem_nil h).elim)⟩)⟩)⟩)⟩)⟩)⟩)⟩)⟩)⟩)⟩)⟩)⟩)
  have hdA : ∀ t, ∃ cA, t ∈ jx_atl → ArrOfT s cA (jx_fty0 t) ∧ va_RA s cA (jx_fty0 t) := by
    intro t
    by_cases ht : t ∈ jx_atl
    · obtain ⟨c, h⟩ := hdA0 t ht
      exact ⟨c, fun _ => h⟩
    · exact ⟨default, fun h => absurd h ht⟩
  obtain ⟨scr, x1, x2, x3, x4, x5⟩ := hX
  obtain ⟨D, hDD⟩ : ∃ D : va_G, ∀ k, k < 16 → u_Kn s (jx_cn k) (jx_T k) (jx_nf k) (D.1 k) (D.2 k) := ⟨(fun k => (hD k).choose, fun k => (hD k).choose_spec.choose), fun k hk => (hD k).choose_spec.choose_spec hk⟩
  obtain ⟨dA, hdd, hd288⟩ : ∃ dA : Nat → ClassId, (∀ t ∈ jx_atl, ArrOfT s (dA t) (jx_fty0 t) ∧ va_RA s (dA t) (jx_fty0 t)) ∧ dA 288 = scr.cls := by
    refine ⟨fun t => if t = 288 then scr.cls else (hdA t).choose, fun t ht => ?_, if_pos rfl⟩
    have hne : t ≠ 288 := by
      intro h
      subst h
      revert ht
      decide
    simp only [if_neg hne]
    exact (hdA t).choose_spec ht
  obtain ⟨fm, hfm⟩ : ∃ fm : Nat, va_Z "jdk/internal/util/Preconditions" "SIOOBE_FORMATTER" "Ljava/util/function/BiFunction;" (va_rf (if fm = 0 then none else some (fm - 1))) (fun q => s.heap.size ≤ q) s s.heap := by
    rcases va_Zqof (htb1 _ (jx_t5 (List.mem_of_getElem? (i := 131) rfl))) (hts _ (jx_in_tb (jx_t1 (List.mem_of_getElem? (i := 26) rfl)) rfl)) (hs _ (List.mem_of_getElem? (i := 39) rfl)) hA with h | ⟨t, h⟩
    · exact ⟨0, h⟩
    · exact ⟨t + 1, h⟩
  have hKO := st_KO (fm := fm) hs htb1 hA
  refine ⟨D, dA, st_st #[Value.ref b] s fm, st_op #[Value.ref b] s, ⟨⟨?_, ?_⟩, ?_, ?_, ⟨?_, ?_, ?_⟩, ?_, ?_⟩, ⟨?_, ?_, ?_, ?_⟩, ?_, ?_⟩
  · intro k q hq
    have hk : k < 16 := by
      have := (List.getElem?_eq_some_iff.mp hq).1
      simpa [jx_cls] using this
    have e : q = (jx_cn k, jx_T k, jx_nf k) := Option.some.inj (hq.symm.trans (jx_cls_at hk))
    subst e
    exact hDD k hk
  · intro k q hq
    unfold jx_ty at hq
    rw [List.getElem?_map] at hq
    obtain ⟨t, ht, rfl⟩ := Option.map_eq_some_iff.mp hq
    exact hdd t (List.mem_of_getElem? ht)
  · intro w hw
    obtain ⟨h1, h2⟩ := List.mem_filter.mp hw
    refine va_Nw.of ?_ (hts0 w h1)
    cases w <;> first | rfl | simp [jx_nest] at h2
  · exact st_KR (fm := fm) hs htb1
  · exact hKO
  · exact va_Zof (htb1 _ (jx_t5 (List.mem_of_getElem? (i := 115) rfl))) (hts _ (jx_in_tb (jx_t1 (List.mem_of_getElem? (i := 24) rfl)) rfl)) (va_eqi (hs _ (List.mem_of_getElem? (i := 38) rfl))) hA
  · show va_Z _ _ _ (va_rf (if st_st #[Value.ref b] s fm 100 = 0 then none else some (st_st #[Value.ref b] s fm 100 - 1))) _ s s.heap
    exact hfm
  · exact st_KS (fm := fm) hs hA
  · intro n z
    refine ⟨fun q e => (by cases e), ?_⟩
    show ∃ k, s.vm.classes[dA 288]? = some k ∧ _
    rw [hd288]
    exact x2.2
  · intro t ht
    have hl : ∀ k ∈ [2, 4, 6, 8, 10, 13, 15], va_AO (jx_cn k) s := (List.forall_mem_cons.mpr ⟨va_AO.of (htb1 _ (jx_t2 (List.mem_of_getElem? (i := 87) rfl))), (List.forall_mem_cons.mpr ⟨va_AO.of (htb1 _ (jx_t2 (List.mem_of_getElem? (i := 101) rfl))), (List.forall_mem_cons.mpr ⟨va_AO.of (htb1 _ (jx_t3 (List.mem_of_getElem? (i := 86) rfl))), (List.forall_mem_cons.mpr ⟨va_AO.of (htb1 _ (jx_t2 (List.mem_of_getElem? (i := 94) rfl))), (List.forall_mem_cons.mpr ⟨va_AO.of (htb1 _ (jx_t3 (List.mem_of_getElem? (i := 181) rfl))), (List.forall_mem_cons.mpr ⟨va_AO.of (htb1 _ (jx_t3 (List.mem_of_getElem? (i := 53) rfl))), (List.forall_mem_cons.mpr ⟨va_AO.of (htb1 _ (jx_t3 (List.mem_of_getElem? (i := 183) rfl))), (fun _ h => (List.not_mem_nil h).elim)⟩)⟩)⟩)⟩)⟩)⟩)⟩)
    exact hl t (by simpa [jx_oar] using ht)
  · rcases va_Zqof (htb1 _ (jx_t1 (List.mem_of_getElem? (i := 70) rfl))) (hts _ (jx_in_tb (jx_t1 (List.mem_of_getElem? (i := 3) rfl)) rfl)) (hs _ (List.mem_of_getElem? (i := 4) rfl)) hA with h | ⟨t, h⟩
    · exact ⟨none, h⟩
    · exact ⟨some t, h⟩
  · rcases va_Zqof (htb1 _ (jx_t1 (List.mem_of_getElem? (i := 72) rfl))) (hts _ (jx_in_tb (jx_t1 (List.mem_of_getElem? (i := 3) rfl)) rfl)) (hs _ (List.mem_of_getElem? (i := 5) rfl)) hA with h | ⟨t, h⟩
    · exact ⟨none, h⟩
    · exact ⟨some t, h⟩
  · obtain ⟨w, c, cell, k, hw, hfc, hcell, hkc, hsta, hcls, -⟩ := Cond.exactly_spec (hs _ (List.mem_of_getElem? (i := 7) rfl))
    have hel : ∀ j : Nat, j < 27 → (Term.elem (.static "LiveHouse$Op" "$VALUES" "[LLiveHouse$Op;") (.int (Int32.ofNat j))).eval #[Value.ref b] s none [] s = some (.ref (st_op #[Value.ref b] s ((j : Int) + 1))) := fun j hj => match j, hj with
    | 0, _ => va_eqv (hs _ (List.mem_of_getElem? (i := 11) rfl)) (st_ex (hs _ (List.mem_of_getElem? (i := 43) rfl)))
    | 1, _ => va_eqv (hs _ (List.mem_of_getElem? (i := 12) rfl)) (st_ex (hs _ (List.mem_of_getElem? (i := 91) rfl)))
    | 2, _ => va_eqv (hs _ (List.mem_of_getElem? (i := 13) rfl)) (st_ex (hs _ (List.mem_of_getElem? (i := 95) rfl)))
    | 3, _ => va_eqv (hs _ (List.mem_of_getElem? (i := 14) rfl)) (st_ex (hs _ (List.mem_of_getElem? (i := 111) rfl)))
    | 4, _ => va_eqv (hs _ (List.mem_of_getElem? (i := 15) rfl)) (st_ex (hs _ (List.mem_of_getElem? (i := 115) rfl)))
    | 5, _ => va_eqv (hs _ (List.mem_of_getElem? (i := 16) rfl)) (st_ex (hs _ (List.mem_of_getElem? (i := 99) rfl)))
    | 6, _ => va_eqv (hs _ (List.mem_of_getElem? (i := 17) rfl)) (st_ex (hs _ (List.mem_of_getElem? (i := 103) rfl)))
    | 7, _ => va_eqv (hs _ (List.mem_of_getElem? (i := 18) rfl)) (st_ex (hs _ (List.mem_of_getElem? (i := 87) rfl)))
    | 8, _ => va_eqv (hs _ (List.mem_of_getElem? (i := 19) rfl)) (st_ex (hs _ (List.mem_of_getElem? (i := 83) rfl)))
    | 9, _ => va_eqv (hs _ (List.mem_of_getElem? (i := 20) rfl)) (st_ex (hs _ (List.mem_of_getElem? (i := 55) rfl)))
    | 10, _ => va_eqv (hs _ (List.mem_of_getElem? (i := 21) rfl)) (st_ex (hs _ (List.mem_of_getElem? (i := 119) rfl)))
    | 11, _ => va_eqv (hs _ (List.mem_of_getElem? (i := 22) rfl)) (st_ex (hs _ (List.mem_of_getElem? (i := 123) rfl)))
    | 12, _ => va_eqv (hs _ (List.mem_of_getElem? (i := 23) rfl)) (st_ex (hs _ (List.mem_of_getElem? (i := 75) rfl)))
    | 13, _ => va_eqv (hs _ (List.mem_of_getElem? (i := 24) rfl)) (st_ex (hs _ (List.mem_of_getElem? (i := 79) rfl)))
    | 14, _ => va_eqv (hs _ (List.mem_of_getElem? (i := 25) rfl)) (st_ex (hs _ (List.mem_of_getElem? (i := 127) rfl)))
    | 15, _ => va_eqv (hs _ (List.mem_of_getElem? (i := 26) rfl)) (st_ex (hs _ (List.mem_of_getElem? (i := 59) rfl)))
    | 16, _ => va_eqv (hs _ (List.mem_of_getElem? (i := 27) rfl)) (st_ex (hs _ (List.mem_of_getElem? (i := 131) rfl)))
    | 17, _ => va_eqv (hs _ (List.mem_of_getElem? (i := 28) rfl)) (st_ex (hs _ (List.mem_of_getElem? (i := 135) rfl)))
    | 18, _ => va_eqv (hs _ (List.mem_of_getElem? (i := 29) rfl)) (st_ex (hs _ (List.mem_of_getElem? (i := 139) rfl)))
    | 19, _ => va_eqv (hs _ (List.mem_of_getElem? (i := 30) rfl)) (st_ex (hs _ (List.mem_of_getElem? (i := 143) rfl)))
    | 20, _ => va_eqv (hs _ (List.mem_of_getElem? (i := 31) rfl)) (st_ex (hs _ (List.mem_of_getElem? (i := 147) rfl)))
    | 21, _ => va_eqv (hs _ (List.mem_of_getElem? (i := 32) rfl)) (st_ex (hs _ (List.mem_of_getElem? (i := 107) rfl)))
    | 22, _ => va_eqv (hs _ (List.mem_of_getElem? (i := 33) rfl)) (st_ex (hs _ (List.mem_of_getElem? (i := 67) rfl)))
    | 23, _ => va_eqv (hs _ (List.mem_of_getElem? (i := 34) rfl)) (st_ex (hs _ (List.mem_of_getElem? (i := 47) rfl)))
    | 24, _ => va_eqv (hs _ (List.mem_of_getElem? (i := 35) rfl)) (st_ex (hs _ (List.mem_of_getElem? (i := 51) rfl)))
    | 25, _ => va_eqv (hs _ (List.mem_of_getElem? (i := 36) rfl)) (st_ex (hs _ (List.mem_of_getElem? (i := 63) rfl)))
    | 26, _ => va_eqv (hs _ (List.mem_of_getElem? (i := 37) rfl)) (st_ex (hs _ (List.mem_of_getElem? (i := 71) rfl)))
    | q + 27, h => absurd h (by omega)
    obtain ⟨w2, hw2, cell2, hc2, hof, hunk, hle, hsz, hsl, hnA⟩ := va_Tof (N := (27 : Nat)) (by decide) (hs _ (List.mem_of_getElem? (i := 8) rfl)) (va_eqt (hs _ (List.mem_of_getElem? (i := 9) rfl))) hel hA
    have hle : 27 ≤ cell2.slots.size := hle
    have hsl : ∀ j : Nat, j < 27 → cell2.slots[j]? = some (Value.ref (st_op #[Value.ref b] s ((j : Int) + 1))) := hsl
    cases hw.symm.trans hw2
    cases hcell.symm.trans hc2
    have harr : s.arrayAt? w = some cell := by
      obtain ⟨t9, cell9, ht9, hat9, -⟩ := Term.length_spec (va_eqt (hs _ (List.mem_of_getElem? (i := 9) rfl)))
      cases hw.symm.trans ht9
      obtain ⟨q1, -⟩ := State.arrayAt?_spec hat9
      cases hcell.symm.trans q1
      exact hat9
    have h27 : cell.slots.size ≤ 27 := st_all (fun idx => by
      have : ∀ i, (Term.static "LiveHouse$Op" "$VALUES" "[LLiveHouse$Op;").eval #[Value.ref b] s none i s = (Term.static "LiveHouse$Op" "$VALUES" "[LLiveHouse$Op;").eval #[Value.ref b] s none [] s := fun i => rfl
      rw [this]
      exact hw) harr (hs _ (List.mem_of_getElem? (i := 10) rfl))
    refine ⟨w, va_Zof (htb1 _ (jx_t1 (List.mem_of_getElem? (i := 167) rfl))) (hts _ (jx_in_tb (jx_t1 (List.mem_of_getElem? (i := 9) rfl)) rfl)) hw hA, hnA, ⟨cell, hcell, ?_, ?_, hof.1, hunk⟩, va_Nw.of rfl (htb1 _ (jx_t1 (List.mem_of_getElem? (i := 173) rfl))), s.heap.size, fun q => Iff.rfl⟩
    · obtain ⟨-, kA, comp, -, -, -, k4⟩ := (⟨trivial, (hdd 6 (by decide)).2⟩ : True ∧ va_RA s (dA 6) (.object "LiveHouse$Op"))
      have e9 : "[" ++ (FieldType.object "LiveHouse$Op").toString = "[LLiveHouse$Op;" := by decide +kernel
      rw [e9] at k4
      rw [hcls]
      exact Option.some.inj (hfc.symm.trans k4)
    · have hsz27 : cell.slots.size = 27 := by omega
      refine Array.ext ?_ (fun i h1 h2 => ?_)
      · rw [arrV_size]; exact hsz27
      · have q1 := hsl i (by omega)
        have q2 := arrV_read (dA 6) (N := 27) (fun j => Value.ref (st_op #[Value.ref b] s ((j : Int) + 1))) (j := i) (by omega)
        rw [Array.getElem?_eq_getElem h1] at q1
        have q3 : (arrV (dA 6) 27 (fun j => Value.ref (st_op #[Value.ref b] s ((j : Int) + 1)))).slots[i]? = some ((arrV (dA 6) 27 (fun j => Value.ref (st_op #[Value.ref b] s ((j : Int) + 1)))).slots[i]) := Array.getElem?_eq_getElem h2
        exact Option.some.inj (q1.trans (q2.symm.trans q3))
  · intro i j i0 i1 j0 j1 hij
    obtain ⟨i', rfl⟩ : ∃ i' : Nat, i = (i' : Int) + 1 := ⟨(i - 1).toNat, by omega⟩
    obtain ⟨j', rfl⟩ : ∃ j' : Nat, j = (j' : Int) + 1 := ⟨(j - 1).toNat, by omega⟩
    obtain ⟨-, -, -, ⟨cf, k, q, f, cell, a1, a2, a3, a4, a5, a6⟩, -⟩ := hKO i' (by omega)
    obtain ⟨-, -, -, ⟨cf2, k2, q2, f2, cell2, b1, b2, b3, b4, b5, b6⟩, -⟩ := hKO j' (by omega)
    cases a1.symm.trans b1
    rw [hij] at a3
    cases a3.symm.trans b3
    have h9 := Value.int.inj (Option.some.inj (a5.symm.trans b5))
    have e : ∀ z : Nat, z < 27 → (Int32.ofNat z).toInt = (z : Int) := by decide +kernel
    have h10 := e i' (by omega)
    have h11 := e j' (by omega)
    rw [h9] at h10
    omega
  · intro cell hc
    cases x1.symm.trans hc
    exact hd288.symm
end
def lw_At (p : Program) (s : State) (m : MethodId) (meth : Method) (c : Code) (b L : Nat) (xs : Nat → Int32) : Prop :=
  p.tables.exec = Jvm.exec ∧ c.code = code ∧ meth.sig.returnType = ret ∧ c.maxLocals = 4 ∧ s.vm.findClass R_law = some m.cls ∧ (∀ w ∈ lw_tbl, w.before #[Value.ref b] s = true) ∧ va_X b L xs s s.heap ∧ b < s.heap.size ∧ meth.locks = false ∧ (Jvm.Cond.and given_1 narrow_1).before #[Value.ref b] s = true ∧ c.exceptionTable.toList.map (fun h => (h.startPc, h.endPc, h.handlerPc, h.catchType)) = []
theorem whole_start (HP : LAWP) {p : Program} {e : Env} {s : State} {m : MethodId} {below : List Frame} {meth : Method} {c : Code} (l : Launch) {b L : Nat} {xs : Nat → Int32} (hL : L ≤ 24576) (C0 : lw_At p s m meth c b L xs) : W p l e room_1 s m #[Value.ref b] below meth c s.heap [] 0 0 (lw_Z below #[Value.ref b] s) (entryFrame m ([Value.ref b] : List Value).toArray 4) := by
  obtain ⟨h1, h2, h3, h4, h5, h6, h7, h8, h9, h10, h11⟩ := C0
  obtain ⟨D, dA, st, op, hK, hSX, hop, hcl⟩ := st_start h7 h8 h6 h10
  obtain ⟨e1, σ1, e2, σ2, r1, r2⟩ := HP L xs hL
  exact law_whole hL h1 h2 h3 h4 h5 (fun w hw => h6 w (List.mem_filter.mp hw).1) h7 h8 h9 h11 hK hSX hop hcl r1 r2
set_option maxHeartbeats 4000000 in
theorem lw_walk (HP : LAWP) (l : Launch) (b : Addr) (xs : List Int32) : MetFree l x (headSpec (Jvm.Cond.code x code maxLocals ret :: tables_1) room_1) (lw_P b xs) (fun _ _ _ _ _ => True) lw_Q := by
  refine MetFree.of_bodyS (code := code) (maxLocals := maxLocals) (ret := ret) (by decide) ?_ ?_
  · intro args s m h hn
    obtain ⟨meth, c, h1, h2, h3, h4, h5, h6, -, -⟩ := Cond.code_spec hn (atoms_spec (ws := Jvm.Cond.code x code maxLocals ret :: tables_1) h _ List.mem_cons_self)
    exact ⟨meth, c, h1, h2, h3, h4, h5, h6⟩
  · intro p e s m args below meth c s₁ B hml0 hP _
    obtain ⟨rfl, hx, hbd, hgv⟩ := hP
    obtain ⟨scr, harrAt, hlist, hof, hsmall⟩ := hx
    obtain ⟨hcb, hkn, -, -⟩ := State.arrayAt?_spec harrAt
    have hown : s.vm.findClass R_law = some m.cls := findClass_of_methodNamed B.named
    have hts0 : ∀ c ∈ (Jvm.Cond.code x code maxLocals ret :: tables_1), c.before #[Value.ref b] s = true := atoms_spec (ws := Jvm.Cond.code x code maxLocals ret :: tables_1) B.pre
    have hts : ∀ w ∈ lw_tbl, w.before #[Value.ref b] s = true := k2_hts_sels lw_privs (fun w hw => hts0 w (List.mem_cons_of_mem _ hw)) lw_privs_ok
    have hml : c.maxLocals = 4 := B.maxLocals_eq (hts0 _ List.mem_cons_self)
    have X₀ : Stand p l e room_1 s m #[Value.ref b] below meth c s₁ [] 0 0 := Stand.of_body B
    have hh0 : s₁.heap = s.heap := by rw [B.state]; rfl
    have hsz : scr.slots.size = xs.length := by rw [← Array.length_toList, hlist, List.length_map]
    have hval : ∀ j : Nat, j < xs.length → scr.slots[j]? = some (.int (xs.getD j 0)) := fun j hj => by
      rw [← Array.getElem?_toList, hlist]
      simp [hj]
    have hbl : b < s.heap.size := (Array.getElem?_eq_some_iff.mp hcb).1
    have hX : va_X b xs.length (fun j => xs.getD j 0) s s.heap := ⟨scr, hcb, hof, hkn, hsz, hval⟩
    obtain ⟨meth9, c9, g1, g2, g3, g4, g5, g6, g7, -⟩ := jx_wd_spec (M := M_Law_law) B.named (hts0 _ List.mem_cons_self)
    cases B.method.symm.trans g1
    cases (Stand.of_body B).code.symm.trans g2
    have K : W p l e room_1 s m #[Value.ref b] below meth c s₁.heap [] 0 0 (lw_Z below #[Value.ref b] s) (entryFrame m ([Value.ref b] : List Value).toArray 4) := by
      rw [hh0]
      exact whole_start HP l hbd ⟨B.exec, B.bytes, B.returns, hml, hown, hts, hX, hbl, B.notSynchronized, hgv, g7⟩
    obtain ⟨t, a1, o, b1, b2, b3⟩ := K s₁ rfl X₀
    exact ⟨t, o, a1, b1, b2, b3⟩
set_option maxRecDepth 40000 in
theorem lw_pre_spec {args : Array Value} {s : State} (h : (Jvm.Cond.and given_1 narrow_1).before args s = true) (hr : rest_1_c.before args s = true) : ∃ (b : Addr) (xs : List Int32), lw_P b xs args s := by
  have hs := flat_of_before _ h
  have hq := flat_of_before _ hr
  have hc : (Cond.count 1).before args s = true := hs _ (List.mem_of_getElem? (i := 0) rfl)
  have harr : (Cond.arrayOf (.arg 0) .int).before args s = true := hs _ (List.mem_of_getElem? (i := 2) rfl)
  have hle : (Cond.le (.length (.arg 0)) (.int 24576)).before args s = true := hs _ (List.mem_of_getElem? (i := 3) rfl)
  have hlen : (Cond.isInt (.length (.arg 0))).before args s = true := hq _ (List.mem_of_getElem? (i := 0) rfl)
  have hall : (Cond.all (.arg 0) (.isInt (.elem (.arg 0) (.index 0)))).before args s = true := hq _ (List.mem_of_getElem? (i := 1) rfl)
  obtain ⟨b, xs, hb, hx⟩ := State.ints_of_pre rfl harr hlen hall
  have hsm : xs.length < 2 ^ 31 := hx.choose_spec.2.2.2
  have hev : (Term.length (.arg 0)).eval args s none [] s = some (.int xs.length.toInt32) := hx.length_eval hb
  have hv := Cond.le_ints hev (show (Term.int 24576).eval args s none [] s = some (.int 24576) from rfl)
  have hd : xs.length.toInt32 ≤ 24576 := by
    simpa [Cond.before, Cond.holds, hv] using hle
  have hN : xs.length ≤ 24576 := (Int32.ofNat_le_ofNat hsm (by decide)).mp (show Int32.ofNat xs.length ≤ Int32.ofNat 24576 from hd)
  exact ⟨b, xs, Cond.one_arg hc (show args[0]? = some (.ref b) from hb), hx, hN, h⟩
theorem lw_comes (HP : LAWP) (l : Launch) : Comes l x (Jvm.Cond.code x code maxLocals ret :: tables_1) room_1 (fun tb e args s => Calls_1 tb e args s ∧ rest_1 tb e args s ∧ Pre_1 tb e args s)
    (fun _ _ args s o t => lw_Q args s o t) := by
  intro p e ha hc hk s m args below hf hfit hheap happ hpre
  obtain ⟨b, xs, hP⟩ := lw_pre_spec hpre.2.2 hpre.2.1
  obtain ⟨k, o, h1, h2, h3, hQ⟩ := lw_walk HP l b xs p e ha hc hk s m args below hf ((Spec.applies_iff_loose hf).mp happ).1 hP trivial
  exact ⟨k, o, h1, h2, h3, hQ⟩
theorem lw_frame {s t : State} {o : Outcome} {args : Array Value} (h : Framed s o t [] 608192 7228522) :
    Framed s o t (fieldLocs frame_1_writes args s ++ arrayLocs frame_1_arrays args s ++ staticLocs frame_1_statics s) 608192 7228522 := h
theorem lw_limb (HP : LAWP) (L : Cond) (hL : ∀ (args : Array Value) (s t : State), L.after args s (.returned (some (.int 1))) t = true) :
    ArmFor flags0 classFile x code maxLocals ret World_1 tables_1 room_1 Calls_1 rest_1 Pre_1
      (fun tb e a s o t => postC L tb e a s o t ∧ Framed s o t (fieldLocs frame_1_writes a s ++ arrayLocs frame_1_arrays a s ++ staticLocs frame_1_statics s) 608192 7228522) := by
  intro l _ _ _ p e ha hc hk s m args below hf hfit hheap happ hpre
  obtain ⟨k, o, h1, h2, h3, rfl, hF⟩ := lw_comes HP l p e ha hc hk s m args below hf hfit hheap happ hpre
  exact ⟨k, _, h1, h2, h3, hL args s _, lw_frame hF⟩
theorem i_of (HP : LAWP) : Claimed_1_1 ∧ Claimed_1_2 := ⟨lw_limb HP limb_1_1 (fun args s t => by simp [limb_1_1, Cond.after, Cond.holds, Cond.value]), lw_limb HP limb_1_2 (fun args s t => Cond.after_iff.mpr (by
  first | (rw [show limb_1_2 = Cond.eq .result (.int 1) from rfl, Cond.eq_ints (x := 1) (y := 1) rfl rfl]; simp; done) | (simp [limb_1_2, Cond.value, Term.eval]; done)))⟩
