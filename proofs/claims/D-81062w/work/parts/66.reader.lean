/-! REFUSAL and READER: constructors, printed by refgen.py -/
def y_Refusal_init : MethodName := ⟨"LiveHouse$Refusal", "<init>", "()V"⟩
def M_Refusal_init : jx_M := ("LiveHouse$Refusal", prog_13_method_1_code, 1, 4, 150, 0, none, [])
def P_Refusal_init_0 : List (Nat × List Nat) := [(0, [42]), (1, [1]), (2, [1]), (3, [3]), (4, [3]), (5, [183, 0, 1]), (8, [177])]
theorem b_Refusal_init_0 {k q : Nat} {bs : List Nat} (h : P_Refusal_init_0[k]? = some (q, bs)) : jx_B (jx_cc M_Refusal_init) q bs := jx_chk_at 0 P_Refusal_init_0 (by decide +kernel) k q bs h
theorem ct_Refusal_init : jx_Ct y_Refusal_init M_Refusal_init 12 1 0 (fun L σ x vs => jx_std L σ ∧ ∃ r, x = jx_id r 12 ∧ (∀ q ∈ jx_b_Refusal r, q ∈ jx_cs L) ∧ vs = []) := by
  refine jx_ctr (by decide) rfl rfl ?_
  intro l L A σ x vs p e R s m args below meth c hC hRc hRs hx hpre hB hR6 hargs
  obtain ⟨hstd, r, rfl, hsub, rfl⟩ := hpre
  obtain rfl : σ = jx_s0 := hstd.2.2
  subst hargs
  obtain ⟨iS, V, hk6, hO⟩ := hR6 rfl
  have hS : va_S A s.heap s.heap [] := va_S.rf
  have hl := lv_entry ([.ref (jx_ad L (jx_id r 12) 0)]) (n := jx_nl M_Refusal_init) (Nat.le_of_ble_eq_true rfl)
  rw [lg_entry_eq]
  generalize (lg_sl ([.ref (jx_ad L (jx_id r 12) 0)]) ++ List.replicate (jx_nl M_Refusal_init - (lg_sl ([.ref (jx_ad L (jx_id r 12) 0)])).length) Slot.unset).toArray = ls at hl ⊢
  have h0 : ls[0]? = some (.val (.ref (jx_ad L (jx_id r 12) 0))) := hl.2.2 _ List.mem_cons_self
  have hA : A (jx_ad L (jx_id r 12) 0) := hC.2.2.2.2.2.2.1.2.1 (jx_id r 12, 0) hx (show (0 : Nat) ≠ jx_script by decide)
  refine lv_aload_n hC.1 hC.2.1 (dc_42 (b_Refusal_init_0 (k := 0) rfl)) rfl h0 ?_
  refine lv_null hC.1 hC.2.1 (dc_1 (b_Refusal_init_0 (k := 1) rfl)) ?_
  refine lv_null hC.1 hC.2.1 (dc_1 (b_Refusal_init_0 (k := 2) rfl)) ?_
  refine lv_iconst (v := 0) hC.1 hC.2.1 (dc_3 (b_Refusal_init_0 (k := 3) rfl)) rfl ?_
  refine lv_iconst (v := 0) hC.1 hC.2.1 (dc_3 (b_Refusal_init_0 (k := 4) rfl)) rfl ?_
  refine b_sup hC hS hl.1 ct_RuntimeException_init hA hk6 hO (jx_in_tb (jx_t1 (List.mem_of_getElem? (i := 87) rfl)) rfl) (jx_in_tb (jx_t1 (List.mem_of_getElem? (i := 5) rfl)) rfl) (jx_in_tb (jx_t1 (List.mem_of_getElem? (i := 85) rfl)) rfl) (jx_in_tb (jx_t1 (List.mem_of_getElem? (i := 86) rfl)) rfl) rfl ⟨by decide, by decide, by decide +kernel⟩ rfl (Nat.zero_le _) (dc_183 (b_Refusal_init_0 (k := 5) rfl) rfl) (fun H1 locs1 V1 z1 o1 hO1 e0 e1 hS => ?_)
  have hKn := hC.2.2.2.2.2.1.1.1 12 _ (jx_cls_at (by decide))
  have heq : ∀ j, j < 2 → iS j = (jx_D L).2 12 j := fun j hj => by
    obtain ⟨cf, kf, fi, f, hi, hs⟩ := hk6.1 j (by omega)
    obtain ⟨cf2, kf2, fi2, f2, hi2, hs2⟩ := hKn.1 j hj
    rcases (show j = 0 ∨ j = 1 by omega) with rfl | rfl
    all_goals
      have := hi.symm.trans hi2
      simp at this
      rw [← hs, ← hs2, this.2.2.2]
  have hV : ∀ j, j < 2 → V j = jx_df 12 j := fun j hj => by
    obtain ⟨cell, q1, -, -, q4⟩ := hO
    obtain ⟨cell2, w1, -, -, w4⟩ := hB.2.1
    cases q1.symm.trans w1
    have a1 := q4 j (by omega)
    rw [heq j hj] at a1
    exact Option.some.inj (a1.symm.trans (w4 j hj))
  have hend : jx_bd L jx_s0 (jx_id r 12) 12 1 [] (jx_df 12) s.heap H1 := by
    refine ⟨by rw [z1]; exact hB.1, ?_, fun y g _ h1 h2 => by omega, fun q hq => o1 q (Nat.ne_of_lt hq), fun _ _ h => by cases h⟩
    obtain ⟨cell, q1, q2, q3, q4⟩ := hO1
    refine ⟨cell, q1, q2, q3, fun j hj => ?_⟩
    have hj : j < 2 := hj
    rw [← heq j hj, q4 j (by omega), ← hV j hj]
    rcases (show j = 0 ∨ j = 1 by omega) with rfl | rfl
    · rw [e0]
    · rw [e1]
  exact W.vret hC.1 hC.2.1 hC.2.2.2.2.2.2.2.2.1 (fun t ht hW => by subst ht; exact ⟨⟨(), rfl, trivial, _, hend, fun j hj => match j, hj with | 0, _ => rfl | 1, _ => rfl | q + 2, h => absurd h (Nat.not_lt.mpr (Nat.le_add_left _ _))⟩, hS.F rfl⟩) hS.2.2 (dc_177 (b_Refusal_init_0 (k := 6) rfl)) (hlocks := hC.2.2.2.2.2.2.2.2.2.1)
def y_Reader_init : MethodName := ⟨"LiveHouse$Reader", "<init>", "()V"⟩
def M_Reader_init : jx_M := ("LiveHouse$Reader", prog_12_method_1_code, 1, 5, 170, 0, none, [])
def P_Reader_init_0 : List (Nat × List Nat) := [(0, [42]), (1, [183, 0, 3]), (4, [42]), (5, [17, 7, 208]), (8, [188, 8]), (10, [181, 0, 9]), (13, [42]), (14, [17, 3, 233]), (17, [188, 10]), (19, [181, 0, 15]), (22, [42]), (23, [17, 3, 233]), (26, [188, 10]), (28, [181, 0, 19]), (31, [42]), (32, [187, 0, 22]), (35, [89]), (36, [183, 0, 24]), (39, [181, 0, 25]), (42, [177])]
theorem b_Reader_init_0 {k q : Nat} {bs : List Nat} (h : P_Reader_init_0[k]? = some (q, bs)) : jx_B (jx_cc M_Reader_init) q bs := jx_chk_at 0 P_Reader_init_0 (by decide +kernel) k q bs h
theorem ct_Reader_init : jx_Ct y_Reader_init M_Reader_init 11 5 4010 (fun L σ x vs => jx_std L σ ∧ ∃ r, x = jx_id r 11 ∧ (∀ q ∈ jx_b_Reader r, q ∈ jx_cs L) ∧ vs = []) := by
  refine jx_ctr (by decide) rfl rfl ?_
  intro l L A σ x vs p e R s m args below meth c hC hRc hRs hx hpre hB hR6 hargs
  obtain ⟨hstd, r, rfl, hsub, rfl⟩ := hpre
  obtain rfl : σ = jx_s0 := hstd.2.2
  subst hargs
  have hS : va_S A s.heap s.heap [] := va_S.rf
  have hl := lv_entry ([.ref (jx_ad L (jx_id r 11) 0)]) (n := jx_nl M_Reader_init) (Nat.le_of_ble_eq_true rfl)
  rw [lg_entry_eq]
  generalize (lg_sl ([.ref (jx_ad L (jx_id r 11) 0)]) ++ List.replicate (jx_nl M_Reader_init - (lg_sl ([.ref (jx_ad L (jx_id r 11) 0)])).length) Slot.unset).toArray = ls at hl ⊢
  have hl : lv_has ls 1 [(0, .ref (jx_ad L (jx_id r 11) 0))] := hl
  have h0 : ls[0]? = some (.val (.ref (jx_ad L (jx_id r 11) 0))) := hl.2.2 _ List.mem_cons_self
  refine lv_aload_n hC.1 hC.2.1 (dc_42 (b_Reader_init_0 (k := 0) rfl)) rfl h0 ?_
  refine W.objInit hC.1 hC.2.1 hC.2.2.2.1 (hC.2.2.2.2.1 _ (jx_in_tb (jx_t1 (List.mem_of_getElem? (i := 42) rfl)) rfl)) (hC.2.2.2.2.1 _ ob_inst) (hC.2.2.2.2.1 _ ob_code) rfl (by rw [hC.2.2.1]; exact hl.1) rfl (dc_183 (b_Reader_init_0 (k := 1) rfl) rfl) (by rw [hC.2.2.2.2.2.2.2.1.1]; exact Nat.le_of_ble_eq_true rfl) (by rw [hC.2.2.2.2.2.2.2.1.2]; exact Nat.le_of_ble_eq_true rfl) ?_
  refine W.eq (g2 := F0 m 4 ls []) rfl ?_
  refine b_fa hC hstd hB hS hx h0 0 237 4 2000 (at' := .byte) (hsub _ (List.mem_append_left _ (List.mem_of_getElem? (i := 1) rfl))) rfl rfl ar_byte (jx_in_tb (jx_t1 (List.mem_of_getElem? (i := 117) rfl)) rfl) rfl (by rw [hRc]; exact Nat.le_of_ble_eq_true rfl) (by rw [hRs]; exact Nat.le_of_ble_eq_true rfl) (dc_42 (b_Reader_init_0 (k := 2) rfl)) (pu_si hC (dc_17 (b_Reader_init_0 (k := 3) rfl) rfl) rfl) (nw_8 (b_Reader_init_0 (k := 4) rfl)) (dc_181 (b_Reader_init_0 (k := 5) rfl) rfl) (fun H1 locs1 hB hS => ?_)
  refine b_fa hC hstd hB hS hx h0 5 242 1 1001 (at' := .int) (hsub _ (List.mem_append_left _ (List.mem_of_getElem? (i := 2) rfl))) rfl rfl ar_int (jx_in_tb (jx_t1 (List.mem_of_getElem? (i := 130) rfl)) rfl) rfl (by rw [hRc]; exact Nat.le_of_ble_eq_true rfl) (by rw [hRs]; exact Nat.le_of_ble_eq_true rfl) (dc_42 (b_Reader_init_0 (k := 6) rfl)) (pu_si hC (dc_17 (b_Reader_init_0 (k := 7) rfl) rfl) rfl) (nw_10 (b_Reader_init_0 (k := 8) rfl)) (dc_181 (b_Reader_init_0 (k := 9) rfl) rfl) (fun H1 locs1 hB hS => ?_)
  refine b_fa hC hstd hB hS hx h0 6 243 1 1001 (at' := .int) (hsub _ (List.mem_append_left _ (List.mem_of_getElem? (i := 3) rfl))) rfl rfl ar_int (jx_in_tb (jx_t1 (List.mem_of_getElem? (i := 132) rfl)) rfl) rfl (by rw [hRc]; exact Nat.le_of_ble_eq_true rfl) (by rw [hRs]; exact Nat.le_of_ble_eq_true rfl) (dc_42 (b_Reader_init_0 (k := 10) rfl)) (pu_si hC (dc_17 (b_Reader_init_0 (k := 11) rfl) rfl) rfl) (nw_10 (b_Reader_init_0 (k := 12) rfl)) (dc_181 (b_Reader_init_0 (k := 13) rfl) rfl) (fun H1 locs1 hB hS => ?_)
  refine lv_aload_n hC.1 hC.2.1 (dc_42 (b_Reader_init_0 (k := 14) rfl)) rfl h0 ?_
  refine b_made hC hstd hB hS hl.1 12 1 0 8 (r + 4) rfl [] ct_Refusal_init (hsub _ (List.mem_append_right _ (List.mem_of_getElem? (i := 0) rfl))) ⟨hstd, r + 4, rfl, fun q hq => hsub q (List.mem_append_right _ hq), rfl⟩ (jx_in_tb (jx_t1 (List.mem_of_getElem? (i := 43) rfl)) rfl) (jx_in_tb (jx_t1 (List.mem_of_getElem? (i := 44) rfl)) rfl) (jx_in_tb (jx_t1 (List.mem_of_getElem? (i := 84) rfl)) rfl) (jx_in_tb (jx_t1 (List.mem_of_getElem? (i := 6) rfl)) rfl) rfl (Or.inl (jx_in_tb (jx_t1 (List.mem_of_getElem? (i := 82) rfl)) rfl)) (jx_in_tb (jx_t1 (List.mem_of_getElem? (i := 83) rfl)) rfl) rfl ⟨by decide, by decide, (show (parseMethodDescriptor y_Refusal_init.desc).map (fun d => d.parameters.length) = some 0 by decide +kernel)⟩ rfl rfl (Nat.le_of_ble_eq_true rfl) (by rw [hRc]; exact Nat.le_of_ble_eq_true rfl) (by rw [hRs]; exact Nat.le_of_ble_eq_true rfl) (dc_187 (b_Reader_init_0 (k := 15) rfl) rfl) (dc_89 (b_Reader_init_0 (k := 16) rfl)) (fun _ _ _ _ _ _ k => k) (dc_183 (b_Reader_init_0 (k := 17) rfl) rfl) (fun H1 locs1 hB hS => ?_)
  refine b_put hC hB hS hx 7 244 (jx_in_tb (jx_t1 (List.mem_of_getElem? (i := 133) rfl)) rfl) rfl rfl (by decide) (by decide) ⟨rfl, rfl⟩ (dc_181 (b_Reader_init_0 (k := 18) rfl) rfl) (fun H1 locs1 hB hS => ?_)
  exact W.vret hC.1 hC.2.1 hC.2.2.2.2.2.2.2.2.1 (fun t ht hW => ⟨⟨(), rfl, trivial, _, by rw [ht]; exact hB, fun j hj => match j, hj with | 0, _ => rfl | 1, _ => rfl | 2, _ => rfl | 3, _ => rfl | 4, _ => rfl | 5, _ => rfl | 6, _ => rfl | 7, _ => (jx_fvc (g := 244) (o := 4) (st := 0) (k2 := 12) (k := 11) (by decide) rfl (by decide) rfl (by decide)) | 8, _ => rfl | q + 9, h => absurd h (Nat.not_lt.mpr (Nat.le_add_left _ _))⟩, hS.F ht⟩) hS.2.2 (dc_177 (b_Reader_init_0 (k := 19) rfl)) (hlocks := hC.2.2.2.2.2.2.2.2.2.1)
