/-! SPECIAL: roads that are never gone, constants of Op and String, arraycopy -/
def jx_stuck {α : Type} : jx_X α := fun _ _ => none
theorem x_stuckE {M : jx_M} {n : Nat} {G : List Nat} {t pc pc2 : Nat} : jx_XE M n G t pc pc2 jx_stuck := by
  intro L A p l e R s m args below meth c F hC env σ H locs ls st hI hn o env2 σ2 hf k
  cases hf
theorem x_stuckC {M : jx_M} {n : Nat} {G : List Nat} {pc pt pf : Nat} : jx_XC M n G pc pt pf jx_stuck := by
  intro L A p l e R s m args below meth c F hC env σ H locs ls st hI hn o env2 σ2 hf k
  cases hf
theorem x_stuck {M : jx_M} {G G2 : List Nat} {pc pc2 : Nat} : jx_XS M G G2 pc pc2 jx_stuck := by
  intro L A p l e R s m args below meth c F hC env σ H locs ls hI o env2 σ2 hf k
  cases hf
/-- Op.NAME, the i-th -/
theorem x_op {M : jx_M} {n : Nat} {G : List Nat} {pc idx : Nat} (i : Nat) (hi : i < 27) (d : decode (jx_cc M) pc = .ok (.getstatic idx, 3)) (hl : Cond.fieldLink (jx_own M) idx "LiveHouse$Op" (jx_opn.getD i "") "LLiveHouse$Op;" ∈ jx_tb) : jx_XE M n G 6 pc (pc + 3) (jx_c ((i : Int) + 1)) := by
  intro L A p l e R s m args below meth c F hC env σ H locs ls st hI hn o env2 σ2 hf k
  cases hf
  have hv : jx_v L 6 ((i : Int) + 1) = .ref (jx_op L ((i : Int) + 1)) := by
    rw [jx_vr (by decide)]
    unfold jx_r
    rw [if_neg (by omega)]
    rfl
  have h := k (show 0 ≤ (i : Int) + 1 ∧ (i : Int) + 1 ≤ 27 by omega) H locs ls hI
  rw [hv] at h
  exact va_gets hC.1 hC.2.1 (hC.2.2.2.2.2.1.2.2.2.1.1 i hi).1 hI.2.2.1 hC.2.2.2.1 (hC.2.2.2.2.1 _ hl) (fun _ h9 => h9) d h
theorem x_cs {M : jx_M} {n : Nat} {G : List Nat} {pc idx : Nat} (d : decode (jx_cc M) pc = .ok (.getstatic idx, 3)) (hl : Cond.fieldLink (jx_own M) idx "java/lang/String" "COMPACT_STRINGS" "Z" ∈ jx_tb) : jx_XE M n G 3 pc (pc + 3) (jx_c 1) := by
  intro L A p l e R s m args below meth c F hC env σ H locs ls st hI hn o env2 σ2 hf k
  cases hf
  exact va_gets hC.1 hC.2.1 hC.2.2.2.2.2.1.2.2.2.1.2.1 hI.2.2.1 hC.2.2.2.1 (hC.2.2.2.2.1 _ hl) (fun _ h9 => h9) d (k (Or.inr rfl) H locs ls hI)
theorem x_sio {M : jx_M} {n : Nat} {G : List Nat} {pc idx : Nat} (d : decode (jx_cc M) pc = .ok (.getstatic idx, 3)) (hl : Cond.fieldLink (jx_own M) idx "jdk/internal/util/Preconditions" "SIOOBE_FORMATTER" "Ljava/util/function/BiFunction;" ∈ jx_tb) : jx_XE M n G 8 pc (pc + 3) (jx_c 1) := by
  intro L A p l e R s m args below meth c F hC env σ H locs ls st hI hn o env2 σ2 hf k
  cases hf
  exact va_gets hC.1 hC.2.1 hC.2.2.2.2.2.1.2.2.2.1.2.2 hI.2.2.1 hC.2.2.2.1 (hC.2.2.2.2.1 _ hl) (fun _ h9 => h9) d (k (show (1 : Int) = 1 from rfl) H locs ls hI)
/-- a String constant -/
theorem jx_str {M : jx_M} {L : jx_L} {A : Nat → Prop} {s : State} (hK : jx_K L A s) {idx : Nat} {tx : String} {v : Int} (hm : (jx_own M, idx, tx, v) ∈ jx_strs) : vk_R (jx_own M) idx tx (jx_st L v) s := hK.2.2.1 _ hm
theorem jx_vstr {L : jx_L} {v : Int} (h : 1 ≤ v) : jx_v L 5 v = .ref (jx_st L v) := by
  rw [jx_vr (by decide)]
  unfold jx_r
  rw [if_neg (by omega)]
  rfl
theorem x_str {M : jx_M} {n : Nat} {G : List Nat} {pc idx : Nat} {tx : String} (v : Int) (d : decode (jx_cc M) pc = .ok (.ldc idx, 2)) (hm : (jx_own M, idx, tx, v) ∈ jx_strs) (hv : 1 ≤ v ∧ v ≤ 41) : jx_XE M n G 5 pc (pc + 2) (jx_c v) := by
  intro L A p l e R s m args below meth c F hC env σ H locs ls st hI hn o env2 σ2 hf k
  cases hf
  have h := k (show 0 ≤ v ∧ v ≤ 41 by omega) H locs ls hI
  rw [jx_vstr hv.1] at h
  exact va_ldcS hC.1 hC.2.1 hC.2.2.2.1 (jx_str hC.2.2.2.2.2.1 hm) d h
theorem x_strw {M : jx_M} {n : Nat} {G : List Nat} {pc idx : Nat} {tx : String} (v : Int) (d : decode (jx_cc M) pc = .ok (.ldc_w idx, 3)) (hm : (jx_own M, idx, tx, v) ∈ jx_strs) (hv : 1 ≤ v ∧ v ≤ 41) : jx_XE M n G 5 pc (pc + 3) (jx_c v) := by
  intro L A p l e R s m args below meth c F hC env σ H locs ls st hI hn o env2 σ2 hf k
  cases hf
  have h := k (show 0 ≤ v ∧ v ≤ 41 by omega) H locs ls hI
  rw [jx_vstr hv.1] at h
  have hZ := jx_str hC.2.2.2.2.2.1 hm
  intro T hT X
  obtain ⟨t, a1, b1⟩ := h T hT X
  refine ⟨t, ?_, b1⟩
  obtain ⟨k9, cf, i, a', hk, hcf, hcp, -, hr, hev'⟩ := Cond.stringRef_spec (args := #[]) hC.2.2.2.1 hZ.1
  cases hZ.2.symm.trans hev'
  obtain ⟨k', hk', he⟩ := X.warmed.alike.2.2 _ _ hk
  have hr' : k'.resolved[idx]? = some (some (.string (jx_st L v))) := by
    rcases X.warmed.entry hk hk' idx with h | ⟨h, -⟩
    · rw [h]; exact hr
    · rw [hr] at h; cases h
  have hd : decode c.code (F0 m pc ls st).pc = .ok (.ldc_w idx, 3) := by rw [hC.2.1]; exact d
  jvm_step X.here [hC.1, hd, ldc_w.wp_string (s := T) (f := F0 m pc ls st) X.here.top hk' (by rw [he]; exact hcf) hcp hr']
  exact a1
/-- the bytes of a String, its coder -/
def jx_sb (v : Int) : jx_X Int := fun e σ => if v = 0 then none else some (.ok v, e, σ)
theorem r_sval {M : jx_M} {n : Nat} {G : List Nat} {pc idx : Nat} (d : decode (jx_cc M) pc = .ok (.getfield idx, 3)) (hl : Cond.fieldLink (jx_own M) idx "java/lang/String" "value" "[B" ∈ jx_tb) : jx_R1 M n G 5 7 pc (pc + 3) jx_sb := by
  intro L A p l e R s m args below meth c F hC env σ H locs ls st hI hn v hv o env2 σ2 hf k
  have hv : 0 ≤ v ∧ v ≤ 41 := hv
  by_cases h0 : v = 0
  · simp [jx_sb, h0] at hf
  · simp only [jx_sb, h0, if_false] at hf
    cases hf
    have h := k (show 1 ≤ v ∧ v ≤ 41 by omega) H locs ls hI
    have e7 : jx_v L 7 v = .ref (jx_st L (-v)) := by
      rw [jx_vr (by decide)]
      unfold jx_r
      rw [if_neg h0]
      rfl
    rw [e7] at h
    rw [jx_vstr (by omega)]
    have hK := (hC.2.2.2.2.2.1.2.2.2.2.1 (v - 1).toNat (by show _ < 41; omega)).2.2.1
    rw [show (((v - 1).toNat : Nat) : Int) + 1 = v by omega] at hK
    exact vk_getf hC.1 hC.2.1 hK hI.2.2.1 hC.2.2.2.1 (hC.2.2.2.2.1 _ hl) (fun _ h9 => h9) d h
theorem r_scod {M : jx_M} {n : Nat} {G : List Nat} {pc idx : Nat} (d : decode (jx_cc M) pc = .ok (.getfield idx, 3)) (hl : Cond.fieldLink (jx_own M) idx "java/lang/String" "coder" "B" ∈ jx_tb) : jx_R1 M n G 5 4 pc (pc + 3) (fun v e σ => if v = 0 then none else some (.ok 0, e, σ)) := by
  intro L A p l e R s m args below meth c F hC env σ H locs ls st hI hn v hv o env2 σ2 hf k
  have hv : 0 ≤ v ∧ v ≤ 41 := hv
  by_cases h0 : v = 0
  · simp [h0] at hf
  · simp only [h0, if_false] at hf
    cases hf
    have h := k (show -128 ≤ (0 : Int) ∧ (0 : Int) ≤ 127 by omega) H locs ls hI
    rw [jx_vstr (by omega)]
    have hK := (hC.2.2.2.2.2.1.2.2.2.2.1 (v - 1).toNat (by show _ < 41; omega)).2.1
    rw [show (((v - 1).toNat : Nat) : Int) + 1 = v by omega] at hK
    exact vk_getf hC.1 hC.2.1 hK hI.2.2.1 hC.2.2.2.1 (hC.2.2.2.2.1 _ hl) (fun _ h9 => h9) d h
def jx_sln (v : Int) : Int := ((jx_stl.getD (v - 1).toNat 0 : Nat) : Int)
def jx_sby (v i : Int) : Int := ((jx_sbl.getD (v - 1).toNat []).getD i.toNat 0).toInt
theorem jx_v7 {L : jx_L} {v : Int} (h : 1 ≤ v) : jx_v L 7 v = .ref (jx_st L (-v)) := by
  rw [jx_vr (by decide)]
  unfold jx_r
  rw [if_neg (by omega)]
  rfl
theorem jx_sln_le : ∀ k, k < 41 → jx_stl.getD k 0 ≤ 200 := by decide +kernel
theorem r_slen {M : jx_M} {n : Nat} {G : List Nat} {pc : Nat} (d : decode (jx_cc M) pc = .ok (.arraylength, 1)) : jx_R1 M n G 7 1 pc (pc + 1) (fun v => jx_pure (jx_sln v)) := by
  intro L A p l e R s m args below meth c F hC env σ H locs ls st hI hn v hv o env2 σ2 hf k
  cases hf
  have hv : 1 ≤ v ∧ v ≤ 41 := hv
  have hle := jx_sln_le (v - 1).toNat (by omega)
  have h := k (show -2147483648 ≤ jx_sln v ∧ jx_sln v ≤ 2147483647 by unfold jx_sln; omega) H locs ls hI
  rw [jx_v7 hv.1]
  have hK := (hC.2.2.2.2.2.1.2.2.2.2.1 (v - 1).toNat (by show _ < 41; omega)).2.2.2
  rw [show (((v - 1).toNat : Nat) : Int) + 1 = v by omega] at hK
  obtain ⟨cell, h1, h2, h3, h4, h5, h6, h7⟩ := hK.kept hI.2.2.1.2.1
  refine W.alen (ty := .byte) (n := Int32.ofInt (jx_sln v)) hC.1 hC.2.1 h1 h2 ?_ rfl rfl d h
  rw [h5]
  unfold jx_sln
  rw [Int32.ofInt_eq_ofNat]
theorem jx_sby_rng : ∀ k, k < 41 → ∀ j, j < 200 → -128 ≤ ((jx_sbl.getD k []).getD j 0).toInt ∧ ((jx_sbl.getD k []).getD j 0).toInt ≤ 127 := by decide +kernel
theorem r_sld {M : jx_M} {n : Nat} {G : List Nat} {pc : Nat} (d : decode (jx_cc M) pc = .ok (.baload, 1)) : jx_R2 M n G 7 1 4 pc (pc + 1) (fun v i e σ => if 0 ≤ i ∧ i < jx_sln v then some (.ok (jx_sby v i), e, σ) else none) := by
  intro L A p l e R s m args below meth c F hC env σ H locs ls st hI hn v i hv hi o env2 σ2 hf k
  have hv : 1 ≤ v ∧ v ≤ 41 := hv
  have hi := jx_ok1.mp hi
  dsimp only at hf
  split at hf
  · rename_i hb
    cases hf
    have hle := jx_sln_le (v - 1).toNat (by omega)
    have hb2 : i < ((jx_stl.getD (v - 1).toNat 0 : Nat) : Int) := hb.2
    have h := k (show -128 ≤ jx_sby v i ∧ jx_sby v i ≤ 127 from jx_sby_rng _ (by omega) _ (by omega)) H locs ls hI
    rw [jx_v7 hv.1, jx_v1]
    have hK := (hC.2.2.2.2.2.1.2.2.2.2.1 (v - 1).toNat (by show _ < 41; omega)).2.2.2
    rw [show (((v - 1).toNat : Nat) : Int) + 1 = v by omega] at hK
    obtain ⟨cell, h1, h2, h3, h4, h5, h6, h7⟩ := hK.kept hI.2.2.1.2.1
    refine W.bald hC.1 hC.2.1 h1 h2 h3 ?_ ?_ rfl rfl d h
    · have := jx_inb hb.1 hi.2 (n := (cell.slots.size : Int)) (by omega)
      rw [Int.toNat_natCast] at this
      exact this
    · rw [jx_clamp hb.1 hi.2, h6 _ (by omega)]
      unfold jx_sby
      rw [jx_vi (by decide) (by decide), Int32.ofInt_toInt]
  · cases hf
/-- names and word of an Op -/
def jx_opnames (v : Int) : Int := (jx_opi.getD (v - 1).toNat 0).toInt
theorem r_opn {M : jx_M} {n : Nat} {G : List Nat} {pc idx : Nat} (d : decode (jx_cc M) pc = .ok (.getfield idx, 3)) (hl : Cond.fieldLink (jx_own M) idx "LiveHouse$Op" "names" "I" ∈ jx_tb ∨ ∃ host, Cond.fieldLinkNest (jx_own M) idx "LiveHouse$Op" "names" "I" host ∈ jx_nw) : jx_R1 M n G 6 1 pc (pc + 3) (fun v e σ => if v = 0 then none else some (.ok (jx_opnames v), e, σ)) := by
  intro L A p l e R s m args below meth c F hC env σ H locs ls st hI hn v hv o env2 σ2 hf k
  have hv : 0 ≤ v ∧ v ≤ 27 := hv
  by_cases h0 : v = 0
  · simp [h0] at hf
  · simp only [h0, if_false] at hf
    cases hf
    have h := k (jx_rng _) H locs ls hI
    have e6 : jx_v L 6 v = .ref (jx_op L v) := by
      rw [jx_vr (by decide)]
      unfold jx_r
      rw [if_neg h0]
      rfl
    rw [e6]
    rw [jx_v1, jx_opnames, Int32.ofInt_toInt] at h
    have hK := (hC.2.2.2.2.2.1.2.2.2.1.1 (v - 1).toNat (by omega)).2.2.1
    rw [show (((v - 1).toNat : Nat) : Int) + 1 = v by omega] at hK
    obtain ⟨cf, kf, fi, f, cell, h1, h2, h3, h4, h5, h6⟩ := hK.kept hI.2.2.1.2.1
    rcases hl with hl | ⟨host, hl⟩
    · exact W.getf hC.1 hC.2.1 hC.2.2.2.1 (hC.2.2.2.2.1 _ hl) h1 h2 h3 h4 h5 rfl rfl d h
    · exact va_Wgetf hC.1 hC.2.1 hC.2.2.2.1 (va_Nw.use rfl (hC.2.2.2.2.2.1.2.1 _ hl)) h1 h2 h3 h4 h5 rfl rfl d h
def jx_opword (v : Int) : Int := jx_opw.getD (v - 1).toNat 0
theorem jx_opw_rng : ∀ k, k < 27 → 1 ≤ jx_opw.getD k 0 ∧ jx_opw.getD k 0 ≤ 41 := by decide +kernel
theorem r_opw {M : jx_M} {n : Nat} {G : List Nat} {pc idx : Nat} (d : decode (jx_cc M) pc = .ok (.getfield idx, 3)) (hl : Cond.fieldLink (jx_own M) idx "LiveHouse$Op" "word" "Ljava/lang/String;" ∈ jx_tb ∨ ∃ host, Cond.fieldLinkNest (jx_own M) idx "LiveHouse$Op" "word" "Ljava/lang/String;" host ∈ jx_nw) : jx_R1 M n G 6 5 pc (pc + 3) (fun v e σ => if v = 0 then none else some (.ok (jx_opword v), e, σ)) := by
  intro L A p l e R s m args below meth c F hC env σ H locs ls st hI hn v hv o env2 σ2 hf k
  have hv : 0 ≤ v ∧ v ≤ 27 := hv
  by_cases h0 : v = 0
  · simp [h0] at hf
  · simp only [h0, if_false] at hf
    cases hf
    have hw := jx_opw_rng (v - 1).toNat (by omega)
    have h := k (show 0 ≤ jx_opword v ∧ jx_opword v ≤ 41 by unfold jx_opword; omega) H locs ls hI
    have e6 : jx_v L 6 v = .ref (jx_op L v) := by
      rw [jx_vr (by decide)]
      unfold jx_r
      rw [if_neg h0]
      rfl
    rw [e6]
    rw [jx_vstr (by unfold jx_opword; omega)] at h
    have hK := (hC.2.2.2.2.2.1.2.2.2.1.1 (v - 1).toNat (by omega)).2.2.2.2
    rw [show (((v - 1).toNat : Nat) : Int) + 1 = v by omega] at hK
    obtain ⟨cf, kf, fi, f, cell, h1, h2, h3, h4, h5, h6⟩ := hK.kept hI.2.2.1.2.1
    rcases hl with hl | ⟨host, hl⟩
    · exact W.getf hC.1 hC.2.1 hC.2.2.2.1 (hC.2.2.2.2.1 _ hl) h1 h2 h3 h4 h5 rfl rfl d h
    · exact va_Wgetf hC.1 hC.2.1 hC.2.2.2.1 (va_Nw.use rfl (hC.2.2.2.2.2.1.2.1 _ hl)) h1 h2 h3 h4 h5 rfl rfl d h
/-- Enum.ordinal's own field -/
theorem r_ord {M : jx_M} {n : Nat} {G : List Nat} {pc idx : Nat} (d : decode (jx_cc M) pc = .ok (.getfield idx, 3)) (hl : Cond.fieldLink (jx_own M) idx "java/lang/Enum" "ordinal" "I" ∈ jx_tb) : jx_R1 M n G 6 1 pc (pc + 3) (fun v e σ => if v = 0 then none else some (.ok (v - 1), e, σ)) := by
  intro L A p l e R s m args below meth c F hC env σ H locs ls st hI hn v hv o env2 σ2 hf k
  have hv : 0 ≤ v ∧ v ≤ 27 := hv
  by_cases h0 : v = 0
  · simp [h0] at hf
  · simp only [h0, if_false] at hf
    cases hf
    have h := k (show -2147483648 ≤ v - 1 ∧ v - 1 ≤ 2147483647 by omega) H locs ls hI
    have e6 : jx_v L 6 v = .ref (jx_op L v) := by
      rw [jx_vr (by decide)]
      unfold jx_r
      rw [if_neg h0]
      rfl
    rw [e6]
    have hK := (hC.2.2.2.2.2.1.2.2.2.1.1 (v - 1).toNat (by omega)).2.2.2.1
    rw [show (((v - 1).toNat : Nat) : Int) + 1 = v by omega] at hK
    obtain ⟨cf, kf, fi, f, cell, h1, h2, h3, h4, h5, h6⟩ := hK.kept hI.2.2.1.2.1
    have e9 : Int32.ofNat (v - 1).toNat = Int32.ofInt (v - 1) := by
      rw [← Int32.ofInt_eq_ofNat, Int.toNat_of_nonneg (by omega)]
    rw [e9] at h5
    exact W.getf hC.1 hC.2.1 hC.2.2.2.1 (hC.2.2.2.2.1 _ hl) h1 h2 h3 h4 h5 rfl rfl d h
