/-! HEAP: fields and arrays -/
theorem jx_cls_at {k : Nat} (hk : k < 16) : jx_cls[k]? = some (jx_cn k, jx_T k, jx_nf k) := by
  simp [jx_cls, hk]
theorem jx_KT {L : jx_L} {A : Nat → Prop} {s : State} (hK : jx_K L A s) {t : Nat} (ht : t ∈ jx_atl) : ArrOfT s (jx_dA L t) (jx_fty0 t) ∧ va_RA s (jx_dA L t) (jx_fty0 t) := by
  obtain ⟨i, hi⟩ := List.getElem?_of_mem ht
  exact hK.1.2 i (jx_dA L t, jx_fty0 t) (by unfold jx_ty; rw [List.getElem?_map, hi]; rfl)
/-- an object of class k -/
theorem jx_obj {L : jx_L} {k : Nat} (hk : k < 90) {x : Int} (h : jx_ok L (10 + k) x) (h0 : x ≠ 0) : (x, 0) ∈ jx_cs L ∧ jx_cl L x = k := by
  unfold jx_ok at h
  repeat rw [if_neg (by omega)] at h
  rw [if_pos (by omega)] at h
  rcases h with h | ⟨h1, h2⟩
  · exact absurd h h0
  · exact ⟨h1, by omega⟩
theorem jx_vobj {L : jx_L} {k : Nat} (hk : k < 90) {x : Int} (h0 : x ≠ 0) : jx_v L (10 + k) x = .ref (jx_ad L x 0) := by
  rw [jx_vr (by omega)]
  unfold jx_r
  rw [if_neg h0, if_neg (by omega), if_neg (by omega), if_neg (by omega), if_neg (by omega), if_pos (by omega)]
  rfl
theorem jx_arr0 {L : jx_L} {t : Nat} {a : Int} (h : jx_ok L (100 + t) a) (h0 : a ≠ 0) : 0 < a ∧ (a / 1024, (a % 1024).toNat) ∈ jx_cs L ∧ jx_ft (a % 1024).toNat = 100 + t := by
  unfold jx_ok at h
  repeat rw [if_neg (by omega)] at h
  rcases h with h | h
  · exact absurd h h0
  · exact h
theorem jx_varr {L : jx_L} {t : Nat} {a : Int} (h0 : a ≠ 0) : jx_v L (100 + t) a = .ref (jx_ad L (a / 1024) (a % 1024).toNat) := by
  rw [jx_vr (by omega)]
  unfold jx_r
  rw [if_neg h0, if_neg (by omega), if_neg (by omega), if_neg (by omega), if_neg (by omega), if_neg (by omega)]
  rfl
/-- the link of a field in a method's class -/
def jx_FL (own : String) (idx g : Nat) : Prop :=
  Cond.fieldLink own idx (jx_fd g).1 (jx_fd g).2.1 (jx_fd g).2.2.1 ∈ jx_tb ∨ ∃ host, Cond.fieldLinkNest own idx (jx_fd g).1 (jx_fd g).2.1 (jx_fd g).2.2.1 host ∈ jx_nw
def jx_gf (g : Nat) (x : Int) : jx_X Int := fun e σ => if x = 0 then none else some (.ok (σ x g 0), e, σ)
/-- the code of an array of an object's field -/
def jx_ac (g : Nat) (x : Int) : Int := 1024 * x + (g : Int)
def jx_ga (g : Nat) (x : Int) : jx_X Int := fun e σ => if x = 0 then none else some (.ok (jx_ac g x), e, σ)
section
variable {M : jx_M} {L : jx_L} {A : Nat → Prop} {p : Program} {l : Launch} {e : Env} {R : Room} {s : State} {m : MethodId} {args : Array Value} {below : List Frame} {meth : Method} {c : Code} {Q : State → Prop} {H : Heap} {locs : List Loc} {ls : Array Slot} {st : List Value} {σ : jx_S} {pc idx k j : Nat} {x : Int}
theorem jx_Wgf (hC : jx_C M L A p R s m args meth c) (hr : jx_rep L σ H) (hk : k < 16) (hj : j < jx_nf k) (hx : (x, 0) ∈ jx_cs L) (hcl : jx_cl L x = k) (hl : jx_FL (jx_own M) idx (jx_fo k + j)) (d : decode (jx_cc M) pc = .ok (.getfield idx, 3))
    (kk : W p l e R s m args below meth c H locs (jx_nc L) (jx_ns L) Q (F0 m (pc + 3) ls (jx_fv L σ x (jx_fo k + j) :: st))) : W p l e R s m args below meth c H locs (jx_nc L) (jx_ns L) Q (F0 m pc ls (.ref (jx_ad L x 0) :: st)) := by
  obtain ⟨hexec, hb, -, hown, hts, hK, -⟩ := hC
  have ho := jx_rep_a hr hx (by decide)
  unfold jx_at at ho
  rw [if_pos rfl, hcl] at ho
  obtain ⟨cell, q1, q2, q3, q4⟩ := ho
  obtain ⟨hS, hfc, kC, hkC, hkind⟩ := hK.1.1 k _ (jx_cls_at hk)
  obtain ⟨cf, kf, fi, f, hi, hsl⟩ := hS j hj
  have hst := (u_facts hfc hkC (u_lays hts (jx_lay_ok hk) hj) hi).1
  have hv : cell.slots[f.slot]? = some (jx_fv L σ x (jx_fo k + j)) := by rw [hsl]; exact q4 j hj
  rcases hl with hl | ⟨host, hl⟩
  · exact W.getf hexec hb hown (hts _ hl) hi hst q1 (by rw [q3]; exact fun h => by cases h) hv rfl rfl d kk
  · exact va_Wgetf hexec hb hown (va_Nw.use rfl (hK.2.1 _ hl)) hi hst q1 (by rw [q3]; exact fun h => by cases h) hv rfl rfl d kk
end
theorem r_gf {M : jx_M} {n : Nat} {G : List Nat} {pc idx t : Nat} (k j g : Nat) (hl : jx_FL (jx_own M) idx g) (d : decode (jx_cc M) pc = .ok (.getfield idx, 3)) (hg : jx_fo k + j = g) (hk : k < 16) (hj : j < jx_nf k) (ht : jx_ft g = t) (h100 : t < 100) :
    jx_R1 M n G (10 + k) t pc (pc + 3) (jx_gf g) := by
  intro L A p l e R s m args below meth c F hC env σ H locs ls st hI hn x hx o env2 σ2 hf kk
  by_cases h0 : x = 0
  · simp [jx_gf, h0] at hf
  · simp only [jx_gf, h0, if_false] at hf
    cases hf
    obtain ⟨h1, h2⟩ := jx_obj (by omega) hx h0
    rw [jx_vobj (by omega) h0]
    refine jx_Wgf hC hI.1 hk hj h1 h2 (by rw [hg]; exact hl) d ?_
    have h3 := hI.2.1.1 x h1 j (by rw [h2]; exact hj)
    rw [h2, hg, ht, if_neg (by omega)] at h3
    have h4 := kk h3 H locs ls hI
    unfold jx_fv
    rw [hg, ht, if_neg (by omega)]
    exact h4
theorem r_ga {M : jx_M} {n : Nat} {G : List Nat} {pc idx t : Nat} (k j g : Nat) (hl : jx_FL (jx_own M) idx g) (d : decode (jx_cc M) pc = .ok (.getfield idx, 3)) (hg : jx_fo k + j = g) (hk : k < 16) (hj : j < jx_nf k) (ht : jx_ft g = 100 + t) (hg2 : g < 1024 ∧ 0 < g) :
    jx_R1 M n G (10 + k) (100 + t) pc (pc + 3) (jx_ga g) := by
  intro L A p l e R s m args below meth c F hC env σ H locs ls st hI hn x hx o env2 σ2 hf kk
  by_cases h0 : x = 0
  · simp [jx_ga, h0] at hf
  · simp only [jx_ga, h0, if_false] at hf
    cases hf
    obtain ⟨h1, h2⟩ := jx_obj (by omega) hx h0
    rw [jx_vobj (by omega) h0]
    refine jx_Wgf hC hI.1 hk hj h1 h2 (by rw [hg]; exact hl) d ?_
    have h3 := hI.2.1.1 x h1 j (by rw [h2]; exact hj)
    rw [h2, hg, ht, if_pos (by omega)] at h3
    have hpos := (hC.2.2.2.2.2.2.1.2.2.1 x 0 h1).1
    have e1 : jx_ac g x / 1024 = x := by unfold jx_ac; omega
    have e2 : (jx_ac g x % 1024).toNat = g := by unfold jx_ac; omega
    have hok : jx_ok L (100 + t) (jx_ac g x) := by
      unfold jx_ok
      repeat rw [if_neg (by omega)]
      refine Or.inr ⟨by unfold jx_ac; omega, ?_, ?_⟩
      · rw [e1, e2]; exact h3
      · rw [e2]; exact ht
    have h4 := kk hok H locs ls hI
    rw [jx_varr (by unfold jx_ac; omega), e1, e2] at h4
    unfold jx_fv
    rw [hg, ht, if_pos (by omega)]
    exact h4
/-! arrays -/
def jx_al (a i : Int) : jx_X Int := fun e σ => if a = 0 then none else if 0 ≤ i ∧ i < jx_ln (a / 1024) (a % 1024).toNat then some (.ok (σ (a / 1024) (a % 1024).toNat i), e, σ) else none
def jx_as (a i v : Int) : jx_X Unit := fun e σ => if a = 0 then none else if 0 ≤ i ∧ i < jx_ln (a / 1024) (a % 1024).toNat ∧ (a % 1024).toNat ≠ jx_script then some (.ok (), e, jx_up σ (a / 1024) (a % 1024).toNat i v) else none
def jx_len (a : Int) : jx_X Int := fun e σ => if a = 0 then none else some (.ok (jx_ln (a / 1024) (a % 1024).toNat), e, σ)
theorem jx_al_inv {a i : Int} {env env2 : jx_E} {σ σ2 : jx_S} {o : Except jx_R Int} (h : jx_al a i env σ = some (o, env2, σ2)) : a ≠ 0 ∧ 0 ≤ i ∧ i < jx_ln (a / 1024) (a % 1024).toNat ∧ o = .ok (σ (a / 1024) (a % 1024).toNat i) ∧ env2 = env ∧ σ2 = σ := by
  unfold jx_al at h
  split at h
  · cases h
  · split at h
    · rename_i h0 h1
      cases h
      exact ⟨h0, h1.1, h1.2, rfl, rfl, rfl⟩
    · cases h
theorem jx_clamp {i : Int} (h0 : 0 ≤ i) (h1 : i ≤ 2147483647) : (Int32.ofInt i).toNatClampNeg = i.toNat := by
  show (Int32.ofInt i).toInt.toNat = i.toNat
  rw [jx_ti (by omega)]
theorem jx_inb {i n : Int} (h0 : 0 ≤ i) (h1 : i ≤ 2147483647) (h : i < n) : ¬ ((Int32.ofInt i) < 0 ∨ n.toNat ≤ (Int32.ofInt i).toNatClampNeg) := by
  rw [jx_clamp h0 h1]
  rintro (h2 | h2)
  · have h3 : Int32.ofInt i < Int32.ofInt 0 := h2
    rw [j_lt32 (by omega) (by omega)] at h3
    omega
  · omega
/-- reading: what all kinds of arrays have in common -/
theorem jx_ald {M : jx_M} {n : Nat} {G : List Nat} {t pc : Nat} (ht : t ∈ jx_atl)
    (row : ∀ {p : Program} {l : Launch} {e : Env} {R : Room} {s : State} {m : MethodId} {args : Array Value} {below : List Frame} {meth : Method} {c : Code} {Q : State → Prop} {H : Heap} {locs : List Loc} {ls : Array Slot} {st : List Value} {a : Addr} {cell : Cell} {i : Int32} {v : Value} {nc ns : Nat},
      p.tables.exec = Jvm.exec → c.code = jx_cc M → H[a]? = some cell → s.isArrayOf cell (jx_fty0 t) → cell.vm ≠ .unknown → ¬ (i < 0 ∨ cell.slots.size ≤ i.toNatClampNeg) → cell.slots[i.toNatClampNeg]? = some v →
      W p l e R s m args below meth c H locs nc ns Q (F0 m (pc + 1) ls (v :: st)) → W p l e R s m args below meth c H locs nc ns Q (F0 m pc ls (.int i :: .ref a :: st))) :
    jx_R2 M n G (100 + t) 1 t pc (pc + 1) jx_al := by
  intro L A p l e R s m args below meth c F hC env σ H locs ls st hI hn a i ha hi o env2 σ2 hf k
  obtain ⟨h0, h1, h2, rfl, rfl, rfl⟩ := jx_al_inv hf
  obtain ⟨b1, b2, b3⟩ := jx_arr0 ha h0
  have hg0 : (a % 1024).toNat ≠ 0 := by
    intro z
    rw [z] at b3
    have : jx_ft 0 = 0 := rfl
    omega
  have hok := hI.2.1.2 _ _ b2 hg0 i h1 h2
  rw [b3, Nat.add_sub_cancel_left] at hok
  have hi2 := jx_ok1.mp hi
  rw [jx_varr h0, jx_v1]
  by_cases h288 : (a % 1024).toNat = 288
  · have ht1 : t = 1 := by
      rw [h288] at b3
      have : jx_ft 288 = 101 := rfl
      omega
    subst ht1
    rw [h288] at b2 h2 hok k ⊢
    obtain ⟨cell, c1, c2, c3, c4, c5, c6⟩ := jx_rep_s hI.1 b2
    refine row hC.1 hC.2.1 c1 ⟨c3, ?_⟩ c4 ?_ ?_ (k hok H locs ls hI)
    · rw [c2]
      exact (hC.2.2.2.2.2.1.2.2.2.2.2 0 (fun _ => .null)).2
    · rw [c5]; exact jx_inb h1 hi2.2 h2
    · rw [jx_clamp h1 hi2.2, c6 _ (by omega), Int.toNat_of_nonneg h1]
  have hr := jx_rep_a hI.1 b2 h288
  unfold jx_at at hr
  rw [if_neg hg0, b3, Nat.add_sub_cancel_left] at hr
  refine row hC.1 hC.2.1 hr ((jx_KT hC.2.2.2.2.2.1 ht).1 _ _) (fun q => by cases q) ?_ ?_ (k hok H locs ls hI)
  · rw [arrV_size]; exact jx_inb h1 hi2.2 h2
  · rw [jx_clamp h1 hi2.2, arrV_read _ _ (by omega), Int.toNat_of_nonneg h1]
theorem r_iald {M : jx_M} {n : Nat} {G : List Nat} {pc : Nat} (d : decode (jx_cc M) pc = .ok (.iaload, 1)) : jx_R2 M n G 101 1 1 pc (pc + 1) jx_al :=
  jx_ald (t := 1) (by decide) (fun hx hb h1 h2 h3 h4 h5 k => W.iald hx hb h1 h2 h3 h4 h5 rfl rfl d k)
theorem r_lald {M : jx_M} {n : Nat} {G : List Nat} {pc : Nat} (d : decode (jx_cc M) pc = .ok (.laload, 1)) : jx_R2 M n G 102 1 2 pc (pc + 1) jx_al :=
  jx_ald (t := 2) (by decide) (fun hx hb h1 h2 h3 h4 h5 k => W.lald hx hb h1 h2 h3 h4 h5 rfl rfl d k)
theorem r_zald {M : jx_M} {n : Nat} {G : List Nat} {pc : Nat} (d : decode (jx_cc M) pc = .ok (.baload, 1)) : jx_R2 M n G 103 1 3 pc (pc + 1) jx_al :=
  jx_ald (t := 3) (by decide) (fun hx hb h1 h2 h3 h4 h5 k => W.zald hx hb h1 h2 h3 h4 h5 rfl rfl d k)
theorem r_bald {M : jx_M} {n : Nat} {G : List Nat} {pc : Nat} (d : decode (jx_cc M) pc = .ok (.baload, 1)) : jx_R2 M n G 104 1 4 pc (pc + 1) jx_al :=
  jx_ald (t := 4) (by decide) (fun hx hb h1 h2 h3 h4 h5 k => W.bald hx hb h1 h2 h3 h4 h5 rfl rfl d k)
theorem r_aald {M : jx_M} {n : Nat} {G : List Nat} {t pc : Nat} (d : decode (jx_cc M) pc = .ok (.aaload, 1)) (ht : t ∈ jx_atl) (h5 : (jx_fty0 t).isReference = true) : jx_R2 M n G (100 + t) 1 t pc (pc + 1) jx_al :=
  jx_ald (t := t) ht (fun hx hb h1 h2 h3 h4 h6 k => W.aald hx hb h1 h2 h5 h3 h4 h6 rfl rfl d k)
theorem r_len {M : jx_M} {n : Nat} {G : List Nat} {t pc : Nat} (d : decode (jx_cc M) pc = .ok (.arraylength, 1)) (ht : t ∈ jx_atl) : jx_R1 M n G (100 + t) 1 pc (pc + 1) jx_len := by
  intro L A p l e R s m args below meth c F hC env σ H locs ls st hI hn a ha o env2 σ2 hf k
  by_cases h0 : a = 0
  · simp [jx_len, h0] at hf
  · simp only [jx_len, h0, if_false] at hf
    cases hf
    obtain ⟨b1, b2, b3⟩ := jx_arr0 ha h0
    have hg0 : (a % 1024).toNat ≠ 0 := by
      intro z
      rw [z] at b3
      have : jx_ft 0 = 0 := rfl
      omega
    have hln := hC.2.2.2.2.2.2.1.2.2.2.2.2.2 _ _ b2
    rw [jx_varr h0]
    by_cases h288 : (a % 1024).toNat = 288
    · have ht1 : t = 1 := by
        rw [h288] at b3
        have : jx_ft 288 = 101 := rfl
        omega
      subst ht1
      rw [h288] at b2 hln k ⊢
      obtain ⟨cell, c1, c2, c3, c4, c5, c6⟩ := jx_rep_s hI.1 b2
      refine W.alen (ty := jx_fty0 1) (n := Int32.ofInt (jx_ln (a / 1024) 288)) hC.1 hC.2.1 c1 ⟨c3, ?_⟩ ?_ rfl rfl d (k (by exact jx_ok1.mpr (by omega)) H locs ls hI)
      · rw [c2]
        exact (hC.2.2.2.2.2.1.2.2.2.2.2 0 (fun _ => .null)).2
      · rw [c5]
        show Int32.ofNat _ = _
        rw [← Int32.ofInt_eq_ofNat, Int.toNat_of_nonneg hln.1]
    have hr := jx_rep_a hI.1 b2 h288
    unfold jx_at at hr
    rw [if_neg hg0, b3, Nat.add_sub_cancel_left] at hr
    refine W.alen (ty := jx_fty0 t) (n := Int32.ofInt (jx_ln (a / 1024) (a % 1024).toNat)) hC.1 hC.2.1 hr ((jx_KT hC.2.2.2.2.2.1 ht).1 _ _) ?_ rfl rfl d (k (by exact jx_ok1.mpr (by omega)) H locs ls hI)
    rw [arrV_size]
    show Int32.ofNat _ = _
    rw [← Int32.ofInt_eq_ofNat, Int.toNat_of_nonneg hln.1]
