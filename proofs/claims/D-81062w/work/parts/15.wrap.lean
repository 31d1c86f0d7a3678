/-! WRAPPED ROWS: side conditions as one Bool each, by rfl -/
theorem jx_chk_at {code : ByteArray} (n : Nat) (P : List (Nat × List Nat)) (h : (decide (n ≤ code.data.toList.length) && jx_chk (code.data.toList.drop n) n P) = true) : ∀ (k q : Nat) (bs : List Nat), P[k]? = some (q, bs) → jx_B code q bs := by
  rw [Bool.and_eq_true, decide_eq_true_eq] at h
  refine jx_chk_spec P (code.data.toList.drop n) (code.data.toList.take n) (List.take_append_drop _ _).symm ?_
  rw [List.length_take, Nat.min_eq_left h.1]
  exact h.2
def jx_b32 (v : Int) : Bool := decide (-2147483648 ≤ v) && decide (v ≤ 2147483647)
theorem jx_b32_ok {v : Int} (h : jx_b32 v = true) : -2147483648 ≤ v ∧ v ≤ 2147483647 := by
  simpa [jx_b32] using h
def jx_b8 (v : Int) : Bool := decide (-128 ≤ v) && decide (v ≤ 127)
def jx_b16 (v : Int) : Bool := decide (-32768 ≤ v) && decide (v ≤ 32767)
section
variable {M : jx_M} {n : Nat} {G G2 : List Nat} {t pc idx : Nat}
theorem e_ic (v : Int) (d : decode (jx_cc M) pc = .ok (.iconst v, 1)) (h : jx_b32 v = true) : jx_XE M n G 1 pc (pc + 1) (jx_c v) := x_iconst v d (jx_b32_ok h)
theorem e_zc (v : Int) (d : decode (jx_cc M) pc = .ok (.iconst v, 1)) (h : (decide (v = 0) || decide (v = 1)) = true) : jx_XE M n G 3 pc (pc + 1) (jx_c v) := x_zconst v d (by simpa using h)
theorem e_bi (v : Int) (d : decode (jx_cc M) pc = .ok (.bipush v, 2)) (h : jx_b8 v = true) : jx_XE M n G 1 pc (pc + 2) (jx_c v) := by
  simp only [jx_b8, Bool.and_eq_true, decide_eq_true_eq] at h
  refine x_bipush v d (by omega) ?_
  rw [← Int32.toInt_inj, Int8.toInt_toInt32, jx_ti (by omega)]
  exact Int8.toInt_ofInt_of_le (by omega) (by omega)
theorem e_si (v : Int) (d : decode (jx_cc M) pc = .ok (.sipush v, 3)) (h : jx_b16 v = true) : jx_XE M n G 1 pc (pc + 3) (jx_c v) := by
  simp only [jx_b16, Bool.and_eq_true, decide_eq_true_eq] at h
  refine x_sipush v d (by omega) ?_
  rw [← Int32.toInt_inj, Int16.toInt_toInt32, jx_ti (by omega)]
  exact Int16.toInt_ofInt_of_le (by omega) (by omega)
theorem e_lc (v : Int) (w : Fin 2) (d : decode (jx_cc M) pc = .ok (.lconst w, 1)) (h : (w.val : Int) = v) : jx_XE M n G 2 pc (pc + 1) (jx_c v) := by
  subst h
  exact x_lconst w d
theorem e_ldc (v : Int) (d : decode (jx_cc M) pc = .ok (.ldc idx, 2)) (hw : Cond.constant (jx_own M) idx (Int32.ofInt v) ∈ jx_tb) (h : jx_b32 v = true) : jx_XE M n G 1 pc (pc + 2) (jx_c v) := x_ldc v d hw (jx_b32_ok h)
theorem e_ldcw (v : Int) (d : decode (jx_cc M) pc = .ok (.ldc_w idx, 3)) (hw : Cond.constant (jx_own M) idx (Int32.ofInt v) ∈ jx_tb) (h : jx_b32 v = true) : jx_XE M n G 1 pc (pc + 3) (jx_c v) := x_ldcw v d hw (jx_b32_ok h)
theorem e_ldc2 (v : Int) (d : decode (jx_cc M) pc = .ok (.ldc2_w idx, 3)) (hw : Cond.constantLong (jx_own M) idx (Int64.ofInt v) ∈ jx_tb) (h : jx_b32 v = true) : jx_XE M n G 2 pc (pc + 3) (jx_c v) := x_ldc2 v d hw (by have := jx_b32_ok h; omega)
def jx_it (t : Nat) : Bool := t == 1 || t == 3 || t == 4
theorem jx_it_ok (h : jx_it t = true) : t ≠ 0 ∧ t ≠ 2 ∧ t < 5 := by
  simp only [jx_it, Bool.or_eq_true, beq_iff_eq] at h
  omega
theorem e_il (i : Nat) (d : decode (jx_cc M) pc = .ok (.iload i, 2)) (hG : G[i]? = some t) (h : jx_it t = true) : jx_XE M n G t pc (pc + 2) (jx_ld i) := x_ild i d hG (jx_it_ok h).1 (jx_it_ok h).2.1 (jx_it_ok h).2.2
theorem e_iln (i : Nat) (w : Fin 4) (d : decode (jx_cc M) pc = .ok (.iload_n w, 1)) (hw : w.val = i) (hG : G[i]? = some t) (h : jx_it t = true) : jx_XE M n G t pc (pc + 1) (jx_ld i) := by
  subst hw
  exact x_ildn w d hG (jx_it_ok h).1 (jx_it_ok h).2.1 (jx_it_ok h).2.2
theorem e_ll (i : Nat) (d : decode (jx_cc M) pc = .ok (.lload i, 2)) (hG : G[i]? = some 2) : jx_XE M n G 2 pc (pc + 2) (jx_ld i) := x_lld i d hG
theorem e_lln (i : Nat) (w : Fin 4) (d : decode (jx_cc M) pc = .ok (.lload_n w, 1)) (hw : w.val = i) (hG : G[i]? = some 2) : jx_XE M n G 2 pc (pc + 1) (jx_ld i) := by
  subst hw
  exact x_lldn w d hG
theorem e_al (i : Nat) (d : decode (jx_cc M) pc = .ok (.aload i, 2)) (hG : G[i]? = some t) (h : Nat.ble 5 t = true) : jx_XE M n G t pc (pc + 2) (jx_ld i) := x_ald i d hG (Nat.le_of_ble_eq_true h)
theorem e_aln (i : Nat) (w : Fin 4) (d : decode (jx_cc M) pc = .ok (.aload_n w, 1)) (hw : w.val = i) (hG : G[i]? = some t) (h : Nat.ble 5 t = true) : jx_XE M n G t pc (pc + 1) (jx_ld i) := by
  subst hw
  exact x_aldn w d hG (Nat.le_of_ble_eq_true h)
theorem e_null (t : Nat) (d : decode (jx_cc M) pc = .ok (.aconst_null, 1)) (h : (Nat.ble 5 t && !(t == 7) && !(t == 8)) = true) : jx_XE M n G t pc (pc + 1) (jx_c 0) := by
  simp only [Bool.and_eq_true, Bool.not_eq_true', beq_eq_false_iff_ne] at h
  exact x_null t d (Nat.le_of_ble_eq_true h.1.1) h.1.2 h.2
theorem e_sub {pc2 : Nat} {f : jx_X Int} (h : jx_XE M n G t pc pc2 f) (ht : jx_it t = true) : jx_XE M n G 1 pc pc2 f := jx_sub h (jx_it_ok ht).1 (jx_it_ok ht).2.1 (jx_it_ok ht).2.2
def jx_gfc (k j g t : Nat) : Bool := (jx_fo k + j == g) && Nat.blt k 16 && Nat.blt j (jx_nf k) && (jx_ft g == t) && Nat.blt t 100
theorem jx_gfc_ok {k j g : Nat} (h : jx_gfc k j g t = true) : jx_fo k + j = g ∧ k < 16 ∧ j < jx_nf k ∧ jx_ft g = t ∧ t < 100 := by
  simp only [jx_gfc, Bool.and_eq_true, beq_iff_eq, Nat.blt_eq] at h
  exact ⟨h.1.1.1.1, h.1.1.1.2, h.1.1.2, h.1.2, h.2⟩
theorem e_gf (k j g : Nat) (hl : jx_FL (jx_own M) idx g) (d : decode (jx_cc M) pc = .ok (.getfield idx, 3)) (h : jx_gfc k j g t = true) : jx_R1 M n G (10 + k) t pc (pc + 3) (jx_gf g) :=
  r_gf k j g hl d (jx_gfc_ok h).1 (jx_gfc_ok h).2.1 (jx_gfc_ok h).2.2.1 (jx_gfc_ok h).2.2.2.1 (jx_gfc_ok h).2.2.2.2
def jx_gac (k j g t : Nat) : Bool := (jx_fo k + j == g) && Nat.blt k 16 && Nat.blt j (jx_nf k) && (jx_ft g == 100 + t) && Nat.blt g 1024 && Nat.blt 0 g
theorem e_ga (k j g : Nat) (hl : jx_FL (jx_own M) idx g) (d : decode (jx_cc M) pc = .ok (.getfield idx, 3)) (h : jx_gac k j g t = true) : jx_R1 M n G (10 + k) (100 + t) pc (pc + 3) (jx_ga g) := by
  simp only [jx_gac, Bool.and_eq_true, beq_iff_eq, Nat.blt_eq] at h
  exact r_ga k j g hl d h.1.1.1.1.1 h.1.1.1.1.2 h.1.1.1.2 h.1.1.2 ⟨h.1.2, h.2⟩
theorem e_pf (k j g : Nat) (hl : jx_FL (jx_own M) idx g) (d : decode (jx_cc M) pc = .ok (.putfield idx, 3)) (h : (jx_gfc k j g t && !(t == 4) && !(jx_fd g).2.2.2) = true) : jx_S2 M G G (10 + k) t pc (pc + 3) (jx_pf g) := by
  simp only [Bool.and_eq_true, Bool.not_eq_true', beq_eq_false_iff_ne] at h
  have h1 := jx_gfc_ok h.1.1
  exact s_pf k j g hl d h1.1 h1.2.1 h1.2.2.1 h1.2.2.2.1 h1.2.2.2.2 h.1.2 h.2
def jx_w (t : Nat) : Nat := if t = 2 then 2 else 1
theorem e_x2 {n2 t1 t2 t3 p1 p2 p3 : Nat} {f g : jx_X Int} {h : Int → Int → jx_X Int} (h1 : jx_XE M n G t1 pc p1 f) (h2 : jx_XE M n2 G t2 p1 p2 g) (h3 : jx_R2 M n G t1 t2 t3 p2 p3 h) (hn : Nat.ble (jx_w t1 + n) n2 = true) : jx_XE M n G t3 pc p3 (jx_bind f fun a => jx_bind g fun b => h a b) := jx_x2 h1 h2 h3 (Nat.le_of_ble_eq_true hn)
theorem e_c2 {n2 t1 t2 p1 p2 pt pf : Nat} {f g : jx_X Int} {h : Int → Int → Bool} (h1 : jx_XE M n G t1 pc p1 f) (h2 : jx_XE M n2 G t2 p1 p2 g) (h3 : jx_C2 M n G t1 t2 p2 pt pf h) (hn : Nat.ble (jx_w t1 + n) n2 = true) : jx_XC M n G pc pt pf (jx_bind f fun a => jx_bind g fun b => jx_pure (h a b)) := jx_c2 h1 h2 h3 (Nat.le_of_ble_eq_true hn)
theorem e_cz {pt pf : Nat} {h : Int → Bool} (h1 : jx_C1 M n G 1 pc pt pf h) (ht : jx_it t = true) : jx_C1 M n G t pc pt pf h := c1_sub h1 (jx_it_ok ht).1 (jx_it_ok ht).2.1 (jx_it_ok ht).2.2
theorem e_ist (i : Nat) (d : decode (jx_cc M) pc = .ok (.istore i, 2)) (h : (Nat.blt i (jx_nl M) && jx_it t) = true) (hG : jx_gst G i t = G2) : jx_S1 M G G2 t pc (pc + 2) (jx_set i) := by
  subst hG
  simp only [Bool.and_eq_true, Nat.blt_eq] at h
  exact s_ist i d h.1 (jx_it_ok h.2).2.1 (jx_it_ok h.2).2.2
theorem e_istn (i : Nat) (w : Fin 4) (d : decode (jx_cc M) pc = .ok (.istore_n w, 1)) (hw : w.val = i) (h : (Nat.blt i (jx_nl M) && jx_it t) = true) (hG : jx_gst G i t = G2) : jx_S1 M G G2 t pc (pc + 1) (jx_set i) := by
  subst hG hw
  simp only [Bool.and_eq_true, Nat.blt_eq] at h
  exact s_istn w d h.1 (jx_it_ok h.2).2.1 (jx_it_ok h.2).2.2
theorem e_lst (i : Nat) (d : decode (jx_cc M) pc = .ok (.lstore i, 2)) (h : Nat.blt (i + 1) (jx_nl M) = true) (hG : jx_gst G i 2 = G2) : jx_S1 M G G2 2 pc (pc + 2) (jx_set i) := by
  subst hG
  exact s_lst i d (by simpa [Nat.blt_eq] using h)
theorem e_lstn (i : Nat) (w : Fin 4) (d : decode (jx_cc M) pc = .ok (.lstore_n w, 1)) (hw : w.val = i) (h : Nat.blt (i + 1) (jx_nl M) = true) (hG : jx_gst G i 2 = G2) : jx_S1 M G G2 2 pc (pc + 1) (jx_set i) := by
  subst hG hw
  exact s_lstn w d (by simpa [Nat.blt_eq] using h)
theorem e_ast (i : Nat) (d : decode (jx_cc M) pc = .ok (.astore i, 2)) (h : (Nat.blt i (jx_nl M) && Nat.ble 5 t) = true) (hG : jx_gst G i t = G2) : jx_S1 M G G2 t pc (pc + 2) (jx_set i) := by
  subst hG
  simp only [Bool.and_eq_true, Nat.blt_eq] at h
  exact s_ast i d h.1 (Nat.le_of_ble_eq_true h.2)
theorem e_astn (i : Nat) (w : Fin 4) (d : decode (jx_cc M) pc = .ok (.astore_n w, 1)) (hw : w.val = i) (h : (Nat.blt i (jx_nl M) && Nat.ble 5 t) = true) (hG : jx_gst G i t = G2) : jx_S1 M G G2 t pc (pc + 1) (jx_set i) := by
  subst hG hw
  simp only [Bool.and_eq_true, Nat.blt_eq] at h
  exact s_astn w d h.1 (Nat.le_of_ble_eq_true h.2)
theorem e_inc (i : Nat) (v : Int) (d : decode (jx_cc M) pc = .ok (.iinc i v, 3)) (h : Nat.blt i (jx_nl M) = true) (hG : G[i]? = some 1) : jx_XS M G G pc (pc + 3) (jx_inc i v) := x_inc i v d (by simpa [Nat.blt_eq] using h) hG
theorem e_iret {pc2 : Nat} (d : decode (jx_cc M) pc = .ok (.ireturn, 1)) (hre : jx_re M = some .int) (hrt : jx_rt M = 1) : jx_S1 M G G2 1 pc pc2 jx_ret := s_iret d hre hrt (Or.inl ⟨rfl, rfl⟩)
theorem e_zret {pc2 : Nat} (d : decode (jx_cc M) pc = .ok (.ireturn, 1)) (hre : jx_re M = some .boolean) (hrt : jx_rt M = 3) : jx_S1 M G G2 3 pc pc2 jx_ret := s_iret d hre hrt (Or.inr ⟨rfl, rfl⟩)
theorem e_aret {pc2 : Nat} {C : String} (d : decode (jx_cc M) pc = .ok (.areturn, 1)) (hre : jx_re M = some (.object C)) (hrt : jx_rt M = t) (h : Nat.ble 5 t = true) : jx_S1 M G G2 t pc pc2 jx_ret := s_aret d hre hrt (Nat.le_of_ble_eq_true h)
theorem e_put {n2 t1 t2 p1 p2 p3 : Nat} {f g : jx_X Int} {h : Int → Int → jx_X Unit} (h1 : jx_XE M 0 G t1 pc p1 f) (h2 : jx_XE M n2 G t2 p1 p2 g) (h3 : jx_S2 M G G t1 t2 p2 p3 h) (hn : Nat.ble (jx_w t1) n2 = true) : jx_XS M G G pc p3 (jx_bind f fun a => jx_bind g fun b => h a b) := x_put h1 h2 h3 (Nat.le_of_ble_eq_true hn)
theorem e_aput {n2 n3 t1 t2 t3 p1 p2 p3 p4 : Nat} {f g g3 : jx_X Int} {h : Int → Int → Int → jx_X Unit} (h1 : jx_XE M 0 G t1 pc p1 f) (h2 : jx_XE M n2 G t2 p1 p2 g) (h3 : jx_XE M n3 G t3 p2 p3 g3) (h4 : jx_S3 M G G t1 t2 t3 p3 p4 h) (hn : (Nat.ble (jx_w t1) n2 && Nat.ble (jx_w t2 + n2) n3) = true) :
    jx_XS M G G pc p4 (jx_bind f fun a => jx_bind g fun b => jx_bind g3 fun v => h a b v) := by
  simp only [Bool.and_eq_true] at hn
  exact x_ast h1 h2 h3 h4 (Nat.le_of_ble_eq_true hn.1) (Nat.le_of_ble_eq_true hn.2)
theorem e_cons {n2 : Nat} {ts : List Nat} {p1 p2 : Nat} {f : jx_X Int} {g : jx_X (List Int)} (h1 : jx_XE M n G t pc p1 f) (h2 : jx_XA M n2 G ts p1 p2 g) (hn : (Nat.ble (jx_w t + n) n2 && !(t == 0)) = true) : jx_XA M n G (t :: ts) pc p2 (jx_cons f g) := by
  simp only [Bool.and_eq_true, Bool.not_eq_true', beq_eq_false_iff_ne] at hn
  exact xa_cons h1 h2 (Nat.le_of_ble_eq_true hn.1) hn.2
def jx_cc1 (M Mc : jx_M) (pc n t : Nat) : Bool := jx_fitsIn M Mc && jx_nohand M pc && Nat.ble n 8 && (jx_rt Mc == t)
theorem jx_cc1_ok {Mc : jx_M} (h : jx_cc1 M Mc pc n t = true) : jx_fitsIn M Mc = true ∧ jx_nohand M pc = true ∧ n ≤ 8 ∧ jx_rt Mc = t := by
  simp only [jx_cc1, Bool.and_eq_true, beq_iff_eq] at h
  exact ⟨h.1.1.1, h.1.1.2, Nat.le_of_ble_eq_true h.1.2, h.2⟩
theorem e_cv {Mc : jx_M} {ts : List Nat} {p1 : Nat} {fs : jx_X (List Int)} {y : MethodName} {f : List Int → jx_S → Option (jx_R × jx_S)} (k : Nat) (ha : jx_XA M n G ((10 + k) :: ts) pc p1 fs) (hM : jx_Met y Mc ((10 + k) :: ts) f) (hml : jx_ML y Mc ts.length) (hl : jx_VL (jx_own M) idx y) (d : decode (jx_cc M) p1 = .ok (.invokevirtual idx, 3)) (hcls : y.cls = jx_cn k) (hc : jx_cc1 M Mc p1 n t = true) (hk : (Nat.blt k 16 && !(t == 0)) = true) :
    jx_XE M n G t pc (p1 + 3) (jx_bind fs (jx_vc f)) := by
  simp only [Bool.and_eq_true, Bool.not_eq_true', beq_eq_false_iff_ne, Nat.blt_eq] at hk
  have h := jx_cc1_ok hc
  exact x_callV k ha hM hml hl d hcls hk.1 h.1 h.2.1 h.2.2.1 h.2.2.2 hk.2
theorem e_cvv {Mc : jx_M} {ts : List Nat} {p1 : Nat} {fs : jx_X (List Int)} {y : MethodName} {f : List Int → jx_S → Option (jx_R × jx_S)} (k : Nat) (ha : jx_XA M 0 G ((10 + k) :: ts) pc p1 fs) (hM : jx_Met y Mc ((10 + k) :: ts) f) (hml : jx_ML y Mc ts.length) (hl : jx_VL (jx_own M) idx y) (d : decode (jx_cc M) p1 = .ok (.invokevirtual idx, 3)) (hcls : y.cls = jx_cn k) (hc : jx_cc1 M Mc p1 0 0 = true) (hk : Nat.blt k 16 = true) :
    jx_XS M G G pc (p1 + 3) (jx_drop (jx_bind fs (jx_vc f))) := by
  have h := jx_cc1_ok hc
  exact x_callVv k ha hM hml hl d hcls (by simpa [Nat.blt_eq] using hk) h.1 h.2.1 h.2.2.2
theorem e_cs {Mc : jx_M} {ts : List Nat} {p1 : Nat} {fs : jx_X (List Int)} {y : MethodName} {f : List Int → jx_S → Option (jx_R × jx_S)} (ha : jx_XA M n G ts pc p1 fs) (hM : jx_Met y Mc ts f) (hml : jx_ML y Mc ts.length) (hl : jx_SL (jx_own M) idx y) (d : decode (jx_cc M) p1 = .ok (.invokestatic idx, 3)) (hc : jx_cc1 M Mc p1 n t = true) (hk : (!(t == 0)) = true) :
    jx_XE M n G t pc (p1 + 3) (jx_bind fs (jx_call f)) := by
  simp only [Bool.not_eq_true', beq_eq_false_iff_ne] at hk
  have h := jx_cc1_ok hc
  exact x_callS ha hM hml hl d h.1 h.2.1 h.2.2.1 h.2.2.2 hk
theorem e_csv {Mc : jx_M} {ts : List Nat} {p1 : Nat} {fs : jx_X (List Int)} {y : MethodName} {f : List Int → jx_S → Option (jx_R × jx_S)} (ha : jx_XA M 0 G ts pc p1 fs) (hM : jx_Met y Mc ts f) (hml : jx_ML y Mc ts.length) (hl : jx_SL (jx_own M) idx y) (d : decode (jx_cc M) p1 = .ok (.invokestatic idx, 3)) (hc : jx_cc1 M Mc p1 0 0 = true) :
    jx_XS M G G pc (p1 + 3) (jx_drop (jx_bind fs (jx_call f))) := by
  have h := jx_cc1_ok hc
  exact x_callSv ha hM hml hl d h.1 h.2.1 h.2.2.2
theorem e_cvo {Mc : jx_M} {ts : List Nat} {p1 : Nat} {fs : jx_X (List Int)} {y : MethodName} {f : List Int → jx_S → Option (jx_R × jx_S)} (k : Nat) (ha : jx_XA M n G (k :: ts) pc p1 fs) (hM : jx_Met y Mc (k :: ts) f) (hml : jx_ML y Mc ts.length) (hl : jx_VL (jx_own M) idx y) (d : decode (jx_cc M) p1 = .ok (.invokevirtual idx, 3)) (hcls : y.cls = jx_rc k) (hc : jx_cc1 M Mc p1 n t = true) (hk : ((k == 5 || k == 6) && !(t == 0)) = true) :
    jx_XE M n G t pc (p1 + 3) (jx_bind fs (jx_vc f)) := by
  simp only [Bool.and_eq_true, Bool.not_eq_true', beq_eq_false_iff_ne, Bool.or_eq_true, beq_iff_eq] at hk
  have h := jx_cc1_ok hc
  exact x_callVO k ha hM hml hl d hcls hk.1 h.1 h.2.1 h.2.2.1 h.2.2.2 hk.2
theorem e_ca {Mc : jx_M} {p1 : Nat} {fo : jx_X Int} {f : List Int → jx_S → Option (jx_R × jx_S)} (ha : jx_XE M n G 6 pc p1 fo) (hM : jx_Met y_ordinal Mc [6] f) (hml : jx_ML y_ordinal Mc 0) (hl : Cond.methodLink (jx_own M) idx y_opordinal ∈ jx_tb) (d : decode (jx_cc M) p1 = .ok (.invokevirtual idx, 3)) (hsm : Cond.sameMethod "LiveHouse$Op" "java/lang/Enum" "ordinal" "()I" ∈ jx_tb) (hsl : Cond.selects "LiveHouse$Op" y_opordinal y_ordinal ∈ jx_tb) (hin : Cond.instanceMethod y_ordinal ∈ jx_tb) (hc : jx_cc1 M Mc p1 n 1 = true) : jx_XE M n G 1 pc (p1 + 3) (jx_bind fo fun v => jx_vc f [v]) := by
  have h := jx_cc1_ok hc
  exact x_ordinal ha hM hml hl d hsm hsl hin h.1 h.2.1 h.2.2.1 h.2.2.2
/-- a jump behind a condition's true road -/
theorem x_gotoC {pg pt pf : Nat} {off : Int} {f : jx_X Bool} (h : jx_XC M n G pc pg pf f) (d : decode (jx_cc M) pg = .ok (.goto off, 3)) (ht : (pg : Int) + off = (pt : Int)) : jx_XC M n G pc pt pf f := by
  intro L A p l e R s m args below meth c F hC env σ H locs ls st hI hn o env2 σ2 hf k
  refine h L A p l e R s m args below meth c F hC env σ H locs ls st hI hn o env2 σ2 hf ?_
  cases o with
  | error r => exact k
  | ok b =>
    intro H2 locs2 ls2 hI2
    have := k H2 locs2 ls2 hI2
    cases b with
    | true => exact lv_goto hC.1 hC.2.1 d ht this
    | false => exact this
theorem x_gotoCf {pg pt pf : Nat} {off : Int} {f : jx_X Bool} (h : jx_XC M n G pc pt pg f) (d : decode (jx_cc M) pg = .ok (.goto off, 3)) (ht : (pg : Int) + off = (pf : Int)) : jx_XC M n G pc pt pf f := by
  intro L A p l e R s m args below meth c F hC env σ H locs ls st hI hn o env2 σ2 hf k
  refine h L A p l e R s m args below meth c F hC env σ H locs ls st hI hn o env2 σ2 hf ?_
  cases o with
  | error r => exact k
  | ok b =>
    intro H2 locs2 ls2 hI2
    have := k H2 locs2 ls2 hI2
    cases b with
    | true => exact this
    | false => exact lv_goto hC.1 hC.2.1 d ht this
/-- c ? a : b as a condition -/
theorem x_cndC {p1 p2 pt pf : Nat} {c f g : jx_X Bool} (h0 : jx_XC M n G pc p1 p2 c) (h1 : jx_XC M n G p1 pt pf f) (h2 : jx_XC M n G p2 pt pf g) : jx_XC M n G pc pt pf (jx_cnd c f g) := by
  intro L A p l e R s m args below meth c F hC env σ H locs ls st hI hn o env2 σ2 hf k
  rcases jx_bind_inv hf with ⟨r, h3, rfl⟩ | ⟨b, e1, s1, h3, h4⟩
  · exact h0 L A p l e R s m args below meth c F hC env σ H locs ls st hI hn _ _ _ h3 k
  · refine h0 L A p l e R s m args below meth c F hC env σ H locs ls st hI hn _ _ _ h3 (fun H2 locs2 ls2 hI2 => ?_)
    cases b with
    | true => exact h1 L A p l e R s m args below meth c F hC e1 s1 H2 locs2 ls2 st hI2 hn o env2 σ2 h4 k
    | false => exact h2 L A p l e R s m args below meth c F hC e1 s1 H2 locs2 ls2 st hI2 hn o env2 σ2 h4 k
end
theorem jx_sel {q : MethodName × Nat} (h : q ∈ lw_privs) : Cond.selects q.1.cls q.1 q.1 ∈ jx_tb := by
  refine List.mem_filter.mpr ⟨List.mem_append_left _ ?_, rfl⟩
  exact List.mem_map.mpr ⟨q, h, rfl⟩
