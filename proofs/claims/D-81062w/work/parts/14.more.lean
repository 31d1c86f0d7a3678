/-! MORE: calls on Op and String, Enum.ordinal, arraycopy, small results -/
section
variable {M Mc : jx_M} {L : jx_L} {A : Nat → Prop} {p : Program} {l : Launch} {e : Env} {R : Room} {s : State} {m : MethodId} {args : Array Value} {below : List Frame} {meth : Method} {c : Code} {F : jx_R → jx_S → Prop} {G : List Nat} {env : jx_E} {σ s2 : jx_S} {H : Heap} {locs : List Loc} {ls : Array Slot} {st : List Value} {y : MethodName} {ts : List Nat} {f : List Int → jx_S → Option (jx_R × jx_S)} {idx pc n : Nat} {vs : List Int} {r : jx_R}
theorem jx_v6 {L : jx_L} {v : Int} (h0 : v ≠ 0) : jx_v L 6 v = .ref (jx_op L v) := by
  rw [jx_vr (by decide)]
  unfold jx_r
  rw [if_neg h0]
  rfl
/-- the receiver's class, of a String or an Op -/
def jx_rc (t : Nat) : String := if t = 5 then "java/lang/String" else "LiveHouse$Op"
theorem jx_recv {t : Nat} (ht : t = 5 ∨ t = 6) (hC : jx_C M L A p R s m args meth c) (hS : va_S A s.heap H locs) {x : Int} (hx : jx_ok L t x) (h0 : x ≠ 0) : ∃ a cell, jx_v L t x = .ref a ∧ H[a]? = some cell ∧ cell.vm.isStatics = false ∧ s.vm.findClass (jx_rc t) = some cell.cls := by
  rcases ht with rfl | rfl
  · have hx : 0 ≤ x ∧ x ≤ 41 := hx
    have hK := (hC.2.2.2.2.2.1.2.2.2.2.1 (x - 1).toNat (by show _ < 41; omega)).1
    rw [show (((x - 1).toNat : Nat) : Int) + 1 = x by omega] at hK
    obtain ⟨cell, h1, h2, h3, -⟩ := hK.kept hS.2.1
    exact ⟨_, cell, jx_vstr (by omega), h1, h2, h3⟩
  · have hx : 0 ≤ x ∧ x ≤ 27 := hx
    have hK := (hC.2.2.2.2.2.1.2.2.2.1.1 (x - 1).toNat (by omega)).2.1
    rw [show (((x - 1).toNat : Nat) : Int) + 1 = x by omega] at hK
    obtain ⟨cell, h1, h2, h3, -⟩ := hK.kept hS.2.1
    exact ⟨_, cell, jx_v6 h0, h1, h2, h3⟩
theorem jx_WvO (hM : jx_Met y Mc ts f) (hC : jx_C M L A p R s m args meth c) (hI : jx_I M L A G s env σ H locs ls) {k : Nat} {ts' : List Nat} (hts' : ts = k :: ts') (hk : k = 5 ∨ k = 6) (hcls : y.cls = jx_rc k) (hml : jx_ML y Mc ts'.length) (hl : jx_VL (jx_own M) idx y) (hfit : jx_fitsIn M Mc = true) (hnh : jx_nohand M pc = true) (d : decode (jx_cc M) pc = .ok (.invokevirtual idx, 3)) (hst : jx_ct st ≤ 8)
    (hf : f vs σ = some (r, s2)) (hok : jx_oks L ts vs) (h0 : vs.headD 0 ≠ 0) (hr1 : ∀ v, r = .ok v → jx_ok L (jx_rt Mc) v → ∀ H2 locs2, jx_rep L s2 H2 → jx_tok L s2 → va_S A s.heap H2 locs2 → W p l e R s m args below meth c H2 locs2 (jx_nc L) (jx_ns L) (jx_Q L A (jx_rt M) F s below) (F0 m (pc + 3) ls ((if jx_rt Mc = 0 then [] else [jx_v L (jx_rt Mc) v]) ++ st))) (hr2 : ∀ x, r = .error x → F (.error x) s2) :
    W p l e R s m args below meth c H locs (jx_nc L) (jx_ns L) (jx_Q L A (jx_rt M) F s below) (F0 m pc ls ((jx_vals L ts vs).reverse ++ st)) := by
  subst hts'
  cases vs with
  | nil => exact absurd rfl h0
  | cons x vs =>
    have h0 : x ≠ 0 := h0
    obtain ⟨a, cellB, ca, c1, c3, c2⟩ := jx_recv hk hC hI.2.2.1 hok.1.2 h0
    have hts := hC.2.2.2.2.1
    obtain ⟨hl1, hl2, hl3⟩ := hl
    intro T hT X
    obtain ⟨mk, methM, hnamed, hmethM, hstM, habM⟩ := Cond.instanceMethod_spec (hts _ hl2)
    obtain ⟨q0, r2, m2, q1, q2, q3, q4, kP, hkP, hkPi⟩ := Cond.selects_spec (hts _ hl3)
    have hq : q0 = cellB.cls := by
      rw [hcls] at q1
      exact Option.some.inj (q1.symm.trans c2)
    subst hq
    cases (State.methodFound?_of_named hnamed hml.2.2.1).symm.trans q2
    cases hnamed.symm.trans q3
    have hselP : selectMethod e.platform s.vm cellB.cls mk = .method mk := by rw [Launch.admits_selectMethod X.admits]; exact q4
    obtain ⟨methM', cM, hmethM', -, -, -, -, -, -, hsigM⟩ := jx_wd_spec hnamed (hts _ hml.1)
    cases hmethM.symm.trans hmethM'
    have hlen : (jx_vals L ts' vs).length = methM.sig.parameters.length := by
      rw [jx_oks_len hok.2]
      have h9 := hml.2.2.2
      rw [hsigM] at h9
      exact (Option.some.inj h9).symm
    have hvals : jx_vals L (k :: ts') (x :: vs) = .ref a :: jx_vals L ts' vs := by
      simp only [jx_vals]
      rw [ca]
    obtain ⟨vm₁, X₁, hstep₁⟩ := X.invokevirtual hC.1 hC.2.2.2.1 (hts _ hl1) hnamed hmethM hstM hkP hkPi hml.2.2.1 (a := a) (cell := cellB) (by rw [hT]; exact c1)
      (fun z h => by rw [h] at c3; cases c3) hselP hmethM habM hkP hkPi (g := F0 m pc ls ((jx_vals L (k :: ts') (x :: vs)).reverse ++ st)) rfl (argsL := jx_vals L ts' vs) (rest := st) hlen (by show _ = _; rw [hvals]; simp) (by rw [hC.2.1]; exact d)
    obtain ⟨t, e1, e2⟩ := jx_after hM hC hI hml hfit hnh hT X₁ hnamed (by rw [hC.2.1]; exact d) hst hf hok hr1 hr2
    refine ⟨t, hstep₁ t (fun acts => ?_), e2⟩
    rw [doInvoke_state]
    rw [doInvoke_state] at e1
    rw [hvals] at e1
    exact e1
end
theorem x_callVO {M Mc : jx_M} {n : Nat} {G ts : List Nat} {pc p1 idx t : Nat} {fs : jx_X (List Int)} {y : MethodName} {f : List Int → jx_S → Option (jx_R × jx_S)} (k : Nat) (ha : jx_XA M n G (k :: ts) pc p1 fs) (hM : jx_Met y Mc (k :: ts) f) (hml : jx_ML y Mc ts.length) (hl : jx_VL (jx_own M) idx y) (d : decode (jx_cc M) p1 = .ok (.invokevirtual idx, 3)) (hcls : y.cls = jx_rc k) (hk : k = 5 ∨ k = 6) (hfit : jx_fitsIn M Mc = true) (hnh : jx_nohand M p1 = true) (hn : n ≤ 8) (hrt : jx_rt Mc = t) (ht : t ≠ 0) :
    jx_XE M n G t pc (p1 + 3) (jx_bind fs (jx_vc f)) := by
  intro L A p l e R s m args below meth c F hC env σ H locs ls st hI hst o env2 σ2 hf kk
  rcases jx_bind_inv hf with ⟨r, q1, rfl⟩ | ⟨vs, e1, s1, q1, q2⟩
  · exact ha L A p l e R s m args below meth c F hC env σ H locs ls st hI hst _ _ _ q1 kk
  refine ha L A p l e R s m args below meth c F hC env σ H locs ls st hI hst _ _ _ q1 (fun hvs H2 locs2 ls2 hI2 => ?_)
  unfold jx_vc at q2
  split at q2
  · cases q2
  rename_i h0
  obtain ⟨rfl, q3⟩ := jx_call_inv q2
  rcases q3 with ⟨v, q4, rfl⟩ | ⟨x, q4, rfl⟩
  · refine jx_WvO hM hC hI2 rfl hk hcls hml hl hfit hnh d (Nat.le_trans hst hn) q4 hvs h0 (fun v' hv hok H3 locs3 r1 r2 r3 => ?_) (fun x h => by cases h)
    cases hv
    rw [hrt] at hok
    have := kk hok H3 locs3 ls2 ⟨r1, r2, r3, hI2.2.2.2⟩
    rw [hrt, if_neg ht]
    exact this
  · exact jx_WvO hM hC hI2 rfl hk hcls hml hl hfit hnh d (Nat.le_trans hst hn) q4 hvs h0 (fun v' hv => by cases hv) (fun x' h => by cases h; exact kk)
def y_ordinal : MethodName := ⟨"java/lang/Enum", "ordinal", "()I"⟩
def y_opordinal : MethodName := ⟨"LiveHouse$Op", "ordinal", "()I"⟩
/-- op.ordinal(), by Enum's contract -/
theorem x_ordinal {M Mc : jx_M} {n : Nat} {G : List Nat} {pc p1 idx : Nat} {fo : jx_X Int} {f : List Int → jx_S → Option (jx_R × jx_S)} (ha : jx_XE M n G 6 pc p1 fo) (hM : jx_Met y_ordinal Mc [6] f) (hml : jx_ML y_ordinal Mc 0) (hl : Cond.methodLink (jx_own M) idx y_opordinal ∈ jx_tb) (d : decode (jx_cc M) p1 = .ok (.invokevirtual idx, 3)) (hsm : Cond.sameMethod "LiveHouse$Op" "java/lang/Enum" "ordinal" "()I" ∈ jx_tb) (hsl : Cond.selects "LiveHouse$Op" y_opordinal y_ordinal ∈ jx_tb) (hin : Cond.instanceMethod y_ordinal ∈ jx_tb)
    (hfit : jx_fitsIn M Mc = true) (hnh : jx_nohand M p1 = true) (hn : n ≤ 8) (hrt : jx_rt Mc = 1) : jx_XE M n G 1 pc (p1 + 3) (jx_bind fo fun v => jx_vc f [v]) := by
  intro L A p l e R s m args below meth c F hC env σ H locs ls st hI hst o env2 σ2 hf kk
  rcases jx_bind_inv hf with ⟨r, q1, rfl⟩ | ⟨x, e1, s1, q1, q2⟩
  · exact ha L A p l e R s m args below meth c F hC env σ H locs ls st hI hst _ _ _ q1 kk
  refine ha L A p l e R s m args below meth c F hC env σ H locs ls st hI hst _ _ _ q1 (fun hx H2 locs2 ls2 hI2 => ?_)
  unfold jx_vc at q2
  split at q2
  · cases q2
  rename_i h0
  have h0 : x ≠ 0 := h0
  obtain ⟨rfl, q3⟩ := jx_call_inv q2
  have hts := hC.2.2.2.2.1
  have hoks : jx_oks L [6] [x] := ⟨⟨by decide, hx⟩, trivial⟩
  obtain ⟨a, cellB, ca, c1, c3, c2⟩ := jx_recv (Or.inr rfl) hC hI2.2.2.1 hx h0
  have key : ∀ (r : jx_R) (s2 : jx_S), f [x] s1 = some (r, s2) → (∀ v, r = .ok v → jx_ok L (jx_rt Mc) v → ∀ H3 locs3, jx_rep L s2 H3 → jx_tok L s2 → va_S A s.heap H3 locs3 → W p l e R s m args below meth c H3 locs3 (jx_nc L) (jx_ns L) (jx_Q L A (jx_rt M) F s below) (F0 m (p1 + 3) ls2 ((if jx_rt Mc = 0 then [] else [jx_v L (jx_rt Mc) v]) ++ st))) → (∀ z, r = .error z → F (.error z) s2) →
      W p l e R s m args below meth c H2 locs2 (jx_nc L) (jx_ns L) (jx_Q L A (jx_rt M) F s below) (F0 m p1 ls2 (jx_v L 6 x :: st)) := by
    intro r s2 hfx hr1 hr2 T hT X
    obtain ⟨mk, methM, hnamed, hmethM, hstM, habM⟩ := Cond.instanceMethod_spec (hts _ hin)
    obtain ⟨methM', cM, hmethM', -, -, -, -, -, -, hsigM⟩ := jx_wd_spec hnamed (hts _ hml.1)
    cases hmethM.symm.trans hmethM'
    obtain ⟨cn, ck, r1, hcn, hck, hni, hfd, hn1⟩ := Cond.sameMethod_found (hts _ hsm)
    have hn1 : s.methodNamed? y_ordinal = some r1 := hn1
    cases hnamed.symm.trans hn1
    obtain ⟨c9, r9, m9, z1, z2, z3, z4, kP, hkP, hkPi⟩ := Cond.selects_spec (hts _ hsl)
    have hq : c9 = cellB.cls := Option.some.inj (z1.symm.trans c2)
    subst hq
    cases hfd.symm.trans z2
    cases hnamed.symm.trans z3
    have hselP : selectMethod e.platform s.vm cellB.cls mk = .method mk := by rw [Launch.admits_selectMethod X.admits]; exact z4
    have hlen : ([] : List Value).length = methM.sig.parameters.length := by
      have h9 := hml.2.2.2
      rw [hsigM] at h9
      exact (Option.some.inj h9).symm
    obtain ⟨vm₁, X₁, hstep₁⟩ := X.invokevirtualUp hC.1 hC.2.2.2.1 (hts _ hl) (hts _ hsm) (by decide) hnamed hmethM hstM (a := a) (cell := cellB) (by rw [hT]; exact c1)
      (fun z h => by rw [h] at c3; cases c3) hselP hmethM habM hkP hkPi (g := F0 m p1 ls2 (jx_v L 6 x :: st)) rfl (argsL := []) (rest := st) hlen (by show _ = _; rw [ca]; rfl) (by rw [hC.2.1]; exact d)
    obtain ⟨t, e1, e2⟩ := jx_after hM hC hI2 hml hfit hnh hT X₁ hnamed (by rw [hC.2.1]; exact d) (Nat.le_trans hst hn) hfx hoks hr1 hr2
    refine ⟨t, hstep₁ t (fun acts => ?_), e2⟩
    rw [doInvoke_state]
    rw [doInvoke_state] at e1
    rw [show jx_vals L [6] [x] = [.ref a] by simp only [jx_vals]; rw [ca]] at e1
    exact e1
  rcases q3 with ⟨v, q4, rfl⟩ | ⟨z, q4, rfl⟩
  · refine key _ _ q4 (fun v' hv hok H3 locs3 r1 r2 r3 => ?_) (fun x h => by cases h)
    cases hv
    rw [hrt] at hok
    have := kk hok H3 locs3 ls2 ⟨r1, r2, r3, hI2.2.2.2⟩
    rw [hrt, if_neg (by decide)]
    exact this
  · exact key _ _ q4 (fun v' hv => by cases hv) (fun x' h => by cases h; exact kk)
/-! arraycopy -/
def jx_cp (σ : jx_S) (a i b j n : Int) : jx_S := fun y h q => if y = b / 1024 ∧ h = (b % 1024).toNat ∧ j ≤ q ∧ q < j + n then σ (a / 1024) (a % 1024).toNat (i + (q - j)) else σ y h q
def jx_cpy (vs : List Int) : jx_X Unit := match vs with
  | [a, i, b, j, n] => fun e σ => if a = 0 ∨ b = 0 then none else if 0 ≤ i ∧ 0 ≤ j ∧ 0 ≤ n ∧ i + n ≤ jx_ln (a / 1024) (a % 1024).toNat ∧ j + n ≤ jx_ln (b / 1024) (b % 1024).toNat ∧ (b % 1024).toNat ≠ jx_script ∧ (a % 1024).toNat ≠ jx_script then some (.ok (), e, jx_cp σ a i b j n) else none
  | _ => fun _ _ => none
def y_copy : MethodName := arraycopyName
theorem x_copy {M : jx_M} {G : List Nat} {t pc p1 idx : Nat} {fs : jx_X (List Int)} (ha : jx_XA M 0 G [100 + t, 1, 100 + t, 1, 1] pc p1 fs) (ht : t ∈ jx_atl) (h5 : t = 1 ∨ t = 2 ∨ t = 3 ∨ t = 4) (hl : Cond.methodLink (jx_own M) idx arraycopyName ∈ jx_tb) (d : decode (jx_cc M) p1 = .ok (.invokestatic idx, 3)) (hnat : Cond.native arraycopyName ∈ jx_tb) (hstt : Cond.static arraycopyName ∈ jx_tb) (hini : Cond.initialized "java/lang/System" ∈ jx_tb)
    (hfr : 1 ≤ jx_fr M) (hlo : nativeFrameWords "java/lang/System" "arraycopy" 5 + 11 ≤ jx_lo M) : jx_XS M G G pc (p1 + 3) (jx_bind fs jx_cpy) := by
  intro L A p l e R s m args below meth c F hC env σ H locs ls hI o env2 σ2 hf kk
  rcases jx_bind_inv hf with ⟨r, q1, rfl⟩ | ⟨vs, e1, s1, q1, q2⟩
  · exact ha L A p l e R s m args below meth c F hC env σ H locs ls [] hI (Nat.zero_le _) _ _ _ q1 kk
  refine ha L A p l e R s m args below meth c F hC env σ H locs ls [] hI (Nat.zero_le _) _ _ _ q1 (fun hvs H2 locs2 ls2 hI2 => ?_)
  match vs, hvs, q2 with
  | [a, i, b, j, n], hvs, q2 =>
    obtain ⟨⟨-, va⟩, ⟨-, vi⟩, ⟨-, vb⟩, ⟨-, vj⟩, ⟨-, vn⟩, -⟩ := hvs
    simp only [jx_cpy] at q2
    split at q2
    · cases q2
    rename_i hab
    split at q2
    · rename_i hc
      cases q2
      have ha0 : a ≠ 0 := fun z => hab (Or.inl z)
      have hb0 : b ≠ 0 := fun z => hab (Or.inr z)
      obtain ⟨k1, k2, k3, k4, k5, k6, k7⟩ := hc
      obtain ⟨a1, a2, a3⟩ := jx_arr0 va ha0
      obtain ⟨b1, b2, b3⟩ := jx_arr0 vb hb0
      have hL := hC.2.2.2.2.2.2.1
      have hts := hC.2.2.2.2.1
      have ga0 : (a % 1024).toNat ≠ 0 := by
        intro z
        rw [z] at a3
        have : jx_ft 0 = 0 := rfl
        omega
      have gb0 : (b % 1024).toNat ≠ 0 := by
        intro z
        rw [z] at b3
        have : jx_ft 0 = 0 := rfl
        omega
      have ra := jx_rep_a hI2.1 a2 k7
      have rb := jx_rep_a hI2.1 b2 k6
      unfold jx_at at ra rb
      rw [if_neg ga0, a3, Nat.add_sub_cancel_left] at ra
      rw [if_neg gb0, b3, Nat.add_sub_cancel_left] at rb
      have vi := jx_ok1.mp vi
      have vj := jx_ok1.mp vj
      have vn := jx_ok1.mp vn
      have nn : ∀ z : Int, 0 ≤ z → z ≤ 2147483647 → ¬ (Int32.ofInt z < 0) := fun z h1 h2 h3 => by
        have h4 : Int32.ofInt z < Int32.ofInt 0 := h3
        rw [j_lt32 (by omega) (by omega)] at h4
        omega
      have hty : refKind (jx_fty0 t) = false := by rcases h5 with rfl | rfl | rfl | rfl <;> rfl
      have hfits : ∀ v, jx_ok L t v → fits (jx_fty0 t) (jx_v L t v) = true := by
        intro v hv
        rcases h5 with rfl | rfl | rfl | rfl
        · rfl
        · rfl
        · rcases jx_ok3.mp hv with rfl | rfl <;> rfl
        · have h := jx_ok4.mp hv
          show (decide ((-128 : Int32) ≤ Int32.ofInt v) && decide (Int32.ofInt v ≤ (127 : Int32))) = true
          rw [show (-128 : Int32) = Int32.ofInt (-128) from rfl, show (127 : Int32) = Int32.ofInt 127 from rfl]
          simp only [Bool.and_eq_true, decide_eq_true_eq]
          rw [j_le32 (by omega) (by omega), j_le32 (by omega) (by omega)]
          exact h
      have hevals : (jx_vals L [100 + t, 1, 100 + t, 1, 1] [a, i, b, j, n]).reverse ++ [] = [.int (Int32.ofInt n), .int (Int32.ofInt j), .ref (jx_ad L (b / 1024) (b % 1024).toNat), .int (Int32.ofInt i), .ref (jx_ad L (a / 1024) (a % 1024).toNat)] := by
        simp only [jx_vals, jx_v1, jx_varr ha0, jx_varr hb0]
        rfl
      rw [hevals]
      intro T hT X
      obtain ⟨-, k0, hk0, cm0, hkk0⟩ := (jx_KT hC.2.2.2.2.2.1 ht).1 (jx_ln (a / 1024) (a % 1024).toNat).toNat (fun q => jx_v L t (s1 (a / 1024) (a % 1024).toNat (q : Int)))
      obtain ⟨-, k1', hk1, cm1, hkk1⟩ := (jx_KT hC.2.2.2.2.2.1 ht).1 (jx_ln (b / 1024) (b % 1024).toNat).toNat (fun q => jx_v L t (s1 (b / 1024) (b % 1024).toNat (q : Int)))
      obtain ⟨rf, rl, rc, rs⟩ := hC.2.2.2.2.2.2.2.1
      obtain ⟨vm', X', step⟩ := X.arraycopy hC.1 hC.2.2.2.1 (hts _ hl) (hts _ hnat) (hts _ hstt) (hts _ hini) (src := jx_ad L (a / 1024) (a % 1024).toNat) (dst := jx_ad L (b / 1024) (b % 1024).toNat) (cs := arrV (jx_dA L t) (jx_ln (a / 1024) (a % 1024).toNat).toNat (fun q => jx_v L t (s1 (a / 1024) (a % 1024).toNat (q : Int)))) (cd := arrV (jx_dA L t) (jx_ln (b / 1024) (b % 1024).toNat).toNat (fun q => jx_v L t (s1 (b / 1024) (b % 1024).toNat (q : Int)))) (srcPos := Int32.ofInt i) (destPos := Int32.ofInt j) (n := Int32.ofInt n) (by rw [hT]; exact ra) (by rw [hT]; exact rb)
        (fun _ h => by cases h) (fun _ h => by cases h) (fun h => by cases h) (fun h => by cases h) hk0 hk1 hkk0 hkk1 (by simp [hty]) (nn i k1 vi.2) (nn j k2 vj.2) (nn n k3 vn.2)
        (by rw [jx_ti vi, jx_ti vn, arrV_size]; omega)
        (by rw [jx_ti vj, jx_ti vn, arrV_size]; omega)
        (fun vm₁ _ q hq => by
          rw [jx_clamp k3 vn.2] at hq
          have eq : (arrV (jx_dA L t) (jx_ln (a / 1024) (a % 1024).toNat).toNat (fun q => jx_v L t (s1 (a / 1024) (a % 1024).toNat (q : Int)))).slots.getD ((Int32.ofInt i).toNatClampNeg + q) .null = jx_v L t (s1 (a / 1024) (a % 1024).toNat (((Int32.ofInt i).toNatClampNeg + q : Nat) : Int)) := by
            rw [Array.getD_eq_getD_getElem?, arrV_read _ _ (by rw [jx_clamp k1 vi.2]; omega)]
            rfl
          have hokq : jx_ok L t (s1 (a / 1024) (a % 1024).toNat (((Int32.ofInt i).toNatClampNeg + q : Nat) : Int)) := by
            have := hI2.2.1.2 _ _ a2 ga0 (((Int32.ofInt i).toNatClampNeg + q : Nat) : Int) (by omega) (by rw [jx_clamp k1 vi.2]; omega)
            rw [a3, Nat.add_sub_cancel_left] at this
            exact this
          refine ⟨?_, ?_⟩
          · rw [eq]
            exact hfits _ hokq
          · rw [eq]
            rcases h5 with rfl | rfl | rfl | rfl <;> exact trivial)
        (g := F0 m p1 ls2 [.int (Int32.ofInt n), .int (Int32.ofInt j), .ref (jx_ad L (b / 1024) (b % 1024).toNat), .int (Int32.ofInt i), .ref (jx_ad L (a / 1024) (a % 1024).toNat)]) rfl (by show ls2.size = _; rw [hI2.2.2.2.1, hC.2.2.1]) (rest := []) rfl (by rw [hC.2.1]; exact d) (by rw [rf]; exact hfr) (by rw [rl]; show 2 * 0 + 0 + _ ≤ _; omega)
      have hcopied := va_copied (jx_v L t) (jx_dA L t) (jx_dA L t) (n0 := (jx_ln (a / 1024) (a % 1024).toNat).toNat) (n1 := (jx_ln (b / 1024) (b % 1024).toNat).toNat) (sp := (Int32.ofInt i).toNatClampNeg) (dp := (Int32.ofInt j).toNatClampNeg) (n := (Int32.ofInt n).toNatClampNeg) (fun q => s1 (a / 1024) (a % 1024).toNat (q : Int)) (fun q => s1 (b / 1024) (b % 1024).toNat (q : Int)) (by rw [jx_clamp k1 vi.2, jx_clamp k3 vn.2]; omega)
      have e9 : copied (arrV (jx_dA L t) (jx_ln (a / 1024) (a % 1024).toNat).toNat (fun q => jx_v L t (s1 (a / 1024) (a % 1024).toNat (q : Int)))) (arrV (jx_dA L t) (jx_ln (b / 1024) (b % 1024).toNat).toNat (fun q => jx_v L t (s1 (b / 1024) (b % 1024).toNat (q : Int)))) (Int32.ofInt i) (Int32.ofInt j) (Int32.ofInt n) = arrV (jx_dA L t) (jx_ln (b / 1024) (b % 1024).toNat).toNat (fun q => jx_v L t (jx_cp s1 a i b j n (b / 1024) (b % 1024).toNat (q : Int))) := by
        refine hcopied.trans ?_
        congr 1
        funext q
        congr 1
        unfold va_cpy jx_cp
        rw [jx_clamp k1 vi.2, jx_clamp k2 vj.2, jx_clamp k3 vn.2]
        by_cases hq : j.toNat ≤ q ∧ q < j.toNat + n.toNat
        · rw [if_pos hq, if_pos ⟨rfl, rfl, by omega, by omega⟩]
          dsimp only
          congr 1
          omega
        · rw [if_neg hq, if_neg]
          rintro ⟨-, -, z1, z2⟩
          exact hq (by omega)
      rw [e9] at X' step
      have hl9 : jx_ad L (b / 1024) (b % 1024).toNat < H2.size := (Array.getElem?_eq_some_iff.mp rb).1
      have oq : ∀ q : Nat, q ≠ jx_ad L (b / 1024) (b % 1024).toNat → (H2.setIfInBounds (jx_ad L (b / 1024) (b % 1024).toNat) (arrV (jx_dA L t) (jx_ln (b / 1024) (b % 1024).toNat).toNat (fun q => jx_v L t (jx_cp s1 a i b j n (b / 1024) (b % 1024).toNat (q : Int)))))[q]? = H2[q]? := fun q hq => by simp [Array.getElem?_setIfInBounds, Ne.symm hq]
      have hAb : A (jx_ad L (b / 1024) (b % 1024).toNat) := hL.2.1 _ b2 k6
      have other : ∀ y h q, ¬ (y = b / 1024 ∧ h = (b % 1024).toNat) → jx_cp s1 a i b j n y h q = s1 y h q := fun y h q hn => by
        unfold jx_cp
        rw [if_neg (fun z => hn ⟨z.1, z.2.1⟩)]
      have hnew : ∀ locsX : List Loc, (∀ q ∈ locsX, A q.base) → jx_I M L A G s env2 (jx_cp s1 a i b j n) (H2.setIfInBounds (jx_ad L (b / 1024) (b % 1024).toNat) (arrV (jx_dA L t) (jx_ln (b / 1024) (b % 1024).toNat).toNat (fun q => jx_v L t (jx_cp s1 a i b j n (b / 1024) (b % 1024).toNat (q : Int))))) (locs2 ++ locsX) ls2 := by
       intro locsX hX
       refine ⟨?_, ?_, ?_, hI2.2.2.2⟩
       · intro y h hy
         by_cases hyb : y = b / 1024 ∧ h = (b % 1024).toNat
         · obtain ⟨rfl, rfl⟩ := hyb
           refine jx_rp_a ?_ k6
           unfold jx_at
           rw [if_neg gb0, b3, Nat.add_sub_cancel_left]
           simp [Array.getElem?_setIfInBounds, hl9]
         · have hne : jx_ad L y h ≠ jx_ad L (b / 1024) (b % 1024).toNat := fun z => hyb (by have := hL.1 (y, h) (b / 1024, (b % 1024).toNat) hy b2 z; cases this; exact ⟨rfl, rfl⟩)
           by_cases h288 : h = 288
           · subst h288
             exact jx_rp_s (jx_rep_s hI2.1 hy) (oq _ hne) (fun i => other _ _ _ hyb)
           refine jx_rp_a ?_ h288
           have h9 := jx_rep_a hI2.1 hy h288
           unfold jx_at at h9 ⊢
           by_cases hh0 : h = 0
           · subst hh0
             rw [if_pos rfl] at h9 ⊢
             refine (h9.kept (oq _ hne)).to (fun q hq => ?_)
             unfold jx_fv
             by_cases hc : 100 ≤ jx_ft (jx_fo (jx_cl L y) + q)
             · rw [if_pos hc, if_pos hc]
             · rw [if_neg hc, if_neg hc, other]
               rintro ⟨-, z⟩
               rw [z, b3] at hc
               omega
           · rw [if_neg hh0] at h9 ⊢
             rw [oq _ hne, h9]
             congr 2
             funext q
             rw [other _ _ _ hyb]
       · refine ⟨fun y hy q hq => ?_, fun y h hy hh q z0 z1 => ?_⟩
         · have := hI2.2.1.1 y hy q hq
           split
           · rename_i hc
             rw [if_pos hc] at this
             exact this
           · rename_i hc
             rw [if_neg hc] at this
             rw [other]
             · exact this
             · rintro ⟨-, z⟩
               rw [z, b3] at hc
               omega
         · unfold jx_cp
           split
           · rename_i hz
             obtain ⟨rfl, rfl, hz1, hz2⟩ := hz
             have := hI2.2.1.2 _ _ a2 ga0 (i + (q - j)) (by omega) (by omega)
             rw [b3, Nat.add_sub_cancel_left]
             rw [a3, Nat.add_sub_cancel_left] at this
             exact this
           · exact hI2.2.1.2 y h hy hh q z0 z1
       · refine ⟨by simp; exact hI2.2.2.1.1, fun q g1 g2 => ?_, fun q hq => ?_⟩
         · rw [oq q (fun z => g2 (by rw [z]; exact hAb))]
           exact hI2.2.2.1.2.1 q g1 g2
         · rcases List.mem_append.mp hq with h | h
           · exact hI2.2.2.1.2.2 q h
           · exact hX q h
      obtain ⟨t9, f1, f2⟩ := kk _ _ ls2 (hnew _ (fun q h => by obtain ⟨z, -, hz⟩ := List.mem_map.mp h; rw [← hz]; exact hAb)) _ (by rw [← hT]; rfl) X'
      exact ⟨t9, step t9 f1, f2⟩
    · cases q2
/-! results of small types -/
def j_i2c (a : Int) : Int := ((Int32.ofInt a).toUInt32 % 65536).toInt32.toInt
theorem r_i2c {M : jx_M} {n : Nat} {G : List Nat} {pc : Nat} (d : decode (jx_cc M) pc = .ok (.i2c, 1)) : jx_R1 M n G 1 1 pc (pc + 1) (fun a => jx_pure (j_i2c a)) := by
  intro L A p l e R s m args below meth c F hC env σ H locs ls st hI hn a ha o env2 σ2 hf k
  cases hf
  have h := k (jx_rng _) H locs ls hI
  rw [jx_v1, j_i2c, Int32.ofInt_toInt] at h
  exact lv_i2c hC.1 hC.2.1 d rfl h
def jx_retn (ty : FieldType) (v : Int) : jx_X Unit := fun e σ => if narrow ty (.int (Int32.ofInt v)) = .int (Int32.ofInt v) then some (.error (.ok v), e, σ) else none
theorem s_nret {M : jx_M} {G G2 : List Nat} {pc pc2 : Nat} {ty : FieldType} (d : decode (jx_cc M) pc = .ok (.ireturn, 1)) (hre : jx_re M = some ty) (hrt : jx_rt M = 1) : jx_S1 M G G2 1 pc pc2 (jx_retn ty) := by
  intro L A p l e R s m args below meth c F hC env σ H locs ls hI v hv o env2 σ2 hf k
  unfold jx_retn at hf
  split at hf
  · rename_i hn
    cases hf
    have k : F (.ok v) σ := k
    obtain ⟨hexec, hb, -, -, -, -, -, -, ⟨hr, hlocks⟩, -⟩ := hC
    have hr2 : meth.sig.returnType = some ty := hr.trans hre
    have ho : jx_out L (jx_rt M) (.ok v) (.returned (some (.int (Int32.ofInt v)))) := by
      refine ⟨?_, by rw [hrt]; exact hv⟩
      rw [hrt, if_neg (by omega), jx_v1]
    rw [jx_v1]
    intro T hT X
    obtain ⟨fs, hret, hrun, hended, hW, hframe⟩ := X.leave (v := some (.int (Int32.ofInt v))) (fun h => by rw [hr2] at h; cases h)
    have hmeth' : T.vm.method? m = some meth := X.method'
    refine ⟨T.setFrames fs, ?_, jx_Wend hI k ho hT hrun hended hW hframe⟩
    jvm_step X.here [X.here.top, hexec, hb, d, hmeth', hr2, hn]
    (try refine ⟨rfl, ?_⟩); (try refine ⟨rfl, ?_⟩)
    first | (intro acts; rw [hret _ acts rfl rfl rfl]) | rw [hret _ _ rfl rfl rfl]
    exact Steps.refl _
  · cases hf
