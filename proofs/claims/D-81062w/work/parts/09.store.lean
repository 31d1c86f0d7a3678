/-! STORES -/
def jx_hs (s : String) : Nat := s.toList.foldl (fun a c => (a * 131 + c.toNat) % 1000000007) 7
def jx_hk (k : Nat) : List Nat := (List.range (jx_nf k)).map fun j => jx_hs (jx_T k j).2.1
def jx_dis : List Nat → Bool
  | [] => true
  | a :: l => !(l.contains a) && jx_dis l
theorem jx_dis_ok : ((List.range 16).all fun k => jx_dis (jx_hk k)) = true := by decide +kernel
theorem jx_dis_ne : ∀ {l : List Nat}, jx_dis l = true → ∀ {i j a b : Nat}, l[i]? = some a → l[j]? = some b → i ≠ j → a ≠ b
  | [], _, i, j, a, b, h, _, _ => by simp at h
  | c :: l, hd, i, j, a, b, hi, hj, hij => by
    simp only [jx_dis, Bool.and_eq_true, Bool.not_eq_true'] at hd
    have hc : c ∉ l := by simpa using hd.1
    cases i with
    | zero =>
      cases j with
      | zero => exact absurd rfl hij
      | succ j =>
        rw [List.getElem?_cons_zero] at hi
        rw [List.getElem?_cons_succ] at hj
        cases hi
        exact fun z => hc (z ▸ List.mem_of_getElem? hj)
    | succ i =>
      rw [List.getElem?_cons_succ] at hi
      cases j with
      | zero =>
        rw [List.getElem?_cons_zero] at hj
        cases hj
        exact fun z => hc (z ▸ List.mem_of_getElem? hi)
      | succ j =>
        rw [List.getElem?_cons_succ] at hj
        exact jx_dis_ne hd.2 hi hj (fun z => hij (by rw [z]))
theorem jx_nm {k : Nat} (hk : k < 16) : ∀ a, a < jx_nf k → ∀ b, b < jx_nf k → a ≠ b → (jx_T k a).2.1 ≠ (jx_T k b).2.1 := by
  intro a ha b hb hab h
  have h1 := List.all_eq_true.mp jx_dis_ok k (List.mem_range.mpr hk)
  have e : ∀ j, j < jx_nf k → (jx_hk k)[j]? = some (jx_hs (jx_T k j).2.1) := fun j hj => by simp [jx_hk, hj]
  exact jx_dis_ne h1 (e a ha) (e b hb) hab (by rw [h])
theorem jx_fit {L : jx_L} {t : Nat} {v : Int} (h : jx_ok L t v) (h0 : t ≠ 0) (h4 : t ≠ 4) (h100 : t < 100) : narrow (jx_fty t) (jx_v L t v) = jx_v L t v ∧ fits (jx_fty t) (jx_v L t v) = true := by
  have hf : jx_fty t = jx_fty0 t := by simp [jx_fty, h100]
  rw [hf]
  by_cases h1 : t = 1
  · subst h1; exact ⟨rfl, rfl⟩
  by_cases h2 : t = 2
  · subst h2; exact ⟨rfl, rfl⟩
  by_cases h3 : t = 3
  · subst h3
    rcases jx_ok3.mp h with rfl | rfl <;> exact ⟨rfl, rfl⟩
  rw [jx_vr (by omega)]
  have : ∃ C, jx_fty0 t = .object C := by
    unfold jx_fty0
    rw [if_neg h1, if_neg h2, if_neg h3, if_neg h4]
    split
    · exact ⟨_, rfl⟩
    · split
      · exact ⟨_, rfl⟩
      · exact ⟨_, rfl⟩
  obtain ⟨C, hC⟩ := this
  rw [hC]
  cases jx_r L t v <;> exact ⟨rfl, rfl⟩
theorem jx_up_self {σ : jx_S} {x : Int} {g : Nat} {i v : Int} : jx_up σ x g i v x g i = v := by simp [jx_up]
theorem jx_up_ne {σ : jx_S} {x y : Int} {g h : Nat} {i j v : Int} (hn : ¬ (y = x ∧ h = g ∧ j = i)) : jx_up σ x g i v y h j = σ y h j := by simp [jx_up, hn]
/-- the state stays typed -/
theorem jx_tok_up {L : jx_L} {σ : jx_S} (hT : jx_tok L σ) {x : Int} {g : Nat} {i v : Int} (h1 : jx_ft g < 100 → i = 0 → jx_ok L (jx_ft g) v) (h2 : 100 ≤ jx_ft g → jx_ok L (jx_ft g - 100) v) (hal : ∀ y h, (y, h) ∈ jx_cs L → h ≠ 0 → 100 ≤ jx_ft h) : jx_tok L (jx_up σ x g i v) := by
  refine ⟨fun y hy j hj => ?_, fun y h hy hh q q0 q1 => ?_⟩
  · have := hT.1 y hy j hj
    split
    · rename_i hc
      rw [if_pos hc] at this
      exact this
    · rename_i hc
      rw [if_neg hc] at this
      by_cases hz : y = x ∧ jx_fo (jx_cl L y) + j = g ∧ (0 : Int) = i
      · obtain ⟨rfl, rfl, rfl⟩ := hz
        rw [jx_up_self]
        exact h1 (by omega) rfl
      · rw [jx_up_ne hz]
        exact this
  · have := hT.2 y h hy hh q q0 q1
    by_cases hz : y = x ∧ h = g ∧ q = i
    · obtain ⟨rfl, rfl, rfl⟩ := hz
      rw [jx_up_self]
      exact h2 (hal _ _ hy hh)
    · rw [jx_up_ne hz]
      exact this
/-- another cell is the same -/
theorem jx_at_up {L : jx_L} {σ : jx_S} {H H1 : Heap} {x y : Int} {g h : Nat} {i v : Int} (hat : jx_at L σ H y h) (hH : H1[jx_ad L y h]? = H[jx_ad L y h]?)
    (hs : h = 0 → y = x → ∀ j, j < jx_nf (jx_cl L y) → jx_fo (jx_cl L y) + j = g → 100 ≤ jx_ft g) (ha : h ≠ 0 → ¬ (y = x ∧ h = g)) : jx_at L (jx_up σ x g i v) H1 y h := by
  unfold jx_at at hat ⊢
  by_cases h0 : h = 0
  · subst h0
    rw [if_pos rfl] at hat ⊢
    refine (hat.kept hH).to (fun j hj => ?_)
    unfold jx_fv
    by_cases hc : 100 ≤ jx_ft (jx_fo (jx_cl L y) + j)
    · rw [if_pos hc, if_pos hc]
    · rw [if_neg hc, if_neg hc, jx_up_ne]
      rintro ⟨e1, e2, -⟩
      exact hc (by rw [e2]; exact hs rfl e1 j hj e2)
  · rw [if_neg h0] at hat ⊢
    rw [hH, hat]
    congr 2
    funext j
    rw [jx_up_ne]
    rintro ⟨e1, e2, -⟩
    exact ha h0 ⟨e1, e2⟩
theorem jx_rep_put {L : jx_L} {A : Nat → Prop} {σ : jx_S} {H H1 : Heap} (hr : jx_rep L σ H) (hL : jx_lok L A) {x : Int} {k j : Nat} (hx : (x, 0) ∈ jx_cs L) (hcl : jx_cl L x = k) (hj : j < jx_nf k) (h100 : jx_ft (jx_fo k + j) < 100) {v : Int} {cell : Cell} (hc : H[jx_ad L x 0]? = some cell)
    (hap : ∀ a b, a < jx_nf k → b < jx_nf k → a ≠ b → (jx_D L).2 k a ≠ (jx_D L).2 k b) (e1 : H1[jx_ad L x 0]? = some (cell.setSlot ((jx_D L).2 k j) (jx_v L (jx_ft (jx_fo k + j)) v))) (e3 : ∀ q, q ≠ jx_ad L x 0 → H1[q]? = H[q]?) (hk : k < 16) :
    jx_rep L (jx_up σ x (jx_fo k + j) 0 v) H1 := by
  intro y h hy
  by_cases hyx : (y, h) = (x, 0)
  · cases hyx
    have h0 := jx_rep_a hr hx (by decide)
    refine jx_rp_a ?_ (by decide)
    unfold jx_at at h0 ⊢
    rw [if_pos rfl] at h0 ⊢
    rw [hcl] at h0 ⊢
    obtain ⟨cell', q1, q2, q3, q4⟩ := h0
    cases hc.symm.trans q1
    refine ⟨_, e1, q2, q3, fun i hi => ?_⟩
    rw [t_set q4 hap hj _ i hi]
    congr 1
    unfold updV jx_fv
    dsimp only
    by_cases hij : i = j
    · subst hij
      rw [if_pos rfl, if_neg (by omega), jx_up_self]
    · rw [if_neg hij]
      by_cases hc2 : 100 ≤ jx_ft (jx_fo k + i)
      · rw [if_pos hc2, if_pos hc2]
      · rw [if_neg hc2, if_neg hc2, jx_up_ne]
        rintro ⟨-, z, -⟩
        exact hij (by omega)
  · have hne : jx_ad L y h ≠ jx_ad L x 0 := fun z => hyx (hL.1 (y, h) (x, 0) hy hx z)
    by_cases h288 : h = 288
    · subst h288
      refine jx_rp_s (jx_rep_s hr hy) (e3 _ hne) (fun i => jx_up_ne ?_)
      rintro ⟨-, z, -⟩
      rw [← z] at h100
      exact absurd h100 (by decide)
    refine jx_rp_a (jx_at_up (jx_rep_a hr hy h288) (e3 _ hne) (fun h0 e => absurd (by rw [h0, e]) hyx) (fun h0 e => ?_)) h288
    have := hL.2.2.2.1 y h hy h0
    rw [e.2] at this
    omega
theorem jx_rep_st {L : jx_L} {A : Nat → Prop} {σ : jx_S} {H H1 : Heap} (hr : jx_rep L σ H) (hL : jx_lok L A) {x : Int} {g : Nat} (hx : (x, g) ∈ jx_cs L) (hg : g ≠ 0) (g288 : g ≠ 288) {i v : Int} (hi : 0 ≤ i)
    (e1 : H1[jx_ad L x g]? = some (arrV (jx_dA L (jx_ft g - 100)) (jx_ln x g).toNat (updV (fun j => jx_v L (jx_ft g - 100) (σ x g (j : Int))) i.toNat (jx_v L (jx_ft g - 100) v)))) (e3 : ∀ q, q ≠ jx_ad L x g → H1[q]? = H[q]?) :
    jx_rep L (jx_up σ x g i v) H1 := by
  intro y h hy
  by_cases hyx : (y, h) = (x, g)
  · cases hyx
    refine jx_rp_a ?_ g288
    unfold jx_at
    rw [if_neg hg, e1]
    congr 2
    funext j
    unfold updV
    by_cases hj : j = i.toNat
    · subst hj
      rw [if_pos rfl, Int.toNat_of_nonneg hi, jx_up_self]
    · rw [if_neg hj, jx_up_ne]
      rintro ⟨-, -, z⟩
      exact hj (by omega)
  · have hne : jx_ad L y h ≠ jx_ad L x g := fun z => hyx (hL.1 (y, h) (x, g) hy hx z)
    by_cases h288 : h = 288
    · subst h288
      refine jx_rp_s (jx_rep_s hr hy) (e3 _ hne) (fun i => jx_up_ne ?_)
      rintro ⟨-, z, -⟩
      exact g288 z.symm
    exact jx_rp_a (jx_at_up (jx_rep_a hr hy h288) (e3 _ hne) (fun _ _ j _ e => (hL.2.2.2.1 x g hx hg).1) (fun _ e => hyx (by rw [e.1, e.2]))) h288
/-- two values are taken off -/
def jx_S2 (M : jx_M) (G G2 : List Nat) (t1 t2 pc pc2 : Nat) (h : Int → Int → jx_X Unit) : Prop :=
  ∀ (L : jx_L) (A : Nat → Prop) (p : Program) (l : Launch) (e : Env) (R : Room) (s : State) (m : MethodId) (args : Array Value) (below : List Frame) (meth : Method) (c : Code) (F : jx_R → jx_S → Prop),
    jx_C M L A p R s m args meth c → ∀ (env : jx_E) (σ : jx_S) (H : Heap) (locs : List Loc) (ls : Array Slot) (st : List Value), jx_I M L A G s env σ H locs ls → ∀ a b, jx_ok L t1 a → jx_ok L t2 b →
    ∀ o env2 σ2, h a b env σ = some (o, env2, σ2) →
    (match o with
      | .ok _ => ∀ H2 locs2 ls2, jx_I M L A G2 s env2 σ2 H2 locs2 ls2 → W p l e R s m args below meth c H2 locs2 (jx_nc L) (jx_ns L) (jx_Q L A (jx_rt M) F s below) (F0 m pc2 ls2 st)
      | .error r => F r σ2) →
    W p l e R s m args below meth c H locs (jx_nc L) (jx_ns L) (jx_Q L A (jx_rt M) F s below) (F0 m pc ls (jx_v L t2 b :: jx_v L t1 a :: st))
def jx_S3 (M : jx_M) (G G2 : List Nat) (t1 t2 t3 pc pc2 : Nat) (h : Int → Int → Int → jx_X Unit) : Prop :=
  ∀ (L : jx_L) (A : Nat → Prop) (p : Program) (l : Launch) (e : Env) (R : Room) (s : State) (m : MethodId) (args : Array Value) (below : List Frame) (meth : Method) (c : Code) (F : jx_R → jx_S → Prop),
    jx_C M L A p R s m args meth c → ∀ (env : jx_E) (σ : jx_S) (H : Heap) (locs : List Loc) (ls : Array Slot) (st : List Value), jx_I M L A G s env σ H locs ls → ∀ a b v, jx_ok L t1 a → jx_ok L t2 b → jx_ok L t3 v →
    ∀ o env2 σ2, h a b v env σ = some (o, env2, σ2) →
    (match o with
      | .ok _ => ∀ H2 locs2 ls2, jx_I M L A G2 s env2 σ2 H2 locs2 ls2 → W p l e R s m args below meth c H2 locs2 (jx_nc L) (jx_ns L) (jx_Q L A (jx_rt M) F s below) (F0 m pc2 ls2 st)
      | .error r => F r σ2) →
    W p l e R s m args below meth c H locs (jx_nc L) (jx_ns L) (jx_Q L A (jx_rt M) F s below) (F0 m pc ls (jx_v L t3 v :: jx_v L t2 b :: jx_v L t1 a :: st))
def jx_pf (g : Nat) (x v : Int) : jx_X Unit := fun e σ => if x = 0 then none else some (.ok (), e, jx_up σ x g 0 v)
theorem s_pf {M : jx_M} {G : List Nat} {pc idx t : Nat} (k j g : Nat) (hl : jx_FL (jx_own M) idx g) (d : decode (jx_cc M) pc = .ok (.putfield idx, 3)) (hg : jx_fo k + j = g) (hk : k < 16) (hj : j < jx_nf k) (ht : jx_ft g = t) (h100 : t < 100) (h4 : t ≠ 4) (hfin : (jx_fd g).2.2.2 = false) :
    jx_S2 M G G (10 + k) t pc (pc + 3) (jx_pf g) := by
  intro L A p l e R s m args below meth c F hC env σ H locs ls st hI x v hx hv o env2 σ2 hf kk
  by_cases h0 : x = 0
  · simp [jx_pf, h0] at hf
  · simp only [jx_pf, h0, if_false] at hf
    cases hf
    obtain ⟨h1, h2⟩ := jx_obj (by omega) hx h0
    rw [jx_vobj (by omega) h0]
    obtain ⟨hexec, hb, -, hown, hts, hK, hL, -⟩ := hC
    have ho := jx_rep_a hI.1 h1 (by decide)
    unfold jx_at at ho
    rw [if_pos rfl, h2] at ho
    obtain ⟨cell, q1, q2, q3, q4⟩ := ho
    obtain ⟨hS, hfc, kC, hkC, hkind⟩ := hK.1.1 k _ (jx_cls_at hk)
    obtain ⟨cf, kf, fi, f, hi, hsl⟩ := hS j hj
    have hst := (u_facts hfc hkC (u_lays hts (jx_lay_ok hk) hj) hi).1
    obtain ⟨o1, o2, o3, o4⟩ := jx_own_ok k hk j hj
    have hty : ∀ i, i < jx_nf k → parseFieldDescriptor (jx_T k i).2.2.1 = some (jx_fty (jx_ft (jx_fo k + i))) := fun i hi => by
      obtain ⟨-, -, z3, z4⟩ := jx_own_ok k hk i hi
      exact jx_fty_ok _ z3 z4
    have hap := va_apart (own := jx_own M) hts (jx_lay_ok hk) (fun i => jx_fty (jx_ft (jx_fo k + i))) hty (jx_nm hk) hK.1 (jx_cls_at hk)
    have hlay := hts _ (jx_lay_ok hk _ (u_in_lay hj))
    have hTg : jx_T k j = jx_fd g := by rw [← hg]; rfl
    unfold u_lay at hlay
    rw [hTg, if_neg (by rw [hfin]; decide)] at hlay
    have ht0 : t ≠ 0 := by rw [← ht, ← hg]; exact o2
    obtain ⟨n1, n2⟩ := jx_fit hv ht0 h4 h100
    have hd : parseFieldDescriptor (jx_fd g).2.2.1 = some (jx_fty t) := by rw [← ht, ← hg]; exact jx_fty_ok _ o3 o4
    have hi : s.fieldFound? (jx_T k j).1 (jx_T k j).2.1 (jx_T k j).2.2.1 = some (cf, kf, fi, f) := hi
    rw [hTg] at hi
    have h6 := u_store hfc hkC hkind hlay hi hd n1 n2
    have fin : ∀ H', H'[jx_ad L x 0]? = some (cell.setSlot f.slot (jx_v L t v)) → H'.size = H.size → (∀ q, q ≠ jx_ad L x 0 → H'[q]? = H[q]?) → W p l e R s m args below meth c H' (locs ++ [⟨jx_ad L x 0, f.slot⟩]) (jx_nc L) (jx_ns L) (jx_Q L A (jx_rt M) F s below) (F0 m (pc + 3) ls st) := by
      intro H' e1 e2 e3
      rw [hsl] at e1
      refine kk H' _ ls ⟨?_, ?_, hI.2.2.1.put e2 e3 (hL.2.1 (x, 0) h1 (show (0 : Nat) ≠ jx_script by decide)), hI.2.2.2⟩
      · rw [← hg]
        refine jx_rep_put hI.1 hL h1 h2 hj (by rw [hg, ht]; exact h100) q1 hap ?_ e3 hk
        rw [hg, ht]
        exact e1
      · refine jx_tok_up hI.2.1 (fun _ _ => by rw [ht]; exact hv) (fun z => by omega) (fun y h hy hh => (hL.2.2.2.1 y h hy hh).1)
    rcases hl with hl | ⟨host, hl⟩
    · exact W.putK hexec hb (f := f) ⟨hown, hts _ hl, ⟨_, _, _, hi⟩, hst⟩ (by rw [q2]; exact h6) q1 q3 (by rw [hsl]; exact k2_hasslot (q4 j hj)) rfl rfl d fin
    · exact va_WputK hexec hb (f := f) hown (va_Nw.use rfl (hK.2.1 _ hl)) hi hst (by rw [q2]; exact h6) q1 q3 (by rw [hsl]; exact k2_hasslot (q4 j hj)) rfl rfl d fin
/-- storing into an array: what all kinds have in common -/
theorem jx_ast {M : jx_M} {G : List Nat} {t pc : Nat} (ht : t ∈ jx_atl)
    (row : ∀ {L : jx_L} {A : Nat → Prop} {p : Program} {l : Launch} {e : Env} {R : Room} {s : State} {m : MethodId} {args : Array Value} {below : List Frame} {meth : Method} {c : Code} {Q : State → Prop} {H : Heap} {locs : List Loc} {ls : Array Slot} {st : List Value} {a : Addr} {n : Nat} {f : Nat → Value} {i : Int32} {v : Int} {σ : jx_S},
      p.tables.exec = Jvm.exec → c.code = jx_cc M → jx_K L A s → jx_rep L σ H → jx_ok L t v → H[a]? = some (arrV (jx_dA L t) n f) → ¬ (i < 0 ∨ n ≤ i.toNatClampNeg) →
      (∀ H' : Heap, H'[a]? = some ((arrV (jx_dA L t) n f).setSlot i.toNatClampNeg (jx_v L t v)) → H'.size = H.size → (∀ q, q ≠ a → H'[q]? = H[q]?) → W p l e R s m args below meth c H' (locs ++ [⟨a, i.toNatClampNeg⟩]) (jx_nc L) (jx_ns L) Q (F0 m (pc + 1) ls st)) →
      W p l e R s m args below meth c H locs (jx_nc L) (jx_ns L) Q (F0 m pc ls (jx_v L t v :: .int i :: .ref a :: st))) :
    jx_S3 M G G (100 + t) 1 t pc (pc + 1) jx_as := by
  intro L A p l e R s m args below meth c F hC env σ H locs ls st hI a i v ha hi hv o env2 σ2 hf kk
  unfold jx_as at hf
  split at hf
  · cases hf
  · rename_i h0
    split at hf
    · rename_i h1
      cases hf
      obtain ⟨h1, h2, h3⟩ := h1
      obtain ⟨b1, b2, b3⟩ := jx_arr0 ha h0
      have hL := hC.2.2.2.2.2.2.1
      have hg0 : (a % 1024).toNat ≠ 0 := by
        intro z
        rw [z] at b3
        have : jx_ft 0 = 0 := rfl
        omega
      have hr := jx_rep_a hI.1 b2 h3
      unfold jx_at at hr
      rw [if_neg hg0, b3, Nat.add_sub_cancel_left] at hr
      have hi2 := jx_ok1.mp hi
      rw [jx_varr h0, jx_v1]
      refine row hC.1 hC.2.1 hC.2.2.2.2.2.1 hI.1 hv hr (jx_inb h1 hi2.2 h2) (fun H' e1 e2 e3 => kk H' _ ls ⟨?_, ?_, hI.2.2.1.put e2 e3 (hL.2.1 _ b2 h3), hI.2.2.2⟩)
      · refine jx_rep_st hI.1 hL b2 hg0 h3 h1 ?_ e3
        rw [b3, Nat.add_sub_cancel_left, e1, jx_clamp h1 hi2.2, arrV_store]
      · refine jx_tok_up hI.2.1 (fun z => by omega) (fun z => by rw [b3, Nat.add_sub_cancel_left]; exact hv) (fun y h hy hh => (hL.2.2.2.1 y h hy hh).1)
    · cases hf
theorem s_iast {M : jx_M} {G : List Nat} {pc : Nat} (d : decode (jx_cc M) pc = .ok (.iastore, 1)) : jx_S3 M G G 101 1 1 pc (pc + 1) jx_as :=
  jx_ast (t := 1) (by decide) (fun hx hb hK _ _ h1 h4 k => W.iast hx hb h1 ((jx_KT hK (by decide)).1 _ _) (fun q => by cases q) (by rw [arrV_size]; exact h4) rfl rfl d k)
theorem s_last {M : jx_M} {G : List Nat} {pc : Nat} (d : decode (jx_cc M) pc = .ok (.lastore, 1)) : jx_S3 M G G 102 1 2 pc (pc + 1) jx_as :=
  jx_ast (t := 2) (by decide) (fun hx hb hK _ _ h1 h4 k => W.last hx hb h1 ((jx_KT hK (by decide)).1 _ _) (fun q => by cases q) (by rw [arrV_size]; exact h4) rfl rfl d k)
theorem jx_zn {L : jx_L} {v : Int} (h : jx_ok L 3 v) : narrow .boolean (.int (Int32.ofInt v)) = .int (Int32.ofInt v) := by
  rcases jx_ok3.mp h with rfl | rfl <;> rfl
theorem jx_bn {L : jx_L} {v : Int} (h : jx_ok L 4 v) : narrow .byte (.int (Int32.ofInt v)) = .int (Int32.ofInt v) := by
  have h := jx_ok4.mp h
  show Value.int (Int32.ofInt v).toInt8.toInt32 = _
  congr 1
  rw [← Int32.toInt_inj, Int8.toInt_toInt32, Int32.toInt_toInt8, jx_ti (by omega)]
  exact Int.bmod_eq_of_le (by omega) (by omega)
theorem s_zast {M : jx_M} {G : List Nat} {pc : Nat} (d : decode (jx_cc M) pc = .ok (.bastore, 1)) : jx_S3 M G G 103 1 3 pc (pc + 1) jx_as :=
  jx_ast (t := 3) (by decide) (fun hx hb hK _ hv h1 h4 k => W.zast hx hb h1 ((jx_KT hK (by decide)).1 _ _) (fun q => by cases q) (by rw [arrV_size]; exact h4) rfl rfl d (fun H' e1 e2 e3 => k H' (by rw [jx_zn hv] at e1; exact e1) e2 e3))
theorem s_bast {M : jx_M} {G : List Nat} {pc : Nat} (d : decode (jx_cc M) pc = .ok (.bastore, 1)) : jx_S3 M G G 104 1 4 pc (pc + 1) jx_as :=
  jx_ast (t := 4) (by decide) (fun hx hb hK _ hv h1 h4 k => W.bast hx hb h1 ((jx_KT hK (by decide)).1 _ _) (fun q => by cases q) (by rw [arrV_size]; exact h4) rfl rfl d (fun H' e1 e2 e3 => k H' (by rw [jx_bn hv] at e1; exact e1) e2 e3))
theorem s_aast {M : jx_M} {G : List Nat} {pc : Nat} (k : Nat) (hk : k < 16) (d : decode (jx_cc M) pc = .ok (.aastore, 1)) (ht : 10 + k ∈ jx_atl) : jx_S3 M G G (100 + (10 + k)) 1 (10 + k) pc (pc + 1) jx_as := by
  have hty : jx_fty0 (10 + k) = .object (jx_cn k) := by
    unfold jx_fty0
    repeat rw [if_neg (by omega)]
    rw [Nat.add_sub_cancel_left]
  refine jx_ast (t := 10 + k) ht (fun {L A p l e R s m args below meth c Q H locs ls st a n f i v σ} hx hb hK hr hv h1 h4 kk => ?_)
  obtain ⟨hA1, hA2⟩ := jx_KT hK ht
  rw [hty] at hA1 hA2
  by_cases h0 : v = 0
  · have hv0 : jx_v L (10 + k) v = .null := by
      rw [jx_vr (by omega)]
      simp [jx_r, h0, va_rf]
    rw [hv0] at kk ⊢
    exact va_WaastN (C := jx_cn k) hx hb h1 (hA1 _ _) (fun q => by cases q) (by rw [arrV_size]; exact h4) rfl rfl d kk
  · obtain ⟨g1, g2⟩ := jx_obj (by omega) hv h0
    rw [jx_vobj (by omega) h0] at kk ⊢
    have ho := jx_rep_a hr g1 (by decide)
    unfold jx_at at ho
    rw [if_pos rfl, g2] at ho
    obtain ⟨cellV, c1, c2, c3, -⟩ := ho
    have hcls := (hK.1.1 k _ (jx_cls_at hk)).2
    obtain ⟨kA, comp, k1, k2, k3, -⟩ := hA2
    have hcomp : comp = (jx_D L).1 k := Option.some.inj (k3.symm.trans hcls.1)
    subst hcomp
    obtain ⟨kC, hkC, -⟩ := hcls.2
    have hnl := fun z => h4 (Or.inl z)
    have hnr := fun z => h4 (Or.inr z)
    exact W.aast hx hb h1 (fun q h => by cases h) (fun h => by cases h) k1 k2 rfl hkC ⟨hnl, by rw [arrV_size]; exact Nat.not_le.mp hnr⟩ c1 (fun q h => by rw [c3] at h; cases h) (by rw [c2]; exact hkC) (by rw [c2]; exact va_assign hcls) rfl rfl d kk
