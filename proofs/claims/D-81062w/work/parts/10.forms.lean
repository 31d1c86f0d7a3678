/-! FORMS: assignments, counting, duplicated values -/
/-- x.f = e -/
theorem x_put {M : jx_M} {G : List Nat} {n2 t1 t2 pc p1 p2 p3 : Nat} {f g : jx_X Int} {h : Int → Int → jx_X Unit} (h1 : jx_XE M 0 G t1 pc p1 f) (h2 : jx_XE M n2 G t2 p1 p2 g) (h3 : jx_S2 M G G t1 t2 p2 p3 h) (hn : (if t1 = 2 then 2 else 1) ≤ n2) : jx_XS M G G pc p3 (jx_bind f fun a => jx_bind g fun b => h a b) := by
  intro L A p l e R s m args below meth c F hC env σ H locs ls hI o env2 σ2 hf k
  rcases jx_bind_inv hf with ⟨r, h4, rfl⟩ | ⟨a, e1, s1, h4, h5⟩
  · exact h1 L A p l e R s m args below meth c F hC env σ H locs ls [] hI (Nat.zero_le _) _ _ _ h4 k
  · refine h1 L A p l e R s m args below meth c F hC env σ H locs ls [] hI (Nat.zero_le _) _ _ _ h4 (fun hv H2 locs2 ls2 hI2 => ?_)
    have hn3 : jx_ct (jx_v L t1 a :: []) ≤ n2 := by rw [jx_ct_cons]; exact hn
    rcases jx_bind_inv h5 with ⟨r, h6, rfl⟩ | ⟨b, e2, s2, h6, h7⟩
    · exact h2 L A p l e R s m args below meth c F hC e1 s1 H2 locs2 ls2 _ hI2 hn3 _ _ _ h6 k
    · exact h2 L A p l e R s m args below meth c F hC e1 s1 H2 locs2 ls2 _ hI2 hn3 _ _ _ h6 (fun hb H3 locs3 ls3 hI3 => h3 L A p l e R s m args below meth c F hC e2 s2 H3 locs3 ls3 [] hI3 a b hv hb o env2 σ2 h7 k)
/-- x.f[i] = e -/
theorem x_ast {M : jx_M} {G : List Nat} {n2 n3 t1 t2 t3 pc p1 p2 p3 p4 : Nat} {f g g3 : jx_X Int} {h : Int → Int → Int → jx_X Unit} (h1 : jx_XE M 0 G t1 pc p1 f) (h2 : jx_XE M n2 G t2 p1 p2 g) (h3 : jx_XE M n3 G t3 p2 p3 g3) (h4 : jx_S3 M G G t1 t2 t3 p3 p4 h) (hn : (if t1 = 2 then 2 else 1) ≤ n2) (hn2 : (if t2 = 2 then 2 else 1) + n2 ≤ n3) :
    jx_XS M G G pc p4 (jx_bind f fun a => jx_bind g fun b => jx_bind g3 fun v => h a b v) := by
  intro L A p l e R s m args below meth c F hC env σ H locs ls hI o env2 σ2 hf k
  rcases jx_bind_inv hf with ⟨r, h5, rfl⟩ | ⟨a, e1, s1, h5, h6⟩
  · exact h1 L A p l e R s m args below meth c F hC env σ H locs ls [] hI (Nat.zero_le _) _ _ _ h5 k
  · refine h1 L A p l e R s m args below meth c F hC env σ H locs ls [] hI (Nat.zero_le _) _ _ _ h5 (fun hv H2 locs2 ls2 hI2 => ?_)
    have hn3 : jx_ct (jx_v L t1 a :: []) ≤ n2 := by rw [jx_ct_cons]; exact hn
    rcases jx_bind_inv h6 with ⟨r, h7, rfl⟩ | ⟨b, e2, s2, h7, h8⟩
    · exact h2 L A p l e R s m args below meth c F hC e1 s1 H2 locs2 ls2 _ hI2 hn3 _ _ _ h7 k
    · refine h2 L A p l e R s m args below meth c F hC e1 s1 H2 locs2 ls2 _ hI2 hn3 _ _ _ h7 (fun hb H3 locs3 ls3 hI3 => ?_)
      have hn4 : jx_ct (jx_v L t2 b :: jx_v L t1 a :: []) ≤ n3 := by rw [jx_ct_cons]; omega
      rcases jx_bind_inv h8 with ⟨r, h9, rfl⟩ | ⟨v, e3, s3, h9, h10⟩
      · exact h3 L A p l e R s m args below meth c F hC e2 s2 H3 locs3 ls3 _ hI3 hn4 _ _ _ h9 k
      · exact h3 L A p l e R s m args below meth c F hC e2 s2 H3 locs3 ls3 _ hI3 hn4 _ _ _ h9 (fun h11 H4 locs4 ls4 hI4 => h4 L A p l e R s m args below meth c F hC e3 s3 H4 locs4 ls4 [] hI4 a b v hv hb h11 o env2 σ2 h10 k)
/-- a value lies under: rows of one value with another below it (x, then x.f) -/
theorem jx_dupE {M : jx_M} {n : Nat} {G : List Nat} {t t2 pc p2 : Nat} {h : Int → jx_X Int} (d : decode (jx_cc M) pc = .ok (.dup, 1)) (ht : t ≠ 2) (h1 : jx_R1 M (n + 1) G t t2 (pc + 1) p2 h)
    {L : jx_L} {A : Nat → Prop} {p : Program} {l : Launch} {e : Env} {R : Room} {s : State} {m : MethodId} {args : Array Value} {below : List Frame} {meth : Method} {c : Code} {F : jx_R → jx_S → Prop} (hC : jx_C M L A p R s m args meth c)
    {env : jx_E} {σ : jx_S} {H : Heap} {locs : List Loc} {ls : Array Slot} {st : List Value} (hI : jx_I M L A G s env σ H locs ls) (hn : jx_ct st ≤ n) {v : Int} (hv : jx_ok L t v) {o : Except jx_R Int} {env2 : jx_E} {σ2 : jx_S} (hf : h v env σ = some (o, env2, σ2))
    (k : jx_kE M G t2 p2 L A p l e R s m args below meth c F (jx_v L t v :: st) o env2 σ2) : W p l e R s m args below meth c H locs (jx_nc L) (jx_ns L) (jx_Q L A (jx_rt M) F s below) (F0 m pc ls (jx_v L t v :: st)) := by
  refine lv_dup hC.1 hC.2.1 d (by rw [jx_cat, if_neg ht]) ?_
  exact h1 L A p l e R s m args below meth c F hC env σ H locs ls (jx_v L t v :: st) hI (by rw [jx_ct_cons, if_neg ht]; omega) v hv o env2 σ2 hf k
/-- x.f op= e: obj; dup; getfield; e; op; putfield -/
theorem x_updf {M : jx_M} {G : List Nat} {n2 t1 t t2 t3 pc p1 p2 p3 p4 p5 : Nat} {f fe : jx_X Int} {hg : Int → jx_X Int} {ho : Int → Int → jx_X Int} {hp : Int → Int → jx_X Unit} (h1 : jx_XE M 0 G t1 pc p1 f) (d : decode (jx_cc M) p1 = .ok (.dup, 1)) (h2 : jx_R1 M 1 G t1 t (p1 + 1) p2 hg) (h3 : jx_XE M n2 G t2 p2 p3 fe) (h4 : jx_R2 M 1 G t t2 t3 p3 p4 ho) (h5 : jx_S2 M G G t1 t3 p4 p5 hp) (ht : t1 ≠ 2) (hn : (if t = 2 then 2 else 1) + 1 ≤ n2) :
    jx_XS M G G pc p5 (jx_bind f fun x => jx_bind (hg x) fun a => jx_bind fe fun b => jx_bind (ho a b) fun v => hp x v) := by
  intro L A p l e R s m args below meth c F hC env σ H locs ls hI o env2 σ2 hf k
  rcases jx_bind_inv hf with ⟨r, q1, rfl⟩ | ⟨x, e1, s1, q1, q2⟩
  · exact h1 L A p l e R s m args below meth c F hC env σ H locs ls [] hI (Nat.zero_le _) _ _ _ q1 k
  refine h1 L A p l e R s m args below meth c F hC env σ H locs ls [] hI (Nat.zero_le _) _ _ _ q1 (fun hx H2 locs2 ls2 hI2 => ?_)
  have hc1 : jx_ct [jx_v L t1 x] ≤ 1 := by rw [jx_ct_cons, if_neg ht]; exact Nat.le_refl _
  rcases jx_bind_inv q2 with ⟨r, q3, rfl⟩ | ⟨a, e2, s2, q3, q4⟩
  · exact jx_dupE (n := 0) d ht h2 hC hI2 (Nat.zero_le _) hx q3 k
  refine jx_dupE (n := 0) d ht h2 hC hI2 (Nat.zero_le _) hx q3 (fun ha H3 locs3 ls3 hI3 => ?_)
  have hc2 : jx_ct [jx_v L t a, jx_v L t1 x] ≤ n2 := by rw [jx_ct_cons]; omega
  rcases jx_bind_inv q4 with ⟨r, q5, rfl⟩ | ⟨b, e3, s3, q5, q6⟩
  · exact h3 L A p l e R s m args below meth c F hC e2 s2 H3 locs3 ls3 _ hI3 hc2 _ _ _ q5 k
  refine h3 L A p l e R s m args below meth c F hC e2 s2 H3 locs3 ls3 _ hI3 hc2 _ _ _ q5 (fun hb H4 locs4 ls4 hI4 => ?_)
  rcases jx_bind_inv q6 with ⟨r, q7, rfl⟩ | ⟨v, e4, s4, q7, q8⟩
  · exact h4 L A p l e R s m args below meth c F hC e3 s3 H4 locs4 ls4 _ hI4 hc1 a b ha hb _ _ _ q7 k
  exact h4 L A p l e R s m args below meth c F hC e3 s3 H4 locs4 ls4 _ hI4 hc1 a b ha hb _ _ _ q7 (fun hv H5 locs5 ls5 hI5 => h5 L A p l e R s m args below meth c F hC e4 s4 H5 locs5 ls5 [] hI5 x v hx hv o env2 σ2 q8 k)
/-- x.f++ as a value (the old one): obj; dup; getfield; dup_x1; e; op; putfield -/
theorem x_postf {M : jx_M} {n n2 : Nat} {G : List Nat} {t1 t t2 t3 pc p1 p2 p3 p4 p5 : Nat} {f fe : jx_X Int} {hg : Int → jx_X Int} {ho : Int → Int → jx_X Int} {hp : Int → Int → jx_X Unit} (h1 : jx_XE M n G t1 pc p1 f) (d : decode (jx_cc M) p1 = .ok (.dup, 1)) (h2 : jx_R1 M (n + 1) G t1 t (p1 + 1) p2 hg) (d2 : decode (jx_cc M) p2 = .ok (.dup_x1, 1))
    (h3 : jx_XE M n2 G t2 (p2 + 1) p3 fe) (h4 : jx_R2 M (n + 2) G t t2 t3 p3 p4 ho) (h5 : jx_S2 M G G t1 t3 p4 p5 hp) (ht1 : t1 ≠ 2) (ht : t ≠ 2) (hn : n + 3 ≤ n2) :
    jx_XE M n G t pc p5 (jx_bind f fun x => jx_bind (hg x) fun a => jx_bind fe fun b => jx_bind (ho a b) fun v => jx_bind (hp x v) fun _ => jx_pure a) := by
  intro L A p l e R s m args below meth c F hC env σ H locs ls st hI hst o env2 σ2 hf k
  rcases jx_bind_inv hf with ⟨r, q1, rfl⟩ | ⟨x, e1, s1, q1, q2⟩
  · exact h1 L A p l e R s m args below meth c F hC env σ H locs ls st hI hst _ _ _ q1 k
  refine h1 L A p l e R s m args below meth c F hC env σ H locs ls st hI hst _ _ _ q1 (fun hx H2 locs2 ls2 hI2 => ?_)
  rcases jx_bind_inv q2 with ⟨r, q3, rfl⟩ | ⟨a, e2, s2, q3, q4⟩
  · exact jx_dupE d ht1 h2 hC hI2 hst hx q3 k
  refine jx_dupE d ht1 h2 hC hI2 hst hx q3 (fun ha H3 locs3 ls3 hI3 => ?_)
  refine lv_dup_x1 hC.1 hC.2.1 d2 (by rw [jx_cat, if_neg ht]) (by rw [jx_cat, if_neg ht1]) ?_
  have hc1 : jx_ct (jx_v L t1 x :: jx_v L t a :: st) ≤ n + 2 := by rw [jx_ct_cons, jx_ct_cons, if_neg ht1, if_neg ht]; omega
  have hc2 : jx_ct (jx_v L t a :: jx_v L t1 x :: jx_v L t a :: st) ≤ n2 := by rw [jx_ct_cons, if_neg ht]; omega
  rcases jx_bind_inv q4 with ⟨r, q5, rfl⟩ | ⟨b, e3, s3, q5, q6⟩
  · exact h3 L A p l e R s m args below meth c F hC e2 s2 H3 locs3 ls3 _ hI3 hc2 _ _ _ q5 k
  refine h3 L A p l e R s m args below meth c F hC e2 s2 H3 locs3 ls3 _ hI3 hc2 _ _ _ q5 (fun hb H4 locs4 ls4 hI4 => ?_)
  rcases jx_bind_inv q6 with ⟨r, q7, rfl⟩ | ⟨v, e4, s4, q7, q8⟩
  · exact h4 L A p l e R s m args below meth c F hC e3 s3 H4 locs4 ls4 _ hI4 hc1 a b ha hb _ _ _ q7 k
  refine h4 L A p l e R s m args below meth c F hC e3 s3 H4 locs4 ls4 _ hI4 hc1 a b ha hb _ _ _ q7 (fun hv H5 locs5 ls5 hI5 => ?_)
  rcases jx_bind_inv q8 with ⟨r, q9, rfl⟩ | ⟨u, e5, s5, q9, q10⟩
  · exact h5 L A p l e R s m args below meth c F hC e4 s4 H5 locs5 ls5 _ hI5 x v hx hv _ _ _ q9 k
  cases q10
  exact h5 L A p l e R s m args below meth c F hC e4 s4 H5 locs5 ls5 _ hI5 x v hx hv _ _ _ q9 (fun H6 locs6 ls6 hI6 => k ha H6 locs6 ls6 hI6)
/-- x.f counted down, as a value (the new one): obj; dup; getfield; e; op; dup_x1; putfield -/
theorem x_pref {M : jx_M} {n n2 : Nat} {G : List Nat} {t1 t t2 t3 pc p1 p2 p3 p4 p5 : Nat} {f fe : jx_X Int} {hg : Int → jx_X Int} {ho : Int → Int → jx_X Int} {hp : Int → Int → jx_X Unit} (h1 : jx_XE M n G t1 pc p1 f) (d : decode (jx_cc M) p1 = .ok (.dup, 1)) (h2 : jx_R1 M (n + 1) G t1 t (p1 + 1) p2 hg)
    (h3 : jx_XE M n2 G t2 p2 p3 fe) (h4 : jx_R2 M (n + 1) G t t2 t3 p3 p4 ho) (d2 : decode (jx_cc M) p4 = .ok (.dup_x1, 1)) (h5 : jx_S2 M G G t1 t3 (p4 + 1) p5 hp) (ht1 : t1 ≠ 2) (ht : t ≠ 2) (ht3 : t3 ≠ 2) (hn : n + 2 ≤ n2) :
    jx_XE M n G t3 pc p5 (jx_bind f fun x => jx_bind (hg x) fun a => jx_bind fe fun b => jx_bind (ho a b) fun v => jx_bind (hp x v) fun _ => jx_pure v) := by
  intro L A p l e R s m args below meth c F hC env σ H locs ls st hI hst o env2 σ2 hf k
  rcases jx_bind_inv hf with ⟨r, q1, rfl⟩ | ⟨x, e1, s1, q1, q2⟩
  · exact h1 L A p l e R s m args below meth c F hC env σ H locs ls st hI hst _ _ _ q1 k
  refine h1 L A p l e R s m args below meth c F hC env σ H locs ls st hI hst _ _ _ q1 (fun hx H2 locs2 ls2 hI2 => ?_)
  rcases jx_bind_inv q2 with ⟨r, q3, rfl⟩ | ⟨a, e2, s2, q3, q4⟩
  · exact jx_dupE d ht1 h2 hC hI2 hst hx q3 k
  refine jx_dupE d ht1 h2 hC hI2 hst hx q3 (fun ha H3 locs3 ls3 hI3 => ?_)
  have hc1 : jx_ct (jx_v L t1 x :: st) ≤ n + 1 := by rw [jx_ct_cons, if_neg ht1]; omega
  have hc2 : jx_ct (jx_v L t a :: jx_v L t1 x :: st) ≤ n2 := by rw [jx_ct_cons, if_neg ht]; omega
  rcases jx_bind_inv q4 with ⟨r, q5, rfl⟩ | ⟨b, e3, s3, q5, q6⟩
  · exact h3 L A p l e R s m args below meth c F hC e2 s2 H3 locs3 ls3 _ hI3 hc2 _ _ _ q5 k
  refine h3 L A p l e R s m args below meth c F hC e2 s2 H3 locs3 ls3 _ hI3 hc2 _ _ _ q5 (fun hb H4 locs4 ls4 hI4 => ?_)
  rcases jx_bind_inv q6 with ⟨r, q7, rfl⟩ | ⟨v, e4, s4, q7, q8⟩
  · exact h4 L A p l e R s m args below meth c F hC e3 s3 H4 locs4 ls4 _ hI4 hc1 a b ha hb _ _ _ q7 k
  refine h4 L A p l e R s m args below meth c F hC e3 s3 H4 locs4 ls4 _ hI4 hc1 a b ha hb _ _ _ q7 (fun hv H5 locs5 ls5 hI5 => ?_)
  refine lv_dup_x1 hC.1 hC.2.1 d2 (by rw [jx_cat, if_neg ht3]) (by rw [jx_cat, if_neg ht1]) ?_
  rcases jx_bind_inv q8 with ⟨r, q9, rfl⟩ | ⟨u, e5, s5, q9, q10⟩
  · exact h5 L A p l e R s m args below meth c F hC e4 s4 H5 locs5 ls5 _ hI5 x v hx hv _ _ _ q9 k
  cases q10
  exact h5 L A p l e R s m args below meth c F hC e4 s4 H5 locs5 ls5 _ hI5 x v hx hv _ _ _ q9 (fun H6 locs6 ls6 hI6 => k hv H6 locs6 ls6 hI6)
/-- a[i] op= e: arr; idx; dup2; iaload; e; op; iastore -/
theorem x_upda {M : jx_M} {G : List Nat} {n2 t1 t t2 t3 pc p0 p1 p2 p3 p4 p5 : Nat} {f g fe : jx_X Int} {hg ho : Int → Int → jx_X Int} {hp : Int → Int → Int → jx_X Unit} (h0 : jx_XE M 0 G t1 pc p0 f) (h1 : jx_XE M 1 G 1 p0 p1 g) (d : decode (jx_cc M) p1 = .ok (.dup2, 1)) (h2 : jx_R2 M 2 G t1 1 t (p1 + 1) p2 hg)
    (h3 : jx_XE M n2 G t2 p2 p3 fe) (h4 : jx_R2 M 2 G t t2 t3 p3 p4 ho) (h5 : jx_S3 M G G t1 1 t3 p4 p5 hp) (ht1 : t1 ≠ 2) (hn : (if t = 2 then 2 else 1) + 2 ≤ n2) :
    jx_XS M G G pc p5 (jx_bind f fun x => jx_bind g fun i => jx_bind (hg x i) fun a => jx_bind fe fun b => jx_bind (ho a b) fun v => hp x i v) := by
  intro L A p l e R s m args below meth c F hC env σ H locs ls hI o env2 σ2 hf k
  rcases jx_bind_inv hf with ⟨r, q1, rfl⟩ | ⟨x, e1, s1, q1, q2⟩
  · exact h0 L A p l e R s m args below meth c F hC env σ H locs ls [] hI (Nat.zero_le _) _ _ _ q1 k
  refine h0 L A p l e R s m args below meth c F hC env σ H locs ls [] hI (Nat.zero_le _) _ _ _ q1 (fun hx H2 locs2 ls2 hI2 => ?_)
  have hc0 : jx_ct [jx_v L t1 x] ≤ 1 := by rw [jx_ct_cons, if_neg ht1]; exact Nat.le_refl _
  rcases jx_bind_inv q2 with ⟨r, q3, rfl⟩ | ⟨i, e2, s2, q3, q4⟩
  · exact h1 L A p l e R s m args below meth c F hC e1 s1 H2 locs2 ls2 _ hI2 hc0 _ _ _ q3 k
  refine h1 L A p l e R s m args below meth c F hC e1 s1 H2 locs2 ls2 _ hI2 hc0 _ _ _ q3 (fun hi H3 locs3 ls3 hI3 => ?_)
  refine lv_dup2_11 hC.1 hC.2.1 d (by rw [jx_cat, if_neg (by decide)]) (by rw [jx_cat, if_neg ht1]) ?_
  have hc1 : jx_ct [jx_v L 1 i, jx_v L t1 x] ≤ 2 := by rw [jx_ct_cons, if_neg (by decide)]; omega
  rcases jx_bind_inv q4 with ⟨r, q5, rfl⟩ | ⟨a, e3, s3, q5, q6⟩
  · exact h2 L A p l e R s m args below meth c F hC e2 s2 H3 locs3 ls3 _ hI3 hc1 x i hx hi _ _ _ q5 k
  refine h2 L A p l e R s m args below meth c F hC e2 s2 H3 locs3 ls3 _ hI3 hc1 x i hx hi _ _ _ q5 (fun ha H4 locs4 ls4 hI4 => ?_)
  have hc2 : jx_ct [jx_v L t a, jx_v L 1 i, jx_v L t1 x] ≤ n2 := by rw [jx_ct_cons]; omega
  rcases jx_bind_inv q6 with ⟨r, q7, rfl⟩ | ⟨b, e4, s4, q7, q8⟩
  · exact h3 L A p l e R s m args below meth c F hC e3 s3 H4 locs4 ls4 _ hI4 hc2 _ _ _ q7 k
  refine h3 L A p l e R s m args below meth c F hC e3 s3 H4 locs4 ls4 _ hI4 hc2 _ _ _ q7 (fun hb H5 locs5 ls5 hI5 => ?_)
  rcases jx_bind_inv q8 with ⟨r, q9, rfl⟩ | ⟨v, e5, s5, q9, q10⟩
  · exact h4 L A p l e R s m args below meth c F hC e4 s4 H5 locs5 ls5 _ hI5 hc1 a b ha hb _ _ _ q9 k
  exact h4 L A p l e R s m args below meth c F hC e4 s4 H5 locs5 ls5 _ hI5 hc1 a b ha hb _ _ _ q9 (fun hv H6 locs6 ls6 hI6 => h5 L A p l e R s m args below meth c F hC e5 s5 H6 locs6 ls6 [] hI6 x i v hx hi hv o env2 σ2 q10 k)
/-- a[i]++ as a value (the old one): arr; idx; dup2; iaload; dup_x2; e; op; iastore -/
theorem x_posta {M : jx_M} {n n1 n2 : Nat} {G : List Nat} {t1 t t2 t3 pc p0 p1 p2 p3 p4 p5 : Nat} {f g fe : jx_X Int} {hg ho : Int → Int → jx_X Int} {hp : Int → Int → Int → jx_X Unit} (h0 : jx_XE M n G t1 pc p0 f) (h1 : jx_XE M n1 G 1 p0 p1 g) (d : decode (jx_cc M) p1 = .ok (.dup2, 1)) (h2 : jx_R2 M (n + 2) G t1 1 t (p1 + 1) p2 hg) (d2 : decode (jx_cc M) p2 = .ok (.dup_x2, 1))
    (h3 : jx_XE M n2 G t2 (p2 + 1) p3 fe) (h4 : jx_R2 M (n + 3) G t t2 t3 p3 p4 ho) (h5 : jx_S3 M G G t1 1 t3 p4 p5 hp) (ht1 : t1 ≠ 2) (ht : t ≠ 2) (hn1 : n + 1 ≤ n1) (hn : n + 4 ≤ n2) :
    jx_XE M n G t pc p5 (jx_bind f fun x => jx_bind g fun i => jx_bind (hg x i) fun a => jx_bind fe fun b => jx_bind (ho a b) fun v => jx_bind (hp x i v) fun _ => jx_pure a) := by
  intro L A p l e R s m args below meth c F hC env σ H locs ls st hI hst o env2 σ2 hf k
  rcases jx_bind_inv hf with ⟨r, q1, rfl⟩ | ⟨x, e1, s1, q1, q2⟩
  · exact h0 L A p l e R s m args below meth c F hC env σ H locs ls st hI hst _ _ _ q1 k
  refine h0 L A p l e R s m args below meth c F hC env σ H locs ls st hI hst _ _ _ q1 (fun hx H2 locs2 ls2 hI2 => ?_)
  have hc0 : jx_ct (jx_v L t1 x :: st) ≤ n1 := by rw [jx_ct_cons, if_neg ht1]; omega
  rcases jx_bind_inv q2 with ⟨r, q3, rfl⟩ | ⟨i, e2, s2, q3, q4⟩
  · exact h1 L A p l e R s m args below meth c F hC e1 s1 H2 locs2 ls2 _ hI2 hc0 _ _ _ q3 k
  refine h1 L A p l e R s m args below meth c F hC e1 s1 H2 locs2 ls2 _ hI2 hc0 _ _ _ q3 (fun hi H3 locs3 ls3 hI3 => ?_)
  refine lv_dup2_11 hC.1 hC.2.1 d (by rw [jx_cat, if_neg (by decide)]) (by rw [jx_cat, if_neg ht1]) ?_
  have hc1 : jx_ct (jx_v L 1 i :: jx_v L t1 x :: st) ≤ n + 2 := by rw [jx_ct_cons, jx_ct_cons, if_neg (by decide), if_neg ht1]; omega
  rcases jx_bind_inv q4 with ⟨r, q5, rfl⟩ | ⟨a, e3, s3, q5, q6⟩
  · exact h2 L A p l e R s m args below meth c F hC e2 s2 H3 locs3 ls3 _ hI3 hc1 x i hx hi _ _ _ q5 k
  refine h2 L A p l e R s m args below meth c F hC e2 s2 H3 locs3 ls3 _ hI3 hc1 x i hx hi _ _ _ q5 (fun ha H4 locs4 ls4 hI4 => ?_)
  refine lv_dup_x2 hC.1 hC.2.1 d2 (by rw [jx_cat, if_neg ht]) (by rw [jx_cat, if_neg (by decide)]) (by rw [jx_cat, if_neg ht1]) ?_
  have hc3 : jx_ct (jx_v L 1 i :: jx_v L t1 x :: jx_v L t a :: st) ≤ n + 3 := by rw [jx_ct_cons, jx_ct_cons, jx_ct_cons, if_neg (by decide), if_neg ht1, if_neg ht]; omega
  have hc2 : jx_ct (jx_v L t a :: jx_v L 1 i :: jx_v L t1 x :: jx_v L t a :: st) ≤ n2 := by rw [jx_ct_cons, if_neg ht]; omega
  rcases jx_bind_inv q6 with ⟨r, q7, rfl⟩ | ⟨b, e4, s4, q7, q8⟩
  · exact h3 L A p l e R s m args below meth c F hC e3 s3 H4 locs4 ls4 _ hI4 hc2 _ _ _ q7 k
  refine h3 L A p l e R s m args below meth c F hC e3 s3 H4 locs4 ls4 _ hI4 hc2 _ _ _ q7 (fun hb H5 locs5 ls5 hI5 => ?_)
  rcases jx_bind_inv q8 with ⟨r, q9, rfl⟩ | ⟨v, e5, s5, q9, q10⟩
  · exact h4 L A p l e R s m args below meth c F hC e4 s4 H5 locs5 ls5 _ hI5 hc3 a b ha hb _ _ _ q9 k
  refine h4 L A p l e R s m args below meth c F hC e4 s4 H5 locs5 ls5 _ hI5 hc3 a b ha hb _ _ _ q9 (fun hv H6 locs6 ls6 hI6 => ?_)
  rcases jx_bind_inv q10 with ⟨r, q11, rfl⟩ | ⟨u, e6, s6, q11, q12⟩
  · exact h5 L A p l e R s m args below meth c F hC e5 s5 H6 locs6 ls6 _ hI6 x i v hx hi hv _ _ _ q11 k
  cases q12
  exact h5 L A p l e R s m args below meth c F hC e5 s5 H6 locs6 ls6 _ hI6 x i v hx hi hv _ _ _ q11 (fun H7 locs7 ls7 hI7 => k ha H7 locs7 ls7 hI7)
/-- an element counted down, as a value (the new one): arr; idx; dup2; iaload; e; op; dup_x2; iastore -/
theorem x_prea {M : jx_M} {n n1 n2 : Nat} {G : List Nat} {t1 t t2 t3 pc p0 p1 p2 p3 p4 p5 : Nat} {f g fe : jx_X Int} {hg ho : Int → Int → jx_X Int} {hp : Int → Int → Int → jx_X Unit} (h0 : jx_XE M n G t1 pc p0 f) (h1 : jx_XE M n1 G 1 p0 p1 g) (d : decode (jx_cc M) p1 = .ok (.dup2, 1)) (h2 : jx_R2 M (n + 2) G t1 1 t (p1 + 1) p2 hg)
    (h3 : jx_XE M n2 G t2 p2 p3 fe) (h4 : jx_R2 M (n + 2) G t t2 t3 p3 p4 ho) (d2 : decode (jx_cc M) p4 = .ok (.dup_x2, 1)) (h5 : jx_S3 M G G t1 1 t3 (p4 + 1) p5 hp) (ht1 : t1 ≠ 2) (ht : t ≠ 2) (ht3 : t3 ≠ 2) (hn1 : n + 1 ≤ n1) (hn : n + 3 ≤ n2) :
    jx_XE M n G t3 pc p5 (jx_bind f fun x => jx_bind g fun i => jx_bind (hg x i) fun a => jx_bind fe fun b => jx_bind (ho a b) fun v => jx_bind (hp x i v) fun _ => jx_pure v) := by
  intro L A p l e R s m args below meth c F hC env σ H locs ls st hI hst o env2 σ2 hf k
  rcases jx_bind_inv hf with ⟨r, q1, rfl⟩ | ⟨x, e1, s1, q1, q2⟩
  · exact h0 L A p l e R s m args below meth c F hC env σ H locs ls st hI hst _ _ _ q1 k
  refine h0 L A p l e R s m args below meth c F hC env σ H locs ls st hI hst _ _ _ q1 (fun hx H2 locs2 ls2 hI2 => ?_)
  have hc0 : jx_ct (jx_v L t1 x :: st) ≤ n1 := by rw [jx_ct_cons, if_neg ht1]; omega
  rcases jx_bind_inv q2 with ⟨r, q3, rfl⟩ | ⟨i, e2, s2, q3, q4⟩
  · exact h1 L A p l e R s m args below meth c F hC e1 s1 H2 locs2 ls2 _ hI2 hc0 _ _ _ q3 k
  refine h1 L A p l e R s m args below meth c F hC e1 s1 H2 locs2 ls2 _ hI2 hc0 _ _ _ q3 (fun hi H3 locs3 ls3 hI3 => ?_)
  refine lv_dup2_11 hC.1 hC.2.1 d (by rw [jx_cat, if_neg (by decide)]) (by rw [jx_cat, if_neg ht1]) ?_
  have hc1 : jx_ct (jx_v L 1 i :: jx_v L t1 x :: st) ≤ n + 2 := by rw [jx_ct_cons, jx_ct_cons, if_neg (by decide), if_neg ht1]; omega
  rcases jx_bind_inv q4 with ⟨r, q5, rfl⟩ | ⟨a, e3, s3, q5, q6⟩
  · exact h2 L A p l e R s m args below meth c F hC e2 s2 H3 locs3 ls3 _ hI3 hc1 x i hx hi _ _ _ q5 k
  refine h2 L A p l e R s m args below meth c F hC e2 s2 H3 locs3 ls3 _ hI3 hc1 x i hx hi _ _ _ q5 (fun ha H4 locs4 ls4 hI4 => ?_)
  have hc2 : jx_ct (jx_v L t a :: jx_v L 1 i :: jx_v L t1 x :: st) ≤ n2 := by rw [jx_ct_cons, if_neg ht]; omega
  rcases jx_bind_inv q6 with ⟨r, q7, rfl⟩ | ⟨b, e4, s4, q7, q8⟩
  · exact h3 L A p l e R s m args below meth c F hC e3 s3 H4 locs4 ls4 _ hI4 hc2 _ _ _ q7 k
  refine h3 L A p l e R s m args below meth c F hC e3 s3 H4 locs4 ls4 _ hI4 hc2 _ _ _ q7 (fun hb H5 locs5 ls5 hI5 => ?_)
  rcases jx_bind_inv q8 with ⟨r, q9, rfl⟩ | ⟨v, e5, s5, q9, q10⟩
  · exact h4 L A p l e R s m args below meth c F hC e4 s4 H5 locs5 ls5 _ hI5 hc1 a b ha hb _ _ _ q9 k
  refine h4 L A p l e R s m args below meth c F hC e4 s4 H5 locs5 ls5 _ hI5 hc1 a b ha hb _ _ _ q9 (fun hv H6 locs6 ls6 hI6 => ?_)
  refine lv_dup_x2 hC.1 hC.2.1 d2 (by rw [jx_cat, if_neg ht3]) (by rw [jx_cat, if_neg (by decide)]) (by rw [jx_cat, if_neg ht1]) ?_
  rcases jx_bind_inv q10 with ⟨r, q11, rfl⟩ | ⟨u, e6, s6, q11, q12⟩
  · exact h5 L A p l e R s m args below meth c F hC e5 s5 H6 locs6 ls6 _ hI6 x i v hx hi hv _ _ _ q11 k
  cases q12
  exact h5 L A p l e R s m args below meth c F hC e5 s5 H6 locs6 ls6 _ hI6 x i v hx hi hv _ _ _ q11 (fun H7 locs7 ls7 hI7 => k hv H7 locs7 ls7 hI7)
/-- n++ of a local as a value (the old one): iload n; iinc n 1 -/
theorem x_postl {M : jx_M} {n : Nat} {G : List Nat} {pc p1 : Nat} {f : jx_X Int} (i : Nat) (v : Int) (h1 : jx_XE M n G 1 pc p1 f) (d : decode (jx_cc M) p1 = .ok (.iinc i v, 3)) (hi : i < jx_nl M) (hG : G[i]? = some 1) : jx_XE M n G 1 pc (p1 + 3) (jx_bind f fun a => jx_bind (jx_inc i v) fun _ => jx_pure a) := by
  intro L A p l e R s m args below meth c F hC env σ H locs ls st hI hst o env2 σ2 hf k
  rcases jx_bind_inv hf with ⟨r, q1, rfl⟩ | ⟨x, e1, s1, q1, q2⟩
  · exact h1 L A p l e R s m args below meth c F hC env σ H locs ls st hI hst _ _ _ q1 k
  cases q2
  refine h1 L A p l e R s m args below meth c F hC env σ H locs ls st hI hst _ _ _ q1 (fun hx H2 locs2 ls2 hI2 => ?_)
  obtain ⟨i1, i2, i3, i4⟩ := hI2
  have b := (i4.2.2.2 i 1 hG (by decide)).1
  have hh : lv_has ls2 (jx_nl M) ((i, .int (Int32.ofInt (e1.getD i 0))) :: jx_all ls2) := by
    have h9 := jx_all_has i4.1 i4.2.2.1
    refine ⟨h9.1, h9.2.1, fun q hq => ?_⟩
    rcases List.mem_cons.mp hq with rfl | hq
    · exact b
    · exact h9.2.2 q hq
  refine lv_iinc (k := 0) hC.1 hC.2.1 d hh rfl rfl hi rfl (fun ls3 h => k hx H2 locs2 ls3 ⟨i1, i2, i3, jx_hl_inc i4 hi hG (jx_rng _) ?_⟩)
  rw [jx_v1, j_add, Int32.ofInt_toInt]
  exact h
/-- an expression's value is dropped -/
theorem s_pop {M : jx_M} {G : List Nat} {t pc : Nat} (d : decode (jx_cc M) pc = .ok (.pop, 1)) (ht : t ≠ 2) : jx_S1 M G G t pc (pc + 1) (fun _ => jx_pure ()) := by
  intro L A p l e R s m args below meth c F hC env σ H locs ls hI v hv o env2 σ2 hf k
  cases hf
  exact lv_pop hC.1 hC.2.1 d (by rw [jx_cat, if_neg ht]) (k H locs ls hI)
/-- switch: bodies by a table -/
def jx_tab (lo : Int) (b : List (jx_X Unit)) (d : jx_X Unit) (v : Int) : jx_X Unit := if lo ≤ v ∧ v < lo + b.length then b.getD (v - lo).toNat d else d
def jx_allS (M : jx_M) (G G2 : List Nat) (pe : Nat) : List Nat → List (jx_X Unit) → Prop
  | t :: ts, b :: bs => jx_XS M G G2 t pe b ∧ jx_allS M G G2 pe ts bs
  | [], [] => True
  | _, _ => False
theorem jx_allS_at {M : jx_M} {G G2 : List Nat} {pe : Nat} : ∀ {ts : List Nat} {bs : List (jx_X Unit)}, jx_allS M G G2 pe ts bs → ts.length = bs.length ∧ ∀ (k : Nat) (b : jx_X Unit), bs[k]? = some b → ∃ t, ts[k]? = some t ∧ jx_XS M G G2 t pe b
  | [], [], _ => ⟨rfl, fun k b h => by simp at h⟩
  | [], _ :: _, h => by simp [jx_allS] at h
  | _ :: _, [], h => by simp [jx_allS] at h
  | t :: ts, b :: bs, h => by
    obtain ⟨h1, h2⟩ := h
    obtain ⟨h3, h4⟩ := jx_allS_at h2
    refine ⟨by simp [h3], fun k x hk => ?_⟩
    cases k with
    | zero => simp at hk; subst hk; exact ⟨t, rfl, h1⟩
    | succ k => exact h4 k x (by simpa using hk)
theorem s_switch {M : jx_M} {G G2 : List Nat} {pc pe pd len : Nat} {dflt lo hi : Int} {offs : Array Int} {ts : List Nat} {bs : List (jx_X Unit)} {bd : jx_X Unit} (d : decode (jx_cc M) pc = .ok (.tableswitch dflt lo hi offs, len)) (ho : offs.toList = ts.map fun (t : Nat) => (t : Int) - (pc : Int)) (hd : (pc : Int) + dflt = (pd : Int)) (hlen : hi = lo + (bs.length : Int) - 1)
    (hs : jx_allS M G G2 pe ts bs) (hdf : jx_XS M G G2 pd pe bd) : jx_S1 M G G2 1 pc pe (jx_tab lo bs bd) := by
  intro L A p l e R s m args below meth c F hC env σ H locs ls hI v hv o env2 σ2 hf k
  have hv := jx_ok1.mp hv
  rw [jx_v1]
  unfold jx_tab at hf
  by_cases hr : lo ≤ v ∧ v < lo + bs.length
  · rw [if_pos hr] at hf
    have hl : (v - lo).toNat < bs.length := by omega
    obtain ⟨h1, h2⟩ := jx_allS_at hs
    obtain ⟨t, ht, hx⟩ := h2 (v - lo).toNat (bs[(v - lo).toNat]'hl) (List.getElem?_eq_getElem hl)
    have hoff : offs[(v - lo).toNat]? = some ((t : Int) - (pc : Int)) := by
      rw [← Array.getElem?_toList, ho, List.getElem?_map, ht]; rfl
    refine lv_tableIn (off := (t : Int) - (pc : Int)) (tgt := t) hC.1 hC.2.1 d (by rw [jx_ti hv]; omega) (by rw [jx_ti hv]; omega) (by rw [jx_ti hv]; exact hoff) (by omega) ?_
    refine hx L A p l e R s m args below meth c F hC env σ H locs ls hI o env2 σ2 ?_ k
    rw [← hf, List.getD_eq_getElem?_getD, List.getElem?_eq_getElem hl]
    rfl
  · rw [if_neg hr] at hf
    refine lv_tableOut (tgt := pd) hC.1 hC.2.1 d (by rw [jx_ti hv]; omega) hd ?_
    exact hdf L A p l e R s m args below meth c F hC env σ H locs ls hI o env2 σ2 hf k
