/-! THE LAYOUT of the law's world -/
def jx_cs0 (n : Nat) : List (Int × Nat) := (jx_b_House 0 ++ jx_b_Model 11088) ++ [(((1000000 + n : Nat) : Int), 288)]
def jx_L0 (base b n : Nat) (D : va_G) (dA : Nat → ClassId) (st op : Int → Nat) (nc ns : Nat) : jx_L :=
  (jx_cs0 n, fun x g => if g = 288 then b else base + (x / 16).toNat + jx_ao g, fun x => (x % 16).toNat, D, dA, st, op, nc, ns)
theorem jx_id_div (r k : Nat) (hk : k < 16) : (jx_id r k / 16).toNat = r ∧ (jx_id r k % 16).toNat = k := by
  unfold jx_id
  omega
theorem jx_L0_std {base b n : Nat} {D : va_G} {dA : Nat → ClassId} {st op : Int → Nat} {nc ns : Nat} : jx_std (jx_L0 base b n D dA st op nc ns) jx_s0 := by
  refine ⟨⟨base, fun r k g hk hg => ?_⟩, fun r k hk => (jx_id_div r k hk).2, rfl⟩
  show (if g = 288 then b else base + (jx_id r k / 16).toNat + jx_ao g) = _
  rw [if_neg hg, (jx_id_div r k hk).1]
theorem jx_bk_all : jx_bk 0 (jx_b_House 0 ++ jx_b_Model 11088) := jx_bk_app (len_House 0) (bk_House 0) (jx_bk_eq (by decide) (bk_Model 11088 (by decide)))
theorem jx_len_all : (jx_b_House 0 ++ jx_b_Model 11088).length = 11176 := by rw [List.length_append, len_House, len_Model]
/-- a cell of the two: its place -/
theorem jx_bk_mem {q : Int × Nat} (h : q ∈ jx_b_House 0 ++ jx_b_Model 11088) : ∃ i r' k, i < 11176 ∧ (jx_b_House 0 ++ jx_b_Model 11088)[i]? = some q ∧ k < 16 ∧ q.1 = jx_id r' k ∧ r' + jx_ao q.2 = i ∧ 16 * r' + k ≠ 0 ∧ (q.2 = 0 ∨ (100 ≤ jx_ft q.2 ∧ q.2 < 288)) ∧ jx_fl q.2 ≤ 1000000 := by
  obtain ⟨i, hi⟩ := List.mem_iff_getElem?.mp h
  obtain ⟨r', k, a1, a2, a3, a4⟩ := jx_bk_all i q hi
  have hl := (List.getElem?_eq_some_iff.mp hi).1
  rw [jx_len_all] at hl
  exact ⟨i, r', k, hl, hi, a1, a2, by omega, a4⟩
theorem jx_L0_lok {base b n : Nat} {D : va_G} {dA : Nat → ClassId} {st op : Int → Nat} {nc ns : Nat} (hb : b < base) (hn : n ≤ 24576) (hop : ∀ i j : Int, 1 ≤ i → i ≤ 27 → 1 ≤ j → j ≤ 27 → op i = op j → i = j) : jx_lok (jx_L0 base b n D dA st op nc ns) (fun q => base ≤ q) := by
  have hcase : ∀ q, q ∈ jx_cs0 n → (q ∈ jx_b_House 0 ++ jx_b_Model 11088) ∨ q = (((1000000 + n : Nat) : Int), 288) := fun q hq => by
    rcases List.mem_append.mp hq with h | h
    · exact Or.inl h
    · exact Or.inr (List.mem_singleton.mp h)
  have hadr : ∀ (q : Int × Nat) (i r' k : Nat), k < 16 → q.1 = jx_id r' k → r' + jx_ao q.2 = i → q.2 ≠ 288 → jx_ad (jx_L0 base b n D dA st op nc ns) q.1 q.2 = base + i := fun q i r' k hk h1 h2 h3 => by
    show (if q.2 = 288 then b else base + (q.1 / 16).toNat + jx_ao q.2) = _
    rw [if_neg h3, h1, (jx_id_div r' k hk).1]
    omega
  have hscr : jx_ad (jx_L0 base b n D dA st op nc ns) ((1000000 + n : Nat) : Int) 288 = b := by show (if (288 : Nat) = 288 then b else base + ((((1000000 + n : Nat) : Int)) / 16).toNat + jx_ao 288) = b; rw [if_pos rfl]
  refine ⟨fun p q hp hq he => ?_, fun p hp hne => ?_, fun x g hx => ?_, fun x g hx hg => ?_, fun x hx => ?_, hop, fun x g hx => ?_⟩
  · rcases hcase p hp with h1 | rfl
    · obtain ⟨i, r1, k1, a1, a2, a3, a4, a5, a6, a7, a8⟩ := jx_bk_mem h1
      rw [hadr p i r1 k1 a3 a4 a5 (by rcases a7 with z | z <;> omega)] at he
      rcases hcase q hq with h2 | rfl
      · obtain ⟨j, r2, k2, b1, b2, b3, b4, b5, b6, b7, b8⟩ := jx_bk_mem h2
        rw [hadr q j r2 k2 b3 b4 b5 (by rcases b7 with z | z <;> omega)] at he
        have hij : i = j := by omega
        subst hij
        exact Option.some.inj (a2.symm.trans b2)
      · rw [hscr] at he
        omega
    · rw [hscr] at he
      rcases hcase q hq with h2 | rfl
      · obtain ⟨j, r2, k2, b1, b2, b3, b4, b5, b6, b7, b8⟩ := jx_bk_mem h2
        rw [hadr q j r2 k2 b3 b4 b5 (by rcases b7 with z | z <;> omega)] at he
        omega
      · rfl
  · rcases hcase p hp with h1 | rfl
    · obtain ⟨i, r1, k1, a1, a2, a3, a4, a5, a6, a7, a8⟩ := jx_bk_mem h1
      show base ≤ jx_ad _ p.1 p.2
      rw [hadr p i r1 k1 a3 a4 a5 (by rcases a7 with z | z <;> omega)]
      omega
    · exact absurd rfl hne
  · rcases hcase _ hx with h1 | h1
    · obtain ⟨i, r1, k1, a1, a2, a3, a4, a5, a6, a7, a8⟩ := jx_bk_mem h1
      have a4 : x = jx_id r1 k1 := a4
      rw [a4]
      unfold jx_id
      omega
    · cases h1
      omega
  · rcases hcase _ hx with h1 | h1
    · obtain ⟨i, r1, k1, a1, a2, a3, a4, a5, a6, a7, a8⟩ := jx_bk_mem h1
      have a7 : g = 0 ∨ (100 ≤ jx_ft g ∧ g < 288) := a7
      rcases a7 with z | z
      · exact absurd z hg
      · exact ⟨z.1, by omega⟩
    · cases h1
      exact ⟨by decide, by decide⟩
  · show (x % 16).toNat < jx_ncl
    have : jx_ncl = 16 := rfl
    omega
  · rcases hcase _ hx with h1 | h1
    · obtain ⟨i, r1, k1, a1, a2, a3, a4, a5, a6, a7, a8⟩ := jx_bk_mem h1
      have a7 : g = 0 ∨ (100 ≤ jx_ft g ∧ g < 288) := a7
      have a8 : jx_fl g ≤ 1000000 := a8
      unfold jx_ln
      rw [if_neg (by omega)]
      omega
    · cases h1
      unfold jx_ln
      rw [if_pos rfl]
      omega
