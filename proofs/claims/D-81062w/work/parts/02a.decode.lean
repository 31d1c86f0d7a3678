/-! DECODING by bytes: one pass over a method's bytes, then a row an instruction -/
/-- the bytes bs stand at q -/
def jx_B (code : ByteArray) (q : Nat) (bs : List Nat) : Prop := ∀ j b, bs[j]? = some b → code.data.toList[q + j]?.map UInt8.toNat = some b
def jx_take : List UInt8 → List Nat → Option (List UInt8)
  | l, [] => some l
  | [], _ :: _ => none
  | a :: l, b :: r => if a.toNat = b then jx_take l r else none
def jx_chk : List UInt8 → Nat → List (Nat × List Nat) → Bool
  | _, _, [] => true
  | l, pc, (q, bs) :: r => if q = pc then (match jx_take l bs with
    | some l2 => jx_chk l2 (pc + bs.length) r
    | none => false) else false
theorem jx_take_spec : ∀ (bs : List Nat) (l l2 : List UInt8), jx_take l bs = some l2 → ∃ xs, l = xs ++ l2 ∧ xs.map UInt8.toNat = bs
  | [], l, l2, h => by
    simp only [jx_take, Option.some.injEq] at h
    exact ⟨[], by simp [h], rfl⟩
  | b :: r, [], l2, h => by simp [jx_take] at h
  | b :: r, a :: l, l2, h => by
    simp only [jx_take] at h
    split at h
    · rename_i hab
      obtain ⟨xs, h1, h2⟩ := jx_take_spec r l l2 h
      exact ⟨a :: xs, by simp [h1], by simp [h2, hab]⟩
    · cases h
theorem jx_chk_spec {code : ByteArray} : ∀ (P : List (Nat × List Nat)) (l pre : List UInt8), code.data.toList = pre ++ l → jx_chk l pre.length P = true → ∀ (k q : Nat) (bs : List Nat), P[k]? = some (q, bs) → jx_B code q bs
  | [], _, _, _, _, k, q, bs, h => by simp at h
  | (q0, b0) :: r, l, pre, hl, hc, k, q, bs, h => by
    simp only [jx_chk] at hc
    split at hc
    · rename_i hq
      cases ht : jx_take l b0 with
      | none => rw [ht] at hc; cases hc
      | some l2 =>
        rw [ht] at hc
        obtain ⟨xs, h1, h2⟩ := jx_take_spec b0 l l2 ht
        cases k with
        | zero =>
          simp only [List.getElem?_cons_zero, Option.some.injEq, Prod.mk.injEq] at h
          obtain ⟨rfl, rfl⟩ := h
          intro j b hj
          rw [hl, h1, hq, List.getElem?_append_right (by omega), Nat.add_sub_cancel_left]
          have hj2 : (xs.map UInt8.toNat)[j]? = some b := by rw [h2]; exact hj
          rw [List.getElem?_map] at hj2
          have hlt : j < xs.length := by
            have h9 := (List.getElem?_eq_some_iff.mp hj).1
            rw [← h2, List.length_map] at h9
            exact h9
          rw [List.getElem?_append_left hlt]
          exact hj2
        | succ k =>
          rw [List.getElem?_cons_succ] at h
          refine jx_chk_spec r l2 (pre ++ xs) (by rw [hl, h1, List.append_assoc]) ?_ k q bs h
          rw [List.length_append, show xs.length = b0.length by rw [← h2, List.length_map]]
          exact hc
    · cases hc
theorem jx_u1 {code : ByteArray} {pc b : Nat} (h : code.data.toList[pc]?.map UInt8.toNat = some b) : Reader.runAt (Reader.u1 : Decoder Nat) code pc = .ok (b, pc + 1) := by
  cases hx : code.data.toList[pc]? with
  | none => rw [hx] at h; cases h
  | some x =>
    rw [hx] at h
    have hb : x.toNat = b := Option.some.inj h
    obtain ⟨hlt, hg⟩ := List.getElem?_eq_some_iff.mp hx
    have hlt2 : pc < code.size := by
      have h9 : code.size = code.data.toList.length := Array.length_toList.symm
      rw [h9]; exact hlt
    have h8 : code[pc] = x := by
      rw [← hg]
      exact (Array.getElem_toList hlt2).symm
    show (dite (pc < code.size) (fun h => (do set (pc + 1); pure (code[pc]'h).toNat : Decoder Nat)) (fun _ => throw (HasTruncated.truncated pc)) : Decoder Nat) code pc = _
    rw [dif_pos hlt2, h8, hb]
    rfl
theorem jx_B.at {code : ByteArray} {q : Nat} {bs : List Nat} (h : jx_B code q bs) (j : Nat) {b : Nat} (hj : bs[j]? = some b) : Reader.runAt (Reader.u1 : Decoder Nat) code (q + j) = .ok (b, q + j + 1) := jx_u1 (h j b hj)
theorem jx_run_bind {α β : Type} (f : Decoder α) (g : α → Decoder β) (code : ByteArray) (q : Nat) : Reader.runAt (f >>= g) code q = (Reader.runAt f code q >>= fun x => Reader.runAt (g x.1) code x.2) := rfl
theorem jx_B.h0 {code : ByteArray} {q b : Nat} {r : List Nat} (h : jx_B code q (b :: r)) : code.data.toList[q]?.map UInt8.toNat = some b := h 0 b rfl
theorem jx_dec0 {code : ByteArray} {q b n : Nat} {i : Instr} {bs : List Nat} (h : jx_B code q bs) (hb : bs[0]? = some b) (hr : Reader.runAt (Decoder.instr q) code q = .ok (i, q + n)) : decode code q = .ok (i, n) := by
  show (Reader.runAt (Decoder.instr q) code q >>= fun x => pure (x.1, x.2 - q)) = _
  rw [hr]
  show (Except.ok (i, q + n - q) : Except DecodeError (Instr × Nat)) = _
  rw [Nat.add_sub_cancel_left]
theorem dc_1 {code : ByteArray} {q : Nat} (h : jx_B code q [1]) : decode code q = .ok (.aconst_null, 1) := by
  refine jx_dec0 h (b := 1) rfl ?_
  unfold Decoder.instr
  rw [jx_run_bind, jx_u1 h.h0]
  rfl
theorem dc_2 {code : ByteArray} {q : Nat} (h : jx_B code q [2]) : decode code q = .ok ((.iconst (-1)), 1) := by
  refine jx_dec0 h (b := 2) rfl ?_
  unfold Decoder.instr
  rw [jx_run_bind, jx_u1 h.h0]
  rfl
theorem dc_3 {code : ByteArray} {q : Nat} (h : jx_B code q [3]) : decode code q = .ok ((.iconst 0), 1) := by
  refine jx_dec0 h (b := 3) rfl ?_
  unfold Decoder.instr
  rw [jx_run_bind, jx_u1 h.h0]
  rfl
theorem dc_4 {code : ByteArray} {q : Nat} (h : jx_B code q [4]) : decode code q = .ok ((.iconst 1), 1) := by
  refine jx_dec0 h (b := 4) rfl ?_
  unfold Decoder.instr
  rw [jx_run_bind, jx_u1 h.h0]
  rfl
theorem dc_5 {code : ByteArray} {q : Nat} (h : jx_B code q [5]) : decode code q = .ok ((.iconst 2), 1) := by
  refine jx_dec0 h (b := 5) rfl ?_
  unfold Decoder.instr
  rw [jx_run_bind, jx_u1 h.h0]
  rfl
theorem dc_6 {code : ByteArray} {q : Nat} (h : jx_B code q [6]) : decode code q = .ok ((.iconst 3), 1) := by
  refine jx_dec0 h (b := 6) rfl ?_
  unfold Decoder.instr
  rw [jx_run_bind, jx_u1 h.h0]
  rfl
theorem dc_7 {code : ByteArray} {q : Nat} (h : jx_B code q [7]) : decode code q = .ok ((.iconst 4), 1) := by
  refine jx_dec0 h (b := 7) rfl ?_
  unfold Decoder.instr
  rw [jx_run_bind, jx_u1 h.h0]
  rfl
theorem dc_8 {code : ByteArray} {q : Nat} (h : jx_B code q [8]) : decode code q = .ok ((.iconst 5), 1) := by
  refine jx_dec0 h (b := 8) rfl ?_
  unfold Decoder.instr
  rw [jx_run_bind, jx_u1 h.h0]
  rfl
theorem dc_9 {code : ByteArray} {q : Nat} (h : jx_B code q [9]) : decode code q = .ok ((.lconst 0), 1) := by
  refine jx_dec0 h (b := 9) rfl ?_
  unfold Decoder.instr
  rw [jx_run_bind, jx_u1 h.h0]
  rfl
theorem dc_10 {code : ByteArray} {q : Nat} (h : jx_B code q [10]) : decode code q = .ok ((.lconst 1), 1) := by
  refine jx_dec0 h (b := 10) rfl ?_
  unfold Decoder.instr
  rw [jx_run_bind, jx_u1 h.h0]
  rfl
theorem dc_26 {code : ByteArray} {q : Nat} (h : jx_B code q [26]) : decode code q = .ok ((.iload_n 0), 1) := by
  refine jx_dec0 h (b := 26) rfl ?_
  unfold Decoder.instr
  rw [jx_run_bind, jx_u1 h.h0]
  rfl
theorem dc_27 {code : ByteArray} {q : Nat} (h : jx_B code q [27]) : decode code q = .ok ((.iload_n 1), 1) := by
  refine jx_dec0 h (b := 27) rfl ?_
  unfold Decoder.instr
  rw [jx_run_bind, jx_u1 h.h0]
  rfl
theorem dc_28 {code : ByteArray} {q : Nat} (h : jx_B code q [28]) : decode code q = .ok ((.iload_n 2), 1) := by
  refine jx_dec0 h (b := 28) rfl ?_
  unfold Decoder.instr
  rw [jx_run_bind, jx_u1 h.h0]
  rfl
theorem dc_29 {code : ByteArray} {q : Nat} (h : jx_B code q [29]) : decode code q = .ok ((.iload_n 3), 1) := by
  refine jx_dec0 h (b := 29) rfl ?_
  unfold Decoder.instr
  rw [jx_run_bind, jx_u1 h.h0]
  rfl
theorem dc_30 {code : ByteArray} {q : Nat} (h : jx_B code q [30]) : decode code q = .ok ((.lload_n 0), 1) := by
  refine jx_dec0 h (b := 30) rfl ?_
  unfold Decoder.instr
  rw [jx_run_bind, jx_u1 h.h0]
  rfl
theorem dc_31 {code : ByteArray} {q : Nat} (h : jx_B code q [31]) : decode code q = .ok ((.lload_n 1), 1) := by
  refine jx_dec0 h (b := 31) rfl ?_
  unfold Decoder.instr
  rw [jx_run_bind, jx_u1 h.h0]
  rfl
theorem dc_32 {code : ByteArray} {q : Nat} (h : jx_B code q [32]) : decode code q = .ok ((.lload_n 2), 1) := by
  refine jx_dec0 h (b := 32) rfl ?_
  unfold Decoder.instr
  rw [jx_run_bind, jx_u1 h.h0]
  rfl
theorem dc_33 {code : ByteArray} {q : Nat} (h : jx_B code q [33]) : decode code q = .ok ((.lload_n 3), 1) := by
  refine jx_dec0 h (b := 33) rfl ?_
  unfold Decoder.instr
  rw [jx_run_bind, jx_u1 h.h0]
  rfl
theorem dc_42 {code : ByteArray} {q : Nat} (h : jx_B code q [42]) : decode code q = .ok ((.aload_n 0), 1) := by
  refine jx_dec0 h (b := 42) rfl ?_
  unfold Decoder.instr
  rw [jx_run_bind, jx_u1 h.h0]
  rfl
theorem dc_43 {code : ByteArray} {q : Nat} (h : jx_B code q [43]) : decode code q = .ok ((.aload_n 1), 1) := by
  refine jx_dec0 h (b := 43) rfl ?_
  unfold Decoder.instr
  rw [jx_run_bind, jx_u1 h.h0]
  rfl
theorem dc_44 {code : ByteArray} {q : Nat} (h : jx_B code q [44]) : decode code q = .ok ((.aload_n 2), 1) := by
  refine jx_dec0 h (b := 44) rfl ?_
  unfold Decoder.instr
  rw [jx_run_bind, jx_u1 h.h0]
  rfl
theorem dc_45 {code : ByteArray} {q : Nat} (h : jx_B code q [45]) : decode code q = .ok ((.aload_n 3), 1) := by
  refine jx_dec0 h (b := 45) rfl ?_
  unfold Decoder.instr
  rw [jx_run_bind, jx_u1 h.h0]
  rfl
theorem dc_46 {code : ByteArray} {q : Nat} (h : jx_B code q [46]) : decode code q = .ok (.iaload, 1) := by
  refine jx_dec0 h (b := 46) rfl ?_
  unfold Decoder.instr
  rw [jx_run_bind, jx_u1 h.h0]
  rfl
theorem dc_47 {code : ByteArray} {q : Nat} (h : jx_B code q [47]) : decode code q = .ok (.laload, 1) := by
  refine jx_dec0 h (b := 47) rfl ?_
  unfold Decoder.instr
  rw [jx_run_bind, jx_u1 h.h0]
  rfl
theorem dc_50 {code : ByteArray} {q : Nat} (h : jx_B code q [50]) : decode code q = .ok (.aaload, 1) := by
  refine jx_dec0 h (b := 50) rfl ?_
  unfold Decoder.instr
  rw [jx_run_bind, jx_u1 h.h0]
  rfl
theorem dc_51 {code : ByteArray} {q : Nat} (h : jx_B code q [51]) : decode code q = .ok (.baload, 1) := by
  refine jx_dec0 h (b := 51) rfl ?_
  unfold Decoder.instr
  rw [jx_run_bind, jx_u1 h.h0]
  rfl
theorem dc_52 {code : ByteArray} {q : Nat} (h : jx_B code q [52]) : decode code q = .ok (.caload, 1) := by
  refine jx_dec0 h (b := 52) rfl ?_
  unfold Decoder.instr
  rw [jx_run_bind, jx_u1 h.h0]
  rfl
theorem dc_59 {code : ByteArray} {q : Nat} (h : jx_B code q [59]) : decode code q = .ok ((.istore_n 0), 1) := by
  refine jx_dec0 h (b := 59) rfl ?_
  unfold Decoder.instr
  rw [jx_run_bind, jx_u1 h.h0]
  rfl
theorem dc_60 {code : ByteArray} {q : Nat} (h : jx_B code q [60]) : decode code q = .ok ((.istore_n 1), 1) := by
  refine jx_dec0 h (b := 60) rfl ?_
  unfold Decoder.instr
  rw [jx_run_bind, jx_u1 h.h0]
  rfl
theorem dc_61 {code : ByteArray} {q : Nat} (h : jx_B code q [61]) : decode code q = .ok ((.istore_n 2), 1) := by
  refine jx_dec0 h (b := 61) rfl ?_
  unfold Decoder.instr
  rw [jx_run_bind, jx_u1 h.h0]
  rfl
theorem dc_62 {code : ByteArray} {q : Nat} (h : jx_B code q [62]) : decode code q = .ok ((.istore_n 3), 1) := by
  refine jx_dec0 h (b := 62) rfl ?_
  unfold Decoder.instr
  rw [jx_run_bind, jx_u1 h.h0]
  rfl
theorem dc_63 {code : ByteArray} {q : Nat} (h : jx_B code q [63]) : decode code q = .ok ((.lstore_n 0), 1) := by
  refine jx_dec0 h (b := 63) rfl ?_
  unfold Decoder.instr
  rw [jx_run_bind, jx_u1 h.h0]
  rfl
theorem dc_64 {code : ByteArray} {q : Nat} (h : jx_B code q [64]) : decode code q = .ok ((.lstore_n 1), 1) := by
  refine jx_dec0 h (b := 64) rfl ?_
  unfold Decoder.instr
  rw [jx_run_bind, jx_u1 h.h0]
  rfl
theorem dc_65 {code : ByteArray} {q : Nat} (h : jx_B code q [65]) : decode code q = .ok ((.lstore_n 2), 1) := by
  refine jx_dec0 h (b := 65) rfl ?_
  unfold Decoder.instr
  rw [jx_run_bind, jx_u1 h.h0]
  rfl
theorem dc_66 {code : ByteArray} {q : Nat} (h : jx_B code q [66]) : decode code q = .ok ((.lstore_n 3), 1) := by
  refine jx_dec0 h (b := 66) rfl ?_
  unfold Decoder.instr
  rw [jx_run_bind, jx_u1 h.h0]
  rfl
theorem dc_75 {code : ByteArray} {q : Nat} (h : jx_B code q [75]) : decode code q = .ok ((.astore_n 0), 1) := by
  refine jx_dec0 h (b := 75) rfl ?_
  unfold Decoder.instr
  rw [jx_run_bind, jx_u1 h.h0]
  rfl
theorem dc_76 {code : ByteArray} {q : Nat} (h : jx_B code q [76]) : decode code q = .ok ((.astore_n 1), 1) := by
  refine jx_dec0 h (b := 76) rfl ?_
  unfold Decoder.instr
  rw [jx_run_bind, jx_u1 h.h0]
  rfl
theorem dc_77 {code : ByteArray} {q : Nat} (h : jx_B code q [77]) : decode code q = .ok ((.astore_n 2), 1) := by
  refine jx_dec0 h (b := 77) rfl ?_
  unfold Decoder.instr
  rw [jx_run_bind, jx_u1 h.h0]
  rfl
theorem dc_78 {code : ByteArray} {q : Nat} (h : jx_B code q [78]) : decode code q = .ok ((.astore_n 3), 1) := by
  refine jx_dec0 h (b := 78) rfl ?_
  unfold Decoder.instr
  rw [jx_run_bind, jx_u1 h.h0]
  rfl
theorem dc_79 {code : ByteArray} {q : Nat} (h : jx_B code q [79]) : decode code q = .ok (.iastore, 1) := by
  refine jx_dec0 h (b := 79) rfl ?_
  unfold Decoder.instr
  rw [jx_run_bind, jx_u1 h.h0]
  rfl
theorem dc_80 {code : ByteArray} {q : Nat} (h : jx_B code q [80]) : decode code q = .ok (.lastore, 1) := by
  refine jx_dec0 h (b := 80) rfl ?_
  unfold Decoder.instr
  rw [jx_run_bind, jx_u1 h.h0]
  rfl
theorem dc_83 {code : ByteArray} {q : Nat} (h : jx_B code q [83]) : decode code q = .ok (.aastore, 1) := by
  refine jx_dec0 h (b := 83) rfl ?_
  unfold Decoder.instr
  rw [jx_run_bind, jx_u1 h.h0]
  rfl
theorem dc_84 {code : ByteArray} {q : Nat} (h : jx_B code q [84]) : decode code q = .ok (.bastore, 1) := by
  refine jx_dec0 h (b := 84) rfl ?_
  unfold Decoder.instr
  rw [jx_run_bind, jx_u1 h.h0]
  rfl
theorem dc_87 {code : ByteArray} {q : Nat} (h : jx_B code q [87]) : decode code q = .ok (.pop, 1) := by
  refine jx_dec0 h (b := 87) rfl ?_
  unfold Decoder.instr
  rw [jx_run_bind, jx_u1 h.h0]
  rfl
theorem dc_88 {code : ByteArray} {q : Nat} (h : jx_B code q [88]) : decode code q = .ok (.pop2, 1) := by
  refine jx_dec0 h (b := 88) rfl ?_
  unfold Decoder.instr
  rw [jx_run_bind, jx_u1 h.h0]
  rfl
theorem dc_89 {code : ByteArray} {q : Nat} (h : jx_B code q [89]) : decode code q = .ok (.dup, 1) := by
  refine jx_dec0 h (b := 89) rfl ?_
  unfold Decoder.instr
  rw [jx_run_bind, jx_u1 h.h0]
  rfl
theorem dc_90 {code : ByteArray} {q : Nat} (h : jx_B code q [90]) : decode code q = .ok (.dup_x1, 1) := by
  refine jx_dec0 h (b := 90) rfl ?_
  unfold Decoder.instr
  rw [jx_run_bind, jx_u1 h.h0]
  rfl
theorem dc_91 {code : ByteArray} {q : Nat} (h : jx_B code q [91]) : decode code q = .ok (.dup_x2, 1) := by
  refine jx_dec0 h (b := 91) rfl ?_
  unfold Decoder.instr
  rw [jx_run_bind, jx_u1 h.h0]
  rfl
theorem dc_92 {code : ByteArray} {q : Nat} (h : jx_B code q [92]) : decode code q = .ok (.dup2, 1) := by
  refine jx_dec0 h (b := 92) rfl ?_
  unfold Decoder.instr
  rw [jx_run_bind, jx_u1 h.h0]
  rfl
theorem dc_93 {code : ByteArray} {q : Nat} (h : jx_B code q [93]) : decode code q = .ok (.dup2_x1, 1) := by
  refine jx_dec0 h (b := 93) rfl ?_
  unfold Decoder.instr
  rw [jx_run_bind, jx_u1 h.h0]
  rfl
theorem dc_96 {code : ByteArray} {q : Nat} (h : jx_B code q [96]) : decode code q = .ok (.iadd, 1) := by
  refine jx_dec0 h (b := 96) rfl ?_
  unfold Decoder.instr
  rw [jx_run_bind, jx_u1 h.h0]
  rfl
theorem dc_97 {code : ByteArray} {q : Nat} (h : jx_B code q [97]) : decode code q = .ok (.ladd, 1) := by
  refine jx_dec0 h (b := 97) rfl ?_
  unfold Decoder.instr
  rw [jx_run_bind, jx_u1 h.h0]
  rfl
theorem dc_100 {code : ByteArray} {q : Nat} (h : jx_B code q [100]) : decode code q = .ok (.isub, 1) := by
  refine jx_dec0 h (b := 100) rfl ?_
  unfold Decoder.instr
  rw [jx_run_bind, jx_u1 h.h0]
  rfl
theorem dc_104 {code : ByteArray} {q : Nat} (h : jx_B code q [104]) : decode code q = .ok (.imul, 1) := by
  refine jx_dec0 h (b := 104) rfl ?_
  unfold Decoder.instr
  rw [jx_run_bind, jx_u1 h.h0]
  rfl
theorem dc_105 {code : ByteArray} {q : Nat} (h : jx_B code q [105]) : decode code q = .ok (.lmul, 1) := by
  refine jx_dec0 h (b := 105) rfl ?_
  unfold Decoder.instr
  rw [jx_run_bind, jx_u1 h.h0]
  rfl
theorem dc_108 {code : ByteArray} {q : Nat} (h : jx_B code q [108]) : decode code q = .ok (.idiv, 1) := by
  refine jx_dec0 h (b := 108) rfl ?_
  unfold Decoder.instr
  rw [jx_run_bind, jx_u1 h.h0]
  rfl
theorem dc_112 {code : ByteArray} {q : Nat} (h : jx_B code q [112]) : decode code q = .ok (.irem, 1) := by
  refine jx_dec0 h (b := 112) rfl ?_
  unfold Decoder.instr
  rw [jx_run_bind, jx_u1 h.h0]
  rfl
theorem dc_116 {code : ByteArray} {q : Nat} (h : jx_B code q [116]) : decode code q = .ok (.ineg, 1) := by
  refine jx_dec0 h (b := 116) rfl ?_
  unfold Decoder.instr
  rw [jx_run_bind, jx_u1 h.h0]
  rfl
theorem dc_120 {code : ByteArray} {q : Nat} (h : jx_B code q [120]) : decode code q = .ok (.ishl, 1) := by
  refine jx_dec0 h (b := 120) rfl ?_
  unfold Decoder.instr
  rw [jx_run_bind, jx_u1 h.h0]
  rfl
theorem dc_121 {code : ByteArray} {q : Nat} (h : jx_B code q [121]) : decode code q = .ok (.lshl, 1) := by
  refine jx_dec0 h (b := 121) rfl ?_
  unfold Decoder.instr
  rw [jx_run_bind, jx_u1 h.h0]
  rfl
theorem dc_122 {code : ByteArray} {q : Nat} (h : jx_B code q [122]) : decode code q = .ok (.ishr, 1) := by
  refine jx_dec0 h (b := 122) rfl ?_
  unfold Decoder.instr
  rw [jx_run_bind, jx_u1 h.h0]
  rfl
theorem dc_126 {code : ByteArray} {q : Nat} (h : jx_B code q [126]) : decode code q = .ok (.iand, 1) := by
  refine jx_dec0 h (b := 126) rfl ?_
  unfold Decoder.instr
  rw [jx_run_bind, jx_u1 h.h0]
  rfl
theorem dc_128 {code : ByteArray} {q : Nat} (h : jx_B code q [128]) : decode code q = .ok (.ior, 1) := by
  refine jx_dec0 h (b := 128) rfl ?_
  unfold Decoder.instr
  rw [jx_run_bind, jx_u1 h.h0]
  rfl
theorem dc_129 {code : ByteArray} {q : Nat} (h : jx_B code q [129]) : decode code q = .ok (.lor, 1) := by
  refine jx_dec0 h (b := 129) rfl ?_
  unfold Decoder.instr
  rw [jx_run_bind, jx_u1 h.h0]
  rfl
theorem dc_130 {code : ByteArray} {q : Nat} (h : jx_B code q [130]) : decode code q = .ok (.ixor, 1) := by
  refine jx_dec0 h (b := 130) rfl ?_
  unfold Decoder.instr
  rw [jx_run_bind, jx_u1 h.h0]
  rfl
theorem dc_133 {code : ByteArray} {q : Nat} (h : jx_B code q [133]) : decode code q = .ok (.i2l, 1) := by
  refine jx_dec0 h (b := 133) rfl ?_
  unfold Decoder.instr
  rw [jx_run_bind, jx_u1 h.h0]
  rfl
theorem dc_136 {code : ByteArray} {q : Nat} (h : jx_B code q [136]) : decode code q = .ok (.l2i, 1) := by
  refine jx_dec0 h (b := 136) rfl ?_
  unfold Decoder.instr
  rw [jx_run_bind, jx_u1 h.h0]
  rfl
theorem dc_145 {code : ByteArray} {q : Nat} (h : jx_B code q [145]) : decode code q = .ok (.i2b, 1) := by
  refine jx_dec0 h (b := 145) rfl ?_
  unfold Decoder.instr
  rw [jx_run_bind, jx_u1 h.h0]
  rfl
theorem dc_146 {code : ByteArray} {q : Nat} (h : jx_B code q [146]) : decode code q = .ok (.i2c, 1) := by
  refine jx_dec0 h (b := 146) rfl ?_
  unfold Decoder.instr
  rw [jx_run_bind, jx_u1 h.h0]
  rfl
theorem dc_148 {code : ByteArray} {q : Nat} (h : jx_B code q [148]) : decode code q = .ok (.lcmp, 1) := by
  refine jx_dec0 h (b := 148) rfl ?_
  unfold Decoder.instr
  rw [jx_run_bind, jx_u1 h.h0]
  rfl
theorem dc_172 {code : ByteArray} {q : Nat} (h : jx_B code q [172]) : decode code q = .ok (.ireturn, 1) := by
  refine jx_dec0 h (b := 172) rfl ?_
  unfold Decoder.instr
  rw [jx_run_bind, jx_u1 h.h0]
  rfl
theorem dc_173 {code : ByteArray} {q : Nat} (h : jx_B code q [173]) : decode code q = .ok (.lreturn, 1) := by
  refine jx_dec0 h (b := 173) rfl ?_
  unfold Decoder.instr
  rw [jx_run_bind, jx_u1 h.h0]
  rfl
theorem dc_176 {code : ByteArray} {q : Nat} (h : jx_B code q [176]) : decode code q = .ok (.areturn, 1) := by
  refine jx_dec0 h (b := 176) rfl ?_
  unfold Decoder.instr
  rw [jx_run_bind, jx_u1 h.h0]
  rfl
theorem dc_177 {code : ByteArray} {q : Nat} (h : jx_B code q [177]) : decode code q = .ok (.return_, 1) := by
  refine jx_dec0 h (b := 177) rfl ?_
  unfold Decoder.instr
  rw [jx_run_bind, jx_u1 h.h0]
  rfl
theorem dc_190 {code : ByteArray} {q : Nat} (h : jx_B code q [190]) : decode code q = .ok (.arraylength, 1) := by
  refine jx_dec0 h (b := 190) rfl ?_
  unfold Decoder.instr
  rw [jx_run_bind, jx_u1 h.h0]
  rfl
theorem dc_191 {code : ByteArray} {q : Nat} (h : jx_B code q [191]) : decode code q = .ok (.athrow, 1) := by
  refine jx_dec0 h (b := 191) rfl ?_
  unfold Decoder.instr
  rw [jx_run_bind, jx_u1 h.h0]
  rfl
theorem dc_21 {code : ByteArray} {q a : Nat} (h : jx_B code q [21, a]) : decode code q = .ok (.iload a, 2) := by
  refine jx_dec0 h (b := 21) rfl ?_
  unfold Decoder.instr
  rw [jx_run_bind, jx_u1 h.h0]
  show (Reader.runAt (Reader.u1 : Decoder Nat) code (q + 1) >>= fun x => Reader.runAt (pure (Instr.iload x.1) : Decoder Instr) code x.2) = _
  rw [jx_u1 (h 1 a rfl)]
  rfl
theorem dc_22 {code : ByteArray} {q a : Nat} (h : jx_B code q [22, a]) : decode code q = .ok (.lload a, 2) := by
  refine jx_dec0 h (b := 22) rfl ?_
  unfold Decoder.instr
  rw [jx_run_bind, jx_u1 h.h0]
  show (Reader.runAt (Reader.u1 : Decoder Nat) code (q + 1) >>= fun x => Reader.runAt (pure (Instr.lload x.1) : Decoder Instr) code x.2) = _
  rw [jx_u1 (h 1 a rfl)]
  rfl
theorem dc_25 {code : ByteArray} {q a : Nat} (h : jx_B code q [25, a]) : decode code q = .ok (.aload a, 2) := by
  refine jx_dec0 h (b := 25) rfl ?_
  unfold Decoder.instr
  rw [jx_run_bind, jx_u1 h.h0]
  show (Reader.runAt (Reader.u1 : Decoder Nat) code (q + 1) >>= fun x => Reader.runAt (pure (Instr.aload x.1) : Decoder Instr) code x.2) = _
  rw [jx_u1 (h 1 a rfl)]
  rfl
theorem dc_54 {code : ByteArray} {q a : Nat} (h : jx_B code q [54, a]) : decode code q = .ok (.istore a, 2) := by
  refine jx_dec0 h (b := 54) rfl ?_
  unfold Decoder.instr
  rw [jx_run_bind, jx_u1 h.h0]
  show (Reader.runAt (Reader.u1 : Decoder Nat) code (q + 1) >>= fun x => Reader.runAt (pure (Instr.istore x.1) : Decoder Instr) code x.2) = _
  rw [jx_u1 (h 1 a rfl)]
  rfl
theorem dc_55 {code : ByteArray} {q a : Nat} (h : jx_B code q [55, a]) : decode code q = .ok (.lstore a, 2) := by
  refine jx_dec0 h (b := 55) rfl ?_
  unfold Decoder.instr
  rw [jx_run_bind, jx_u1 h.h0]
  show (Reader.runAt (Reader.u1 : Decoder Nat) code (q + 1) >>= fun x => Reader.runAt (pure (Instr.lstore x.1) : Decoder Instr) code x.2) = _
  rw [jx_u1 (h 1 a rfl)]
  rfl
theorem dc_58 {code : ByteArray} {q a : Nat} (h : jx_B code q [58, a]) : decode code q = .ok (.astore a, 2) := by
  refine jx_dec0 h (b := 58) rfl ?_
  unfold Decoder.instr
  rw [jx_run_bind, jx_u1 h.h0]
  show (Reader.runAt (Reader.u1 : Decoder Nat) code (q + 1) >>= fun x => Reader.runAt (pure (Instr.astore x.1) : Decoder Instr) code x.2) = _
  rw [jx_u1 (h 1 a rfl)]
  rfl
theorem dc_18 {code : ByteArray} {q a : Nat} (h : jx_B code q [18, a]) : decode code q = .ok (.ldc a, 2) := by
  refine jx_dec0 h (b := 18) rfl ?_
  unfold Decoder.instr
  rw [jx_run_bind, jx_u1 h.h0]
  show (Reader.runAt (Reader.u1 : Decoder Nat) code (q + 1) >>= fun x => Reader.runAt (pure (Instr.ldc x.1) : Decoder Instr) code x.2) = _
  rw [jx_u1 (h 1 a rfl)]
  rfl
theorem jx_s1 {code : ByteArray} {q a : Nat} (h1 : code.data.toList[q]?.map UInt8.toNat = some a) : Reader.runAt (Reader.s1 : Decoder Int) code q = .ok (Reader.signed 8 a, q + 1) := by
  have h : Reader.runAt (Reader.s1 : Decoder Int) code q = (Reader.runAt (Reader.u1 : Decoder Nat) code q >>= fun x => pure (Reader.signed 8 x.1, x.2)) := rfl
  rw [h, jx_u1 h1]
  rfl
theorem dc_16 {code : ByteArray} {q a : Nat} {v : Int} (h : jx_B code q [16, a]) (hv : Reader.signed 8 a = v) : decode code q = .ok (.bipush v, 2) := by
  subst hv
  refine jx_dec0 h (b := 16) rfl ?_
  unfold Decoder.instr
  rw [jx_run_bind, jx_u1 h.h0]
  show (Reader.runAt (Reader.s1 : Decoder Int) code (q + 1) >>= fun x => Reader.runAt (pure (Instr.bipush x.1) : Decoder Instr) code x.2) = _
  rw [jx_s1 (h 1 a rfl)]
  rfl
theorem jx_u2 {code : ByteArray} {q a b : Nat} (h1 : code.data.toList[q]?.map UInt8.toNat = some a) (h2 : code.data.toList[q + 1]?.map UInt8.toNat = some b) : Reader.runAt (Reader.u2 : Decoder Nat) code q = .ok (a * 256 + b, q + 2) := by
  unfold Reader.u2
  rw [jx_run_bind, jx_u1 h1]
  show (Reader.runAt (Reader.u1 : Decoder Nat) code (q + 1) >>= fun x => Reader.runAt (pure (a * 256 + x.1) : Decoder Nat) code x.2) = _
  rw [jx_u1 h2]
  rfl
theorem jx_s2 {code : ByteArray} {q a b : Nat} (h1 : code.data.toList[q]?.map UInt8.toNat = some a) (h2 : code.data.toList[q + 1]?.map UInt8.toNat = some b) : Reader.runAt (Reader.s2 : Decoder Int) code q = .ok (Reader.signed 16 (a * 256 + b), q + 2) := by
  have h : Reader.runAt (Reader.s2 : Decoder Int) code q = (Reader.runAt (Reader.u2 : Decoder Nat) code q >>= fun x => pure (Reader.signed 16 x.1, x.2)) := rfl
  rw [h, jx_u2 h1 h2]
  rfl
theorem dc_180 {code : ByteArray} {q a b i : Nat} (h : jx_B code q [180, a, b]) (hi : a * 256 + b = i) : decode code q = .ok (.getfield i, 3) := by
  subst hi
  refine jx_dec0 h (b := 180) rfl ?_
  unfold Decoder.instr
  rw [jx_run_bind, jx_u1 h.h0]
  show (Reader.runAt (Reader.u2 : Decoder Nat) code (q + 1) >>= fun x => Reader.runAt (pure (Instr.getfield x.1) : Decoder Instr) code x.2) = _
  rw [jx_u2 (h 1 a rfl) (h 2 b rfl)]
  rfl
theorem dc_181 {code : ByteArray} {q a b i : Nat} (h : jx_B code q [181, a, b]) (hi : a * 256 + b = i) : decode code q = .ok (.putfield i, 3) := by
  subst hi
  refine jx_dec0 h (b := 181) rfl ?_
  unfold Decoder.instr
  rw [jx_run_bind, jx_u1 h.h0]
  show (Reader.runAt (Reader.u2 : Decoder Nat) code (q + 1) >>= fun x => Reader.runAt (pure (Instr.putfield x.1) : Decoder Instr) code x.2) = _
  rw [jx_u2 (h 1 a rfl) (h 2 b rfl)]
  rfl
theorem dc_178 {code : ByteArray} {q a b i : Nat} (h : jx_B code q [178, a, b]) (hi : a * 256 + b = i) : decode code q = .ok (.getstatic i, 3) := by
  subst hi
  refine jx_dec0 h (b := 178) rfl ?_
  unfold Decoder.instr
  rw [jx_run_bind, jx_u1 h.h0]
  show (Reader.runAt (Reader.u2 : Decoder Nat) code (q + 1) >>= fun x => Reader.runAt (pure (Instr.getstatic x.1) : Decoder Instr) code x.2) = _
  rw [jx_u2 (h 1 a rfl) (h 2 b rfl)]
  rfl
theorem dc_182 {code : ByteArray} {q a b i : Nat} (h : jx_B code q [182, a, b]) (hi : a * 256 + b = i) : decode code q = .ok (.invokevirtual i, 3) := by
  subst hi
  refine jx_dec0 h (b := 182) rfl ?_
  unfold Decoder.instr
  rw [jx_run_bind, jx_u1 h.h0]
  show (Reader.runAt (Reader.u2 : Decoder Nat) code (q + 1) >>= fun x => Reader.runAt (pure (Instr.invokevirtual x.1) : Decoder Instr) code x.2) = _
  rw [jx_u2 (h 1 a rfl) (h 2 b rfl)]
  rfl
theorem dc_183 {code : ByteArray} {q a b i : Nat} (h : jx_B code q [183, a, b]) (hi : a * 256 + b = i) : decode code q = .ok (.invokespecial i, 3) := by
  subst hi
  refine jx_dec0 h (b := 183) rfl ?_
  unfold Decoder.instr
  rw [jx_run_bind, jx_u1 h.h0]
  show (Reader.runAt (Reader.u2 : Decoder Nat) code (q + 1) >>= fun x => Reader.runAt (pure (Instr.invokespecial x.1) : Decoder Instr) code x.2) = _
  rw [jx_u2 (h 1 a rfl) (h 2 b rfl)]
  rfl
theorem dc_184 {code : ByteArray} {q a b i : Nat} (h : jx_B code q [184, a, b]) (hi : a * 256 + b = i) : decode code q = .ok (.invokestatic i, 3) := by
  subst hi
  refine jx_dec0 h (b := 184) rfl ?_
  unfold Decoder.instr
  rw [jx_run_bind, jx_u1 h.h0]
  show (Reader.runAt (Reader.u2 : Decoder Nat) code (q + 1) >>= fun x => Reader.runAt (pure (Instr.invokestatic x.1) : Decoder Instr) code x.2) = _
  rw [jx_u2 (h 1 a rfl) (h 2 b rfl)]
  rfl
theorem dc_187 {code : ByteArray} {q a b i : Nat} (h : jx_B code q [187, a, b]) (hi : a * 256 + b = i) : decode code q = .ok (.new i, 3) := by
  subst hi
  refine jx_dec0 h (b := 187) rfl ?_
  unfold Decoder.instr
  rw [jx_run_bind, jx_u1 h.h0]
  show (Reader.runAt (Reader.u2 : Decoder Nat) code (q + 1) >>= fun x => Reader.runAt (pure (Instr.new x.1) : Decoder Instr) code x.2) = _
  rw [jx_u2 (h 1 a rfl) (h 2 b rfl)]
  rfl
theorem dc_189 {code : ByteArray} {q a b i : Nat} (h : jx_B code q [189, a, b]) (hi : a * 256 + b = i) : decode code q = .ok (.anewarray i, 3) := by
  subst hi
  refine jx_dec0 h (b := 189) rfl ?_
  unfold Decoder.instr
  rw [jx_run_bind, jx_u1 h.h0]
  show (Reader.runAt (Reader.u2 : Decoder Nat) code (q + 1) >>= fun x => Reader.runAt (pure (Instr.anewarray x.1) : Decoder Instr) code x.2) = _
  rw [jx_u2 (h 1 a rfl) (h 2 b rfl)]
  rfl
theorem dc_192 {code : ByteArray} {q a b i : Nat} (h : jx_B code q [192, a, b]) (hi : a * 256 + b = i) : decode code q = .ok (.checkcast i, 3) := by
  subst hi
  refine jx_dec0 h (b := 192) rfl ?_
  unfold Decoder.instr
  rw [jx_run_bind, jx_u1 h.h0]
  show (Reader.runAt (Reader.u2 : Decoder Nat) code (q + 1) >>= fun x => Reader.runAt (pure (Instr.checkcast x.1) : Decoder Instr) code x.2) = _
  rw [jx_u2 (h 1 a rfl) (h 2 b rfl)]
  rfl
theorem dc_20 {code : ByteArray} {q a b i : Nat} (h : jx_B code q [20, a, b]) (hi : a * 256 + b = i) : decode code q = .ok (.ldc2_w i, 3) := by
  subst hi
  refine jx_dec0 h (b := 20) rfl ?_
  unfold Decoder.instr
  rw [jx_run_bind, jx_u1 h.h0]
  show (Reader.runAt (Reader.u2 : Decoder Nat) code (q + 1) >>= fun x => Reader.runAt (pure (Instr.ldc2_w x.1) : Decoder Instr) code x.2) = _
  rw [jx_u2 (h 1 a rfl) (h 2 b rfl)]
  rfl
theorem dc_19 {code : ByteArray} {q a b i : Nat} (h : jx_B code q [19, a, b]) (hi : a * 256 + b = i) : decode code q = .ok (.ldc_w i, 3) := by
  subst hi
  refine jx_dec0 h (b := 19) rfl ?_
  unfold Decoder.instr
  rw [jx_run_bind, jx_u1 h.h0]
  show (Reader.runAt (Reader.u2 : Decoder Nat) code (q + 1) >>= fun x => Reader.runAt (pure (Instr.ldc_w x.1) : Decoder Instr) code x.2) = _
  rw [jx_u2 (h 1 a rfl) (h 2 b rfl)]
  rfl
theorem dc_17 {code : ByteArray} {q a b : Nat} {v : Int} (h : jx_B code q [17, a, b]) (hv : Reader.signed 16 (a * 256 + b) = v) : decode code q = .ok (.sipush v, 3) := by
  subst hv
  refine jx_dec0 h (b := 17) rfl ?_
  unfold Decoder.instr
  rw [jx_run_bind, jx_u1 h.h0]
  show (Reader.runAt (Reader.s2 : Decoder Int) code (q + 1) >>= fun x => Reader.runAt (pure (Instr.sipush x.1) : Decoder Instr) code x.2) = _
  rw [jx_s2 (h 1 a rfl) (h 2 b rfl)]
  rfl
theorem dc_153 {code : ByteArray} {q a b : Nat} {v : Int} (h : jx_B code q [153, a, b]) (hv : Reader.signed 16 (a * 256 + b) = v) : decode code q = .ok (.ifCond .eq v, 3) := by
  subst hv
  refine jx_dec0 h (b := 153) rfl ?_
  unfold Decoder.instr
  rw [jx_run_bind, jx_u1 h.h0]
  show (Reader.runAt (Reader.s2 : Decoder Int) code (q + 1) >>= fun x => Reader.runAt (pure (Instr.ifCond .eq x.1) : Decoder Instr) code x.2) = _
  rw [jx_s2 (h 1 a rfl) (h 2 b rfl)]
  rfl
theorem dc_154 {code : ByteArray} {q a b : Nat} {v : Int} (h : jx_B code q [154, a, b]) (hv : Reader.signed 16 (a * 256 + b) = v) : decode code q = .ok (.ifCond .ne v, 3) := by
  subst hv
  refine jx_dec0 h (b := 154) rfl ?_
  unfold Decoder.instr
  rw [jx_run_bind, jx_u1 h.h0]
  show (Reader.runAt (Reader.s2 : Decoder Int) code (q + 1) >>= fun x => Reader.runAt (pure (Instr.ifCond .ne x.1) : Decoder Instr) code x.2) = _
  rw [jx_s2 (h 1 a rfl) (h 2 b rfl)]
  rfl
theorem dc_155 {code : ByteArray} {q a b : Nat} {v : Int} (h : jx_B code q [155, a, b]) (hv : Reader.signed 16 (a * 256 + b) = v) : decode code q = .ok (.ifCond .lt v, 3) := by
  subst hv
  refine jx_dec0 h (b := 155) rfl ?_
  unfold Decoder.instr
  rw [jx_run_bind, jx_u1 h.h0]
  show (Reader.runAt (Reader.s2 : Decoder Int) code (q + 1) >>= fun x => Reader.runAt (pure (Instr.ifCond .lt x.1) : Decoder Instr) code x.2) = _
  rw [jx_s2 (h 1 a rfl) (h 2 b rfl)]
  rfl
theorem dc_156 {code : ByteArray} {q a b : Nat} {v : Int} (h : jx_B code q [156, a, b]) (hv : Reader.signed 16 (a * 256 + b) = v) : decode code q = .ok (.ifCond .ge v, 3) := by
  subst hv
  refine jx_dec0 h (b := 156) rfl ?_
  unfold Decoder.instr
  rw [jx_run_bind, jx_u1 h.h0]
  show (Reader.runAt (Reader.s2 : Decoder Int) code (q + 1) >>= fun x => Reader.runAt (pure (Instr.ifCond .ge x.1) : Decoder Instr) code x.2) = _
  rw [jx_s2 (h 1 a rfl) (h 2 b rfl)]
  rfl
theorem dc_157 {code : ByteArray} {q a b : Nat} {v : Int} (h : jx_B code q [157, a, b]) (hv : Reader.signed 16 (a * 256 + b) = v) : decode code q = .ok (.ifCond .gt v, 3) := by
  subst hv
  refine jx_dec0 h (b := 157) rfl ?_
  unfold Decoder.instr
  rw [jx_run_bind, jx_u1 h.h0]
  show (Reader.runAt (Reader.s2 : Decoder Int) code (q + 1) >>= fun x => Reader.runAt (pure (Instr.ifCond .gt x.1) : Decoder Instr) code x.2) = _
  rw [jx_s2 (h 1 a rfl) (h 2 b rfl)]
  rfl
theorem dc_158 {code : ByteArray} {q a b : Nat} {v : Int} (h : jx_B code q [158, a, b]) (hv : Reader.signed 16 (a * 256 + b) = v) : decode code q = .ok (.ifCond .le v, 3) := by
  subst hv
  refine jx_dec0 h (b := 158) rfl ?_
  unfold Decoder.instr
  rw [jx_run_bind, jx_u1 h.h0]
  show (Reader.runAt (Reader.s2 : Decoder Int) code (q + 1) >>= fun x => Reader.runAt (pure (Instr.ifCond .le x.1) : Decoder Instr) code x.2) = _
  rw [jx_s2 (h 1 a rfl) (h 2 b rfl)]
  rfl
theorem dc_159 {code : ByteArray} {q a b : Nat} {v : Int} (h : jx_B code q [159, a, b]) (hv : Reader.signed 16 (a * 256 + b) = v) : decode code q = .ok (.if_icmp .eq v, 3) := by
  subst hv
  refine jx_dec0 h (b := 159) rfl ?_
  unfold Decoder.instr
  rw [jx_run_bind, jx_u1 h.h0]
  show (Reader.runAt (Reader.s2 : Decoder Int) code (q + 1) >>= fun x => Reader.runAt (pure (Instr.if_icmp .eq x.1) : Decoder Instr) code x.2) = _
  rw [jx_s2 (h 1 a rfl) (h 2 b rfl)]
  rfl
theorem dc_160 {code : ByteArray} {q a b : Nat} {v : Int} (h : jx_B code q [160, a, b]) (hv : Reader.signed 16 (a * 256 + b) = v) : decode code q = .ok (.if_icmp .ne v, 3) := by
  subst hv
  refine jx_dec0 h (b := 160) rfl ?_
  unfold Decoder.instr
  rw [jx_run_bind, jx_u1 h.h0]
  show (Reader.runAt (Reader.s2 : Decoder Int) code (q + 1) >>= fun x => Reader.runAt (pure (Instr.if_icmp .ne x.1) : Decoder Instr) code x.2) = _
  rw [jx_s2 (h 1 a rfl) (h 2 b rfl)]
  rfl
theorem dc_161 {code : ByteArray} {q a b : Nat} {v : Int} (h : jx_B code q [161, a, b]) (hv : Reader.signed 16 (a * 256 + b) = v) : decode code q = .ok (.if_icmp .lt v, 3) := by
  subst hv
  refine jx_dec0 h (b := 161) rfl ?_
  unfold Decoder.instr
  rw [jx_run_bind, jx_u1 h.h0]
  show (Reader.runAt (Reader.s2 : Decoder Int) code (q + 1) >>= fun x => Reader.runAt (pure (Instr.if_icmp .lt x.1) : Decoder Instr) code x.2) = _
  rw [jx_s2 (h 1 a rfl) (h 2 b rfl)]
  rfl
theorem dc_162 {code : ByteArray} {q a b : Nat} {v : Int} (h : jx_B code q [162, a, b]) (hv : Reader.signed 16 (a * 256 + b) = v) : decode code q = .ok (.if_icmp .ge v, 3) := by
  subst hv
  refine jx_dec0 h (b := 162) rfl ?_
  unfold Decoder.instr
  rw [jx_run_bind, jx_u1 h.h0]
  show (Reader.runAt (Reader.s2 : Decoder Int) code (q + 1) >>= fun x => Reader.runAt (pure (Instr.if_icmp .ge x.1) : Decoder Instr) code x.2) = _
  rw [jx_s2 (h 1 a rfl) (h 2 b rfl)]
  rfl
theorem dc_163 {code : ByteArray} {q a b : Nat} {v : Int} (h : jx_B code q [163, a, b]) (hv : Reader.signed 16 (a * 256 + b) = v) : decode code q = .ok (.if_icmp .gt v, 3) := by
  subst hv
  refine jx_dec0 h (b := 163) rfl ?_
  unfold Decoder.instr
  rw [jx_run_bind, jx_u1 h.h0]
  show (Reader.runAt (Reader.s2 : Decoder Int) code (q + 1) >>= fun x => Reader.runAt (pure (Instr.if_icmp .gt x.1) : Decoder Instr) code x.2) = _
  rw [jx_s2 (h 1 a rfl) (h 2 b rfl)]
  rfl
theorem dc_164 {code : ByteArray} {q a b : Nat} {v : Int} (h : jx_B code q [164, a, b]) (hv : Reader.signed 16 (a * 256 + b) = v) : decode code q = .ok (.if_icmp .le v, 3) := by
  subst hv
  refine jx_dec0 h (b := 164) rfl ?_
  unfold Decoder.instr
  rw [jx_run_bind, jx_u1 h.h0]
  show (Reader.runAt (Reader.s2 : Decoder Int) code (q + 1) >>= fun x => Reader.runAt (pure (Instr.if_icmp .le x.1) : Decoder Instr) code x.2) = _
  rw [jx_s2 (h 1 a rfl) (h 2 b rfl)]
  rfl
theorem dc_165 {code : ByteArray} {q a b : Nat} {v : Int} (h : jx_B code q [165, a, b]) (hv : Reader.signed 16 (a * 256 + b) = v) : decode code q = .ok (.if_acmp .eq v, 3) := by
  subst hv
  refine jx_dec0 h (b := 165) rfl ?_
  unfold Decoder.instr
  rw [jx_run_bind, jx_u1 h.h0]
  show (Reader.runAt (Reader.s2 : Decoder Int) code (q + 1) >>= fun x => Reader.runAt (pure (Instr.if_acmp .eq x.1) : Decoder Instr) code x.2) = _
  rw [jx_s2 (h 1 a rfl) (h 2 b rfl)]
  rfl
theorem dc_166 {code : ByteArray} {q a b : Nat} {v : Int} (h : jx_B code q [166, a, b]) (hv : Reader.signed 16 (a * 256 + b) = v) : decode code q = .ok (.if_acmp .ne v, 3) := by
  subst hv
  refine jx_dec0 h (b := 166) rfl ?_
  unfold Decoder.instr
  rw [jx_run_bind, jx_u1 h.h0]
  show (Reader.runAt (Reader.s2 : Decoder Int) code (q + 1) >>= fun x => Reader.runAt (pure (Instr.if_acmp .ne x.1) : Decoder Instr) code x.2) = _
  rw [jx_s2 (h 1 a rfl) (h 2 b rfl)]
  rfl
theorem dc_167 {code : ByteArray} {q a b : Nat} {v : Int} (h : jx_B code q [167, a, b]) (hv : Reader.signed 16 (a * 256 + b) = v) : decode code q = .ok (.goto v, 3) := by
  subst hv
  refine jx_dec0 h (b := 167) rfl ?_
  unfold Decoder.instr
  rw [jx_run_bind, jx_u1 h.h0]
  show (Reader.runAt (Reader.s2 : Decoder Int) code (q + 1) >>= fun x => Reader.runAt (pure (Instr.goto x.1) : Decoder Instr) code x.2) = _
  rw [jx_s2 (h 1 a rfl) (h 2 b rfl)]
  rfl
theorem dc_198 {code : ByteArray} {q a b : Nat} {v : Int} (h : jx_B code q [198, a, b]) (hv : Reader.signed 16 (a * 256 + b) = v) : decode code q = .ok (.ifnull v, 3) := by
  subst hv
  refine jx_dec0 h (b := 198) rfl ?_
  unfold Decoder.instr
  rw [jx_run_bind, jx_u1 h.h0]
  show (Reader.runAt (Reader.s2 : Decoder Int) code (q + 1) >>= fun x => Reader.runAt (pure (Instr.ifnull x.1) : Decoder Instr) code x.2) = _
  rw [jx_s2 (h 1 a rfl) (h 2 b rfl)]
  rfl
theorem dc_199 {code : ByteArray} {q a b : Nat} {v : Int} (h : jx_B code q [199, a, b]) (hv : Reader.signed 16 (a * 256 + b) = v) : decode code q = .ok (.ifnonnull v, 3) := by
  subst hv
  refine jx_dec0 h (b := 199) rfl ?_
  unfold Decoder.instr
  rw [jx_run_bind, jx_u1 h.h0]
  show (Reader.runAt (Reader.s2 : Decoder Int) code (q + 1) >>= fun x => Reader.runAt (pure (Instr.ifnonnull x.1) : Decoder Instr) code x.2) = _
  rw [jx_s2 (h 1 a rfl) (h 2 b rfl)]
  rfl
theorem dc_132 {code : ByteArray} {q a b : Nat} {v : Int} (h : jx_B code q [132, a, b]) (hv : Reader.signed 8 b = v) : decode code q = .ok (.iinc a v, 3) := by
  subst hv
  refine jx_dec0 h (b := 132) rfl ?_
  unfold Decoder.instr
  rw [jx_run_bind, jx_u1 h.h0]
  show (Reader.runAt (Reader.u1 : Decoder Nat) code (q + 1) >>= fun x => Reader.runAt (Reader.s1 : Decoder Int) code x.2 >>= fun y => Reader.runAt (pure (Instr.iinc x.1 y.1) : Decoder Instr) code y.2) = _
  rw [jx_u1 (h 1 a rfl)]
  show (Reader.runAt (Reader.s1 : Decoder Int) code (q + 2) >>= fun y => Reader.runAt (pure (Instr.iinc a y.1) : Decoder Instr) code y.2) = _
  rw [jx_s1 (h 2 b rfl)]
  rfl
