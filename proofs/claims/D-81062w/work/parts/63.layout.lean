/-! LAYOUT of what the constructors make, printed by outctor.py, then by hand -/
def jx_aol : List Nat := [0, 1, 0, 2, 3, 0, 0, 4, 5, 6, 7, 8, 9, 10, 11, 12, 13, 14, 15, 16, 17, 18, 19, 20, 21, 22, 23, 24, 25, 26, 27, 28, 29, 30, 31, 32, 0, 0, 0, 33, 0, 0, 34, 35, 36, 37, 0, 0, 38, 39, 40, 41, 42, 43, 44, 45, 46, 47, 0, 48, 49, 50, 51, 52, 53, 54, 55, 56, 57, 58, 59, 60, 61, 62, 63, 64, 65, 66, 67, 68, 69, 0, 70, 71, 72, 73, 74, 75, 76, 77, 78, 79, 80, 81, 82, 0, 83, 84, 85, 86, 87, 1, 0, 0, 0, 0, 0, 32, 0, 1049, 0, 1227, 1228, 0, 0, 0, 1258, 1259, 1260, 0, 0, 1261, 0, 0, 0, 1262, 1263, 1264, 1265, 1266, 0, 1267, 0, 0, 1, 2, 3, 4, 0, 5, 6, 0, 7, 0, 0, 1, 2, 3, 4, 0, 0, 5, 0, 0, 0, 0, 0, 0, 0, 1, 0, 1, 0, 0, 0, 1, 2, 3, 0, 0, 0, 0, 0, 1, 0, 0, 0, 0, 0, 1, 2, 0, 3, 0, 0, 1, 2, 3, 0, 4, 5, 6, 7, 8, 9, 0, 0, 0, 0, 1, 0, 2, 3, 4, 5, 6, 7, 8, 9, 10, 11, 12, 13, 14, 0, 0, 0, 17, 0, 18, 0, 0, 0, 0, 0, 19, 20, 21, 22, 23, 24, 0, 25, 26, 27, 0, 28, 1, 0, 0, 0, 0, 2, 3, 0, 0, 0, 0, 0, 0, 0, 0, 0, 0, 5, 6, 7, 8, 9, 10, 11, 12, 13, 0, 14, 15, 16, 0, 1, 2, 0, 0, 0, 0, 0, 0, 0, 30, 31, 32, 33, 34, 35, 36, 37, 0, 38, 39, 0]
/-- where the array of a field lies, from its object on -/
def jx_ao (g : Nat) : Nat := jx_aol.getD g 0
def jx_col : List (Nat × Nat × Nat) := [(0, 0, 0), (0, 0, 0), (0, 0, 0), (0, 0, 0), (0, 0, 0), (0, 0, 0), (0, 0, 0), (0, 0, 0), (0, 0, 0), (0, 0, 0), (0, 0, 0), (0, 0, 0), (0, 0, 0), (0, 0, 0), (0, 0, 0), (0, 0, 0), (0, 0, 0), (0, 0, 0), (0, 0, 0), (0, 0, 0), (0, 0, 0), (0, 0, 0), (0, 0, 0), (0, 0, 0), (0, 0, 0), (0, 0, 0), (0, 0, 0), (0, 0, 0), (0, 0, 0), (0, 0, 0), (0, 0, 0), (0, 0, 0), (0, 0, 0), (0, 0, 0), (0, 0, 0), (0, 0, 0), (0, 0, 0), (0, 0, 0), (0, 0, 0), (0, 0, 0), (0, 0, 0), (0, 0, 0), (0, 0, 0), (0, 0, 0), (0, 0, 0), (0, 0, 0), (0, 0, 0), (0, 0, 0), (0, 0, 0), (0, 0, 0), (0, 0, 0), (0, 0, 0), (0, 0, 0), (0, 0, 0), (0, 0, 0), (0, 0, 0), (0, 0, 0), (0, 0, 0), (0, 0, 0), (0, 0, 0), (0, 0, 0), (0, 0, 0), (0, 0, 0), (0, 0, 0), (0, 0, 0), (0, 0, 0), (0, 0, 0), (0, 0, 0), (0, 0, 0), (0, 0, 0), (0, 0, 0), (0, 0, 0), (0, 0, 0), (0, 0, 0), (0, 0, 0), (0, 0, 0), (0, 0, 0), (0, 0, 0), (0, 0, 0), (0, 0, 0), (0, 0, 0), (0, 0, 0), (0, 0, 0), (0, 0, 0), (0, 0, 0), (0, 0, 0), (0, 0, 0), (0, 0, 0), (0, 0, 0), (0, 0, 0), (0, 0, 0), (0, 0, 0), (0, 0, 0), (0, 0, 0), (0, 0, 0), (0, 0, 0), (0, 0, 0), (0, 0, 0), (0, 0, 0), (0, 0, 0), (0, 0, 0), (0, 0, 0), (0, 0, 0), (2, 0, 11), (7, 0, 3), (15, 0, 14), (22, 0, 9), (1268, 1016, 2), (33, 0, 2), (9396, 177, 13), (1050, 0, 13), (10812, 69, 10), (10841, 69, 15), (1229, 0, 10), (0, 0, 0), (0, 0, 0), (0, 0, 0), (0, 0, 0), (0, 0, 0), (0, 0, 0), (0, 0, 0), (0, 0, 0), (0, 0, 0), (0, 0, 0), (0, 0, 0), (0, 0, 0), (0, 0, 0), (0, 0, 0), (0, 0, 0), (0, 0, 0), (0, 0, 0), (0, 0, 0), (0, 0, 0), (0, 0, 0), (0, 0, 0), (0, 0, 0), (0, 0, 0), (0, 0, 0), (0, 0, 0), (0, 0, 0), (0, 0, 0), (0, 0, 0), (8, 84, 8), (0, 0, 0), (0, 0, 0), (0, 0, 0), (0, 0, 0), (0, 0, 0), (0, 0, 0), (0, 0, 0), (6, 0, 7), (0, 0, 0), (0, 0, 0), (0, 0, 0), (0, 0, 0), (0, 0, 0), (0, 0, 0), (0, 0, 0), (0, 0, 0), (0, 0, 0), (0, 0, 0), (0, 0, 0), (0, 0, 0), (0, 0, 0), (0, 0, 0), (0, 0, 0), (0, 0, 0), (0, 0, 0), (0, 0, 0), (0, 0, 0), (0, 0, 0), (0, 0, 0), (0, 0, 0), (0, 0, 0), (0, 0, 0), (0, 0, 0), (0, 0, 0), (0, 0, 0), (0, 0, 0), (0, 0, 0), (0, 0, 0), (0, 0, 0), (4, 2, 4), (0, 0, 0), (0, 0, 0), (0, 0, 0), (0, 0, 0), (0, 0, 0), (0, 0, 0), (0, 0, 0), (0, 0, 0), (0, 0, 0), (0, 0, 0), (0, 0, 0), (0, 0, 0), (0, 0, 0), (0, 0, 0), (0, 0, 0), (0, 0, 0), (0, 0, 0), (0, 0, 0), (0, 0, 0), (0, 0, 0), (0, 0, 0), (0, 0, 0), (0, 0, 0), (0, 0, 0), (0, 0, 0), (0, 0, 0), (0, 0, 0), (0, 0, 0), (0, 0, 0), (0, 0, 0), (0, 0, 0), (0, 0, 0), (15, 0, 5), (0, 0, 0), (0, 0, 0), (0, 0, 0), (0, 0, 0), (0, 0, 0), (0, 0, 0), (0, 0, 0), (0, 0, 0), (0, 0, 0), (0, 0, 0), (0, 0, 0), (0, 0, 0), (0, 0, 0), (0, 0, 0), (0, 0, 0), (0, 0, 0), (0, 0, 0), (0, 0, 0), (0, 0, 0), (0, 0, 0), (0, 0, 0), (0, 0, 0), (0, 0, 0), (0, 0, 0), (0, 0, 0), (0, 0, 0), (0, 0, 0), (0, 0, 0), (4, 0, 12), (0, 0, 0), (0, 0, 0), (0, 0, 0), (0, 0, 0), (0, 0, 0), (0, 0, 0), (1, 0, 5), (3, 0, 5), (0, 0, 0), (0, 0, 0), (0, 0, 0), (0, 0, 0), (0, 0, 0), (0, 0, 0), (17, 4, 6), (0, 0, 0), (0, 0, 0), (0, 0, 0), (0, 0, 0), (0, 0, 0), (0, 0, 0), (0, 0, 0), (0, 0, 0), (0, 0, 0), (0, 0, 0), (3, 0, 6), (0, 0, 0), (0, 0, 0), (0, 0, 0), (0, 0, 0), (1, 0, 10), (0, 0, 0), (0, 0, 0), (0, 0, 0), (0, 0, 0), (0, 0, 0), (0, 0, 0), (0, 0, 0), (0, 0, 0), (0, 0, 0), (0, 0, 0), (0, 0, 0), (0, 0, 0), (0, 0, 0)]
def jx_id (r k : Nat) : Int := ((16 * r + k : Nat) : Int)
/-- what the constructors leave (the model's rows are filled later) -/
def jx_s0 (x : Int) (g : Nat) (i : Int) : Int :=
  if (jx_col.getD g (0, 0, 0)).1 ≠ 0 then 16 * (x / 16 + ((jx_col.getD g (0, 0, 0)).1 : Int) + ((jx_col.getD g (0, 0, 0)).2.1 : Int) * i) + ((jx_col.getD g (0, 0, 0)).2.2 : Int)
  else if g = 143 ∨ g = 171 ∨ g = 267 then 43 else if g = 151 then i + 1 else if g = 114 ∨ g = 36 ∨ g = 50 then -1 else 0
def jx_zer (g : Nat) : Bool := ((jx_col.getD g (0, 0, 0)).1 == 0) && !(g == 143 || g == 171 || g == 267 || g == 151 || g == 114 || g == 36 || g == 50)
def jx_b_Model (r : Nat) : List (Int × Nat) := [(jx_id r 0, 0), (jx_id r 0, 1), (jx_id r 0, 3), (jx_id r 0, 4), (jx_id r 0, 7), (jx_id r 0, 8), (jx_id r 0, 9), (jx_id r 0, 10), (jx_id r 0, 11), (jx_id r 0, 12), (jx_id r 0, 13), (jx_id r 0, 14), (jx_id r 0, 15), (jx_id r 0, 16), (jx_id r 0, 17), (jx_id r 0, 18), (jx_id r 0, 19), (jx_id r 0, 20), (jx_id r 0, 21), (jx_id r 0, 22), (jx_id r 0, 23), (jx_id r 0, 24), (jx_id r 0, 25), (jx_id r 0, 26), (jx_id r 0, 27), (jx_id r 0, 28), (jx_id r 0, 29), (jx_id r 0, 30), (jx_id r 0, 31), (jx_id r 0, 32), (jx_id r 0, 33), (jx_id r 0, 34), (jx_id r 0, 35), (jx_id r 0, 39), (jx_id r 0, 42), (jx_id r 0, 43), (jx_id r 0, 44), (jx_id r 0, 45), (jx_id r 0, 48), (jx_id r 0, 49), (jx_id r 0, 50), (jx_id r 0, 51), (jx_id r 0, 52), (jx_id r 0, 53), (jx_id r 0, 54), (jx_id r 0, 55), (jx_id r 0, 56), (jx_id r 0, 57), (jx_id r 0, 59), (jx_id r 0, 60), (jx_id r 0, 61), (jx_id r 0, 62), (jx_id r 0, 63), (jx_id r 0, 64), (jx_id r 0, 65), (jx_id r 0, 66), (jx_id r 0, 67), (jx_id r 0, 68), (jx_id r 0, 69), (jx_id r 0, 70), (jx_id r 0, 71), (jx_id r 0, 72), (jx_id r 0, 73), (jx_id r 0, 74), (jx_id r 0, 75), (jx_id r 0, 76), (jx_id r 0, 77), (jx_id r 0, 78), (jx_id r 0, 79), (jx_id r 0, 80), (jx_id r 0, 82), (jx_id r 0, 83), (jx_id r 0, 84), (jx_id r 0, 85), (jx_id r 0, 86), (jx_id r 0, 87), (jx_id r 0, 88), (jx_id r 0, 89), (jx_id r 0, 90), (jx_id r 0, 91), (jx_id r 0, 92), (jx_id r 0, 93), (jx_id r 0, 94), (jx_id r 0, 96), (jx_id r 0, 97), (jx_id r 0, 98), (jx_id r 0, 99), (jx_id r 0, 100)]
def jx_b_Refusal (r : Nat) : List (Int × Nat) := [(jx_id r 12, 0)]
def jx_b_Reader (r : Nat) : List (Int × Nat) := [(jx_id r 11, 0), (jx_id r 11, 237), (jx_id r 11, 242), (jx_id r 11, 243)] ++ (jx_b_Refusal (r + 4))
def jx_b_Judge (r : Nat) : List (Int × Nat) := [(jx_id r 7, 0), (jx_id r 7, 173)]
def jx_b_BuildReader (r : Nat) : List (Int × Nat) := [(jx_id r 3, 0), (jx_id r 3, 145), (jx_id r 3, 146), (jx_id r 3, 147), (jx_id r 3, 148), (jx_id r 3, 151)] ++ (jx_b_Judge (r + 6))
def jx_b_Exp (r : Nat) : List (Int × Nat) := [(jx_id r 6, 0), (jx_id r 6, 165), (jx_id r 6, 166), (jx_id r 6, 167)]
def jx_b_RulesReader (r : Nat) : List (Int × Nat) := [(jx_id r 14, 0), (jx_id r 14, 268), (jx_id r 14, 269)] ++ (jx_b_Exp (r + 3))
def jx_b_Mover (r : Nat) : List (Int × Nat) := [(jx_id r 9, 0), (jx_id r 9, 185), (jx_id r 9, 186), (jx_id r 9, 187), (jx_id r 9, 189), (jx_id r 9, 190), (jx_id r 9, 191), (jx_id r 9, 192), (jx_id r 9, 193), (jx_id r 9, 194)]
def jx_b_Code (r : Nat) : List (Int × Nat) := [(jx_id r 4, 0), (jx_id r 4, 159)]
def jx_b_Method (r : Nat) : List (Int × Nat) := [(jx_id r 8, 0), (jx_id r 8, 179), (jx_id r 8, 180), (jx_id r 8, 182)] ++ ((List.range 40).flatMap (fun i => jx_b_Code (r + 4 + 2 * i)))
def jx_b_Build (r : Nat) : List (Int × Nat) := [(jx_id r 2, 0), (jx_id r 2, 134), (jx_id r 2, 135), (jx_id r 2, 136), (jx_id r 2, 137), (jx_id r 2, 139), (jx_id r 2, 140), (jx_id r 2, 142)] ++ ((List.range 12).flatMap (fun i => jx_b_Method (r + 8 + 84 * i)))
def jx_b_Crossing (r : Nat) : List (Int × Nat) := [(jx_id r 5, 0), (jx_id r 5, 161)]
def jx_b_Rules (r : Nat) : List (Int × Nat) := [(jx_id r 13, 0)] ++ (jx_b_Crossing (r + 1) ++ (jx_b_Crossing (r + 3) ++ ([(jx_id r 13, 254), (jx_id r 13, 255), (jx_id r 13, 256), (jx_id r 13, 257), (jx_id r 13, 258), (jx_id r 13, 259), (jx_id r 13, 260), (jx_id r 13, 261), (jx_id r 13, 262), (jx_id r 13, 264), (jx_id r 13, 265), (jx_id r 13, 266)] ++ ((List.range 40).flatMap (fun i => jx_b_Exp (r + 17 + 4 * i))))))
def jx_b_Program (r : Nat) : List (Int × Nat) := [(jx_id r 10, 0), (jx_id r 10, 199), (jx_id r 10, 201), (jx_id r 10, 202), (jx_id r 10, 203), (jx_id r 10, 204), (jx_id r 10, 205), (jx_id r 10, 206), (jx_id r 10, 207), (jx_id r 10, 208), (jx_id r 10, 209), (jx_id r 10, 210), (jx_id r 10, 211), (jx_id r 10, 212), (jx_id r 10, 213)] ++ (jx_b_Crossing (r + 15) ++ ([(jx_id r 10, 217), (jx_id r 10, 219), (jx_id r 10, 225), (jx_id r 10, 226), (jx_id r 10, 227), (jx_id r 10, 228), (jx_id r 10, 229), (jx_id r 10, 230), (jx_id r 10, 232), (jx_id r 10, 233), (jx_id r 10, 234), (jx_id r 10, 236)]))
def jx_b_Traffic (r : Nat) : List (Int × Nat) := [(jx_id r 15, 0)] ++ (jx_b_Program (r + 1) ++ ([(jx_id r 15, 277), (jx_id r 15, 278), (jx_id r 15, 279), (jx_id r 15, 280), (jx_id r 15, 281), (jx_id r 15, 282), (jx_id r 15, 283), (jx_id r 15, 284), (jx_id r 15, 286), (jx_id r 15, 287)]))
def jx_b_House (r : Nat) : List (Int × Nat) := [(jx_id r 1, 0), (jx_id r 1, 101)] ++ (jx_b_Reader (r + 2) ++ (jx_b_BuildReader (r + 7) ++ (jx_b_RulesReader (r + 15) ++ (jx_b_Mover (r + 22) ++ ([(jx_id r 1, 107)] ++ (jx_b_Build (r + 33) ++ ([(jx_id r 1, 109)] ++ (jx_b_Rules (r + 1050) ++ ([(jx_id r 1, 111), (jx_id r 1, 112)] ++ (jx_b_Program (r + 1229) ++ ([(jx_id r 1, 116), (jx_id r 1, 117), (jx_id r 1, 118), (jx_id r 1, 121), (jx_id r 1, 125), (jx_id r 1, 126), (jx_id r 1, 127), (jx_id r 1, 128), (jx_id r 1, 129), (jx_id r 1, 131)] ++ ((List.range 8).flatMap (fun i => jx_b_Build (r + 1268 + 1016 * i)) ++ ((List.range 8).flatMap (fun i => jx_b_Rules (r + 9396 + 177 * i)) ++ ((List.range 4).flatMap (fun i => jx_b_Program (r + 10812 + 69 * i) ++ jx_b_Traffic (r + 10812 + 69 * i + 29))))))))))))))))
theorem nw_4 {code : ByteArray} {q : Nat} (h : jx_B code q [188, 4]) : decode code q = .ok (.newarray .boolean, 2) := by
  refine jx_dec0 h (b := 188) rfl ?_
  unfold Decoder.instr
  rw [jx_run_bind, jx_u1 h.h0]
  show (Reader.runAt (Reader.u1 : Decoder Nat) code (q + 1) >>= fun x => _) = _
  rw [jx_u1 (h 1 4 rfl)]
  rfl
theorem nw_8 {code : ByteArray} {q : Nat} (h : jx_B code q [188, 8]) : decode code q = .ok (.newarray .byte, 2) := by
  refine jx_dec0 h (b := 188) rfl ?_
  unfold Decoder.instr
  rw [jx_run_bind, jx_u1 h.h0]
  show (Reader.runAt (Reader.u1 : Decoder Nat) code (q + 1) >>= fun x => _) = _
  rw [jx_u1 (h 1 8 rfl)]
  rfl
theorem nw_10 {code : ByteArray} {q : Nat} (h : jx_B code q [188, 10]) : decode code q = .ok (.newarray .int, 2) := by
  refine jx_dec0 h (b := 188) rfl ?_
  unfold Decoder.instr
  rw [jx_run_bind, jx_u1 h.h0]
  show (Reader.runAt (Reader.u1 : Decoder Nat) code (q + 1) >>= fun x => _) = _
  rw [jx_u1 (h 1 10 rfl)]
  rfl
theorem nw_11 {code : ByteArray} {q : Nat} (h : jx_B code q [188, 11]) : decode code q = .ok (.newarray .long, 2) := by
  refine jx_dec0 h (b := 188) rfl ?_
  unfold Decoder.instr
  rw [jx_run_bind, jx_u1 h.h0]
  show (Reader.runAt (Reader.u1 : Decoder Nat) code (q + 1) >>= fun x => _) = _
  rw [jx_u1 (h 1 11 rfl)]
  rfl
theorem jx_s0_zero {g : Nat} (h : jx_zer g = true) (x i : Int) : jx_s0 x g i = 0 := by
  simp only [jx_zer, Bool.and_eq_true, beq_iff_eq, Bool.not_eq_true', Bool.or_eq_false_iff, beq_eq_false_iff_ne] at h
  unfold jx_s0
  rw [if_neg (fun q => q h.1), if_neg (by omega), if_neg (by omega), if_neg (by omega)]
theorem jx_s0_obj {g o st k : Nat} (h : jx_col.getD g (0, 0, 0) = (o, st, k)) (ho : o ≠ 0) (r k0 : Nat) (hk : k0 < 16) (i : Nat) : jx_s0 (jx_id r k0) g (i : Int) = jx_id (r + o + st * i) k := by
  unfold jx_s0
  rw [h]
  rw [if_pos ho]
  unfold jx_id
  have : ((16 * r + k0 : Nat) : Int) / 16 = (r : Int) := by omega
  rw [this]
  push_cast
  rfl
/-- the layout is the constructors' -/
def jx_std (L : jx_L) (σ : jx_S) : Prop := (∃ B : Nat, ∀ r k g, k < 16 → g ≠ 288 → jx_ad L (jx_id r k) g = B + r + jx_ao g) ∧ (∀ r k, k < 16 → jx_cl L (jx_id r k) = k) ∧ σ = jx_s0
theorem jx_sad {L : jx_L} {σ : jx_S} (h : jx_std L σ) {r k g n : Nat} (hk : k < 16) (hg : g ≠ 288) (ha : jx_ao g = n) : jx_ad L (jx_id r k) g = jx_ad L (jx_id r k) 0 + n := by
  obtain ⟨⟨B, hB⟩, -⟩ := h
  rw [hB r k g hk hg, hB r k 0 hk (by decide), ha]
  rfl
theorem jx_sch {L : jx_L} {σ : jx_S} (h : jx_std L σ) {r k k2 n r2 : Nat} (hk : k < 16) (hk2 : k2 < 16) (hr : r2 = r + n) : jx_ad L (jx_id r2 k2) 0 = jx_ad L (jx_id r k) 0 + n := by
  obtain ⟨⟨B, hB⟩, -⟩ := h
  subst hr
  rw [hB _ k2 0 hk2 (by decide), hB r k 0 hk (by decide)]
  omega
section
variable {M Mc : jx_M} {L : jx_L} {A : Nat → Prop} {p : Program} {l : Launch} {e : Env} {R : Room} {s : State} {m : MethodId} {args : Array Value} {below : List Frame} {meth : Method} {c : Code} {Q : State → Prop} {H0 H : Heap} {locs : List Loc} {ls : Array Slot} {st : List Value} {cells slots : Nat} {x : Int} {r k n : Nat} {ex : List (Nat × Nat)} {fs : Nat → Value} {pc p2 idx : Nat}
/-- a number is pushed -/
def jx_pu (p : Program) (l : Launch) (e : Env) (R : Room) (s : State) (m : MethodId) (args : Array Value) (below : List Frame) (meth : Method) (c : Code) (Q : State → Prop) (ls : Array Slot) (pc p2 : Nat) (v : Int) : Prop :=
  ∀ (H : Heap) (locs : List Loc) (cells slots : Nat) (st : List Value), W p l e R s m args below meth c H locs cells slots Q (F0 m p2 ls (.int (Int32.ofInt v) :: st)) → W p l e R s m args below meth c H locs cells slots Q (F0 m pc ls st)
theorem pu_ic (hC : jx_CK M L A p R s m args meth c) {v : Int} (d : decode (jx_cc M) pc = .ok (.iconst v, 1)) : jx_pu p l e R s m args below meth c Q ls pc (pc + 1) v := fun _ _ _ _ _ k => lv_iconst hC.1 hC.2.1 d rfl k
theorem pu_bi (hC : jx_CK M L A p R s m args meth c) {v : Int} (d : decode (jx_cc M) pc = .ok (.bipush v, 2)) (h : jx_b8 v = true) : jx_pu p l e R s m args below meth c Q ls pc (pc + 2) v := fun _ _ _ _ _ k => lv_bipush hC.1 hC.2.1 d (by
  simp only [jx_b8, Bool.and_eq_true, decide_eq_true_eq] at h
  rw [← Int32.toInt_inj, Int8.toInt_toInt32, jx_ti (by omega)]
  exact Int8.toInt_ofInt_of_le (by omega) (by omega)) k
theorem pu_si (hC : jx_CK M L A p R s m args meth c) {v : Int} (d : decode (jx_cc M) pc = .ok (.sipush v, 3)) (h : jx_b16 v = true) : jx_pu p l e R s m args below meth c Q ls pc (pc + 3) v := fun _ _ _ _ _ k => lv_sipush hC.1 hC.2.1 d (by
  simp only [jx_b16, Bool.and_eq_true, decide_eq_true_eq] at h
  rw [← Int32.toInt_inj, Int16.toInt_toInt32, jx_ti (by omega)]
  exact Int16.toInt_ofInt_of_le (by omega) (by omega)) k
theorem pu_ldc (hC : jx_CK M L A p R s m args meth c) {v : Int} (d : decode (jx_cc M) pc = .ok (.ldc idx, 2)) (hw : Cond.constant (jx_own M) idx (Int32.ofInt v) ∈ jx_tb) : jx_pu p l e R s m args below meth c Q ls pc (pc + 2) v := fun _ _ _ _ _ k => lv_ldc hC.1 hC.2.1 hC.2.2.2.1 (hC.2.2.2.2.1 _ hw) d k
/-- what is asked of a field that holds an array of numbers -/
def jx_arc (k j g t N n : Nat) : Bool := (jx_fo k + j == g) && Nat.blt j (jx_nf k) && (jx_ft g == 100 + t) && (t == 1 || t == 2 || t == 3 || t == 4) && (jx_fl g == N) && Nat.blt g 288 && Nat.blt 0 g && Nat.ble N 70000 && (jx_ao g == n) && Nat.blt 0 n && Nat.blt k 16
theorem jx_fitA {t : Nat} {a : Nat} : narrow (jx_fty (100 + t)) (.ref a) = .ref a ∧ fits (jx_fty (100 + t)) (.ref a) = true := by
  unfold jx_fty
  rw [if_neg (by omega)]
  exact ⟨rfl, rfl⟩
/-- this.f = new T[N] -/
theorem b_fa (hC : jx_CK M L A p R s m args meth c) (hstd : jx_std L jx_s0) (hB : jx_bd L jx_s0 (jx_id r k) k n ex fs H0 H) (hS : va_S A s.heap H locs) (hx : (jx_id r k, 0) ∈ jx_cs L) (hl : ls[0]? = some (.val (.ref (jx_ad L (jx_id r k) 0)))) (j g t N : Nat) {at' : ArrayType} (hxg : (jx_id r k, g) ∈ jx_cs L) (hc : (jx_arc k j g t N n && jx_zer g) = true) (hta : newarray.typeOf at' = jx_fty0 t) (hw : Cond.arrayClass (jx_fty0 t) ∈ jx_tb) (hlk : Cond.fieldLink (jx_own M) idx (jx_fd g).1 (jx_fd g).2.1 (jx_fd g).2.2.1 ∈ jx_tb) (hown : jx_own M = (jx_fd g).1) (hcells : cells + 1 ≤ R.cells) (hslots : slots + N ≤ R.slots)
    (d0 : decode (jx_cc M) pc = .ok (.aload_n 0, 1)) (hp : jx_pu p l e R s m args below meth c Q ls (pc + 1) p2 (N : Int)) (d2 : decode (jx_cc M) p2 = .ok (.newarray at', 2)) (d3 : decode (jx_cc M) (p2 + 2) = .ok (.putfield idx, 3))
    (kk : ∀ H' locs', jx_bd L jx_s0 (jx_id r k) k (n + 1) ex (updV fs j (.ref (jx_ad L (jx_id r k) g))) H0 H' → va_S A s.heap H' locs' → W p l e R s m args below meth c H' locs' (cells + 1) (slots + N) Q (F0 m (p2 + 5) ls st)) : W p l e R s m args below meth c H locs cells slots Q (F0 m pc ls st) := by
  simp only [jx_arc, Bool.and_eq_true, beq_iff_eq, Nat.blt_eq, Bool.or_eq_true] at hc
  obtain ⟨⟨⟨⟨⟨⟨⟨⟨⟨⟨⟨c1, c2⟩, c3⟩, c4⟩, c5⟩, c6⟩, c7⟩, c8⟩, c9⟩, c10⟩, c11⟩, c12⟩ := hc
  refine lv_aload_n hC.1 hC.2.1 d0 rfl hl ?_
  refine hp _ _ _ _ _ ?_
  refine b_arr hC hB hS t g N hxg (jx_sad hstd c11 (by omega) c9) c10 hta ?_ ?_ (fun i _ => jx_s0_zero c12 _ _) (by omega) (Nat.le_of_ble_eq_true c8) hw hcells hslots d2 (fun H1 hB1 hS1 => ?_)
  · rw [c3]
    rcases c4 with ((h | h) | h) | h <;> simp [h]
  · unfold jx_ln
    rw [if_neg (by omega), c5]
  · refine b_put hC hB1 hS1 hx j g hlk hown c1 c11 c2 ?_ d3 (fun H2 locs2 hB2 hS2 => kk H2 locs2 hB2 hS2)
    rw [c3]
    exact jx_fitA
/-- this.f = new C[N] -/
theorem b_fo (hC : jx_CK M L A p R s m args meth c) (hstd : jx_std L jx_s0) (hB : jx_bd L jx_s0 (jx_id r k) k n ex fs H0 H) (hS : va_S A s.heap H locs) (hx : (jx_id r k, 0) ∈ jx_cs L) (hl : ls[0]? = some (.val (.ref (jx_ad L (jx_id r k) 0)))) (j g t N : Nat) {ix : Nat} (hxg : (jx_id r k, g) ∈ jx_cs L) (hc : ((jx_fo k + j == g) && Nat.blt j (jx_nf k) && (jx_ft g == 110 + t) && Nat.blt t 16 && (jx_fl g == N) && Nat.blt g 288 && Nat.blt 0 g && Nat.ble N 70000 && (jx_ao g == n) && Nat.blt 0 n && Nat.blt k 16) = true) (ht2 : 10 + t ∈ jx_atl) (hcl : Cond.classLink (jx_own M) ix (jx_cn t) ∈ jx_tb) (hw : jx_oar t = true) (hlk : Cond.fieldLink (jx_own M) idx (jx_fd g).1 (jx_fd g).2.1 (jx_fd g).2.2.1 ∈ jx_tb) (hown : jx_own M = (jx_fd g).1) (hcells : cells + 1 ≤ R.cells) (hslots : slots + N ≤ R.slots)
    (d0 : decode (jx_cc M) pc = .ok (.aload_n 0, 1)) (hp : jx_pu p l e R s m args below meth c Q ls (pc + 1) p2 (N : Int)) (d2 : decode (jx_cc M) p2 = .ok (.anewarray ix, 3)) (d3 : decode (jx_cc M) (p2 + 3) = .ok (.putfield idx, 3))
    (kk : ∀ H' locs', jx_bd L jx_s0 (jx_id r k) k (n + 1) ((g, 0) :: ex) (updV fs j (.ref (jx_ad L (jx_id r k) g))) H0 H' → va_S A s.heap H' locs' → W p l e R s m args below meth c H' locs' (cells + 1) (slots + N) Q (F0 m (p2 + 6) ls st)) : W p l e R s m args below meth c H locs cells slots Q (F0 m pc ls st) := by
  simp only [Bool.and_eq_true, beq_iff_eq, Nat.blt_eq] at hc
  obtain ⟨⟨⟨⟨⟨⟨⟨⟨⟨⟨c1, c2⟩, c3⟩, c4⟩, c5⟩, c6⟩, c7⟩, c8⟩, c9⟩, c10⟩, c11⟩ := hc
  refine lv_aload_n hC.1 hC.2.1 d0 rfl hl ?_
  refine hp _ _ _ _ _ ?_
  refine b_oarr hC hB hS t g N hxg (jx_sad hstd c11 (by omega) c9) c10 c3 ht2 ?_ (Nat.le_of_ble_eq_true c8) ?_ hcl hw hcells hslots d2 (fun H1 hB1 hS1 => ?_)
  · unfold jx_ln
    rw [if_neg (by omega), c5]
  · unfold jx_fty0
    repeat rw [if_neg (by omega)]
    rw [Nat.add_sub_cancel_left]
  · refine b_put hC hB1 hS1 hx j g hlk hown c1 c11 c2 ?_ d3 (fun H2 locs2 hB2 hS2 => kk H2 locs2 hB2 hS2)
    rw [c3, show 110 + t = 100 + (10 + t) by omega]
    exact jx_fitA
/-- new C(vs), the arguments behind it on the stack: the child x2 -/
theorem b_made (hC : jx_CK M L A p R s m args meth c) (hstd : jx_std L jx_s0) (hB : jx_bd L jx_s0 (jx_id r k) k n ex fs H0 H) (hS : va_S A s.heap H locs) (hls : ls.size = jx_nl M) {y : MethodName} (k2 n2 sl N : Nat) {ix : Nat} {pre : jx_L → jx_S → Int → List Value → Prop} (r2 : Nat) (hr2 : r2 = r + n) (vs : List Value) (hM : jx_Ct y Mc k2 n2 sl pre) (hx2 : (jx_id r2 k2, 0) ∈ jx_cs L) (hpre : pre L jx_s0 (jx_id r2 k2) vs)
    (hcl : Cond.classLink (jx_own M) ix (jx_cn k2) ∈ jx_tb) (hins : Cond.instantiable (jx_cn k2) N ∈ jx_tb) (hcw : Cond.code y (jx_cc Mc) (jx_nl Mc) none ∈ jx_tb) (hini : Cond.initialized (jx_cn k2) ∈ jx_tb) (hyc : y.cls = jx_cn k2) (hlk : jx_IL (jx_own M) idx y) (hin : Cond.instanceMethod y ∈ jx_tb) (hy : y.name = "<init>") (hd : y.cls ≠ "java/lang/invoke/MethodHandle" ∧ y.cls ≠ "java/lang/invoke/VarHandle" ∧ (parseMethodDescriptor y.desc).map (fun d => d.parameters.length) = some vs.length) (hfit : jx_fitsIn M Mc = true)
    (hnum : (Nat.blt k 16 && Nat.blt k2 16 && Nat.blt 0 n && Nat.blt 0 n2) = true) (hst : jx_ct st ≤ 7) (hcells : cells + n2 ≤ R.cells) (hslots : slots + (N + sl) ≤ R.slots) (d0 : decode (jx_cc M) pc = .ok (.new ix, 3)) (d1 : decode (jx_cc M) (pc + 3) = .ok (.dup, 1)) (hvs : ∀ (H1 : Heap), (∀ q : Nat, q < H.size → H1[q]? = H[q]?) → ∀ (locs : List Loc) (cells slots : Nat) (st : List Value), W p l e R s m args below meth c H1 locs cells slots Q (F0 m p2 ls (vs.reverse ++ st)) → W p l e R s m args below meth c H1 locs cells slots Q (F0 m (pc + 4) ls st)) (d2 : decode (jx_cc M) p2 = .ok (.invokespecial idx, 3))
    (kk : ∀ H' locs', jx_bd L jx_s0 (jx_id r k) k (n + n2) ex fs H0 H' → va_S A s.heap H' locs' → W p l e R s m args below meth c H' locs' (cells + n2) (slots + (N + sl)) Q (F0 m (p2 + 3) ls (.ref (jx_ad L (jx_id r2 k2) 0) :: st))) : W p l e R s m args below meth c H locs cells slots Q (F0 m pc ls st) := by
  simp only [Bool.and_eq_true, Nat.blt_eq] at hnum
  obtain ⟨⟨⟨c1, c2⟩, c3⟩, c4⟩ := hnum
  have had := jx_sch hstd (r := r) (k := k) (k2 := k2) (n := n) c1 c2 hr2
  refine b_new hC hB hS (jx_id r2 k2) k2 N had c2 hcl hins hini (by omega) (by omega) d0 (fun H1 hB1 hR6 o1 hS1 => ?_)
  refine lv_dup hC.1 hC.2.1 d1 rfl ?_
  refine hvs _ o1 _ _ _ _ ?_
  refine b_call hC hS1 hM hx2 hpre hB1 hR6 hls hcw (by rw [hyc]; exact hini) hlk hin hy hd hfit ?_ (by omega) (by omega) d2 (fun H2 locs2 fs2 hB2 hf2 hS2 => ?_)
  · show 1 + jx_ct st ≤ 8
    omega
  have hB3 : jx_bd L jx_s0 (jx_id r2 k2) k2 n2 [] fs2 H H2 := by
    obtain ⟨z1, z2, z3, z4, z5⟩ := hB2
    refine ⟨z1, z2, z3, fun q hq => (z4 q hq).trans (o1 q ?_), z5⟩
    rw [hB.1, ← had]
    exact hq
  have hB4 := b_child hC.2.2.2.2.2.2.1 hB c3 hx2 (hstd.2.1 r2 k2 c2) had hB3 c4 hf2
  have := kk H2 locs2 hB4 hS2
  rw [show cells + 1 + (n2 - 1) = cells + n2 by omega, show slots + N + sl = slots + (N + sl) by omega]
  exact this
/-- a field of the object that is being made is read -/
theorem b_get (hC : jx_CK M L A p R s m args meth c) (hO : t_OB (jx_ad L x 0) ((jx_D L).1 k) (jx_nf k) ((jx_D L).2 k) H fs) (j g : Nat) (hl : Cond.fieldLink (jx_own M) idx (jx_fd g).1 (jx_fd g).2.1 (jx_fd g).2.2.1 ∈ jx_tb) (hg : jx_fo k + j = g) (hk : k < 16) (hj : j < jx_nf k) (d : decode (jx_cc M) pc = .ok (.getfield idx, 3))
    (kk : W p l e R s m args below meth c H locs cells slots Q (F0 m (pc + 3) ls (fs j :: st))) : W p l e R s m args below meth c H locs cells slots Q (F0 m pc ls (.ref (jx_ad L x 0) :: st)) := by
  obtain ⟨hexec, hb, -, hown, hts, hK, -⟩ := hC
  obtain ⟨cell, q1, q2, q3, q4⟩ := hO
  obtain ⟨hS, hfc, kC, hkC, hkind⟩ := hK.1.1 k _ (jx_cls_at hk)
  obtain ⟨cf, kf, fi, f, hi, hsl⟩ := hS j hj
  have hst := (u_facts hfc hkC (u_lays hts (jx_lay_ok hk) hj) hi).1
  have hi : s.fieldFound? (jx_T k j).1 (jx_T k j).2.1 (jx_T k j).2.2.1 = some (cf, kf, fi, f) := hi
  have hTg : jx_T k j = jx_fd g := by rw [← hg]; rfl
  rw [hTg] at hi
  exact W.getf hexec hb hown (hts _ hl) hi hst q1 (by rw [q3]; exact fun h => by cases h) (by rw [hsl]; exact q4 j hj) rfl rfl d kk
/-- for (i = 0; i < N; i++) this.f[i] = new C(): at the loop's head, with i done -/
theorem b_loop (hC : jx_CK M L A p R s m args meth c) (hstd : jx_std L jx_s0) (hx : (jx_id r k, 0) ∈ jx_cs L) {y : MethodName} (j g N k2 n2 sl NN o : Nat) {ig ix : Nat} {pre : jx_L → jx_S → Int → List Value → Prop} (hM : jx_Ct y Mc k2 n2 sl pre) (hxg : (jx_id r k, g) ∈ jx_cs L) (hx2 : ∀ i, i < N → (jx_id (r + o + n2 * i) k2, 0) ∈ jx_cs L ∧ pre L jx_s0 (jx_id (r + o + n2 * i) k2) [])
    (hgl : Cond.fieldLink (jx_own M) ig (jx_fd g).1 (jx_fd g).2.1 (jx_fd g).2.2.1 ∈ jx_tb) (hcl : Cond.classLink (jx_own M) ix (jx_cn k2) ∈ jx_tb) (hins : Cond.instantiable (jx_cn k2) NN ∈ jx_tb) (hcw : Cond.code y (jx_cc Mc) (jx_nl Mc) none ∈ jx_tb) (hini : Cond.initialized (jx_cn k2) ∈ jx_tb) (hyc : y.cls = jx_cn k2) (hlk : jx_IL (jx_own M) idx y) (hin : Cond.instanceMethod y ∈ jx_tb) (hy : y.name = "<init>") (hd : y.cls ≠ "java/lang/invoke/MethodHandle" ∧ y.cls ≠ "java/lang/invoke/VarHandle" ∧ (parseMethodDescriptor y.desc).map (fun d => d.parameters.length) = some 0) (hfit : jx_fitsIn M Mc = true)
    (hnum : (Nat.blt k 16 && Nat.blt k2 16 && Nat.blt 0 n2 && Nat.blt 0 o && (jx_fo k + j == g) && Nat.blt j (jx_nf k) && (jx_ft g == 110 + k2) && (jx_fl g == N) && Nat.blt g 288 && Nat.blt 0 g && Nat.ble N 70000 && Nat.blt 1 (jx_nl M) && jx_b8 (N : Int)) = true) (hco : jx_col.getD g (0, 0, 0) = (o, n2, k2)) (hat : 10 + k2 ∈ jx_atl) (c0 s0 : Nat) (hcells : c0 + n2 * N ≤ R.cells) (hslots : s0 + (NN + sl) * N ≤ R.slots) (hne : ∀ h i, (h, i) ∈ ex → jx_ad L (jx_id r k) h ≠ jx_ad L (jx_id r k) g) (hfs : fs j = .ref (jx_ad L (jx_id r k) g))
    (h pe : Nat) (d0 : decode (jx_cc M) h = .ok (.iload_n 1, 1)) (d1 : decode (jx_cc M) (h + 1) = .ok (.bipush (N : Int), 2)) {off : Int} (d2 : decode (jx_cc M) (h + 3) = .ok (.if_icmp .ge off, 3)) (hoff : ((h + 3 : Nat) : Int) + off = (pe : Int)) (d3 : decode (jx_cc M) (h + 6) = .ok (.aload_n 0, 1)) (d4 : decode (jx_cc M) (h + 7) = .ok (.getfield ig, 3)) (d5 : decode (jx_cc M) (h + 10) = .ok (.iload_n 1, 1)) (d6 : decode (jx_cc M) (h + 11) = .ok (.new ix, 3)) (d7 : decode (jx_cc M) (h + 14) = .ok (.dup, 1)) (d8 : decode (jx_cc M) (h + 15) = .ok (.invokespecial idx, 3)) (d9 : decode (jx_cc M) (h + 18) = .ok (.aastore, 1)) (d10 : decode (jx_cc M) (h + 19) = .ok (.iinc 1 1, 3)) {off2 : Int} (d11 : decode (jx_cc M) (h + 22) = .ok (.goto off2, 3)) (hoff2 : ((h + 22 : Nat) : Int) + off2 = (h : Int))
    (kk : ∀ H' locs' ls', jx_bd L jx_s0 (jx_id r k) k (o + n2 * N) ex fs H0 H' → va_S A s.heap H' locs' → lv_has ls' (jx_nl M) [(0, .ref (jx_ad L (jx_id r k) 0))] → W p l e R s m args below meth c H' locs' (c0 + n2 * N) (s0 + (NN + sl) * N) Q (F0 m pe ls' [])) :
    ∀ (d i : Nat), i + d = N → ∀ (H : Heap) (locs : List Loc) (ls : Array Slot), jx_bd L jx_s0 (jx_id r k) k (o + n2 * i) ((g, i) :: ex) fs H0 H → va_S A s.heap H locs → lv_has ls (jx_nl M) [(1, .int (Int32.ofInt i)), (0, .ref (jx_ad L (jx_id r k) 0))] → W p l e R s m args below meth c H locs (c0 + n2 * i) (s0 + (NN + sl) * i) Q (F0 m h ls []) := by
  have hnum0 := hnum
  simp only [Bool.and_eq_true, Nat.blt_eq, beq_iff_eq] at hnum
  obtain ⟨⟨⟨⟨⟨⟨⟨⟨⟨⟨⟨⟨a1, a2⟩, a3⟩, a4⟩, a5⟩, a6⟩, a7⟩, a8⟩, a9⟩, a10⟩, a11⟩, a12⟩, a13⟩ := hnum
  have hN70 := Nat.le_of_ble_eq_true a11
  have hln : jx_ln (jx_id r k) g = (N : Int) := by
    unfold jx_ln
    rw [if_neg (by omega), a8]
  intro d
  induction d with
  | zero =>
    intro i hi H locs ls hB hS hls
    have hi : i = N := by omega
    subst hi
    refine lv_iload_n hC.1 hC.2.1 d0 rfl (hls.2.2 _ List.mem_cons_self) ?_
    refine pu_bi hC d1 a13 _ _ _ _ _ ?_
    refine lv_icmp_ge hC.1 hC.2.1 d2 hoff (fun _ => ?_) (fun q => ?_)
    · exact kk H locs ls (b_full hB hln (by omega)) hS ⟨hls.1, hls.2.1, fun q hq => hls.2.2 q (List.mem_cons_of_mem _ hq)⟩
    · exact absurd (Int32.le_refl _) q
  | succ d ih =>
    intro i hi H locs ls hB hS hls
    have hiN : i < N := by omega
    obtain ⟨hx2i, hprei⟩ := hx2 i hiN
    refine lv_iload_n hC.1 hC.2.1 d0 rfl (hls.2.2 _ List.mem_cons_self) ?_
    refine pu_bi hC d1 a13 _ _ _ _ _ ?_
    refine lv_icmp_ge hC.1 hC.2.1 d2 hoff (fun q => ?_) (fun _ => ?_)
    · exfalso
      have := Int32.le_iff_toInt_le.mp q
      rw [jx_ti (by omega), jx_ti (by omega)] at this
      omega
    refine lv_aload_n hC.1 hC.2.1 d3 rfl (hls.2.2 _ (List.mem_cons_of_mem _ List.mem_cons_self)) ?_
    refine b_get hC hB.2.1 j g hgl a5 a1 a6 d4 ?_
    rw [hfs]
    refine lv_iload_n hC.1 hC.2.1 d5 rfl (hls.2.2 _ List.mem_cons_self) ?_
    have hm1 : n2 * i + n2 ≤ n2 * N := by
      have := Nat.mul_le_mul_left n2 (show i + 1 ≤ N by omega)
      rw [Nat.mul_succ] at this
      exact this
    have hm2 : (NN + sl) * i + (NN + sl) ≤ (NN + sl) * N := by
      have := Nat.mul_le_mul_left (NN + sl) (show i + 1 ≤ N by omega)
      rw [Nat.mul_succ] at this
      exact this
    refine b_made hC hstd hB hS hls.1 k2 n2 sl NN (r + o + n2 * i) (by omega) [] hM hx2i hprei hcl hins hcw hini hyc hlk hin hy hd hfit ?_ ?_ (by omega) (by omega) d6 d7 (fun _ _ _ _ _ _ k => k) d8 (fun H1 locs1 hB1 hS1 => ?_)
    · simp only [Bool.and_eq_true, Nat.blt_eq]
      exact ⟨⟨⟨a1, a2⟩, by omega⟩, a3⟩
    · exact Nat.le_of_ble_eq_true rfl
    have had := jx_sch hstd (r := r) (k := k) (k2 := k2) (n := o + n2 * i) (r2 := r + o + n2 * i) a1 a2 (by omega)
    refine b_fill hC hB1 hS1 hne hxg (by unfold jx_script; omega) k2 N (by omega) a7 hat a2 hln hiN hN70 (jx_id (r + o + n2 * i) k2) hx2i ?_ (hstd.2.1 _ _ a2) ?_ (by omega) (jx_s0_obj hco (by omega) r k a1 i) d9 (fun H2 locs2 hB2 hS2 => ?_)
    · unfold jx_id
      intro q
      have : 16 * (r + o + n2 * i) + k2 = 16 * r + k := Int.ofNat.inj q
      generalize n2 * i = z at this
      omega
    · unfold jx_id
      intro q
      have : 16 * (r + o + n2 * i) + k2 = 0 := Int.ofNat.inj q
      generalize n2 * i = z at this
      omega
    refine lv_iinc (k := 0) hC.1 hC.2.1 d10 hls rfl rfl a12 rfl (fun ls2 hls2 => ?_)
    refine lv_goto hC.1 hC.2.1 d11 hoff2 ?_
    rw [show o + n2 * i + n2 = o + n2 * (i + 1) by rw [Nat.mul_succ]; omega] at hB2
    rw [show c0 + n2 * i + n2 = c0 + n2 * (i + 1) by rw [Nat.mul_succ]; omega, show s0 + (NN + sl) * i + (NN + sl) = s0 + (NN + sl) * (i + 1) by rw [Nat.mul_succ]; omega]
    refine ih (i + 1) (by omega) H2 locs2 ls2 hB2 hS2 ?_
    have e1 : Int32.ofInt (i : Int) + Int32.ofInt 1 = Int32.ofInt ((i + 1 : Nat) : Int) := by
      rw [← Int32.toInt_inj, jx_ti (by omega), Int32.toInt_add, jx_ti (by omega), jx_ti (by omega)]
      rw [Int.bmod_eq_of_le] <;> omega
    rw [e1] at hls2
    exact hls2
/-- for (i = 0; i < N; i++) { this.f[i] = new C(); this.g[i] = new D(); } -/
theorem b_loop2 {Md : jx_M} (hC : jx_CK M L A p R s m args meth c) (hstd : jx_std L jx_s0) (hx : (jx_id r k, 0) ∈ jx_cs L) {y y' : MethodName} (j g j' g' N k2 n2 sl NN k3 n3 sl3 N3 o : Nat) {ig ix ig' ix' idx' : Nat} {pre pre' : jx_L → jx_S → Int → List Value → Prop} (hM : jx_Ct y Mc k2 n2 sl pre) (hM' : jx_Ct y' Md k3 n3 sl3 pre') (hxg : (jx_id r k, g) ∈ jx_cs L) (hxg' : (jx_id r k, g') ∈ jx_cs L) (hx2 : ∀ i, i < N → ((jx_id (r + o + (n2 + n3) * i) k2, 0) ∈ jx_cs L ∧ pre L jx_s0 (jx_id (r + o + (n2 + n3) * i) k2) []) ∧ (jx_id (r + (o + n2) + (n2 + n3) * i) k3, 0) ∈ jx_cs L ∧ pre' L jx_s0 (jx_id (r + (o + n2) + (n2 + n3) * i) k3) [])
    (hgl : Cond.fieldLink (jx_own M) ig (jx_fd g).1 (jx_fd g).2.1 (jx_fd g).2.2.1 ∈ jx_tb) (hcl : Cond.classLink (jx_own M) ix (jx_cn k2) ∈ jx_tb) (hins : Cond.instantiable (jx_cn k2) NN ∈ jx_tb) (hcw : Cond.code y (jx_cc Mc) (jx_nl Mc) none ∈ jx_tb) (hini : Cond.initialized (jx_cn k2) ∈ jx_tb) (hyc : y.cls = jx_cn k2) (hlk : jx_IL (jx_own M) idx y) (hin : Cond.instanceMethod y ∈ jx_tb) (hy : y.name = "<init>") (hd : y.cls ≠ "java/lang/invoke/MethodHandle" ∧ y.cls ≠ "java/lang/invoke/VarHandle" ∧ (parseMethodDescriptor y.desc).map (fun d => d.parameters.length) = some 0) (hfit : jx_fitsIn M Mc = true)
    (hgl' : Cond.fieldLink (jx_own M) ig' (jx_fd g').1 (jx_fd g').2.1 (jx_fd g').2.2.1 ∈ jx_tb) (hcl' : Cond.classLink (jx_own M) ix' (jx_cn k3) ∈ jx_tb) (hins' : Cond.instantiable (jx_cn k3) N3 ∈ jx_tb) (hcw' : Cond.code y' (jx_cc Md) (jx_nl Md) none ∈ jx_tb) (hini' : Cond.initialized (jx_cn k3) ∈ jx_tb) (hyc' : y'.cls = jx_cn k3) (hlk' : jx_IL (jx_own M) idx' y') (hin' : Cond.instanceMethod y' ∈ jx_tb) (hy' : y'.name = "<init>") (hd' : y'.cls ≠ "java/lang/invoke/MethodHandle" ∧ y'.cls ≠ "java/lang/invoke/VarHandle" ∧ (parseMethodDescriptor y'.desc).map (fun d => d.parameters.length) = some 0) (hfit' : jx_fitsIn M Md = true)
    (hnum : (Nat.blt k 16 && Nat.blt k2 16 && Nat.blt 0 n2 && Nat.blt 0 o && (jx_fo k + j == g) && Nat.blt j (jx_nf k) && (jx_ft g == 110 + k2) && (jx_fl g == N) && Nat.blt g 288 && Nat.blt 0 g && Nat.ble N 70000 && Nat.blt 1 (jx_nl M)) = true) (hco : jx_col.getD g (0, 0, 0) = (o, n2 + n3, k2)) (hat : 10 + k2 ∈ jx_atl)
    (hnum' : (Nat.blt k3 16 && Nat.blt 0 n3 && (jx_fo k + j' == g') && Nat.blt j' (jx_nf k) && (jx_ft g' == 110 + k3) && (jx_fl g' == N) && Nat.blt g' 288 && Nat.blt 0 g') = true) (hco' : jx_col.getD g' (0, 0, 0) = (o + n2, n2 + n3, k3)) (hat' : 10 + k3 ∈ jx_atl) (c0 s0 : Nat) (hcells : c0 + (n2 + n3) * N ≤ R.cells) (hslots : s0 + (NN + sl + (N3 + sl3)) * N ≤ R.slots) (hgg : jx_ad L (jx_id r k) g' ≠ jx_ad L (jx_id r k) g) (hfs : fs j = .ref (jx_ad L (jx_id r k) g)) (hfs' : fs j' = .ref (jx_ad L (jx_id r k) g'))
    (h pe : Nat) (d0 : decode (jx_cc M) h = .ok (.iload_n 1, 1)) (d1 : decode (jx_cc M) (h + 1) = .ok (.iconst (N : Int), 1)) {off : Int} (d2 : decode (jx_cc M) (h + 2) = .ok (.if_icmp .ge off, 3)) (hoff : ((h + 2 : Nat) : Int) + off = (pe : Int)) (d3 : decode (jx_cc M) (h + 5) = .ok (.aload_n 0, 1)) (d4 : decode (jx_cc M) (h + 6) = .ok (.getfield ig, 3)) (d5 : decode (jx_cc M) (h + 9) = .ok (.iload_n 1, 1)) (d6 : decode (jx_cc M) (h + 10) = .ok (.new ix, 3)) (d7 : decode (jx_cc M) (h + 13) = .ok (.dup, 1)) (d8 : decode (jx_cc M) (h + 14) = .ok (.invokespecial idx, 3)) (d9 : decode (jx_cc M) (h + 17) = .ok (.aastore, 1))
    (d3' : decode (jx_cc M) (h + 18) = .ok (.aload_n 0, 1)) (d4' : decode (jx_cc M) (h + 19) = .ok (.getfield ig', 3)) (d5' : decode (jx_cc M) (h + 22) = .ok (.iload_n 1, 1)) (d6' : decode (jx_cc M) (h + 23) = .ok (.new ix', 3)) (d7' : decode (jx_cc M) (h + 26) = .ok (.dup, 1)) (d8' : decode (jx_cc M) (h + 27) = .ok (.invokespecial idx', 3)) (d9' : decode (jx_cc M) (h + 30) = .ok (.aastore, 1)) (d10 : decode (jx_cc M) (h + 31) = .ok (.iinc 1 1, 3)) {off2 : Int} (d11 : decode (jx_cc M) (h + 34) = .ok (.goto off2, 3)) (hoff2 : ((h + 34 : Nat) : Int) + off2 = (h : Int))
    (kk : ∀ H' locs' ls', jx_bd L jx_s0 (jx_id r k) k (o + (n2 + n3) * N) [] fs H0 H' → va_S A s.heap H' locs' → lv_has ls' (jx_nl M) [(0, .ref (jx_ad L (jx_id r k) 0))] → W p l e R s m args below meth c H' locs' (c0 + (n2 + n3) * N) (s0 + (NN + sl + (N3 + sl3)) * N) Q (F0 m pe ls' [])) :
    ∀ (d i : Nat), i + d = N → ∀ (H : Heap) (locs : List Loc) (ls : Array Slot), jx_bd L jx_s0 (jx_id r k) k (o + (n2 + n3) * i) [(g, i), (g', i)] fs H0 H → va_S A s.heap H locs → lv_has ls (jx_nl M) [(1, .int (Int32.ofInt i)), (0, .ref (jx_ad L (jx_id r k) 0))] → W p l e R s m args below meth c H locs (c0 + (n2 + n3) * i) (s0 + (NN + sl + (N3 + sl3)) * i) Q (F0 m h ls []) := by
  simp only [Bool.and_eq_true, Nat.blt_eq, beq_iff_eq] at hnum hnum'
  obtain ⟨⟨⟨⟨⟨⟨⟨⟨⟨⟨⟨a1, a2⟩, a3⟩, a4⟩, a5⟩, a6⟩, a7⟩, a8⟩, a9⟩, a10⟩, a11⟩, a12⟩ := hnum
  obtain ⟨⟨⟨⟨⟨⟨⟨w1, w2⟩, w3⟩, w4⟩, w5⟩, w6⟩, w7⟩, w8⟩ := hnum'
  have hN70 := Nat.le_of_ble_eq_true a11
  have hln : jx_ln (jx_id r k) g = (N : Int) := by
    unfold jx_ln
    rw [if_neg (by omega), a8]
  have hln' : jx_ln (jx_id r k) g' = (N : Int) := by
    unfold jx_ln
    rw [if_neg (by omega), w6]
  intro d
  induction d with
  | zero =>
    intro i hi H locs ls hB hS hls
    have hi : i = N := by omega
    subst hi
    refine lv_iload_n hC.1 hC.2.1 d0 rfl (hls.2.2 _ List.mem_cons_self) ?_
    refine pu_ic hC d1 _ _ _ _ _ ?_
    refine lv_icmp_ge hC.1 hC.2.1 d2 hoff (fun _ => ?_) (fun q => ?_)
    · exact kk H locs ls (b_full (b_full hB hln (by omega)) hln' (by omega)) hS ⟨hls.1, hls.2.1, fun q hq => hls.2.2 q (List.mem_cons_of_mem _ hq)⟩
    · exact absurd (Int32.le_refl _) q
  | succ d ih =>
    intro i hi H locs ls hB hS hls
    have hiN : i < N := by omega
    obtain ⟨⟨hx2i, hprei⟩, hx3i, hpre3⟩ := hx2 i hiN
    refine lv_iload_n hC.1 hC.2.1 d0 rfl (hls.2.2 _ List.mem_cons_self) ?_
    refine pu_ic hC d1 _ _ _ _ _ ?_
    refine lv_icmp_ge hC.1 hC.2.1 d2 hoff (fun q => ?_) (fun _ => ?_)
    · exfalso
      have := Int32.le_iff_toInt_le.mp q
      rw [jx_ti (by omega), jx_ti (by omega)] at this
      omega
    have hm1 : (n2 + n3) * i + (n2 + n3) ≤ (n2 + n3) * N := by
      have := Nat.mul_le_mul_left (n2 + n3) (show i + 1 ≤ N by omega)
      rw [Nat.mul_succ] at this
      exact this
    have hm2 : (NN + sl + (N3 + sl3)) * i + (NN + sl + (N3 + sl3)) ≤ (NN + sl + (N3 + sl3)) * N := by
      have := Nat.mul_le_mul_left (NN + sl + (N3 + sl3)) (show i + 1 ≤ N by omega)
      rw [Nat.mul_succ] at this
      exact this
    have e1 : Int32.ofInt (i : Int) + Int32.ofInt 1 = Int32.ofInt ((i + 1 : Nat) : Int) := by
      rw [← Int32.toInt_inj, jx_ti (by omega), Int32.toInt_add, jx_ti (by omega), jx_ti (by omega)]
      rw [Int.bmod_eq_of_le] <;> omega
    have hsu : (n2 + n3) * (i + 1) = (n2 + n3) * i + (n2 + n3) := Nat.mul_succ _ _
    have hsu2 : (NN + sl + (N3 + sl3)) * (i + 1) = (NN + sl + (N3 + sl3)) * i + (NN + sl + (N3 + sl3)) := Nat.mul_succ _ _
    have ih' := ih (i + 1) (by omega)
    rw [hsu, hsu2] at ih'
    clear ih hsu hsu2
    have hv := jx_s0_obj hco (by omega) r k a1 i
    have hv' := jx_s0_obj hco' (by omega) r k a1 i
    generalize (n2 + n3) * i = z at hm1 hB ih' hx2i hprei hx3i hpre3 hv hv' ⊢
    generalize (NN + sl + (N3 + sl3)) * i = z2 at hm2 ih' ⊢
    refine lv_aload_n hC.1 hC.2.1 d3 rfl (hls.2.2 _ (List.mem_cons_of_mem _ List.mem_cons_self)) ?_
    refine b_get hC hB.2.1 j g hgl a5 a1 a6 d4 ?_
    rw [hfs]
    refine lv_iload_n hC.1 hC.2.1 d5 rfl (hls.2.2 _ List.mem_cons_self) ?_
    refine b_made hC hstd hB hS hls.1 k2 n2 sl NN (r + o + z) (by omega) [] hM hx2i hprei hcl hins hcw hini hyc hlk hin hy hd hfit ?_ (Nat.le_of_ble_eq_true rfl) (by omega) (by omega) d6 d7 (fun _ _ _ _ _ _ k => k) d8 (fun H1 locs1 hB1 hS1 => ?_)
    · simp only [Bool.and_eq_true, Nat.blt_eq]
      exact ⟨⟨⟨a1, a2⟩, by omega⟩, a3⟩
    have had := jx_sch hstd (r := r) (k := k) (k2 := k2) (n := o + z) (r2 := r + o + z) a1 a2 (by omega)
    have hids : ∀ r2 kk2, r < r2 → kk2 < 16 → jx_id r2 kk2 ≠ jx_id r k ∧ jx_id r2 kk2 ≠ 0 := fun r2 kk2 h1 h2 => by
      unfold jx_id
      constructor
      · intro q
        have : 16 * r2 + kk2 = 16 * r + k := Int.ofNat.inj q
        omega
      · intro q
        have : 16 * r2 + kk2 = 0 := Int.ofNat.inj q
        omega
    refine b_fill hC hB1 hS1 (fun h9 i9 q9 => by simp only [List.mem_cons, Prod.mk.injEq, List.not_mem_nil, or_false] at q9; rw [q9.1]; exact hgg) hxg (by unfold jx_script; omega) k2 N (by omega) a7 hat a2 hln hiN hN70 (jx_id (r + o + z) k2) hx2i (hids _ _ (by omega) a2).1 (hstd.2.1 _ _ a2) (hids _ _ (by omega) a2).2 (by omega) hv d9 (fun H2 locs2 hB2 hS2 => ?_)
    refine lv_aload_n hC.1 hC.2.1 d3' rfl (hls.2.2 _ (List.mem_cons_of_mem _ List.mem_cons_self)) ?_
    refine b_get hC hB2.2.1 j' g' hgl' w3 a1 w4 d4' ?_
    rw [hfs']
    refine lv_iload_n hC.1 hC.2.1 d5' rfl (hls.2.2 _ List.mem_cons_self) ?_
    refine b_made hC hstd hB2 hS2 hls.1 k3 n3 sl3 N3 (r + (o + n2) + z) (by omega) [] hM' hx3i hpre3 hcl' hins' hcw' hini' hyc' hlk' hin' hy' hd' hfit' ?_ (Nat.le_of_ble_eq_true rfl) (by omega) (by omega) d6' d7' (fun _ _ _ _ _ _ k => k) d8' (fun H3 locs3 hB3 hS3 => ?_)
    · simp only [Bool.and_eq_true, Nat.blt_eq]
      exact ⟨⟨⟨a1, w1⟩, by omega⟩, w2⟩
    have had' := jx_sch hstd (r := r) (k := k) (k2 := k3) (n := o + z + n2) (r2 := r + (o + n2) + z) a1 w1 (by omega)
    have hB3' := b_ex (ex1 := [(g', i), (g, i + 1)]) hB3 (fun q => by simp only [List.mem_cons, List.not_mem_nil, or_false]; exact Or.comm)
    refine b_fill hC hB3' hS3 (fun h9 i9 q9 => by simp only [List.mem_cons, Prod.mk.injEq, List.not_mem_nil, or_false] at q9; rw [q9.1]; exact hgg.symm) hxg' (by unfold jx_script; omega) k3 N (by omega) w5 hat' w1 hln' hiN hN70 (jx_id (r + (o + n2) + z) k3) hx3i (hids _ _ (by omega) w1).1 (hstd.2.1 _ _ w1) (hids _ _ (by omega) w1).2 (by omega) hv' d9' (fun H4 locs4 hB4 hS4 => ?_)
    have hB5 := b_ex (ex1 := [(g, i + 1), (g', i + 1)]) hB4 (fun q => by simp only [List.mem_cons, List.not_mem_nil, or_false]; exact Or.comm)
    refine lv_iinc (k := 0) hC.1 hC.2.1 d10 hls rfl rfl a12 rfl (fun ls2 hls2 => ?_)
    refine lv_goto hC.1 hC.2.1 d11 hoff2 ?_
    rw [e1] at hls2
    rw [show o + z + n2 + n3 = o + (z + (n2 + n3)) by omega] at hB5
    rw [show c0 + z + n2 + n3 = c0 + (z + (n2 + n3)) by omega, show s0 + z2 + (NN + sl) + (N3 + sl3) = s0 + (z2 + (NN + sl + (N3 + sl3))) by omega]
    exact ih' H4 locs4 ls2 hB5 hS4 hls2
end
theorem jx_fvc {L : jx_L} {g o st k2 r k : Nat} (hk : k < 16) (hco : jx_col.getD g (0, 0, 0) = (o, st, k2)) (ho : o ≠ 0) (hft : jx_ft g = 10 + k2) (hk2 : k2 < 16) : Value.ref (jx_ad L (jx_id (r + o) k2) 0) = jx_fv L jx_s0 (jx_id r k) g := by
  unfold jx_fv
  rw [hft, if_neg (by omega)]
  have h := jx_s0_obj hco ho r k hk 0
  rw [Nat.mul_zero, Nat.add_zero] at h
  have h2 : jx_s0 (jx_id r k) g 0 = jx_id (r + o) k2 := h
  rw [h2, jx_vobj (by omega)]
  unfold jx_id
  intro q
  have : 16 * (r + o) + k2 = 0 := Int.ofNat.inj q
  omega
