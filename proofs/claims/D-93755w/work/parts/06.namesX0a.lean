/-! WalkingStones -/
set_option maxRecDepth 100000
def RX0 : String := "WalkingStones"
def TX0 : u_T := fun k => match k with
  | 0 => ("WalkingStones", "weights", "[I", true)
  | 1 => ("WalkingStones", "places", "[I", true)
  | 2 => ("WalkingStones", "stones", "I", false)
  | 3 => ("WalkingStones", "wet", "[I", true)
  | 4 => ("WalkingStones", "ice", "[I", true)
  | 5 => ("WalkingStones", "wind", "[I", true)
  | 6 => ("WalkingStones", "ways", "[I", true)
  | 7 => ("WalkingStones", "nights", "I", false)
  | 8 => ("WalkingStones", "hows", "[LWalkingStones$How;", true)
  | 9 => ("WalkingStones", "howMany", "I", false)
  | 10 => ("WalkingStones", "faulty", "LWalkingStones$Faulty;", true)
  | 11 => ("WalkingStones", "forWeight", "I", false)
  | 12 => ("WalkingStones", "forNumber", "I", false)
  | 13 => ("WalkingStones", "forNight", "I", false)
  | 14 => ("WalkingStones", "texts", "[[LWalkingStones$Node;", true)
  | 15 => ("WalkingStones", "textMany", "I", false)
  | 16 => ("WalkingStones", "keys", "[Ljava/lang/String;", true)
  | 17 => ("WalkingStones", "names", "[Ljava/lang/String;", true)
  | 18 => ("WalkingStones", "tape", "[B", true)
  | 19 => ("WalkingStones", "taped", "I", false)
  | 20 => ("WalkingStones", "length", "I", false)
  | 21 => ("WalkingStones", "at", "I", false)
  | 22 => ("WalkingStones", "begin", "I", false)
  | 23 => ("WalkingStones", "token", "I", false)
  | 24 => ("WalkingStones", "value", "I", false)
  | 25 => ("WalkingStones", "opens", "I", false)
  | 26 => ("WalkingStones", "rule", "I", false)
  | 27 => ("WalkingStones", "keptPlaces", "[I", true)
  | 28 => ("WalkingStones", "went", "[I", true)
  | 29 => ("WalkingStones", "turned", "[I", true)
  | 30 => ("WalkingStones", "lastWay", "[I", true)
  | 31 => ("WalkingStones", "trackStone", "[I", true)
  | 32 => ("WalkingStones", "trackLong", "[I", true)
  | 33 => ("WalkingStones", "trackTurns", "[I", true)
  | 34 => ("WalkingStones", "trackMany", "I", false)
  | 35 => ("WalkingStones", "pegs", "[I", true)
  | 36 => ("WalkingStones", "pegMany", "I", false)
  | 37 => ("WalkingStones", "overs", "[I", true)
  | 38 => ("WalkingStones", "unders", "[I", true)
  | 39 => ("WalkingStones", "crossMany", "I", false)
  | 40 => ("WalkingStones", "worths", "[I", true)
  | 41 => ("WalkingStones", "hasImage", "Z", false)
  | 42 => ("WalkingStones", "imageStones", "I", false)
  | 43 => ("WalkingStones", "imageTracks", "I", false)
  | 44 => ("WalkingStones", "imageCross", "I", false)
  | 45 => ("WalkingStones", "imagePegs", "I", false)
  | 46 => ("WalkingStones", "imageRule", "I", false)
  | 47 => ("WalkingStones", "imagePlaces", "[I", true)
  | _ => ("WalkingStones", "sheets", "[LWalkingStones$Sheet;", true)
def tyX0 : Nat → FieldType := fun k => match k with
  | 0 => .array .int
  | 1 => .array .int
  | 2 => .int
  | 3 => .array .int
  | 4 => .array .int
  | 5 => .array .int
  | 6 => .array .int
  | 7 => .int
  | 8 => .array (.object "WalkingStones$How")
  | 9 => .int
  | 10 => .object "WalkingStones$Faulty"
  | 11 => .int
  | 12 => .int
  | 13 => .int
  | 14 => .array (.array (.object "WalkingStones$Node"))
  | 15 => .int
  | 16 => .array (.object "java/lang/String")
  | 17 => .array (.object "java/lang/String")
  | 18 => .array .byte
  | 19 => .int
  | 20 => .int
  | 21 => .int
  | 22 => .int
  | 23 => .int
  | 24 => .int
  | 25 => .int
  | 26 => .int
  | 27 => .array .int
  | 28 => .array .int
  | 29 => .array .int
  | 30 => .array .int
  | 31 => .array .int
  | 32 => .array .int
  | 33 => .array .int
  | 34 => .int
  | 35 => .array .int
  | 36 => .int
  | 37 => .array .int
  | 38 => .array .int
  | 39 => .int
  | 40 => .array .int
  | 41 => .boolean
  | 42 => .int
  | 43 => .int
  | 44 => .int
  | 45 => .int
  | 46 => .int
  | 47 => .array .int
  | _ => .array (.object "WalkingStones$Sheet")
abbrev wsX00 : List Cond := u_ws RX0 TX0 49
set_option maxRecDepth 100000 in
theorem nmX0 : ∀ a, a < 49 → ∀ b, b < 49 → a ≠ b → (TX0 a).2.1 ≠ (TX0 b).2.1 := by decide +kernel
set_option maxRecDepth 100000 in
theorem tyX0_ok : ∀ k, k < 49 → parseFieldDescriptor (TX0 k).2.2.1 = some (tyX0 k) := by decide +kernel
abbrev cX0_stone : ByteArray := prog_1_method_6_code
def yX0_stone : MethodName := ⟨RX0, "stone", "(II)I"⟩
def dkwX0_stone_3 : List UInt8 := [4, 96, 181, 0, 9, 42, 180, 0, 9, 4, 100, 172]
abbrev dktX0_stone_3 : List UInt8 := dkwX0_stone_3 ++ []
def dkwX0_stone_2 : List UInt8 := [180, 0, 29, 42, 180, 0, 9, 27, 79, 42, 180, 0, 16, 42, 180, 0, 9, 28, 79, 42, 89, 180, 0, 9]
abbrev dktX0_stone_2 : List UInt8 := dkwX0_stone_2 ++ dktX0_stone_3
def dkwX0_stone_1 : List UInt8 := [182, 0, 26, 153, 0, 6, 16, 253, 172, 42, 180, 0, 9, 16, 10, 160, 0, 6, 16, 252, 172, 42]
abbrev dktX0_stone_1 : List UInt8 := dkwX0_stone_1 ++ dktX0_stone_2
def dkwX0_stone_0 : List UInt8 := [27, 133, 10, 20, 0, 20, 184, 0, 5, 153, 0, 10, 28, 184, 0, 22, 154, 0, 6, 16, 254, 172, 42, 28]
abbrev dktX0_stone_0 : List UInt8 := dkwX0_stone_0 ++ dktX0_stone_1
theorem dksX0_stone_0 : cX0_stone.data.toList.drop 0 = dktX0_stone_0 := by decide +kernel
theorem dksX0_stone_1 : cX0_stone.data.toList.drop 24 = dktX0_stone_1 := dk_seg dksX0_stone_0 24 rfl rfl
theorem dksX0_stone_2 : cX0_stone.data.toList.drop 46 = dktX0_stone_2 := dk_seg dksX0_stone_1 22 rfl rfl
theorem dksX0_stone_3 : cX0_stone.data.toList.drop 70 = dktX0_stone_3 := dk_seg dksX0_stone_2 24 rfl rfl
theorem dX0_stone_0 : decode cX0_stone 0 = .ok (.iload_n 1, 1) := dk_27 (dk_at dksX0_stone_0 0 rfl rfl)
theorem dX0_stone_1 : decode cX0_stone 1 = .ok (.i2l, 1) := dk_133 (dk_at dksX0_stone_0 1 rfl rfl)
theorem dX0_stone_2 : decode cX0_stone 2 = .ok (.lconst 1, 1) := dk_10 (dk_at dksX0_stone_0 2 rfl rfl)
theorem dX0_stone_3 : decode cX0_stone 3 = .ok (.ldc2_w 20, 3) := dk_20 0 20 (dk_at dksX0_stone_0 3 rfl rfl)
theorem dX0_stone_6 : decode cX0_stone 6 = .ok (.invokestatic 5, 3) := dk_184 0 5 (dk_at dksX0_stone_0 6 rfl rfl)
theorem dX0_stone_9 : decode cX0_stone 9 = .ok (.ifCond .eq 10, 3) := dk_153 0 10 (dk_at dksX0_stone_0 9 rfl rfl)
theorem dX0_stone_12 : decode cX0_stone 12 = .ok (.iload_n 2, 1) := dk_28 (dk_at dksX0_stone_0 12 rfl rfl)
theorem dX0_stone_13 : decode cX0_stone 13 = .ok (.invokestatic 22, 3) := dk_184 0 22 (dk_at dksX0_stone_0 13 rfl rfl)
theorem dX0_stone_16 : decode cX0_stone 16 = .ok (.ifCond .ne 6, 3) := dk_154 0 6 (dk_at dksX0_stone_0 16 rfl rfl)
theorem dX0_stone_19 : decode cX0_stone 19 = .ok (.bipush (-2), 2) := dk_16 254 (dk_at dksX0_stone_0 19 rfl rfl)
theorem dX0_stone_21 : decode cX0_stone 21 = .ok (.ireturn, 1) := dk_172 (dk_at dksX0_stone_0 21 rfl rfl)
theorem dX0_stone_22 : decode cX0_stone 22 = .ok (.aload_n 0, 1) := dk_42 (dk_at dksX0_stone_0 22 rfl rfl)
theorem dX0_stone_23 : decode cX0_stone 23 = .ok (.iload_n 2, 1) := dk_28 (dk_at dksX0_stone_0 23 rfl rfl)
theorem dX0_stone_24 : decode cX0_stone 24 = .ok (.invokevirtual 26, 3) := dk_182 0 26 (dk_at dksX0_stone_1 0 rfl rfl)
theorem dX0_stone_27 : decode cX0_stone 27 = .ok (.ifCond .eq 6, 3) := dk_153 0 6 (dk_at dksX0_stone_1 3 rfl rfl)
theorem dX0_stone_30 : decode cX0_stone 30 = .ok (.bipush (-3), 2) := dk_16 253 (dk_at dksX0_stone_1 6 rfl rfl)
theorem dX0_stone_32 : decode cX0_stone 32 = .ok (.ireturn, 1) := dk_172 (dk_at dksX0_stone_1 8 rfl rfl)
theorem dX0_stone_33 : decode cX0_stone 33 = .ok (.aload_n 0, 1) := dk_42 (dk_at dksX0_stone_1 9 rfl rfl)
theorem dX0_stone_34 : decode cX0_stone 34 = .ok (.getfield 9, 3) := dk_180 0 9 (dk_at dksX0_stone_1 10 rfl rfl)
theorem dX0_stone_37 : decode cX0_stone 37 = .ok (.bipush 10, 2) := dk_16 10 (dk_at dksX0_stone_1 13 rfl rfl)
theorem dX0_stone_39 : decode cX0_stone 39 = .ok (.if_icmp .ne 6, 3) := dk_160 0 6 (dk_at dksX0_stone_1 15 rfl rfl)
theorem dX0_stone_42 : decode cX0_stone 42 = .ok (.bipush (-4), 2) := dk_16 252 (dk_at dksX0_stone_1 18 rfl rfl)
theorem dX0_stone_44 : decode cX0_stone 44 = .ok (.ireturn, 1) := dk_172 (dk_at dksX0_stone_1 20 rfl rfl)
theorem dX0_stone_45 : decode cX0_stone 45 = .ok (.aload_n 0, 1) := dk_42 (dk_at dksX0_stone_1 21 rfl rfl)
theorem dX0_stone_46 : decode cX0_stone 46 = .ok (.getfield 29, 3) := dk_180 0 29 (dk_at dksX0_stone_2 0 rfl rfl)
theorem dX0_stone_49 : decode cX0_stone 49 = .ok (.aload_n 0, 1) := dk_42 (dk_at dksX0_stone_2 3 rfl rfl)
theorem dX0_stone_50 : decode cX0_stone 50 = .ok (.getfield 9, 3) := dk_180 0 9 (dk_at dksX0_stone_2 4 rfl rfl)
theorem dX0_stone_53 : decode cX0_stone 53 = .ok (.iload_n 1, 1) := dk_27 (dk_at dksX0_stone_2 7 rfl rfl)
theorem dX0_stone_54 : decode cX0_stone 54 = .ok (.iastore, 1) := dk_79 (dk_at dksX0_stone_2 8 rfl rfl)
theorem dX0_stone_55 : decode cX0_stone 55 = .ok (.aload_n 0, 1) := dk_42 (dk_at dksX0_stone_2 9 rfl rfl)
theorem dX0_stone_56 : decode cX0_stone 56 = .ok (.getfield 16, 3) := dk_180 0 16 (dk_at dksX0_stone_2 10 rfl rfl)
theorem dX0_stone_59 : decode cX0_stone 59 = .ok (.aload_n 0, 1) := dk_42 (dk_at dksX0_stone_2 13 rfl rfl)
theorem dX0_stone_60 : decode cX0_stone 60 = .ok (.getfield 9, 3) := dk_180 0 9 (dk_at dksX0_stone_2 14 rfl rfl)
theorem dX0_stone_63 : decode cX0_stone 63 = .ok (.iload_n 2, 1) := dk_28 (dk_at dksX0_stone_2 17 rfl rfl)
theorem dX0_stone_64 : decode cX0_stone 64 = .ok (.iastore, 1) := dk_79 (dk_at dksX0_stone_2 18 rfl rfl)
theorem dX0_stone_65 : decode cX0_stone 65 = .ok (.aload_n 0, 1) := dk_42 (dk_at dksX0_stone_2 19 rfl rfl)
theorem dX0_stone_66 : decode cX0_stone 66 = .ok (.dup, 1) := dk_89 (dk_at dksX0_stone_2 20 rfl rfl)
theorem dX0_stone_67 : decode cX0_stone 67 = .ok (.getfield 9, 3) := dk_180 0 9 (dk_at dksX0_stone_2 21 rfl rfl)
theorem dX0_stone_70 : decode cX0_stone 70 = .ok (.iconst 1, 1) := dk_4 (dk_at dksX0_stone_3 0 rfl rfl)
theorem dX0_stone_71 : decode cX0_stone 71 = .ok (.iadd, 1) := dk_96 (dk_at dksX0_stone_3 1 rfl rfl)
theorem dX0_stone_72 : decode cX0_stone 72 = .ok (.putfield 9, 3) := dk_181 0 9 (dk_at dksX0_stone_3 2 rfl rfl)
theorem dX0_stone_75 : decode cX0_stone 75 = .ok (.aload_n 0, 1) := dk_42 (dk_at dksX0_stone_3 5 rfl rfl)
theorem dX0_stone_76 : decode cX0_stone 76 = .ok (.getfield 9, 3) := dk_180 0 9 (dk_at dksX0_stone_3 6 rfl rfl)
theorem dX0_stone_79 : decode cX0_stone 79 = .ok (.iconst 1, 1) := dk_4 (dk_at dksX0_stone_3 9 rfl rfl)
theorem dX0_stone_80 : decode cX0_stone 80 = .ok (.isub, 1) := dk_100 (dk_at dksX0_stone_3 10 rfl rfl)
theorem dX0_stone_81 : decode cX0_stone 81 = .ok (.ireturn, 1) := dk_172 (dk_at dksX0_stone_3 11 rfl rfl)
abbrev cX0_in : ByteArray := prog_1_method_1_code
def yX0_in : MethodName := ⟨RX0, "in", "(JJJ)Z"⟩
def dkwX0_in_0 : List UInt8 := [30, 32, 148, 155, 0, 14, 30, 22, 4, 148, 157, 0, 7, 4, 167, 0, 4, 3, 172]
abbrev dktX0_in_0 : List UInt8 := dkwX0_in_0 ++ []
theorem dksX0_in_0 : cX0_in.data.toList.drop 0 = dktX0_in_0 := by decide +kernel
theorem dX0_in_0 : decode cX0_in 0 = .ok (.lload_n 0, 1) := dk_30 (dk_at dksX0_in_0 0 rfl rfl)
theorem dX0_in_1 : decode cX0_in 1 = .ok (.lload_n 2, 1) := dk_32 (dk_at dksX0_in_0 1 rfl rfl)
theorem dX0_in_2 : decode cX0_in 2 = .ok (.lcmp, 1) := dk_148 (dk_at dksX0_in_0 2 rfl rfl)
theorem dX0_in_3 : decode cX0_in 3 = .ok (.ifCond .lt 14, 3) := dk_155 0 14 (dk_at dksX0_in_0 3 rfl rfl)
theorem dX0_in_6 : decode cX0_in 6 = .ok (.lload_n 0, 1) := dk_30 (dk_at dksX0_in_0 6 rfl rfl)
theorem dX0_in_7 : decode cX0_in 7 = .ok (.lload 4, 2) := dk_22 4 (dk_at dksX0_in_0 7 rfl rfl)
theorem dX0_in_9 : decode cX0_in 9 = .ok (.lcmp, 1) := dk_148 (dk_at dksX0_in_0 9 rfl rfl)
theorem dX0_in_10 : decode cX0_in 10 = .ok (.ifCond .gt 7, 3) := dk_157 0 7 (dk_at dksX0_in_0 10 rfl rfl)
theorem dX0_in_13 : decode cX0_in 13 = .ok (.iconst 1, 1) := dk_4 (dk_at dksX0_in_0 13 rfl rfl)
theorem dX0_in_14 : decode cX0_in 14 = .ok (.goto 4, 3) := dk_167 0 4 (dk_at dksX0_in_0 14 rfl rfl)
theorem dX0_in_17 : decode cX0_in 17 = .ok (.iconst 0, 1) := dk_3 (dk_at dksX0_in_0 17 rfl rfl)
theorem dX0_in_18 : decode cX0_in 18 = .ok (.ireturn, 1) := dk_172 (dk_at dksX0_in_0 18 rfl rfl)
abbrev cX0_isPlace : ByteArray := prog_1_method_2_code
def yX0_isPlace : MethodName := ⟨RX0, "isPlace", "(I)Z"⟩
def dkwX0_isPlace_0 : List UInt8 := [26, 133, 9, 20, 0, 3, 184, 0, 5, 172]
abbrev dktX0_isPlace_0 : List UInt8 := dkwX0_isPlace_0 ++ []
theorem dksX0_isPlace_0 : cX0_isPlace.data.toList.drop 0 = dktX0_isPlace_0 := by decide +kernel
theorem dX0_isPlace_0 : decode cX0_isPlace 0 = .ok (.iload_n 0, 1) := dk_26 (dk_at dksX0_isPlace_0 0 rfl rfl)
theorem dX0_isPlace_1 : decode cX0_isPlace 1 = .ok (.i2l, 1) := dk_133 (dk_at dksX0_isPlace_0 1 rfl rfl)
theorem dX0_isPlace_2 : decode cX0_isPlace 2 = .ok (.lconst 0, 1) := dk_9 (dk_at dksX0_isPlace_0 2 rfl rfl)
theorem dX0_isPlace_3 : decode cX0_isPlace 3 = .ok (.ldc2_w 3, 3) := dk_20 0 3 (dk_at dksX0_isPlace_0 3 rfl rfl)
theorem dX0_isPlace_6 : decode cX0_isPlace 6 = .ok (.invokestatic 5, 3) := dk_184 0 5 (dk_at dksX0_isPlace_0 6 rfl rfl)
theorem dX0_isPlace_9 : decode cX0_isPlace 9 = .ok (.ireturn, 1) := dk_172 (dk_at dksX0_isPlace_0 9 rfl rfl)
abbrev cX0_liesAt : ByteArray := prog_1_method_5_code
def yX0_liesAt : MethodName := ⟨RX0, "liesAt", "(I)Z"⟩
def dkwX0_liesAt_1 : List UInt8 := [132, 2, 1, 167, 255, 233, 3, 172]
abbrev dktX0_liesAt_1 : List UInt8 := dkwX0_liesAt_1 ++ []
def dkwX0_liesAt_0 : List UInt8 := [3, 61, 28, 42, 180, 0, 9, 162, 0, 21, 42, 180, 0, 16, 28, 46, 27, 160, 0, 5, 4, 172]
abbrev dktX0_liesAt_0 : List UInt8 := dkwX0_liesAt_0 ++ dktX0_liesAt_1
theorem dksX0_liesAt_0 : cX0_liesAt.data.toList.drop 0 = dktX0_liesAt_0 := by decide +kernel
theorem dksX0_liesAt_1 : cX0_liesAt.data.toList.drop 22 = dktX0_liesAt_1 := dk_seg dksX0_liesAt_0 22 rfl rfl
theorem dX0_liesAt_0 : decode cX0_liesAt 0 = .ok (.iconst 0, 1) := dk_3 (dk_at dksX0_liesAt_0 0 rfl rfl)
theorem dX0_liesAt_1 : decode cX0_liesAt 1 = .ok (.istore_n 2, 1) := dk_61 (dk_at dksX0_liesAt_0 1 rfl rfl)
theorem dX0_liesAt_2 : decode cX0_liesAt 2 = .ok (.iload_n 2, 1) := dk_28 (dk_at dksX0_liesAt_0 2 rfl rfl)
theorem dX0_liesAt_3 : decode cX0_liesAt 3 = .ok (.aload_n 0, 1) := dk_42 (dk_at dksX0_liesAt_0 3 rfl rfl)
theorem dX0_liesAt_4 : decode cX0_liesAt 4 = .ok (.getfield 9, 3) := dk_180 0 9 (dk_at dksX0_liesAt_0 4 rfl rfl)
theorem dX0_liesAt_7 : decode cX0_liesAt 7 = .ok (.if_icmp .ge 21, 3) := dk_162 0 21 (dk_at dksX0_liesAt_0 7 rfl rfl)
theorem dX0_liesAt_10 : decode cX0_liesAt 10 = .ok (.aload_n 0, 1) := dk_42 (dk_at dksX0_liesAt_0 10 rfl rfl)
theorem dX0_liesAt_11 : decode cX0_liesAt 11 = .ok (.getfield 16, 3) := dk_180 0 16 (dk_at dksX0_liesAt_0 11 rfl rfl)
theorem dX0_liesAt_14 : decode cX0_liesAt 14 = .ok (.iload_n 2, 1) := dk_28 (dk_at dksX0_liesAt_0 14 rfl rfl)
theorem dX0_liesAt_15 : decode cX0_liesAt 15 = .ok (.iaload, 1) := dk_46 (dk_at dksX0_liesAt_0 15 rfl rfl)
theorem dX0_liesAt_16 : decode cX0_liesAt 16 = .ok (.iload_n 1, 1) := dk_27 (dk_at dksX0_liesAt_0 16 rfl rfl)
theorem dX0_liesAt_17 : decode cX0_liesAt 17 = .ok (.if_icmp .ne 5, 3) := dk_160 0 5 (dk_at dksX0_liesAt_0 17 rfl rfl)
theorem dX0_liesAt_20 : decode cX0_liesAt 20 = .ok (.iconst 1, 1) := dk_4 (dk_at dksX0_liesAt_0 20 rfl rfl)
theorem dX0_liesAt_21 : decode cX0_liesAt 21 = .ok (.ireturn, 1) := dk_172 (dk_at dksX0_liesAt_0 21 rfl rfl)
theorem dX0_liesAt_22 : decode cX0_liesAt 22 = .ok (.iinc 2 1, 3) := dk_132 2 1 (dk_at dksX0_liesAt_1 0 rfl rfl)
theorem dX0_liesAt_25 : decode cX0_liesAt 25 = .ok (.goto (-23), 3) := dk_167 255 233 (dk_at dksX0_liesAt_1 3 rfl rfl)
theorem dX0_liesAt_28 : decode cX0_liesAt 28 = .ok (.iconst 0, 1) := dk_3 (dk_at dksX0_liesAt_1 6 rfl rfl)
theorem dX0_liesAt_29 : decode cX0_liesAt 29 = .ok (.ireturn, 1) := dk_172 (dk_at dksX0_liesAt_1 7 rfl rfl)
abbrev cX0_night : ByteArray := prog_1_method_7_code
def yX0_night : MethodName := ⟨RX0, "night", "(I)I"⟩
def dkwX0_night_4 : List UInt8 := [16, 10, 112, 79, 42, 89, 180, 0, 13, 4, 96, 181, 0, 13, 42, 180, 0, 13, 4, 100, 172]
abbrev dktX0_night_4 : List UInt8 := dkwX0_night_4 ++ []
def dkwX0_night_3 : List UInt8 := [180, 0, 38, 42, 180, 0, 13, 27, 16, 10, 108, 16, 100, 112, 79, 42, 180, 0, 41, 42, 180, 0, 13, 27]
abbrev dktX0_night_3 : List UInt8 := dkwX0_night_3 ++ dktX0_night_4
def dkwX0_night_2 : List UInt8 := [17, 39, 16, 108, 79, 42, 180, 0, 35, 42, 180, 0, 13, 27, 17, 3, 232, 108, 16, 10, 112, 79, 42]
abbrev dktX0_night_2 : List UInt8 := dkwX0_night_2 ++ dktX0_night_3
def dkwX0_night_1 : List UInt8 := [172, 42, 180, 0, 13, 16, 60, 160, 0, 6, 16, 252, 172, 42, 180, 0, 32, 42, 180, 0, 13, 27]
abbrev dktX0_night_1 : List UInt8 := dkwX0_night_1 ++ dktX0_night_2
def dkwX0_night_0 : List UInt8 := [27, 155, 0, 21, 27, 17, 39, 16, 108, 16, 9, 163, 0, 11, 27, 16, 10, 112, 6, 164, 0, 6, 16, 254]
abbrev dktX0_night_0 : List UInt8 := dkwX0_night_0 ++ dktX0_night_1
theorem dksX0_night_0 : cX0_night.data.toList.drop 0 = dktX0_night_0 := by decide +kernel
theorem dksX0_night_1 : cX0_night.data.toList.drop 24 = dktX0_night_1 := dk_seg dksX0_night_0 24 rfl rfl
theorem dksX0_night_2 : cX0_night.data.toList.drop 46 = dktX0_night_2 := dk_seg dksX0_night_1 22 rfl rfl
theorem dksX0_night_3 : cX0_night.data.toList.drop 69 = dktX0_night_3 := dk_seg dksX0_night_2 23 rfl rfl
theorem dksX0_night_4 : cX0_night.data.toList.drop 93 = dktX0_night_4 := dk_seg dksX0_night_3 24 rfl rfl
theorem dX0_night_0 : decode cX0_night 0 = .ok (.iload_n 1, 1) := dk_27 (dk_at dksX0_night_0 0 rfl rfl)
theorem dX0_night_1 : decode cX0_night 1 = .ok (.ifCond .lt 21, 3) := dk_155 0 21 (dk_at dksX0_night_0 1 rfl rfl)
theorem dX0_night_4 : decode cX0_night 4 = .ok (.iload_n 1, 1) := dk_27 (dk_at dksX0_night_0 4 rfl rfl)
theorem dX0_night_5 : decode cX0_night 5 = .ok (.sipush 10000, 3) := dk_17 39 16 (dk_at dksX0_night_0 5 rfl rfl)
theorem dX0_night_8 : decode cX0_night 8 = .ok (.idiv, 1) := dk_108 (dk_at dksX0_night_0 8 rfl rfl)
theorem dX0_night_9 : decode cX0_night 9 = .ok (.bipush 9, 2) := dk_16 9 (dk_at dksX0_night_0 9 rfl rfl)
theorem dX0_night_11 : decode cX0_night 11 = .ok (.if_icmp .gt 11, 3) := dk_163 0 11 (dk_at dksX0_night_0 11 rfl rfl)
theorem dX0_night_14 : decode cX0_night 14 = .ok (.iload_n 1, 1) := dk_27 (dk_at dksX0_night_0 14 rfl rfl)
theorem dX0_night_15 : decode cX0_night 15 = .ok (.bipush 10, 2) := dk_16 10 (dk_at dksX0_night_0 15 rfl rfl)
theorem dX0_night_17 : decode cX0_night 17 = .ok (.irem, 1) := dk_112 (dk_at dksX0_night_0 17 rfl rfl)
theorem dX0_night_18 : decode cX0_night 18 = .ok (.iconst 3, 1) := dk_6 (dk_at dksX0_night_0 18 rfl rfl)
theorem dX0_night_19 : decode cX0_night 19 = .ok (.if_icmp .le 6, 3) := dk_164 0 6 (dk_at dksX0_night_0 19 rfl rfl)
theorem dX0_night_22 : decode cX0_night 22 = .ok (.bipush (-2), 2) := dk_16 254 (dk_at dksX0_night_0 22 rfl rfl)
theorem dX0_night_24 : decode cX0_night 24 = .ok (.ireturn, 1) := dk_172 (dk_at dksX0_night_1 0 rfl rfl)
theorem dX0_night_25 : decode cX0_night 25 = .ok (.aload_n 0, 1) := dk_42 (dk_at dksX0_night_1 1 rfl rfl)
theorem dX0_night_26 : decode cX0_night 26 = .ok (.getfield 13, 3) := dk_180 0 13 (dk_at dksX0_night_1 2 rfl rfl)
theorem dX0_night_29 : decode cX0_night 29 = .ok (.bipush 60, 2) := dk_16 60 (dk_at dksX0_night_1 5 rfl rfl)
theorem dX0_night_31 : decode cX0_night 31 = .ok (.if_icmp .ne 6, 3) := dk_160 0 6 (dk_at dksX0_night_1 7 rfl rfl)
theorem dX0_night_34 : decode cX0_night 34 = .ok (.bipush (-4), 2) := dk_16 252 (dk_at dksX0_night_1 10 rfl rfl)
theorem dX0_night_36 : decode cX0_night 36 = .ok (.ireturn, 1) := dk_172 (dk_at dksX0_night_1 12 rfl rfl)
theorem dX0_night_37 : decode cX0_night 37 = .ok (.aload_n 0, 1) := dk_42 (dk_at dksX0_night_1 13 rfl rfl)
theorem dX0_night_38 : decode cX0_night 38 = .ok (.getfield 32, 3) := dk_180 0 32 (dk_at dksX0_night_1 14 rfl rfl)
theorem dX0_night_41 : decode cX0_night 41 = .ok (.aload_n 0, 1) := dk_42 (dk_at dksX0_night_1 17 rfl rfl)
theorem dX0_night_42 : decode cX0_night 42 = .ok (.getfield 13, 3) := dk_180 0 13 (dk_at dksX0_night_1 18 rfl rfl)
theorem dX0_night_45 : decode cX0_night 45 = .ok (.iload_n 1, 1) := dk_27 (dk_at dksX0_night_1 21 rfl rfl)
theorem dX0_night_46 : decode cX0_night 46 = .ok (.sipush 10000, 3) := dk_17 39 16 (dk_at dksX0_night_2 0 rfl rfl)
theorem dX0_night_49 : decode cX0_night 49 = .ok (.idiv, 1) := dk_108 (dk_at dksX0_night_2 3 rfl rfl)
theorem dX0_night_50 : decode cX0_night 50 = .ok (.iastore, 1) := dk_79 (dk_at dksX0_night_2 4 rfl rfl)
theorem dX0_night_51 : decode cX0_night 51 = .ok (.aload_n 0, 1) := dk_42 (dk_at dksX0_night_2 5 rfl rfl)
theorem dX0_night_52 : decode cX0_night 52 = .ok (.getfield 35, 3) := dk_180 0 35 (dk_at dksX0_night_2 6 rfl rfl)
theorem dX0_night_55 : decode cX0_night 55 = .ok (.aload_n 0, 1) := dk_42 (dk_at dksX0_night_2 9 rfl rfl)
theorem dX0_night_56 : decode cX0_night 56 = .ok (.getfield 13, 3) := dk_180 0 13 (dk_at dksX0_night_2 10 rfl rfl)
theorem dX0_night_59 : decode cX0_night 59 = .ok (.iload_n 1, 1) := dk_27 (dk_at dksX0_night_2 13 rfl rfl)
theorem dX0_night_60 : decode cX0_night 60 = .ok (.sipush 1000, 3) := dk_17 3 232 (dk_at dksX0_night_2 14 rfl rfl)
theorem dX0_night_63 : decode cX0_night 63 = .ok (.idiv, 1) := dk_108 (dk_at dksX0_night_2 17 rfl rfl)
theorem dX0_night_64 : decode cX0_night 64 = .ok (.bipush 10, 2) := dk_16 10 (dk_at dksX0_night_2 18 rfl rfl)
theorem dX0_night_66 : decode cX0_night 66 = .ok (.irem, 1) := dk_112 (dk_at dksX0_night_2 20 rfl rfl)
theorem dX0_night_67 : decode cX0_night 67 = .ok (.iastore, 1) := dk_79 (dk_at dksX0_night_2 21 rfl rfl)
theorem dX0_night_68 : decode cX0_night 68 = .ok (.aload_n 0, 1) := dk_42 (dk_at dksX0_night_2 22 rfl rfl)
theorem dX0_night_69 : decode cX0_night 69 = .ok (.getfield 38, 3) := dk_180 0 38 (dk_at dksX0_night_3 0 rfl rfl)
theorem dX0_night_72 : decode cX0_night 72 = .ok (.aload_n 0, 1) := dk_42 (dk_at dksX0_night_3 3 rfl rfl)
theorem dX0_night_73 : decode cX0_night 73 = .ok (.getfield 13, 3) := dk_180 0 13 (dk_at dksX0_night_3 4 rfl rfl)
theorem dX0_night_76 : decode cX0_night 76 = .ok (.iload_n 1, 1) := dk_27 (dk_at dksX0_night_3 7 rfl rfl)
theorem dX0_night_77 : decode cX0_night 77 = .ok (.bipush 10, 2) := dk_16 10 (dk_at dksX0_night_3 8 rfl rfl)
theorem dX0_night_79 : decode cX0_night 79 = .ok (.idiv, 1) := dk_108 (dk_at dksX0_night_3 10 rfl rfl)
theorem dX0_night_80 : decode cX0_night 80 = .ok (.bipush 100, 2) := dk_16 100 (dk_at dksX0_night_3 11 rfl rfl)
theorem dX0_night_82 : decode cX0_night 82 = .ok (.irem, 1) := dk_112 (dk_at dksX0_night_3 13 rfl rfl)
theorem dX0_night_83 : decode cX0_night 83 = .ok (.iastore, 1) := dk_79 (dk_at dksX0_night_3 14 rfl rfl)
theorem dX0_night_84 : decode cX0_night 84 = .ok (.aload_n 0, 1) := dk_42 (dk_at dksX0_night_3 15 rfl rfl)
theorem dX0_night_85 : decode cX0_night 85 = .ok (.getfield 41, 3) := dk_180 0 41 (dk_at dksX0_night_3 16 rfl rfl)
theorem dX0_night_88 : decode cX0_night 88 = .ok (.aload_n 0, 1) := dk_42 (dk_at dksX0_night_3 19 rfl rfl)
theorem dX0_night_89 : decode cX0_night 89 = .ok (.getfield 13, 3) := dk_180 0 13 (dk_at dksX0_night_3 20 rfl rfl)
theorem dX0_night_92 : decode cX0_night 92 = .ok (.iload_n 1, 1) := dk_27 (dk_at dksX0_night_3 23 rfl rfl)
theorem dX0_night_93 : decode cX0_night 93 = .ok (.bipush 10, 2) := dk_16 10 (dk_at dksX0_night_4 0 rfl rfl)
theorem dX0_night_95 : decode cX0_night 95 = .ok (.irem, 1) := dk_112 (dk_at dksX0_night_4 2 rfl rfl)
theorem dX0_night_96 : decode cX0_night 96 = .ok (.iastore, 1) := dk_79 (dk_at dksX0_night_4 3 rfl rfl)
theorem dX0_night_97 : decode cX0_night 97 = .ok (.aload_n 0, 1) := dk_42 (dk_at dksX0_night_4 4 rfl rfl)
theorem dX0_night_98 : decode cX0_night 98 = .ok (.dup, 1) := dk_89 (dk_at dksX0_night_4 5 rfl rfl)
theorem dX0_night_99 : decode cX0_night 99 = .ok (.getfield 13, 3) := dk_180 0 13 (dk_at dksX0_night_4 6 rfl rfl)
theorem dX0_night_102 : decode cX0_night 102 = .ok (.iconst 1, 1) := dk_4 (dk_at dksX0_night_4 9 rfl rfl)
theorem dX0_night_103 : decode cX0_night 103 = .ok (.iadd, 1) := dk_96 (dk_at dksX0_night_4 10 rfl rfl)
theorem dX0_night_104 : decode cX0_night 104 = .ok (.putfield 13, 3) := dk_181 0 13 (dk_at dksX0_night_4 11 rfl rfl)
theorem dX0_night_107 : decode cX0_night 107 = .ok (.aload_n 0, 1) := dk_42 (dk_at dksX0_night_4 14 rfl rfl)
theorem dX0_night_108 : decode cX0_night 108 = .ok (.getfield 13, 3) := dk_180 0 13 (dk_at dksX0_night_4 15 rfl rfl)
theorem dX0_night_111 : decode cX0_night 111 = .ok (.iconst 1, 1) := dk_4 (dk_at dksX0_night_4 18 rfl rfl)
theorem dX0_night_112 : decode cX0_night 112 = .ok (.isub, 1) := dk_100 (dk_at dksX0_night_4 19 rfl rfl)
theorem dX0_night_113 : decode cX0_night 113 = .ok (.ireturn, 1) := dk_172 (dk_at dksX0_night_4 20 rfl rfl)
abbrev cX0_stoneTold : ByteArray := prog_1_method_8_code
def yX0_stoneTold : MethodName := ⟨RX0, "stoneTold", "(II)I"⟩
def dkwX0_stoneTold_1 : List UInt8 := [180, 0, 29, 27, 46, 167, 0, 14, 42, 180, 0, 16, 27, 46, 167, 0, 5, 16, 251, 172]
abbrev dktX0_stoneTold_1 : List UInt8 := dkwX0_stoneTold_1 ++ []
def dkwX0_stoneTold_0 : List UInt8 := [42, 27, 182, 0, 44, 153, 0, 35, 28, 133, 9, 10, 184, 0, 5, 153, 0, 25, 28, 154, 0, 12, 42]
abbrev dktX0_stoneTold_0 : List UInt8 := dkwX0_stoneTold_0 ++ dktX0_stoneTold_1
theorem dksX0_stoneTold_0 : cX0_stoneTold.data.toList.drop 0 = dktX0_stoneTold_0 := by decide +kernel
theorem dksX0_stoneTold_1 : cX0_stoneTold.data.toList.drop 23 = dktX0_stoneTold_1 := dk_seg dksX0_stoneTold_0 23 rfl rfl
theorem dX0_stoneTold_0 : decode cX0_stoneTold 0 = .ok (.aload_n 0, 1) := dk_42 (dk_at dksX0_stoneTold_0 0 rfl rfl)
theorem dX0_stoneTold_1 : decode cX0_stoneTold 1 = .ok (.iload_n 1, 1) := dk_27 (dk_at dksX0_stoneTold_0 1 rfl rfl)
theorem dX0_stoneTold_2 : decode cX0_stoneTold 2 = .ok (.invokevirtual 44, 3) := dk_182 0 44 (dk_at dksX0_stoneTold_0 2 rfl rfl)
theorem dX0_stoneTold_5 : decode cX0_stoneTold 5 = .ok (.ifCond .eq 35, 3) := dk_153 0 35 (dk_at dksX0_stoneTold_0 5 rfl rfl)
theorem dX0_stoneTold_8 : decode cX0_stoneTold 8 = .ok (.iload_n 2, 1) := dk_28 (dk_at dksX0_stoneTold_0 8 rfl rfl)
theorem dX0_stoneTold_9 : decode cX0_stoneTold 9 = .ok (.i2l, 1) := dk_133 (dk_at dksX0_stoneTold_0 9 rfl rfl)
theorem dX0_stoneTold_10 : decode cX0_stoneTold 10 = .ok (.lconst 0, 1) := dk_9 (dk_at dksX0_stoneTold_0 10 rfl rfl)
theorem dX0_stoneTold_11 : decode cX0_stoneTold 11 = .ok (.lconst 1, 1) := dk_10 (dk_at dksX0_stoneTold_0 11 rfl rfl)
theorem dX0_stoneTold_12 : decode cX0_stoneTold 12 = .ok (.invokestatic 5, 3) := dk_184 0 5 (dk_at dksX0_stoneTold_0 12 rfl rfl)
theorem dX0_stoneTold_15 : decode cX0_stoneTold 15 = .ok (.ifCond .eq 25, 3) := dk_153 0 25 (dk_at dksX0_stoneTold_0 15 rfl rfl)
theorem dX0_stoneTold_18 : decode cX0_stoneTold 18 = .ok (.iload_n 2, 1) := dk_28 (dk_at dksX0_stoneTold_0 18 rfl rfl)
theorem dX0_stoneTold_19 : decode cX0_stoneTold 19 = .ok (.ifCond .ne 12, 3) := dk_154 0 12 (dk_at dksX0_stoneTold_0 19 rfl rfl)
theorem dX0_stoneTold_22 : decode cX0_stoneTold 22 = .ok (.aload_n 0, 1) := dk_42 (dk_at dksX0_stoneTold_0 22 rfl rfl)
theorem dX0_stoneTold_23 : decode cX0_stoneTold 23 = .ok (.getfield 29, 3) := dk_180 0 29 (dk_at dksX0_stoneTold_1 0 rfl rfl)
theorem dX0_stoneTold_26 : decode cX0_stoneTold 26 = .ok (.iload_n 1, 1) := dk_27 (dk_at dksX0_stoneTold_1 3 rfl rfl)
theorem dX0_stoneTold_27 : decode cX0_stoneTold 27 = .ok (.iaload, 1) := dk_46 (dk_at dksX0_stoneTold_1 4 rfl rfl)
theorem dX0_stoneTold_28 : decode cX0_stoneTold 28 = .ok (.goto 14, 3) := dk_167 0 14 (dk_at dksX0_stoneTold_1 5 rfl rfl)
theorem dX0_stoneTold_31 : decode cX0_stoneTold 31 = .ok (.aload_n 0, 1) := dk_42 (dk_at dksX0_stoneTold_1 8 rfl rfl)
theorem dX0_stoneTold_32 : decode cX0_stoneTold 32 = .ok (.getfield 16, 3) := dk_180 0 16 (dk_at dksX0_stoneTold_1 9 rfl rfl)
theorem dX0_stoneTold_35 : decode cX0_stoneTold 35 = .ok (.iload_n 1, 1) := dk_27 (dk_at dksX0_stoneTold_1 12 rfl rfl)
theorem dX0_stoneTold_36 : decode cX0_stoneTold 36 = .ok (.iaload, 1) := dk_46 (dk_at dksX0_stoneTold_1 13 rfl rfl)
theorem dX0_stoneTold_37 : decode cX0_stoneTold 37 = .ok (.goto 5, 3) := dk_167 0 5 (dk_at dksX0_stoneTold_1 14 rfl rfl)
theorem dX0_stoneTold_40 : decode cX0_stoneTold 40 = .ok (.bipush (-5), 2) := dk_16 251 (dk_at dksX0_stoneTold_1 17 rfl rfl)
theorem dX0_stoneTold_42 : decode cX0_stoneTold 42 = .ok (.ireturn, 1) := dk_172 (dk_at dksX0_stoneTold_1 19 rfl rfl)
abbrev cX0_isStone : ByteArray := prog_1_method_3_code
def yX0_isStone : MethodName := ⟨RX0, "isStone", "(I)Z"⟩
def dkwX0_isStone_0 : List UInt8 := [27, 133, 9, 42, 180, 0, 9, 4, 100, 133, 184, 0, 5, 172]
abbrev dktX0_isStone_0 : List UInt8 := dkwX0_isStone_0 ++ []
theorem dksX0_isStone_0 : cX0_isStone.data.toList.drop 0 = dktX0_isStone_0 := by decide +kernel
theorem dX0_isStone_0 : decode cX0_isStone 0 = .ok (.iload_n 1, 1) := dk_27 (dk_at dksX0_isStone_0 0 rfl rfl)
theorem dX0_isStone_1 : decode cX0_isStone 1 = .ok (.i2l, 1) := dk_133 (dk_at dksX0_isStone_0 1 rfl rfl)
theorem dX0_isStone_2 : decode cX0_isStone 2 = .ok (.lconst 0, 1) := dk_9 (dk_at dksX0_isStone_0 2 rfl rfl)
theorem dX0_isStone_3 : decode cX0_isStone 3 = .ok (.aload_n 0, 1) := dk_42 (dk_at dksX0_isStone_0 3 rfl rfl)
theorem dX0_isStone_4 : decode cX0_isStone 4 = .ok (.getfield 9, 3) := dk_180 0 9 (dk_at dksX0_isStone_0 4 rfl rfl)
theorem dX0_isStone_7 : decode cX0_isStone 7 = .ok (.iconst 1, 1) := dk_4 (dk_at dksX0_isStone_0 7 rfl rfl)
theorem dX0_isStone_8 : decode cX0_isStone 8 = .ok (.isub, 1) := dk_100 (dk_at dksX0_isStone_0 8 rfl rfl)
theorem dX0_isStone_9 : decode cX0_isStone 9 = .ok (.i2l, 1) := dk_133 (dk_at dksX0_isStone_0 9 rfl rfl)
theorem dX0_isStone_10 : decode cX0_isStone 10 = .ok (.invokestatic 5, 3) := dk_184 0 5 (dk_at dksX0_isStone_0 10 rfl rfl)
theorem dX0_isStone_13 : decode cX0_isStone 13 = .ok (.ireturn, 1) := dk_172 (dk_at dksX0_isStone_0 13 rfl rfl)
abbrev cX0_how : ByteArray := prog_1_method_11_code
def yX0_how : MethodName := ⟨RX0, "how", "(II)I"⟩
def dkwX0_how_2 : List UInt8 := [27, 28, 182, 0, 79, 83, 42, 89, 180, 0, 47, 4, 96, 181, 0, 47, 42, 180, 0, 47, 4, 100, 172]
abbrev dktX0_how_2 : List UInt8 := dkwX0_how_2 ++ []
def dkwX0_how_1 : List UInt8 := [16, 254, 172, 42, 180, 0, 47, 16, 8, 160, 0, 6, 16, 252, 172, 42, 180, 0, 75, 42, 180, 0, 47, 42]
abbrev dktX0_how_1 : List UInt8 := dkwX0_how_1 ++ dktX0_how_2
def dkwX0_how_0 : List UInt8 := [27, 133, 9, 20, 0, 71, 184, 0, 5, 153, 0, 15, 28, 133, 9, 20, 0, 73, 184, 0, 5, 154, 0, 6]
abbrev dktX0_how_0 : List UInt8 := dkwX0_how_0 ++ dktX0_how_1
theorem dksX0_how_0 : cX0_how.data.toList.drop 0 = dktX0_how_0 := by decide +kernel
theorem dksX0_how_1 : cX0_how.data.toList.drop 24 = dktX0_how_1 := dk_seg dksX0_how_0 24 rfl rfl
theorem dksX0_how_2 : cX0_how.data.toList.drop 48 = dktX0_how_2 := dk_seg dksX0_how_1 24 rfl rfl
theorem dX0_how_0 : decode cX0_how 0 = .ok (.iload_n 1, 1) := dk_27 (dk_at dksX0_how_0 0 rfl rfl)
theorem dX0_how_1 : decode cX0_how 1 = .ok (.i2l, 1) := dk_133 (dk_at dksX0_how_0 1 rfl rfl)
theorem dX0_how_2 : decode cX0_how 2 = .ok (.lconst 0, 1) := dk_9 (dk_at dksX0_how_0 2 rfl rfl)
theorem dX0_how_3 : decode cX0_how 3 = .ok (.ldc2_w 71, 3) := dk_20 0 71 (dk_at dksX0_how_0 3 rfl rfl)
theorem dX0_how_6 : decode cX0_how 6 = .ok (.invokestatic 5, 3) := dk_184 0 5 (dk_at dksX0_how_0 6 rfl rfl)
theorem dX0_how_9 : decode cX0_how 9 = .ok (.ifCond .eq 15, 3) := dk_153 0 15 (dk_at dksX0_how_0 9 rfl rfl)
theorem dX0_how_12 : decode cX0_how 12 = .ok (.iload_n 2, 1) := dk_28 (dk_at dksX0_how_0 12 rfl rfl)
theorem dX0_how_13 : decode cX0_how 13 = .ok (.i2l, 1) := dk_133 (dk_at dksX0_how_0 13 rfl rfl)
theorem dX0_how_14 : decode cX0_how 14 = .ok (.lconst 0, 1) := dk_9 (dk_at dksX0_how_0 14 rfl rfl)
theorem dX0_how_15 : decode cX0_how 15 = .ok (.ldc2_w 73, 3) := dk_20 0 73 (dk_at dksX0_how_0 15 rfl rfl)
theorem dX0_how_18 : decode cX0_how 18 = .ok (.invokestatic 5, 3) := dk_184 0 5 (dk_at dksX0_how_0 18 rfl rfl)
theorem dX0_how_21 : decode cX0_how 21 = .ok (.ifCond .ne 6, 3) := dk_154 0 6 (dk_at dksX0_how_0 21 rfl rfl)
theorem dX0_how_24 : decode cX0_how 24 = .ok (.bipush (-2), 2) := dk_16 254 (dk_at dksX0_how_1 0 rfl rfl)
theorem dX0_how_26 : decode cX0_how 26 = .ok (.ireturn, 1) := dk_172 (dk_at dksX0_how_1 2 rfl rfl)
theorem dX0_how_27 : decode cX0_how 27 = .ok (.aload_n 0, 1) := dk_42 (dk_at dksX0_how_1 3 rfl rfl)
theorem dX0_how_28 : decode cX0_how 28 = .ok (.getfield 47, 3) := dk_180 0 47 (dk_at dksX0_how_1 4 rfl rfl)
theorem dX0_how_31 : decode cX0_how 31 = .ok (.bipush 8, 2) := dk_16 8 (dk_at dksX0_how_1 7 rfl rfl)
theorem dX0_how_33 : decode cX0_how 33 = .ok (.if_icmp .ne 6, 3) := dk_160 0 6 (dk_at dksX0_how_1 9 rfl rfl)
theorem dX0_how_36 : decode cX0_how 36 = .ok (.bipush (-4), 2) := dk_16 252 (dk_at dksX0_how_1 12 rfl rfl)
theorem dX0_how_38 : decode cX0_how 38 = .ok (.ireturn, 1) := dk_172 (dk_at dksX0_how_1 14 rfl rfl)
theorem dX0_how_39 : decode cX0_how 39 = .ok (.aload_n 0, 1) := dk_42 (dk_at dksX0_how_1 15 rfl rfl)
theorem dX0_how_40 : decode cX0_how 40 = .ok (.getfield 75, 3) := dk_180 0 75 (dk_at dksX0_how_1 16 rfl rfl)
theorem dX0_how_43 : decode cX0_how 43 = .ok (.aload_n 0, 1) := dk_42 (dk_at dksX0_how_1 19 rfl rfl)
theorem dX0_how_44 : decode cX0_how 44 = .ok (.getfield 47, 3) := dk_180 0 47 (dk_at dksX0_how_1 20 rfl rfl)
theorem dX0_how_47 : decode cX0_how 47 = .ok (.aload_n 0, 1) := dk_42 (dk_at dksX0_how_1 23 rfl rfl)
theorem dX0_how_48 : decode cX0_how 48 = .ok (.iload_n 1, 1) := dk_27 (dk_at dksX0_how_2 0 rfl rfl)
theorem dX0_how_49 : decode cX0_how 49 = .ok (.iload_n 2, 1) := dk_28 (dk_at dksX0_how_2 1 rfl rfl)
theorem dX0_how_50 : decode cX0_how 50 = .ok (.invokevirtual 79, 3) := dk_182 0 79 (dk_at dksX0_how_2 2 rfl rfl)
theorem dX0_how_53 : decode cX0_how 53 = .ok (.aastore, 1) := dk_83 (dk_at dksX0_how_2 5 rfl rfl)
theorem dX0_how_54 : decode cX0_how 54 = .ok (.aload_n 0, 1) := dk_42 (dk_at dksX0_how_2 6 rfl rfl)
theorem dX0_how_55 : decode cX0_how 55 = .ok (.dup, 1) := dk_89 (dk_at dksX0_how_2 7 rfl rfl)
theorem dX0_how_56 : decode cX0_how 56 = .ok (.getfield 47, 3) := dk_180 0 47 (dk_at dksX0_how_2 8 rfl rfl)
theorem dX0_how_59 : decode cX0_how 59 = .ok (.iconst 1, 1) := dk_4 (dk_at dksX0_how_2 11 rfl rfl)
theorem dX0_how_60 : decode cX0_how 60 = .ok (.iadd, 1) := dk_96 (dk_at dksX0_how_2 12 rfl rfl)
theorem dX0_how_61 : decode cX0_how 61 = .ok (.putfield 47, 3) := dk_181 0 47 (dk_at dksX0_how_2 13 rfl rfl)
theorem dX0_how_64 : decode cX0_how 64 = .ok (.aload_n 0, 1) := dk_42 (dk_at dksX0_how_2 16 rfl rfl)
theorem dX0_how_65 : decode cX0_how 65 = .ok (.getfield 47, 3) := dk_180 0 47 (dk_at dksX0_how_2 17 rfl rfl)
theorem dX0_how_68 : decode cX0_how 68 = .ok (.iconst 1, 1) := dk_4 (dk_at dksX0_how_2 20 rfl rfl)
theorem dX0_how_69 : decode cX0_how 69 = .ok (.isub, 1) := dk_100 (dk_at dksX0_how_2 21 rfl rfl)
theorem dX0_how_70 : decode cX0_how 70 = .ok (.ireturn, 1) := dk_172 (dk_at dksX0_how_2 22 rfl rfl)
abbrev cX0_made : ByteArray := prog_1_method_10_code
def yX0_made : MethodName := ⟨RX0, "made", "(II)LWalkingStones$How;"⟩
def dkwX0_made_4 : List UInt8 := [183, 0, 67, 176, 187, 0, 68, 89, 42, 28, 183, 0, 70, 176]
abbrev dktX0_made_4 : List UInt8 := dkwX0_made_4 ++ []
def dkwX0_made_3 : List UInt8 := [42, 28, 183, 0, 61, 176, 187, 0, 62, 89, 42, 28, 183, 0, 64, 176, 187, 0, 65, 89, 42, 28]
abbrev dktX0_made_3 : List UInt8 := dkwX0_made_3 ++ dktX0_made_4
def dkwX0_made_2 : List UInt8 := [187, 0, 50, 89, 42, 28, 183, 0, 52, 176, 187, 0, 56, 89, 42, 28, 183, 0, 58, 176, 187, 0, 59, 89]
abbrev dktX0_made_2 : List UInt8 := dkwX0_made_2 ++ dktX0_made_3
def dkwX0_made_1 : List UInt8 := [170, 0, 0, 0, 0, 0, 85, 0, 0, 0, 1, 0, 0, 0, 5, 0, 0, 0, 35, 0, 0, 0, 45, 0, 0, 0, 55, 0, 0, 0, 65, 0, 0, 0, 75]
abbrev dktX0_made_1 : List UInt8 := dkwX0_made_1 ++ dktX0_made_2
def dkwX0_made_0 : List UInt8 := [27]
abbrev dktX0_made_0 : List UInt8 := dkwX0_made_0 ++ dktX0_made_1
theorem dksX0_made_0 : cX0_made.data.toList.drop 0 = dktX0_made_0 := by decide +kernel
theorem dksX0_made_1 : cX0_made.data.toList.drop 1 = dktX0_made_1 := dk_seg dksX0_made_0 1 rfl rfl
theorem dksX0_made_2 : cX0_made.data.toList.drop 36 = dktX0_made_2 := dk_seg dksX0_made_1 35 rfl rfl
theorem dksX0_made_3 : cX0_made.data.toList.drop 60 = dktX0_made_3 := dk_seg dksX0_made_2 24 rfl rfl
theorem dksX0_made_4 : cX0_made.data.toList.drop 82 = dktX0_made_4 := dk_seg dksX0_made_3 22 rfl rfl
theorem dX0_made_0 : decode cX0_made 0 = .ok (.iload_n 1, 1) := dk_27 (dk_at dksX0_made_0 0 rfl rfl)
theorem dX0_made_1 : decode cX0_made 1 = .ok (.tableswitch 85 1 5 #[35, 45, 55, 65, 75], 35) := by decide +kernel
theorem dX0_made_36 : decode cX0_made 36 = .ok (.new 50, 3) := dk_187 0 50 (dk_at dksX0_made_2 0 rfl rfl)
theorem dX0_made_39 : decode cX0_made 39 = .ok (.dup, 1) := dk_89 (dk_at dksX0_made_2 3 rfl rfl)
theorem dX0_made_40 : decode cX0_made 40 = .ok (.aload_n 0, 1) := dk_42 (dk_at dksX0_made_2 4 rfl rfl)
theorem dX0_made_41 : decode cX0_made 41 = .ok (.iload_n 2, 1) := dk_28 (dk_at dksX0_made_2 5 rfl rfl)
theorem dX0_made_42 : decode cX0_made 42 = .ok (.invokespecial 52, 3) := dk_183 0 52 (dk_at dksX0_made_2 6 rfl rfl)
theorem dX0_made_45 : decode cX0_made 45 = .ok (.areturn, 1) := dk_176 (dk_at dksX0_made_2 9 rfl rfl)
theorem dX0_made_46 : decode cX0_made 46 = .ok (.new 56, 3) := dk_187 0 56 (dk_at dksX0_made_2 10 rfl rfl)
theorem dX0_made_49 : decode cX0_made 49 = .ok (.dup, 1) := dk_89 (dk_at dksX0_made_2 13 rfl rfl)
theorem dX0_made_50 : decode cX0_made 50 = .ok (.aload_n 0, 1) := dk_42 (dk_at dksX0_made_2 14 rfl rfl)
theorem dX0_made_51 : decode cX0_made 51 = .ok (.iload_n 2, 1) := dk_28 (dk_at dksX0_made_2 15 rfl rfl)
theorem dX0_made_52 : decode cX0_made 52 = .ok (.invokespecial 58, 3) := dk_183 0 58 (dk_at dksX0_made_2 16 rfl rfl)
theorem dX0_made_55 : decode cX0_made 55 = .ok (.areturn, 1) := dk_176 (dk_at dksX0_made_2 19 rfl rfl)
theorem dX0_made_56 : decode cX0_made 56 = .ok (.new 59, 3) := dk_187 0 59 (dk_at dksX0_made_2 20 rfl rfl)
theorem dX0_made_59 : decode cX0_made 59 = .ok (.dup, 1) := dk_89 (dk_at dksX0_made_2 23 rfl rfl)
theorem dX0_made_60 : decode cX0_made 60 = .ok (.aload_n 0, 1) := dk_42 (dk_at dksX0_made_3 0 rfl rfl)
theorem dX0_made_61 : decode cX0_made 61 = .ok (.iload_n 2, 1) := dk_28 (dk_at dksX0_made_3 1 rfl rfl)
theorem dX0_made_62 : decode cX0_made 62 = .ok (.invokespecial 61, 3) := dk_183 0 61 (dk_at dksX0_made_3 2 rfl rfl)
theorem dX0_made_65 : decode cX0_made 65 = .ok (.areturn, 1) := dk_176 (dk_at dksX0_made_3 5 rfl rfl)
theorem dX0_made_66 : decode cX0_made 66 = .ok (.new 62, 3) := dk_187 0 62 (dk_at dksX0_made_3 6 rfl rfl)
theorem dX0_made_69 : decode cX0_made 69 = .ok (.dup, 1) := dk_89 (dk_at dksX0_made_3 9 rfl rfl)
theorem dX0_made_70 : decode cX0_made 70 = .ok (.aload_n 0, 1) := dk_42 (dk_at dksX0_made_3 10 rfl rfl)
theorem dX0_made_71 : decode cX0_made 71 = .ok (.iload_n 2, 1) := dk_28 (dk_at dksX0_made_3 11 rfl rfl)
theorem dX0_made_72 : decode cX0_made 72 = .ok (.invokespecial 64, 3) := dk_183 0 64 (dk_at dksX0_made_3 12 rfl rfl)
theorem dX0_made_75 : decode cX0_made 75 = .ok (.areturn, 1) := dk_176 (dk_at dksX0_made_3 15 rfl rfl)
theorem dX0_made_76 : decode cX0_made 76 = .ok (.new 65, 3) := dk_187 0 65 (dk_at dksX0_made_3 16 rfl rfl)
theorem dX0_made_79 : decode cX0_made 79 = .ok (.dup, 1) := dk_89 (dk_at dksX0_made_3 19 rfl rfl)
theorem dX0_made_80 : decode cX0_made 80 = .ok (.aload_n 0, 1) := dk_42 (dk_at dksX0_made_3 20 rfl rfl)
theorem dX0_made_81 : decode cX0_made 81 = .ok (.iload_n 2, 1) := dk_28 (dk_at dksX0_made_3 21 rfl rfl)
theorem dX0_made_82 : decode cX0_made 82 = .ok (.invokespecial 67, 3) := dk_183 0 67 (dk_at dksX0_made_4 0 rfl rfl)
theorem dX0_made_85 : decode cX0_made 85 = .ok (.areturn, 1) := dk_176 (dk_at dksX0_made_4 3 rfl rfl)
theorem dX0_made_86 : decode cX0_made 86 = .ok (.new 68, 3) := dk_187 0 68 (dk_at dksX0_made_4 4 rfl rfl)
theorem dX0_made_89 : decode cX0_made 89 = .ok (.dup, 1) := dk_89 (dk_at dksX0_made_4 7 rfl rfl)
theorem dX0_made_90 : decode cX0_made 90 = .ok (.aload_n 0, 1) := dk_42 (dk_at dksX0_made_4 8 rfl rfl)
theorem dX0_made_91 : decode cX0_made 91 = .ok (.iload_n 2, 1) := dk_28 (dk_at dksX0_made_4 9 rfl rfl)
theorem dX0_made_92 : decode cX0_made 92 = .ok (.invokespecial 70, 3) := dk_183 0 70 (dk_at dksX0_made_4 10 rfl rfl)
theorem dX0_made_95 : decode cX0_made 95 = .ok (.areturn, 1) := dk_176 (dk_at dksX0_made_4 13 rfl rfl)
abbrev cX0_told : ByteArray := prog_1_method_12_code
def yX0_told : MethodName := ⟨RX0, "told", "(IIII)I"⟩
def dkwX0_told_4 : List UInt8 := [28, 46, 29, 182, 0, 98, 172]
abbrev dktX0_told_4 : List UInt8 := dkwX0_told_4 ++ []
def dkwX0_told_3 : List UInt8 := [4, 160, 0, 17, 25, 5, 42, 180, 0, 29, 28, 46, 182, 0, 94, 167, 0, 15, 25, 5, 42, 180, 0, 29]
abbrev dktX0_told_3 : List UInt8 := dkwX0_told_3 ++ dktX0_told_4
def dkwX0_told_2 : List UInt8 := [21, 4, 154, 0, 20, 25, 5, 29, 182, 0, 91, 153, 0, 7, 4, 167, 0, 39, 3, 167, 0, 35, 21, 4]
abbrev dktX0_told_2 : List UInt8 := dkwX0_told_2 ++ dktX0_told_3
def dkwX0_told_1 : List UInt8 := [21, 4, 133, 9, 20, 0, 89, 184, 0, 5, 154, 0, 6, 16, 254, 172, 42, 180, 0, 75, 27, 50, 58, 5]
abbrev dktX0_told_1 : List UInt8 := dkwX0_told_1 ++ dktX0_told_2
def dkwX0_told_0 : List UInt8 := [42, 27, 182, 0, 83, 153, 0, 32, 42, 28, 182, 0, 44, 153, 0, 24, 42, 29, 182, 0, 86, 153, 0, 16]
abbrev dktX0_told_0 : List UInt8 := dkwX0_told_0 ++ dktX0_told_1
theorem dksX0_told_0 : cX0_told.data.toList.drop 0 = dktX0_told_0 := by decide +kernel
theorem dksX0_told_1 : cX0_told.data.toList.drop 24 = dktX0_told_1 := dk_seg dksX0_told_0 24 rfl rfl
theorem dksX0_told_2 : cX0_told.data.toList.drop 48 = dktX0_told_2 := dk_seg dksX0_told_1 24 rfl rfl
theorem dksX0_told_3 : cX0_told.data.toList.drop 72 = dktX0_told_3 := dk_seg dksX0_told_2 24 rfl rfl
theorem dksX0_told_4 : cX0_told.data.toList.drop 96 = dktX0_told_4 := dk_seg dksX0_told_3 24 rfl rfl
theorem dX0_told_0 : decode cX0_told 0 = .ok (.aload_n 0, 1) := dk_42 (dk_at dksX0_told_0 0 rfl rfl)
theorem dX0_told_1 : decode cX0_told 1 = .ok (.iload_n 1, 1) := dk_27 (dk_at dksX0_told_0 1 rfl rfl)
theorem dX0_told_2 : decode cX0_told 2 = .ok (.invokevirtual 83, 3) := dk_182 0 83 (dk_at dksX0_told_0 2 rfl rfl)
theorem dX0_told_5 : decode cX0_told 5 = .ok (.ifCond .eq 32, 3) := dk_153 0 32 (dk_at dksX0_told_0 5 rfl rfl)
theorem dX0_told_8 : decode cX0_told 8 = .ok (.aload_n 0, 1) := dk_42 (dk_at dksX0_told_0 8 rfl rfl)
theorem dX0_told_9 : decode cX0_told 9 = .ok (.iload_n 2, 1) := dk_28 (dk_at dksX0_told_0 9 rfl rfl)
theorem dX0_told_10 : decode cX0_told 10 = .ok (.invokevirtual 44, 3) := dk_182 0 44 (dk_at dksX0_told_0 10 rfl rfl)
theorem dX0_told_13 : decode cX0_told 13 = .ok (.ifCond .eq 24, 3) := dk_153 0 24 (dk_at dksX0_told_0 13 rfl rfl)
theorem dX0_told_16 : decode cX0_told 16 = .ok (.aload_n 0, 1) := dk_42 (dk_at dksX0_told_0 16 rfl rfl)
theorem dX0_told_17 : decode cX0_told 17 = .ok (.iload_n 3, 1) := dk_29 (dk_at dksX0_told_0 17 rfl rfl)
theorem dX0_told_18 : decode cX0_told 18 = .ok (.invokevirtual 86, 3) := dk_182 0 86 (dk_at dksX0_told_0 18 rfl rfl)
theorem dX0_told_21 : decode cX0_told 21 = .ok (.ifCond .eq 16, 3) := dk_153 0 16 (dk_at dksX0_told_0 21 rfl rfl)
theorem dX0_told_24 : decode cX0_told 24 = .ok (.iload 4, 2) := dk_21 4 (dk_at dksX0_told_1 0 rfl rfl)
theorem dX0_told_26 : decode cX0_told 26 = .ok (.i2l, 1) := dk_133 (dk_at dksX0_told_1 2 rfl rfl)
theorem dX0_told_27 : decode cX0_told 27 = .ok (.lconst 0, 1) := dk_9 (dk_at dksX0_told_1 3 rfl rfl)
theorem dX0_told_28 : decode cX0_told 28 = .ok (.ldc2_w 89, 3) := dk_20 0 89 (dk_at dksX0_told_1 4 rfl rfl)
theorem dX0_told_31 : decode cX0_told 31 = .ok (.invokestatic 5, 3) := dk_184 0 5 (dk_at dksX0_told_1 7 rfl rfl)
theorem dX0_told_34 : decode cX0_told 34 = .ok (.ifCond .ne 6, 3) := dk_154 0 6 (dk_at dksX0_told_1 10 rfl rfl)
theorem dX0_told_37 : decode cX0_told 37 = .ok (.bipush (-2), 2) := dk_16 254 (dk_at dksX0_told_1 13 rfl rfl)
theorem dX0_told_39 : decode cX0_told 39 = .ok (.ireturn, 1) := dk_172 (dk_at dksX0_told_1 15 rfl rfl)
theorem dX0_told_40 : decode cX0_told 40 = .ok (.aload_n 0, 1) := dk_42 (dk_at dksX0_told_1 16 rfl rfl)
theorem dX0_told_41 : decode cX0_told 41 = .ok (.getfield 75, 3) := dk_180 0 75 (dk_at dksX0_told_1 17 rfl rfl)
theorem dX0_told_44 : decode cX0_told 44 = .ok (.iload_n 1, 1) := dk_27 (dk_at dksX0_told_1 20 rfl rfl)
theorem dX0_told_45 : decode cX0_told 45 = .ok (.aaload, 1) := dk_50 (dk_at dksX0_told_1 21 rfl rfl)
theorem dX0_told_46 : decode cX0_told 46 = .ok (.astore 5, 2) := dk_58 5 (dk_at dksX0_told_1 22 rfl rfl)
theorem dX0_told_48 : decode cX0_told 48 = .ok (.iload 4, 2) := dk_21 4 (dk_at dksX0_told_2 0 rfl rfl)
theorem dX0_told_50 : decode cX0_told 50 = .ok (.ifCond .ne 20, 3) := dk_154 0 20 (dk_at dksX0_told_2 2 rfl rfl)
theorem dX0_told_53 : decode cX0_told 53 = .ok (.aload 5, 2) := dk_25 5 (dk_at dksX0_told_2 5 rfl rfl)
theorem dX0_told_55 : decode cX0_told 55 = .ok (.iload_n 3, 1) := dk_29 (dk_at dksX0_told_2 7 rfl rfl)
theorem dX0_told_56 : decode cX0_told 56 = .ok (.invokevirtual 91, 3) := dk_182 0 91 (dk_at dksX0_told_2 8 rfl rfl)
theorem dX0_told_59 : decode cX0_told 59 = .ok (.ifCond .eq 7, 3) := dk_153 0 7 (dk_at dksX0_told_2 11 rfl rfl)
theorem dX0_told_62 : decode cX0_told 62 = .ok (.iconst 1, 1) := dk_4 (dk_at dksX0_told_2 14 rfl rfl)
theorem dX0_told_63 : decode cX0_told 63 = .ok (.goto 39, 3) := dk_167 0 39 (dk_at dksX0_told_2 15 rfl rfl)
theorem dX0_told_66 : decode cX0_told 66 = .ok (.iconst 0, 1) := dk_3 (dk_at dksX0_told_2 18 rfl rfl)
theorem dX0_told_67 : decode cX0_told 67 = .ok (.goto 35, 3) := dk_167 0 35 (dk_at dksX0_told_2 19 rfl rfl)
theorem dX0_told_70 : decode cX0_told 70 = .ok (.iload 4, 2) := dk_21 4 (dk_at dksX0_told_2 22 rfl rfl)
theorem dX0_told_72 : decode cX0_told 72 = .ok (.iconst 1, 1) := dk_4 (dk_at dksX0_told_3 0 rfl rfl)
theorem dX0_told_73 : decode cX0_told 73 = .ok (.if_icmp .ne 17, 3) := dk_160 0 17 (dk_at dksX0_told_3 1 rfl rfl)
theorem dX0_told_76 : decode cX0_told 76 = .ok (.aload 5, 2) := dk_25 5 (dk_at dksX0_told_3 4 rfl rfl)
theorem dX0_told_78 : decode cX0_told 78 = .ok (.aload_n 0, 1) := dk_42 (dk_at dksX0_told_3 6 rfl rfl)
theorem dX0_told_79 : decode cX0_told 79 = .ok (.getfield 29, 3) := dk_180 0 29 (dk_at dksX0_told_3 7 rfl rfl)
theorem dX0_told_82 : decode cX0_told 82 = .ok (.iload_n 2, 1) := dk_28 (dk_at dksX0_told_3 10 rfl rfl)
theorem dX0_told_83 : decode cX0_told 83 = .ok (.iaload, 1) := dk_46 (dk_at dksX0_told_3 11 rfl rfl)
theorem dX0_told_84 : decode cX0_told 84 = .ok (.invokevirtual 94, 3) := dk_182 0 94 (dk_at dksX0_told_3 12 rfl rfl)
theorem dX0_told_87 : decode cX0_told 87 = .ok (.goto 15, 3) := dk_167 0 15 (dk_at dksX0_told_3 15 rfl rfl)
theorem dX0_told_90 : decode cX0_told 90 = .ok (.aload 5, 2) := dk_25 5 (dk_at dksX0_told_3 18 rfl rfl)
theorem dX0_told_92 : decode cX0_told 92 = .ok (.aload_n 0, 1) := dk_42 (dk_at dksX0_told_3 20 rfl rfl)
theorem dX0_told_93 : decode cX0_told 93 = .ok (.getfield 29, 3) := dk_180 0 29 (dk_at dksX0_told_3 21 rfl rfl)
theorem dX0_told_96 : decode cX0_told 96 = .ok (.iload_n 2, 1) := dk_28 (dk_at dksX0_told_4 0 rfl rfl)
theorem dX0_told_97 : decode cX0_told 97 = .ok (.iaload, 1) := dk_46 (dk_at dksX0_told_4 1 rfl rfl)
theorem dX0_told_98 : decode cX0_told 98 = .ok (.iload_n 3, 1) := dk_29 (dk_at dksX0_told_4 2 rfl rfl)
theorem dX0_told_99 : decode cX0_told 99 = .ok (.invokevirtual 98, 3) := dk_182 0 98 (dk_at dksX0_told_4 3 rfl rfl)
theorem dX0_told_102 : decode cX0_told 102 = .ok (.ireturn, 1) := dk_172 (dk_at dksX0_told_4 6 rfl rfl)
abbrev cX0_isHow : ByteArray := prog_1_method_9_code
def yX0_isHow : MethodName := ⟨RX0, "isHow", "(I)Z"⟩
def dkwX0_isHow_0 : List UInt8 := [27, 133, 9, 42, 180, 0, 47, 4, 100, 133, 184, 0, 5, 172]
abbrev dktX0_isHow_0 : List UInt8 := dkwX0_isHow_0 ++ []
theorem dksX0_isHow_0 : cX0_isHow.data.toList.drop 0 = dktX0_isHow_0 := by decide +kernel
theorem dX0_isHow_0 : decode cX0_isHow 0 = .ok (.iload_n 1, 1) := dk_27 (dk_at dksX0_isHow_0 0 rfl rfl)
theorem dX0_isHow_1 : decode cX0_isHow 1 = .ok (.i2l, 1) := dk_133 (dk_at dksX0_isHow_0 1 rfl rfl)
theorem dX0_isHow_2 : decode cX0_isHow 2 = .ok (.lconst 0, 1) := dk_9 (dk_at dksX0_isHow_0 2 rfl rfl)
theorem dX0_isHow_3 : decode cX0_isHow 3 = .ok (.aload_n 0, 1) := dk_42 (dk_at dksX0_isHow_0 3 rfl rfl)
theorem dX0_isHow_4 : decode cX0_isHow 4 = .ok (.getfield 47, 3) := dk_180 0 47 (dk_at dksX0_isHow_0 4 rfl rfl)
theorem dX0_isHow_7 : decode cX0_isHow 7 = .ok (.iconst 1, 1) := dk_4 (dk_at dksX0_isHow_0 7 rfl rfl)
theorem dX0_isHow_8 : decode cX0_isHow 8 = .ok (.isub, 1) := dk_100 (dk_at dksX0_isHow_0 8 rfl rfl)
theorem dX0_isHow_9 : decode cX0_isHow 9 = .ok (.i2l, 1) := dk_133 (dk_at dksX0_isHow_0 9 rfl rfl)
theorem dX0_isHow_10 : decode cX0_isHow 10 = .ok (.invokestatic 5, 3) := dk_184 0 5 (dk_at dksX0_isHow_0 10 rfl rfl)
theorem dX0_isHow_13 : decode cX0_isHow 13 = .ok (.ireturn, 1) := dk_172 (dk_at dksX0_isHow_0 13 rfl rfl)
abbrev cX0_isNight : ByteArray := prog_1_method_4_code
def yX0_isNight : MethodName := ⟨RX0, "isNight", "(I)Z"⟩
def dkwX0_isNight_0 : List UInt8 := [27, 133, 9, 42, 180, 0, 13, 4, 100, 133, 184, 0, 5, 172]
abbrev dktX0_isNight_0 : List UInt8 := dkwX0_isNight_0 ++ []
theorem dksX0_isNight_0 : cX0_isNight.data.toList.drop 0 = dktX0_isNight_0 := by decide +kernel
theorem dX0_isNight_0 : decode cX0_isNight 0 = .ok (.iload_n 1, 1) := dk_27 (dk_at dksX0_isNight_0 0 rfl rfl)
theorem dX0_isNight_1 : decode cX0_isNight 1 = .ok (.i2l, 1) := dk_133 (dk_at dksX0_isNight_0 1 rfl rfl)
theorem dX0_isNight_2 : decode cX0_isNight 2 = .ok (.lconst 0, 1) := dk_9 (dk_at dksX0_isNight_0 2 rfl rfl)
theorem dX0_isNight_3 : decode cX0_isNight 3 = .ok (.aload_n 0, 1) := dk_42 (dk_at dksX0_isNight_0 3 rfl rfl)
theorem dX0_isNight_4 : decode cX0_isNight 4 = .ok (.getfield 13, 3) := dk_180 0 13 (dk_at dksX0_isNight_0 4 rfl rfl)
theorem dX0_isNight_7 : decode cX0_isNight 7 = .ok (.iconst 1, 1) := dk_4 (dk_at dksX0_isNight_0 7 rfl rfl)
theorem dX0_isNight_8 : decode cX0_isNight 8 = .ok (.isub, 1) := dk_100 (dk_at dksX0_isNight_0 8 rfl rfl)
theorem dX0_isNight_9 : decode cX0_isNight 9 = .ok (.i2l, 1) := dk_133 (dk_at dksX0_isNight_0 9 rfl rfl)
theorem dX0_isNight_10 : decode cX0_isNight 10 = .ok (.invokestatic 5, 3) := dk_184 0 5 (dk_at dksX0_isNight_0 10 rfl rfl)
theorem dX0_isNight_13 : decode cX0_isNight 13 = .ok (.ireturn, 1) := dk_172 (dk_at dksX0_isNight_0 13 rfl rfl)
abbrev cX0_asks : ByteArray := prog_1_method_38_code
def yX0_asks : MethodName := ⟨RX0, "asks", "(IIIIII)I"⟩
def dkwX0_asks_1 : List UInt8 := [42, 180, 1, 72, 50, 27, 50, 182, 1, 84, 184, 1, 86, 184, 1, 91, 172]
abbrev dktX0_asks_1 : List UInt8 := dkwX0_asks_1 ++ []
def dkwX0_asks_0 : List UInt8 := [42, 28, 181, 1, 75, 42, 29, 181, 1, 78, 42, 21, 4, 181, 1, 81, 21, 5, 21, 6, 42, 180, 0, 237]
abbrev dktX0_asks_0 : List UInt8 := dkwX0_asks_0 ++ dktX0_asks_1
theorem dksX0_asks_0 : cX0_asks.data.toList.drop 0 = dktX0_asks_0 := by decide +kernel
theorem dksX0_asks_1 : cX0_asks.data.toList.drop 24 = dktX0_asks_1 := dk_seg dksX0_asks_0 24 rfl rfl
theorem dX0_asks_0 : decode cX0_asks 0 = .ok (.aload_n 0, 1) := dk_42 (dk_at dksX0_asks_0 0 rfl rfl)
theorem dX0_asks_1 : decode cX0_asks 1 = .ok (.iload_n 2, 1) := dk_28 (dk_at dksX0_asks_0 1 rfl rfl)
theorem dX0_asks_2 : decode cX0_asks 2 = .ok (.putfield 331, 3) := dk_181 1 75 (dk_at dksX0_asks_0 2 rfl rfl)
theorem dX0_asks_5 : decode cX0_asks 5 = .ok (.aload_n 0, 1) := dk_42 (dk_at dksX0_asks_0 5 rfl rfl)
theorem dX0_asks_6 : decode cX0_asks 6 = .ok (.iload_n 3, 1) := dk_29 (dk_at dksX0_asks_0 6 rfl rfl)
theorem dX0_asks_7 : decode cX0_asks 7 = .ok (.putfield 334, 3) := dk_181 1 78 (dk_at dksX0_asks_0 7 rfl rfl)
theorem dX0_asks_10 : decode cX0_asks 10 = .ok (.aload_n 0, 1) := dk_42 (dk_at dksX0_asks_0 10 rfl rfl)
theorem dX0_asks_11 : decode cX0_asks 11 = .ok (.iload 4, 2) := dk_21 4 (dk_at dksX0_asks_0 11 rfl rfl)
theorem dX0_asks_13 : decode cX0_asks 13 = .ok (.putfield 337, 3) := dk_181 1 81 (dk_at dksX0_asks_0 13 rfl rfl)
theorem dX0_asks_16 : decode cX0_asks 16 = .ok (.iload 5, 2) := dk_21 5 (dk_at dksX0_asks_0 16 rfl rfl)
theorem dX0_asks_18 : decode cX0_asks 18 = .ok (.iload 6, 2) := dk_21 6 (dk_at dksX0_asks_0 18 rfl rfl)
theorem dX0_asks_20 : decode cX0_asks 20 = .ok (.aload_n 0, 1) := dk_42 (dk_at dksX0_asks_0 20 rfl rfl)
theorem dX0_asks_21 : decode cX0_asks 21 = .ok (.getfield 237, 3) := dk_180 0 237 (dk_at dksX0_asks_0 21 rfl rfl)
theorem dX0_asks_24 : decode cX0_asks 24 = .ok (.aload_n 0, 1) := dk_42 (dk_at dksX0_asks_1 0 rfl rfl)
theorem dX0_asks_25 : decode cX0_asks 25 = .ok (.getfield 328, 3) := dk_180 1 72 (dk_at dksX0_asks_1 1 rfl rfl)
theorem dX0_asks_28 : decode cX0_asks 28 = .ok (.aaload, 1) := dk_50 (dk_at dksX0_asks_1 4 rfl rfl)
theorem dX0_asks_29 : decode cX0_asks 29 = .ok (.iload_n 1, 1) := dk_27 (dk_at dksX0_asks_1 5 rfl rfl)
theorem dX0_asks_30 : decode cX0_asks 30 = .ok (.aaload, 1) := dk_50 (dk_at dksX0_asks_1 6 rfl rfl)
theorem dX0_asks_31 : decode cX0_asks 31 = .ok (.invokevirtual 340, 3) := dk_182 1 84 (dk_at dksX0_asks_1 7 rfl rfl)
theorem dX0_asks_34 : decode cX0_asks 34 = .ok (.invokestatic 342, 3) := dk_184 1 86 (dk_at dksX0_asks_1 10 rfl rfl)
theorem dX0_asks_37 : decode cX0_asks 37 = .ok (.invokestatic 347, 3) := dk_184 1 91 (dk_at dksX0_asks_1 13 rfl rfl)
theorem dX0_asks_40 : decode cX0_asks 40 = .ok (.ireturn, 1) := dk_172 (dk_at dksX0_asks_1 16 rfl rfl)
abbrev cX0_needs : ByteArray := prog_1_method_13_code
def yX0_needs : MethodName := ⟨RX0, "needs", "(III)I"⟩
def dkwX0_needs_5 : List UInt8 := [25, 7, 191]
abbrev dktX0_needs_5 : List UInt8 := dkwX0_needs_5 ++ []
def dkwX0_needs_4 : List UInt8 := [2, 54, 5, 42, 180, 0, 38, 29, 21, 4, 79, 21, 5, 172, 58, 7, 42, 180, 0, 38, 29, 21, 4, 79]
abbrev dktX0_needs_4 : List UInt8 := dkwX0_needs_4 ++ dktX0_needs_5
def dkwX0_needs_3 : List UInt8 := [158, 0, 18, 21, 5, 54, 6, 42, 180, 0, 38, 29, 21, 4, 79, 21, 6, 172, 132, 5, 1, 167, 255, 204]
abbrev dktX0_needs_3 : List UInt8 := dkwX0_needs_3 ++ dktX0_needs_4
def dkwX0_needs_2 : List UInt8 := [180, 0, 38, 29, 21, 5, 79, 42, 180, 0, 75, 27, 50, 42, 180, 0, 29, 28, 46, 29, 182, 0, 98]
abbrev dktX0_needs_2 : List UInt8 := dkwX0_needs_2 ++ dktX0_needs_3
def dkwX0_needs_1 : List UInt8 := [16, 254, 172, 42, 180, 0, 38, 29, 46, 54, 4, 3, 54, 5, 21, 5, 16, 99, 163, 0, 51, 42]
abbrev dktX0_needs_1 : List UInt8 := dkwX0_needs_1 ++ dktX0_needs_2
def dkwX0_needs_0 : List UInt8 := [42, 27, 182, 0, 83, 153, 0, 19, 42, 28, 182, 0, 44, 153, 0, 11, 42, 29, 182, 0, 86, 154, 0, 6]
abbrev dktX0_needs_0 : List UInt8 := dkwX0_needs_0 ++ dktX0_needs_1
theorem dksX0_needs_0 : cX0_needs.data.toList.drop 0 = dktX0_needs_0 := by decide +kernel
theorem dksX0_needs_1 : cX0_needs.data.toList.drop 24 = dktX0_needs_1 := dk_seg dksX0_needs_0 24 rfl rfl
theorem dksX0_needs_2 : cX0_needs.data.toList.drop 46 = dktX0_needs_2 := dk_seg dksX0_needs_1 22 rfl rfl
theorem dksX0_needs_3 : cX0_needs.data.toList.drop 69 = dktX0_needs_3 := dk_seg dksX0_needs_2 23 rfl rfl
theorem dksX0_needs_4 : cX0_needs.data.toList.drop 93 = dktX0_needs_4 := dk_seg dksX0_needs_3 24 rfl rfl
theorem dksX0_needs_5 : cX0_needs.data.toList.drop 117 = dktX0_needs_5 := dk_seg dksX0_needs_4 24 rfl rfl
theorem dX0_needs_0 : decode cX0_needs 0 = .ok (.aload_n 0, 1) := dk_42 (dk_at dksX0_needs_0 0 rfl rfl)
theorem dX0_needs_1 : decode cX0_needs 1 = .ok (.iload_n 1, 1) := dk_27 (dk_at dksX0_needs_0 1 rfl rfl)
theorem dX0_needs_2 : decode cX0_needs 2 = .ok (.invokevirtual 83, 3) := dk_182 0 83 (dk_at dksX0_needs_0 2 rfl rfl)
theorem dX0_needs_5 : decode cX0_needs 5 = .ok (.ifCond .eq 19, 3) := dk_153 0 19 (dk_at dksX0_needs_0 5 rfl rfl)
theorem dX0_needs_8 : decode cX0_needs 8 = .ok (.aload_n 0, 1) := dk_42 (dk_at dksX0_needs_0 8 rfl rfl)
theorem dX0_needs_9 : decode cX0_needs 9 = .ok (.iload_n 2, 1) := dk_28 (dk_at dksX0_needs_0 9 rfl rfl)
theorem dX0_needs_10 : decode cX0_needs 10 = .ok (.invokevirtual 44, 3) := dk_182 0 44 (dk_at dksX0_needs_0 10 rfl rfl)
theorem dX0_needs_13 : decode cX0_needs 13 = .ok (.ifCond .eq 11, 3) := dk_153 0 11 (dk_at dksX0_needs_0 13 rfl rfl)
theorem dX0_needs_16 : decode cX0_needs 16 = .ok (.aload_n 0, 1) := dk_42 (dk_at dksX0_needs_0 16 rfl rfl)
theorem dX0_needs_17 : decode cX0_needs 17 = .ok (.iload_n 3, 1) := dk_29 (dk_at dksX0_needs_0 17 rfl rfl)
theorem dX0_needs_18 : decode cX0_needs 18 = .ok (.invokevirtual 86, 3) := dk_182 0 86 (dk_at dksX0_needs_0 18 rfl rfl)
theorem dX0_needs_21 : decode cX0_needs 21 = .ok (.ifCond .ne 6, 3) := dk_154 0 6 (dk_at dksX0_needs_0 21 rfl rfl)
theorem dX0_needs_24 : decode cX0_needs 24 = .ok (.bipush (-2), 2) := dk_16 254 (dk_at dksX0_needs_1 0 rfl rfl)
theorem dX0_needs_26 : decode cX0_needs 26 = .ok (.ireturn, 1) := dk_172 (dk_at dksX0_needs_1 2 rfl rfl)
theorem dX0_needs_27 : decode cX0_needs 27 = .ok (.aload_n 0, 1) := dk_42 (dk_at dksX0_needs_1 3 rfl rfl)
theorem dX0_needs_28 : decode cX0_needs 28 = .ok (.getfield 38, 3) := dk_180 0 38 (dk_at dksX0_needs_1 4 rfl rfl)
theorem dX0_needs_31 : decode cX0_needs 31 = .ok (.iload_n 3, 1) := dk_29 (dk_at dksX0_needs_1 7 rfl rfl)
theorem dX0_needs_32 : decode cX0_needs 32 = .ok (.iaload, 1) := dk_46 (dk_at dksX0_needs_1 8 rfl rfl)
theorem dX0_needs_33 : decode cX0_needs 33 = .ok (.istore 4, 2) := dk_54 4 (dk_at dksX0_needs_1 9 rfl rfl)
theorem dX0_needs_35 : decode cX0_needs 35 = .ok (.iconst 0, 1) := dk_3 (dk_at dksX0_needs_1 11 rfl rfl)
theorem dX0_needs_36 : decode cX0_needs 36 = .ok (.istore 5, 2) := dk_54 5 (dk_at dksX0_needs_1 12 rfl rfl)
theorem dX0_needs_38 : decode cX0_needs 38 = .ok (.iload 5, 2) := dk_21 5 (dk_at dksX0_needs_1 14 rfl rfl)
theorem dX0_needs_40 : decode cX0_needs 40 = .ok (.bipush 99, 2) := dk_16 99 (dk_at dksX0_needs_1 16 rfl rfl)
theorem dX0_needs_42 : decode cX0_needs 42 = .ok (.if_icmp .gt 51, 3) := dk_163 0 51 (dk_at dksX0_needs_1 18 rfl rfl)
theorem dX0_needs_45 : decode cX0_needs 45 = .ok (.aload_n 0, 1) := dk_42 (dk_at dksX0_needs_1 21 rfl rfl)
theorem dX0_needs_46 : decode cX0_needs 46 = .ok (.getfield 38, 3) := dk_180 0 38 (dk_at dksX0_needs_2 0 rfl rfl)
theorem dX0_needs_49 : decode cX0_needs 49 = .ok (.iload_n 3, 1) := dk_29 (dk_at dksX0_needs_2 3 rfl rfl)
theorem dX0_needs_50 : decode cX0_needs 50 = .ok (.iload 5, 2) := dk_21 5 (dk_at dksX0_needs_2 4 rfl rfl)
theorem dX0_needs_52 : decode cX0_needs 52 = .ok (.iastore, 1) := dk_79 (dk_at dksX0_needs_2 6 rfl rfl)
theorem dX0_needs_53 : decode cX0_needs 53 = .ok (.aload_n 0, 1) := dk_42 (dk_at dksX0_needs_2 7 rfl rfl)
theorem dX0_needs_54 : decode cX0_needs 54 = .ok (.getfield 75, 3) := dk_180 0 75 (dk_at dksX0_needs_2 8 rfl rfl)
theorem dX0_needs_57 : decode cX0_needs 57 = .ok (.iload_n 1, 1) := dk_27 (dk_at dksX0_needs_2 11 rfl rfl)
theorem dX0_needs_58 : decode cX0_needs 58 = .ok (.aaload, 1) := dk_50 (dk_at dksX0_needs_2 12 rfl rfl)
theorem dX0_needs_59 : decode cX0_needs 59 = .ok (.aload_n 0, 1) := dk_42 (dk_at dksX0_needs_2 13 rfl rfl)
theorem dX0_needs_60 : decode cX0_needs 60 = .ok (.getfield 29, 3) := dk_180 0 29 (dk_at dksX0_needs_2 14 rfl rfl)
theorem dX0_needs_63 : decode cX0_needs 63 = .ok (.iload_n 2, 1) := dk_28 (dk_at dksX0_needs_2 17 rfl rfl)
theorem dX0_needs_64 : decode cX0_needs 64 = .ok (.iaload, 1) := dk_46 (dk_at dksX0_needs_2 18 rfl rfl)
theorem dX0_needs_65 : decode cX0_needs 65 = .ok (.iload_n 3, 1) := dk_29 (dk_at dksX0_needs_2 19 rfl rfl)
theorem dX0_needs_66 : decode cX0_needs 66 = .ok (.invokevirtual 98, 3) := dk_182 0 98 (dk_at dksX0_needs_2 20 rfl rfl)
theorem dX0_needs_69 : decode cX0_needs 69 = .ok (.ifCond .le 18, 3) := dk_158 0 18 (dk_at dksX0_needs_3 0 rfl rfl)
theorem dX0_needs_72 : decode cX0_needs 72 = .ok (.iload 5, 2) := dk_21 5 (dk_at dksX0_needs_3 3 rfl rfl)
theorem dX0_needs_74 : decode cX0_needs 74 = .ok (.istore 6, 2) := dk_54 6 (dk_at dksX0_needs_3 5 rfl rfl)
theorem dX0_needs_76 : decode cX0_needs 76 = .ok (.aload_n 0, 1) := dk_42 (dk_at dksX0_needs_3 7 rfl rfl)
theorem dX0_needs_77 : decode cX0_needs 77 = .ok (.getfield 38, 3) := dk_180 0 38 (dk_at dksX0_needs_3 8 rfl rfl)
theorem dX0_needs_80 : decode cX0_needs 80 = .ok (.iload_n 3, 1) := dk_29 (dk_at dksX0_needs_3 11 rfl rfl)
theorem dX0_needs_81 : decode cX0_needs 81 = .ok (.iload 4, 2) := dk_21 4 (dk_at dksX0_needs_3 12 rfl rfl)
theorem dX0_needs_83 : decode cX0_needs 83 = .ok (.iastore, 1) := dk_79 (dk_at dksX0_needs_3 14 rfl rfl)
theorem dX0_needs_84 : decode cX0_needs 84 = .ok (.iload 6, 2) := dk_21 6 (dk_at dksX0_needs_3 15 rfl rfl)
theorem dX0_needs_86 : decode cX0_needs 86 = .ok (.ireturn, 1) := dk_172 (dk_at dksX0_needs_3 17 rfl rfl)
theorem dX0_needs_87 : decode cX0_needs 87 = .ok (.iinc 5 1, 3) := dk_132 5 1 (dk_at dksX0_needs_3 18 rfl rfl)
theorem dX0_needs_90 : decode cX0_needs 90 = .ok (.goto (-52), 3) := dk_167 255 204 (dk_at dksX0_needs_3 21 rfl rfl)
theorem dX0_needs_93 : decode cX0_needs 93 = .ok (.iconst (-1), 1) := dk_2 (dk_at dksX0_needs_4 0 rfl rfl)
theorem dX0_needs_94 : decode cX0_needs 94 = .ok (.istore 5, 2) := dk_54 5 (dk_at dksX0_needs_4 1 rfl rfl)
theorem dX0_needs_96 : decode cX0_needs 96 = .ok (.aload_n 0, 1) := dk_42 (dk_at dksX0_needs_4 3 rfl rfl)
theorem dX0_needs_97 : decode cX0_needs 97 = .ok (.getfield 38, 3) := dk_180 0 38 (dk_at dksX0_needs_4 4 rfl rfl)
theorem dX0_needs_100 : decode cX0_needs 100 = .ok (.iload_n 3, 1) := dk_29 (dk_at dksX0_needs_4 7 rfl rfl)
theorem dX0_needs_101 : decode cX0_needs 101 = .ok (.iload 4, 2) := dk_21 4 (dk_at dksX0_needs_4 8 rfl rfl)
theorem dX0_needs_103 : decode cX0_needs 103 = .ok (.iastore, 1) := dk_79 (dk_at dksX0_needs_4 10 rfl rfl)
theorem dX0_needs_104 : decode cX0_needs 104 = .ok (.iload 5, 2) := dk_21 5 (dk_at dksX0_needs_4 11 rfl rfl)
theorem dX0_needs_106 : decode cX0_needs 106 = .ok (.ireturn, 1) := dk_172 (dk_at dksX0_needs_4 13 rfl rfl)
theorem dX0_needs_107 : decode cX0_needs 107 = .ok (.astore 7, 2) := dk_58 7 (dk_at dksX0_needs_4 14 rfl rfl)
theorem dX0_needs_109 : decode cX0_needs 109 = .ok (.aload_n 0, 1) := dk_42 (dk_at dksX0_needs_4 16 rfl rfl)
theorem dX0_needs_110 : decode cX0_needs 110 = .ok (.getfield 38, 3) := dk_180 0 38 (dk_at dksX0_needs_4 17 rfl rfl)
theorem dX0_needs_113 : decode cX0_needs 113 = .ok (.iload_n 3, 1) := dk_29 (dk_at dksX0_needs_4 20 rfl rfl)
theorem dX0_needs_114 : decode cX0_needs 114 = .ok (.iload 4, 2) := dk_21 4 (dk_at dksX0_needs_4 21 rfl rfl)
theorem dX0_needs_116 : decode cX0_needs 116 = .ok (.iastore, 1) := dk_79 (dk_at dksX0_needs_4 23 rfl rfl)
theorem dX0_needs_117 : decode cX0_needs 117 = .ok (.aload 7, 2) := dk_25 7 (dk_at dksX0_needs_5 0 rfl rfl)
theorem dX0_needs_119 : decode cX0_needs 119 = .ok (.athrow, 1) := dk_191 (dk_at dksX0_needs_5 2 rfl rfl)
abbrev cX0_feed : ByteArray := prog_1_method_33_code
def yX0_feed : MethodName := ⟨RX0, "feed", "(IJ)I"⟩
def dkwX0_feed_3 : List UInt8 := [167, 255, 219, 42, 180, 0, 230, 172]
abbrev dktX0_feed_3 : List UInt8 := dkwX0_feed_3 ++ []
def dkwX0_feed_2 : List UInt8 := [16, 8, 21, 4, 104, 123, 136, 145, 84, 42, 89, 180, 0, 230, 4, 96, 181, 0, 230, 132, 4, 1]
abbrev dktX0_feed_2 : List UInt8 := dkwX0_feed_2 ++ dktX0_feed_3
def dkwX0_feed_1 : List UInt8 := [164, 0, 6, 16, 252, 172, 3, 54, 4, 21, 4, 27, 162, 0, 37, 42, 180, 0, 105, 42, 180, 0, 230, 32]
abbrev dktX0_feed_1 : List UInt8 := dkwX0_feed_1 ++ dktX0_feed_2
def dkwX0_feed_0 : List UInt8 := [27, 133, 10, 20, 0, 247, 184, 0, 5, 154, 0, 6, 16, 254, 172, 42, 180, 0, 230, 27, 96, 17, 0, 160]
abbrev dktX0_feed_0 : List UInt8 := dkwX0_feed_0 ++ dktX0_feed_1
theorem dksX0_feed_0 : cX0_feed.data.toList.drop 0 = dktX0_feed_0 := by decide +kernel
theorem dksX0_feed_1 : cX0_feed.data.toList.drop 24 = dktX0_feed_1 := dk_seg dksX0_feed_0 24 rfl rfl
theorem dksX0_feed_2 : cX0_feed.data.toList.drop 48 = dktX0_feed_2 := dk_seg dksX0_feed_1 24 rfl rfl
theorem dksX0_feed_3 : cX0_feed.data.toList.drop 70 = dktX0_feed_3 := dk_seg dksX0_feed_2 22 rfl rfl
theorem dX0_feed_0 : decode cX0_feed 0 = .ok (.iload_n 1, 1) := dk_27 (dk_at dksX0_feed_0 0 rfl rfl)
theorem dX0_feed_1 : decode cX0_feed 1 = .ok (.i2l, 1) := dk_133 (dk_at dksX0_feed_0 1 rfl rfl)
theorem dX0_feed_2 : decode cX0_feed 2 = .ok (.lconst 1, 1) := dk_10 (dk_at dksX0_feed_0 2 rfl rfl)
theorem dX0_feed_3 : decode cX0_feed 3 = .ok (.ldc2_w 247, 3) := dk_20 0 247 (dk_at dksX0_feed_0 3 rfl rfl)
theorem dX0_feed_6 : decode cX0_feed 6 = .ok (.invokestatic 5, 3) := dk_184 0 5 (dk_at dksX0_feed_0 6 rfl rfl)
theorem dX0_feed_9 : decode cX0_feed 9 = .ok (.ifCond .ne 6, 3) := dk_154 0 6 (dk_at dksX0_feed_0 9 rfl rfl)
theorem dX0_feed_12 : decode cX0_feed 12 = .ok (.bipush (-2), 2) := dk_16 254 (dk_at dksX0_feed_0 12 rfl rfl)
theorem dX0_feed_14 : decode cX0_feed 14 = .ok (.ireturn, 1) := dk_172 (dk_at dksX0_feed_0 14 rfl rfl)
theorem dX0_feed_15 : decode cX0_feed 15 = .ok (.aload_n 0, 1) := dk_42 (dk_at dksX0_feed_0 15 rfl rfl)
theorem dX0_feed_16 : decode cX0_feed 16 = .ok (.getfield 230, 3) := dk_180 0 230 (dk_at dksX0_feed_0 16 rfl rfl)
theorem dX0_feed_19 : decode cX0_feed 19 = .ok (.iload_n 1, 1) := dk_27 (dk_at dksX0_feed_0 19 rfl rfl)
theorem dX0_feed_20 : decode cX0_feed 20 = .ok (.iadd, 1) := dk_96 (dk_at dksX0_feed_0 20 rfl rfl)
theorem dX0_feed_21 : decode cX0_feed 21 = .ok (.sipush 160, 3) := dk_17 0 160 (dk_at dksX0_feed_0 21 rfl rfl)
theorem dX0_feed_24 : decode cX0_feed 24 = .ok (.if_icmp .le 6, 3) := dk_164 0 6 (dk_at dksX0_feed_1 0 rfl rfl)
theorem dX0_feed_27 : decode cX0_feed 27 = .ok (.bipush (-4), 2) := dk_16 252 (dk_at dksX0_feed_1 3 rfl rfl)
theorem dX0_feed_29 : decode cX0_feed 29 = .ok (.ireturn, 1) := dk_172 (dk_at dksX0_feed_1 5 rfl rfl)
theorem dX0_feed_30 : decode cX0_feed 30 = .ok (.iconst 0, 1) := dk_3 (dk_at dksX0_feed_1 6 rfl rfl)
theorem dX0_feed_31 : decode cX0_feed 31 = .ok (.istore 4, 2) := dk_54 4 (dk_at dksX0_feed_1 7 rfl rfl)
theorem dX0_feed_33 : decode cX0_feed 33 = .ok (.iload 4, 2) := dk_21 4 (dk_at dksX0_feed_1 9 rfl rfl)
theorem dX0_feed_35 : decode cX0_feed 35 = .ok (.iload_n 1, 1) := dk_27 (dk_at dksX0_feed_1 11 rfl rfl)
theorem dX0_feed_36 : decode cX0_feed 36 = .ok (.if_icmp .ge 37, 3) := dk_162 0 37 (dk_at dksX0_feed_1 12 rfl rfl)
theorem dX0_feed_39 : decode cX0_feed 39 = .ok (.aload_n 0, 1) := dk_42 (dk_at dksX0_feed_1 15 rfl rfl)
theorem dX0_feed_40 : decode cX0_feed 40 = .ok (.getfield 105, 3) := dk_180 0 105 (dk_at dksX0_feed_1 16 rfl rfl)
theorem dX0_feed_43 : decode cX0_feed 43 = .ok (.aload_n 0, 1) := dk_42 (dk_at dksX0_feed_1 19 rfl rfl)
theorem dX0_feed_44 : decode cX0_feed 44 = .ok (.getfield 230, 3) := dk_180 0 230 (dk_at dksX0_feed_1 20 rfl rfl)
theorem dX0_feed_47 : decode cX0_feed 47 = .ok (.lload_n 2, 1) := dk_32 (dk_at dksX0_feed_1 23 rfl rfl)
theorem dX0_feed_48 : decode cX0_feed 48 = .ok (.bipush 8, 2) := dk_16 8 (dk_at dksX0_feed_2 0 rfl rfl)
theorem dX0_feed_50 : decode cX0_feed 50 = .ok (.iload 4, 2) := dk_21 4 (dk_at dksX0_feed_2 2 rfl rfl)
theorem dX0_feed_52 : decode cX0_feed 52 = .ok (.imul, 1) := dk_104 (dk_at dksX0_feed_2 4 rfl rfl)
theorem dX0_feed_53 : decode cX0_feed 53 = .ok (.lshr, 1) := dk_123 (dk_at dksX0_feed_2 5 rfl rfl)
theorem dX0_feed_54 : decode cX0_feed 54 = .ok (.l2i, 1) := dk_136 (dk_at dksX0_feed_2 6 rfl rfl)
theorem dX0_feed_55 : decode cX0_feed 55 = .ok (.i2b, 1) := dk_145 (dk_at dksX0_feed_2 7 rfl rfl)
theorem dX0_feed_56 : decode cX0_feed 56 = .ok (.bastore, 1) := dk_84 (dk_at dksX0_feed_2 8 rfl rfl)
theorem dX0_feed_57 : decode cX0_feed 57 = .ok (.aload_n 0, 1) := dk_42 (dk_at dksX0_feed_2 9 rfl rfl)
theorem dX0_feed_58 : decode cX0_feed 58 = .ok (.dup, 1) := dk_89 (dk_at dksX0_feed_2 10 rfl rfl)
theorem dX0_feed_59 : decode cX0_feed 59 = .ok (.getfield 230, 3) := dk_180 0 230 (dk_at dksX0_feed_2 11 rfl rfl)
theorem dX0_feed_62 : decode cX0_feed 62 = .ok (.iconst 1, 1) := dk_4 (dk_at dksX0_feed_2 14 rfl rfl)
theorem dX0_feed_63 : decode cX0_feed 63 = .ok (.iadd, 1) := dk_96 (dk_at dksX0_feed_2 15 rfl rfl)
theorem dX0_feed_64 : decode cX0_feed 64 = .ok (.putfield 230, 3) := dk_181 0 230 (dk_at dksX0_feed_2 16 rfl rfl)
theorem dX0_feed_67 : decode cX0_feed 67 = .ok (.iinc 4 1, 3) := dk_132 4 1 (dk_at dksX0_feed_2 19 rfl rfl)
theorem dX0_feed_70 : decode cX0_feed 70 = .ok (.goto (-37), 3) := dk_167 255 219 (dk_at dksX0_feed_3 0 rfl rfl)
theorem dX0_feed_73 : decode cX0_feed 73 = .ok (.aload_n 0, 1) := dk_42 (dk_at dksX0_feed_3 3 rfl rfl)
theorem dX0_feed_74 : decode cX0_feed 74 = .ok (.getfield 230, 3) := dk_180 0 230 (dk_at dksX0_feed_3 4 rfl rfl)
theorem dX0_feed_77 : decode cX0_feed 77 = .ok (.ireturn, 1) := dk_172 (dk_at dksX0_feed_3 7 rfl rfl)
abbrev cX0_text : ByteArray := prog_1_method_34_code
def yX0_text : MethodName := ⟨RX0, "text", "()I"⟩
def dkwX0_text_0 : List UInt8 := [42, 180, 0, 241, 16, 6, 160, 0, 8, 16, 252, 167, 0, 7, 42, 182, 0, 244, 172]
abbrev dktX0_text_0 : List UInt8 := dkwX0_text_0 ++ []
theorem dksX0_text_0 : cX0_text.data.toList.drop 0 = dktX0_text_0 := by decide +kernel
theorem dX0_text_0 : decode cX0_text 0 = .ok (.aload_n 0, 1) := dk_42 (dk_at dksX0_text_0 0 rfl rfl)
theorem dX0_text_1 : decode cX0_text 1 = .ok (.getfield 241, 3) := dk_180 0 241 (dk_at dksX0_text_0 1 rfl rfl)
theorem dX0_text_4 : decode cX0_text 4 = .ok (.bipush 6, 2) := dk_16 6 (dk_at dksX0_text_0 4 rfl rfl)
theorem dX0_text_6 : decode cX0_text 6 = .ok (.if_icmp .ne 8, 3) := dk_160 0 8 (dk_at dksX0_text_0 6 rfl rfl)
theorem dX0_text_9 : decode cX0_text 9 = .ok (.bipush (-4), 2) := dk_16 252 (dk_at dksX0_text_0 9 rfl rfl)
theorem dX0_text_11 : decode cX0_text 11 = .ok (.goto 7, 3) := dk_167 0 7 (dk_at dksX0_text_0 11 rfl rfl)
theorem dX0_text_14 : decode cX0_text 14 = .ok (.aload_n 0, 1) := dk_42 (dk_at dksX0_text_0 14 rfl rfl)
theorem dX0_text_15 : decode cX0_text 15 = .ok (.invokevirtual 244, 3) := dk_182 0 244 (dk_at dksX0_text_0 15 rfl rfl)
theorem dX0_text_18 : decode cX0_text 18 = .ok (.ireturn, 1) := dk_172 (dk_at dksX0_text_0 18 rfl rfl)
abbrev cX0_newText : ByteArray := prog_1_method_31_code
def yX0_newText : MethodName := ⟨RX0, "newText", "()I"⟩
def dkwX0_newText_5 : List UInt8 := [100, 172]
abbrev dktX0_newText_5 : List UInt8 := dkwX0_newText_5 ++ []
def dkwX0_newText_4 : List UInt8 := [180, 0, 237, 42, 180, 0, 241, 43, 83, 42, 89, 180, 0, 241, 4, 96, 181, 0, 241, 42, 180, 0, 241, 4]
abbrev dktX0_newText_4 : List UInt8 := dkwX0_newText_4 ++ dktX0_newText_5
def dkwX0_newText_3 : List UInt8 := [180, 0, 126, 153, 0, 8, 42, 180, 0, 152, 191, 167, 0, 12, 77, 16, 156, 42, 180, 0, 123, 100, 172, 42]
abbrev dktX0_newText_3 : List UInt8 := dkwX0_newText_3 ++ dktX0_newText_4
def dkwX0_newText_2 : List UInt8 := [43, 28, 42, 182, 0, 227, 83, 42, 42, 16, 59, 182, 0, 210, 182, 0, 180, 132, 2, 1, 167, 255, 222, 42]
abbrev dktX0_newText_2 : List UInt8 := dkwX0_newText_2 ++ dktX0_newText_3
def dkwX0_newText_1 : List UInt8 := [189, 0, 233, 76, 42, 182, 0, 174, 3, 61, 28, 6, 162, 0, 35, 42, 42, 28, 182, 0, 188, 182, 0, 180]
abbrev dktX0_newText_1 : List UInt8 := dkwX0_newText_1 ++ dktX0_newText_2
def dkwX0_newText_0 : List UInt8 := [42, 42, 180, 0, 230, 181, 0, 102, 42, 3, 181, 0, 230, 42, 3, 181, 0, 117, 42, 3, 181, 0, 177, 6]
abbrev dktX0_newText_0 : List UInt8 := dkwX0_newText_0 ++ dktX0_newText_1
theorem dksX0_newText_0 : cX0_newText.data.toList.drop 0 = dktX0_newText_0 := by decide +kernel
theorem dksX0_newText_1 : cX0_newText.data.toList.drop 24 = dktX0_newText_1 := dk_seg dksX0_newText_0 24 rfl rfl
theorem dksX0_newText_2 : cX0_newText.data.toList.drop 48 = dktX0_newText_2 := dk_seg dksX0_newText_1 24 rfl rfl
theorem dksX0_newText_3 : cX0_newText.data.toList.drop 72 = dktX0_newText_3 := dk_seg dksX0_newText_2 24 rfl rfl
theorem dksX0_newText_4 : cX0_newText.data.toList.drop 96 = dktX0_newText_4 := dk_seg dksX0_newText_3 24 rfl rfl
theorem dksX0_newText_5 : cX0_newText.data.toList.drop 120 = dktX0_newText_5 := dk_seg dksX0_newText_4 24 rfl rfl
theorem dX0_newText_0 : decode cX0_newText 0 = .ok (.aload_n 0, 1) := dk_42 (dk_at dksX0_newText_0 0 rfl rfl)
theorem dX0_newText_1 : decode cX0_newText 1 = .ok (.aload_n 0, 1) := dk_42 (dk_at dksX0_newText_0 1 rfl rfl)
theorem dX0_newText_2 : decode cX0_newText 2 = .ok (.getfield 230, 3) := dk_180 0 230 (dk_at dksX0_newText_0 2 rfl rfl)
theorem dX0_newText_5 : decode cX0_newText 5 = .ok (.putfield 102, 3) := dk_181 0 102 (dk_at dksX0_newText_0 5 rfl rfl)
theorem dX0_newText_8 : decode cX0_newText 8 = .ok (.aload_n 0, 1) := dk_42 (dk_at dksX0_newText_0 8 rfl rfl)
theorem dX0_newText_9 : decode cX0_newText 9 = .ok (.iconst 0, 1) := dk_3 (dk_at dksX0_newText_0 9 rfl rfl)
theorem dX0_newText_10 : decode cX0_newText 10 = .ok (.putfield 230, 3) := dk_181 0 230 (dk_at dksX0_newText_0 10 rfl rfl)
theorem dX0_newText_13 : decode cX0_newText 13 = .ok (.aload_n 0, 1) := dk_42 (dk_at dksX0_newText_0 13 rfl rfl)
theorem dX0_newText_14 : decode cX0_newText 14 = .ok (.iconst 0, 1) := dk_3 (dk_at dksX0_newText_0 14 rfl rfl)
theorem dX0_newText_15 : decode cX0_newText 15 = .ok (.putfield 117, 3) := dk_181 0 117 (dk_at dksX0_newText_0 15 rfl rfl)
theorem dX0_newText_18 : decode cX0_newText 18 = .ok (.aload_n 0, 1) := dk_42 (dk_at dksX0_newText_0 18 rfl rfl)
theorem dX0_newText_19 : decode cX0_newText 19 = .ok (.iconst 0, 1) := dk_3 (dk_at dksX0_newText_0 19 rfl rfl)
theorem dX0_newText_20 : decode cX0_newText 20 = .ok (.putfield 177, 3) := dk_181 0 177 (dk_at dksX0_newText_0 20 rfl rfl)
theorem dX0_newText_23 : decode cX0_newText 23 = .ok (.iconst 3, 1) := dk_6 (dk_at dksX0_newText_0 23 rfl rfl)
theorem dX0_newText_24 : decode cX0_newText 24 = .ok (.anewarray 233, 3) := dk_189 0 233 (dk_at dksX0_newText_1 0 rfl rfl)
theorem dX0_newText_27 : decode cX0_newText 27 = .ok (.astore_n 1, 1) := dk_76 (dk_at dksX0_newText_1 3 rfl rfl)
theorem dX0_newText_28 : decode cX0_newText 28 = .ok (.aload_n 0, 1) := dk_42 (dk_at dksX0_newText_1 4 rfl rfl)
theorem dX0_newText_29 : decode cX0_newText 29 = .ok (.invokevirtual 174, 3) := dk_182 0 174 (dk_at dksX0_newText_1 5 rfl rfl)
theorem dX0_newText_32 : decode cX0_newText 32 = .ok (.iconst 0, 1) := dk_3 (dk_at dksX0_newText_1 8 rfl rfl)
theorem dX0_newText_33 : decode cX0_newText 33 = .ok (.istore_n 2, 1) := dk_61 (dk_at dksX0_newText_1 9 rfl rfl)
theorem dX0_newText_34 : decode cX0_newText 34 = .ok (.iload_n 2, 1) := dk_28 (dk_at dksX0_newText_1 10 rfl rfl)
theorem dX0_newText_35 : decode cX0_newText 35 = .ok (.iconst 3, 1) := dk_6 (dk_at dksX0_newText_1 11 rfl rfl)
theorem dX0_newText_36 : decode cX0_newText 36 = .ok (.if_icmp .ge 35, 3) := dk_162 0 35 (dk_at dksX0_newText_1 12 rfl rfl)
theorem dX0_newText_39 : decode cX0_newText 39 = .ok (.aload_n 0, 1) := dk_42 (dk_at dksX0_newText_1 15 rfl rfl)
theorem dX0_newText_40 : decode cX0_newText 40 = .ok (.aload_n 0, 1) := dk_42 (dk_at dksX0_newText_1 16 rfl rfl)
theorem dX0_newText_41 : decode cX0_newText 41 = .ok (.iload_n 2, 1) := dk_28 (dk_at dksX0_newText_1 17 rfl rfl)
theorem dX0_newText_42 : decode cX0_newText 42 = .ok (.invokevirtual 188, 3) := dk_182 0 188 (dk_at dksX0_newText_1 18 rfl rfl)
theorem dX0_newText_45 : decode cX0_newText 45 = .ok (.invokevirtual 180, 3) := dk_182 0 180 (dk_at dksX0_newText_1 21 rfl rfl)
theorem dX0_newText_48 : decode cX0_newText 48 = .ok (.aload_n 1, 1) := dk_43 (dk_at dksX0_newText_2 0 rfl rfl)
theorem dX0_newText_49 : decode cX0_newText 49 = .ok (.iload_n 2, 1) := dk_28 (dk_at dksX0_newText_2 1 rfl rfl)
theorem dX0_newText_50 : decode cX0_newText 50 = .ok (.aload_n 0, 1) := dk_42 (dk_at dksX0_newText_2 2 rfl rfl)
theorem dX0_newText_51 : decode cX0_newText 51 = .ok (.invokevirtual 227, 3) := dk_182 0 227 (dk_at dksX0_newText_2 3 rfl rfl)
theorem dX0_newText_54 : decode cX0_newText 54 = .ok (.aastore, 1) := dk_83 (dk_at dksX0_newText_2 6 rfl rfl)
theorem dX0_newText_55 : decode cX0_newText 55 = .ok (.aload_n 0, 1) := dk_42 (dk_at dksX0_newText_2 7 rfl rfl)
theorem dX0_newText_56 : decode cX0_newText 56 = .ok (.aload_n 0, 1) := dk_42 (dk_at dksX0_newText_2 8 rfl rfl)
theorem dX0_newText_57 : decode cX0_newText 57 = .ok (.bipush 59, 2) := dk_16 59 (dk_at dksX0_newText_2 9 rfl rfl)
theorem dX0_newText_59 : decode cX0_newText 59 = .ok (.invokevirtual 210, 3) := dk_182 0 210 (dk_at dksX0_newText_2 11 rfl rfl)
theorem dX0_newText_62 : decode cX0_newText 62 = .ok (.invokevirtual 180, 3) := dk_182 0 180 (dk_at dksX0_newText_2 14 rfl rfl)
theorem dX0_newText_65 : decode cX0_newText 65 = .ok (.iinc 2 1, 3) := dk_132 2 1 (dk_at dksX0_newText_2 17 rfl rfl)
theorem dX0_newText_68 : decode cX0_newText 68 = .ok (.goto (-34), 3) := dk_167 255 222 (dk_at dksX0_newText_2 20 rfl rfl)
theorem dX0_newText_71 : decode cX0_newText 71 = .ok (.aload_n 0, 1) := dk_42 (dk_at dksX0_newText_2 23 rfl rfl)
theorem dX0_newText_72 : decode cX0_newText 72 = .ok (.getfield 126, 3) := dk_180 0 126 (dk_at dksX0_newText_3 0 rfl rfl)
theorem dX0_newText_75 : decode cX0_newText 75 = .ok (.ifCond .eq 8, 3) := dk_153 0 8 (dk_at dksX0_newText_3 3 rfl rfl)
theorem dX0_newText_78 : decode cX0_newText 78 = .ok (.aload_n 0, 1) := dk_42 (dk_at dksX0_newText_3 6 rfl rfl)
theorem dX0_newText_79 : decode cX0_newText 79 = .ok (.getfield 152, 3) := dk_180 0 152 (dk_at dksX0_newText_3 7 rfl rfl)
theorem dX0_newText_82 : decode cX0_newText 82 = .ok (.athrow, 1) := dk_191 (dk_at dksX0_newText_3 10 rfl rfl)
theorem dX0_newText_83 : decode cX0_newText 83 = .ok (.goto 12, 3) := dk_167 0 12 (dk_at dksX0_newText_3 11 rfl rfl)
theorem dX0_newText_86 : decode cX0_newText 86 = .ok (.astore_n 2, 1) := dk_77 (dk_at dksX0_newText_3 14 rfl rfl)
theorem dX0_newText_87 : decode cX0_newText 87 = .ok (.bipush (-100), 2) := dk_16 156 (dk_at dksX0_newText_3 15 rfl rfl)
theorem dX0_newText_89 : decode cX0_newText 89 = .ok (.aload_n 0, 1) := dk_42 (dk_at dksX0_newText_3 17 rfl rfl)
theorem dX0_newText_90 : decode cX0_newText 90 = .ok (.getfield 123, 3) := dk_180 0 123 (dk_at dksX0_newText_3 18 rfl rfl)
theorem dX0_newText_93 : decode cX0_newText 93 = .ok (.isub, 1) := dk_100 (dk_at dksX0_newText_3 21 rfl rfl)
theorem dX0_newText_94 : decode cX0_newText 94 = .ok (.ireturn, 1) := dk_172 (dk_at dksX0_newText_3 22 rfl rfl)
theorem dX0_newText_95 : decode cX0_newText 95 = .ok (.aload_n 0, 1) := dk_42 (dk_at dksX0_newText_3 23 rfl rfl)
theorem dX0_newText_96 : decode cX0_newText 96 = .ok (.getfield 237, 3) := dk_180 0 237 (dk_at dksX0_newText_4 0 rfl rfl)
theorem dX0_newText_99 : decode cX0_newText 99 = .ok (.aload_n 0, 1) := dk_42 (dk_at dksX0_newText_4 3 rfl rfl)
theorem dX0_newText_100 : decode cX0_newText 100 = .ok (.getfield 241, 3) := dk_180 0 241 (dk_at dksX0_newText_4 4 rfl rfl)
theorem dX0_newText_103 : decode cX0_newText 103 = .ok (.aload_n 1, 1) := dk_43 (dk_at dksX0_newText_4 7 rfl rfl)
theorem dX0_newText_104 : decode cX0_newText 104 = .ok (.aastore, 1) := dk_83 (dk_at dksX0_newText_4 8 rfl rfl)
theorem dX0_newText_105 : decode cX0_newText 105 = .ok (.aload_n 0, 1) := dk_42 (dk_at dksX0_newText_4 9 rfl rfl)
theorem dX0_newText_106 : decode cX0_newText 106 = .ok (.dup, 1) := dk_89 (dk_at dksX0_newText_4 10 rfl rfl)
theorem dX0_newText_107 : decode cX0_newText 107 = .ok (.getfield 241, 3) := dk_180 0 241 (dk_at dksX0_newText_4 11 rfl rfl)
theorem dX0_newText_110 : decode cX0_newText 110 = .ok (.iconst 1, 1) := dk_4 (dk_at dksX0_newText_4 14 rfl rfl)
theorem dX0_newText_111 : decode cX0_newText 111 = .ok (.iadd, 1) := dk_96 (dk_at dksX0_newText_4 15 rfl rfl)
theorem dX0_newText_112 : decode cX0_newText 112 = .ok (.putfield 241, 3) := dk_181 0 241 (dk_at dksX0_newText_4 16 rfl rfl)
theorem dX0_newText_115 : decode cX0_newText 115 = .ok (.aload_n 0, 1) := dk_42 (dk_at dksX0_newText_4 19 rfl rfl)
theorem dX0_newText_116 : decode cX0_newText 116 = .ok (.getfield 241, 3) := dk_180 0 241 (dk_at dksX0_newText_4 20 rfl rfl)
theorem dX0_newText_119 : decode cX0_newText 119 = .ok (.iconst 1, 1) := dk_4 (dk_at dksX0_newText_4 23 rfl rfl)
theorem dX0_newText_120 : decode cX0_newText 120 = .ok (.isub, 1) := dk_100 (dk_at dksX0_newText_5 0 rfl rfl)
theorem dX0_newText_121 : decode cX0_newText 121 = .ok (.ireturn, 1) := dk_172 (dk_at dksX0_newText_5 1 rfl rfl)
abbrev cX0_next : ByteArray := prog_1_method_17_code
def yX0_next : MethodName := ⟨RX0, "next", "()V"⟩
def dkwX0_next_5 : List UInt8 := [18, 145, 27, 182, 0, 147, 156, 0, 8, 42, 180, 0, 152, 191, 177]
abbrev dktX0_next_5 : List UInt8 := dkwX0_next_5 ++ []
def dkwX0_next_4 : List UInt8 := [167, 0, 37, 42, 7, 181, 0, 126, 42, 27, 181, 0, 142, 42, 89, 180, 0, 117, 4, 96, 181, 0, 117]
abbrev dktX0_next_4 : List UInt8 := dkwX0_next_4 ++ dktX0_next_5
def dkwX0_next_3 : List UInt8 := [184, 0, 129, 153, 0, 10, 42, 182, 0, 132, 167, 0, 51, 27, 184, 0, 136, 153, 0, 10, 42, 182, 0, 139]
abbrev dktX0_next_3 : List UInt8 := dkwX0_next_3 ++ dktX0_next_4
def dkwX0_next_2 : List UInt8 := [42, 42, 180, 0, 117, 182, 0, 120, 60, 27, 2, 160, 0, 11, 42, 3, 181, 0, 126, 167, 0, 65, 27]
abbrev dktX0_next_2 : List UInt8 := dkwX0_next_2 ++ dktX0_next_3
def dkwX0_next_1 : List UInt8 := [160, 0, 16, 42, 89, 180, 0, 117, 4, 96, 181, 0, 117, 167, 255, 220, 42, 42, 180, 0, 117, 181, 0, 123]
abbrev dktX0_next_1 : List UInt8 := dkwX0_next_1 ++ dktX0_next_2
def dkwX0_next_0 : List UInt8 := [42, 42, 180, 0, 117, 182, 0, 120, 16, 32, 159, 0, 16, 42, 42, 180, 0, 117, 182, 0, 120, 16, 10]
abbrev dktX0_next_0 : List UInt8 := dkwX0_next_0 ++ dktX0_next_1
theorem dksX0_next_0 : cX0_next.data.toList.drop 0 = dktX0_next_0 := by decide +kernel
theorem dksX0_next_1 : cX0_next.data.toList.drop 23 = dktX0_next_1 := dk_seg dksX0_next_0 23 rfl rfl
theorem dksX0_next_2 : cX0_next.data.toList.drop 47 = dktX0_next_2 := dk_seg dksX0_next_1 24 rfl rfl
theorem dksX0_next_3 : cX0_next.data.toList.drop 70 = dktX0_next_3 := dk_seg dksX0_next_2 23 rfl rfl
theorem dksX0_next_4 : cX0_next.data.toList.drop 94 = dktX0_next_4 := dk_seg dksX0_next_3 24 rfl rfl
theorem dksX0_next_5 : cX0_next.data.toList.drop 117 = dktX0_next_5 := dk_seg dksX0_next_4 23 rfl rfl
theorem dX0_next_0 : decode cX0_next 0 = .ok (.aload_n 0, 1) := dk_42 (dk_at dksX0_next_0 0 rfl rfl)
theorem dX0_next_1 : decode cX0_next 1 = .ok (.aload_n 0, 1) := dk_42 (dk_at dksX0_next_0 1 rfl rfl)
theorem dX0_next_2 : decode cX0_next 2 = .ok (.getfield 117, 3) := dk_180 0 117 (dk_at dksX0_next_0 2 rfl rfl)
theorem dX0_next_5 : decode cX0_next 5 = .ok (.invokevirtual 120, 3) := dk_182 0 120 (dk_at dksX0_next_0 5 rfl rfl)
theorem dX0_next_8 : decode cX0_next 8 = .ok (.bipush 32, 2) := dk_16 32 (dk_at dksX0_next_0 8 rfl rfl)
theorem dX0_next_10 : decode cX0_next 10 = .ok (.if_icmp .eq 16, 3) := dk_159 0 16 (dk_at dksX0_next_0 10 rfl rfl)
theorem dX0_next_13 : decode cX0_next 13 = .ok (.aload_n 0, 1) := dk_42 (dk_at dksX0_next_0 13 rfl rfl)
theorem dX0_next_14 : decode cX0_next 14 = .ok (.aload_n 0, 1) := dk_42 (dk_at dksX0_next_0 14 rfl rfl)
theorem dX0_next_15 : decode cX0_next 15 = .ok (.getfield 117, 3) := dk_180 0 117 (dk_at dksX0_next_0 15 rfl rfl)
theorem dX0_next_18 : decode cX0_next 18 = .ok (.invokevirtual 120, 3) := dk_182 0 120 (dk_at dksX0_next_0 18 rfl rfl)
theorem dX0_next_21 : decode cX0_next 21 = .ok (.bipush 10, 2) := dk_16 10 (dk_at dksX0_next_0 21 rfl rfl)
theorem dX0_next_23 : decode cX0_next 23 = .ok (.if_icmp .ne 16, 3) := dk_160 0 16 (dk_at dksX0_next_1 0 rfl rfl)
theorem dX0_next_26 : decode cX0_next 26 = .ok (.aload_n 0, 1) := dk_42 (dk_at dksX0_next_1 3 rfl rfl)
theorem dX0_next_27 : decode cX0_next 27 = .ok (.dup, 1) := dk_89 (dk_at dksX0_next_1 4 rfl rfl)
theorem dX0_next_28 : decode cX0_next 28 = .ok (.getfield 117, 3) := dk_180 0 117 (dk_at dksX0_next_1 5 rfl rfl)
theorem dX0_next_31 : decode cX0_next 31 = .ok (.iconst 1, 1) := dk_4 (dk_at dksX0_next_1 8 rfl rfl)
theorem dX0_next_32 : decode cX0_next 32 = .ok (.iadd, 1) := dk_96 (dk_at dksX0_next_1 9 rfl rfl)
theorem dX0_next_33 : decode cX0_next 33 = .ok (.putfield 117, 3) := dk_181 0 117 (dk_at dksX0_next_1 10 rfl rfl)
theorem dX0_next_36 : decode cX0_next 36 = .ok (.goto (-36), 3) := dk_167 255 220 (dk_at dksX0_next_1 13 rfl rfl)
theorem dX0_next_39 : decode cX0_next 39 = .ok (.aload_n 0, 1) := dk_42 (dk_at dksX0_next_1 16 rfl rfl)
theorem dX0_next_40 : decode cX0_next 40 = .ok (.aload_n 0, 1) := dk_42 (dk_at dksX0_next_1 17 rfl rfl)
theorem dX0_next_41 : decode cX0_next 41 = .ok (.getfield 117, 3) := dk_180 0 117 (dk_at dksX0_next_1 18 rfl rfl)
theorem dX0_next_44 : decode cX0_next 44 = .ok (.putfield 123, 3) := dk_181 0 123 (dk_at dksX0_next_1 21 rfl rfl)
theorem dX0_next_47 : decode cX0_next 47 = .ok (.aload_n 0, 1) := dk_42 (dk_at dksX0_next_2 0 rfl rfl)
theorem dX0_next_48 : decode cX0_next 48 = .ok (.aload_n 0, 1) := dk_42 (dk_at dksX0_next_2 1 rfl rfl)
theorem dX0_next_49 : decode cX0_next 49 = .ok (.getfield 117, 3) := dk_180 0 117 (dk_at dksX0_next_2 2 rfl rfl)
theorem dX0_next_52 : decode cX0_next 52 = .ok (.invokevirtual 120, 3) := dk_182 0 120 (dk_at dksX0_next_2 5 rfl rfl)
theorem dX0_next_55 : decode cX0_next 55 = .ok (.istore_n 1, 1) := dk_60 (dk_at dksX0_next_2 8 rfl rfl)
theorem dX0_next_56 : decode cX0_next 56 = .ok (.iload_n 1, 1) := dk_27 (dk_at dksX0_next_2 9 rfl rfl)
theorem dX0_next_57 : decode cX0_next 57 = .ok (.iconst (-1), 1) := dk_2 (dk_at dksX0_next_2 10 rfl rfl)
theorem dX0_next_58 : decode cX0_next 58 = .ok (.if_icmp .ne 11, 3) := dk_160 0 11 (dk_at dksX0_next_2 11 rfl rfl)
theorem dX0_next_61 : decode cX0_next 61 = .ok (.aload_n 0, 1) := dk_42 (dk_at dksX0_next_2 14 rfl rfl)
theorem dX0_next_62 : decode cX0_next 62 = .ok (.iconst 0, 1) := dk_3 (dk_at dksX0_next_2 15 rfl rfl)
theorem dX0_next_63 : decode cX0_next 63 = .ok (.putfield 126, 3) := dk_181 0 126 (dk_at dksX0_next_2 16 rfl rfl)
theorem dX0_next_66 : decode cX0_next 66 = .ok (.goto 65, 3) := dk_167 0 65 (dk_at dksX0_next_2 19 rfl rfl)
theorem dX0_next_69 : decode cX0_next 69 = .ok (.iload_n 1, 1) := dk_27 (dk_at dksX0_next_2 22 rfl rfl)
theorem dX0_next_70 : decode cX0_next 70 = .ok (.invokestatic 129, 3) := dk_184 0 129 (dk_at dksX0_next_3 0 rfl rfl)
theorem dX0_next_73 : decode cX0_next 73 = .ok (.ifCond .eq 10, 3) := dk_153 0 10 (dk_at dksX0_next_3 3 rfl rfl)
theorem dX0_next_76 : decode cX0_next 76 = .ok (.aload_n 0, 1) := dk_42 (dk_at dksX0_next_3 6 rfl rfl)
theorem dX0_next_77 : decode cX0_next 77 = .ok (.invokevirtual 132, 3) := dk_182 0 132 (dk_at dksX0_next_3 7 rfl rfl)
theorem dX0_next_80 : decode cX0_next 80 = .ok (.goto 51, 3) := dk_167 0 51 (dk_at dksX0_next_3 10 rfl rfl)
theorem dX0_next_83 : decode cX0_next 83 = .ok (.iload_n 1, 1) := dk_27 (dk_at dksX0_next_3 13 rfl rfl)
theorem dX0_next_84 : decode cX0_next 84 = .ok (.invokestatic 136, 3) := dk_184 0 136 (dk_at dksX0_next_3 14 rfl rfl)
theorem dX0_next_87 : decode cX0_next 87 = .ok (.ifCond .eq 10, 3) := dk_153 0 10 (dk_at dksX0_next_3 17 rfl rfl)
theorem dX0_next_90 : decode cX0_next 90 = .ok (.aload_n 0, 1) := dk_42 (dk_at dksX0_next_3 20 rfl rfl)
theorem dX0_next_91 : decode cX0_next 91 = .ok (.invokevirtual 139, 3) := dk_182 0 139 (dk_at dksX0_next_3 21 rfl rfl)
theorem dX0_next_94 : decode cX0_next 94 = .ok (.goto 37, 3) := dk_167 0 37 (dk_at dksX0_next_4 0 rfl rfl)
theorem dX0_next_97 : decode cX0_next 97 = .ok (.aload_n 0, 1) := dk_42 (dk_at dksX0_next_4 3 rfl rfl)
theorem dX0_next_98 : decode cX0_next 98 = .ok (.iconst 4, 1) := dk_7 (dk_at dksX0_next_4 4 rfl rfl)
theorem dX0_next_99 : decode cX0_next 99 = .ok (.putfield 126, 3) := dk_181 0 126 (dk_at dksX0_next_4 5 rfl rfl)
theorem dX0_next_102 : decode cX0_next 102 = .ok (.aload_n 0, 1) := dk_42 (dk_at dksX0_next_4 8 rfl rfl)
theorem dX0_next_103 : decode cX0_next 103 = .ok (.iload_n 1, 1) := dk_27 (dk_at dksX0_next_4 9 rfl rfl)
theorem dX0_next_104 : decode cX0_next 104 = .ok (.putfield 142, 3) := dk_181 0 142 (dk_at dksX0_next_4 10 rfl rfl)
theorem dX0_next_107 : decode cX0_next 107 = .ok (.aload_n 0, 1) := dk_42 (dk_at dksX0_next_4 13 rfl rfl)
theorem dX0_next_108 : decode cX0_next 108 = .ok (.dup, 1) := dk_89 (dk_at dksX0_next_4 14 rfl rfl)
theorem dX0_next_109 : decode cX0_next 109 = .ok (.getfield 117, 3) := dk_180 0 117 (dk_at dksX0_next_4 15 rfl rfl)
theorem dX0_next_112 : decode cX0_next 112 = .ok (.iconst 1, 1) := dk_4 (dk_at dksX0_next_4 18 rfl rfl)
theorem dX0_next_113 : decode cX0_next 113 = .ok (.iadd, 1) := dk_96 (dk_at dksX0_next_4 19 rfl rfl)
theorem dX0_next_114 : decode cX0_next 114 = .ok (.putfield 117, 3) := dk_181 0 117 (dk_at dksX0_next_4 20 rfl rfl)
theorem dX0_next_117 : decode cX0_next 117 = .ok (.ldc 145, 2) := dk_18 145 (dk_at dksX0_next_5 0 rfl rfl)
theorem dX0_next_119 : decode cX0_next 119 = .ok (.iload_n 1, 1) := dk_27 (dk_at dksX0_next_5 2 rfl rfl)
theorem dX0_next_120 : decode cX0_next 120 = .ok (.invokevirtual 147, 3) := dk_182 0 147 (dk_at dksX0_next_5 3 rfl rfl)
theorem dX0_next_123 : decode cX0_next 123 = .ok (.ifCond .ge 8, 3) := dk_156 0 8 (dk_at dksX0_next_5 6 rfl rfl)
theorem dX0_next_126 : decode cX0_next 126 = .ok (.aload_n 0, 1) := dk_42 (dk_at dksX0_next_5 9 rfl rfl)
theorem dX0_next_127 : decode cX0_next 127 = .ok (.getfield 152, 3) := dk_180 0 152 (dk_at dksX0_next_5 10 rfl rfl)
theorem dX0_next_130 : decode cX0_next 130 = .ok (.athrow, 1) := dk_191 (dk_at dksX0_next_5 13 rfl rfl)
theorem dX0_next_131 : decode cX0_next 131 = .ok (.return_, 1) := dk_177 (dk_at dksX0_next_5 14 rfl rfl)
abbrev cX0_byteAt : ByteArray := prog_1_method_14_code
def yX0_byteAt : MethodName := ⟨RX0, "byteAt", "(I)I"⟩
def dkwX0_byteAt_0 : List UInt8 := [27, 42, 180, 0, 102, 162, 0, 16, 42, 180, 0, 105, 27, 51, 17, 0, 255, 126, 167, 0, 4, 2, 172]
abbrev dktX0_byteAt_0 : List UInt8 := dkwX0_byteAt_0 ++ []
theorem dksX0_byteAt_0 : cX0_byteAt.data.toList.drop 0 = dktX0_byteAt_0 := by decide +kernel
theorem dX0_byteAt_0 : decode cX0_byteAt 0 = .ok (.iload_n 1, 1) := dk_27 (dk_at dksX0_byteAt_0 0 rfl rfl)
theorem dX0_byteAt_1 : decode cX0_byteAt 1 = .ok (.aload_n 0, 1) := dk_42 (dk_at dksX0_byteAt_0 1 rfl rfl)
theorem dX0_byteAt_2 : decode cX0_byteAt 2 = .ok (.getfield 102, 3) := dk_180 0 102 (dk_at dksX0_byteAt_0 2 rfl rfl)
theorem dX0_byteAt_5 : decode cX0_byteAt 5 = .ok (.if_icmp .ge 16, 3) := dk_162 0 16 (dk_at dksX0_byteAt_0 5 rfl rfl)
theorem dX0_byteAt_8 : decode cX0_byteAt 8 = .ok (.aload_n 0, 1) := dk_42 (dk_at dksX0_byteAt_0 8 rfl rfl)
theorem dX0_byteAt_9 : decode cX0_byteAt 9 = .ok (.getfield 105, 3) := dk_180 0 105 (dk_at dksX0_byteAt_0 9 rfl rfl)
theorem dX0_byteAt_12 : decode cX0_byteAt 12 = .ok (.iload_n 1, 1) := dk_27 (dk_at dksX0_byteAt_0 12 rfl rfl)
theorem dX0_byteAt_13 : decode cX0_byteAt 13 = .ok (.baload, 1) := dk_51 (dk_at dksX0_byteAt_0 13 rfl rfl)
theorem dX0_byteAt_14 : decode cX0_byteAt 14 = .ok (.sipush 255, 3) := dk_17 0 255 (dk_at dksX0_byteAt_0 14 rfl rfl)
theorem dX0_byteAt_17 : decode cX0_byteAt 17 = .ok (.iand, 1) := dk_126 (dk_at dksX0_byteAt_0 17 rfl rfl)
theorem dX0_byteAt_18 : decode cX0_byteAt 18 = .ok (.goto 4, 3) := dk_167 0 4 (dk_at dksX0_byteAt_0 18 rfl rfl)
theorem dX0_byteAt_21 : decode cX0_byteAt 21 = .ok (.iconst (-1), 1) := dk_2 (dk_at dksX0_byteAt_0 21 rfl rfl)
theorem dX0_byteAt_22 : decode cX0_byteAt 22 = .ok (.ireturn, 1) := dk_172 (dk_at dksX0_byteAt_0 22 rfl rfl)
abbrev cX0_isLetter : ByteArray := prog_1_method_15_code
def yX0_isLetter : MethodName := ⟨RX0, "isLetter", "(I)Z"⟩
def dkwX0_isLetter_0 : List UInt8 := [26, 133, 20, 0, 109, 20, 0, 111, 184, 0, 5, 172]
abbrev dktX0_isLetter_0 : List UInt8 := dkwX0_isLetter_0 ++ []
theorem dksX0_isLetter_0 : cX0_isLetter.data.toList.drop 0 = dktX0_isLetter_0 := by decide +kernel
theorem dX0_isLetter_0 : decode cX0_isLetter 0 = .ok (.iload_n 0, 1) := dk_26 (dk_at dksX0_isLetter_0 0 rfl rfl)
theorem dX0_isLetter_1 : decode cX0_isLetter 1 = .ok (.i2l, 1) := dk_133 (dk_at dksX0_isLetter_0 1 rfl rfl)
theorem dX0_isLetter_2 : decode cX0_isLetter 2 = .ok (.ldc2_w 109, 3) := dk_20 0 109 (dk_at dksX0_isLetter_0 2 rfl rfl)
theorem dX0_isLetter_5 : decode cX0_isLetter 5 = .ok (.ldc2_w 111, 3) := dk_20 0 111 (dk_at dksX0_isLetter_0 5 rfl rfl)
theorem dX0_isLetter_8 : decode cX0_isLetter 8 = .ok (.invokestatic 5, 3) := dk_184 0 5 (dk_at dksX0_isLetter_0 8 rfl rfl)
theorem dX0_isLetter_11 : decode cX0_isLetter 11 = .ok (.ireturn, 1) := dk_172 (dk_at dksX0_isLetter_0 11 rfl rfl)
abbrev cX0_word : ByteArray := prog_1_method_19_code
def yX0_word : MethodName := ⟨RX0, "word", "()V"⟩
def dkwX0_word_3 : List UInt8 := [42, 180, 0, 142, 2, 160, 0, 8, 42, 180, 0, 152, 191, 177]
abbrev dktX0_word_3 : List UInt8 := dkwX0_word_3 ++ []
def dkwX0_word_2 : List UInt8 := [181, 0, 126, 42, 27, 2, 160, 0, 14, 42, 42, 180, 0, 171, 182, 0, 167, 167, 0, 4, 27, 181, 0, 142]
abbrev dktX0_word_2 : List UInt8 := dkwX0_word_2 ++ dktX0_word_3
def dkwX0_word_1 : List UInt8 := [167, 255, 232, 42, 42, 180, 0, 163, 182, 0, 167, 60, 42, 27, 2, 160, 0, 7, 5, 167, 0, 4, 4]
abbrev dktX0_word_1 : List UInt8 := dkwX0_word_1 ++ dktX0_word_2
def dkwX0_word_0 : List UInt8 := [42, 42, 180, 0, 117, 182, 0, 120, 184, 0, 129, 153, 0, 16, 42, 89, 180, 0, 117, 4, 96, 181, 0, 117]
abbrev dktX0_word_0 : List UInt8 := dkwX0_word_0 ++ dktX0_word_1
theorem dksX0_word_0 : cX0_word.data.toList.drop 0 = dktX0_word_0 := by decide +kernel
theorem dksX0_word_1 : cX0_word.data.toList.drop 24 = dktX0_word_1 := dk_seg dksX0_word_0 24 rfl rfl
theorem dksX0_word_2 : cX0_word.data.toList.drop 47 = dktX0_word_2 := dk_seg dksX0_word_1 23 rfl rfl
theorem dksX0_word_3 : cX0_word.data.toList.drop 71 = dktX0_word_3 := dk_seg dksX0_word_2 24 rfl rfl
theorem dX0_word_0 : decode cX0_word 0 = .ok (.aload_n 0, 1) := dk_42 (dk_at dksX0_word_0 0 rfl rfl)
theorem dX0_word_1 : decode cX0_word 1 = .ok (.aload_n 0, 1) := dk_42 (dk_at dksX0_word_0 1 rfl rfl)
theorem dX0_word_2 : decode cX0_word 2 = .ok (.getfield 117, 3) := dk_180 0 117 (dk_at dksX0_word_0 2 rfl rfl)
theorem dX0_word_5 : decode cX0_word 5 = .ok (.invokevirtual 120, 3) := dk_182 0 120 (dk_at dksX0_word_0 5 rfl rfl)
theorem dX0_word_8 : decode cX0_word 8 = .ok (.invokestatic 129, 3) := dk_184 0 129 (dk_at dksX0_word_0 8 rfl rfl)
theorem dX0_word_11 : decode cX0_word 11 = .ok (.ifCond .eq 16, 3) := dk_153 0 16 (dk_at dksX0_word_0 11 rfl rfl)
theorem dX0_word_14 : decode cX0_word 14 = .ok (.aload_n 0, 1) := dk_42 (dk_at dksX0_word_0 14 rfl rfl)
theorem dX0_word_15 : decode cX0_word 15 = .ok (.dup, 1) := dk_89 (dk_at dksX0_word_0 15 rfl rfl)
theorem dX0_word_16 : decode cX0_word 16 = .ok (.getfield 117, 3) := dk_180 0 117 (dk_at dksX0_word_0 16 rfl rfl)
theorem dX0_word_19 : decode cX0_word 19 = .ok (.iconst 1, 1) := dk_4 (dk_at dksX0_word_0 19 rfl rfl)
theorem dX0_word_20 : decode cX0_word 20 = .ok (.iadd, 1) := dk_96 (dk_at dksX0_word_0 20 rfl rfl)
theorem dX0_word_21 : decode cX0_word 21 = .ok (.putfield 117, 3) := dk_181 0 117 (dk_at dksX0_word_0 21 rfl rfl)
theorem dX0_word_24 : decode cX0_word 24 = .ok (.goto (-24), 3) := dk_167 255 232 (dk_at dksX0_word_1 0 rfl rfl)
theorem dX0_word_27 : decode cX0_word 27 = .ok (.aload_n 0, 1) := dk_42 (dk_at dksX0_word_1 3 rfl rfl)
theorem dX0_word_28 : decode cX0_word 28 = .ok (.aload_n 0, 1) := dk_42 (dk_at dksX0_word_1 4 rfl rfl)
theorem dX0_word_29 : decode cX0_word 29 = .ok (.getfield 163, 3) := dk_180 0 163 (dk_at dksX0_word_1 5 rfl rfl)
theorem dX0_word_32 : decode cX0_word 32 = .ok (.invokevirtual 167, 3) := dk_182 0 167 (dk_at dksX0_word_1 8 rfl rfl)
theorem dX0_word_35 : decode cX0_word 35 = .ok (.istore_n 1, 1) := dk_60 (dk_at dksX0_word_1 11 rfl rfl)
theorem dX0_word_36 : decode cX0_word 36 = .ok (.aload_n 0, 1) := dk_42 (dk_at dksX0_word_1 12 rfl rfl)
theorem dX0_word_37 : decode cX0_word 37 = .ok (.iload_n 1, 1) := dk_27 (dk_at dksX0_word_1 13 rfl rfl)
theorem dX0_word_38 : decode cX0_word 38 = .ok (.iconst (-1), 1) := dk_2 (dk_at dksX0_word_1 14 rfl rfl)
theorem dX0_word_39 : decode cX0_word 39 = .ok (.if_icmp .ne 7, 3) := dk_160 0 7 (dk_at dksX0_word_1 15 rfl rfl)
theorem dX0_word_42 : decode cX0_word 42 = .ok (.iconst 2, 1) := dk_5 (dk_at dksX0_word_1 18 rfl rfl)
theorem dX0_word_43 : decode cX0_word 43 = .ok (.goto 4, 3) := dk_167 0 4 (dk_at dksX0_word_1 19 rfl rfl)
theorem dX0_word_46 : decode cX0_word 46 = .ok (.iconst 1, 1) := dk_4 (dk_at dksX0_word_1 22 rfl rfl)
theorem dX0_word_47 : decode cX0_word 47 = .ok (.putfield 126, 3) := dk_181 0 126 (dk_at dksX0_word_2 0 rfl rfl)
theorem dX0_word_50 : decode cX0_word 50 = .ok (.aload_n 0, 1) := dk_42 (dk_at dksX0_word_2 3 rfl rfl)
theorem dX0_word_51 : decode cX0_word 51 = .ok (.iload_n 1, 1) := dk_27 (dk_at dksX0_word_2 4 rfl rfl)
theorem dX0_word_52 : decode cX0_word 52 = .ok (.iconst (-1), 1) := dk_2 (dk_at dksX0_word_2 5 rfl rfl)
theorem dX0_word_53 : decode cX0_word 53 = .ok (.if_icmp .ne 14, 3) := dk_160 0 14 (dk_at dksX0_word_2 6 rfl rfl)
theorem dX0_word_56 : decode cX0_word 56 = .ok (.aload_n 0, 1) := dk_42 (dk_at dksX0_word_2 9 rfl rfl)
theorem dX0_word_57 : decode cX0_word 57 = .ok (.aload_n 0, 1) := dk_42 (dk_at dksX0_word_2 10 rfl rfl)
theorem dX0_word_58 : decode cX0_word 58 = .ok (.getfield 171, 3) := dk_180 0 171 (dk_at dksX0_word_2 11 rfl rfl)
theorem dX0_word_61 : decode cX0_word 61 = .ok (.invokevirtual 167, 3) := dk_182 0 167 (dk_at dksX0_word_2 14 rfl rfl)
theorem dX0_word_64 : decode cX0_word 64 = .ok (.goto 4, 3) := dk_167 0 4 (dk_at dksX0_word_2 17 rfl rfl)
theorem dX0_word_67 : decode cX0_word 67 = .ok (.iload_n 1, 1) := dk_27 (dk_at dksX0_word_2 20 rfl rfl)
theorem dX0_word_68 : decode cX0_word 68 = .ok (.putfield 142, 3) := dk_181 0 142 (dk_at dksX0_word_2 21 rfl rfl)
theorem dX0_word_71 : decode cX0_word 71 = .ok (.aload_n 0, 1) := dk_42 (dk_at dksX0_word_3 0 rfl rfl)
theorem dX0_word_72 : decode cX0_word 72 = .ok (.getfield 142, 3) := dk_180 0 142 (dk_at dksX0_word_3 1 rfl rfl)
theorem dX0_word_75 : decode cX0_word 75 = .ok (.iconst (-1), 1) := dk_2 (dk_at dksX0_word_3 4 rfl rfl)
theorem dX0_word_76 : decode cX0_word 76 = .ok (.if_icmp .ne 8, 3) := dk_160 0 8 (dk_at dksX0_word_3 5 rfl rfl)
theorem dX0_word_79 : decode cX0_word 79 = .ok (.aload_n 0, 1) := dk_42 (dk_at dksX0_word_3 8 rfl rfl)
theorem dX0_word_80 : decode cX0_word 80 = .ok (.getfield 152, 3) := dk_180 0 152 (dk_at dksX0_word_3 9 rfl rfl)
theorem dX0_word_83 : decode cX0_word 83 = .ok (.athrow, 1) := dk_191 (dk_at dksX0_word_3 12 rfl rfl)
theorem dX0_word_84 : decode cX0_word 84 = .ok (.return_, 1) := dk_177 (dk_at dksX0_word_3 13 rfl rfl)
abbrev cX0_placeIn : ByteArray := prog_1_method_18_code
def yX0_placeIn : MethodName := ⟨RX0, "placeIn", "([Ljava/lang/String;)I"⟩
def dkwX0_placeIn_4 : List UInt8 := [132, 2, 1, 167, 255, 162, 2, 172]
abbrev dktX0_placeIn_4 : List UInt8 := dkwX0_placeIn_4 ++ []
def dkwX0_placeIn_3 : List UInt8 := [182, 0, 120, 160, 0, 7, 4, 167, 0, 4, 3, 62, 132, 4, 1, 167, 255, 207, 29, 153, 0, 5, 28, 172]
abbrev dktX0_placeIn_3 : List UInt8 := dkwX0_placeIn_3 ++ dktX0_placeIn_4
def dkwX0_placeIn_2 : List UInt8 := [180, 0, 123, 100, 162, 0, 37, 43, 28, 50, 21, 4, 182, 0, 159, 42, 42, 180, 0, 123, 21, 4, 96]
abbrev dktX0_placeIn_2 : List UInt8 := dkwX0_placeIn_2 ++ dktX0_placeIn_3
def dkwX0_placeIn_1 : List UInt8 := [160, 0, 7, 4, 167, 0, 4, 3, 62, 3, 54, 4, 29, 153, 0, 51, 21, 4, 42, 180, 0, 117, 42]
abbrev dktX0_placeIn_1 : List UInt8 := dkwX0_placeIn_1 ++ dktX0_placeIn_2
def dkwX0_placeIn_0 : List UInt8 := [3, 61, 28, 43, 190, 162, 0, 94, 43, 28, 50, 182, 0, 156, 42, 180, 0, 117, 42, 180, 0, 123, 100]
abbrev dktX0_placeIn_0 : List UInt8 := dkwX0_placeIn_0 ++ dktX0_placeIn_1
theorem dksX0_placeIn_0 : cX0_placeIn.data.toList.drop 0 = dktX0_placeIn_0 := by decide +kernel
theorem dksX0_placeIn_1 : cX0_placeIn.data.toList.drop 23 = dktX0_placeIn_1 := dk_seg dksX0_placeIn_0 23 rfl rfl
theorem dksX0_placeIn_2 : cX0_placeIn.data.toList.drop 46 = dktX0_placeIn_2 := dk_seg dksX0_placeIn_1 23 rfl rfl
theorem dksX0_placeIn_3 : cX0_placeIn.data.toList.drop 69 = dktX0_placeIn_3 := dk_seg dksX0_placeIn_2 23 rfl rfl
theorem dksX0_placeIn_4 : cX0_placeIn.data.toList.drop 93 = dktX0_placeIn_4 := dk_seg dksX0_placeIn_3 24 rfl rfl
theorem dX0_placeIn_0 : decode cX0_placeIn 0 = .ok (.iconst 0, 1) := dk_3 (dk_at dksX0_placeIn_0 0 rfl rfl)
theorem dX0_placeIn_1 : decode cX0_placeIn 1 = .ok (.istore_n 2, 1) := dk_61 (dk_at dksX0_placeIn_0 1 rfl rfl)
theorem dX0_placeIn_2 : decode cX0_placeIn 2 = .ok (.iload_n 2, 1) := dk_28 (dk_at dksX0_placeIn_0 2 rfl rfl)
theorem dX0_placeIn_3 : decode cX0_placeIn 3 = .ok (.aload_n 1, 1) := dk_43 (dk_at dksX0_placeIn_0 3 rfl rfl)
theorem dX0_placeIn_4 : decode cX0_placeIn 4 = .ok (.arraylength, 1) := dk_190 (dk_at dksX0_placeIn_0 4 rfl rfl)
theorem dX0_placeIn_5 : decode cX0_placeIn 5 = .ok (.if_icmp .ge 94, 3) := dk_162 0 94 (dk_at dksX0_placeIn_0 5 rfl rfl)
theorem dX0_placeIn_8 : decode cX0_placeIn 8 = .ok (.aload_n 1, 1) := dk_43 (dk_at dksX0_placeIn_0 8 rfl rfl)
theorem dX0_placeIn_9 : decode cX0_placeIn 9 = .ok (.iload_n 2, 1) := dk_28 (dk_at dksX0_placeIn_0 9 rfl rfl)
theorem dX0_placeIn_10 : decode cX0_placeIn 10 = .ok (.aaload, 1) := dk_50 (dk_at dksX0_placeIn_0 10 rfl rfl)
theorem dX0_placeIn_11 : decode cX0_placeIn 11 = .ok (.invokevirtual 156, 3) := dk_182 0 156 (dk_at dksX0_placeIn_0 11 rfl rfl)
theorem dX0_placeIn_14 : decode cX0_placeIn 14 = .ok (.aload_n 0, 1) := dk_42 (dk_at dksX0_placeIn_0 14 rfl rfl)
theorem dX0_placeIn_15 : decode cX0_placeIn 15 = .ok (.getfield 117, 3) := dk_180 0 117 (dk_at dksX0_placeIn_0 15 rfl rfl)
theorem dX0_placeIn_18 : decode cX0_placeIn 18 = .ok (.aload_n 0, 1) := dk_42 (dk_at dksX0_placeIn_0 18 rfl rfl)
theorem dX0_placeIn_19 : decode cX0_placeIn 19 = .ok (.getfield 123, 3) := dk_180 0 123 (dk_at dksX0_placeIn_0 19 rfl rfl)
theorem dX0_placeIn_22 : decode cX0_placeIn 22 = .ok (.isub, 1) := dk_100 (dk_at dksX0_placeIn_0 22 rfl rfl)
theorem dX0_placeIn_23 : decode cX0_placeIn 23 = .ok (.if_icmp .ne 7, 3) := dk_160 0 7 (dk_at dksX0_placeIn_1 0 rfl rfl)
theorem dX0_placeIn_26 : decode cX0_placeIn 26 = .ok (.iconst 1, 1) := dk_4 (dk_at dksX0_placeIn_1 3 rfl rfl)
theorem dX0_placeIn_27 : decode cX0_placeIn 27 = .ok (.goto 4, 3) := dk_167 0 4 (dk_at dksX0_placeIn_1 4 rfl rfl)
theorem dX0_placeIn_30 : decode cX0_placeIn 30 = .ok (.iconst 0, 1) := dk_3 (dk_at dksX0_placeIn_1 7 rfl rfl)
theorem dX0_placeIn_31 : decode cX0_placeIn 31 = .ok (.istore_n 3, 1) := dk_62 (dk_at dksX0_placeIn_1 8 rfl rfl)
theorem dX0_placeIn_32 : decode cX0_placeIn 32 = .ok (.iconst 0, 1) := dk_3 (dk_at dksX0_placeIn_1 9 rfl rfl)
theorem dX0_placeIn_33 : decode cX0_placeIn 33 = .ok (.istore 4, 2) := dk_54 4 (dk_at dksX0_placeIn_1 10 rfl rfl)
theorem dX0_placeIn_35 : decode cX0_placeIn 35 = .ok (.iload_n 3, 1) := dk_29 (dk_at dksX0_placeIn_1 12 rfl rfl)
theorem dX0_placeIn_36 : decode cX0_placeIn 36 = .ok (.ifCond .eq 51, 3) := dk_153 0 51 (dk_at dksX0_placeIn_1 13 rfl rfl)
theorem dX0_placeIn_39 : decode cX0_placeIn 39 = .ok (.iload 4, 2) := dk_21 4 (dk_at dksX0_placeIn_1 16 rfl rfl)
theorem dX0_placeIn_41 : decode cX0_placeIn 41 = .ok (.aload_n 0, 1) := dk_42 (dk_at dksX0_placeIn_1 18 rfl rfl)
theorem dX0_placeIn_42 : decode cX0_placeIn 42 = .ok (.getfield 117, 3) := dk_180 0 117 (dk_at dksX0_placeIn_1 19 rfl rfl)
theorem dX0_placeIn_45 : decode cX0_placeIn 45 = .ok (.aload_n 0, 1) := dk_42 (dk_at dksX0_placeIn_1 22 rfl rfl)
theorem dX0_placeIn_46 : decode cX0_placeIn 46 = .ok (.getfield 123, 3) := dk_180 0 123 (dk_at dksX0_placeIn_2 0 rfl rfl)
theorem dX0_placeIn_49 : decode cX0_placeIn 49 = .ok (.isub, 1) := dk_100 (dk_at dksX0_placeIn_2 3 rfl rfl)
theorem dX0_placeIn_50 : decode cX0_placeIn 50 = .ok (.if_icmp .ge 37, 3) := dk_162 0 37 (dk_at dksX0_placeIn_2 4 rfl rfl)
theorem dX0_placeIn_53 : decode cX0_placeIn 53 = .ok (.aload_n 1, 1) := dk_43 (dk_at dksX0_placeIn_2 7 rfl rfl)
theorem dX0_placeIn_54 : decode cX0_placeIn 54 = .ok (.iload_n 2, 1) := dk_28 (dk_at dksX0_placeIn_2 8 rfl rfl)
theorem dX0_placeIn_55 : decode cX0_placeIn 55 = .ok (.aaload, 1) := dk_50 (dk_at dksX0_placeIn_2 9 rfl rfl)
theorem dX0_placeIn_56 : decode cX0_placeIn 56 = .ok (.iload 4, 2) := dk_21 4 (dk_at dksX0_placeIn_2 10 rfl rfl)
theorem dX0_placeIn_58 : decode cX0_placeIn 58 = .ok (.invokevirtual 159, 3) := dk_182 0 159 (dk_at dksX0_placeIn_2 12 rfl rfl)
theorem dX0_placeIn_61 : decode cX0_placeIn 61 = .ok (.aload_n 0, 1) := dk_42 (dk_at dksX0_placeIn_2 15 rfl rfl)
theorem dX0_placeIn_62 : decode cX0_placeIn 62 = .ok (.aload_n 0, 1) := dk_42 (dk_at dksX0_placeIn_2 16 rfl rfl)
theorem dX0_placeIn_63 : decode cX0_placeIn 63 = .ok (.getfield 123, 3) := dk_180 0 123 (dk_at dksX0_placeIn_2 17 rfl rfl)
theorem dX0_placeIn_66 : decode cX0_placeIn 66 = .ok (.iload 4, 2) := dk_21 4 (dk_at dksX0_placeIn_2 20 rfl rfl)
theorem dX0_placeIn_68 : decode cX0_placeIn 68 = .ok (.iadd, 1) := dk_96 (dk_at dksX0_placeIn_2 22 rfl rfl)
theorem dX0_placeIn_69 : decode cX0_placeIn 69 = .ok (.invokevirtual 120, 3) := dk_182 0 120 (dk_at dksX0_placeIn_3 0 rfl rfl)
theorem dX0_placeIn_72 : decode cX0_placeIn 72 = .ok (.if_icmp .ne 7, 3) := dk_160 0 7 (dk_at dksX0_placeIn_3 3 rfl rfl)
theorem dX0_placeIn_75 : decode cX0_placeIn 75 = .ok (.iconst 1, 1) := dk_4 (dk_at dksX0_placeIn_3 6 rfl rfl)
theorem dX0_placeIn_76 : decode cX0_placeIn 76 = .ok (.goto 4, 3) := dk_167 0 4 (dk_at dksX0_placeIn_3 7 rfl rfl)
theorem dX0_placeIn_79 : decode cX0_placeIn 79 = .ok (.iconst 0, 1) := dk_3 (dk_at dksX0_placeIn_3 10 rfl rfl)
theorem dX0_placeIn_80 : decode cX0_placeIn 80 = .ok (.istore_n 3, 1) := dk_62 (dk_at dksX0_placeIn_3 11 rfl rfl)
theorem dX0_placeIn_81 : decode cX0_placeIn 81 = .ok (.iinc 4 1, 3) := dk_132 4 1 (dk_at dksX0_placeIn_3 12 rfl rfl)
theorem dX0_placeIn_84 : decode cX0_placeIn 84 = .ok (.goto (-49), 3) := dk_167 255 207 (dk_at dksX0_placeIn_3 15 rfl rfl)
theorem dX0_placeIn_87 : decode cX0_placeIn 87 = .ok (.iload_n 3, 1) := dk_29 (dk_at dksX0_placeIn_3 18 rfl rfl)
theorem dX0_placeIn_88 : decode cX0_placeIn 88 = .ok (.ifCond .eq 5, 3) := dk_153 0 5 (dk_at dksX0_placeIn_3 19 rfl rfl)
theorem dX0_placeIn_91 : decode cX0_placeIn 91 = .ok (.iload_n 2, 1) := dk_28 (dk_at dksX0_placeIn_3 22 rfl rfl)
theorem dX0_placeIn_92 : decode cX0_placeIn 92 = .ok (.ireturn, 1) := dk_172 (dk_at dksX0_placeIn_3 23 rfl rfl)
theorem dX0_placeIn_93 : decode cX0_placeIn 93 = .ok (.iinc 2 1, 3) := dk_132 2 1 (dk_at dksX0_placeIn_4 0 rfl rfl)
theorem dX0_placeIn_96 : decode cX0_placeIn 96 = .ok (.goto (-94), 3) := dk_167 255 162 (dk_at dksX0_placeIn_4 3 rfl rfl)
theorem dX0_placeIn_99 : decode cX0_placeIn 99 = .ok (.iconst (-1), 1) := dk_2 (dk_at dksX0_placeIn_4 6 rfl rfl)
theorem dX0_placeIn_100 : decode cX0_placeIn 100 = .ok (.ireturn, 1) := dk_172 (dk_at dksX0_placeIn_4 7 rfl rfl)
abbrev cX0_isDigit : ByteArray := prog_1_method_16_code
def yX0_isDigit : MethodName := ⟨RX0, "isDigit", "(I)Z"⟩
def dkwX0_isDigit_0 : List UInt8 := [26, 133, 20, 0, 113, 20, 0, 115, 184, 0, 5, 172]
abbrev dktX0_isDigit_0 : List UInt8 := dkwX0_isDigit_0 ++ []
theorem dksX0_isDigit_0 : cX0_isDigit.data.toList.drop 0 = dktX0_isDigit_0 := by decide +kernel
theorem dX0_isDigit_0 : decode cX0_isDigit 0 = .ok (.iload_n 0, 1) := dk_26 (dk_at dksX0_isDigit_0 0 rfl rfl)
theorem dX0_isDigit_1 : decode cX0_isDigit 1 = .ok (.i2l, 1) := dk_133 (dk_at dksX0_isDigit_0 1 rfl rfl)
theorem dX0_isDigit_2 : decode cX0_isDigit 2 = .ok (.ldc2_w 113, 3) := dk_20 0 113 (dk_at dksX0_isDigit_0 2 rfl rfl)
theorem dX0_isDigit_5 : decode cX0_isDigit 5 = .ok (.ldc2_w 115, 3) := dk_20 0 115 (dk_at dksX0_isDigit_0 5 rfl rfl)
theorem dX0_isDigit_8 : decode cX0_isDigit 8 = .ok (.invokestatic 5, 3) := dk_184 0 5 (dk_at dksX0_isDigit_0 8 rfl rfl)
theorem dX0_isDigit_11 : decode cX0_isDigit 11 = .ok (.ireturn, 1) := dk_172 (dk_at dksX0_isDigit_0 11 rfl rfl)
abbrev cX0_digits : ByteArray := prog_1_method_20_code
def yX0_digits : MethodName := ⟨RX0, "digits", "()V"⟩
def dkwX0_digits_4 : List UInt8 := [180, 0, 152, 191, 177]
abbrev dktX0_digits_4 : List UInt8 := dkwX0_digits_4 ++ []
def dkwX0_digits_3 : List UInt8 := [167, 255, 189, 42, 6, 181, 0, 126, 42, 180, 0, 117, 42, 180, 0, 123, 100, 7, 164, 0, 8, 42]
abbrev dktX0_digits_3 : List UInt8 := dkwX0_digits_3 ++ dktX0_digits_4
def dkwX0_digits_2 : List UInt8 := [96, 16, 48, 100, 167, 0, 7, 42, 180, 0, 142, 181, 0, 142, 42, 89, 180, 0, 117, 4, 96, 181, 0, 117]
abbrev dktX0_digits_2 : List UInt8 := dkwX0_digits_2 ++ dktX0_digits_3
def dkwX0_digits_1 : List UInt8 := [42, 180, 0, 123, 100, 7, 162, 0, 25, 16, 10, 42, 180, 0, 142, 104, 42, 42, 180, 0, 117, 182, 0, 120]
abbrev dktX0_digits_1 : List UInt8 := dkwX0_digits_1 ++ dktX0_digits_2
def dkwX0_digits_0 : List UInt8 := [42, 3, 181, 0, 142, 42, 42, 180, 0, 117, 182, 0, 120, 184, 0, 136, 153, 0, 59, 42, 42, 180, 0, 117]
abbrev dktX0_digits_0 : List UInt8 := dkwX0_digits_0 ++ dktX0_digits_1
theorem dksX0_digits_0 : cX0_digits.data.toList.drop 0 = dktX0_digits_0 := by decide +kernel
theorem dksX0_digits_1 : cX0_digits.data.toList.drop 24 = dktX0_digits_1 := dk_seg dksX0_digits_0 24 rfl rfl
theorem dksX0_digits_2 : cX0_digits.data.toList.drop 48 = dktX0_digits_2 := dk_seg dksX0_digits_1 24 rfl rfl
theorem dksX0_digits_3 : cX0_digits.data.toList.drop 72 = dktX0_digits_3 := dk_seg dksX0_digits_2 24 rfl rfl
theorem dksX0_digits_4 : cX0_digits.data.toList.drop 94 = dktX0_digits_4 := dk_seg dksX0_digits_3 22 rfl rfl
theorem dX0_digits_0 : decode cX0_digits 0 = .ok (.aload_n 0, 1) := dk_42 (dk_at dksX0_digits_0 0 rfl rfl)
theorem dX0_digits_1 : decode cX0_digits 1 = .ok (.iconst 0, 1) := dk_3 (dk_at dksX0_digits_0 1 rfl rfl)
theorem dX0_digits_2 : decode cX0_digits 2 = .ok (.putfield 142, 3) := dk_181 0 142 (dk_at dksX0_digits_0 2 rfl rfl)
theorem dX0_digits_5 : decode cX0_digits 5 = .ok (.aload_n 0, 1) := dk_42 (dk_at dksX0_digits_0 5 rfl rfl)
theorem dX0_digits_6 : decode cX0_digits 6 = .ok (.aload_n 0, 1) := dk_42 (dk_at dksX0_digits_0 6 rfl rfl)
theorem dX0_digits_7 : decode cX0_digits 7 = .ok (.getfield 117, 3) := dk_180 0 117 (dk_at dksX0_digits_0 7 rfl rfl)
theorem dX0_digits_10 : decode cX0_digits 10 = .ok (.invokevirtual 120, 3) := dk_182 0 120 (dk_at dksX0_digits_0 10 rfl rfl)
theorem dX0_digits_13 : decode cX0_digits 13 = .ok (.invokestatic 136, 3) := dk_184 0 136 (dk_at dksX0_digits_0 13 rfl rfl)
theorem dX0_digits_16 : decode cX0_digits 16 = .ok (.ifCond .eq 59, 3) := dk_153 0 59 (dk_at dksX0_digits_0 16 rfl rfl)
theorem dX0_digits_19 : decode cX0_digits 19 = .ok (.aload_n 0, 1) := dk_42 (dk_at dksX0_digits_0 19 rfl rfl)
theorem dX0_digits_20 : decode cX0_digits 20 = .ok (.aload_n 0, 1) := dk_42 (dk_at dksX0_digits_0 20 rfl rfl)
theorem dX0_digits_21 : decode cX0_digits 21 = .ok (.getfield 117, 3) := dk_180 0 117 (dk_at dksX0_digits_0 21 rfl rfl)
theorem dX0_digits_24 : decode cX0_digits 24 = .ok (.aload_n 0, 1) := dk_42 (dk_at dksX0_digits_1 0 rfl rfl)
theorem dX0_digits_25 : decode cX0_digits 25 = .ok (.getfield 123, 3) := dk_180 0 123 (dk_at dksX0_digits_1 1 rfl rfl)
theorem dX0_digits_28 : decode cX0_digits 28 = .ok (.isub, 1) := dk_100 (dk_at dksX0_digits_1 4 rfl rfl)
theorem dX0_digits_29 : decode cX0_digits 29 = .ok (.iconst 4, 1) := dk_7 (dk_at dksX0_digits_1 5 rfl rfl)
theorem dX0_digits_30 : decode cX0_digits 30 = .ok (.if_icmp .ge 25, 3) := dk_162 0 25 (dk_at dksX0_digits_1 6 rfl rfl)
theorem dX0_digits_33 : decode cX0_digits 33 = .ok (.bipush 10, 2) := dk_16 10 (dk_at dksX0_digits_1 9 rfl rfl)
theorem dX0_digits_35 : decode cX0_digits 35 = .ok (.aload_n 0, 1) := dk_42 (dk_at dksX0_digits_1 11 rfl rfl)
theorem dX0_digits_36 : decode cX0_digits 36 = .ok (.getfield 142, 3) := dk_180 0 142 (dk_at dksX0_digits_1 12 rfl rfl)
theorem dX0_digits_39 : decode cX0_digits 39 = .ok (.imul, 1) := dk_104 (dk_at dksX0_digits_1 15 rfl rfl)
theorem dX0_digits_40 : decode cX0_digits 40 = .ok (.aload_n 0, 1) := dk_42 (dk_at dksX0_digits_1 16 rfl rfl)
theorem dX0_digits_41 : decode cX0_digits 41 = .ok (.aload_n 0, 1) := dk_42 (dk_at dksX0_digits_1 17 rfl rfl)
theorem dX0_digits_42 : decode cX0_digits 42 = .ok (.getfield 117, 3) := dk_180 0 117 (dk_at dksX0_digits_1 18 rfl rfl)
theorem dX0_digits_45 : decode cX0_digits 45 = .ok (.invokevirtual 120, 3) := dk_182 0 120 (dk_at dksX0_digits_1 21 rfl rfl)
theorem dX0_digits_48 : decode cX0_digits 48 = .ok (.iadd, 1) := dk_96 (dk_at dksX0_digits_2 0 rfl rfl)
theorem dX0_digits_49 : decode cX0_digits 49 = .ok (.bipush 48, 2) := dk_16 48 (dk_at dksX0_digits_2 1 rfl rfl)
theorem dX0_digits_51 : decode cX0_digits 51 = .ok (.isub, 1) := dk_100 (dk_at dksX0_digits_2 3 rfl rfl)
theorem dX0_digits_52 : decode cX0_digits 52 = .ok (.goto 7, 3) := dk_167 0 7 (dk_at dksX0_digits_2 4 rfl rfl)
theorem dX0_digits_55 : decode cX0_digits 55 = .ok (.aload_n 0, 1) := dk_42 (dk_at dksX0_digits_2 7 rfl rfl)
theorem dX0_digits_56 : decode cX0_digits 56 = .ok (.getfield 142, 3) := dk_180 0 142 (dk_at dksX0_digits_2 8 rfl rfl)
theorem dX0_digits_59 : decode cX0_digits 59 = .ok (.putfield 142, 3) := dk_181 0 142 (dk_at dksX0_digits_2 11 rfl rfl)
theorem dX0_digits_62 : decode cX0_digits 62 = .ok (.aload_n 0, 1) := dk_42 (dk_at dksX0_digits_2 14 rfl rfl)
theorem dX0_digits_63 : decode cX0_digits 63 = .ok (.dup, 1) := dk_89 (dk_at dksX0_digits_2 15 rfl rfl)
theorem dX0_digits_64 : decode cX0_digits 64 = .ok (.getfield 117, 3) := dk_180 0 117 (dk_at dksX0_digits_2 16 rfl rfl)
theorem dX0_digits_67 : decode cX0_digits 67 = .ok (.iconst 1, 1) := dk_4 (dk_at dksX0_digits_2 19 rfl rfl)
theorem dX0_digits_68 : decode cX0_digits 68 = .ok (.iadd, 1) := dk_96 (dk_at dksX0_digits_2 20 rfl rfl)
theorem dX0_digits_69 : decode cX0_digits 69 = .ok (.putfield 117, 3) := dk_181 0 117 (dk_at dksX0_digits_2 21 rfl rfl)
theorem dX0_digits_72 : decode cX0_digits 72 = .ok (.goto (-67), 3) := dk_167 255 189 (dk_at dksX0_digits_3 0 rfl rfl)
theorem dX0_digits_75 : decode cX0_digits 75 = .ok (.aload_n 0, 1) := dk_42 (dk_at dksX0_digits_3 3 rfl rfl)
theorem dX0_digits_76 : decode cX0_digits 76 = .ok (.iconst 3, 1) := dk_6 (dk_at dksX0_digits_3 4 rfl rfl)
theorem dX0_digits_77 : decode cX0_digits 77 = .ok (.putfield 126, 3) := dk_181 0 126 (dk_at dksX0_digits_3 5 rfl rfl)
theorem dX0_digits_80 : decode cX0_digits 80 = .ok (.aload_n 0, 1) := dk_42 (dk_at dksX0_digits_3 8 rfl rfl)
theorem dX0_digits_81 : decode cX0_digits 81 = .ok (.getfield 117, 3) := dk_180 0 117 (dk_at dksX0_digits_3 9 rfl rfl)
theorem dX0_digits_84 : decode cX0_digits 84 = .ok (.aload_n 0, 1) := dk_42 (dk_at dksX0_digits_3 12 rfl rfl)
theorem dX0_digits_85 : decode cX0_digits 85 = .ok (.getfield 123, 3) := dk_180 0 123 (dk_at dksX0_digits_3 13 rfl rfl)
theorem dX0_digits_88 : decode cX0_digits 88 = .ok (.isub, 1) := dk_100 (dk_at dksX0_digits_3 16 rfl rfl)
theorem dX0_digits_89 : decode cX0_digits 89 = .ok (.iconst 4, 1) := dk_7 (dk_at dksX0_digits_3 17 rfl rfl)
theorem dX0_digits_90 : decode cX0_digits 90 = .ok (.if_icmp .le 8, 3) := dk_164 0 8 (dk_at dksX0_digits_3 18 rfl rfl)
theorem dX0_digits_93 : decode cX0_digits 93 = .ok (.aload_n 0, 1) := dk_42 (dk_at dksX0_digits_3 21 rfl rfl)
theorem dX0_digits_94 : decode cX0_digits 94 = .ok (.getfield 152, 3) := dk_180 0 152 (dk_at dksX0_digits_4 0 rfl rfl)
theorem dX0_digits_97 : decode cX0_digits 97 = .ok (.athrow, 1) := dk_191 (dk_at dksX0_digits_4 3 rfl rfl)
theorem dX0_digits_98 : decode cX0_digits 98 = .ok (.return_, 1) := dk_177 (dk_at dksX0_digits_4 4 rfl rfl)
abbrev cX0_isKey : ByteArray := prog_1_method_22_code
def yX0_isKey : MethodName := ⟨RX0, "isKey", "(I)Z"⟩
def dkwX0_isKey_0 : List UInt8 := [42, 180, 0, 126, 4, 160, 0, 15, 42, 180, 0, 142, 27, 160, 0, 7, 4, 167, 0, 4, 3, 172]
abbrev dktX0_isKey_0 : List UInt8 := dkwX0_isKey_0 ++ []
theorem dksX0_isKey_0 : cX0_isKey.data.toList.drop 0 = dktX0_isKey_0 := by decide +kernel
theorem dX0_isKey_0 : decode cX0_isKey 0 = .ok (.aload_n 0, 1) := dk_42 (dk_at dksX0_isKey_0 0 rfl rfl)
theorem dX0_isKey_1 : decode cX0_isKey 1 = .ok (.getfield 126, 3) := dk_180 0 126 (dk_at dksX0_isKey_0 1 rfl rfl)
theorem dX0_isKey_4 : decode cX0_isKey 4 = .ok (.iconst 1, 1) := dk_4 (dk_at dksX0_isKey_0 4 rfl rfl)
theorem dX0_isKey_5 : decode cX0_isKey 5 = .ok (.if_icmp .ne 15, 3) := dk_160 0 15 (dk_at dksX0_isKey_0 5 rfl rfl)
theorem dX0_isKey_8 : decode cX0_isKey 8 = .ok (.aload_n 0, 1) := dk_42 (dk_at dksX0_isKey_0 8 rfl rfl)
theorem dX0_isKey_9 : decode cX0_isKey 9 = .ok (.getfield 142, 3) := dk_180 0 142 (dk_at dksX0_isKey_0 9 rfl rfl)
theorem dX0_isKey_12 : decode cX0_isKey 12 = .ok (.iload_n 1, 1) := dk_27 (dk_at dksX0_isKey_0 12 rfl rfl)
theorem dX0_isKey_13 : decode cX0_isKey 13 = .ok (.if_icmp .ne 7, 3) := dk_160 0 7 (dk_at dksX0_isKey_0 13 rfl rfl)
theorem dX0_isKey_16 : decode cX0_isKey 16 = .ok (.iconst 1, 1) := dk_4 (dk_at dksX0_isKey_0 16 rfl rfl)
theorem dX0_isKey_17 : decode cX0_isKey 17 = .ok (.goto 4, 3) := dk_167 0 4 (dk_at dksX0_isKey_0 17 rfl rfl)
theorem dX0_isKey_20 : decode cX0_isKey 20 = .ok (.iconst 0, 1) := dk_3 (dk_at dksX0_isKey_0 20 rfl rfl)
theorem dX0_isKey_21 : decode cX0_isKey 21 = .ok (.ireturn, 1) := dk_172 (dk_at dksX0_isKey_0 21 rfl rfl)
abbrev cX0_need : ByteArray := prog_1_method_23_code
def yX0_need : MethodName := ⟨RX0, "need", "(Z)V"⟩
def dkwX0_need_0 : List UInt8 := [27, 154, 0, 8, 42, 180, 0, 152, 191, 42, 182, 0, 174, 177]
abbrev dktX0_need_0 : List UInt8 := dkwX0_need_0 ++ []
theorem dksX0_need_0 : cX0_need.data.toList.drop 0 = dktX0_need_0 := by decide +kernel
theorem dX0_need_0 : decode cX0_need 0 = .ok (.iload_n 1, 1) := dk_27 (dk_at dksX0_need_0 0 rfl rfl)
theorem dX0_need_1 : decode cX0_need 1 = .ok (.ifCond .ne 8, 3) := dk_154 0 8 (dk_at dksX0_need_0 1 rfl rfl)
theorem dX0_need_4 : decode cX0_need 4 = .ok (.aload_n 0, 1) := dk_42 (dk_at dksX0_need_0 4 rfl rfl)
theorem dX0_need_5 : decode cX0_need 5 = .ok (.getfield 152, 3) := dk_180 0 152 (dk_at dksX0_need_0 5 rfl rfl)
theorem dX0_need_8 : decode cX0_need 8 = .ok (.athrow, 1) := dk_191 (dk_at dksX0_need_0 8 rfl rfl)
theorem dX0_need_9 : decode cX0_need 9 = .ok (.aload_n 0, 1) := dk_42 (dk_at dksX0_need_0 9 rfl rfl)
theorem dX0_need_10 : decode cX0_need 10 = .ok (.invokevirtual 174, 3) := dk_182 0 174 (dk_at dksX0_need_0 10 rfl rfl)
theorem dX0_need_13 : decode cX0_need 13 = .ok (.return_, 1) := dk_177 (dk_at dksX0_need_0 13 rfl rfl)
abbrev cX0_either : ByteArray := prog_1_method_25_code
def yX0_either : MethodName := ⟨RX0, "either", "()LWalkingStones$Node;"⟩
def dkwX0_either_1 : List UInt8 := [42, 182, 0, 184, 183, 0, 193, 76, 167, 255, 229, 43, 176]
abbrev dktX0_either_1 : List UInt8 := dkwX0_either_1 ++ []
def dkwX0_either_0 : List UInt8 := [42, 182, 0, 184, 76, 42, 6, 182, 0, 188, 153, 0, 25, 42, 182, 0, 174, 187, 0, 191, 89, 16, 124, 43]
abbrev dktX0_either_0 : List UInt8 := dkwX0_either_0 ++ dktX0_either_1
theorem dksX0_either_0 : cX0_either.data.toList.drop 0 = dktX0_either_0 := by decide +kernel
theorem dksX0_either_1 : cX0_either.data.toList.drop 24 = dktX0_either_1 := dk_seg dksX0_either_0 24 rfl rfl
theorem dX0_either_0 : decode cX0_either 0 = .ok (.aload_n 0, 1) := dk_42 (dk_at dksX0_either_0 0 rfl rfl)
theorem dX0_either_1 : decode cX0_either 1 = .ok (.invokevirtual 184, 3) := dk_182 0 184 (dk_at dksX0_either_0 1 rfl rfl)
theorem dX0_either_4 : decode cX0_either 4 = .ok (.astore_n 1, 1) := dk_76 (dk_at dksX0_either_0 4 rfl rfl)
theorem dX0_either_5 : decode cX0_either 5 = .ok (.aload_n 0, 1) := dk_42 (dk_at dksX0_either_0 5 rfl rfl)
theorem dX0_either_6 : decode cX0_either 6 = .ok (.iconst 3, 1) := dk_6 (dk_at dksX0_either_0 6 rfl rfl)
theorem dX0_either_7 : decode cX0_either 7 = .ok (.invokevirtual 188, 3) := dk_182 0 188 (dk_at dksX0_either_0 7 rfl rfl)
theorem dX0_either_10 : decode cX0_either 10 = .ok (.ifCond .eq 25, 3) := dk_153 0 25 (dk_at dksX0_either_0 10 rfl rfl)
theorem dX0_either_13 : decode cX0_either 13 = .ok (.aload_n 0, 1) := dk_42 (dk_at dksX0_either_0 13 rfl rfl)
theorem dX0_either_14 : decode cX0_either 14 = .ok (.invokevirtual 174, 3) := dk_182 0 174 (dk_at dksX0_either_0 14 rfl rfl)
theorem dX0_either_17 : decode cX0_either 17 = .ok (.new 191, 3) := dk_187 0 191 (dk_at dksX0_either_0 17 rfl rfl)
theorem dX0_either_20 : decode cX0_either 20 = .ok (.dup, 1) := dk_89 (dk_at dksX0_either_0 20 rfl rfl)
theorem dX0_either_21 : decode cX0_either 21 = .ok (.bipush 124, 2) := dk_16 124 (dk_at dksX0_either_0 21 rfl rfl)
theorem dX0_either_23 : decode cX0_either 23 = .ok (.aload_n 1, 1) := dk_43 (dk_at dksX0_either_0 23 rfl rfl)
theorem dX0_either_24 : decode cX0_either 24 = .ok (.aload_n 0, 1) := dk_42 (dk_at dksX0_either_1 0 rfl rfl)
theorem dX0_either_25 : decode cX0_either 25 = .ok (.invokevirtual 184, 3) := dk_182 0 184 (dk_at dksX0_either_1 1 rfl rfl)
theorem dX0_either_28 : decode cX0_either 28 = .ok (.invokespecial 193, 3) := dk_183 0 193 (dk_at dksX0_either_1 4 rfl rfl)
theorem dX0_either_31 : decode cX0_either 31 = .ok (.astore_n 1, 1) := dk_76 (dk_at dksX0_either_1 7 rfl rfl)
theorem dX0_either_32 : decode cX0_either 32 = .ok (.goto (-27), 3) := dk_167 255 229 (dk_at dksX0_either_1 8 rfl rfl)
theorem dX0_either_35 : decode cX0_either 35 = .ok (.aload_n 1, 1) := dk_43 (dk_at dksX0_either_1 11 rfl rfl)
theorem dX0_either_36 : decode cX0_either 36 = .ok (.areturn, 1) := dk_176 (dk_at dksX0_either_1 12 rfl rfl)
abbrev cX0_both : ByteArray := prog_1_method_26_code
def yX0_both : MethodName := ⟨RX0, "both", "()LWalkingStones$Node;"⟩
def dkwX0_both_1 : List UInt8 := [42, 182, 0, 196, 183, 0, 193, 76, 167, 255, 229, 43, 176]
abbrev dktX0_both_1 : List UInt8 := dkwX0_both_1 ++ []
def dkwX0_both_0 : List UInt8 := [42, 182, 0, 196, 76, 42, 7, 182, 0, 188, 153, 0, 25, 42, 182, 0, 174, 187, 0, 191, 89, 16, 38, 43]
abbrev dktX0_both_0 : List UInt8 := dkwX0_both_0 ++ dktX0_both_1
theorem dksX0_both_0 : cX0_both.data.toList.drop 0 = dktX0_both_0 := by decide +kernel
theorem dksX0_both_1 : cX0_both.data.toList.drop 24 = dktX0_both_1 := dk_seg dksX0_both_0 24 rfl rfl
theorem dX0_both_0 : decode cX0_both 0 = .ok (.aload_n 0, 1) := dk_42 (dk_at dksX0_both_0 0 rfl rfl)
theorem dX0_both_1 : decode cX0_both 1 = .ok (.invokevirtual 196, 3) := dk_182 0 196 (dk_at dksX0_both_0 1 rfl rfl)
theorem dX0_both_4 : decode cX0_both 4 = .ok (.astore_n 1, 1) := dk_76 (dk_at dksX0_both_0 4 rfl rfl)
theorem dX0_both_5 : decode cX0_both 5 = .ok (.aload_n 0, 1) := dk_42 (dk_at dksX0_both_0 5 rfl rfl)
theorem dX0_both_6 : decode cX0_both 6 = .ok (.iconst 4, 1) := dk_7 (dk_at dksX0_both_0 6 rfl rfl)
theorem dX0_both_7 : decode cX0_both 7 = .ok (.invokevirtual 188, 3) := dk_182 0 188 (dk_at dksX0_both_0 7 rfl rfl)
theorem dX0_both_10 : decode cX0_both 10 = .ok (.ifCond .eq 25, 3) := dk_153 0 25 (dk_at dksX0_both_0 10 rfl rfl)
theorem dX0_both_13 : decode cX0_both 13 = .ok (.aload_n 0, 1) := dk_42 (dk_at dksX0_both_0 13 rfl rfl)
theorem dX0_both_14 : decode cX0_both 14 = .ok (.invokevirtual 174, 3) := dk_182 0 174 (dk_at dksX0_both_0 14 rfl rfl)
theorem dX0_both_17 : decode cX0_both 17 = .ok (.new 191, 3) := dk_187 0 191 (dk_at dksX0_both_0 17 rfl rfl)
theorem dX0_both_20 : decode cX0_both 20 = .ok (.dup, 1) := dk_89 (dk_at dksX0_both_0 20 rfl rfl)
theorem dX0_both_21 : decode cX0_both 21 = .ok (.bipush 38, 2) := dk_16 38 (dk_at dksX0_both_0 21 rfl rfl)
theorem dX0_both_23 : decode cX0_both 23 = .ok (.aload_n 1, 1) := dk_43 (dk_at dksX0_both_0 23 rfl rfl)
theorem dX0_both_24 : decode cX0_both 24 = .ok (.aload_n 0, 1) := dk_42 (dk_at dksX0_both_1 0 rfl rfl)
theorem dX0_both_25 : decode cX0_both 25 = .ok (.invokevirtual 196, 3) := dk_182 0 196 (dk_at dksX0_both_1 1 rfl rfl)
theorem dX0_both_28 : decode cX0_both 28 = .ok (.invokespecial 193, 3) := dk_183 0 193 (dk_at dksX0_both_1 4 rfl rfl)
theorem dX0_both_31 : decode cX0_both 31 = .ok (.astore_n 1, 1) := dk_76 (dk_at dksX0_both_1 7 rfl rfl)
theorem dX0_both_32 : decode cX0_both 32 = .ok (.goto (-27), 3) := dk_167 255 229 (dk_at dksX0_both_1 8 rfl rfl)
theorem dX0_both_35 : decode cX0_both 35 = .ok (.aload_n 1, 1) := dk_43 (dk_at dksX0_both_1 11 rfl rfl)
theorem dX0_both_36 : decode cX0_both 36 = .ok (.areturn, 1) := dk_176 (dk_at dksX0_both_1 12 rfl rfl)
abbrev cX0_not : ByteArray := prog_1_method_27_code
def yX0_not : MethodName := ⟨RX0, "not", "()LWalkingStones$Node;"⟩
def dkwX0_not_3 : List UInt8 := [89, 28, 43, 42, 182, 0, 207, 183, 0, 193, 76, 43, 176]
abbrev dktX0_not_3 : List UInt8 := dkwX0_not_3 ++ []
def dkwX0_not_2 : List UInt8 := [154, 0, 12, 42, 16, 61, 182, 0, 210, 153, 0, 26, 42, 180, 0, 142, 61, 42, 182, 0, 174, 187, 0, 191]
abbrev dktX0_not_2 : List UInt8 := dkwX0_not_2 ++ dktX0_not_3
def dkwX0_not_1 : List UInt8 := [181, 0, 177, 187, 0, 202, 89, 43, 3, 183, 0, 204, 176, 42, 182, 0, 207, 76, 42, 16, 60, 182, 0, 210]
abbrev dktX0_not_1 : List UInt8 := dkwX0_not_1 ++ dktX0_not_2
def dkwX0_not_0 : List UInt8 := [42, 8, 182, 0, 188, 153, 0, 32, 42, 182, 0, 199, 42, 182, 0, 196, 76, 42, 89, 180, 0, 177, 4, 100]
abbrev dktX0_not_0 : List UInt8 := dkwX0_not_0 ++ dktX0_not_1
theorem dksX0_not_0 : cX0_not.data.toList.drop 0 = dktX0_not_0 := by decide +kernel
theorem dksX0_not_1 : cX0_not.data.toList.drop 24 = dktX0_not_1 := dk_seg dksX0_not_0 24 rfl rfl
theorem dksX0_not_2 : cX0_not.data.toList.drop 48 = dktX0_not_2 := dk_seg dksX0_not_1 24 rfl rfl
theorem dksX0_not_3 : cX0_not.data.toList.drop 72 = dktX0_not_3 := dk_seg dksX0_not_2 24 rfl rfl
theorem dX0_not_0 : decode cX0_not 0 = .ok (.aload_n 0, 1) := dk_42 (dk_at dksX0_not_0 0 rfl rfl)
theorem dX0_not_1 : decode cX0_not 1 = .ok (.iconst 5, 1) := dk_8 (dk_at dksX0_not_0 1 rfl rfl)
theorem dX0_not_2 : decode cX0_not 2 = .ok (.invokevirtual 188, 3) := dk_182 0 188 (dk_at dksX0_not_0 2 rfl rfl)
theorem dX0_not_5 : decode cX0_not 5 = .ok (.ifCond .eq 32, 3) := dk_153 0 32 (dk_at dksX0_not_0 5 rfl rfl)
theorem dX0_not_8 : decode cX0_not 8 = .ok (.aload_n 0, 1) := dk_42 (dk_at dksX0_not_0 8 rfl rfl)
theorem dX0_not_9 : decode cX0_not 9 = .ok (.invokevirtual 199, 3) := dk_182 0 199 (dk_at dksX0_not_0 9 rfl rfl)
theorem dX0_not_12 : decode cX0_not 12 = .ok (.aload_n 0, 1) := dk_42 (dk_at dksX0_not_0 12 rfl rfl)
theorem dX0_not_13 : decode cX0_not 13 = .ok (.invokevirtual 196, 3) := dk_182 0 196 (dk_at dksX0_not_0 13 rfl rfl)
theorem dX0_not_16 : decode cX0_not 16 = .ok (.astore_n 1, 1) := dk_76 (dk_at dksX0_not_0 16 rfl rfl)
theorem dX0_not_17 : decode cX0_not 17 = .ok (.aload_n 0, 1) := dk_42 (dk_at dksX0_not_0 17 rfl rfl)
theorem dX0_not_18 : decode cX0_not 18 = .ok (.dup, 1) := dk_89 (dk_at dksX0_not_0 18 rfl rfl)
theorem dX0_not_19 : decode cX0_not 19 = .ok (.getfield 177, 3) := dk_180 0 177 (dk_at dksX0_not_0 19 rfl rfl)
theorem dX0_not_22 : decode cX0_not 22 = .ok (.iconst 1, 1) := dk_4 (dk_at dksX0_not_0 22 rfl rfl)
theorem dX0_not_23 : decode cX0_not 23 = .ok (.isub, 1) := dk_100 (dk_at dksX0_not_0 23 rfl rfl)
theorem dX0_not_24 : decode cX0_not 24 = .ok (.putfield 177, 3) := dk_181 0 177 (dk_at dksX0_not_1 0 rfl rfl)
theorem dX0_not_27 : decode cX0_not 27 = .ok (.new 202, 3) := dk_187 0 202 (dk_at dksX0_not_1 3 rfl rfl)
theorem dX0_not_30 : decode cX0_not 30 = .ok (.dup, 1) := dk_89 (dk_at dksX0_not_1 6 rfl rfl)
theorem dX0_not_31 : decode cX0_not 31 = .ok (.aload_n 1, 1) := dk_43 (dk_at dksX0_not_1 7 rfl rfl)
theorem dX0_not_32 : decode cX0_not 32 = .ok (.iconst 0, 1) := dk_3 (dk_at dksX0_not_1 8 rfl rfl)
theorem dX0_not_33 : decode cX0_not 33 = .ok (.invokespecial 204, 3) := dk_183 0 204 (dk_at dksX0_not_1 9 rfl rfl)
theorem dX0_not_36 : decode cX0_not 36 = .ok (.areturn, 1) := dk_176 (dk_at dksX0_not_1 12 rfl rfl)
theorem dX0_not_37 : decode cX0_not 37 = .ok (.aload_n 0, 1) := dk_42 (dk_at dksX0_not_1 13 rfl rfl)
theorem dX0_not_38 : decode cX0_not 38 = .ok (.invokevirtual 207, 3) := dk_182 0 207 (dk_at dksX0_not_1 14 rfl rfl)
theorem dX0_not_41 : decode cX0_not 41 = .ok (.astore_n 1, 1) := dk_76 (dk_at dksX0_not_1 17 rfl rfl)
theorem dX0_not_42 : decode cX0_not 42 = .ok (.aload_n 0, 1) := dk_42 (dk_at dksX0_not_1 18 rfl rfl)
theorem dX0_not_43 : decode cX0_not 43 = .ok (.bipush 60, 2) := dk_16 60 (dk_at dksX0_not_1 19 rfl rfl)
theorem dX0_not_45 : decode cX0_not 45 = .ok (.invokevirtual 210, 3) := dk_182 0 210 (dk_at dksX0_not_1 21 rfl rfl)
theorem dX0_not_48 : decode cX0_not 48 = .ok (.ifCond .ne 12, 3) := dk_154 0 12 (dk_at dksX0_not_2 0 rfl rfl)
theorem dX0_not_51 : decode cX0_not 51 = .ok (.aload_n 0, 1) := dk_42 (dk_at dksX0_not_2 3 rfl rfl)
theorem dX0_not_52 : decode cX0_not 52 = .ok (.bipush 61, 2) := dk_16 61 (dk_at dksX0_not_2 4 rfl rfl)
theorem dX0_not_54 : decode cX0_not 54 = .ok (.invokevirtual 210, 3) := dk_182 0 210 (dk_at dksX0_not_2 6 rfl rfl)
theorem dX0_not_57 : decode cX0_not 57 = .ok (.ifCond .eq 26, 3) := dk_153 0 26 (dk_at dksX0_not_2 9 rfl rfl)
theorem dX0_not_60 : decode cX0_not 60 = .ok (.aload_n 0, 1) := dk_42 (dk_at dksX0_not_2 12 rfl rfl)
theorem dX0_not_61 : decode cX0_not 61 = .ok (.getfield 142, 3) := dk_180 0 142 (dk_at dksX0_not_2 13 rfl rfl)
theorem dX0_not_64 : decode cX0_not 64 = .ok (.istore_n 2, 1) := dk_61 (dk_at dksX0_not_2 16 rfl rfl)
theorem dX0_not_65 : decode cX0_not 65 = .ok (.aload_n 0, 1) := dk_42 (dk_at dksX0_not_2 17 rfl rfl)
theorem dX0_not_66 : decode cX0_not 66 = .ok (.invokevirtual 174, 3) := dk_182 0 174 (dk_at dksX0_not_2 18 rfl rfl)
theorem dX0_not_69 : decode cX0_not 69 = .ok (.new 191, 3) := dk_187 0 191 (dk_at dksX0_not_2 21 rfl rfl)
theorem dX0_not_72 : decode cX0_not 72 = .ok (.dup, 1) := dk_89 (dk_at dksX0_not_3 0 rfl rfl)
theorem dX0_not_73 : decode cX0_not 73 = .ok (.iload_n 2, 1) := dk_28 (dk_at dksX0_not_3 1 rfl rfl)
theorem dX0_not_74 : decode cX0_not 74 = .ok (.aload_n 1, 1) := dk_43 (dk_at dksX0_not_3 2 rfl rfl)
theorem dX0_not_75 : decode cX0_not 75 = .ok (.aload_n 0, 1) := dk_42 (dk_at dksX0_not_3 3 rfl rfl)
theorem dX0_not_76 : decode cX0_not 76 = .ok (.invokevirtual 207, 3) := dk_182 0 207 (dk_at dksX0_not_3 4 rfl rfl)
theorem dX0_not_79 : decode cX0_not 79 = .ok (.invokespecial 193, 3) := dk_183 0 193 (dk_at dksX0_not_3 7 rfl rfl)
theorem dX0_not_82 : decode cX0_not 82 = .ok (.astore_n 1, 1) := dk_76 (dk_at dksX0_not_3 10 rfl rfl)
theorem dX0_not_83 : decode cX0_not 83 = .ok (.aload_n 1, 1) := dk_43 (dk_at dksX0_not_3 11 rfl rfl)
theorem dX0_not_84 : decode cX0_not 84 = .ok (.areturn, 1) := dk_176 (dk_at dksX0_not_3 12 rfl rfl)
abbrev cX0_openOne : ByteArray := prog_1_method_24_code
def yX0_openOne : MethodName := ⟨RX0, "openOne", "()V"⟩
def dkwX0_openOne_1 : List UInt8 := [181, 0, 177, 177]
abbrev dktX0_openOne_1 : List UInt8 := dkwX0_openOne_1 ++ []
def dkwX0_openOne_0 : List UInt8 := [42, 42, 180, 0, 177, 8, 162, 0, 7, 4, 167, 0, 4, 3, 182, 0, 180, 42, 89, 180, 0, 177, 4, 96]
abbrev dktX0_openOne_0 : List UInt8 := dkwX0_openOne_0 ++ dktX0_openOne_1
theorem dksX0_openOne_0 : cX0_openOne.data.toList.drop 0 = dktX0_openOne_0 := by decide +kernel
theorem dksX0_openOne_1 : cX0_openOne.data.toList.drop 24 = dktX0_openOne_1 := dk_seg dksX0_openOne_0 24 rfl rfl
theorem dX0_openOne_0 : decode cX0_openOne 0 = .ok (.aload_n 0, 1) := dk_42 (dk_at dksX0_openOne_0 0 rfl rfl)
theorem dX0_openOne_1 : decode cX0_openOne 1 = .ok (.aload_n 0, 1) := dk_42 (dk_at dksX0_openOne_0 1 rfl rfl)
theorem dX0_openOne_2 : decode cX0_openOne 2 = .ok (.getfield 177, 3) := dk_180 0 177 (dk_at dksX0_openOne_0 2 rfl rfl)
theorem dX0_openOne_5 : decode cX0_openOne 5 = .ok (.iconst 5, 1) := dk_8 (dk_at dksX0_openOne_0 5 rfl rfl)
theorem dX0_openOne_6 : decode cX0_openOne 6 = .ok (.if_icmp .ge 7, 3) := dk_162 0 7 (dk_at dksX0_openOne_0 6 rfl rfl)
theorem dX0_openOne_9 : decode cX0_openOne 9 = .ok (.iconst 1, 1) := dk_4 (dk_at dksX0_openOne_0 9 rfl rfl)
theorem dX0_openOne_10 : decode cX0_openOne 10 = .ok (.goto 4, 3) := dk_167 0 4 (dk_at dksX0_openOne_0 10 rfl rfl)
theorem dX0_openOne_13 : decode cX0_openOne 13 = .ok (.iconst 0, 1) := dk_3 (dk_at dksX0_openOne_0 13 rfl rfl)
theorem dX0_openOne_14 : decode cX0_openOne 14 = .ok (.invokevirtual 180, 3) := dk_182 0 180 (dk_at dksX0_openOne_0 14 rfl rfl)
theorem dX0_openOne_17 : decode cX0_openOne 17 = .ok (.aload_n 0, 1) := dk_42 (dk_at dksX0_openOne_0 17 rfl rfl)
theorem dX0_openOne_18 : decode cX0_openOne 18 = .ok (.dup, 1) := dk_89 (dk_at dksX0_openOne_0 18 rfl rfl)
theorem dX0_openOne_19 : decode cX0_openOne 19 = .ok (.getfield 177, 3) := dk_180 0 177 (dk_at dksX0_openOne_0 19 rfl rfl)
theorem dX0_openOne_22 : decode cX0_openOne 22 = .ok (.iconst 1, 1) := dk_4 (dk_at dksX0_openOne_0 22 rfl rfl)
theorem dX0_openOne_23 : decode cX0_openOne 23 = .ok (.iadd, 1) := dk_96 (dk_at dksX0_openOne_0 23 rfl rfl)
theorem dX0_openOne_24 : decode cX0_openOne 24 = .ok (.putfield 177, 3) := dk_181 0 177 (dk_at dksX0_openOne_1 0 rfl rfl)
theorem dX0_openOne_27 : decode cX0_openOne 27 = .ok (.return_, 1) := dk_177 (dk_at dksX0_openOne_1 3 rfl rfl)
abbrev cX0_plus : ByteArray := prog_1_method_28_code
def yX0_plus : MethodName := ⟨RX0, "plus", "()LWalkingStones$Node;"⟩
def dkwX0_plus_2 : List UInt8 := [167, 255, 215, 43, 176]
abbrev dktX0_plus_2 : List UInt8 := dkwX0_plus_2 ++ []
def dkwX0_plus_1 : List UInt8 := [180, 0, 142, 61, 42, 182, 0, 174, 187, 0, 191, 89, 28, 43, 42, 182, 0, 213, 183, 0, 193, 76]
abbrev dktX0_plus_1 : List UInt8 := dkwX0_plus_1 ++ dktX0_plus_2
def dkwX0_plus_0 : List UInt8 := [42, 182, 0, 213, 76, 42, 16, 43, 182, 0, 210, 154, 0, 12, 42, 16, 45, 182, 0, 210, 153, 0, 29, 42]
abbrev dktX0_plus_0 : List UInt8 := dkwX0_plus_0 ++ dktX0_plus_1
theorem dksX0_plus_0 : cX0_plus.data.toList.drop 0 = dktX0_plus_0 := by decide +kernel
theorem dksX0_plus_1 : cX0_plus.data.toList.drop 24 = dktX0_plus_1 := dk_seg dksX0_plus_0 24 rfl rfl
theorem dksX0_plus_2 : cX0_plus.data.toList.drop 46 = dktX0_plus_2 := dk_seg dksX0_plus_1 22 rfl rfl
theorem dX0_plus_0 : decode cX0_plus 0 = .ok (.aload_n 0, 1) := dk_42 (dk_at dksX0_plus_0 0 rfl rfl)
theorem dX0_plus_1 : decode cX0_plus 1 = .ok (.invokevirtual 213, 3) := dk_182 0 213 (dk_at dksX0_plus_0 1 rfl rfl)
theorem dX0_plus_4 : decode cX0_plus 4 = .ok (.astore_n 1, 1) := dk_76 (dk_at dksX0_plus_0 4 rfl rfl)
theorem dX0_plus_5 : decode cX0_plus 5 = .ok (.aload_n 0, 1) := dk_42 (dk_at dksX0_plus_0 5 rfl rfl)
theorem dX0_plus_6 : decode cX0_plus 6 = .ok (.bipush 43, 2) := dk_16 43 (dk_at dksX0_plus_0 6 rfl rfl)
theorem dX0_plus_8 : decode cX0_plus 8 = .ok (.invokevirtual 210, 3) := dk_182 0 210 (dk_at dksX0_plus_0 8 rfl rfl)
theorem dX0_plus_11 : decode cX0_plus 11 = .ok (.ifCond .ne 12, 3) := dk_154 0 12 (dk_at dksX0_plus_0 11 rfl rfl)
theorem dX0_plus_14 : decode cX0_plus 14 = .ok (.aload_n 0, 1) := dk_42 (dk_at dksX0_plus_0 14 rfl rfl)
theorem dX0_plus_15 : decode cX0_plus 15 = .ok (.bipush 45, 2) := dk_16 45 (dk_at dksX0_plus_0 15 rfl rfl)
theorem dX0_plus_17 : decode cX0_plus 17 = .ok (.invokevirtual 210, 3) := dk_182 0 210 (dk_at dksX0_plus_0 17 rfl rfl)
theorem dX0_plus_20 : decode cX0_plus 20 = .ok (.ifCond .eq 29, 3) := dk_153 0 29 (dk_at dksX0_plus_0 20 rfl rfl)
theorem dX0_plus_23 : decode cX0_plus 23 = .ok (.aload_n 0, 1) := dk_42 (dk_at dksX0_plus_0 23 rfl rfl)
theorem dX0_plus_24 : decode cX0_plus 24 = .ok (.getfield 142, 3) := dk_180 0 142 (dk_at dksX0_plus_1 0 rfl rfl)
theorem dX0_plus_27 : decode cX0_plus 27 = .ok (.istore_n 2, 1) := dk_61 (dk_at dksX0_plus_1 3 rfl rfl)
theorem dX0_plus_28 : decode cX0_plus 28 = .ok (.aload_n 0, 1) := dk_42 (dk_at dksX0_plus_1 4 rfl rfl)
theorem dX0_plus_29 : decode cX0_plus 29 = .ok (.invokevirtual 174, 3) := dk_182 0 174 (dk_at dksX0_plus_1 5 rfl rfl)
theorem dX0_plus_32 : decode cX0_plus 32 = .ok (.new 191, 3) := dk_187 0 191 (dk_at dksX0_plus_1 8 rfl rfl)
theorem dX0_plus_35 : decode cX0_plus 35 = .ok (.dup, 1) := dk_89 (dk_at dksX0_plus_1 11 rfl rfl)
theorem dX0_plus_36 : decode cX0_plus 36 = .ok (.iload_n 2, 1) := dk_28 (dk_at dksX0_plus_1 12 rfl rfl)
theorem dX0_plus_37 : decode cX0_plus 37 = .ok (.aload_n 1, 1) := dk_43 (dk_at dksX0_plus_1 13 rfl rfl)
theorem dX0_plus_38 : decode cX0_plus 38 = .ok (.aload_n 0, 1) := dk_42 (dk_at dksX0_plus_1 14 rfl rfl)
theorem dX0_plus_39 : decode cX0_plus 39 = .ok (.invokevirtual 213, 3) := dk_182 0 213 (dk_at dksX0_plus_1 15 rfl rfl)
theorem dX0_plus_42 : decode cX0_plus 42 = .ok (.invokespecial 193, 3) := dk_183 0 193 (dk_at dksX0_plus_1 18 rfl rfl)
theorem dX0_plus_45 : decode cX0_plus 45 = .ok (.astore_n 1, 1) := dk_76 (dk_at dksX0_plus_1 21 rfl rfl)
theorem dX0_plus_46 : decode cX0_plus 46 = .ok (.goto (-41), 3) := dk_167 255 215 (dk_at dksX0_plus_2 0 rfl rfl)
theorem dX0_plus_49 : decode cX0_plus 49 = .ok (.aload_n 1, 1) := dk_43 (dk_at dksX0_plus_2 3 rfl rfl)
theorem dX0_plus_50 : decode cX0_plus 50 = .ok (.areturn, 1) := dk_176 (dk_at dksX0_plus_2 4 rfl rfl)
abbrev cX0_times : ByteArray := prog_1_method_29_code
def yX0_times : MethodName := ⟨RX0, "times", "()LWalkingStones$Node;"⟩
def dkwX0_times_1 : List UInt8 := [43, 42, 182, 0, 216, 183, 0, 193, 76, 167, 255, 228, 43, 176]
abbrev dktX0_times_1 : List UInt8 := dkwX0_times_1 ++ []
def dkwX0_times_0 : List UInt8 := [42, 182, 0, 216, 76, 42, 16, 42, 182, 0, 210, 153, 0, 25, 42, 182, 0, 174, 187, 0, 191, 89, 16, 42]
abbrev dktX0_times_0 : List UInt8 := dkwX0_times_0 ++ dktX0_times_1
theorem dksX0_times_0 : cX0_times.data.toList.drop 0 = dktX0_times_0 := by decide +kernel
theorem dksX0_times_1 : cX0_times.data.toList.drop 24 = dktX0_times_1 := dk_seg dksX0_times_0 24 rfl rfl
theorem dX0_times_0 : decode cX0_times 0 = .ok (.aload_n 0, 1) := dk_42 (dk_at dksX0_times_0 0 rfl rfl)
theorem dX0_times_1 : decode cX0_times 1 = .ok (.invokevirtual 216, 3) := dk_182 0 216 (dk_at dksX0_times_0 1 rfl rfl)
theorem dX0_times_4 : decode cX0_times 4 = .ok (.astore_n 1, 1) := dk_76 (dk_at dksX0_times_0 4 rfl rfl)
theorem dX0_times_5 : decode cX0_times 5 = .ok (.aload_n 0, 1) := dk_42 (dk_at dksX0_times_0 5 rfl rfl)
theorem dX0_times_6 : decode cX0_times 6 = .ok (.bipush 42, 2) := dk_16 42 (dk_at dksX0_times_0 6 rfl rfl)
theorem dX0_times_8 : decode cX0_times 8 = .ok (.invokevirtual 210, 3) := dk_182 0 210 (dk_at dksX0_times_0 8 rfl rfl)
theorem dX0_times_11 : decode cX0_times 11 = .ok (.ifCond .eq 25, 3) := dk_153 0 25 (dk_at dksX0_times_0 11 rfl rfl)
theorem dX0_times_14 : decode cX0_times 14 = .ok (.aload_n 0, 1) := dk_42 (dk_at dksX0_times_0 14 rfl rfl)
theorem dX0_times_15 : decode cX0_times 15 = .ok (.invokevirtual 174, 3) := dk_182 0 174 (dk_at dksX0_times_0 15 rfl rfl)
theorem dX0_times_18 : decode cX0_times 18 = .ok (.new 191, 3) := dk_187 0 191 (dk_at dksX0_times_0 18 rfl rfl)
theorem dX0_times_21 : decode cX0_times 21 = .ok (.dup, 1) := dk_89 (dk_at dksX0_times_0 21 rfl rfl)
theorem dX0_times_22 : decode cX0_times 22 = .ok (.bipush 42, 2) := dk_16 42 (dk_at dksX0_times_0 22 rfl rfl)
theorem dX0_times_24 : decode cX0_times 24 = .ok (.aload_n 1, 1) := dk_43 (dk_at dksX0_times_1 0 rfl rfl)
theorem dX0_times_25 : decode cX0_times 25 = .ok (.aload_n 0, 1) := dk_42 (dk_at dksX0_times_1 1 rfl rfl)
theorem dX0_times_26 : decode cX0_times 26 = .ok (.invokevirtual 216, 3) := dk_182 0 216 (dk_at dksX0_times_1 2 rfl rfl)
theorem dX0_times_29 : decode cX0_times 29 = .ok (.invokespecial 193, 3) := dk_183 0 193 (dk_at dksX0_times_1 5 rfl rfl)
theorem dX0_times_32 : decode cX0_times 32 = .ok (.astore_n 1, 1) := dk_76 (dk_at dksX0_times_1 8 rfl rfl)
theorem dX0_times_33 : decode cX0_times 33 = .ok (.goto (-28), 3) := dk_167 255 228 (dk_at dksX0_times_1 9 rfl rfl)
theorem dX0_times_36 : decode cX0_times 36 = .ok (.aload_n 1, 1) := dk_43 (dk_at dksX0_times_1 12 rfl rfl)
theorem dX0_times_37 : decode cX0_times 37 = .ok (.areturn, 1) := dk_176 (dk_at dksX0_times_1 13 rfl rfl)
abbrev cX0_one : ByteArray := prog_1_method_30_code
def yX0_one : MethodName := ⟨RX0, "one", "()LWalkingStones$Node;"⟩
def dkwX0_one_5 : List UInt8 := [154, 0, 8, 42, 180, 0, 152, 191, 42, 89, 180, 0, 177, 4, 100, 181, 0, 177, 42, 182, 0, 174, 44, 176]
abbrev dktX0_one_5 : List UInt8 := dkwX0_one_5 ++ []
def dkwX0_one_4 : List UInt8 := [154, 0, 8, 42, 180, 0, 152, 191, 42, 182, 0, 199, 42, 182, 0, 227, 77, 42, 16, 41, 182, 0, 210]
abbrev dktX0_one_4 : List UInt8 := dkwX0_one_4 ++ dktX0_one_5
def dkwX0_one_3 : List UInt8 := [180, 0, 177, 4, 100, 181, 0, 177, 187, 0, 202, 89, 44, 4, 183, 0, 204, 176, 42, 16, 40, 182, 0, 210]
abbrev dktX0_one_3 : List UInt8 := dkwX0_one_3 ++ dktX0_one_4
def dkwX0_one_2 : List UInt8 := [183, 0, 226, 176, 42, 16, 45, 182, 0, 210, 153, 0, 32, 42, 182, 0, 199, 42, 182, 0, 216, 77, 42, 89]
abbrev dktX0_one_2 : List UInt8 := dkwX0_one_2 ++ dktX0_one_3
def dkwX0_one_1 : List UInt8 := [183, 0, 221, 176, 42, 180, 0, 126, 5, 160, 0, 17, 42, 182, 0, 174, 187, 0, 224, 89, 42, 27]
abbrev dktX0_one_1 : List UInt8 := dkwX0_one_1 ++ dktX0_one_2
def dkwX0_one_0 : List UInt8 := [42, 180, 0, 142, 60, 42, 180, 0, 126, 6, 160, 0, 16, 42, 182, 0, 174, 187, 0, 219, 89, 27]
abbrev dktX0_one_0 : List UInt8 := dkwX0_one_0 ++ dktX0_one_1
theorem dksX0_one_0 : cX0_one.data.toList.drop 0 = dktX0_one_0 := by decide +kernel
theorem dksX0_one_1 : cX0_one.data.toList.drop 22 = dktX0_one_1 := dk_seg dksX0_one_0 22 rfl rfl
theorem dksX0_one_2 : cX0_one.data.toList.drop 44 = dktX0_one_2 := dk_seg dksX0_one_1 22 rfl rfl
theorem dksX0_one_3 : cX0_one.data.toList.drop 68 = dktX0_one_3 := dk_seg dksX0_one_2 24 rfl rfl
theorem dksX0_one_4 : cX0_one.data.toList.drop 92 = dktX0_one_4 := dk_seg dksX0_one_3 24 rfl rfl
theorem dksX0_one_5 : cX0_one.data.toList.drop 115 = dktX0_one_5 := dk_seg dksX0_one_4 23 rfl rfl
theorem dX0_one_0 : decode cX0_one 0 = .ok (.aload_n 0, 1) := dk_42 (dk_at dksX0_one_0 0 rfl rfl)
theorem dX0_one_1 : decode cX0_one 1 = .ok (.getfield 142, 3) := dk_180 0 142 (dk_at dksX0_one_0 1 rfl rfl)
theorem dX0_one_4 : decode cX0_one 4 = .ok (.istore_n 1, 1) := dk_60 (dk_at dksX0_one_0 4 rfl rfl)
theorem dX0_one_5 : decode cX0_one 5 = .ok (.aload_n 0, 1) := dk_42 (dk_at dksX0_one_0 5 rfl rfl)
theorem dX0_one_6 : decode cX0_one 6 = .ok (.getfield 126, 3) := dk_180 0 126 (dk_at dksX0_one_0 6 rfl rfl)
theorem dX0_one_9 : decode cX0_one 9 = .ok (.iconst 3, 1) := dk_6 (dk_at dksX0_one_0 9 rfl rfl)
theorem dX0_one_10 : decode cX0_one 10 = .ok (.if_icmp .ne 16, 3) := dk_160 0 16 (dk_at dksX0_one_0 10 rfl rfl)
theorem dX0_one_13 : decode cX0_one 13 = .ok (.aload_n 0, 1) := dk_42 (dk_at dksX0_one_0 13 rfl rfl)
theorem dX0_one_14 : decode cX0_one 14 = .ok (.invokevirtual 174, 3) := dk_182 0 174 (dk_at dksX0_one_0 14 rfl rfl)
theorem dX0_one_17 : decode cX0_one 17 = .ok (.new 219, 3) := dk_187 0 219 (dk_at dksX0_one_0 17 rfl rfl)
theorem dX0_one_20 : decode cX0_one 20 = .ok (.dup, 1) := dk_89 (dk_at dksX0_one_0 20 rfl rfl)
theorem dX0_one_21 : decode cX0_one 21 = .ok (.iload_n 1, 1) := dk_27 (dk_at dksX0_one_0 21 rfl rfl)
theorem dX0_one_22 : decode cX0_one 22 = .ok (.invokespecial 221, 3) := dk_183 0 221 (dk_at dksX0_one_1 0 rfl rfl)
theorem dX0_one_25 : decode cX0_one 25 = .ok (.areturn, 1) := dk_176 (dk_at dksX0_one_1 3 rfl rfl)
theorem dX0_one_26 : decode cX0_one 26 = .ok (.aload_n 0, 1) := dk_42 (dk_at dksX0_one_1 4 rfl rfl)
theorem dX0_one_27 : decode cX0_one 27 = .ok (.getfield 126, 3) := dk_180 0 126 (dk_at dksX0_one_1 5 rfl rfl)
theorem dX0_one_30 : decode cX0_one 30 = .ok (.iconst 2, 1) := dk_5 (dk_at dksX0_one_1 8 rfl rfl)
theorem dX0_one_31 : decode cX0_one 31 = .ok (.if_icmp .ne 17, 3) := dk_160 0 17 (dk_at dksX0_one_1 9 rfl rfl)
theorem dX0_one_34 : decode cX0_one 34 = .ok (.aload_n 0, 1) := dk_42 (dk_at dksX0_one_1 12 rfl rfl)
theorem dX0_one_35 : decode cX0_one 35 = .ok (.invokevirtual 174, 3) := dk_182 0 174 (dk_at dksX0_one_1 13 rfl rfl)
theorem dX0_one_38 : decode cX0_one 38 = .ok (.new 224, 3) := dk_187 0 224 (dk_at dksX0_one_1 16 rfl rfl)
theorem dX0_one_41 : decode cX0_one 41 = .ok (.dup, 1) := dk_89 (dk_at dksX0_one_1 19 rfl rfl)
theorem dX0_one_42 : decode cX0_one 42 = .ok (.aload_n 0, 1) := dk_42 (dk_at dksX0_one_1 20 rfl rfl)
theorem dX0_one_43 : decode cX0_one 43 = .ok (.iload_n 1, 1) := dk_27 (dk_at dksX0_one_1 21 rfl rfl)
theorem dX0_one_44 : decode cX0_one 44 = .ok (.invokespecial 226, 3) := dk_183 0 226 (dk_at dksX0_one_2 0 rfl rfl)
theorem dX0_one_47 : decode cX0_one 47 = .ok (.areturn, 1) := dk_176 (dk_at dksX0_one_2 3 rfl rfl)
theorem dX0_one_48 : decode cX0_one 48 = .ok (.aload_n 0, 1) := dk_42 (dk_at dksX0_one_2 4 rfl rfl)
theorem dX0_one_49 : decode cX0_one 49 = .ok (.bipush 45, 2) := dk_16 45 (dk_at dksX0_one_2 5 rfl rfl)
theorem dX0_one_51 : decode cX0_one 51 = .ok (.invokevirtual 210, 3) := dk_182 0 210 (dk_at dksX0_one_2 7 rfl rfl)
theorem dX0_one_54 : decode cX0_one 54 = .ok (.ifCond .eq 32, 3) := dk_153 0 32 (dk_at dksX0_one_2 10 rfl rfl)
theorem dX0_one_57 : decode cX0_one 57 = .ok (.aload_n 0, 1) := dk_42 (dk_at dksX0_one_2 13 rfl rfl)
theorem dX0_one_58 : decode cX0_one 58 = .ok (.invokevirtual 199, 3) := dk_182 0 199 (dk_at dksX0_one_2 14 rfl rfl)
theorem dX0_one_61 : decode cX0_one 61 = .ok (.aload_n 0, 1) := dk_42 (dk_at dksX0_one_2 17 rfl rfl)
theorem dX0_one_62 : decode cX0_one 62 = .ok (.invokevirtual 216, 3) := dk_182 0 216 (dk_at dksX0_one_2 18 rfl rfl)
theorem dX0_one_65 : decode cX0_one 65 = .ok (.astore_n 2, 1) := dk_77 (dk_at dksX0_one_2 21 rfl rfl)
theorem dX0_one_66 : decode cX0_one 66 = .ok (.aload_n 0, 1) := dk_42 (dk_at dksX0_one_2 22 rfl rfl)
theorem dX0_one_67 : decode cX0_one 67 = .ok (.dup, 1) := dk_89 (dk_at dksX0_one_2 23 rfl rfl)
theorem dX0_one_68 : decode cX0_one 68 = .ok (.getfield 177, 3) := dk_180 0 177 (dk_at dksX0_one_3 0 rfl rfl)
theorem dX0_one_71 : decode cX0_one 71 = .ok (.iconst 1, 1) := dk_4 (dk_at dksX0_one_3 3 rfl rfl)
theorem dX0_one_72 : decode cX0_one 72 = .ok (.isub, 1) := dk_100 (dk_at dksX0_one_3 4 rfl rfl)
theorem dX0_one_73 : decode cX0_one 73 = .ok (.putfield 177, 3) := dk_181 0 177 (dk_at dksX0_one_3 5 rfl rfl)
theorem dX0_one_76 : decode cX0_one 76 = .ok (.new 202, 3) := dk_187 0 202 (dk_at dksX0_one_3 8 rfl rfl)
theorem dX0_one_79 : decode cX0_one 79 = .ok (.dup, 1) := dk_89 (dk_at dksX0_one_3 11 rfl rfl)
theorem dX0_one_80 : decode cX0_one 80 = .ok (.aload_n 2, 1) := dk_44 (dk_at dksX0_one_3 12 rfl rfl)
theorem dX0_one_81 : decode cX0_one 81 = .ok (.iconst 1, 1) := dk_4 (dk_at dksX0_one_3 13 rfl rfl)
theorem dX0_one_82 : decode cX0_one 82 = .ok (.invokespecial 204, 3) := dk_183 0 204 (dk_at dksX0_one_3 14 rfl rfl)
theorem dX0_one_85 : decode cX0_one 85 = .ok (.areturn, 1) := dk_176 (dk_at dksX0_one_3 17 rfl rfl)
theorem dX0_one_86 : decode cX0_one 86 = .ok (.aload_n 0, 1) := dk_42 (dk_at dksX0_one_3 18 rfl rfl)
theorem dX0_one_87 : decode cX0_one 87 = .ok (.bipush 40, 2) := dk_16 40 (dk_at dksX0_one_3 19 rfl rfl)
theorem dX0_one_89 : decode cX0_one 89 = .ok (.invokevirtual 210, 3) := dk_182 0 210 (dk_at dksX0_one_3 21 rfl rfl)
theorem dX0_one_92 : decode cX0_one 92 = .ok (.ifCond .ne 8, 3) := dk_154 0 8 (dk_at dksX0_one_4 0 rfl rfl)
theorem dX0_one_95 : decode cX0_one 95 = .ok (.aload_n 0, 1) := dk_42 (dk_at dksX0_one_4 3 rfl rfl)
theorem dX0_one_96 : decode cX0_one 96 = .ok (.getfield 152, 3) := dk_180 0 152 (dk_at dksX0_one_4 4 rfl rfl)
theorem dX0_one_99 : decode cX0_one 99 = .ok (.athrow, 1) := dk_191 (dk_at dksX0_one_4 7 rfl rfl)
theorem dX0_one_100 : decode cX0_one 100 = .ok (.aload_n 0, 1) := dk_42 (dk_at dksX0_one_4 8 rfl rfl)
theorem dX0_one_101 : decode cX0_one 101 = .ok (.invokevirtual 199, 3) := dk_182 0 199 (dk_at dksX0_one_4 9 rfl rfl)
theorem dX0_one_104 : decode cX0_one 104 = .ok (.aload_n 0, 1) := dk_42 (dk_at dksX0_one_4 12 rfl rfl)
theorem dX0_one_105 : decode cX0_one 105 = .ok (.invokevirtual 227, 3) := dk_182 0 227 (dk_at dksX0_one_4 13 rfl rfl)
theorem dX0_one_108 : decode cX0_one 108 = .ok (.astore_n 2, 1) := dk_77 (dk_at dksX0_one_4 16 rfl rfl)
theorem dX0_one_109 : decode cX0_one 109 = .ok (.aload_n 0, 1) := dk_42 (dk_at dksX0_one_4 17 rfl rfl)
theorem dX0_one_110 : decode cX0_one 110 = .ok (.bipush 41, 2) := dk_16 41 (dk_at dksX0_one_4 18 rfl rfl)
theorem dX0_one_112 : decode cX0_one 112 = .ok (.invokevirtual 210, 3) := dk_182 0 210 (dk_at dksX0_one_4 20 rfl rfl)
theorem dX0_one_115 : decode cX0_one 115 = .ok (.ifCond .ne 8, 3) := dk_154 0 8 (dk_at dksX0_one_5 0 rfl rfl)
theorem dX0_one_118 : decode cX0_one 118 = .ok (.aload_n 0, 1) := dk_42 (dk_at dksX0_one_5 3 rfl rfl)
theorem dX0_one_119 : decode cX0_one 119 = .ok (.getfield 152, 3) := dk_180 0 152 (dk_at dksX0_one_5 4 rfl rfl)
theorem dX0_one_122 : decode cX0_one 122 = .ok (.athrow, 1) := dk_191 (dk_at dksX0_one_5 7 rfl rfl)
theorem dX0_one_123 : decode cX0_one 123 = .ok (.aload_n 0, 1) := dk_42 (dk_at dksX0_one_5 8 rfl rfl)
theorem dX0_one_124 : decode cX0_one 124 = .ok (.dup, 1) := dk_89 (dk_at dksX0_one_5 9 rfl rfl)
theorem dX0_one_125 : decode cX0_one 125 = .ok (.getfield 177, 3) := dk_180 0 177 (dk_at dksX0_one_5 10 rfl rfl)
theorem dX0_one_128 : decode cX0_one 128 = .ok (.iconst 1, 1) := dk_4 (dk_at dksX0_one_5 13 rfl rfl)
theorem dX0_one_129 : decode cX0_one 129 = .ok (.isub, 1) := dk_100 (dk_at dksX0_one_5 14 rfl rfl)
theorem dX0_one_130 : decode cX0_one 130 = .ok (.putfield 177, 3) := dk_181 0 177 (dk_at dksX0_one_5 15 rfl rfl)
theorem dX0_one_133 : decode cX0_one 133 = .ok (.aload_n 0, 1) := dk_42 (dk_at dksX0_one_5 18 rfl rfl)
theorem dX0_one_134 : decode cX0_one 134 = .ok (.invokevirtual 174, 3) := dk_182 0 174 (dk_at dksX0_one_5 19 rfl rfl)
theorem dX0_one_137 : decode cX0_one 137 = .ok (.aload_n 2, 1) := dk_44 (dk_at dksX0_one_5 22 rfl rfl)
theorem dX0_one_138 : decode cX0_one 138 = .ok (.areturn, 1) := dk_176 (dk_at dksX0_one_5 23 rfl rfl)
abbrev cX0_isSign : ByteArray := prog_1_method_21_code
def yX0_isSign : MethodName := ⟨RX0, "isSign", "(I)Z"⟩
def dkwX0_isSign_0 : List UInt8 := [42, 180, 0, 126, 7, 160, 0, 15, 42, 180, 0, 142, 27, 160, 0, 7, 4, 167, 0, 4, 3, 172]
abbrev dktX0_isSign_0 : List UInt8 := dkwX0_isSign_0 ++ []
theorem dksX0_isSign_0 : cX0_isSign.data.toList.drop 0 = dktX0_isSign_0 := by decide +kernel
theorem dX0_isSign_0 : decode cX0_isSign 0 = .ok (.aload_n 0, 1) := dk_42 (dk_at dksX0_isSign_0 0 rfl rfl)
theorem dX0_isSign_1 : decode cX0_isSign 1 = .ok (.getfield 126, 3) := dk_180 0 126 (dk_at dksX0_isSign_0 1 rfl rfl)
theorem dX0_isSign_4 : decode cX0_isSign 4 = .ok (.iconst 4, 1) := dk_7 (dk_at dksX0_isSign_0 4 rfl rfl)
theorem dX0_isSign_5 : decode cX0_isSign 5 = .ok (.if_icmp .ne 15, 3) := dk_160 0 15 (dk_at dksX0_isSign_0 5 rfl rfl)
theorem dX0_isSign_8 : decode cX0_isSign 8 = .ok (.aload_n 0, 1) := dk_42 (dk_at dksX0_isSign_0 8 rfl rfl)
theorem dX0_isSign_9 : decode cX0_isSign 9 = .ok (.getfield 142, 3) := dk_180 0 142 (dk_at dksX0_isSign_0 9 rfl rfl)
theorem dX0_isSign_12 : decode cX0_isSign 12 = .ok (.iload_n 1, 1) := dk_27 (dk_at dksX0_isSign_0 12 rfl rfl)
theorem dX0_isSign_13 : decode cX0_isSign 13 = .ok (.if_icmp .ne 7, 3) := dk_160 0 7 (dk_at dksX0_isSign_0 13 rfl rfl)
theorem dX0_isSign_16 : decode cX0_isSign 16 = .ok (.iconst 1, 1) := dk_4 (dk_at dksX0_isSign_0 16 rfl rfl)
theorem dX0_isSign_17 : decode cX0_isSign 17 = .ok (.goto 4, 3) := dk_167 0 4 (dk_at dksX0_isSign_0 17 rfl rfl)
theorem dX0_isSign_20 : decode cX0_isSign 20 = .ok (.iconst 0, 1) := dk_3 (dk_at dksX0_isSign_0 20 rfl rfl)
theorem dX0_isSign_21 : decode cX0_isSign 21 = .ok (.ireturn, 1) := dk_172 (dk_at dksX0_isSign_0 21 rfl rfl)
abbrev cX0_init : ByteArray := prog_1_method_36_code
def yX0_init : MethodName := ⟨RX0, "<init>", "()V"⟩
def dkwX0_init_14 : List UInt8 := [177]
abbrev dktX0_init_14 : List UInt8 := dkwX0_init_14 ++ []
def dkwX0_init_13 : List UInt8 := [183, 1, 58, 83, 89, 6, 187, 1, 56, 89, 183, 1, 58, 83, 181, 1, 59, 42, 19, 1, 63, 182, 1, 65]
abbrev dktX0_init_13 : List UInt8 := dkwX0_init_13 ++ dktX0_init_14
def dkwX0_init_12 : List UInt8 := [187, 1, 56, 89, 183, 1, 58, 83, 89, 4, 187, 1, 56, 89, 183, 1, 58, 83, 89, 5, 187, 1, 56, 89]
abbrev dktX0_init_12 : List UInt8 := dkwX0_init_12 ++ dktX0_init_13
def dkwX0_init_11 : List UInt8 := [42, 16, 12, 188, 10, 181, 1, 50, 42, 16, 10, 188, 10, 181, 1, 53, 42, 7, 189, 1, 56, 89, 3]
abbrev dktX0_init_11 : List UInt8 := dkwX0_init_11 ++ dktX0_init_12
def dkwX0_init_10 : List UInt8 := [42, 16, 8, 188, 10, 181, 1, 41, 42, 16, 20, 188, 10, 181, 1, 44, 42, 16, 20, 188, 10, 181, 1, 47]
abbrev dktX0_init_10 : List UInt8 := dkwX0_init_10 ++ dktX0_init_11
def dkwX0_init_9 : List UInt8 := [42, 16, 24, 188, 10, 181, 1, 32, 42, 16, 24, 188, 10, 181, 1, 35, 42, 16, 24, 188, 10, 181, 1, 38]
abbrev dktX0_init_9 : List UInt8 := dkwX0_init_9 ++ dktX0_init_10
def dkwX0_init_8 : List UInt8 := [42, 16, 10, 188, 10, 181, 1, 23, 42, 16, 10, 188, 10, 181, 1, 26, 42, 16, 10, 188, 10, 181, 1, 29]
abbrev dktX0_init_8 : List UInt8 := dkwX0_init_8 ++ dktX0_init_9
def dkwX0_init_7 : List UInt8 := [19, 1, 18, 83, 181, 0, 171, 42, 17, 0, 160, 188, 8, 181, 0, 105, 42, 16, 10, 188, 10, 181, 1, 20]
abbrev dktX0_init_7 : List UInt8 := dkwX0_init_7 ++ dktX0_init_8
def dkwX0_init_6 : List UInt8 := [19, 1, 13, 83, 89, 5, 19, 1, 14, 83, 89, 6, 19, 1, 15, 83, 89, 7, 19, 1, 16, 83, 89, 8]
abbrev dktX0_init_6 : List UInt8 := dkwX0_init_6 ++ dktX0_init_7
def dkwX0_init_5 : List UInt8 := [89, 8, 19, 1, 10, 83, 181, 0, 163, 42, 16, 6, 189, 0, 148, 89, 3, 19, 1, 11, 83, 89, 4]
abbrev dktX0_init_5 : List UInt8 := dkwX0_init_5 ++ dktX0_init_6
def dkwX0_init_4 : List UInt8 := [89, 4, 19, 1, 2, 83, 89, 5, 19, 1, 4, 83, 89, 6, 19, 1, 6, 83, 89, 7, 19, 1, 8, 83]
abbrev dktX0_init_4 : List UInt8 := dkwX0_init_4 ++ dktX0_init_5
def dkwX0_init_3 : List UInt8 := [181, 0, 152, 42, 16, 6, 189, 0, 254, 181, 0, 237, 42, 16, 6, 189, 0, 148, 89, 3, 19, 1, 0, 83]
abbrev dktX0_init_3 : List UInt8 := dkwX0_init_3 ++ dktX0_init_4
def dkwX0_init_2 : List UInt8 := [188, 10, 181, 0, 41, 42, 16, 8, 189, 0, 68, 181, 0, 75, 42, 187, 0, 235, 89, 183, 0, 253]
abbrev dktX0_init_2 : List UInt8 := dkwX0_init_2 ++ dktX0_init_3
def dkwX0_init_1 : List UInt8 := [188, 10, 181, 0, 32, 42, 16, 60, 188, 10, 181, 0, 35, 42, 16, 60, 188, 10, 181, 0, 38, 42, 16, 60]
abbrev dktX0_init_1 : List UInt8 := dkwX0_init_1 ++ dktX0_init_2
def dkwX0_init_0 : List UInt8 := [42, 183, 0, 249, 42, 16, 10, 188, 10, 181, 0, 29, 42, 16, 10, 188, 10, 181, 0, 16, 42, 16, 60]
abbrev dktX0_init_0 : List UInt8 := dkwX0_init_0 ++ dktX0_init_1
theorem dksX0_init_0 : cX0_init.data.toList.drop 0 = dktX0_init_0 := by decide +kernel
theorem dksX0_init_1 : cX0_init.data.toList.drop 23 = dktX0_init_1 := dk_seg dksX0_init_0 23 rfl rfl
theorem dksX0_init_2 : cX0_init.data.toList.drop 47 = dktX0_init_2 := dk_seg dksX0_init_1 24 rfl rfl
theorem dksX0_init_3 : cX0_init.data.toList.drop 69 = dktX0_init_3 := dk_seg dksX0_init_2 22 rfl rfl
theorem dksX0_init_4 : cX0_init.data.toList.drop 93 = dktX0_init_4 := dk_seg dksX0_init_3 24 rfl rfl
theorem dksX0_init_5 : cX0_init.data.toList.drop 117 = dktX0_init_5 := dk_seg dksX0_init_4 24 rfl rfl
theorem dksX0_init_6 : cX0_init.data.toList.drop 140 = dktX0_init_6 := dk_seg dksX0_init_5 23 rfl rfl
theorem dksX0_init_7 : cX0_init.data.toList.drop 164 = dktX0_init_7 := dk_seg dksX0_init_6 24 rfl rfl
theorem dksX0_init_8 : cX0_init.data.toList.drop 188 = dktX0_init_8 := dk_seg dksX0_init_7 24 rfl rfl
theorem dksX0_init_9 : cX0_init.data.toList.drop 212 = dktX0_init_9 := dk_seg dksX0_init_8 24 rfl rfl
theorem dksX0_init_10 : cX0_init.data.toList.drop 236 = dktX0_init_10 := dk_seg dksX0_init_9 24 rfl rfl
theorem dksX0_init_11 : cX0_init.data.toList.drop 260 = dktX0_init_11 := dk_seg dksX0_init_10 24 rfl rfl
theorem dksX0_init_12 : cX0_init.data.toList.drop 283 = dktX0_init_12 := dk_seg dksX0_init_11 23 rfl rfl
theorem dksX0_init_13 : cX0_init.data.toList.drop 307 = dktX0_init_13 := dk_seg dksX0_init_12 24 rfl rfl
theorem dksX0_init_14 : cX0_init.data.toList.drop 331 = dktX0_init_14 := dk_seg dksX0_init_13 24 rfl rfl
theorem dX0_init_0 : decode cX0_init 0 = .ok (.aload_n 0, 1) := dk_42 (dk_at dksX0_init_0 0 rfl rfl)
theorem dX0_init_1 : decode cX0_init 1 = .ok (.invokespecial 249, 3) := dk_183 0 249 (dk_at dksX0_init_0 1 rfl rfl)
theorem dX0_init_4 : decode cX0_init 4 = .ok (.aload_n 0, 1) := dk_42 (dk_at dksX0_init_0 4 rfl rfl)
theorem dX0_init_5 : decode cX0_init 5 = .ok (.bipush 10, 2) := dk_16 10 (dk_at dksX0_init_0 5 rfl rfl)
theorem dX0_init_7 : decode cX0_init 7 = .ok (.newarray .int, 2) := dk_188_10 (dk_at dksX0_init_0 7 rfl rfl)
theorem dX0_init_9 : decode cX0_init 9 = .ok (.putfield 29, 3) := dk_181 0 29 (dk_at dksX0_init_0 9 rfl rfl)
theorem dX0_init_12 : decode cX0_init 12 = .ok (.aload_n 0, 1) := dk_42 (dk_at dksX0_init_0 12 rfl rfl)
theorem dX0_init_13 : decode cX0_init 13 = .ok (.bipush 10, 2) := dk_16 10 (dk_at dksX0_init_0 13 rfl rfl)
theorem dX0_init_15 : decode cX0_init 15 = .ok (.newarray .int, 2) := dk_188_10 (dk_at dksX0_init_0 15 rfl rfl)
theorem dX0_init_17 : decode cX0_init 17 = .ok (.putfield 16, 3) := dk_181 0 16 (dk_at dksX0_init_0 17 rfl rfl)
theorem dX0_init_20 : decode cX0_init 20 = .ok (.aload_n 0, 1) := dk_42 (dk_at dksX0_init_0 20 rfl rfl)
theorem dX0_init_21 : decode cX0_init 21 = .ok (.bipush 60, 2) := dk_16 60 (dk_at dksX0_init_0 21 rfl rfl)
theorem dX0_init_23 : decode cX0_init 23 = .ok (.newarray .int, 2) := dk_188_10 (dk_at dksX0_init_1 0 rfl rfl)
theorem dX0_init_25 : decode cX0_init 25 = .ok (.putfield 32, 3) := dk_181 0 32 (dk_at dksX0_init_1 2 rfl rfl)
theorem dX0_init_28 : decode cX0_init 28 = .ok (.aload_n 0, 1) := dk_42 (dk_at dksX0_init_1 5 rfl rfl)
theorem dX0_init_29 : decode cX0_init 29 = .ok (.bipush 60, 2) := dk_16 60 (dk_at dksX0_init_1 6 rfl rfl)
theorem dX0_init_31 : decode cX0_init 31 = .ok (.newarray .int, 2) := dk_188_10 (dk_at dksX0_init_1 8 rfl rfl)
theorem dX0_init_33 : decode cX0_init 33 = .ok (.putfield 35, 3) := dk_181 0 35 (dk_at dksX0_init_1 10 rfl rfl)
theorem dX0_init_36 : decode cX0_init 36 = .ok (.aload_n 0, 1) := dk_42 (dk_at dksX0_init_1 13 rfl rfl)
theorem dX0_init_37 : decode cX0_init 37 = .ok (.bipush 60, 2) := dk_16 60 (dk_at dksX0_init_1 14 rfl rfl)
theorem dX0_init_39 : decode cX0_init 39 = .ok (.newarray .int, 2) := dk_188_10 (dk_at dksX0_init_1 16 rfl rfl)
theorem dX0_init_41 : decode cX0_init 41 = .ok (.putfield 38, 3) := dk_181 0 38 (dk_at dksX0_init_1 18 rfl rfl)
theorem dX0_init_44 : decode cX0_init 44 = .ok (.aload_n 0, 1) := dk_42 (dk_at dksX0_init_1 21 rfl rfl)
theorem dX0_init_45 : decode cX0_init 45 = .ok (.bipush 60, 2) := dk_16 60 (dk_at dksX0_init_1 22 rfl rfl)
theorem dX0_init_47 : decode cX0_init 47 = .ok (.newarray .int, 2) := dk_188_10 (dk_at dksX0_init_2 0 rfl rfl)
theorem dX0_init_49 : decode cX0_init 49 = .ok (.putfield 41, 3) := dk_181 0 41 (dk_at dksX0_init_2 2 rfl rfl)
theorem dX0_init_52 : decode cX0_init 52 = .ok (.aload_n 0, 1) := dk_42 (dk_at dksX0_init_2 5 rfl rfl)
theorem dX0_init_53 : decode cX0_init 53 = .ok (.bipush 8, 2) := dk_16 8 (dk_at dksX0_init_2 6 rfl rfl)
theorem dX0_init_55 : decode cX0_init 55 = .ok (.anewarray 68, 3) := dk_189 0 68 (dk_at dksX0_init_2 8 rfl rfl)
theorem dX0_init_58 : decode cX0_init 58 = .ok (.putfield 75, 3) := dk_181 0 75 (dk_at dksX0_init_2 11 rfl rfl)
theorem dX0_init_61 : decode cX0_init 61 = .ok (.aload_n 0, 1) := dk_42 (dk_at dksX0_init_2 14 rfl rfl)
theorem dX0_init_62 : decode cX0_init 62 = .ok (.new 235, 3) := dk_187 0 235 (dk_at dksX0_init_2 15 rfl rfl)
theorem dX0_init_65 : decode cX0_init 65 = .ok (.dup, 1) := dk_89 (dk_at dksX0_init_2 18 rfl rfl)
theorem dX0_init_66 : decode cX0_init 66 = .ok (.invokespecial 253, 3) := dk_183 0 253 (dk_at dksX0_init_2 19 rfl rfl)
theorem dX0_init_69 : decode cX0_init 69 = .ok (.putfield 152, 3) := dk_181 0 152 (dk_at dksX0_init_3 0 rfl rfl)
theorem dX0_init_72 : decode cX0_init 72 = .ok (.aload_n 0, 1) := dk_42 (dk_at dksX0_init_3 3 rfl rfl)
theorem dX0_init_73 : decode cX0_init 73 = .ok (.bipush 6, 2) := dk_16 6 (dk_at dksX0_init_3 4 rfl rfl)
theorem dX0_init_75 : decode cX0_init 75 = .ok (.anewarray 254, 3) := dk_189 0 254 (dk_at dksX0_init_3 6 rfl rfl)
theorem dX0_init_78 : decode cX0_init 78 = .ok (.putfield 237, 3) := dk_181 0 237 (dk_at dksX0_init_3 9 rfl rfl)
theorem dX0_init_81 : decode cX0_init 81 = .ok (.aload_n 0, 1) := dk_42 (dk_at dksX0_init_3 12 rfl rfl)
theorem dX0_init_82 : decode cX0_init 82 = .ok (.bipush 6, 2) := dk_16 6 (dk_at dksX0_init_3 13 rfl rfl)
theorem dX0_init_84 : decode cX0_init 84 = .ok (.anewarray 148, 3) := dk_189 0 148 (dk_at dksX0_init_3 15 rfl rfl)
theorem dX0_init_87 : decode cX0_init 87 = .ok (.dup, 1) := dk_89 (dk_at dksX0_init_3 18 rfl rfl)
theorem dX0_init_88 : decode cX0_init 88 = .ok (.iconst 0, 1) := dk_3 (dk_at dksX0_init_3 19 rfl rfl)
theorem dX0_init_89 : decode cX0_init 89 = .ok (.ldc_w 256, 3) := dk_19 1 0 (dk_at dksX0_init_3 20 rfl rfl)
theorem dX0_init_92 : decode cX0_init 92 = .ok (.aastore, 1) := dk_83 (dk_at dksX0_init_3 23 rfl rfl)
theorem dX0_init_93 : decode cX0_init 93 = .ok (.dup, 1) := dk_89 (dk_at dksX0_init_4 0 rfl rfl)
theorem dX0_init_94 : decode cX0_init 94 = .ok (.iconst 1, 1) := dk_4 (dk_at dksX0_init_4 1 rfl rfl)
theorem dX0_init_95 : decode cX0_init 95 = .ok (.ldc_w 258, 3) := dk_19 1 2 (dk_at dksX0_init_4 2 rfl rfl)
theorem dX0_init_98 : decode cX0_init 98 = .ok (.aastore, 1) := dk_83 (dk_at dksX0_init_4 5 rfl rfl)
theorem dX0_init_99 : decode cX0_init 99 = .ok (.dup, 1) := dk_89 (dk_at dksX0_init_4 6 rfl rfl)
theorem dX0_init_100 : decode cX0_init 100 = .ok (.iconst 2, 1) := dk_5 (dk_at dksX0_init_4 7 rfl rfl)
theorem dX0_init_101 : decode cX0_init 101 = .ok (.ldc_w 260, 3) := dk_19 1 4 (dk_at dksX0_init_4 8 rfl rfl)
theorem dX0_init_104 : decode cX0_init 104 = .ok (.aastore, 1) := dk_83 (dk_at dksX0_init_4 11 rfl rfl)
theorem dX0_init_105 : decode cX0_init 105 = .ok (.dup, 1) := dk_89 (dk_at dksX0_init_4 12 rfl rfl)
theorem dX0_init_106 : decode cX0_init 106 = .ok (.iconst 3, 1) := dk_6 (dk_at dksX0_init_4 13 rfl rfl)
theorem dX0_init_107 : decode cX0_init 107 = .ok (.ldc_w 262, 3) := dk_19 1 6 (dk_at dksX0_init_4 14 rfl rfl)
theorem dX0_init_110 : decode cX0_init 110 = .ok (.aastore, 1) := dk_83 (dk_at dksX0_init_4 17 rfl rfl)
theorem dX0_init_111 : decode cX0_init 111 = .ok (.dup, 1) := dk_89 (dk_at dksX0_init_4 18 rfl rfl)
theorem dX0_init_112 : decode cX0_init 112 = .ok (.iconst 4, 1) := dk_7 (dk_at dksX0_init_4 19 rfl rfl)
theorem dX0_init_113 : decode cX0_init 113 = .ok (.ldc_w 264, 3) := dk_19 1 8 (dk_at dksX0_init_4 20 rfl rfl)
theorem dX0_init_116 : decode cX0_init 116 = .ok (.aastore, 1) := dk_83 (dk_at dksX0_init_4 23 rfl rfl)
theorem dX0_init_117 : decode cX0_init 117 = .ok (.dup, 1) := dk_89 (dk_at dksX0_init_5 0 rfl rfl)
theorem dX0_init_118 : decode cX0_init 118 = .ok (.iconst 5, 1) := dk_8 (dk_at dksX0_init_5 1 rfl rfl)
theorem dX0_init_119 : decode cX0_init 119 = .ok (.ldc_w 266, 3) := dk_19 1 10 (dk_at dksX0_init_5 2 rfl rfl)
theorem dX0_init_122 : decode cX0_init 122 = .ok (.aastore, 1) := dk_83 (dk_at dksX0_init_5 5 rfl rfl)
theorem dX0_init_123 : decode cX0_init 123 = .ok (.putfield 163, 3) := dk_181 0 163 (dk_at dksX0_init_5 6 rfl rfl)
theorem dX0_init_126 : decode cX0_init 126 = .ok (.aload_n 0, 1) := dk_42 (dk_at dksX0_init_5 9 rfl rfl)
theorem dX0_init_127 : decode cX0_init 127 = .ok (.bipush 6, 2) := dk_16 6 (dk_at dksX0_init_5 10 rfl rfl)
theorem dX0_init_129 : decode cX0_init 129 = .ok (.anewarray 148, 3) := dk_189 0 148 (dk_at dksX0_init_5 12 rfl rfl)
theorem dX0_init_132 : decode cX0_init 132 = .ok (.dup, 1) := dk_89 (dk_at dksX0_init_5 15 rfl rfl)
theorem dX0_init_133 : decode cX0_init 133 = .ok (.iconst 0, 1) := dk_3 (dk_at dksX0_init_5 16 rfl rfl)
theorem dX0_init_134 : decode cX0_init 134 = .ok (.ldc_w 267, 3) := dk_19 1 11 (dk_at dksX0_init_5 17 rfl rfl)
theorem dX0_init_137 : decode cX0_init 137 = .ok (.aastore, 1) := dk_83 (dk_at dksX0_init_5 20 rfl rfl)
theorem dX0_init_138 : decode cX0_init 138 = .ok (.dup, 1) := dk_89 (dk_at dksX0_init_5 21 rfl rfl)
theorem dX0_init_139 : decode cX0_init 139 = .ok (.iconst 1, 1) := dk_4 (dk_at dksX0_init_5 22 rfl rfl)
theorem dX0_init_140 : decode cX0_init 140 = .ok (.ldc_w 269, 3) := dk_19 1 13 (dk_at dksX0_init_6 0 rfl rfl)
theorem dX0_init_143 : decode cX0_init 143 = .ok (.aastore, 1) := dk_83 (dk_at dksX0_init_6 3 rfl rfl)
theorem dX0_init_144 : decode cX0_init 144 = .ok (.dup, 1) := dk_89 (dk_at dksX0_init_6 4 rfl rfl)
theorem dX0_init_145 : decode cX0_init 145 = .ok (.iconst 2, 1) := dk_5 (dk_at dksX0_init_6 5 rfl rfl)
theorem dX0_init_146 : decode cX0_init 146 = .ok (.ldc_w 270, 3) := dk_19 1 14 (dk_at dksX0_init_6 6 rfl rfl)
theorem dX0_init_149 : decode cX0_init 149 = .ok (.aastore, 1) := dk_83 (dk_at dksX0_init_6 9 rfl rfl)
theorem dX0_init_150 : decode cX0_init 150 = .ok (.dup, 1) := dk_89 (dk_at dksX0_init_6 10 rfl rfl)
theorem dX0_init_151 : decode cX0_init 151 = .ok (.iconst 3, 1) := dk_6 (dk_at dksX0_init_6 11 rfl rfl)
theorem dX0_init_152 : decode cX0_init 152 = .ok (.ldc_w 271, 3) := dk_19 1 15 (dk_at dksX0_init_6 12 rfl rfl)
theorem dX0_init_155 : decode cX0_init 155 = .ok (.aastore, 1) := dk_83 (dk_at dksX0_init_6 15 rfl rfl)
theorem dX0_init_156 : decode cX0_init 156 = .ok (.dup, 1) := dk_89 (dk_at dksX0_init_6 16 rfl rfl)
theorem dX0_init_157 : decode cX0_init 157 = .ok (.iconst 4, 1) := dk_7 (dk_at dksX0_init_6 17 rfl rfl)
theorem dX0_init_158 : decode cX0_init 158 = .ok (.ldc_w 272, 3) := dk_19 1 16 (dk_at dksX0_init_6 18 rfl rfl)
theorem dX0_init_161 : decode cX0_init 161 = .ok (.aastore, 1) := dk_83 (dk_at dksX0_init_6 21 rfl rfl)
theorem dX0_init_162 : decode cX0_init 162 = .ok (.dup, 1) := dk_89 (dk_at dksX0_init_6 22 rfl rfl)
theorem dX0_init_163 : decode cX0_init 163 = .ok (.iconst 5, 1) := dk_8 (dk_at dksX0_init_6 23 rfl rfl)
theorem dX0_init_164 : decode cX0_init 164 = .ok (.ldc_w 274, 3) := dk_19 1 18 (dk_at dksX0_init_7 0 rfl rfl)
theorem dX0_init_167 : decode cX0_init 167 = .ok (.aastore, 1) := dk_83 (dk_at dksX0_init_7 3 rfl rfl)
theorem dX0_init_168 : decode cX0_init 168 = .ok (.putfield 171, 3) := dk_181 0 171 (dk_at dksX0_init_7 4 rfl rfl)
theorem dX0_init_171 : decode cX0_init 171 = .ok (.aload_n 0, 1) := dk_42 (dk_at dksX0_init_7 7 rfl rfl)
theorem dX0_init_172 : decode cX0_init 172 = .ok (.sipush 160, 3) := dk_17 0 160 (dk_at dksX0_init_7 8 rfl rfl)
theorem dX0_init_175 : decode cX0_init 175 = .ok (.newarray .byte, 2) := dk_188_8 (dk_at dksX0_init_7 11 rfl rfl)
theorem dX0_init_177 : decode cX0_init 177 = .ok (.putfield 105, 3) := dk_181 0 105 (dk_at dksX0_init_7 13 rfl rfl)
theorem dX0_init_180 : decode cX0_init 180 = .ok (.aload_n 0, 1) := dk_42 (dk_at dksX0_init_7 16 rfl rfl)
theorem dX0_init_181 : decode cX0_init 181 = .ok (.bipush 10, 2) := dk_16 10 (dk_at dksX0_init_7 17 rfl rfl)
theorem dX0_init_183 : decode cX0_init 183 = .ok (.newarray .int, 2) := dk_188_10 (dk_at dksX0_init_7 19 rfl rfl)
theorem dX0_init_185 : decode cX0_init 185 = .ok (.putfield 276, 3) := dk_181 1 20 (dk_at dksX0_init_7 21 rfl rfl)
theorem dX0_init_188 : decode cX0_init 188 = .ok (.aload_n 0, 1) := dk_42 (dk_at dksX0_init_8 0 rfl rfl)
theorem dX0_init_189 : decode cX0_init 189 = .ok (.bipush 10, 2) := dk_16 10 (dk_at dksX0_init_8 1 rfl rfl)
theorem dX0_init_191 : decode cX0_init 191 = .ok (.newarray .int, 2) := dk_188_10 (dk_at dksX0_init_8 3 rfl rfl)
theorem dX0_init_193 : decode cX0_init 193 = .ok (.putfield 279, 3) := dk_181 1 23 (dk_at dksX0_init_8 5 rfl rfl)
theorem dX0_init_196 : decode cX0_init 196 = .ok (.aload_n 0, 1) := dk_42 (dk_at dksX0_init_8 8 rfl rfl)
theorem dX0_init_197 : decode cX0_init 197 = .ok (.bipush 10, 2) := dk_16 10 (dk_at dksX0_init_8 9 rfl rfl)
theorem dX0_init_199 : decode cX0_init 199 = .ok (.newarray .int, 2) := dk_188_10 (dk_at dksX0_init_8 11 rfl rfl)
theorem dX0_init_201 : decode cX0_init 201 = .ok (.putfield 282, 3) := dk_181 1 26 (dk_at dksX0_init_8 13 rfl rfl)
theorem dX0_init_204 : decode cX0_init 204 = .ok (.aload_n 0, 1) := dk_42 (dk_at dksX0_init_8 16 rfl rfl)
theorem dX0_init_205 : decode cX0_init 205 = .ok (.bipush 10, 2) := dk_16 10 (dk_at dksX0_init_8 17 rfl rfl)
theorem dX0_init_207 : decode cX0_init 207 = .ok (.newarray .int, 2) := dk_188_10 (dk_at dksX0_init_8 19 rfl rfl)
theorem dX0_init_209 : decode cX0_init 209 = .ok (.putfield 285, 3) := dk_181 1 29 (dk_at dksX0_init_8 21 rfl rfl)
theorem dX0_init_212 : decode cX0_init 212 = .ok (.aload_n 0, 1) := dk_42 (dk_at dksX0_init_9 0 rfl rfl)
theorem dX0_init_213 : decode cX0_init 213 = .ok (.bipush 24, 2) := dk_16 24 (dk_at dksX0_init_9 1 rfl rfl)
theorem dX0_init_215 : decode cX0_init 215 = .ok (.newarray .int, 2) := dk_188_10 (dk_at dksX0_init_9 3 rfl rfl)
theorem dX0_init_217 : decode cX0_init 217 = .ok (.putfield 288, 3) := dk_181 1 32 (dk_at dksX0_init_9 5 rfl rfl)
theorem dX0_init_220 : decode cX0_init 220 = .ok (.aload_n 0, 1) := dk_42 (dk_at dksX0_init_9 8 rfl rfl)
theorem dX0_init_221 : decode cX0_init 221 = .ok (.bipush 24, 2) := dk_16 24 (dk_at dksX0_init_9 9 rfl rfl)
theorem dX0_init_223 : decode cX0_init 223 = .ok (.newarray .int, 2) := dk_188_10 (dk_at dksX0_init_9 11 rfl rfl)
theorem dX0_init_225 : decode cX0_init 225 = .ok (.putfield 291, 3) := dk_181 1 35 (dk_at dksX0_init_9 13 rfl rfl)
theorem dX0_init_228 : decode cX0_init 228 = .ok (.aload_n 0, 1) := dk_42 (dk_at dksX0_init_9 16 rfl rfl)
theorem dX0_init_229 : decode cX0_init 229 = .ok (.bipush 24, 2) := dk_16 24 (dk_at dksX0_init_9 17 rfl rfl)
theorem dX0_init_231 : decode cX0_init 231 = .ok (.newarray .int, 2) := dk_188_10 (dk_at dksX0_init_9 19 rfl rfl)
theorem dX0_init_233 : decode cX0_init 233 = .ok (.putfield 294, 3) := dk_181 1 38 (dk_at dksX0_init_9 21 rfl rfl)
theorem dX0_init_236 : decode cX0_init 236 = .ok (.aload_n 0, 1) := dk_42 (dk_at dksX0_init_10 0 rfl rfl)
theorem dX0_init_237 : decode cX0_init 237 = .ok (.bipush 8, 2) := dk_16 8 (dk_at dksX0_init_10 1 rfl rfl)
theorem dX0_init_239 : decode cX0_init 239 = .ok (.newarray .int, 2) := dk_188_10 (dk_at dksX0_init_10 3 rfl rfl)
theorem dX0_init_241 : decode cX0_init 241 = .ok (.putfield 297, 3) := dk_181 1 41 (dk_at dksX0_init_10 5 rfl rfl)
theorem dX0_init_244 : decode cX0_init 244 = .ok (.aload_n 0, 1) := dk_42 (dk_at dksX0_init_10 8 rfl rfl)
theorem dX0_init_245 : decode cX0_init 245 = .ok (.bipush 20, 2) := dk_16 20 (dk_at dksX0_init_10 9 rfl rfl)
theorem dX0_init_247 : decode cX0_init 247 = .ok (.newarray .int, 2) := dk_188_10 (dk_at dksX0_init_10 11 rfl rfl)
theorem dX0_init_249 : decode cX0_init 249 = .ok (.putfield 300, 3) := dk_181 1 44 (dk_at dksX0_init_10 13 rfl rfl)
theorem dX0_init_252 : decode cX0_init 252 = .ok (.aload_n 0, 1) := dk_42 (dk_at dksX0_init_10 16 rfl rfl)
theorem dX0_init_253 : decode cX0_init 253 = .ok (.bipush 20, 2) := dk_16 20 (dk_at dksX0_init_10 17 rfl rfl)
theorem dX0_init_255 : decode cX0_init 255 = .ok (.newarray .int, 2) := dk_188_10 (dk_at dksX0_init_10 19 rfl rfl)
theorem dX0_init_257 : decode cX0_init 257 = .ok (.putfield 303, 3) := dk_181 1 47 (dk_at dksX0_init_10 21 rfl rfl)
theorem dX0_init_260 : decode cX0_init 260 = .ok (.aload_n 0, 1) := dk_42 (dk_at dksX0_init_11 0 rfl rfl)
theorem dX0_init_261 : decode cX0_init 261 = .ok (.bipush 12, 2) := dk_16 12 (dk_at dksX0_init_11 1 rfl rfl)
theorem dX0_init_263 : decode cX0_init 263 = .ok (.newarray .int, 2) := dk_188_10 (dk_at dksX0_init_11 3 rfl rfl)
theorem dX0_init_265 : decode cX0_init 265 = .ok (.putfield 306, 3) := dk_181 1 50 (dk_at dksX0_init_11 5 rfl rfl)
theorem dX0_init_268 : decode cX0_init 268 = .ok (.aload_n 0, 1) := dk_42 (dk_at dksX0_init_11 8 rfl rfl)
theorem dX0_init_269 : decode cX0_init 269 = .ok (.bipush 10, 2) := dk_16 10 (dk_at dksX0_init_11 9 rfl rfl)
theorem dX0_init_271 : decode cX0_init 271 = .ok (.newarray .int, 2) := dk_188_10 (dk_at dksX0_init_11 11 rfl rfl)
theorem dX0_init_273 : decode cX0_init 273 = .ok (.putfield 309, 3) := dk_181 1 53 (dk_at dksX0_init_11 13 rfl rfl)
theorem dX0_init_276 : decode cX0_init 276 = .ok (.aload_n 0, 1) := dk_42 (dk_at dksX0_init_11 16 rfl rfl)
theorem dX0_init_277 : decode cX0_init 277 = .ok (.iconst 4, 1) := dk_7 (dk_at dksX0_init_11 17 rfl rfl)
theorem dX0_init_278 : decode cX0_init 278 = .ok (.anewarray 312, 3) := dk_189 1 56 (dk_at dksX0_init_11 18 rfl rfl)
theorem dX0_init_281 : decode cX0_init 281 = .ok (.dup, 1) := dk_89 (dk_at dksX0_init_11 21 rfl rfl)
theorem dX0_init_282 : decode cX0_init 282 = .ok (.iconst 0, 1) := dk_3 (dk_at dksX0_init_11 22 rfl rfl)
theorem dX0_init_283 : decode cX0_init 283 = .ok (.new 312, 3) := dk_187 1 56 (dk_at dksX0_init_12 0 rfl rfl)
theorem dX0_init_286 : decode cX0_init 286 = .ok (.dup, 1) := dk_89 (dk_at dksX0_init_12 3 rfl rfl)
theorem dX0_init_287 : decode cX0_init 287 = .ok (.invokespecial 314, 3) := dk_183 1 58 (dk_at dksX0_init_12 4 rfl rfl)
theorem dX0_init_290 : decode cX0_init 290 = .ok (.aastore, 1) := dk_83 (dk_at dksX0_init_12 7 rfl rfl)
theorem dX0_init_291 : decode cX0_init 291 = .ok (.dup, 1) := dk_89 (dk_at dksX0_init_12 8 rfl rfl)
theorem dX0_init_292 : decode cX0_init 292 = .ok (.iconst 1, 1) := dk_4 (dk_at dksX0_init_12 9 rfl rfl)
theorem dX0_init_293 : decode cX0_init 293 = .ok (.new 312, 3) := dk_187 1 56 (dk_at dksX0_init_12 10 rfl rfl)
theorem dX0_init_296 : decode cX0_init 296 = .ok (.dup, 1) := dk_89 (dk_at dksX0_init_12 13 rfl rfl)
theorem dX0_init_297 : decode cX0_init 297 = .ok (.invokespecial 314, 3) := dk_183 1 58 (dk_at dksX0_init_12 14 rfl rfl)
theorem dX0_init_300 : decode cX0_init 300 = .ok (.aastore, 1) := dk_83 (dk_at dksX0_init_12 17 rfl rfl)
theorem dX0_init_301 : decode cX0_init 301 = .ok (.dup, 1) := dk_89 (dk_at dksX0_init_12 18 rfl rfl)
theorem dX0_init_302 : decode cX0_init 302 = .ok (.iconst 2, 1) := dk_5 (dk_at dksX0_init_12 19 rfl rfl)
theorem dX0_init_303 : decode cX0_init 303 = .ok (.new 312, 3) := dk_187 1 56 (dk_at dksX0_init_12 20 rfl rfl)
theorem dX0_init_306 : decode cX0_init 306 = .ok (.dup, 1) := dk_89 (dk_at dksX0_init_12 23 rfl rfl)
theorem dX0_init_307 : decode cX0_init 307 = .ok (.invokespecial 314, 3) := dk_183 1 58 (dk_at dksX0_init_13 0 rfl rfl)
theorem dX0_init_310 : decode cX0_init 310 = .ok (.aastore, 1) := dk_83 (dk_at dksX0_init_13 3 rfl rfl)
theorem dX0_init_311 : decode cX0_init 311 = .ok (.dup, 1) := dk_89 (dk_at dksX0_init_13 4 rfl rfl)
theorem dX0_init_312 : decode cX0_init 312 = .ok (.iconst 3, 1) := dk_6 (dk_at dksX0_init_13 5 rfl rfl)
theorem dX0_init_313 : decode cX0_init 313 = .ok (.new 312, 3) := dk_187 1 56 (dk_at dksX0_init_13 6 rfl rfl)
theorem dX0_init_316 : decode cX0_init 316 = .ok (.dup, 1) := dk_89 (dk_at dksX0_init_13 9 rfl rfl)
theorem dX0_init_317 : decode cX0_init 317 = .ok (.invokespecial 314, 3) := dk_183 1 58 (dk_at dksX0_init_13 10 rfl rfl)
theorem dX0_init_320 : decode cX0_init 320 = .ok (.aastore, 1) := dk_83 (dk_at dksX0_init_13 13 rfl rfl)
theorem dX0_init_321 : decode cX0_init 321 = .ok (.putfield 315, 3) := dk_181 1 59 (dk_at dksX0_init_13 14 rfl rfl)
theorem dX0_init_324 : decode cX0_init 324 = .ok (.aload_n 0, 1) := dk_42 (dk_at dksX0_init_13 17 rfl rfl)
theorem dX0_init_325 : decode cX0_init 325 = .ok (.ldc_w 319, 3) := dk_19 1 63 (dk_at dksX0_init_13 18 rfl rfl)
theorem dX0_init_328 : decode cX0_init 328 = .ok (.invokevirtual 321, 3) := dk_182 1 65 (dk_at dksX0_init_13 21 rfl rfl)
theorem dX0_init_331 : decode cX0_init 331 = .ok (.return_, 1) := dk_177 (dk_at dksX0_init_14 0 rfl rfl)
