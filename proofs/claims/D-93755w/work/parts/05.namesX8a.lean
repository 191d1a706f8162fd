/-! WalkingStonesModel -/
set_option maxRecDepth 100000
def RX8 : String := "WalkingStonesModel"
def TX8 : u_T := fun k => match k with
  | 0 => ("WalkingStonesModel", "stones", "I", false)
  | 1 => ("WalkingStonesModel", "nights", "I", false)
  | 2 => ("WalkingStonesModel", "hows", "I", false)
  | 3 => ("WalkingStonesModel", "weight", "[I", true)
  | 4 => ("WalkingStonesModel", "place", "[I", true)
  | 5 => ("WalkingStonesModel", "wet", "[I", true)
  | 6 => ("WalkingStonesModel", "ice", "[I", true)
  | 7 => ("WalkingStonesModel", "wind", "[I", true)
  | 8 => ("WalkingStonesModel", "way", "[I", true)
  | 9 => ("WalkingStonesModel", "kind", "[I", true)
  | 10 => ("WalkingStonesModel", "number", "[I", true)
  | 11 => ("WalkingStonesModel", "texts", "I", false)
  | 12 => ("WalkingStonesModel", "rule", "I", false)
  | 13 => ("WalkingStonesModel", "fed", "I", false)
  | 14 => ("WalkingStonesModel", "at", "I", false)
  | 15 => ("WalkingStonesModel", "token", "I", false)
  | 16 => ("WalkingStonesModel", "word", "I", false)
  | 17 => ("WalkingStonesModel", "size", "I", false)
  | 18 => ("WalkingStonesModel", "open", "I", false)
  | 19 => ("WalkingStonesModel", "waiting", "I", false)
  | 20 => ("WalkingStonesModel", "made", "I", false)
  | 21 => ("WalkingStonesModel", "tape", "[I", true)
  | 22 => ("WalkingStonesModel", "signs", "[I", true)
  | 23 => ("WalkingStonesModel", "tells", "[I", true)
  | 24 => ("WalkingStonesModel", "many", "[I", true)
  | 25 => ("WalkingStonesModel", "waits", "[I", true)
  | 26 => ("WalkingStonesModel", "pile", "[I", true)
  | 27 => ("WalkingStonesModel", "tried", "I", false)
  | 28 => ("WalkingStonesModel", "on", "[I", true)
  | 29 => ("WalkingStonesModel", "went", "[I", true)
  | 30 => ("WalkingStonesModel", "turns", "[I", true)
  | 31 => ("WalkingStonesModel", "lastWay", "[I", true)
  | 32 => ("WalkingStonesModel", "tracks", "I", false)
  | 33 => ("WalkingStonesModel", "trackStone", "[I", true)
  | 34 => ("WalkingStonesModel", "length", "[I", true)
  | 35 => ("WalkingStonesModel", "trackTurns", "[I", true)
  | 36 => ("WalkingStonesModel", "group", "[I", true)
  | 37 => ("WalkingStonesModel", "pegs", "I", false)
  | 38 => ("WalkingStonesModel", "peg", "[I", true)
  | 39 => ("WalkingStonesModel", "crosses", "I", false)
  | 40 => ("WalkingStonesModel", "over", "[I", true)
  | 41 => ("WalkingStonesModel", "under", "[I", true)
  | 42 => ("WalkingStonesModel", "hasImage", "Z", false)
  | 43 => ("WalkingStonesModel", "imageStones", "I", false)
  | 44 => ("WalkingStonesModel", "imageRule", "I", false)
  | 45 => ("WalkingStonesModel", "imageTracks", "I", false)
  | 46 => ("WalkingStonesModel", "imageCrosses", "I", false)
  | 47 => ("WalkingStonesModel", "imagePegs", "I", false)
  | 48 => ("WalkingStonesModel", "imagePlace", "[I", true)
  | 49 => ("WalkingStonesModel", "sort", "[I", true)
  | 50 => ("WalkingStonesModel", "rows", "[I", true)
  | 51 => ("WalkingStonesModel", "item", "[I", true)
  | 52 => ("WalkingStonesModel", "aside", "[I", true)
  | _ => ("WalkingStonesModel", "worths", "[I", true)
def tyX8 : Nat → FieldType := fun k => match k with
  | 0 => .int
  | 1 => .int
  | 2 => .int
  | 3 => .array .int
  | 4 => .array .int
  | 5 => .array .int
  | 6 => .array .int
  | 7 => .array .int
  | 8 => .array .int
  | 9 => .array .int
  | 10 => .array .int
  | 11 => .int
  | 12 => .int
  | 13 => .int
  | 14 => .int
  | 15 => .int
  | 16 => .int
  | 17 => .int
  | 18 => .int
  | 19 => .int
  | 20 => .int
  | 21 => .array .int
  | 22 => .array .int
  | 23 => .array .int
  | 24 => .array .int
  | 25 => .array .int
  | 26 => .array .int
  | 27 => .int
  | 28 => .array .int
  | 29 => .array .int
  | 30 => .array .int
  | 31 => .array .int
  | 32 => .int
  | 33 => .array .int
  | 34 => .array .int
  | 35 => .array .int
  | 36 => .array .int
  | 37 => .int
  | 38 => .array .int
  | 39 => .int
  | 40 => .array .int
  | 41 => .array .int
  | 42 => .boolean
  | 43 => .int
  | 44 => .int
  | 45 => .int
  | 46 => .int
  | 47 => .int
  | 48 => .array .int
  | 49 => .array .int
  | 50 => .array .int
  | 51 => .array .int
  | 52 => .array .int
  | _ => .array .int
abbrev wsX80 : List Cond := u_ws RX8 TX8 54
set_option maxRecDepth 100000 in
theorem nmX8 : ∀ a, a < 54 → ∀ b, b < 54 → a ≠ b → (TX8 a).2.1 ≠ (TX8 b).2.1 := by decide +kernel
set_option maxRecDepth 100000 in
theorem tyX8_ok : ∀ k, k < 54 → parseFieldDescriptor (TX8 k).2.2.1 = some (tyX8 k) := by decide +kernel
abbrev cX8_stone : ByteArray := prog_16_method_5_code
def yX8_stone : MethodName := ⟨RX8, "stone", "(II)I"⟩
def dkwX8_stone_4 : List UInt8 := [4, 96, 181, 0, 1, 42, 180, 0, 1, 4, 100, 172]
abbrev dktX8_stone_4 : List UInt8 := dkwX8_stone_4 ++ []
def dkwX8_stone_3 : List UInt8 := [180, 0, 21, 42, 180, 0, 1, 27, 79, 42, 180, 0, 17, 42, 180, 0, 1, 28, 79, 42, 89, 180, 0, 1]
abbrev dktX8_stone_3 : List UInt8 := dkwX8_stone_3 ++ dktX8_stone_4
def dkwX8_stone_2 : List UInt8 := [16, 253, 172, 132, 3, 1, 167, 255, 232, 42, 180, 0, 1, 16, 10, 160, 0, 6, 16, 252, 172, 42]
abbrev dktX8_stone_2 : List UInt8 := dkwX8_stone_2 ++ dktX8_stone_3
def dkwX8_stone_1 : List UInt8 := [16, 254, 172, 3, 62, 29, 42, 180, 0, 1, 162, 0, 22, 42, 180, 0, 17, 29, 46, 28, 160, 0, 6]
abbrev dktX8_stone_1 : List UInt8 := dkwX8_stone_1 ++ dktX8_stone_2
def dkwX8_stone_0 : List UInt8 := [42, 27, 4, 16, 99, 182, 0, 7, 153, 0, 15, 42, 28, 3, 17, 15, 255, 182, 0, 7, 154, 0, 6]
abbrev dktX8_stone_0 : List UInt8 := dkwX8_stone_0 ++ dktX8_stone_1
theorem dksX8_stone_0 : cX8_stone.data.toList.drop 0 = dktX8_stone_0 := by decide +kernel
theorem dksX8_stone_1 : cX8_stone.data.toList.drop 23 = dktX8_stone_1 := dk_seg dksX8_stone_0 23 rfl rfl
theorem dksX8_stone_2 : cX8_stone.data.toList.drop 46 = dktX8_stone_2 := dk_seg dksX8_stone_1 23 rfl rfl
theorem dksX8_stone_3 : cX8_stone.data.toList.drop 68 = dktX8_stone_3 := dk_seg dksX8_stone_2 22 rfl rfl
theorem dksX8_stone_4 : cX8_stone.data.toList.drop 92 = dktX8_stone_4 := dk_seg dksX8_stone_3 24 rfl rfl
theorem dX8_stone_0 : decode cX8_stone 0 = .ok (.aload_n 0, 1) := dk_42 (dk_at dksX8_stone_0 0 rfl rfl)
theorem dX8_stone_1 : decode cX8_stone 1 = .ok (.iload_n 1, 1) := dk_27 (dk_at dksX8_stone_0 1 rfl rfl)
theorem dX8_stone_2 : decode cX8_stone 2 = .ok (.iconst 1, 1) := dk_4 (dk_at dksX8_stone_0 2 rfl rfl)
theorem dX8_stone_3 : decode cX8_stone 3 = .ok (.bipush 99, 2) := dk_16 99 (dk_at dksX8_stone_0 3 rfl rfl)
theorem dX8_stone_5 : decode cX8_stone 5 = .ok (.invokevirtual 7, 3) := dk_182 0 7 (dk_at dksX8_stone_0 5 rfl rfl)
theorem dX8_stone_8 : decode cX8_stone 8 = .ok (.ifCond .eq 15, 3) := dk_153 0 15 (dk_at dksX8_stone_0 8 rfl rfl)
theorem dX8_stone_11 : decode cX8_stone 11 = .ok (.aload_n 0, 1) := dk_42 (dk_at dksX8_stone_0 11 rfl rfl)
theorem dX8_stone_12 : decode cX8_stone 12 = .ok (.iload_n 2, 1) := dk_28 (dk_at dksX8_stone_0 12 rfl rfl)
theorem dX8_stone_13 : decode cX8_stone 13 = .ok (.iconst 0, 1) := dk_3 (dk_at dksX8_stone_0 13 rfl rfl)
theorem dX8_stone_14 : decode cX8_stone 14 = .ok (.sipush 4095, 3) := dk_17 15 255 (dk_at dksX8_stone_0 14 rfl rfl)
theorem dX8_stone_17 : decode cX8_stone 17 = .ok (.invokevirtual 7, 3) := dk_182 0 7 (dk_at dksX8_stone_0 17 rfl rfl)
theorem dX8_stone_20 : decode cX8_stone 20 = .ok (.ifCond .ne 6, 3) := dk_154 0 6 (dk_at dksX8_stone_0 20 rfl rfl)
theorem dX8_stone_23 : decode cX8_stone 23 = .ok (.bipush (-2), 2) := dk_16 254 (dk_at dksX8_stone_1 0 rfl rfl)
theorem dX8_stone_25 : decode cX8_stone 25 = .ok (.ireturn, 1) := dk_172 (dk_at dksX8_stone_1 2 rfl rfl)
theorem dX8_stone_26 : decode cX8_stone 26 = .ok (.iconst 0, 1) := dk_3 (dk_at dksX8_stone_1 3 rfl rfl)
theorem dX8_stone_27 : decode cX8_stone 27 = .ok (.istore_n 3, 1) := dk_62 (dk_at dksX8_stone_1 4 rfl rfl)
theorem dX8_stone_28 : decode cX8_stone 28 = .ok (.iload_n 3, 1) := dk_29 (dk_at dksX8_stone_1 5 rfl rfl)
theorem dX8_stone_29 : decode cX8_stone 29 = .ok (.aload_n 0, 1) := dk_42 (dk_at dksX8_stone_1 6 rfl rfl)
theorem dX8_stone_30 : decode cX8_stone 30 = .ok (.getfield 1, 3) := dk_180 0 1 (dk_at dksX8_stone_1 7 rfl rfl)
theorem dX8_stone_33 : decode cX8_stone 33 = .ok (.if_icmp .ge 22, 3) := dk_162 0 22 (dk_at dksX8_stone_1 10 rfl rfl)
theorem dX8_stone_36 : decode cX8_stone 36 = .ok (.aload_n 0, 1) := dk_42 (dk_at dksX8_stone_1 13 rfl rfl)
theorem dX8_stone_37 : decode cX8_stone 37 = .ok (.getfield 17, 3) := dk_180 0 17 (dk_at dksX8_stone_1 14 rfl rfl)
theorem dX8_stone_40 : decode cX8_stone 40 = .ok (.iload_n 3, 1) := dk_29 (dk_at dksX8_stone_1 17 rfl rfl)
theorem dX8_stone_41 : decode cX8_stone 41 = .ok (.iaload, 1) := dk_46 (dk_at dksX8_stone_1 18 rfl rfl)
theorem dX8_stone_42 : decode cX8_stone 42 = .ok (.iload_n 2, 1) := dk_28 (dk_at dksX8_stone_1 19 rfl rfl)
theorem dX8_stone_43 : decode cX8_stone 43 = .ok (.if_icmp .ne 6, 3) := dk_160 0 6 (dk_at dksX8_stone_1 20 rfl rfl)
theorem dX8_stone_46 : decode cX8_stone 46 = .ok (.bipush (-3), 2) := dk_16 253 (dk_at dksX8_stone_2 0 rfl rfl)
theorem dX8_stone_48 : decode cX8_stone 48 = .ok (.ireturn, 1) := dk_172 (dk_at dksX8_stone_2 2 rfl rfl)
theorem dX8_stone_49 : decode cX8_stone 49 = .ok (.iinc 3 1, 3) := dk_132 3 1 (dk_at dksX8_stone_2 3 rfl rfl)
theorem dX8_stone_52 : decode cX8_stone 52 = .ok (.goto (-24), 3) := dk_167 255 232 (dk_at dksX8_stone_2 6 rfl rfl)
theorem dX8_stone_55 : decode cX8_stone 55 = .ok (.aload_n 0, 1) := dk_42 (dk_at dksX8_stone_2 9 rfl rfl)
theorem dX8_stone_56 : decode cX8_stone 56 = .ok (.getfield 1, 3) := dk_180 0 1 (dk_at dksX8_stone_2 10 rfl rfl)
theorem dX8_stone_59 : decode cX8_stone 59 = .ok (.bipush 10, 2) := dk_16 10 (dk_at dksX8_stone_2 13 rfl rfl)
theorem dX8_stone_61 : decode cX8_stone 61 = .ok (.if_icmp .ne 6, 3) := dk_160 0 6 (dk_at dksX8_stone_2 15 rfl rfl)
theorem dX8_stone_64 : decode cX8_stone 64 = .ok (.bipush (-4), 2) := dk_16 252 (dk_at dksX8_stone_2 18 rfl rfl)
theorem dX8_stone_66 : decode cX8_stone 66 = .ok (.ireturn, 1) := dk_172 (dk_at dksX8_stone_2 20 rfl rfl)
theorem dX8_stone_67 : decode cX8_stone 67 = .ok (.aload_n 0, 1) := dk_42 (dk_at dksX8_stone_2 21 rfl rfl)
theorem dX8_stone_68 : decode cX8_stone 68 = .ok (.getfield 21, 3) := dk_180 0 21 (dk_at dksX8_stone_3 0 rfl rfl)
theorem dX8_stone_71 : decode cX8_stone 71 = .ok (.aload_n 0, 1) := dk_42 (dk_at dksX8_stone_3 3 rfl rfl)
theorem dX8_stone_72 : decode cX8_stone 72 = .ok (.getfield 1, 3) := dk_180 0 1 (dk_at dksX8_stone_3 4 rfl rfl)
theorem dX8_stone_75 : decode cX8_stone 75 = .ok (.iload_n 1, 1) := dk_27 (dk_at dksX8_stone_3 7 rfl rfl)
theorem dX8_stone_76 : decode cX8_stone 76 = .ok (.iastore, 1) := dk_79 (dk_at dksX8_stone_3 8 rfl rfl)
theorem dX8_stone_77 : decode cX8_stone 77 = .ok (.aload_n 0, 1) := dk_42 (dk_at dksX8_stone_3 9 rfl rfl)
theorem dX8_stone_78 : decode cX8_stone 78 = .ok (.getfield 17, 3) := dk_180 0 17 (dk_at dksX8_stone_3 10 rfl rfl)
theorem dX8_stone_81 : decode cX8_stone 81 = .ok (.aload_n 0, 1) := dk_42 (dk_at dksX8_stone_3 13 rfl rfl)
theorem dX8_stone_82 : decode cX8_stone 82 = .ok (.getfield 1, 3) := dk_180 0 1 (dk_at dksX8_stone_3 14 rfl rfl)
theorem dX8_stone_85 : decode cX8_stone 85 = .ok (.iload_n 2, 1) := dk_28 (dk_at dksX8_stone_3 17 rfl rfl)
theorem dX8_stone_86 : decode cX8_stone 86 = .ok (.iastore, 1) := dk_79 (dk_at dksX8_stone_3 18 rfl rfl)
theorem dX8_stone_87 : decode cX8_stone 87 = .ok (.aload_n 0, 1) := dk_42 (dk_at dksX8_stone_3 19 rfl rfl)
theorem dX8_stone_88 : decode cX8_stone 88 = .ok (.dup, 1) := dk_89 (dk_at dksX8_stone_3 20 rfl rfl)
theorem dX8_stone_89 : decode cX8_stone 89 = .ok (.getfield 1, 3) := dk_180 0 1 (dk_at dksX8_stone_3 21 rfl rfl)
theorem dX8_stone_92 : decode cX8_stone 92 = .ok (.iconst 1, 1) := dk_4 (dk_at dksX8_stone_4 0 rfl rfl)
theorem dX8_stone_93 : decode cX8_stone 93 = .ok (.iadd, 1) := dk_96 (dk_at dksX8_stone_4 1 rfl rfl)
theorem dX8_stone_94 : decode cX8_stone 94 = .ok (.putfield 1, 3) := dk_181 0 1 (dk_at dksX8_stone_4 2 rfl rfl)
theorem dX8_stone_97 : decode cX8_stone 97 = .ok (.aload_n 0, 1) := dk_42 (dk_at dksX8_stone_4 5 rfl rfl)
theorem dX8_stone_98 : decode cX8_stone 98 = .ok (.getfield 1, 3) := dk_180 0 1 (dk_at dksX8_stone_4 6 rfl rfl)
theorem dX8_stone_101 : decode cX8_stone 101 = .ok (.iconst 1, 1) := dk_4 (dk_at dksX8_stone_4 9 rfl rfl)
theorem dX8_stone_102 : decode cX8_stone 102 = .ok (.isub, 1) := dk_100 (dk_at dksX8_stone_4 10 rfl rfl)
theorem dX8_stone_103 : decode cX8_stone 103 = .ok (.ireturn, 1) := dk_172 (dk_at dksX8_stone_4 11 rfl rfl)
abbrev cX8_in : ByteArray := prog_16_method_1_code
def yX8_in : MethodName := ⟨RX8, "in", "(III)Z"⟩
def dkwX8_in_0 : List UInt8 := [27, 28, 161, 0, 12, 27, 29, 163, 0, 7, 4, 167, 0, 4, 3, 172]
abbrev dktX8_in_0 : List UInt8 := dkwX8_in_0 ++ []
theorem dksX8_in_0 : cX8_in.data.toList.drop 0 = dktX8_in_0 := by decide +kernel
theorem dX8_in_0 : decode cX8_in 0 = .ok (.iload_n 1, 1) := dk_27 (dk_at dksX8_in_0 0 rfl rfl)
theorem dX8_in_1 : decode cX8_in 1 = .ok (.iload_n 2, 1) := dk_28 (dk_at dksX8_in_0 1 rfl rfl)
theorem dX8_in_2 : decode cX8_in 2 = .ok (.if_icmp .lt 12, 3) := dk_161 0 12 (dk_at dksX8_in_0 2 rfl rfl)
theorem dX8_in_5 : decode cX8_in 5 = .ok (.iload_n 1, 1) := dk_27 (dk_at dksX8_in_0 5 rfl rfl)
theorem dX8_in_6 : decode cX8_in 6 = .ok (.iload_n 3, 1) := dk_29 (dk_at dksX8_in_0 6 rfl rfl)
theorem dX8_in_7 : decode cX8_in 7 = .ok (.if_icmp .gt 7, 3) := dk_163 0 7 (dk_at dksX8_in_0 7 rfl rfl)
theorem dX8_in_10 : decode cX8_in 10 = .ok (.iconst 1, 1) := dk_4 (dk_at dksX8_in_0 10 rfl rfl)
theorem dX8_in_11 : decode cX8_in 11 = .ok (.goto 4, 3) := dk_167 0 4 (dk_at dksX8_in_0 11 rfl rfl)
theorem dX8_in_14 : decode cX8_in 14 = .ok (.iconst 0, 1) := dk_3 (dk_at dksX8_in_0 14 rfl rfl)
theorem dX8_in_15 : decode cX8_in 15 = .ok (.ireturn, 1) := dk_172 (dk_at dksX8_in_0 15 rfl rfl)
abbrev cX8_night : ByteArray := prog_16_method_8_code
def yX8_night : MethodName := ⟨RX8, "night", "(I)I"⟩
def dkwX8_night_1 : List UInt8 := [27, 182, 0, 41, 42, 180, 0, 11, 4, 100, 172]
abbrev dktX8_night_1 : List UInt8 := dkwX8_night_1 ++ []
def dkwX8_night_0 : List UInt8 := [42, 27, 182, 0, 37, 154, 0, 6, 16, 254, 172, 42, 180, 0, 11, 16, 60, 160, 0, 6, 16, 252, 172, 42]
abbrev dktX8_night_0 : List UInt8 := dkwX8_night_0 ++ dktX8_night_1
theorem dksX8_night_0 : cX8_night.data.toList.drop 0 = dktX8_night_0 := by decide +kernel
theorem dksX8_night_1 : cX8_night.data.toList.drop 24 = dktX8_night_1 := dk_seg dksX8_night_0 24 rfl rfl
theorem dX8_night_0 : decode cX8_night 0 = .ok (.aload_n 0, 1) := dk_42 (dk_at dksX8_night_0 0 rfl rfl)
theorem dX8_night_1 : decode cX8_night 1 = .ok (.iload_n 1, 1) := dk_27 (dk_at dksX8_night_0 1 rfl rfl)
theorem dX8_night_2 : decode cX8_night 2 = .ok (.invokevirtual 37, 3) := dk_182 0 37 (dk_at dksX8_night_0 2 rfl rfl)
theorem dX8_night_5 : decode cX8_night 5 = .ok (.ifCond .ne 6, 3) := dk_154 0 6 (dk_at dksX8_night_0 5 rfl rfl)
theorem dX8_night_8 : decode cX8_night 8 = .ok (.bipush (-2), 2) := dk_16 254 (dk_at dksX8_night_0 8 rfl rfl)
theorem dX8_night_10 : decode cX8_night 10 = .ok (.ireturn, 1) := dk_172 (dk_at dksX8_night_0 10 rfl rfl)
theorem dX8_night_11 : decode cX8_night 11 = .ok (.aload_n 0, 1) := dk_42 (dk_at dksX8_night_0 11 rfl rfl)
theorem dX8_night_12 : decode cX8_night 12 = .ok (.getfield 11, 3) := dk_180 0 11 (dk_at dksX8_night_0 12 rfl rfl)
theorem dX8_night_15 : decode cX8_night 15 = .ok (.bipush 60, 2) := dk_16 60 (dk_at dksX8_night_0 15 rfl rfl)
theorem dX8_night_17 : decode cX8_night 17 = .ok (.if_icmp .ne 6, 3) := dk_160 0 6 (dk_at dksX8_night_0 17 rfl rfl)
theorem dX8_night_20 : decode cX8_night 20 = .ok (.bipush (-4), 2) := dk_16 252 (dk_at dksX8_night_0 20 rfl rfl)
theorem dX8_night_22 : decode cX8_night 22 = .ok (.ireturn, 1) := dk_172 (dk_at dksX8_night_0 22 rfl rfl)
theorem dX8_night_23 : decode cX8_night 23 = .ok (.aload_n 0, 1) := dk_42 (dk_at dksX8_night_0 23 rfl rfl)
theorem dX8_night_24 : decode cX8_night 24 = .ok (.iload_n 1, 1) := dk_27 (dk_at dksX8_night_1 0 rfl rfl)
theorem dX8_night_25 : decode cX8_night 25 = .ok (.invokevirtual 41, 3) := dk_182 0 41 (dk_at dksX8_night_1 1 rfl rfl)
theorem dX8_night_28 : decode cX8_night 28 = .ok (.aload_n 0, 1) := dk_42 (dk_at dksX8_night_1 4 rfl rfl)
theorem dX8_night_29 : decode cX8_night 29 = .ok (.getfield 11, 3) := dk_180 0 11 (dk_at dksX8_night_1 5 rfl rfl)
theorem dX8_night_32 : decode cX8_night 32 = .ok (.iconst 1, 1) := dk_4 (dk_at dksX8_night_1 8 rfl rfl)
theorem dX8_night_33 : decode cX8_night 33 = .ok (.isub, 1) := dk_100 (dk_at dksX8_night_1 9 rfl rfl)
theorem dX8_night_34 : decode cX8_night 34 = .ok (.ireturn, 1) := dk_172 (dk_at dksX8_night_1 10 rfl rfl)
abbrev cX8_isWeather : ByteArray := prog_16_method_6_code
def yX8_isWeather : MethodName := ⟨RX8, "isWeather", "(I)Z"⟩
def dkwX8_isWeather_1 : List UInt8 := [172]
abbrev dktX8_isWeather_1 : List UInt8 := dkwX8_isWeather_1 ++ []
def dkwX8_isWeather_0 : List UInt8 := [42, 27, 3, 18, 24, 182, 0, 7, 153, 0, 15, 27, 16, 10, 112, 7, 162, 0, 7, 4, 167, 0, 4, 3]
abbrev dktX8_isWeather_0 : List UInt8 := dkwX8_isWeather_0 ++ dktX8_isWeather_1
theorem dksX8_isWeather_0 : cX8_isWeather.data.toList.drop 0 = dktX8_isWeather_0 := by decide +kernel
theorem dksX8_isWeather_1 : cX8_isWeather.data.toList.drop 24 = dktX8_isWeather_1 := dk_seg dksX8_isWeather_0 24 rfl rfl
theorem dX8_isWeather_0 : decode cX8_isWeather 0 = .ok (.aload_n 0, 1) := dk_42 (dk_at dksX8_isWeather_0 0 rfl rfl)
theorem dX8_isWeather_1 : decode cX8_isWeather 1 = .ok (.iload_n 1, 1) := dk_27 (dk_at dksX8_isWeather_0 1 rfl rfl)
theorem dX8_isWeather_2 : decode cX8_isWeather 2 = .ok (.iconst 0, 1) := dk_3 (dk_at dksX8_isWeather_0 2 rfl rfl)
theorem dX8_isWeather_3 : decode cX8_isWeather 3 = .ok (.ldc 24, 2) := dk_18 24 (dk_at dksX8_isWeather_0 3 rfl rfl)
theorem dX8_isWeather_5 : decode cX8_isWeather 5 = .ok (.invokevirtual 7, 3) := dk_182 0 7 (dk_at dksX8_isWeather_0 5 rfl rfl)
theorem dX8_isWeather_8 : decode cX8_isWeather 8 = .ok (.ifCond .eq 15, 3) := dk_153 0 15 (dk_at dksX8_isWeather_0 8 rfl rfl)
theorem dX8_isWeather_11 : decode cX8_isWeather 11 = .ok (.iload_n 1, 1) := dk_27 (dk_at dksX8_isWeather_0 11 rfl rfl)
theorem dX8_isWeather_12 : decode cX8_isWeather 12 = .ok (.bipush 10, 2) := dk_16 10 (dk_at dksX8_isWeather_0 12 rfl rfl)
theorem dX8_isWeather_14 : decode cX8_isWeather 14 = .ok (.irem, 1) := dk_112 (dk_at dksX8_isWeather_0 14 rfl rfl)
theorem dX8_isWeather_15 : decode cX8_isWeather 15 = .ok (.iconst 4, 1) := dk_7 (dk_at dksX8_isWeather_0 15 rfl rfl)
theorem dX8_isWeather_16 : decode cX8_isWeather 16 = .ok (.if_icmp .ge 7, 3) := dk_162 0 7 (dk_at dksX8_isWeather_0 16 rfl rfl)
theorem dX8_isWeather_19 : decode cX8_isWeather 19 = .ok (.iconst 1, 1) := dk_4 (dk_at dksX8_isWeather_0 19 rfl rfl)
theorem dX8_isWeather_20 : decode cX8_isWeather 20 = .ok (.goto 4, 3) := dk_167 0 4 (dk_at dksX8_isWeather_0 20 rfl rfl)
theorem dX8_isWeather_23 : decode cX8_isWeather 23 = .ok (.iconst 0, 1) := dk_3 (dk_at dksX8_isWeather_0 23 rfl rfl)
theorem dX8_isWeather_24 : decode cX8_isWeather 24 = .ok (.ireturn, 1) := dk_172 (dk_at dksX8_isWeather_1 0 rfl rfl)
abbrev cX8_comes : ByteArray := prog_16_method_7_code
def yX8_comes : MethodName := ⟨RX8, "comes", "(I)V"⟩
def dkwX8_comes_2 : List UInt8 := [42, 180, 0, 34, 42, 180, 0, 11, 27, 16, 10, 112, 79, 42, 89, 180, 0, 11, 4, 96, 181, 0, 11, 177]
abbrev dktX8_comes_2 : List UInt8 := dkwX8_comes_2 ++ []
def dkwX8_comes_1 : List UInt8 := [17, 3, 232, 108, 16, 10, 112, 79, 42, 180, 0, 31, 42, 180, 0, 11, 27, 16, 10, 108, 16, 100, 112, 79]
abbrev dktX8_comes_1 : List UInt8 := dkwX8_comes_1 ++ dktX8_comes_2
def dkwX8_comes_0 : List UInt8 := [42, 180, 0, 25, 42, 180, 0, 11, 27, 17, 39, 16, 108, 79, 42, 180, 0, 28, 42, 180, 0, 11, 27]
abbrev dktX8_comes_0 : List UInt8 := dkwX8_comes_0 ++ dktX8_comes_1
theorem dksX8_comes_0 : cX8_comes.data.toList.drop 0 = dktX8_comes_0 := by decide +kernel
theorem dksX8_comes_1 : cX8_comes.data.toList.drop 23 = dktX8_comes_1 := dk_seg dksX8_comes_0 23 rfl rfl
theorem dksX8_comes_2 : cX8_comes.data.toList.drop 47 = dktX8_comes_2 := dk_seg dksX8_comes_1 24 rfl rfl
theorem dX8_comes_0 : decode cX8_comes 0 = .ok (.aload_n 0, 1) := dk_42 (dk_at dksX8_comes_0 0 rfl rfl)
theorem dX8_comes_1 : decode cX8_comes 1 = .ok (.getfield 25, 3) := dk_180 0 25 (dk_at dksX8_comes_0 1 rfl rfl)
theorem dX8_comes_4 : decode cX8_comes 4 = .ok (.aload_n 0, 1) := dk_42 (dk_at dksX8_comes_0 4 rfl rfl)
theorem dX8_comes_5 : decode cX8_comes 5 = .ok (.getfield 11, 3) := dk_180 0 11 (dk_at dksX8_comes_0 5 rfl rfl)
theorem dX8_comes_8 : decode cX8_comes 8 = .ok (.iload_n 1, 1) := dk_27 (dk_at dksX8_comes_0 8 rfl rfl)
theorem dX8_comes_9 : decode cX8_comes 9 = .ok (.sipush 10000, 3) := dk_17 39 16 (dk_at dksX8_comes_0 9 rfl rfl)
theorem dX8_comes_12 : decode cX8_comes 12 = .ok (.idiv, 1) := dk_108 (dk_at dksX8_comes_0 12 rfl rfl)
theorem dX8_comes_13 : decode cX8_comes 13 = .ok (.iastore, 1) := dk_79 (dk_at dksX8_comes_0 13 rfl rfl)
theorem dX8_comes_14 : decode cX8_comes 14 = .ok (.aload_n 0, 1) := dk_42 (dk_at dksX8_comes_0 14 rfl rfl)
theorem dX8_comes_15 : decode cX8_comes 15 = .ok (.getfield 28, 3) := dk_180 0 28 (dk_at dksX8_comes_0 15 rfl rfl)
theorem dX8_comes_18 : decode cX8_comes 18 = .ok (.aload_n 0, 1) := dk_42 (dk_at dksX8_comes_0 18 rfl rfl)
theorem dX8_comes_19 : decode cX8_comes 19 = .ok (.getfield 11, 3) := dk_180 0 11 (dk_at dksX8_comes_0 19 rfl rfl)
theorem dX8_comes_22 : decode cX8_comes 22 = .ok (.iload_n 1, 1) := dk_27 (dk_at dksX8_comes_0 22 rfl rfl)
theorem dX8_comes_23 : decode cX8_comes 23 = .ok (.sipush 1000, 3) := dk_17 3 232 (dk_at dksX8_comes_1 0 rfl rfl)
theorem dX8_comes_26 : decode cX8_comes 26 = .ok (.idiv, 1) := dk_108 (dk_at dksX8_comes_1 3 rfl rfl)
theorem dX8_comes_27 : decode cX8_comes 27 = .ok (.bipush 10, 2) := dk_16 10 (dk_at dksX8_comes_1 4 rfl rfl)
theorem dX8_comes_29 : decode cX8_comes 29 = .ok (.irem, 1) := dk_112 (dk_at dksX8_comes_1 6 rfl rfl)
theorem dX8_comes_30 : decode cX8_comes 30 = .ok (.iastore, 1) := dk_79 (dk_at dksX8_comes_1 7 rfl rfl)
theorem dX8_comes_31 : decode cX8_comes 31 = .ok (.aload_n 0, 1) := dk_42 (dk_at dksX8_comes_1 8 rfl rfl)
theorem dX8_comes_32 : decode cX8_comes 32 = .ok (.getfield 31, 3) := dk_180 0 31 (dk_at dksX8_comes_1 9 rfl rfl)
theorem dX8_comes_35 : decode cX8_comes 35 = .ok (.aload_n 0, 1) := dk_42 (dk_at dksX8_comes_1 12 rfl rfl)
theorem dX8_comes_36 : decode cX8_comes 36 = .ok (.getfield 11, 3) := dk_180 0 11 (dk_at dksX8_comes_1 13 rfl rfl)
theorem dX8_comes_39 : decode cX8_comes 39 = .ok (.iload_n 1, 1) := dk_27 (dk_at dksX8_comes_1 16 rfl rfl)
theorem dX8_comes_40 : decode cX8_comes 40 = .ok (.bipush 10, 2) := dk_16 10 (dk_at dksX8_comes_1 17 rfl rfl)
theorem dX8_comes_42 : decode cX8_comes 42 = .ok (.idiv, 1) := dk_108 (dk_at dksX8_comes_1 19 rfl rfl)
theorem dX8_comes_43 : decode cX8_comes 43 = .ok (.bipush 100, 2) := dk_16 100 (dk_at dksX8_comes_1 20 rfl rfl)
theorem dX8_comes_45 : decode cX8_comes 45 = .ok (.irem, 1) := dk_112 (dk_at dksX8_comes_1 22 rfl rfl)
theorem dX8_comes_46 : decode cX8_comes 46 = .ok (.iastore, 1) := dk_79 (dk_at dksX8_comes_1 23 rfl rfl)
theorem dX8_comes_47 : decode cX8_comes 47 = .ok (.aload_n 0, 1) := dk_42 (dk_at dksX8_comes_2 0 rfl rfl)
theorem dX8_comes_48 : decode cX8_comes 48 = .ok (.getfield 34, 3) := dk_180 0 34 (dk_at dksX8_comes_2 1 rfl rfl)
theorem dX8_comes_51 : decode cX8_comes 51 = .ok (.aload_n 0, 1) := dk_42 (dk_at dksX8_comes_2 4 rfl rfl)
theorem dX8_comes_52 : decode cX8_comes 52 = .ok (.getfield 11, 3) := dk_180 0 11 (dk_at dksX8_comes_2 5 rfl rfl)
theorem dX8_comes_55 : decode cX8_comes 55 = .ok (.iload_n 1, 1) := dk_27 (dk_at dksX8_comes_2 8 rfl rfl)
theorem dX8_comes_56 : decode cX8_comes 56 = .ok (.bipush 10, 2) := dk_16 10 (dk_at dksX8_comes_2 9 rfl rfl)
theorem dX8_comes_58 : decode cX8_comes 58 = .ok (.irem, 1) := dk_112 (dk_at dksX8_comes_2 11 rfl rfl)
theorem dX8_comes_59 : decode cX8_comes 59 = .ok (.iastore, 1) := dk_79 (dk_at dksX8_comes_2 12 rfl rfl)
theorem dX8_comes_60 : decode cX8_comes 60 = .ok (.aload_n 0, 1) := dk_42 (dk_at dksX8_comes_2 13 rfl rfl)
theorem dX8_comes_61 : decode cX8_comes 61 = .ok (.dup, 1) := dk_89 (dk_at dksX8_comes_2 14 rfl rfl)
theorem dX8_comes_62 : decode cX8_comes 62 = .ok (.getfield 11, 3) := dk_180 0 11 (dk_at dksX8_comes_2 15 rfl rfl)
theorem dX8_comes_65 : decode cX8_comes 65 = .ok (.iconst 1, 1) := dk_4 (dk_at dksX8_comes_2 18 rfl rfl)
theorem dX8_comes_66 : decode cX8_comes 66 = .ok (.iadd, 1) := dk_96 (dk_at dksX8_comes_2 19 rfl rfl)
theorem dX8_comes_67 : decode cX8_comes 67 = .ok (.putfield 11, 3) := dk_181 0 11 (dk_at dksX8_comes_2 20 rfl rfl)
theorem dX8_comes_70 : decode cX8_comes 70 = .ok (.return_, 1) := dk_177 (dk_at dksX8_comes_2 23 rfl rfl)
abbrev cX8_how : ByteArray := prog_16_method_9_code
def yX8_how : MethodName := ⟨RX8, "how", "(II)I"⟩
def dkwX8_how_3 : List UInt8 := [100, 172]
abbrev dktX8_how_3 : List UInt8 := dkwX8_how_3 ++ []
def dkwX8_how_2 : List UInt8 := [180, 0, 48, 42, 180, 0, 14, 28, 79, 42, 89, 180, 0, 14, 4, 96, 181, 0, 14, 42, 180, 0, 14, 4]
abbrev dktX8_how_2 : List UInt8 := dkwX8_how_2 ++ dktX8_how_3
def dkwX8_how_1 : List UInt8 := [42, 180, 0, 14, 16, 8, 160, 0, 6, 16, 252, 172, 42, 180, 0, 45, 42, 180, 0, 14, 27, 79, 42]
abbrev dktX8_how_1 : List UInt8 := dkwX8_how_1 ++ dktX8_how_2
def dkwX8_how_0 : List UInt8 := [42, 27, 3, 8, 182, 0, 7, 153, 0, 14, 42, 28, 3, 16, 20, 182, 0, 7, 154, 0, 6, 16, 254, 172]
abbrev dktX8_how_0 : List UInt8 := dkwX8_how_0 ++ dktX8_how_1
theorem dksX8_how_0 : cX8_how.data.toList.drop 0 = dktX8_how_0 := by decide +kernel
theorem dksX8_how_1 : cX8_how.data.toList.drop 24 = dktX8_how_1 := dk_seg dksX8_how_0 24 rfl rfl
theorem dksX8_how_2 : cX8_how.data.toList.drop 47 = dktX8_how_2 := dk_seg dksX8_how_1 23 rfl rfl
theorem dksX8_how_3 : cX8_how.data.toList.drop 71 = dktX8_how_3 := dk_seg dksX8_how_2 24 rfl rfl
theorem dX8_how_0 : decode cX8_how 0 = .ok (.aload_n 0, 1) := dk_42 (dk_at dksX8_how_0 0 rfl rfl)
theorem dX8_how_1 : decode cX8_how 1 = .ok (.iload_n 1, 1) := dk_27 (dk_at dksX8_how_0 1 rfl rfl)
theorem dX8_how_2 : decode cX8_how 2 = .ok (.iconst 0, 1) := dk_3 (dk_at dksX8_how_0 2 rfl rfl)
theorem dX8_how_3 : decode cX8_how 3 = .ok (.iconst 5, 1) := dk_8 (dk_at dksX8_how_0 3 rfl rfl)
theorem dX8_how_4 : decode cX8_how 4 = .ok (.invokevirtual 7, 3) := dk_182 0 7 (dk_at dksX8_how_0 4 rfl rfl)
theorem dX8_how_7 : decode cX8_how 7 = .ok (.ifCond .eq 14, 3) := dk_153 0 14 (dk_at dksX8_how_0 7 rfl rfl)
theorem dX8_how_10 : decode cX8_how 10 = .ok (.aload_n 0, 1) := dk_42 (dk_at dksX8_how_0 10 rfl rfl)
theorem dX8_how_11 : decode cX8_how 11 = .ok (.iload_n 2, 1) := dk_28 (dk_at dksX8_how_0 11 rfl rfl)
theorem dX8_how_12 : decode cX8_how 12 = .ok (.iconst 0, 1) := dk_3 (dk_at dksX8_how_0 12 rfl rfl)
theorem dX8_how_13 : decode cX8_how 13 = .ok (.bipush 20, 2) := dk_16 20 (dk_at dksX8_how_0 13 rfl rfl)
theorem dX8_how_15 : decode cX8_how 15 = .ok (.invokevirtual 7, 3) := dk_182 0 7 (dk_at dksX8_how_0 15 rfl rfl)
theorem dX8_how_18 : decode cX8_how 18 = .ok (.ifCond .ne 6, 3) := dk_154 0 6 (dk_at dksX8_how_0 18 rfl rfl)
theorem dX8_how_21 : decode cX8_how 21 = .ok (.bipush (-2), 2) := dk_16 254 (dk_at dksX8_how_0 21 rfl rfl)
theorem dX8_how_23 : decode cX8_how 23 = .ok (.ireturn, 1) := dk_172 (dk_at dksX8_how_0 23 rfl rfl)
theorem dX8_how_24 : decode cX8_how 24 = .ok (.aload_n 0, 1) := dk_42 (dk_at dksX8_how_1 0 rfl rfl)
theorem dX8_how_25 : decode cX8_how 25 = .ok (.getfield 14, 3) := dk_180 0 14 (dk_at dksX8_how_1 1 rfl rfl)
theorem dX8_how_28 : decode cX8_how 28 = .ok (.bipush 8, 2) := dk_16 8 (dk_at dksX8_how_1 4 rfl rfl)
theorem dX8_how_30 : decode cX8_how 30 = .ok (.if_icmp .ne 6, 3) := dk_160 0 6 (dk_at dksX8_how_1 6 rfl rfl)
theorem dX8_how_33 : decode cX8_how 33 = .ok (.bipush (-4), 2) := dk_16 252 (dk_at dksX8_how_1 9 rfl rfl)
theorem dX8_how_35 : decode cX8_how 35 = .ok (.ireturn, 1) := dk_172 (dk_at dksX8_how_1 11 rfl rfl)
theorem dX8_how_36 : decode cX8_how 36 = .ok (.aload_n 0, 1) := dk_42 (dk_at dksX8_how_1 12 rfl rfl)
theorem dX8_how_37 : decode cX8_how 37 = .ok (.getfield 45, 3) := dk_180 0 45 (dk_at dksX8_how_1 13 rfl rfl)
theorem dX8_how_40 : decode cX8_how 40 = .ok (.aload_n 0, 1) := dk_42 (dk_at dksX8_how_1 16 rfl rfl)
theorem dX8_how_41 : decode cX8_how 41 = .ok (.getfield 14, 3) := dk_180 0 14 (dk_at dksX8_how_1 17 rfl rfl)
theorem dX8_how_44 : decode cX8_how 44 = .ok (.iload_n 1, 1) := dk_27 (dk_at dksX8_how_1 20 rfl rfl)
theorem dX8_how_45 : decode cX8_how 45 = .ok (.iastore, 1) := dk_79 (dk_at dksX8_how_1 21 rfl rfl)
theorem dX8_how_46 : decode cX8_how 46 = .ok (.aload_n 0, 1) := dk_42 (dk_at dksX8_how_1 22 rfl rfl)
theorem dX8_how_47 : decode cX8_how 47 = .ok (.getfield 48, 3) := dk_180 0 48 (dk_at dksX8_how_2 0 rfl rfl)
theorem dX8_how_50 : decode cX8_how 50 = .ok (.aload_n 0, 1) := dk_42 (dk_at dksX8_how_2 3 rfl rfl)
theorem dX8_how_51 : decode cX8_how 51 = .ok (.getfield 14, 3) := dk_180 0 14 (dk_at dksX8_how_2 4 rfl rfl)
theorem dX8_how_54 : decode cX8_how 54 = .ok (.iload_n 2, 1) := dk_28 (dk_at dksX8_how_2 7 rfl rfl)
theorem dX8_how_55 : decode cX8_how 55 = .ok (.iastore, 1) := dk_79 (dk_at dksX8_how_2 8 rfl rfl)
theorem dX8_how_56 : decode cX8_how 56 = .ok (.aload_n 0, 1) := dk_42 (dk_at dksX8_how_2 9 rfl rfl)
theorem dX8_how_57 : decode cX8_how 57 = .ok (.dup, 1) := dk_89 (dk_at dksX8_how_2 10 rfl rfl)
theorem dX8_how_58 : decode cX8_how 58 = .ok (.getfield 14, 3) := dk_180 0 14 (dk_at dksX8_how_2 11 rfl rfl)
theorem dX8_how_61 : decode cX8_how 61 = .ok (.iconst 1, 1) := dk_4 (dk_at dksX8_how_2 14 rfl rfl)
theorem dX8_how_62 : decode cX8_how 62 = .ok (.iadd, 1) := dk_96 (dk_at dksX8_how_2 15 rfl rfl)
theorem dX8_how_63 : decode cX8_how 63 = .ok (.putfield 14, 3) := dk_181 0 14 (dk_at dksX8_how_2 16 rfl rfl)
theorem dX8_how_66 : decode cX8_how 66 = .ok (.aload_n 0, 1) := dk_42 (dk_at dksX8_how_2 19 rfl rfl)
theorem dX8_how_67 : decode cX8_how 67 = .ok (.getfield 14, 3) := dk_180 0 14 (dk_at dksX8_how_2 20 rfl rfl)
theorem dX8_how_70 : decode cX8_how 70 = .ok (.iconst 1, 1) := dk_4 (dk_at dksX8_how_2 23 rfl rfl)
theorem dX8_how_71 : decode cX8_how 71 = .ok (.isub, 1) := dk_100 (dk_at dksX8_how_3 0 rfl rfl)
theorem dX8_how_72 : decode cX8_how 72 = .ok (.ireturn, 1) := dk_172 (dk_at dksX8_how_3 1 rfl rfl)
abbrev cX8_stoneTold : ByteArray := prog_16_method_10_code
def yX8_stoneTold : MethodName := ⟨RX8, "stoneTold", "(II)I"⟩
def dkwX8_stoneTold_1 : List UInt8 := [154, 0, 12, 42, 180, 0, 21, 27, 46, 167, 0, 9, 42, 180, 0, 17, 27, 46, 172]
abbrev dktX8_stoneTold_1 : List UInt8 := dkwX8_stoneTold_1 ++ []
def dkwX8_stoneTold_0 : List UInt8 := [42, 27, 182, 0, 51, 153, 0, 13, 42, 28, 3, 4, 182, 0, 7, 154, 0, 6, 16, 251, 172, 28]
abbrev dktX8_stoneTold_0 : List UInt8 := dkwX8_stoneTold_0 ++ dktX8_stoneTold_1
theorem dksX8_stoneTold_0 : cX8_stoneTold.data.toList.drop 0 = dktX8_stoneTold_0 := by decide +kernel
theorem dksX8_stoneTold_1 : cX8_stoneTold.data.toList.drop 22 = dktX8_stoneTold_1 := dk_seg dksX8_stoneTold_0 22 rfl rfl
theorem dX8_stoneTold_0 : decode cX8_stoneTold 0 = .ok (.aload_n 0, 1) := dk_42 (dk_at dksX8_stoneTold_0 0 rfl rfl)
theorem dX8_stoneTold_1 : decode cX8_stoneTold 1 = .ok (.iload_n 1, 1) := dk_27 (dk_at dksX8_stoneTold_0 1 rfl rfl)
theorem dX8_stoneTold_2 : decode cX8_stoneTold 2 = .ok (.invokevirtual 51, 3) := dk_182 0 51 (dk_at dksX8_stoneTold_0 2 rfl rfl)
theorem dX8_stoneTold_5 : decode cX8_stoneTold 5 = .ok (.ifCond .eq 13, 3) := dk_153 0 13 (dk_at dksX8_stoneTold_0 5 rfl rfl)
theorem dX8_stoneTold_8 : decode cX8_stoneTold 8 = .ok (.aload_n 0, 1) := dk_42 (dk_at dksX8_stoneTold_0 8 rfl rfl)
theorem dX8_stoneTold_9 : decode cX8_stoneTold 9 = .ok (.iload_n 2, 1) := dk_28 (dk_at dksX8_stoneTold_0 9 rfl rfl)
theorem dX8_stoneTold_10 : decode cX8_stoneTold 10 = .ok (.iconst 0, 1) := dk_3 (dk_at dksX8_stoneTold_0 10 rfl rfl)
theorem dX8_stoneTold_11 : decode cX8_stoneTold 11 = .ok (.iconst 1, 1) := dk_4 (dk_at dksX8_stoneTold_0 11 rfl rfl)
theorem dX8_stoneTold_12 : decode cX8_stoneTold 12 = .ok (.invokevirtual 7, 3) := dk_182 0 7 (dk_at dksX8_stoneTold_0 12 rfl rfl)
theorem dX8_stoneTold_15 : decode cX8_stoneTold 15 = .ok (.ifCond .ne 6, 3) := dk_154 0 6 (dk_at dksX8_stoneTold_0 15 rfl rfl)
theorem dX8_stoneTold_18 : decode cX8_stoneTold 18 = .ok (.bipush (-5), 2) := dk_16 251 (dk_at dksX8_stoneTold_0 18 rfl rfl)
theorem dX8_stoneTold_20 : decode cX8_stoneTold 20 = .ok (.ireturn, 1) := dk_172 (dk_at dksX8_stoneTold_0 20 rfl rfl)
theorem dX8_stoneTold_21 : decode cX8_stoneTold 21 = .ok (.iload_n 2, 1) := dk_28 (dk_at dksX8_stoneTold_0 21 rfl rfl)
theorem dX8_stoneTold_22 : decode cX8_stoneTold 22 = .ok (.ifCond .ne 12, 3) := dk_154 0 12 (dk_at dksX8_stoneTold_1 0 rfl rfl)
theorem dX8_stoneTold_25 : decode cX8_stoneTold 25 = .ok (.aload_n 0, 1) := dk_42 (dk_at dksX8_stoneTold_1 3 rfl rfl)
theorem dX8_stoneTold_26 : decode cX8_stoneTold 26 = .ok (.getfield 21, 3) := dk_180 0 21 (dk_at dksX8_stoneTold_1 4 rfl rfl)
theorem dX8_stoneTold_29 : decode cX8_stoneTold 29 = .ok (.iload_n 1, 1) := dk_27 (dk_at dksX8_stoneTold_1 7 rfl rfl)
theorem dX8_stoneTold_30 : decode cX8_stoneTold 30 = .ok (.iaload, 1) := dk_46 (dk_at dksX8_stoneTold_1 8 rfl rfl)
theorem dX8_stoneTold_31 : decode cX8_stoneTold 31 = .ok (.goto 9, 3) := dk_167 0 9 (dk_at dksX8_stoneTold_1 9 rfl rfl)
theorem dX8_stoneTold_34 : decode cX8_stoneTold 34 = .ok (.aload_n 0, 1) := dk_42 (dk_at dksX8_stoneTold_1 12 rfl rfl)
theorem dX8_stoneTold_35 : decode cX8_stoneTold 35 = .ok (.getfield 17, 3) := dk_180 0 17 (dk_at dksX8_stoneTold_1 13 rfl rfl)
theorem dX8_stoneTold_38 : decode cX8_stoneTold 38 = .ok (.iload_n 1, 1) := dk_27 (dk_at dksX8_stoneTold_1 16 rfl rfl)
theorem dX8_stoneTold_39 : decode cX8_stoneTold 39 = .ok (.iaload, 1) := dk_46 (dk_at dksX8_stoneTold_1 17 rfl rfl)
theorem dX8_stoneTold_40 : decode cX8_stoneTold 40 = .ok (.ireturn, 1) := dk_172 (dk_at dksX8_stoneTold_1 18 rfl rfl)
abbrev cX8_isStone : ByteArray := prog_16_method_2_code
def yX8_isStone : MethodName := ⟨RX8, "isStone", "(I)Z"⟩
def dkwX8_isStone_0 : List UInt8 := [42, 27, 3, 42, 180, 0, 1, 4, 100, 182, 0, 7, 172]
abbrev dktX8_isStone_0 : List UInt8 := dkwX8_isStone_0 ++ []
theorem dksX8_isStone_0 : cX8_isStone.data.toList.drop 0 = dktX8_isStone_0 := by decide +kernel
theorem dX8_isStone_0 : decode cX8_isStone 0 = .ok (.aload_n 0, 1) := dk_42 (dk_at dksX8_isStone_0 0 rfl rfl)
theorem dX8_isStone_1 : decode cX8_isStone 1 = .ok (.iload_n 1, 1) := dk_27 (dk_at dksX8_isStone_0 1 rfl rfl)
theorem dX8_isStone_2 : decode cX8_isStone 2 = .ok (.iconst 0, 1) := dk_3 (dk_at dksX8_isStone_0 2 rfl rfl)
theorem dX8_isStone_3 : decode cX8_isStone 3 = .ok (.aload_n 0, 1) := dk_42 (dk_at dksX8_isStone_0 3 rfl rfl)
theorem dX8_isStone_4 : decode cX8_isStone 4 = .ok (.getfield 1, 3) := dk_180 0 1 (dk_at dksX8_isStone_0 4 rfl rfl)
theorem dX8_isStone_7 : decode cX8_isStone 7 = .ok (.iconst 1, 1) := dk_4 (dk_at dksX8_isStone_0 7 rfl rfl)
theorem dX8_isStone_8 : decode cX8_isStone 8 = .ok (.isub, 1) := dk_100 (dk_at dksX8_isStone_0 8 rfl rfl)
theorem dX8_isStone_9 : decode cX8_isStone 9 = .ok (.invokevirtual 7, 3) := dk_182 0 7 (dk_at dksX8_isStone_0 9 rfl rfl)
theorem dX8_isStone_12 : decode cX8_isStone 12 = .ok (.ireturn, 1) := dk_172 (dk_at dksX8_isStone_0 12 rfl rfl)
abbrev cX8_init : ByteArray := prog_16_method_11_code
def yX8_init : MethodName := ⟨RX8, "<init>", "()V"⟩
def dkwX8_init_19 : List UInt8 := [180, 0, 96, 17, 1, 64, 6, 79, 42, 4, 181, 0, 60, 177]
abbrev dktX8_init_19 : List UInt8 := dkwX8_init_19 ++ []
def dkwX8_init_18 : List UInt8 := [17, 0, 162, 8, 79, 42, 180, 0, 99, 5, 4, 79, 42, 180, 0, 93, 17, 1, 64, 4, 79, 42]
abbrev dktX8_init_18 : List UInt8 := dkwX8_init_18 ++ dktX8_init_19
def dkwX8_init_17 : List UInt8 := [79, 42, 180, 0, 93, 17, 0, 161, 4, 79, 42, 180, 0, 96, 17, 0, 161, 5, 79, 42, 180, 0, 93]
abbrev dktX8_init_17 : List UInt8 := dkwX8_init_17 ++ dktX8_init_18
def dkwX8_init_16 : List UInt8 := [181, 0, 184, 42, 16, 12, 188, 10, 181, 0, 187, 42, 180, 0, 99, 3, 4, 79, 42, 180, 0, 99, 4, 6]
abbrev dktX8_init_16 : List UInt8 := dkwX8_init_16 ++ dktX8_init_17
def dkwX8_init_15 : List UInt8 := [181, 0, 175, 42, 7, 188, 10, 181, 0, 178, 42, 17, 0, 160, 188, 10, 181, 0, 181, 42, 16, 40, 188, 10]
abbrev dktX8_init_15 : List UInt8 := dkwX8_init_15 ++ dktX8_init_16
def dkwX8_init_14 : List UInt8 := [181, 0, 172, 42, 7, 188, 10, 89, 3, 2, 79, 89, 4, 2, 79, 89, 5, 2, 79, 89, 6, 2, 79]
abbrev dktX8_init_14 : List UInt8 := dkwX8_init_14 ++ dktX8_init_15
def dkwX8_init_13 : List UInt8 := [181, 0, 160, 42, 3, 181, 0, 163, 42, 3, 181, 0, 166, 42, 3, 181, 0, 169, 42, 16, 10, 188, 10]
abbrev dktX8_init_13 : List UInt8 := dkwX8_init_13 ++ dktX8_init_14
def dkwX8_init_12 : List UInt8 := [181, 0, 147, 42, 16, 20, 188, 10, 181, 0, 150, 42, 3, 181, 0, 153, 42, 3, 181, 0, 157, 42, 3]
abbrev dktX8_init_12 : List UInt8 := dkwX8_init_12 ++ dktX8_init_13
def dkwX8_init_11 : List UInt8 := [42, 3, 181, 0, 138, 42, 16, 8, 188, 10, 181, 0, 141, 42, 3, 181, 0, 144, 42, 16, 20, 188, 10]
abbrev dktX8_init_11 : List UInt8 := dkwX8_init_11 ++ dktX8_init_12
def dkwX8_init_10 : List UInt8 := [42, 16, 24, 188, 10, 181, 0, 129, 42, 16, 24, 188, 10, 181, 0, 132, 42, 16, 24, 188, 10, 181, 0, 135]
abbrev dktX8_init_10 : List UInt8 := dkwX8_init_10 ++ dktX8_init_11
def dkwX8_init_9 : List UInt8 := [181, 0, 117, 42, 16, 10, 188, 10, 181, 0, 120, 42, 3, 181, 0, 123, 42, 16, 24, 188, 10, 181, 0, 126]
abbrev dktX8_init_9 : List UInt8 := dkwX8_init_9 ++ dktX8_init_10
def dkwX8_init_8 : List UInt8 := [181, 0, 108, 42, 16, 10, 188, 10, 181, 0, 111, 42, 16, 10, 188, 10, 181, 0, 114, 42, 16, 10, 188, 10]
abbrev dktX8_init_8 : List UInt8 := dkwX8_init_8 ++ dktX8_init_9
def dkwX8_init_7 : List UInt8 := [181, 0, 99, 42, 17, 0, 161, 188, 10, 181, 0, 102, 42, 17, 0, 161, 188, 10, 181, 0, 105, 42, 2]
abbrev dktX8_init_7 : List UInt8 := dkwX8_init_7 ++ dktX8_init_8
def dkwX8_init_6 : List UInt8 := [17, 11, 64, 188, 10, 181, 0, 93, 42, 17, 11, 64, 188, 10, 181, 0, 96, 42, 16, 18, 188, 10]
abbrev dktX8_init_6 : List UInt8 := dkwX8_init_6 ++ dktX8_init_7
def dkwX8_init_5 : List UInt8 := [3, 181, 0, 81, 42, 3, 181, 0, 84, 42, 3, 181, 0, 87, 42, 17, 0, 160, 188, 10, 181, 0, 90, 42]
abbrev dktX8_init_5 : List UInt8 := dkwX8_init_5 ++ dktX8_init_6
def dkwX8_init_4 : List UInt8 := [181, 0, 66, 42, 3, 181, 0, 69, 42, 3, 181, 0, 72, 42, 3, 181, 0, 75, 42, 3, 181, 0, 78, 42]
abbrev dktX8_init_4 : List UInt8 := dkwX8_init_4 ++ dktX8_init_5
def dkwX8_init_3 : List UInt8 := [181, 0, 45, 42, 16, 8, 188, 10, 181, 0, 48, 42, 3, 181, 0, 60, 42, 3, 181, 0, 63, 42, 3]
abbrev dktX8_init_3 : List UInt8 := dkwX8_init_3 ++ dktX8_init_4
def dkwX8_init_2 : List UInt8 := [181, 0, 28, 42, 16, 60, 188, 10, 181, 0, 31, 42, 16, 60, 188, 10, 181, 0, 34, 42, 16, 8, 188, 10]
abbrev dktX8_init_2 : List UInt8 := dkwX8_init_2 ++ dktX8_init_3
def dkwX8_init_1 : List UInt8 := [181, 0, 21, 42, 16, 10, 188, 10, 181, 0, 17, 42, 16, 60, 188, 10, 181, 0, 25, 42, 16, 60, 188, 10]
abbrev dktX8_init_1 : List UInt8 := dkwX8_init_1 ++ dktX8_init_2
def dkwX8_init_0 : List UInt8 := [42, 183, 0, 54, 42, 3, 181, 0, 1, 42, 3, 181, 0, 11, 42, 3, 181, 0, 14, 42, 16, 10, 188, 10]
abbrev dktX8_init_0 : List UInt8 := dkwX8_init_0 ++ dktX8_init_1
theorem dksX8_init_0 : cX8_init.data.toList.drop 0 = dktX8_init_0 := by decide +kernel
theorem dksX8_init_1 : cX8_init.data.toList.drop 24 = dktX8_init_1 := dk_seg dksX8_init_0 24 rfl rfl
theorem dksX8_init_2 : cX8_init.data.toList.drop 48 = dktX8_init_2 := dk_seg dksX8_init_1 24 rfl rfl
theorem dksX8_init_3 : cX8_init.data.toList.drop 72 = dktX8_init_3 := dk_seg dksX8_init_2 24 rfl rfl
theorem dksX8_init_4 : cX8_init.data.toList.drop 95 = dktX8_init_4 := dk_seg dksX8_init_3 23 rfl rfl
theorem dksX8_init_5 : cX8_init.data.toList.drop 119 = dktX8_init_5 := dk_seg dksX8_init_4 24 rfl rfl
theorem dksX8_init_6 : cX8_init.data.toList.drop 143 = dktX8_init_6 := dk_seg dksX8_init_5 24 rfl rfl
theorem dksX8_init_7 : cX8_init.data.toList.drop 165 = dktX8_init_7 := dk_seg dksX8_init_6 22 rfl rfl
theorem dksX8_init_8 : cX8_init.data.toList.drop 188 = dktX8_init_8 := dk_seg dksX8_init_7 23 rfl rfl
theorem dksX8_init_9 : cX8_init.data.toList.drop 212 = dktX8_init_9 := dk_seg dksX8_init_8 24 rfl rfl
theorem dksX8_init_10 : cX8_init.data.toList.drop 236 = dktX8_init_10 := dk_seg dksX8_init_9 24 rfl rfl
theorem dksX8_init_11 : cX8_init.data.toList.drop 260 = dktX8_init_11 := dk_seg dksX8_init_10 24 rfl rfl
theorem dksX8_init_12 : cX8_init.data.toList.drop 283 = dktX8_init_12 := dk_seg dksX8_init_11 23 rfl rfl
theorem dksX8_init_13 : cX8_init.data.toList.drop 306 = dktX8_init_13 := dk_seg dksX8_init_12 23 rfl rfl
theorem dksX8_init_14 : cX8_init.data.toList.drop 329 = dktX8_init_14 := dk_seg dksX8_init_13 23 rfl rfl
theorem dksX8_init_15 : cX8_init.data.toList.drop 352 = dktX8_init_15 := dk_seg dksX8_init_14 23 rfl rfl
theorem dksX8_init_16 : cX8_init.data.toList.drop 376 = dktX8_init_16 := dk_seg dksX8_init_15 24 rfl rfl
theorem dksX8_init_17 : cX8_init.data.toList.drop 400 = dktX8_init_17 := dk_seg dksX8_init_16 24 rfl rfl
theorem dksX8_init_18 : cX8_init.data.toList.drop 423 = dktX8_init_18 := dk_seg dksX8_init_17 23 rfl rfl
theorem dksX8_init_19 : cX8_init.data.toList.drop 445 = dktX8_init_19 := dk_seg dksX8_init_18 22 rfl rfl
theorem dX8_init_0 : decode cX8_init 0 = .ok (.aload_n 0, 1) := dk_42 (dk_at dksX8_init_0 0 rfl rfl)
theorem dX8_init_1 : decode cX8_init 1 = .ok (.invokespecial 54, 3) := dk_183 0 54 (dk_at dksX8_init_0 1 rfl rfl)
theorem dX8_init_4 : decode cX8_init 4 = .ok (.aload_n 0, 1) := dk_42 (dk_at dksX8_init_0 4 rfl rfl)
theorem dX8_init_5 : decode cX8_init 5 = .ok (.iconst 0, 1) := dk_3 (dk_at dksX8_init_0 5 rfl rfl)
theorem dX8_init_6 : decode cX8_init 6 = .ok (.putfield 1, 3) := dk_181 0 1 (dk_at dksX8_init_0 6 rfl rfl)
theorem dX8_init_9 : decode cX8_init 9 = .ok (.aload_n 0, 1) := dk_42 (dk_at dksX8_init_0 9 rfl rfl)
theorem dX8_init_10 : decode cX8_init 10 = .ok (.iconst 0, 1) := dk_3 (dk_at dksX8_init_0 10 rfl rfl)
theorem dX8_init_11 : decode cX8_init 11 = .ok (.putfield 11, 3) := dk_181 0 11 (dk_at dksX8_init_0 11 rfl rfl)
theorem dX8_init_14 : decode cX8_init 14 = .ok (.aload_n 0, 1) := dk_42 (dk_at dksX8_init_0 14 rfl rfl)
theorem dX8_init_15 : decode cX8_init 15 = .ok (.iconst 0, 1) := dk_3 (dk_at dksX8_init_0 15 rfl rfl)
theorem dX8_init_16 : decode cX8_init 16 = .ok (.putfield 14, 3) := dk_181 0 14 (dk_at dksX8_init_0 16 rfl rfl)
theorem dX8_init_19 : decode cX8_init 19 = .ok (.aload_n 0, 1) := dk_42 (dk_at dksX8_init_0 19 rfl rfl)
theorem dX8_init_20 : decode cX8_init 20 = .ok (.bipush 10, 2) := dk_16 10 (dk_at dksX8_init_0 20 rfl rfl)
theorem dX8_init_22 : decode cX8_init 22 = .ok (.newarray .int, 2) := dk_188_10 (dk_at dksX8_init_0 22 rfl rfl)
theorem dX8_init_24 : decode cX8_init 24 = .ok (.putfield 21, 3) := dk_181 0 21 (dk_at dksX8_init_1 0 rfl rfl)
theorem dX8_init_27 : decode cX8_init 27 = .ok (.aload_n 0, 1) := dk_42 (dk_at dksX8_init_1 3 rfl rfl)
theorem dX8_init_28 : decode cX8_init 28 = .ok (.bipush 10, 2) := dk_16 10 (dk_at dksX8_init_1 4 rfl rfl)
theorem dX8_init_30 : decode cX8_init 30 = .ok (.newarray .int, 2) := dk_188_10 (dk_at dksX8_init_1 6 rfl rfl)
theorem dX8_init_32 : decode cX8_init 32 = .ok (.putfield 17, 3) := dk_181 0 17 (dk_at dksX8_init_1 8 rfl rfl)
theorem dX8_init_35 : decode cX8_init 35 = .ok (.aload_n 0, 1) := dk_42 (dk_at dksX8_init_1 11 rfl rfl)
theorem dX8_init_36 : decode cX8_init 36 = .ok (.bipush 60, 2) := dk_16 60 (dk_at dksX8_init_1 12 rfl rfl)
theorem dX8_init_38 : decode cX8_init 38 = .ok (.newarray .int, 2) := dk_188_10 (dk_at dksX8_init_1 14 rfl rfl)
theorem dX8_init_40 : decode cX8_init 40 = .ok (.putfield 25, 3) := dk_181 0 25 (dk_at dksX8_init_1 16 rfl rfl)
theorem dX8_init_43 : decode cX8_init 43 = .ok (.aload_n 0, 1) := dk_42 (dk_at dksX8_init_1 19 rfl rfl)
theorem dX8_init_44 : decode cX8_init 44 = .ok (.bipush 60, 2) := dk_16 60 (dk_at dksX8_init_1 20 rfl rfl)
theorem dX8_init_46 : decode cX8_init 46 = .ok (.newarray .int, 2) := dk_188_10 (dk_at dksX8_init_1 22 rfl rfl)
theorem dX8_init_48 : decode cX8_init 48 = .ok (.putfield 28, 3) := dk_181 0 28 (dk_at dksX8_init_2 0 rfl rfl)
theorem dX8_init_51 : decode cX8_init 51 = .ok (.aload_n 0, 1) := dk_42 (dk_at dksX8_init_2 3 rfl rfl)
theorem dX8_init_52 : decode cX8_init 52 = .ok (.bipush 60, 2) := dk_16 60 (dk_at dksX8_init_2 4 rfl rfl)
theorem dX8_init_54 : decode cX8_init 54 = .ok (.newarray .int, 2) := dk_188_10 (dk_at dksX8_init_2 6 rfl rfl)
theorem dX8_init_56 : decode cX8_init 56 = .ok (.putfield 31, 3) := dk_181 0 31 (dk_at dksX8_init_2 8 rfl rfl)
theorem dX8_init_59 : decode cX8_init 59 = .ok (.aload_n 0, 1) := dk_42 (dk_at dksX8_init_2 11 rfl rfl)
theorem dX8_init_60 : decode cX8_init 60 = .ok (.bipush 60, 2) := dk_16 60 (dk_at dksX8_init_2 12 rfl rfl)
theorem dX8_init_62 : decode cX8_init 62 = .ok (.newarray .int, 2) := dk_188_10 (dk_at dksX8_init_2 14 rfl rfl)
theorem dX8_init_64 : decode cX8_init 64 = .ok (.putfield 34, 3) := dk_181 0 34 (dk_at dksX8_init_2 16 rfl rfl)
theorem dX8_init_67 : decode cX8_init 67 = .ok (.aload_n 0, 1) := dk_42 (dk_at dksX8_init_2 19 rfl rfl)
theorem dX8_init_68 : decode cX8_init 68 = .ok (.bipush 8, 2) := dk_16 8 (dk_at dksX8_init_2 20 rfl rfl)
theorem dX8_init_70 : decode cX8_init 70 = .ok (.newarray .int, 2) := dk_188_10 (dk_at dksX8_init_2 22 rfl rfl)
theorem dX8_init_72 : decode cX8_init 72 = .ok (.putfield 45, 3) := dk_181 0 45 (dk_at dksX8_init_3 0 rfl rfl)
theorem dX8_init_75 : decode cX8_init 75 = .ok (.aload_n 0, 1) := dk_42 (dk_at dksX8_init_3 3 rfl rfl)
theorem dX8_init_76 : decode cX8_init 76 = .ok (.bipush 8, 2) := dk_16 8 (dk_at dksX8_init_3 4 rfl rfl)
theorem dX8_init_78 : decode cX8_init 78 = .ok (.newarray .int, 2) := dk_188_10 (dk_at dksX8_init_3 6 rfl rfl)
theorem dX8_init_80 : decode cX8_init 80 = .ok (.putfield 48, 3) := dk_181 0 48 (dk_at dksX8_init_3 8 rfl rfl)
theorem dX8_init_83 : decode cX8_init 83 = .ok (.aload_n 0, 1) := dk_42 (dk_at dksX8_init_3 11 rfl rfl)
theorem dX8_init_84 : decode cX8_init 84 = .ok (.iconst 0, 1) := dk_3 (dk_at dksX8_init_3 12 rfl rfl)
theorem dX8_init_85 : decode cX8_init 85 = .ok (.putfield 60, 3) := dk_181 0 60 (dk_at dksX8_init_3 13 rfl rfl)
theorem dX8_init_88 : decode cX8_init 88 = .ok (.aload_n 0, 1) := dk_42 (dk_at dksX8_init_3 16 rfl rfl)
theorem dX8_init_89 : decode cX8_init 89 = .ok (.iconst 0, 1) := dk_3 (dk_at dksX8_init_3 17 rfl rfl)
theorem dX8_init_90 : decode cX8_init 90 = .ok (.putfield 63, 3) := dk_181 0 63 (dk_at dksX8_init_3 18 rfl rfl)
theorem dX8_init_93 : decode cX8_init 93 = .ok (.aload_n 0, 1) := dk_42 (dk_at dksX8_init_3 21 rfl rfl)
theorem dX8_init_94 : decode cX8_init 94 = .ok (.iconst 0, 1) := dk_3 (dk_at dksX8_init_3 22 rfl rfl)
theorem dX8_init_95 : decode cX8_init 95 = .ok (.putfield 66, 3) := dk_181 0 66 (dk_at dksX8_init_4 0 rfl rfl)
theorem dX8_init_98 : decode cX8_init 98 = .ok (.aload_n 0, 1) := dk_42 (dk_at dksX8_init_4 3 rfl rfl)
theorem dX8_init_99 : decode cX8_init 99 = .ok (.iconst 0, 1) := dk_3 (dk_at dksX8_init_4 4 rfl rfl)
theorem dX8_init_100 : decode cX8_init 100 = .ok (.putfield 69, 3) := dk_181 0 69 (dk_at dksX8_init_4 5 rfl rfl)
theorem dX8_init_103 : decode cX8_init 103 = .ok (.aload_n 0, 1) := dk_42 (dk_at dksX8_init_4 8 rfl rfl)
theorem dX8_init_104 : decode cX8_init 104 = .ok (.iconst 0, 1) := dk_3 (dk_at dksX8_init_4 9 rfl rfl)
theorem dX8_init_105 : decode cX8_init 105 = .ok (.putfield 72, 3) := dk_181 0 72 (dk_at dksX8_init_4 10 rfl rfl)
theorem dX8_init_108 : decode cX8_init 108 = .ok (.aload_n 0, 1) := dk_42 (dk_at dksX8_init_4 13 rfl rfl)
theorem dX8_init_109 : decode cX8_init 109 = .ok (.iconst 0, 1) := dk_3 (dk_at dksX8_init_4 14 rfl rfl)
theorem dX8_init_110 : decode cX8_init 110 = .ok (.putfield 75, 3) := dk_181 0 75 (dk_at dksX8_init_4 15 rfl rfl)
theorem dX8_init_113 : decode cX8_init 113 = .ok (.aload_n 0, 1) := dk_42 (dk_at dksX8_init_4 18 rfl rfl)
theorem dX8_init_114 : decode cX8_init 114 = .ok (.iconst 0, 1) := dk_3 (dk_at dksX8_init_4 19 rfl rfl)
theorem dX8_init_115 : decode cX8_init 115 = .ok (.putfield 78, 3) := dk_181 0 78 (dk_at dksX8_init_4 20 rfl rfl)
theorem dX8_init_118 : decode cX8_init 118 = .ok (.aload_n 0, 1) := dk_42 (dk_at dksX8_init_4 23 rfl rfl)
theorem dX8_init_119 : decode cX8_init 119 = .ok (.iconst 0, 1) := dk_3 (dk_at dksX8_init_5 0 rfl rfl)
theorem dX8_init_120 : decode cX8_init 120 = .ok (.putfield 81, 3) := dk_181 0 81 (dk_at dksX8_init_5 1 rfl rfl)
theorem dX8_init_123 : decode cX8_init 123 = .ok (.aload_n 0, 1) := dk_42 (dk_at dksX8_init_5 4 rfl rfl)
theorem dX8_init_124 : decode cX8_init 124 = .ok (.iconst 0, 1) := dk_3 (dk_at dksX8_init_5 5 rfl rfl)
theorem dX8_init_125 : decode cX8_init 125 = .ok (.putfield 84, 3) := dk_181 0 84 (dk_at dksX8_init_5 6 rfl rfl)
theorem dX8_init_128 : decode cX8_init 128 = .ok (.aload_n 0, 1) := dk_42 (dk_at dksX8_init_5 9 rfl rfl)
theorem dX8_init_129 : decode cX8_init 129 = .ok (.iconst 0, 1) := dk_3 (dk_at dksX8_init_5 10 rfl rfl)
theorem dX8_init_130 : decode cX8_init 130 = .ok (.putfield 87, 3) := dk_181 0 87 (dk_at dksX8_init_5 11 rfl rfl)
theorem dX8_init_133 : decode cX8_init 133 = .ok (.aload_n 0, 1) := dk_42 (dk_at dksX8_init_5 14 rfl rfl)
theorem dX8_init_134 : decode cX8_init 134 = .ok (.sipush 160, 3) := dk_17 0 160 (dk_at dksX8_init_5 15 rfl rfl)
theorem dX8_init_137 : decode cX8_init 137 = .ok (.newarray .int, 2) := dk_188_10 (dk_at dksX8_init_5 18 rfl rfl)
theorem dX8_init_139 : decode cX8_init 139 = .ok (.putfield 90, 3) := dk_181 0 90 (dk_at dksX8_init_5 20 rfl rfl)
theorem dX8_init_142 : decode cX8_init 142 = .ok (.aload_n 0, 1) := dk_42 (dk_at dksX8_init_5 23 rfl rfl)
theorem dX8_init_143 : decode cX8_init 143 = .ok (.sipush 2880, 3) := dk_17 11 64 (dk_at dksX8_init_6 0 rfl rfl)
theorem dX8_init_146 : decode cX8_init 146 = .ok (.newarray .int, 2) := dk_188_10 (dk_at dksX8_init_6 3 rfl rfl)
theorem dX8_init_148 : decode cX8_init 148 = .ok (.putfield 93, 3) := dk_181 0 93 (dk_at dksX8_init_6 5 rfl rfl)
theorem dX8_init_151 : decode cX8_init 151 = .ok (.aload_n 0, 1) := dk_42 (dk_at dksX8_init_6 8 rfl rfl)
theorem dX8_init_152 : decode cX8_init 152 = .ok (.sipush 2880, 3) := dk_17 11 64 (dk_at dksX8_init_6 9 rfl rfl)
theorem dX8_init_155 : decode cX8_init 155 = .ok (.newarray .int, 2) := dk_188_10 (dk_at dksX8_init_6 12 rfl rfl)
theorem dX8_init_157 : decode cX8_init 157 = .ok (.putfield 96, 3) := dk_181 0 96 (dk_at dksX8_init_6 14 rfl rfl)
theorem dX8_init_160 : decode cX8_init 160 = .ok (.aload_n 0, 1) := dk_42 (dk_at dksX8_init_6 17 rfl rfl)
theorem dX8_init_161 : decode cX8_init 161 = .ok (.bipush 18, 2) := dk_16 18 (dk_at dksX8_init_6 18 rfl rfl)
theorem dX8_init_163 : decode cX8_init 163 = .ok (.newarray .int, 2) := dk_188_10 (dk_at dksX8_init_6 20 rfl rfl)
theorem dX8_init_165 : decode cX8_init 165 = .ok (.putfield 99, 3) := dk_181 0 99 (dk_at dksX8_init_7 0 rfl rfl)
theorem dX8_init_168 : decode cX8_init 168 = .ok (.aload_n 0, 1) := dk_42 (dk_at dksX8_init_7 3 rfl rfl)
theorem dX8_init_169 : decode cX8_init 169 = .ok (.sipush 161, 3) := dk_17 0 161 (dk_at dksX8_init_7 4 rfl rfl)
theorem dX8_init_172 : decode cX8_init 172 = .ok (.newarray .int, 2) := dk_188_10 (dk_at dksX8_init_7 7 rfl rfl)
theorem dX8_init_174 : decode cX8_init 174 = .ok (.putfield 102, 3) := dk_181 0 102 (dk_at dksX8_init_7 9 rfl rfl)
theorem dX8_init_177 : decode cX8_init 177 = .ok (.aload_n 0, 1) := dk_42 (dk_at dksX8_init_7 12 rfl rfl)
theorem dX8_init_178 : decode cX8_init 178 = .ok (.sipush 161, 3) := dk_17 0 161 (dk_at dksX8_init_7 13 rfl rfl)
theorem dX8_init_181 : decode cX8_init 181 = .ok (.newarray .int, 2) := dk_188_10 (dk_at dksX8_init_7 16 rfl rfl)
theorem dX8_init_183 : decode cX8_init 183 = .ok (.putfield 105, 3) := dk_181 0 105 (dk_at dksX8_init_7 18 rfl rfl)
theorem dX8_init_186 : decode cX8_init 186 = .ok (.aload_n 0, 1) := dk_42 (dk_at dksX8_init_7 21 rfl rfl)
theorem dX8_init_187 : decode cX8_init 187 = .ok (.iconst (-1), 1) := dk_2 (dk_at dksX8_init_7 22 rfl rfl)
theorem dX8_init_188 : decode cX8_init 188 = .ok (.putfield 108, 3) := dk_181 0 108 (dk_at dksX8_init_8 0 rfl rfl)
theorem dX8_init_191 : decode cX8_init 191 = .ok (.aload_n 0, 1) := dk_42 (dk_at dksX8_init_8 3 rfl rfl)
theorem dX8_init_192 : decode cX8_init 192 = .ok (.bipush 10, 2) := dk_16 10 (dk_at dksX8_init_8 4 rfl rfl)
theorem dX8_init_194 : decode cX8_init 194 = .ok (.newarray .int, 2) := dk_188_10 (dk_at dksX8_init_8 6 rfl rfl)
theorem dX8_init_196 : decode cX8_init 196 = .ok (.putfield 111, 3) := dk_181 0 111 (dk_at dksX8_init_8 8 rfl rfl)
theorem dX8_init_199 : decode cX8_init 199 = .ok (.aload_n 0, 1) := dk_42 (dk_at dksX8_init_8 11 rfl rfl)
theorem dX8_init_200 : decode cX8_init 200 = .ok (.bipush 10, 2) := dk_16 10 (dk_at dksX8_init_8 12 rfl rfl)
theorem dX8_init_202 : decode cX8_init 202 = .ok (.newarray .int, 2) := dk_188_10 (dk_at dksX8_init_8 14 rfl rfl)
theorem dX8_init_204 : decode cX8_init 204 = .ok (.putfield 114, 3) := dk_181 0 114 (dk_at dksX8_init_8 16 rfl rfl)
theorem dX8_init_207 : decode cX8_init 207 = .ok (.aload_n 0, 1) := dk_42 (dk_at dksX8_init_8 19 rfl rfl)
theorem dX8_init_208 : decode cX8_init 208 = .ok (.bipush 10, 2) := dk_16 10 (dk_at dksX8_init_8 20 rfl rfl)
theorem dX8_init_210 : decode cX8_init 210 = .ok (.newarray .int, 2) := dk_188_10 (dk_at dksX8_init_8 22 rfl rfl)
theorem dX8_init_212 : decode cX8_init 212 = .ok (.putfield 117, 3) := dk_181 0 117 (dk_at dksX8_init_9 0 rfl rfl)
theorem dX8_init_215 : decode cX8_init 215 = .ok (.aload_n 0, 1) := dk_42 (dk_at dksX8_init_9 3 rfl rfl)
theorem dX8_init_216 : decode cX8_init 216 = .ok (.bipush 10, 2) := dk_16 10 (dk_at dksX8_init_9 4 rfl rfl)
theorem dX8_init_218 : decode cX8_init 218 = .ok (.newarray .int, 2) := dk_188_10 (dk_at dksX8_init_9 6 rfl rfl)
theorem dX8_init_220 : decode cX8_init 220 = .ok (.putfield 120, 3) := dk_181 0 120 (dk_at dksX8_init_9 8 rfl rfl)
theorem dX8_init_223 : decode cX8_init 223 = .ok (.aload_n 0, 1) := dk_42 (dk_at dksX8_init_9 11 rfl rfl)
theorem dX8_init_224 : decode cX8_init 224 = .ok (.iconst 0, 1) := dk_3 (dk_at dksX8_init_9 12 rfl rfl)
theorem dX8_init_225 : decode cX8_init 225 = .ok (.putfield 123, 3) := dk_181 0 123 (dk_at dksX8_init_9 13 rfl rfl)
theorem dX8_init_228 : decode cX8_init 228 = .ok (.aload_n 0, 1) := dk_42 (dk_at dksX8_init_9 16 rfl rfl)
theorem dX8_init_229 : decode cX8_init 229 = .ok (.bipush 24, 2) := dk_16 24 (dk_at dksX8_init_9 17 rfl rfl)
theorem dX8_init_231 : decode cX8_init 231 = .ok (.newarray .int, 2) := dk_188_10 (dk_at dksX8_init_9 19 rfl rfl)
theorem dX8_init_233 : decode cX8_init 233 = .ok (.putfield 126, 3) := dk_181 0 126 (dk_at dksX8_init_9 21 rfl rfl)
theorem dX8_init_236 : decode cX8_init 236 = .ok (.aload_n 0, 1) := dk_42 (dk_at dksX8_init_10 0 rfl rfl)
theorem dX8_init_237 : decode cX8_init 237 = .ok (.bipush 24, 2) := dk_16 24 (dk_at dksX8_init_10 1 rfl rfl)
theorem dX8_init_239 : decode cX8_init 239 = .ok (.newarray .int, 2) := dk_188_10 (dk_at dksX8_init_10 3 rfl rfl)
theorem dX8_init_241 : decode cX8_init 241 = .ok (.putfield 129, 3) := dk_181 0 129 (dk_at dksX8_init_10 5 rfl rfl)
theorem dX8_init_244 : decode cX8_init 244 = .ok (.aload_n 0, 1) := dk_42 (dk_at dksX8_init_10 8 rfl rfl)
theorem dX8_init_245 : decode cX8_init 245 = .ok (.bipush 24, 2) := dk_16 24 (dk_at dksX8_init_10 9 rfl rfl)
theorem dX8_init_247 : decode cX8_init 247 = .ok (.newarray .int, 2) := dk_188_10 (dk_at dksX8_init_10 11 rfl rfl)
theorem dX8_init_249 : decode cX8_init 249 = .ok (.putfield 132, 3) := dk_181 0 132 (dk_at dksX8_init_10 13 rfl rfl)
theorem dX8_init_252 : decode cX8_init 252 = .ok (.aload_n 0, 1) := dk_42 (dk_at dksX8_init_10 16 rfl rfl)
theorem dX8_init_253 : decode cX8_init 253 = .ok (.bipush 24, 2) := dk_16 24 (dk_at dksX8_init_10 17 rfl rfl)
theorem dX8_init_255 : decode cX8_init 255 = .ok (.newarray .int, 2) := dk_188_10 (dk_at dksX8_init_10 19 rfl rfl)
theorem dX8_init_257 : decode cX8_init 257 = .ok (.putfield 135, 3) := dk_181 0 135 (dk_at dksX8_init_10 21 rfl rfl)
theorem dX8_init_260 : decode cX8_init 260 = .ok (.aload_n 0, 1) := dk_42 (dk_at dksX8_init_11 0 rfl rfl)
theorem dX8_init_261 : decode cX8_init 261 = .ok (.iconst 0, 1) := dk_3 (dk_at dksX8_init_11 1 rfl rfl)
theorem dX8_init_262 : decode cX8_init 262 = .ok (.putfield 138, 3) := dk_181 0 138 (dk_at dksX8_init_11 2 rfl rfl)
theorem dX8_init_265 : decode cX8_init 265 = .ok (.aload_n 0, 1) := dk_42 (dk_at dksX8_init_11 5 rfl rfl)
theorem dX8_init_266 : decode cX8_init 266 = .ok (.bipush 8, 2) := dk_16 8 (dk_at dksX8_init_11 6 rfl rfl)
theorem dX8_init_268 : decode cX8_init 268 = .ok (.newarray .int, 2) := dk_188_10 (dk_at dksX8_init_11 8 rfl rfl)
theorem dX8_init_270 : decode cX8_init 270 = .ok (.putfield 141, 3) := dk_181 0 141 (dk_at dksX8_init_11 10 rfl rfl)
theorem dX8_init_273 : decode cX8_init 273 = .ok (.aload_n 0, 1) := dk_42 (dk_at dksX8_init_11 13 rfl rfl)
theorem dX8_init_274 : decode cX8_init 274 = .ok (.iconst 0, 1) := dk_3 (dk_at dksX8_init_11 14 rfl rfl)
theorem dX8_init_275 : decode cX8_init 275 = .ok (.putfield 144, 3) := dk_181 0 144 (dk_at dksX8_init_11 15 rfl rfl)
theorem dX8_init_278 : decode cX8_init 278 = .ok (.aload_n 0, 1) := dk_42 (dk_at dksX8_init_11 18 rfl rfl)
theorem dX8_init_279 : decode cX8_init 279 = .ok (.bipush 20, 2) := dk_16 20 (dk_at dksX8_init_11 19 rfl rfl)
theorem dX8_init_281 : decode cX8_init 281 = .ok (.newarray .int, 2) := dk_188_10 (dk_at dksX8_init_11 21 rfl rfl)
theorem dX8_init_283 : decode cX8_init 283 = .ok (.putfield 147, 3) := dk_181 0 147 (dk_at dksX8_init_12 0 rfl rfl)
theorem dX8_init_286 : decode cX8_init 286 = .ok (.aload_n 0, 1) := dk_42 (dk_at dksX8_init_12 3 rfl rfl)
theorem dX8_init_287 : decode cX8_init 287 = .ok (.bipush 20, 2) := dk_16 20 (dk_at dksX8_init_12 4 rfl rfl)
theorem dX8_init_289 : decode cX8_init 289 = .ok (.newarray .int, 2) := dk_188_10 (dk_at dksX8_init_12 6 rfl rfl)
theorem dX8_init_291 : decode cX8_init 291 = .ok (.putfield 150, 3) := dk_181 0 150 (dk_at dksX8_init_12 8 rfl rfl)
theorem dX8_init_294 : decode cX8_init 294 = .ok (.aload_n 0, 1) := dk_42 (dk_at dksX8_init_12 11 rfl rfl)
theorem dX8_init_295 : decode cX8_init 295 = .ok (.iconst 0, 1) := dk_3 (dk_at dksX8_init_12 12 rfl rfl)
theorem dX8_init_296 : decode cX8_init 296 = .ok (.putfield 153, 3) := dk_181 0 153 (dk_at dksX8_init_12 13 rfl rfl)
theorem dX8_init_299 : decode cX8_init 299 = .ok (.aload_n 0, 1) := dk_42 (dk_at dksX8_init_12 16 rfl rfl)
theorem dX8_init_300 : decode cX8_init 300 = .ok (.iconst 0, 1) := dk_3 (dk_at dksX8_init_12 17 rfl rfl)
theorem dX8_init_301 : decode cX8_init 301 = .ok (.putfield 157, 3) := dk_181 0 157 (dk_at dksX8_init_12 18 rfl rfl)
theorem dX8_init_304 : decode cX8_init 304 = .ok (.aload_n 0, 1) := dk_42 (dk_at dksX8_init_12 21 rfl rfl)
theorem dX8_init_305 : decode cX8_init 305 = .ok (.iconst 0, 1) := dk_3 (dk_at dksX8_init_12 22 rfl rfl)
theorem dX8_init_306 : decode cX8_init 306 = .ok (.putfield 160, 3) := dk_181 0 160 (dk_at dksX8_init_13 0 rfl rfl)
theorem dX8_init_309 : decode cX8_init 309 = .ok (.aload_n 0, 1) := dk_42 (dk_at dksX8_init_13 3 rfl rfl)
theorem dX8_init_310 : decode cX8_init 310 = .ok (.iconst 0, 1) := dk_3 (dk_at dksX8_init_13 4 rfl rfl)
theorem dX8_init_311 : decode cX8_init 311 = .ok (.putfield 163, 3) := dk_181 0 163 (dk_at dksX8_init_13 5 rfl rfl)
theorem dX8_init_314 : decode cX8_init 314 = .ok (.aload_n 0, 1) := dk_42 (dk_at dksX8_init_13 8 rfl rfl)
theorem dX8_init_315 : decode cX8_init 315 = .ok (.iconst 0, 1) := dk_3 (dk_at dksX8_init_13 9 rfl rfl)
theorem dX8_init_316 : decode cX8_init 316 = .ok (.putfield 166, 3) := dk_181 0 166 (dk_at dksX8_init_13 10 rfl rfl)
theorem dX8_init_319 : decode cX8_init 319 = .ok (.aload_n 0, 1) := dk_42 (dk_at dksX8_init_13 13 rfl rfl)
theorem dX8_init_320 : decode cX8_init 320 = .ok (.iconst 0, 1) := dk_3 (dk_at dksX8_init_13 14 rfl rfl)
theorem dX8_init_321 : decode cX8_init 321 = .ok (.putfield 169, 3) := dk_181 0 169 (dk_at dksX8_init_13 15 rfl rfl)
theorem dX8_init_324 : decode cX8_init 324 = .ok (.aload_n 0, 1) := dk_42 (dk_at dksX8_init_13 18 rfl rfl)
theorem dX8_init_325 : decode cX8_init 325 = .ok (.bipush 10, 2) := dk_16 10 (dk_at dksX8_init_13 19 rfl rfl)
theorem dX8_init_327 : decode cX8_init 327 = .ok (.newarray .int, 2) := dk_188_10 (dk_at dksX8_init_13 21 rfl rfl)
theorem dX8_init_329 : decode cX8_init 329 = .ok (.putfield 172, 3) := dk_181 0 172 (dk_at dksX8_init_14 0 rfl rfl)
theorem dX8_init_332 : decode cX8_init 332 = .ok (.aload_n 0, 1) := dk_42 (dk_at dksX8_init_14 3 rfl rfl)
theorem dX8_init_333 : decode cX8_init 333 = .ok (.iconst 4, 1) := dk_7 (dk_at dksX8_init_14 4 rfl rfl)
theorem dX8_init_334 : decode cX8_init 334 = .ok (.newarray .int, 2) := dk_188_10 (dk_at dksX8_init_14 5 rfl rfl)
theorem dX8_init_336 : decode cX8_init 336 = .ok (.dup, 1) := dk_89 (dk_at dksX8_init_14 7 rfl rfl)
theorem dX8_init_337 : decode cX8_init 337 = .ok (.iconst 0, 1) := dk_3 (dk_at dksX8_init_14 8 rfl rfl)
theorem dX8_init_338 : decode cX8_init 338 = .ok (.iconst (-1), 1) := dk_2 (dk_at dksX8_init_14 9 rfl rfl)
theorem dX8_init_339 : decode cX8_init 339 = .ok (.iastore, 1) := dk_79 (dk_at dksX8_init_14 10 rfl rfl)
theorem dX8_init_340 : decode cX8_init 340 = .ok (.dup, 1) := dk_89 (dk_at dksX8_init_14 11 rfl rfl)
theorem dX8_init_341 : decode cX8_init 341 = .ok (.iconst 1, 1) := dk_4 (dk_at dksX8_init_14 12 rfl rfl)
theorem dX8_init_342 : decode cX8_init 342 = .ok (.iconst (-1), 1) := dk_2 (dk_at dksX8_init_14 13 rfl rfl)
theorem dX8_init_343 : decode cX8_init 343 = .ok (.iastore, 1) := dk_79 (dk_at dksX8_init_14 14 rfl rfl)
theorem dX8_init_344 : decode cX8_init 344 = .ok (.dup, 1) := dk_89 (dk_at dksX8_init_14 15 rfl rfl)
theorem dX8_init_345 : decode cX8_init 345 = .ok (.iconst 2, 1) := dk_5 (dk_at dksX8_init_14 16 rfl rfl)
theorem dX8_init_346 : decode cX8_init 346 = .ok (.iconst (-1), 1) := dk_2 (dk_at dksX8_init_14 17 rfl rfl)
theorem dX8_init_347 : decode cX8_init 347 = .ok (.iastore, 1) := dk_79 (dk_at dksX8_init_14 18 rfl rfl)
theorem dX8_init_348 : decode cX8_init 348 = .ok (.dup, 1) := dk_89 (dk_at dksX8_init_14 19 rfl rfl)
theorem dX8_init_349 : decode cX8_init 349 = .ok (.iconst 3, 1) := dk_6 (dk_at dksX8_init_14 20 rfl rfl)
theorem dX8_init_350 : decode cX8_init 350 = .ok (.iconst (-1), 1) := dk_2 (dk_at dksX8_init_14 21 rfl rfl)
theorem dX8_init_351 : decode cX8_init 351 = .ok (.iastore, 1) := dk_79 (dk_at dksX8_init_14 22 rfl rfl)
theorem dX8_init_352 : decode cX8_init 352 = .ok (.putfield 175, 3) := dk_181 0 175 (dk_at dksX8_init_15 0 rfl rfl)
theorem dX8_init_355 : decode cX8_init 355 = .ok (.aload_n 0, 1) := dk_42 (dk_at dksX8_init_15 3 rfl rfl)
theorem dX8_init_356 : decode cX8_init 356 = .ok (.iconst 4, 1) := dk_7 (dk_at dksX8_init_15 4 rfl rfl)
theorem dX8_init_357 : decode cX8_init 357 = .ok (.newarray .int, 2) := dk_188_10 (dk_at dksX8_init_15 5 rfl rfl)
theorem dX8_init_359 : decode cX8_init 359 = .ok (.putfield 178, 3) := dk_181 0 178 (dk_at dksX8_init_15 7 rfl rfl)
theorem dX8_init_362 : decode cX8_init 362 = .ok (.aload_n 0, 1) := dk_42 (dk_at dksX8_init_15 10 rfl rfl)
theorem dX8_init_363 : decode cX8_init 363 = .ok (.sipush 160, 3) := dk_17 0 160 (dk_at dksX8_init_15 11 rfl rfl)
theorem dX8_init_366 : decode cX8_init 366 = .ok (.newarray .int, 2) := dk_188_10 (dk_at dksX8_init_15 14 rfl rfl)
theorem dX8_init_368 : decode cX8_init 368 = .ok (.putfield 181, 3) := dk_181 0 181 (dk_at dksX8_init_15 16 rfl rfl)
theorem dX8_init_371 : decode cX8_init 371 = .ok (.aload_n 0, 1) := dk_42 (dk_at dksX8_init_15 19 rfl rfl)
theorem dX8_init_372 : decode cX8_init 372 = .ok (.bipush 40, 2) := dk_16 40 (dk_at dksX8_init_15 20 rfl rfl)
theorem dX8_init_374 : decode cX8_init 374 = .ok (.newarray .int, 2) := dk_188_10 (dk_at dksX8_init_15 22 rfl rfl)
theorem dX8_init_376 : decode cX8_init 376 = .ok (.putfield 184, 3) := dk_181 0 184 (dk_at dksX8_init_16 0 rfl rfl)
theorem dX8_init_379 : decode cX8_init 379 = .ok (.aload_n 0, 1) := dk_42 (dk_at dksX8_init_16 3 rfl rfl)
theorem dX8_init_380 : decode cX8_init 380 = .ok (.bipush 12, 2) := dk_16 12 (dk_at dksX8_init_16 4 rfl rfl)
theorem dX8_init_382 : decode cX8_init 382 = .ok (.newarray .int, 2) := dk_188_10 (dk_at dksX8_init_16 6 rfl rfl)
theorem dX8_init_384 : decode cX8_init 384 = .ok (.putfield 187, 3) := dk_181 0 187 (dk_at dksX8_init_16 8 rfl rfl)
theorem dX8_init_387 : decode cX8_init 387 = .ok (.aload_n 0, 1) := dk_42 (dk_at dksX8_init_16 11 rfl rfl)
theorem dX8_init_388 : decode cX8_init 388 = .ok (.getfield 99, 3) := dk_180 0 99 (dk_at dksX8_init_16 12 rfl rfl)
theorem dX8_init_391 : decode cX8_init 391 = .ok (.iconst 0, 1) := dk_3 (dk_at dksX8_init_16 15 rfl rfl)
theorem dX8_init_392 : decode cX8_init 392 = .ok (.iconst 1, 1) := dk_4 (dk_at dksX8_init_16 16 rfl rfl)
theorem dX8_init_393 : decode cX8_init 393 = .ok (.iastore, 1) := dk_79 (dk_at dksX8_init_16 17 rfl rfl)
theorem dX8_init_394 : decode cX8_init 394 = .ok (.aload_n 0, 1) := dk_42 (dk_at dksX8_init_16 18 rfl rfl)
theorem dX8_init_395 : decode cX8_init 395 = .ok (.getfield 99, 3) := dk_180 0 99 (dk_at dksX8_init_16 19 rfl rfl)
theorem dX8_init_398 : decode cX8_init 398 = .ok (.iconst 1, 1) := dk_4 (dk_at dksX8_init_16 22 rfl rfl)
theorem dX8_init_399 : decode cX8_init 399 = .ok (.iconst 3, 1) := dk_6 (dk_at dksX8_init_16 23 rfl rfl)
theorem dX8_init_400 : decode cX8_init 400 = .ok (.iastore, 1) := dk_79 (dk_at dksX8_init_17 0 rfl rfl)
theorem dX8_init_401 : decode cX8_init 401 = .ok (.aload_n 0, 1) := dk_42 (dk_at dksX8_init_17 1 rfl rfl)
theorem dX8_init_402 : decode cX8_init 402 = .ok (.getfield 93, 3) := dk_180 0 93 (dk_at dksX8_init_17 2 rfl rfl)
theorem dX8_init_405 : decode cX8_init 405 = .ok (.sipush 161, 3) := dk_17 0 161 (dk_at dksX8_init_17 5 rfl rfl)
theorem dX8_init_408 : decode cX8_init 408 = .ok (.iconst 1, 1) := dk_4 (dk_at dksX8_init_17 8 rfl rfl)
theorem dX8_init_409 : decode cX8_init 409 = .ok (.iastore, 1) := dk_79 (dk_at dksX8_init_17 9 rfl rfl)
theorem dX8_init_410 : decode cX8_init 410 = .ok (.aload_n 0, 1) := dk_42 (dk_at dksX8_init_17 10 rfl rfl)
theorem dX8_init_411 : decode cX8_init 411 = .ok (.getfield 96, 3) := dk_180 0 96 (dk_at dksX8_init_17 11 rfl rfl)
theorem dX8_init_414 : decode cX8_init 414 = .ok (.sipush 161, 3) := dk_17 0 161 (dk_at dksX8_init_17 14 rfl rfl)
theorem dX8_init_417 : decode cX8_init 417 = .ok (.iconst 2, 1) := dk_5 (dk_at dksX8_init_17 17 rfl rfl)
theorem dX8_init_418 : decode cX8_init 418 = .ok (.iastore, 1) := dk_79 (dk_at dksX8_init_17 18 rfl rfl)
theorem dX8_init_419 : decode cX8_init 419 = .ok (.aload_n 0, 1) := dk_42 (dk_at dksX8_init_17 19 rfl rfl)
theorem dX8_init_420 : decode cX8_init 420 = .ok (.getfield 93, 3) := dk_180 0 93 (dk_at dksX8_init_17 20 rfl rfl)
theorem dX8_init_423 : decode cX8_init 423 = .ok (.sipush 162, 3) := dk_17 0 162 (dk_at dksX8_init_18 0 rfl rfl)
theorem dX8_init_426 : decode cX8_init 426 = .ok (.iconst 5, 1) := dk_8 (dk_at dksX8_init_18 3 rfl rfl)
theorem dX8_init_427 : decode cX8_init 427 = .ok (.iastore, 1) := dk_79 (dk_at dksX8_init_18 4 rfl rfl)
theorem dX8_init_428 : decode cX8_init 428 = .ok (.aload_n 0, 1) := dk_42 (dk_at dksX8_init_18 5 rfl rfl)
theorem dX8_init_429 : decode cX8_init 429 = .ok (.getfield 99, 3) := dk_180 0 99 (dk_at dksX8_init_18 6 rfl rfl)
theorem dX8_init_432 : decode cX8_init 432 = .ok (.iconst 2, 1) := dk_5 (dk_at dksX8_init_18 9 rfl rfl)
theorem dX8_init_433 : decode cX8_init 433 = .ok (.iconst 1, 1) := dk_4 (dk_at dksX8_init_18 10 rfl rfl)
theorem dX8_init_434 : decode cX8_init 434 = .ok (.iastore, 1) := dk_79 (dk_at dksX8_init_18 11 rfl rfl)
theorem dX8_init_435 : decode cX8_init 435 = .ok (.aload_n 0, 1) := dk_42 (dk_at dksX8_init_18 12 rfl rfl)
theorem dX8_init_436 : decode cX8_init 436 = .ok (.getfield 93, 3) := dk_180 0 93 (dk_at dksX8_init_18 13 rfl rfl)
theorem dX8_init_439 : decode cX8_init 439 = .ok (.sipush 320, 3) := dk_17 1 64 (dk_at dksX8_init_18 16 rfl rfl)
theorem dX8_init_442 : decode cX8_init 442 = .ok (.iconst 1, 1) := dk_4 (dk_at dksX8_init_18 19 rfl rfl)
theorem dX8_init_443 : decode cX8_init 443 = .ok (.iastore, 1) := dk_79 (dk_at dksX8_init_18 20 rfl rfl)
theorem dX8_init_444 : decode cX8_init 444 = .ok (.aload_n 0, 1) := dk_42 (dk_at dksX8_init_18 21 rfl rfl)
theorem dX8_init_445 : decode cX8_init 445 = .ok (.getfield 96, 3) := dk_180 0 96 (dk_at dksX8_init_19 0 rfl rfl)
theorem dX8_init_448 : decode cX8_init 448 = .ok (.sipush 320, 3) := dk_17 1 64 (dk_at dksX8_init_19 3 rfl rfl)
theorem dX8_init_451 : decode cX8_init 451 = .ok (.iconst 3, 1) := dk_6 (dk_at dksX8_init_19 6 rfl rfl)
theorem dX8_init_452 : decode cX8_init 452 = .ok (.iastore, 1) := dk_79 (dk_at dksX8_init_19 7 rfl rfl)
theorem dX8_init_453 : decode cX8_init 453 = .ok (.aload_n 0, 1) := dk_42 (dk_at dksX8_init_19 8 rfl rfl)
theorem dX8_init_454 : decode cX8_init 454 = .ok (.iconst 1, 1) := dk_4 (dk_at dksX8_init_19 9 rfl rfl)
theorem dX8_init_455 : decode cX8_init 455 = .ok (.putfield 60, 3) := dk_181 0 60 (dk_at dksX8_init_19 10 rfl rfl)
theorem dX8_init_458 : decode cX8_init 458 = .ok (.return_, 1) := dk_177 (dk_at dksX8_init_19 13 rfl rfl)
abbrev cX8_feed : ByteArray := prog_16_method_12_code
def yX8_feed : MethodName := ⟨RX8, "feed", "(IJ)I"⟩
def dkwX8_feed_3 : List UInt8 := [132, 4, 1, 167, 255, 216, 42, 180, 0, 66, 172]
abbrev dktX8_feed_3 : List UInt8 := dkwX8_feed_3 ++ []
def dkwX8_feed_2 : List UInt8 := [16, 8, 21, 4, 104, 123, 20, 0, 190, 127, 136, 79, 42, 89, 180, 0, 66, 4, 96, 181, 0, 66]
abbrev dktX8_feed_2 : List UInt8 := dkwX8_feed_2 ++ dktX8_feed_3
def dkwX8_feed_1 : List UInt8 := [164, 0, 6, 16, 252, 172, 3, 54, 4, 21, 4, 27, 162, 0, 40, 42, 180, 0, 90, 42, 180, 0, 66, 32]
abbrev dktX8_feed_1 : List UInt8 := dkwX8_feed_1 ++ dktX8_feed_2
def dkwX8_feed_0 : List UInt8 := [42, 27, 4, 16, 8, 182, 0, 7, 154, 0, 6, 16, 254, 172, 42, 180, 0, 66, 27, 96, 17, 0, 160]
abbrev dktX8_feed_0 : List UInt8 := dkwX8_feed_0 ++ dktX8_feed_1
theorem dksX8_feed_0 : cX8_feed.data.toList.drop 0 = dktX8_feed_0 := by decide +kernel
theorem dksX8_feed_1 : cX8_feed.data.toList.drop 23 = dktX8_feed_1 := dk_seg dksX8_feed_0 23 rfl rfl
theorem dksX8_feed_2 : cX8_feed.data.toList.drop 47 = dktX8_feed_2 := dk_seg dksX8_feed_1 24 rfl rfl
theorem dksX8_feed_3 : cX8_feed.data.toList.drop 69 = dktX8_feed_3 := dk_seg dksX8_feed_2 22 rfl rfl
theorem dX8_feed_0 : decode cX8_feed 0 = .ok (.aload_n 0, 1) := dk_42 (dk_at dksX8_feed_0 0 rfl rfl)
theorem dX8_feed_1 : decode cX8_feed 1 = .ok (.iload_n 1, 1) := dk_27 (dk_at dksX8_feed_0 1 rfl rfl)
theorem dX8_feed_2 : decode cX8_feed 2 = .ok (.iconst 1, 1) := dk_4 (dk_at dksX8_feed_0 2 rfl rfl)
theorem dX8_feed_3 : decode cX8_feed 3 = .ok (.bipush 8, 2) := dk_16 8 (dk_at dksX8_feed_0 3 rfl rfl)
theorem dX8_feed_5 : decode cX8_feed 5 = .ok (.invokevirtual 7, 3) := dk_182 0 7 (dk_at dksX8_feed_0 5 rfl rfl)
theorem dX8_feed_8 : decode cX8_feed 8 = .ok (.ifCond .ne 6, 3) := dk_154 0 6 (dk_at dksX8_feed_0 8 rfl rfl)
theorem dX8_feed_11 : decode cX8_feed 11 = .ok (.bipush (-2), 2) := dk_16 254 (dk_at dksX8_feed_0 11 rfl rfl)
theorem dX8_feed_13 : decode cX8_feed 13 = .ok (.ireturn, 1) := dk_172 (dk_at dksX8_feed_0 13 rfl rfl)
theorem dX8_feed_14 : decode cX8_feed 14 = .ok (.aload_n 0, 1) := dk_42 (dk_at dksX8_feed_0 14 rfl rfl)
theorem dX8_feed_15 : decode cX8_feed 15 = .ok (.getfield 66, 3) := dk_180 0 66 (dk_at dksX8_feed_0 15 rfl rfl)
theorem dX8_feed_18 : decode cX8_feed 18 = .ok (.iload_n 1, 1) := dk_27 (dk_at dksX8_feed_0 18 rfl rfl)
theorem dX8_feed_19 : decode cX8_feed 19 = .ok (.iadd, 1) := dk_96 (dk_at dksX8_feed_0 19 rfl rfl)
theorem dX8_feed_20 : decode cX8_feed 20 = .ok (.sipush 160, 3) := dk_17 0 160 (dk_at dksX8_feed_0 20 rfl rfl)
theorem dX8_feed_23 : decode cX8_feed 23 = .ok (.if_icmp .le 6, 3) := dk_164 0 6 (dk_at dksX8_feed_1 0 rfl rfl)
theorem dX8_feed_26 : decode cX8_feed 26 = .ok (.bipush (-4), 2) := dk_16 252 (dk_at dksX8_feed_1 3 rfl rfl)
theorem dX8_feed_28 : decode cX8_feed 28 = .ok (.ireturn, 1) := dk_172 (dk_at dksX8_feed_1 5 rfl rfl)
theorem dX8_feed_29 : decode cX8_feed 29 = .ok (.iconst 0, 1) := dk_3 (dk_at dksX8_feed_1 6 rfl rfl)
theorem dX8_feed_30 : decode cX8_feed 30 = .ok (.istore 4, 2) := dk_54 4 (dk_at dksX8_feed_1 7 rfl rfl)
theorem dX8_feed_32 : decode cX8_feed 32 = .ok (.iload 4, 2) := dk_21 4 (dk_at dksX8_feed_1 9 rfl rfl)
theorem dX8_feed_34 : decode cX8_feed 34 = .ok (.iload_n 1, 1) := dk_27 (dk_at dksX8_feed_1 11 rfl rfl)
theorem dX8_feed_35 : decode cX8_feed 35 = .ok (.if_icmp .ge 40, 3) := dk_162 0 40 (dk_at dksX8_feed_1 12 rfl rfl)
theorem dX8_feed_38 : decode cX8_feed 38 = .ok (.aload_n 0, 1) := dk_42 (dk_at dksX8_feed_1 15 rfl rfl)
theorem dX8_feed_39 : decode cX8_feed 39 = .ok (.getfield 90, 3) := dk_180 0 90 (dk_at dksX8_feed_1 16 rfl rfl)
theorem dX8_feed_42 : decode cX8_feed 42 = .ok (.aload_n 0, 1) := dk_42 (dk_at dksX8_feed_1 19 rfl rfl)
theorem dX8_feed_43 : decode cX8_feed 43 = .ok (.getfield 66, 3) := dk_180 0 66 (dk_at dksX8_feed_1 20 rfl rfl)
theorem dX8_feed_46 : decode cX8_feed 46 = .ok (.lload_n 2, 1) := dk_32 (dk_at dksX8_feed_1 23 rfl rfl)
theorem dX8_feed_47 : decode cX8_feed 47 = .ok (.bipush 8, 2) := dk_16 8 (dk_at dksX8_feed_2 0 rfl rfl)
theorem dX8_feed_49 : decode cX8_feed 49 = .ok (.iload 4, 2) := dk_21 4 (dk_at dksX8_feed_2 2 rfl rfl)
theorem dX8_feed_51 : decode cX8_feed 51 = .ok (.imul, 1) := dk_104 (dk_at dksX8_feed_2 4 rfl rfl)
theorem dX8_feed_52 : decode cX8_feed 52 = .ok (.lshr, 1) := dk_123 (dk_at dksX8_feed_2 5 rfl rfl)
theorem dX8_feed_53 : decode cX8_feed 53 = .ok (.ldc2_w 190, 3) := dk_20 0 190 (dk_at dksX8_feed_2 6 rfl rfl)
theorem dX8_feed_56 : decode cX8_feed 56 = .ok (.land, 1) := dk_127 (dk_at dksX8_feed_2 9 rfl rfl)
theorem dX8_feed_57 : decode cX8_feed 57 = .ok (.l2i, 1) := dk_136 (dk_at dksX8_feed_2 10 rfl rfl)
theorem dX8_feed_58 : decode cX8_feed 58 = .ok (.iastore, 1) := dk_79 (dk_at dksX8_feed_2 11 rfl rfl)
theorem dX8_feed_59 : decode cX8_feed 59 = .ok (.aload_n 0, 1) := dk_42 (dk_at dksX8_feed_2 12 rfl rfl)
theorem dX8_feed_60 : decode cX8_feed 60 = .ok (.dup, 1) := dk_89 (dk_at dksX8_feed_2 13 rfl rfl)
theorem dX8_feed_61 : decode cX8_feed 61 = .ok (.getfield 66, 3) := dk_180 0 66 (dk_at dksX8_feed_2 14 rfl rfl)
theorem dX8_feed_64 : decode cX8_feed 64 = .ok (.iconst 1, 1) := dk_4 (dk_at dksX8_feed_2 17 rfl rfl)
theorem dX8_feed_65 : decode cX8_feed 65 = .ok (.iadd, 1) := dk_96 (dk_at dksX8_feed_2 18 rfl rfl)
theorem dX8_feed_66 : decode cX8_feed 66 = .ok (.putfield 66, 3) := dk_181 0 66 (dk_at dksX8_feed_2 19 rfl rfl)
theorem dX8_feed_69 : decode cX8_feed 69 = .ok (.iinc 4 1, 3) := dk_132 4 1 (dk_at dksX8_feed_3 0 rfl rfl)
theorem dX8_feed_72 : decode cX8_feed 72 = .ok (.goto (-40), 3) := dk_167 255 216 (dk_at dksX8_feed_3 3 rfl rfl)
theorem dX8_feed_75 : decode cX8_feed 75 = .ok (.aload_n 0, 1) := dk_42 (dk_at dksX8_feed_3 6 rfl rfl)
theorem dX8_feed_76 : decode cX8_feed 76 = .ok (.getfield 66, 3) := dk_180 0 66 (dk_at dksX8_feed_3 7 rfl rfl)
theorem dX8_feed_79 : decode cX8_feed 79 = .ok (.ireturn, 1) := dk_172 (dk_at dksX8_feed_3 10 rfl rfl)
abbrev cX8_text : ByteArray := prog_16_method_31_code
def yX8_text : MethodName := ⟨RX8, "text", "()I"⟩
def dkwX8_text_4 : List UInt8 := [100, 172, 42, 89, 180, 0, 60, 4, 96, 181, 0, 60, 42, 180, 0, 60, 4, 100, 172]
abbrev dktX8_text_4 : List UInt8 := dkwX8_text_4 ++ []
def dkwX8_text_3 : List UInt8 := [160, 0, 7, 4, 167, 0, 4, 3, 60, 42, 3, 181, 0, 66, 27, 154, 0, 11, 16, 156, 42, 180, 0, 69]
abbrev dktX8_text_3 : List UInt8 := dkwX8_text_3 ++ dktX8_text_4
def dkwX8_text_2 : List UInt8 := [153, 0, 29, 42, 42, 180, 0, 60, 5, 18, 212, 182, 0, 253, 153, 0, 15, 42, 180, 0, 72, 2]
abbrev dktX8_text_2 : List UInt8 := dkwX8_text_2 ++ dktX8_text_3
def dkwX8_text_1 : List UInt8 := [180, 0, 60, 3, 17, 4, 132, 182, 0, 253, 153, 0, 43, 42, 42, 180, 0, 60, 4, 18, 211, 182, 0, 253]
abbrev dktX8_text_1 : List UInt8 := dkwX8_text_1 ++ dktX8_text_2
def dkwX8_text_0 : List UInt8 := [42, 180, 0, 60, 16, 6, 160, 0, 6, 16, 252, 172, 42, 3, 181, 0, 69, 42, 182, 0, 208, 42, 42]
abbrev dktX8_text_0 : List UInt8 := dkwX8_text_0 ++ dktX8_text_1
theorem dksX8_text_0 : cX8_text.data.toList.drop 0 = dktX8_text_0 := by decide +kernel
theorem dksX8_text_1 : cX8_text.data.toList.drop 23 = dktX8_text_1 := dk_seg dksX8_text_0 23 rfl rfl
theorem dksX8_text_2 : cX8_text.data.toList.drop 47 = dktX8_text_2 := dk_seg dksX8_text_1 24 rfl rfl
theorem dksX8_text_3 : cX8_text.data.toList.drop 69 = dktX8_text_3 := dk_seg dksX8_text_2 22 rfl rfl
theorem dksX8_text_4 : cX8_text.data.toList.drop 93 = dktX8_text_4 := dk_seg dksX8_text_3 24 rfl rfl
theorem dX8_text_0 : decode cX8_text 0 = .ok (.aload_n 0, 1) := dk_42 (dk_at dksX8_text_0 0 rfl rfl)
theorem dX8_text_1 : decode cX8_text 1 = .ok (.getfield 60, 3) := dk_180 0 60 (dk_at dksX8_text_0 1 rfl rfl)
theorem dX8_text_4 : decode cX8_text 4 = .ok (.bipush 6, 2) := dk_16 6 (dk_at dksX8_text_0 4 rfl rfl)
theorem dX8_text_6 : decode cX8_text 6 = .ok (.if_icmp .ne 6, 3) := dk_160 0 6 (dk_at dksX8_text_0 6 rfl rfl)
theorem dX8_text_9 : decode cX8_text 9 = .ok (.bipush (-4), 2) := dk_16 252 (dk_at dksX8_text_0 9 rfl rfl)
theorem dX8_text_11 : decode cX8_text 11 = .ok (.ireturn, 1) := dk_172 (dk_at dksX8_text_0 11 rfl rfl)
theorem dX8_text_12 : decode cX8_text 12 = .ok (.aload_n 0, 1) := dk_42 (dk_at dksX8_text_0 12 rfl rfl)
theorem dX8_text_13 : decode cX8_text 13 = .ok (.iconst 0, 1) := dk_3 (dk_at dksX8_text_0 13 rfl rfl)
theorem dX8_text_14 : decode cX8_text 14 = .ok (.putfield 69, 3) := dk_181 0 69 (dk_at dksX8_text_0 14 rfl rfl)
theorem dX8_text_17 : decode cX8_text 17 = .ok (.aload_n 0, 1) := dk_42 (dk_at dksX8_text_0 17 rfl rfl)
theorem dX8_text_18 : decode cX8_text 18 = .ok (.invokevirtual 208, 3) := dk_182 0 208 (dk_at dksX8_text_0 18 rfl rfl)
theorem dX8_text_21 : decode cX8_text 21 = .ok (.aload_n 0, 1) := dk_42 (dk_at dksX8_text_0 21 rfl rfl)
theorem dX8_text_22 : decode cX8_text 22 = .ok (.aload_n 0, 1) := dk_42 (dk_at dksX8_text_0 22 rfl rfl)
theorem dX8_text_23 : decode cX8_text 23 = .ok (.getfield 60, 3) := dk_180 0 60 (dk_at dksX8_text_1 0 rfl rfl)
theorem dX8_text_26 : decode cX8_text 26 = .ok (.iconst 0, 1) := dk_3 (dk_at dksX8_text_1 3 rfl rfl)
theorem dX8_text_27 : decode cX8_text 27 = .ok (.sipush 1156, 3) := dk_17 4 132 (dk_at dksX8_text_1 4 rfl rfl)
theorem dX8_text_30 : decode cX8_text 30 = .ok (.invokevirtual 253, 3) := dk_182 0 253 (dk_at dksX8_text_1 7 rfl rfl)
theorem dX8_text_33 : decode cX8_text 33 = .ok (.ifCond .eq 43, 3) := dk_153 0 43 (dk_at dksX8_text_1 10 rfl rfl)
theorem dX8_text_36 : decode cX8_text 36 = .ok (.aload_n 0, 1) := dk_42 (dk_at dksX8_text_1 13 rfl rfl)
theorem dX8_text_37 : decode cX8_text 37 = .ok (.aload_n 0, 1) := dk_42 (dk_at dksX8_text_1 14 rfl rfl)
theorem dX8_text_38 : decode cX8_text 38 = .ok (.getfield 60, 3) := dk_180 0 60 (dk_at dksX8_text_1 15 rfl rfl)
theorem dX8_text_41 : decode cX8_text 41 = .ok (.iconst 1, 1) := dk_4 (dk_at dksX8_text_1 18 rfl rfl)
theorem dX8_text_42 : decode cX8_text 42 = .ok (.ldc 211, 2) := dk_18 211 (dk_at dksX8_text_1 19 rfl rfl)
theorem dX8_text_44 : decode cX8_text 44 = .ok (.invokevirtual 253, 3) := dk_182 0 253 (dk_at dksX8_text_1 21 rfl rfl)
theorem dX8_text_47 : decode cX8_text 47 = .ok (.ifCond .eq 29, 3) := dk_153 0 29 (dk_at dksX8_text_2 0 rfl rfl)
theorem dX8_text_50 : decode cX8_text 50 = .ok (.aload_n 0, 1) := dk_42 (dk_at dksX8_text_2 3 rfl rfl)
theorem dX8_text_51 : decode cX8_text 51 = .ok (.aload_n 0, 1) := dk_42 (dk_at dksX8_text_2 4 rfl rfl)
theorem dX8_text_52 : decode cX8_text 52 = .ok (.getfield 60, 3) := dk_180 0 60 (dk_at dksX8_text_2 5 rfl rfl)
theorem dX8_text_55 : decode cX8_text 55 = .ok (.iconst 2, 1) := dk_5 (dk_at dksX8_text_2 8 rfl rfl)
theorem dX8_text_56 : decode cX8_text 56 = .ok (.ldc 212, 2) := dk_18 212 (dk_at dksX8_text_2 9 rfl rfl)
theorem dX8_text_58 : decode cX8_text 58 = .ok (.invokevirtual 253, 3) := dk_182 0 253 (dk_at dksX8_text_2 11 rfl rfl)
theorem dX8_text_61 : decode cX8_text 61 = .ok (.ifCond .eq 15, 3) := dk_153 0 15 (dk_at dksX8_text_2 14 rfl rfl)
theorem dX8_text_64 : decode cX8_text 64 = .ok (.aload_n 0, 1) := dk_42 (dk_at dksX8_text_2 17 rfl rfl)
theorem dX8_text_65 : decode cX8_text 65 = .ok (.getfield 72, 3) := dk_180 0 72 (dk_at dksX8_text_2 18 rfl rfl)
theorem dX8_text_68 : decode cX8_text 68 = .ok (.iconst (-1), 1) := dk_2 (dk_at dksX8_text_2 21 rfl rfl)
theorem dX8_text_69 : decode cX8_text 69 = .ok (.if_icmp .ne 7, 3) := dk_160 0 7 (dk_at dksX8_text_3 0 rfl rfl)
theorem dX8_text_72 : decode cX8_text 72 = .ok (.iconst 1, 1) := dk_4 (dk_at dksX8_text_3 3 rfl rfl)
theorem dX8_text_73 : decode cX8_text 73 = .ok (.goto 4, 3) := dk_167 0 4 (dk_at dksX8_text_3 4 rfl rfl)
theorem dX8_text_76 : decode cX8_text 76 = .ok (.iconst 0, 1) := dk_3 (dk_at dksX8_text_3 7 rfl rfl)
theorem dX8_text_77 : decode cX8_text 77 = .ok (.istore_n 1, 1) := dk_60 (dk_at dksX8_text_3 8 rfl rfl)
theorem dX8_text_78 : decode cX8_text 78 = .ok (.aload_n 0, 1) := dk_42 (dk_at dksX8_text_3 9 rfl rfl)
theorem dX8_text_79 : decode cX8_text 79 = .ok (.iconst 0, 1) := dk_3 (dk_at dksX8_text_3 10 rfl rfl)
theorem dX8_text_80 : decode cX8_text 80 = .ok (.putfield 66, 3) := dk_181 0 66 (dk_at dksX8_text_3 11 rfl rfl)
theorem dX8_text_83 : decode cX8_text 83 = .ok (.iload_n 1, 1) := dk_27 (dk_at dksX8_text_3 14 rfl rfl)
theorem dX8_text_84 : decode cX8_text 84 = .ok (.ifCond .ne 11, 3) := dk_154 0 11 (dk_at dksX8_text_3 15 rfl rfl)
theorem dX8_text_87 : decode cX8_text 87 = .ok (.bipush (-100), 2) := dk_16 156 (dk_at dksX8_text_3 18 rfl rfl)
theorem dX8_text_89 : decode cX8_text 89 = .ok (.aload_n 0, 1) := dk_42 (dk_at dksX8_text_3 20 rfl rfl)
theorem dX8_text_90 : decode cX8_text 90 = .ok (.getfield 69, 3) := dk_180 0 69 (dk_at dksX8_text_3 21 rfl rfl)
theorem dX8_text_93 : decode cX8_text 93 = .ok (.isub, 1) := dk_100 (dk_at dksX8_text_4 0 rfl rfl)
theorem dX8_text_94 : decode cX8_text 94 = .ok (.ireturn, 1) := dk_172 (dk_at dksX8_text_4 1 rfl rfl)
theorem dX8_text_95 : decode cX8_text 95 = .ok (.aload_n 0, 1) := dk_42 (dk_at dksX8_text_4 2 rfl rfl)
theorem dX8_text_96 : decode cX8_text 96 = .ok (.dup, 1) := dk_89 (dk_at dksX8_text_4 3 rfl rfl)
theorem dX8_text_97 : decode cX8_text 97 = .ok (.getfield 60, 3) := dk_180 0 60 (dk_at dksX8_text_4 4 rfl rfl)
theorem dX8_text_100 : decode cX8_text 100 = .ok (.iconst 1, 1) := dk_4 (dk_at dksX8_text_4 7 rfl rfl)
theorem dX8_text_101 : decode cX8_text 101 = .ok (.iadd, 1) := dk_96 (dk_at dksX8_text_4 8 rfl rfl)
theorem dX8_text_102 : decode cX8_text 102 = .ok (.putfield 60, 3) := dk_181 0 60 (dk_at dksX8_text_4 9 rfl rfl)
theorem dX8_text_105 : decode cX8_text 105 = .ok (.aload_n 0, 1) := dk_42 (dk_at dksX8_text_4 12 rfl rfl)
theorem dX8_text_106 : decode cX8_text 106 = .ok (.getfield 60, 3) := dk_180 0 60 (dk_at dksX8_text_4 13 rfl rfl)
theorem dX8_text_109 : decode cX8_text 109 = .ok (.iconst 1, 1) := dk_4 (dk_at dksX8_text_4 16 rfl rfl)
theorem dX8_text_110 : decode cX8_text 110 = .ok (.isub, 1) := dk_100 (dk_at dksX8_text_4 17 rfl rfl)
theorem dX8_text_111 : decode cX8_text 111 = .ok (.ireturn, 1) := dk_172 (dk_at dksX8_text_4 18 rfl rfl)
abbrev cX8_look : ByteArray := prog_16_method_16_code
def yX8_look : MethodName := ⟨RX8, "look", "()V"⟩
def dkwX8_look_16 : List UInt8 := [16, 254, 181, 0, 72, 177]
abbrev dktX8_look_16 : List UInt8 := dkwX8_look_16 ++ []
def dkwX8_look_15 : List UInt8 := [27, 16, 60, 159, 0, 9, 27, 16, 61, 160, 0, 7, 27, 167, 0, 13, 27, 156, 0, 7, 2, 167, 0, 5]
abbrev dktX8_look_15 : List UInt8 := dkwX8_look_15 ++ dktX8_look_16
def dkwX8_look_14 : List UInt8 := [27, 16, 59, 159, 0, 33, 27, 16, 43, 159, 0, 27, 27, 16, 45, 159, 0, 21, 27, 16, 42, 159, 0, 15]
abbrev dktX8_look_14 : List UInt8 := dkwX8_look_14 ++ dktX8_look_15
def dkwX8_look_13 : List UInt8 := [167, 0, 5, 16, 254, 181, 0, 72, 167, 0, 69, 42, 27, 16, 40, 159, 0, 45, 27, 16, 41, 159, 0, 39]
abbrev dktX8_look_13 : List UInt8 := dkwX8_look_13 ++ dktX8_look_14
def dkwX8_look_12 : List UInt8 := [42, 42, 42, 180, 0, 75, 182, 0, 202, 156, 0, 14, 42, 42, 180, 0, 75, 182, 0, 205, 153, 0, 7, 5]
abbrev dktX8_look_12 : List UInt8 := dkwX8_look_12 ++ dktX8_look_13
def dkwX8_look_11 : List UInt8 := [167, 255, 185, 42, 42, 180, 0, 78, 16, 6, 164, 0, 7, 3, 167, 0, 7, 42, 180, 0, 75, 181, 0, 75]
abbrev dktX8_look_11 : List UInt8 := dkwX8_look_11 ++ dktX8_look_12
def dkwX8_look_10 : List UInt8 := [182, 0, 192, 96, 16, 96, 100, 167, 0, 4, 3, 181, 0, 75, 42, 89, 180, 0, 78, 4, 96, 181, 0, 78]
abbrev dktX8_look_10 : List UInt8 := dkwX8_look_10 ++ dktX8_look_11
def dkwX8_look_9 : List UInt8 := [16, 6, 162, 0, 30, 16, 32, 42, 180, 0, 75, 104, 42, 42, 180, 0, 69, 42, 180, 0, 78, 96]
abbrev dktX8_look_9 : List UInt8 := dkwX8_look_9 ++ dktX8_look_10
def dkwX8_look_8 : List UInt8 := [42, 42, 180, 0, 69, 42, 180, 0, 78, 96, 182, 0, 192, 182, 0, 199, 153, 0, 57, 42, 42, 180, 0, 78]
abbrev dktX8_look_8 : List UInt8 := dkwX8_look_8 ++ dktX8_look_9
def dkwX8_look_7 : List UInt8 := [167, 0, 4, 4, 181, 0, 72, 167, 0, 212, 42, 27, 182, 0, 199, 153, 0, 138, 42, 3, 181, 0, 78, 42]
abbrev dktX8_look_7 : List UInt8 := dkwX8_look_7 ++ dktX8_look_8
def dkwX8_look_6 : List UInt8 := [180, 0, 78, 4, 96, 181, 0, 78, 167, 255, 183, 42, 42, 180, 0, 78, 7, 164, 0, 8, 16, 254]
abbrev dktX8_look_6 : List UInt8 := dkwX8_look_6 ++ dktX8_look_7
def dkwX8_look_5 : List UInt8 := [42, 180, 0, 78, 96, 182, 0, 192, 96, 16, 48, 100, 167, 0, 7, 42, 180, 0, 75, 181, 0, 75, 42, 89]
abbrev dktX8_look_5 : List UInt8 := dkwX8_look_5 ++ dktX8_look_6
def dkwX8_look_4 : List UInt8 := [153, 0, 59, 42, 42, 180, 0, 78, 7, 162, 0, 30, 16, 10, 42, 180, 0, 75, 104, 42, 42, 180, 0, 69]
abbrev dktX8_look_4 : List UInt8 := dkwX8_look_4 ++ dktX8_look_5
def dkwX8_look_3 : List UInt8 := [42, 3, 181, 0, 78, 42, 42, 42, 180, 0, 69, 42, 180, 0, 78, 96, 182, 0, 192, 182, 0, 196]
abbrev dktX8_look_3 : List UInt8 := dkwX8_look_3 ++ dktX8_look_4
def dkwX8_look_2 : List UInt8 := [60, 42, 4, 181, 0, 78, 42, 3, 181, 0, 75, 42, 27, 182, 0, 196, 153, 0, 110, 42, 4, 181, 0, 72]
abbrev dktX8_look_2 : List UInt8 := dkwX8_look_2 ++ dktX8_look_3
def dkwX8_look_1 : List UInt8 := [160, 0, 16, 42, 89, 180, 0, 69, 4, 96, 181, 0, 69, 167, 255, 220, 42, 42, 180, 0, 69, 182, 0, 192]
abbrev dktX8_look_1 : List UInt8 := dkwX8_look_1 ++ dktX8_look_2
def dkwX8_look_0 : List UInt8 := [42, 42, 180, 0, 69, 182, 0, 192, 16, 32, 159, 0, 16, 42, 42, 180, 0, 69, 182, 0, 192, 16, 10]
abbrev dktX8_look_0 : List UInt8 := dkwX8_look_0 ++ dktX8_look_1
theorem dksX8_look_0 : cX8_look.data.toList.drop 0 = dktX8_look_0 := by decide +kernel
theorem dksX8_look_1 : cX8_look.data.toList.drop 23 = dktX8_look_1 := dk_seg dksX8_look_0 23 rfl rfl
theorem dksX8_look_2 : cX8_look.data.toList.drop 47 = dktX8_look_2 := dk_seg dksX8_look_1 24 rfl rfl
theorem dksX8_look_3 : cX8_look.data.toList.drop 71 = dktX8_look_3 := dk_seg dksX8_look_2 24 rfl rfl
theorem dksX8_look_4 : cX8_look.data.toList.drop 93 = dktX8_look_4 := dk_seg dksX8_look_3 22 rfl rfl
theorem dksX8_look_5 : cX8_look.data.toList.drop 117 = dktX8_look_5 := dk_seg dksX8_look_4 24 rfl rfl
theorem dksX8_look_6 : cX8_look.data.toList.drop 141 = dktX8_look_6 := dk_seg dksX8_look_5 24 rfl rfl
theorem dksX8_look_7 : cX8_look.data.toList.drop 163 = dktX8_look_7 := dk_seg dksX8_look_6 22 rfl rfl
theorem dksX8_look_8 : cX8_look.data.toList.drop 187 = dktX8_look_8 := dk_seg dksX8_look_7 24 rfl rfl
theorem dksX8_look_9 : cX8_look.data.toList.drop 211 = dktX8_look_9 := dk_seg dksX8_look_8 24 rfl rfl
theorem dksX8_look_10 : cX8_look.data.toList.drop 233 = dktX8_look_10 := dk_seg dksX8_look_9 22 rfl rfl
theorem dksX8_look_11 : cX8_look.data.toList.drop 257 = dktX8_look_11 := dk_seg dksX8_look_10 24 rfl rfl
theorem dksX8_look_12 : cX8_look.data.toList.drop 281 = dktX8_look_12 := dk_seg dksX8_look_11 24 rfl rfl
theorem dksX8_look_13 : cX8_look.data.toList.drop 305 = dktX8_look_13 := dk_seg dksX8_look_12 24 rfl rfl
theorem dksX8_look_14 : cX8_look.data.toList.drop 329 = dktX8_look_14 := dk_seg dksX8_look_13 24 rfl rfl
theorem dksX8_look_15 : cX8_look.data.toList.drop 353 = dktX8_look_15 := dk_seg dksX8_look_14 24 rfl rfl
theorem dksX8_look_16 : cX8_look.data.toList.drop 377 = dktX8_look_16 := dk_seg dksX8_look_15 24 rfl rfl
theorem dX8_look_0 : decode cX8_look 0 = .ok (.aload_n 0, 1) := dk_42 (dk_at dksX8_look_0 0 rfl rfl)
theorem dX8_look_1 : decode cX8_look 1 = .ok (.aload_n 0, 1) := dk_42 (dk_at dksX8_look_0 1 rfl rfl)
theorem dX8_look_2 : decode cX8_look 2 = .ok (.getfield 69, 3) := dk_180 0 69 (dk_at dksX8_look_0 2 rfl rfl)
theorem dX8_look_5 : decode cX8_look 5 = .ok (.invokevirtual 192, 3) := dk_182 0 192 (dk_at dksX8_look_0 5 rfl rfl)
theorem dX8_look_8 : decode cX8_look 8 = .ok (.bipush 32, 2) := dk_16 32 (dk_at dksX8_look_0 8 rfl rfl)
theorem dX8_look_10 : decode cX8_look 10 = .ok (.if_icmp .eq 16, 3) := dk_159 0 16 (dk_at dksX8_look_0 10 rfl rfl)
theorem dX8_look_13 : decode cX8_look 13 = .ok (.aload_n 0, 1) := dk_42 (dk_at dksX8_look_0 13 rfl rfl)
theorem dX8_look_14 : decode cX8_look 14 = .ok (.aload_n 0, 1) := dk_42 (dk_at dksX8_look_0 14 rfl rfl)
theorem dX8_look_15 : decode cX8_look 15 = .ok (.getfield 69, 3) := dk_180 0 69 (dk_at dksX8_look_0 15 rfl rfl)
theorem dX8_look_18 : decode cX8_look 18 = .ok (.invokevirtual 192, 3) := dk_182 0 192 (dk_at dksX8_look_0 18 rfl rfl)
theorem dX8_look_21 : decode cX8_look 21 = .ok (.bipush 10, 2) := dk_16 10 (dk_at dksX8_look_0 21 rfl rfl)
theorem dX8_look_23 : decode cX8_look 23 = .ok (.if_icmp .ne 16, 3) := dk_160 0 16 (dk_at dksX8_look_1 0 rfl rfl)
theorem dX8_look_26 : decode cX8_look 26 = .ok (.aload_n 0, 1) := dk_42 (dk_at dksX8_look_1 3 rfl rfl)
theorem dX8_look_27 : decode cX8_look 27 = .ok (.dup, 1) := dk_89 (dk_at dksX8_look_1 4 rfl rfl)
theorem dX8_look_28 : decode cX8_look 28 = .ok (.getfield 69, 3) := dk_180 0 69 (dk_at dksX8_look_1 5 rfl rfl)
theorem dX8_look_31 : decode cX8_look 31 = .ok (.iconst 1, 1) := dk_4 (dk_at dksX8_look_1 8 rfl rfl)
theorem dX8_look_32 : decode cX8_look 32 = .ok (.iadd, 1) := dk_96 (dk_at dksX8_look_1 9 rfl rfl)
theorem dX8_look_33 : decode cX8_look 33 = .ok (.putfield 69, 3) := dk_181 0 69 (dk_at dksX8_look_1 10 rfl rfl)
theorem dX8_look_36 : decode cX8_look 36 = .ok (.goto (-36), 3) := dk_167 255 220 (dk_at dksX8_look_1 13 rfl rfl)
theorem dX8_look_39 : decode cX8_look 39 = .ok (.aload_n 0, 1) := dk_42 (dk_at dksX8_look_1 16 rfl rfl)
theorem dX8_look_40 : decode cX8_look 40 = .ok (.aload_n 0, 1) := dk_42 (dk_at dksX8_look_1 17 rfl rfl)
theorem dX8_look_41 : decode cX8_look 41 = .ok (.getfield 69, 3) := dk_180 0 69 (dk_at dksX8_look_1 18 rfl rfl)
theorem dX8_look_44 : decode cX8_look 44 = .ok (.invokevirtual 192, 3) := dk_182 0 192 (dk_at dksX8_look_1 21 rfl rfl)
theorem dX8_look_47 : decode cX8_look 47 = .ok (.istore_n 1, 1) := dk_60 (dk_at dksX8_look_2 0 rfl rfl)
theorem dX8_look_48 : decode cX8_look 48 = .ok (.aload_n 0, 1) := dk_42 (dk_at dksX8_look_2 1 rfl rfl)
theorem dX8_look_49 : decode cX8_look 49 = .ok (.iconst 1, 1) := dk_4 (dk_at dksX8_look_2 2 rfl rfl)
theorem dX8_look_50 : decode cX8_look 50 = .ok (.putfield 78, 3) := dk_181 0 78 (dk_at dksX8_look_2 3 rfl rfl)
theorem dX8_look_53 : decode cX8_look 53 = .ok (.aload_n 0, 1) := dk_42 (dk_at dksX8_look_2 6 rfl rfl)
theorem dX8_look_54 : decode cX8_look 54 = .ok (.iconst 0, 1) := dk_3 (dk_at dksX8_look_2 7 rfl rfl)
theorem dX8_look_55 : decode cX8_look 55 = .ok (.putfield 75, 3) := dk_181 0 75 (dk_at dksX8_look_2 8 rfl rfl)
theorem dX8_look_58 : decode cX8_look 58 = .ok (.aload_n 0, 1) := dk_42 (dk_at dksX8_look_2 11 rfl rfl)
theorem dX8_look_59 : decode cX8_look 59 = .ok (.iload_n 1, 1) := dk_27 (dk_at dksX8_look_2 12 rfl rfl)
theorem dX8_look_60 : decode cX8_look 60 = .ok (.invokevirtual 196, 3) := dk_182 0 196 (dk_at dksX8_look_2 13 rfl rfl)
theorem dX8_look_63 : decode cX8_look 63 = .ok (.ifCond .eq 110, 3) := dk_153 0 110 (dk_at dksX8_look_2 16 rfl rfl)
theorem dX8_look_66 : decode cX8_look 66 = .ok (.aload_n 0, 1) := dk_42 (dk_at dksX8_look_2 19 rfl rfl)
theorem dX8_look_67 : decode cX8_look 67 = .ok (.iconst 1, 1) := dk_4 (dk_at dksX8_look_2 20 rfl rfl)
theorem dX8_look_68 : decode cX8_look 68 = .ok (.putfield 72, 3) := dk_181 0 72 (dk_at dksX8_look_2 21 rfl rfl)
theorem dX8_look_71 : decode cX8_look 71 = .ok (.aload_n 0, 1) := dk_42 (dk_at dksX8_look_3 0 rfl rfl)
theorem dX8_look_72 : decode cX8_look 72 = .ok (.iconst 0, 1) := dk_3 (dk_at dksX8_look_3 1 rfl rfl)
theorem dX8_look_73 : decode cX8_look 73 = .ok (.putfield 78, 3) := dk_181 0 78 (dk_at dksX8_look_3 2 rfl rfl)
theorem dX8_look_76 : decode cX8_look 76 = .ok (.aload_n 0, 1) := dk_42 (dk_at dksX8_look_3 5 rfl rfl)
theorem dX8_look_77 : decode cX8_look 77 = .ok (.aload_n 0, 1) := dk_42 (dk_at dksX8_look_3 6 rfl rfl)
theorem dX8_look_78 : decode cX8_look 78 = .ok (.aload_n 0, 1) := dk_42 (dk_at dksX8_look_3 7 rfl rfl)
theorem dX8_look_79 : decode cX8_look 79 = .ok (.getfield 69, 3) := dk_180 0 69 (dk_at dksX8_look_3 8 rfl rfl)
theorem dX8_look_82 : decode cX8_look 82 = .ok (.aload_n 0, 1) := dk_42 (dk_at dksX8_look_3 11 rfl rfl)
theorem dX8_look_83 : decode cX8_look 83 = .ok (.getfield 78, 3) := dk_180 0 78 (dk_at dksX8_look_3 12 rfl rfl)
theorem dX8_look_86 : decode cX8_look 86 = .ok (.iadd, 1) := dk_96 (dk_at dksX8_look_3 15 rfl rfl)
theorem dX8_look_87 : decode cX8_look 87 = .ok (.invokevirtual 192, 3) := dk_182 0 192 (dk_at dksX8_look_3 16 rfl rfl)
theorem dX8_look_90 : decode cX8_look 90 = .ok (.invokevirtual 196, 3) := dk_182 0 196 (dk_at dksX8_look_3 19 rfl rfl)
theorem dX8_look_93 : decode cX8_look 93 = .ok (.ifCond .eq 59, 3) := dk_153 0 59 (dk_at dksX8_look_4 0 rfl rfl)
theorem dX8_look_96 : decode cX8_look 96 = .ok (.aload_n 0, 1) := dk_42 (dk_at dksX8_look_4 3 rfl rfl)
theorem dX8_look_97 : decode cX8_look 97 = .ok (.aload_n 0, 1) := dk_42 (dk_at dksX8_look_4 4 rfl rfl)
theorem dX8_look_98 : decode cX8_look 98 = .ok (.getfield 78, 3) := dk_180 0 78 (dk_at dksX8_look_4 5 rfl rfl)
theorem dX8_look_101 : decode cX8_look 101 = .ok (.iconst 4, 1) := dk_7 (dk_at dksX8_look_4 8 rfl rfl)
theorem dX8_look_102 : decode cX8_look 102 = .ok (.if_icmp .ge 30, 3) := dk_162 0 30 (dk_at dksX8_look_4 9 rfl rfl)
theorem dX8_look_105 : decode cX8_look 105 = .ok (.bipush 10, 2) := dk_16 10 (dk_at dksX8_look_4 12 rfl rfl)
theorem dX8_look_107 : decode cX8_look 107 = .ok (.aload_n 0, 1) := dk_42 (dk_at dksX8_look_4 14 rfl rfl)
theorem dX8_look_108 : decode cX8_look 108 = .ok (.getfield 75, 3) := dk_180 0 75 (dk_at dksX8_look_4 15 rfl rfl)
theorem dX8_look_111 : decode cX8_look 111 = .ok (.imul, 1) := dk_104 (dk_at dksX8_look_4 18 rfl rfl)
theorem dX8_look_112 : decode cX8_look 112 = .ok (.aload_n 0, 1) := dk_42 (dk_at dksX8_look_4 19 rfl rfl)
theorem dX8_look_113 : decode cX8_look 113 = .ok (.aload_n 0, 1) := dk_42 (dk_at dksX8_look_4 20 rfl rfl)
theorem dX8_look_114 : decode cX8_look 114 = .ok (.getfield 69, 3) := dk_180 0 69 (dk_at dksX8_look_4 21 rfl rfl)
theorem dX8_look_117 : decode cX8_look 117 = .ok (.aload_n 0, 1) := dk_42 (dk_at dksX8_look_5 0 rfl rfl)
theorem dX8_look_118 : decode cX8_look 118 = .ok (.getfield 78, 3) := dk_180 0 78 (dk_at dksX8_look_5 1 rfl rfl)
theorem dX8_look_121 : decode cX8_look 121 = .ok (.iadd, 1) := dk_96 (dk_at dksX8_look_5 4 rfl rfl)
theorem dX8_look_122 : decode cX8_look 122 = .ok (.invokevirtual 192, 3) := dk_182 0 192 (dk_at dksX8_look_5 5 rfl rfl)
theorem dX8_look_125 : decode cX8_look 125 = .ok (.iadd, 1) := dk_96 (dk_at dksX8_look_5 8 rfl rfl)
theorem dX8_look_126 : decode cX8_look 126 = .ok (.bipush 48, 2) := dk_16 48 (dk_at dksX8_look_5 9 rfl rfl)
theorem dX8_look_128 : decode cX8_look 128 = .ok (.isub, 1) := dk_100 (dk_at dksX8_look_5 11 rfl rfl)
theorem dX8_look_129 : decode cX8_look 129 = .ok (.goto 7, 3) := dk_167 0 7 (dk_at dksX8_look_5 12 rfl rfl)
theorem dX8_look_132 : decode cX8_look 132 = .ok (.aload_n 0, 1) := dk_42 (dk_at dksX8_look_5 15 rfl rfl)
theorem dX8_look_133 : decode cX8_look 133 = .ok (.getfield 75, 3) := dk_180 0 75 (dk_at dksX8_look_5 16 rfl rfl)
theorem dX8_look_136 : decode cX8_look 136 = .ok (.putfield 75, 3) := dk_181 0 75 (dk_at dksX8_look_5 19 rfl rfl)
theorem dX8_look_139 : decode cX8_look 139 = .ok (.aload_n 0, 1) := dk_42 (dk_at dksX8_look_5 22 rfl rfl)
theorem dX8_look_140 : decode cX8_look 140 = .ok (.dup, 1) := dk_89 (dk_at dksX8_look_5 23 rfl rfl)
theorem dX8_look_141 : decode cX8_look 141 = .ok (.getfield 78, 3) := dk_180 0 78 (dk_at dksX8_look_6 0 rfl rfl)
theorem dX8_look_144 : decode cX8_look 144 = .ok (.iconst 1, 1) := dk_4 (dk_at dksX8_look_6 3 rfl rfl)
theorem dX8_look_145 : decode cX8_look 145 = .ok (.iadd, 1) := dk_96 (dk_at dksX8_look_6 4 rfl rfl)
theorem dX8_look_146 : decode cX8_look 146 = .ok (.putfield 78, 3) := dk_181 0 78 (dk_at dksX8_look_6 5 rfl rfl)
theorem dX8_look_149 : decode cX8_look 149 = .ok (.goto (-73), 3) := dk_167 255 183 (dk_at dksX8_look_6 8 rfl rfl)
theorem dX8_look_152 : decode cX8_look 152 = .ok (.aload_n 0, 1) := dk_42 (dk_at dksX8_look_6 11 rfl rfl)
theorem dX8_look_153 : decode cX8_look 153 = .ok (.aload_n 0, 1) := dk_42 (dk_at dksX8_look_6 12 rfl rfl)
theorem dX8_look_154 : decode cX8_look 154 = .ok (.getfield 78, 3) := dk_180 0 78 (dk_at dksX8_look_6 13 rfl rfl)
theorem dX8_look_157 : decode cX8_look 157 = .ok (.iconst 4, 1) := dk_7 (dk_at dksX8_look_6 16 rfl rfl)
theorem dX8_look_158 : decode cX8_look 158 = .ok (.if_icmp .le 8, 3) := dk_164 0 8 (dk_at dksX8_look_6 17 rfl rfl)
theorem dX8_look_161 : decode cX8_look 161 = .ok (.bipush (-2), 2) := dk_16 254 (dk_at dksX8_look_6 20 rfl rfl)
theorem dX8_look_163 : decode cX8_look 163 = .ok (.goto 4, 3) := dk_167 0 4 (dk_at dksX8_look_7 0 rfl rfl)
theorem dX8_look_166 : decode cX8_look 166 = .ok (.iconst 1, 1) := dk_4 (dk_at dksX8_look_7 3 rfl rfl)
theorem dX8_look_167 : decode cX8_look 167 = .ok (.putfield 72, 3) := dk_181 0 72 (dk_at dksX8_look_7 4 rfl rfl)
theorem dX8_look_170 : decode cX8_look 170 = .ok (.goto 212, 3) := dk_167 0 212 (dk_at dksX8_look_7 7 rfl rfl)
theorem dX8_look_173 : decode cX8_look 173 = .ok (.aload_n 0, 1) := dk_42 (dk_at dksX8_look_7 10 rfl rfl)
theorem dX8_look_174 : decode cX8_look 174 = .ok (.iload_n 1, 1) := dk_27 (dk_at dksX8_look_7 11 rfl rfl)
theorem dX8_look_175 : decode cX8_look 175 = .ok (.invokevirtual 199, 3) := dk_182 0 199 (dk_at dksX8_look_7 12 rfl rfl)
theorem dX8_look_178 : decode cX8_look 178 = .ok (.ifCond .eq 138, 3) := dk_153 0 138 (dk_at dksX8_look_7 15 rfl rfl)
theorem dX8_look_181 : decode cX8_look 181 = .ok (.aload_n 0, 1) := dk_42 (dk_at dksX8_look_7 18 rfl rfl)
theorem dX8_look_182 : decode cX8_look 182 = .ok (.iconst 0, 1) := dk_3 (dk_at dksX8_look_7 19 rfl rfl)
theorem dX8_look_183 : decode cX8_look 183 = .ok (.putfield 78, 3) := dk_181 0 78 (dk_at dksX8_look_7 20 rfl rfl)
theorem dX8_look_186 : decode cX8_look 186 = .ok (.aload_n 0, 1) := dk_42 (dk_at dksX8_look_7 23 rfl rfl)
theorem dX8_look_187 : decode cX8_look 187 = .ok (.aload_n 0, 1) := dk_42 (dk_at dksX8_look_8 0 rfl rfl)
theorem dX8_look_188 : decode cX8_look 188 = .ok (.aload_n 0, 1) := dk_42 (dk_at dksX8_look_8 1 rfl rfl)
theorem dX8_look_189 : decode cX8_look 189 = .ok (.getfield 69, 3) := dk_180 0 69 (dk_at dksX8_look_8 2 rfl rfl)
theorem dX8_look_192 : decode cX8_look 192 = .ok (.aload_n 0, 1) := dk_42 (dk_at dksX8_look_8 5 rfl rfl)
theorem dX8_look_193 : decode cX8_look 193 = .ok (.getfield 78, 3) := dk_180 0 78 (dk_at dksX8_look_8 6 rfl rfl)
theorem dX8_look_196 : decode cX8_look 196 = .ok (.iadd, 1) := dk_96 (dk_at dksX8_look_8 9 rfl rfl)
theorem dX8_look_197 : decode cX8_look 197 = .ok (.invokevirtual 192, 3) := dk_182 0 192 (dk_at dksX8_look_8 10 rfl rfl)
theorem dX8_look_200 : decode cX8_look 200 = .ok (.invokevirtual 199, 3) := dk_182 0 199 (dk_at dksX8_look_8 13 rfl rfl)
theorem dX8_look_203 : decode cX8_look 203 = .ok (.ifCond .eq 57, 3) := dk_153 0 57 (dk_at dksX8_look_8 16 rfl rfl)
theorem dX8_look_206 : decode cX8_look 206 = .ok (.aload_n 0, 1) := dk_42 (dk_at dksX8_look_8 19 rfl rfl)
theorem dX8_look_207 : decode cX8_look 207 = .ok (.aload_n 0, 1) := dk_42 (dk_at dksX8_look_8 20 rfl rfl)
theorem dX8_look_208 : decode cX8_look 208 = .ok (.getfield 78, 3) := dk_180 0 78 (dk_at dksX8_look_8 21 rfl rfl)
theorem dX8_look_211 : decode cX8_look 211 = .ok (.bipush 6, 2) := dk_16 6 (dk_at dksX8_look_9 0 rfl rfl)
theorem dX8_look_213 : decode cX8_look 213 = .ok (.if_icmp .ge 30, 3) := dk_162 0 30 (dk_at dksX8_look_9 2 rfl rfl)
theorem dX8_look_216 : decode cX8_look 216 = .ok (.bipush 32, 2) := dk_16 32 (dk_at dksX8_look_9 5 rfl rfl)
theorem dX8_look_218 : decode cX8_look 218 = .ok (.aload_n 0, 1) := dk_42 (dk_at dksX8_look_9 7 rfl rfl)
theorem dX8_look_219 : decode cX8_look 219 = .ok (.getfield 75, 3) := dk_180 0 75 (dk_at dksX8_look_9 8 rfl rfl)
theorem dX8_look_222 : decode cX8_look 222 = .ok (.imul, 1) := dk_104 (dk_at dksX8_look_9 11 rfl rfl)
theorem dX8_look_223 : decode cX8_look 223 = .ok (.aload_n 0, 1) := dk_42 (dk_at dksX8_look_9 12 rfl rfl)
theorem dX8_look_224 : decode cX8_look 224 = .ok (.aload_n 0, 1) := dk_42 (dk_at dksX8_look_9 13 rfl rfl)
theorem dX8_look_225 : decode cX8_look 225 = .ok (.getfield 69, 3) := dk_180 0 69 (dk_at dksX8_look_9 14 rfl rfl)
theorem dX8_look_228 : decode cX8_look 228 = .ok (.aload_n 0, 1) := dk_42 (dk_at dksX8_look_9 17 rfl rfl)
theorem dX8_look_229 : decode cX8_look 229 = .ok (.getfield 78, 3) := dk_180 0 78 (dk_at dksX8_look_9 18 rfl rfl)
theorem dX8_look_232 : decode cX8_look 232 = .ok (.iadd, 1) := dk_96 (dk_at dksX8_look_9 21 rfl rfl)
theorem dX8_look_233 : decode cX8_look 233 = .ok (.invokevirtual 192, 3) := dk_182 0 192 (dk_at dksX8_look_10 0 rfl rfl)
theorem dX8_look_236 : decode cX8_look 236 = .ok (.iadd, 1) := dk_96 (dk_at dksX8_look_10 3 rfl rfl)
theorem dX8_look_237 : decode cX8_look 237 = .ok (.bipush 96, 2) := dk_16 96 (dk_at dksX8_look_10 4 rfl rfl)
theorem dX8_look_239 : decode cX8_look 239 = .ok (.isub, 1) := dk_100 (dk_at dksX8_look_10 6 rfl rfl)
theorem dX8_look_240 : decode cX8_look 240 = .ok (.goto 4, 3) := dk_167 0 4 (dk_at dksX8_look_10 7 rfl rfl)
theorem dX8_look_243 : decode cX8_look 243 = .ok (.iconst 0, 1) := dk_3 (dk_at dksX8_look_10 10 rfl rfl)
theorem dX8_look_244 : decode cX8_look 244 = .ok (.putfield 75, 3) := dk_181 0 75 (dk_at dksX8_look_10 11 rfl rfl)
theorem dX8_look_247 : decode cX8_look 247 = .ok (.aload_n 0, 1) := dk_42 (dk_at dksX8_look_10 14 rfl rfl)
theorem dX8_look_248 : decode cX8_look 248 = .ok (.dup, 1) := dk_89 (dk_at dksX8_look_10 15 rfl rfl)
theorem dX8_look_249 : decode cX8_look 249 = .ok (.getfield 78, 3) := dk_180 0 78 (dk_at dksX8_look_10 16 rfl rfl)
theorem dX8_look_252 : decode cX8_look 252 = .ok (.iconst 1, 1) := dk_4 (dk_at dksX8_look_10 19 rfl rfl)
theorem dX8_look_253 : decode cX8_look 253 = .ok (.iadd, 1) := dk_96 (dk_at dksX8_look_10 20 rfl rfl)
theorem dX8_look_254 : decode cX8_look 254 = .ok (.putfield 78, 3) := dk_181 0 78 (dk_at dksX8_look_10 21 rfl rfl)
theorem dX8_look_257 : decode cX8_look 257 = .ok (.goto (-71), 3) := dk_167 255 185 (dk_at dksX8_look_11 0 rfl rfl)
theorem dX8_look_260 : decode cX8_look 260 = .ok (.aload_n 0, 1) := dk_42 (dk_at dksX8_look_11 3 rfl rfl)
theorem dX8_look_261 : decode cX8_look 261 = .ok (.aload_n 0, 1) := dk_42 (dk_at dksX8_look_11 4 rfl rfl)
theorem dX8_look_262 : decode cX8_look 262 = .ok (.getfield 78, 3) := dk_180 0 78 (dk_at dksX8_look_11 5 rfl rfl)
theorem dX8_look_265 : decode cX8_look 265 = .ok (.bipush 6, 2) := dk_16 6 (dk_at dksX8_look_11 8 rfl rfl)
theorem dX8_look_267 : decode cX8_look 267 = .ok (.if_icmp .le 7, 3) := dk_164 0 7 (dk_at dksX8_look_11 10 rfl rfl)
theorem dX8_look_270 : decode cX8_look 270 = .ok (.iconst 0, 1) := dk_3 (dk_at dksX8_look_11 13 rfl rfl)
theorem dX8_look_271 : decode cX8_look 271 = .ok (.goto 7, 3) := dk_167 0 7 (dk_at dksX8_look_11 14 rfl rfl)
theorem dX8_look_274 : decode cX8_look 274 = .ok (.aload_n 0, 1) := dk_42 (dk_at dksX8_look_11 17 rfl rfl)
theorem dX8_look_275 : decode cX8_look 275 = .ok (.getfield 75, 3) := dk_180 0 75 (dk_at dksX8_look_11 18 rfl rfl)
theorem dX8_look_278 : decode cX8_look 278 = .ok (.putfield 75, 3) := dk_181 0 75 (dk_at dksX8_look_11 21 rfl rfl)
theorem dX8_look_281 : decode cX8_look 281 = .ok (.aload_n 0, 1) := dk_42 (dk_at dksX8_look_12 0 rfl rfl)
theorem dX8_look_282 : decode cX8_look 282 = .ok (.aload_n 0, 1) := dk_42 (dk_at dksX8_look_12 1 rfl rfl)
theorem dX8_look_283 : decode cX8_look 283 = .ok (.aload_n 0, 1) := dk_42 (dk_at dksX8_look_12 2 rfl rfl)
theorem dX8_look_284 : decode cX8_look 284 = .ok (.getfield 75, 3) := dk_180 0 75 (dk_at dksX8_look_12 3 rfl rfl)
theorem dX8_look_287 : decode cX8_look 287 = .ok (.invokevirtual 202, 3) := dk_182 0 202 (dk_at dksX8_look_12 6 rfl rfl)
theorem dX8_look_290 : decode cX8_look 290 = .ok (.ifCond .ge 14, 3) := dk_156 0 14 (dk_at dksX8_look_12 9 rfl rfl)
theorem dX8_look_293 : decode cX8_look 293 = .ok (.aload_n 0, 1) := dk_42 (dk_at dksX8_look_12 12 rfl rfl)
theorem dX8_look_294 : decode cX8_look 294 = .ok (.aload_n 0, 1) := dk_42 (dk_at dksX8_look_12 13 rfl rfl)
theorem dX8_look_295 : decode cX8_look 295 = .ok (.getfield 75, 3) := dk_180 0 75 (dk_at dksX8_look_12 14 rfl rfl)
theorem dX8_look_298 : decode cX8_look 298 = .ok (.invokevirtual 205, 3) := dk_182 0 205 (dk_at dksX8_look_12 17 rfl rfl)
theorem dX8_look_301 : decode cX8_look 301 = .ok (.ifCond .eq 7, 3) := dk_153 0 7 (dk_at dksX8_look_12 20 rfl rfl)
theorem dX8_look_304 : decode cX8_look 304 = .ok (.iconst 2, 1) := dk_5 (dk_at dksX8_look_12 23 rfl rfl)
theorem dX8_look_305 : decode cX8_look 305 = .ok (.goto 5, 3) := dk_167 0 5 (dk_at dksX8_look_13 0 rfl rfl)
theorem dX8_look_308 : decode cX8_look 308 = .ok (.bipush (-2), 2) := dk_16 254 (dk_at dksX8_look_13 3 rfl rfl)
theorem dX8_look_310 : decode cX8_look 310 = .ok (.putfield 72, 3) := dk_181 0 72 (dk_at dksX8_look_13 5 rfl rfl)
theorem dX8_look_313 : decode cX8_look 313 = .ok (.goto 69, 3) := dk_167 0 69 (dk_at dksX8_look_13 8 rfl rfl)
theorem dX8_look_316 : decode cX8_look 316 = .ok (.aload_n 0, 1) := dk_42 (dk_at dksX8_look_13 11 rfl rfl)
theorem dX8_look_317 : decode cX8_look 317 = .ok (.iload_n 1, 1) := dk_27 (dk_at dksX8_look_13 12 rfl rfl)
theorem dX8_look_318 : decode cX8_look 318 = .ok (.bipush 40, 2) := dk_16 40 (dk_at dksX8_look_13 13 rfl rfl)
theorem dX8_look_320 : decode cX8_look 320 = .ok (.if_icmp .eq 45, 3) := dk_159 0 45 (dk_at dksX8_look_13 15 rfl rfl)
theorem dX8_look_323 : decode cX8_look 323 = .ok (.iload_n 1, 1) := dk_27 (dk_at dksX8_look_13 18 rfl rfl)
theorem dX8_look_324 : decode cX8_look 324 = .ok (.bipush 41, 2) := dk_16 41 (dk_at dksX8_look_13 19 rfl rfl)
theorem dX8_look_326 : decode cX8_look 326 = .ok (.if_icmp .eq 39, 3) := dk_159 0 39 (dk_at dksX8_look_13 21 rfl rfl)
theorem dX8_look_329 : decode cX8_look 329 = .ok (.iload_n 1, 1) := dk_27 (dk_at dksX8_look_14 0 rfl rfl)
theorem dX8_look_330 : decode cX8_look 330 = .ok (.bipush 59, 2) := dk_16 59 (dk_at dksX8_look_14 1 rfl rfl)
theorem dX8_look_332 : decode cX8_look 332 = .ok (.if_icmp .eq 33, 3) := dk_159 0 33 (dk_at dksX8_look_14 3 rfl rfl)
theorem dX8_look_335 : decode cX8_look 335 = .ok (.iload_n 1, 1) := dk_27 (dk_at dksX8_look_14 6 rfl rfl)
theorem dX8_look_336 : decode cX8_look 336 = .ok (.bipush 43, 2) := dk_16 43 (dk_at dksX8_look_14 7 rfl rfl)
theorem dX8_look_338 : decode cX8_look 338 = .ok (.if_icmp .eq 27, 3) := dk_159 0 27 (dk_at dksX8_look_14 9 rfl rfl)
theorem dX8_look_341 : decode cX8_look 341 = .ok (.iload_n 1, 1) := dk_27 (dk_at dksX8_look_14 12 rfl rfl)
theorem dX8_look_342 : decode cX8_look 342 = .ok (.bipush 45, 2) := dk_16 45 (dk_at dksX8_look_14 13 rfl rfl)
theorem dX8_look_344 : decode cX8_look 344 = .ok (.if_icmp .eq 21, 3) := dk_159 0 21 (dk_at dksX8_look_14 15 rfl rfl)
theorem dX8_look_347 : decode cX8_look 347 = .ok (.iload_n 1, 1) := dk_27 (dk_at dksX8_look_14 18 rfl rfl)
theorem dX8_look_348 : decode cX8_look 348 = .ok (.bipush 42, 2) := dk_16 42 (dk_at dksX8_look_14 19 rfl rfl)
theorem dX8_look_350 : decode cX8_look 350 = .ok (.if_icmp .eq 15, 3) := dk_159 0 15 (dk_at dksX8_look_14 21 rfl rfl)
theorem dX8_look_353 : decode cX8_look 353 = .ok (.iload_n 1, 1) := dk_27 (dk_at dksX8_look_15 0 rfl rfl)
theorem dX8_look_354 : decode cX8_look 354 = .ok (.bipush 60, 2) := dk_16 60 (dk_at dksX8_look_15 1 rfl rfl)
theorem dX8_look_356 : decode cX8_look 356 = .ok (.if_icmp .eq 9, 3) := dk_159 0 9 (dk_at dksX8_look_15 3 rfl rfl)
theorem dX8_look_359 : decode cX8_look 359 = .ok (.iload_n 1, 1) := dk_27 (dk_at dksX8_look_15 6 rfl rfl)
theorem dX8_look_360 : decode cX8_look 360 = .ok (.bipush 61, 2) := dk_16 61 (dk_at dksX8_look_15 7 rfl rfl)
theorem dX8_look_362 : decode cX8_look 362 = .ok (.if_icmp .ne 7, 3) := dk_160 0 7 (dk_at dksX8_look_15 9 rfl rfl)
theorem dX8_look_365 : decode cX8_look 365 = .ok (.iload_n 1, 1) := dk_27 (dk_at dksX8_look_15 12 rfl rfl)
theorem dX8_look_366 : decode cX8_look 366 = .ok (.goto 13, 3) := dk_167 0 13 (dk_at dksX8_look_15 13 rfl rfl)
theorem dX8_look_369 : decode cX8_look 369 = .ok (.iload_n 1, 1) := dk_27 (dk_at dksX8_look_15 16 rfl rfl)
theorem dX8_look_370 : decode cX8_look 370 = .ok (.ifCond .ge 7, 3) := dk_156 0 7 (dk_at dksX8_look_15 17 rfl rfl)
theorem dX8_look_373 : decode cX8_look 373 = .ok (.iconst (-1), 1) := dk_2 (dk_at dksX8_look_15 20 rfl rfl)
theorem dX8_look_374 : decode cX8_look 374 = .ok (.goto 5, 3) := dk_167 0 5 (dk_at dksX8_look_15 21 rfl rfl)
theorem dX8_look_377 : decode cX8_look 377 = .ok (.bipush (-2), 2) := dk_16 254 (dk_at dksX8_look_16 0 rfl rfl)
theorem dX8_look_379 : decode cX8_look 379 = .ok (.putfield 72, 3) := dk_181 0 72 (dk_at dksX8_look_16 2 rfl rfl)
theorem dX8_look_382 : decode cX8_look 382 = .ok (.return_, 1) := dk_177 (dk_at dksX8_look_16 5 rfl rfl)
abbrev cX8_byteAt : ByteArray := prog_16_method_13_code
def yX8_byteAt : MethodName := ⟨RX8, "byteAt", "(I)I"⟩
def dkwX8_byteAt_0 : List UInt8 := [27, 42, 180, 0, 66, 162, 0, 12, 42, 180, 0, 90, 27, 46, 167, 0, 4, 2, 172]
abbrev dktX8_byteAt_0 : List UInt8 := dkwX8_byteAt_0 ++ []
theorem dksX8_byteAt_0 : cX8_byteAt.data.toList.drop 0 = dktX8_byteAt_0 := by decide +kernel
theorem dX8_byteAt_0 : decode cX8_byteAt 0 = .ok (.iload_n 1, 1) := dk_27 (dk_at dksX8_byteAt_0 0 rfl rfl)
theorem dX8_byteAt_1 : decode cX8_byteAt 1 = .ok (.aload_n 0, 1) := dk_42 (dk_at dksX8_byteAt_0 1 rfl rfl)
theorem dX8_byteAt_2 : decode cX8_byteAt 2 = .ok (.getfield 66, 3) := dk_180 0 66 (dk_at dksX8_byteAt_0 2 rfl rfl)
theorem dX8_byteAt_5 : decode cX8_byteAt 5 = .ok (.if_icmp .ge 12, 3) := dk_162 0 12 (dk_at dksX8_byteAt_0 5 rfl rfl)
theorem dX8_byteAt_8 : decode cX8_byteAt 8 = .ok (.aload_n 0, 1) := dk_42 (dk_at dksX8_byteAt_0 8 rfl rfl)
theorem dX8_byteAt_9 : decode cX8_byteAt 9 = .ok (.getfield 90, 3) := dk_180 0 90 (dk_at dksX8_byteAt_0 9 rfl rfl)
theorem dX8_byteAt_12 : decode cX8_byteAt 12 = .ok (.iload_n 1, 1) := dk_27 (dk_at dksX8_byteAt_0 12 rfl rfl)
theorem dX8_byteAt_13 : decode cX8_byteAt 13 = .ok (.iaload, 1) := dk_46 (dk_at dksX8_byteAt_0 13 rfl rfl)
theorem dX8_byteAt_14 : decode cX8_byteAt 14 = .ok (.goto 4, 3) := dk_167 0 4 (dk_at dksX8_byteAt_0 14 rfl rfl)
theorem dX8_byteAt_17 : decode cX8_byteAt 17 = .ok (.iconst (-1), 1) := dk_2 (dk_at dksX8_byteAt_0 17 rfl rfl)
theorem dX8_byteAt_18 : decode cX8_byteAt 18 = .ok (.ireturn, 1) := dk_172 (dk_at dksX8_byteAt_0 18 rfl rfl)
abbrev cX8_isDigit : ByteArray := prog_16_method_15_code
def yX8_isDigit : MethodName := ⟨RX8, "isDigit", "(I)Z"⟩
def dkwX8_isDigit_0 : List UInt8 := [42, 27, 16, 48, 16, 57, 182, 0, 7, 172]
abbrev dktX8_isDigit_0 : List UInt8 := dkwX8_isDigit_0 ++ []
theorem dksX8_isDigit_0 : cX8_isDigit.data.toList.drop 0 = dktX8_isDigit_0 := by decide +kernel
theorem dX8_isDigit_0 : decode cX8_isDigit 0 = .ok (.aload_n 0, 1) := dk_42 (dk_at dksX8_isDigit_0 0 rfl rfl)
theorem dX8_isDigit_1 : decode cX8_isDigit 1 = .ok (.iload_n 1, 1) := dk_27 (dk_at dksX8_isDigit_0 1 rfl rfl)
theorem dX8_isDigit_2 : decode cX8_isDigit 2 = .ok (.bipush 48, 2) := dk_16 48 (dk_at dksX8_isDigit_0 2 rfl rfl)
theorem dX8_isDigit_4 : decode cX8_isDigit 4 = .ok (.bipush 57, 2) := dk_16 57 (dk_at dksX8_isDigit_0 4 rfl rfl)
theorem dX8_isDigit_6 : decode cX8_isDigit 6 = .ok (.invokevirtual 7, 3) := dk_182 0 7 (dk_at dksX8_isDigit_0 6 rfl rfl)
theorem dX8_isDigit_9 : decode cX8_isDigit 9 = .ok (.ireturn, 1) := dk_172 (dk_at dksX8_isDigit_0 9 rfl rfl)
abbrev cX8_isLetter : ByteArray := prog_16_method_14_code
def yX8_isLetter : MethodName := ⟨RX8, "isLetter", "(I)Z"⟩
def dkwX8_isLetter_0 : List UInt8 := [42, 27, 16, 97, 16, 122, 182, 0, 7, 172]
abbrev dktX8_isLetter_0 : List UInt8 := dkwX8_isLetter_0 ++ []
theorem dksX8_isLetter_0 : cX8_isLetter.data.toList.drop 0 = dktX8_isLetter_0 := by decide +kernel
theorem dX8_isLetter_0 : decode cX8_isLetter 0 = .ok (.aload_n 0, 1) := dk_42 (dk_at dksX8_isLetter_0 0 rfl rfl)
theorem dX8_isLetter_1 : decode cX8_isLetter 1 = .ok (.iload_n 1, 1) := dk_27 (dk_at dksX8_isLetter_0 1 rfl rfl)
theorem dX8_isLetter_2 : decode cX8_isLetter 2 = .ok (.bipush 97, 2) := dk_16 97 (dk_at dksX8_isLetter_0 2 rfl rfl)
theorem dX8_isLetter_4 : decode cX8_isLetter 4 = .ok (.bipush 122, 2) := dk_16 122 (dk_at dksX8_isLetter_0 4 rfl rfl)
theorem dX8_isLetter_6 : decode cX8_isLetter 6 = .ok (.invokevirtual 7, 3) := dk_182 0 7 (dk_at dksX8_isLetter_0 6 rfl rfl)
theorem dX8_isLetter_9 : decode cX8_isLetter 9 = .ok (.ireturn, 1) := dk_172 (dk_at dksX8_isLetter_0 9 rfl rfl)
abbrev cX8_nameOf : ByteArray := prog_16_method_20_code
def yX8_nameOf : MethodName := ⟨RX8, "nameOf", "(I)I"⟩
def dkwX8_nameOf_2 : List UInt8 := [160, 0, 7, 7, 167, 0, 14, 27, 18, 216, 160, 0, 7, 8, 167, 0, 4, 2, 172]
abbrev dktX8_nameOf_2 : List UInt8 := dkwX8_nameOf_2 ++ []
def dkwX8_nameOf_1 : List UInt8 := [17, 36, 101, 160, 0, 7, 5, 167, 0, 34, 27, 18, 214, 160, 0, 7, 6, 167, 0, 24, 27, 18, 215]
abbrev dktX8_nameOf_1 : List UInt8 := dkwX8_nameOf_1 ++ dktX8_nameOf_2
def dkwX8_nameOf_0 : List UInt8 := [27, 18, 213, 160, 0, 7, 3, 167, 0, 56, 27, 17, 92, 180, 160, 0, 7, 4, 167, 0, 45, 27]
abbrev dktX8_nameOf_0 : List UInt8 := dkwX8_nameOf_0 ++ dktX8_nameOf_1
theorem dksX8_nameOf_0 : cX8_nameOf.data.toList.drop 0 = dktX8_nameOf_0 := by decide +kernel
theorem dksX8_nameOf_1 : cX8_nameOf.data.toList.drop 22 = dktX8_nameOf_1 := dk_seg dksX8_nameOf_0 22 rfl rfl
theorem dksX8_nameOf_2 : cX8_nameOf.data.toList.drop 45 = dktX8_nameOf_2 := dk_seg dksX8_nameOf_1 23 rfl rfl
theorem dX8_nameOf_0 : decode cX8_nameOf 0 = .ok (.iload_n 1, 1) := dk_27 (dk_at dksX8_nameOf_0 0 rfl rfl)
theorem dX8_nameOf_1 : decode cX8_nameOf 1 = .ok (.ldc 213, 2) := dk_18 213 (dk_at dksX8_nameOf_0 1 rfl rfl)
theorem dX8_nameOf_3 : decode cX8_nameOf 3 = .ok (.if_icmp .ne 7, 3) := dk_160 0 7 (dk_at dksX8_nameOf_0 3 rfl rfl)
theorem dX8_nameOf_6 : decode cX8_nameOf 6 = .ok (.iconst 0, 1) := dk_3 (dk_at dksX8_nameOf_0 6 rfl rfl)
theorem dX8_nameOf_7 : decode cX8_nameOf 7 = .ok (.goto 56, 3) := dk_167 0 56 (dk_at dksX8_nameOf_0 7 rfl rfl)
theorem dX8_nameOf_10 : decode cX8_nameOf 10 = .ok (.iload_n 1, 1) := dk_27 (dk_at dksX8_nameOf_0 10 rfl rfl)
theorem dX8_nameOf_11 : decode cX8_nameOf 11 = .ok (.sipush 23732, 3) := dk_17 92 180 (dk_at dksX8_nameOf_0 11 rfl rfl)
theorem dX8_nameOf_14 : decode cX8_nameOf 14 = .ok (.if_icmp .ne 7, 3) := dk_160 0 7 (dk_at dksX8_nameOf_0 14 rfl rfl)
theorem dX8_nameOf_17 : decode cX8_nameOf 17 = .ok (.iconst 1, 1) := dk_4 (dk_at dksX8_nameOf_0 17 rfl rfl)
theorem dX8_nameOf_18 : decode cX8_nameOf 18 = .ok (.goto 45, 3) := dk_167 0 45 (dk_at dksX8_nameOf_0 18 rfl rfl)
theorem dX8_nameOf_21 : decode cX8_nameOf 21 = .ok (.iload_n 1, 1) := dk_27 (dk_at dksX8_nameOf_0 21 rfl rfl)
theorem dX8_nameOf_22 : decode cX8_nameOf 22 = .ok (.sipush 9317, 3) := dk_17 36 101 (dk_at dksX8_nameOf_1 0 rfl rfl)
theorem dX8_nameOf_25 : decode cX8_nameOf 25 = .ok (.if_icmp .ne 7, 3) := dk_160 0 7 (dk_at dksX8_nameOf_1 3 rfl rfl)
theorem dX8_nameOf_28 : decode cX8_nameOf 28 = .ok (.iconst 2, 1) := dk_5 (dk_at dksX8_nameOf_1 6 rfl rfl)
theorem dX8_nameOf_29 : decode cX8_nameOf 29 = .ok (.goto 34, 3) := dk_167 0 34 (dk_at dksX8_nameOf_1 7 rfl rfl)
theorem dX8_nameOf_32 : decode cX8_nameOf 32 = .ok (.iload_n 1, 1) := dk_27 (dk_at dksX8_nameOf_1 10 rfl rfl)
theorem dX8_nameOf_33 : decode cX8_nameOf 33 = .ok (.ldc 214, 2) := dk_18 214 (dk_at dksX8_nameOf_1 11 rfl rfl)
theorem dX8_nameOf_35 : decode cX8_nameOf 35 = .ok (.if_icmp .ne 7, 3) := dk_160 0 7 (dk_at dksX8_nameOf_1 13 rfl rfl)
theorem dX8_nameOf_38 : decode cX8_nameOf 38 = .ok (.iconst 3, 1) := dk_6 (dk_at dksX8_nameOf_1 16 rfl rfl)
theorem dX8_nameOf_39 : decode cX8_nameOf 39 = .ok (.goto 24, 3) := dk_167 0 24 (dk_at dksX8_nameOf_1 17 rfl rfl)
theorem dX8_nameOf_42 : decode cX8_nameOf 42 = .ok (.iload_n 1, 1) := dk_27 (dk_at dksX8_nameOf_1 20 rfl rfl)
theorem dX8_nameOf_43 : decode cX8_nameOf 43 = .ok (.ldc 215, 2) := dk_18 215 (dk_at dksX8_nameOf_1 21 rfl rfl)
theorem dX8_nameOf_45 : decode cX8_nameOf 45 = .ok (.if_icmp .ne 7, 3) := dk_160 0 7 (dk_at dksX8_nameOf_2 0 rfl rfl)
theorem dX8_nameOf_48 : decode cX8_nameOf 48 = .ok (.iconst 4, 1) := dk_7 (dk_at dksX8_nameOf_2 3 rfl rfl)
theorem dX8_nameOf_49 : decode cX8_nameOf 49 = .ok (.goto 14, 3) := dk_167 0 14 (dk_at dksX8_nameOf_2 4 rfl rfl)
theorem dX8_nameOf_52 : decode cX8_nameOf 52 = .ok (.iload_n 1, 1) := dk_27 (dk_at dksX8_nameOf_2 7 rfl rfl)
theorem dX8_nameOf_53 : decode cX8_nameOf 53 = .ok (.ldc 216, 2) := dk_18 216 (dk_at dksX8_nameOf_2 8 rfl rfl)
theorem dX8_nameOf_55 : decode cX8_nameOf 55 = .ok (.if_icmp .ne 7, 3) := dk_160 0 7 (dk_at dksX8_nameOf_2 10 rfl rfl)
theorem dX8_nameOf_58 : decode cX8_nameOf 58 = .ok (.iconst 5, 1) := dk_8 (dk_at dksX8_nameOf_2 13 rfl rfl)
theorem dX8_nameOf_59 : decode cX8_nameOf 59 = .ok (.goto 4, 3) := dk_167 0 4 (dk_at dksX8_nameOf_2 14 rfl rfl)
theorem dX8_nameOf_62 : decode cX8_nameOf 62 = .ok (.iconst (-1), 1) := dk_2 (dk_at dksX8_nameOf_2 17 rfl rfl)
theorem dX8_nameOf_63 : decode cX8_nameOf 63 = .ok (.ireturn, 1) := dk_172 (dk_at dksX8_nameOf_2 18 rfl rfl)
abbrev cX8_isKey : ByteArray := prog_16_method_19_code
def yX8_isKey : MethodName := ⟨RX8, "isKey", "(I)Z"⟩
def dkwX8_isKey_1 : List UInt8 := [159, 0, 17, 27, 17, 5, 196, 159, 0, 10, 27, 17, 57, 244, 160, 0, 7, 4, 167, 0, 4, 3, 172]
abbrev dktX8_isKey_1 : List UInt8 := dkwX8_isKey_1 ++ []
def dkwX8_isKey_0 : List UInt8 := [27, 17, 4, 132, 159, 0, 36, 27, 18, 211, 159, 0, 30, 27, 18, 212, 159, 0, 24, 27, 17, 1, 242]
abbrev dktX8_isKey_0 : List UInt8 := dkwX8_isKey_0 ++ dktX8_isKey_1
theorem dksX8_isKey_0 : cX8_isKey.data.toList.drop 0 = dktX8_isKey_0 := by decide +kernel
theorem dksX8_isKey_1 : cX8_isKey.data.toList.drop 23 = dktX8_isKey_1 := dk_seg dksX8_isKey_0 23 rfl rfl
theorem dX8_isKey_0 : decode cX8_isKey 0 = .ok (.iload_n 1, 1) := dk_27 (dk_at dksX8_isKey_0 0 rfl rfl)
theorem dX8_isKey_1 : decode cX8_isKey 1 = .ok (.sipush 1156, 3) := dk_17 4 132 (dk_at dksX8_isKey_0 1 rfl rfl)
theorem dX8_isKey_4 : decode cX8_isKey 4 = .ok (.if_icmp .eq 36, 3) := dk_159 0 36 (dk_at dksX8_isKey_0 4 rfl rfl)
theorem dX8_isKey_7 : decode cX8_isKey 7 = .ok (.iload_n 1, 1) := dk_27 (dk_at dksX8_isKey_0 7 rfl rfl)
theorem dX8_isKey_8 : decode cX8_isKey 8 = .ok (.ldc 211, 2) := dk_18 211 (dk_at dksX8_isKey_0 8 rfl rfl)
theorem dX8_isKey_10 : decode cX8_isKey 10 = .ok (.if_icmp .eq 30, 3) := dk_159 0 30 (dk_at dksX8_isKey_0 10 rfl rfl)
theorem dX8_isKey_13 : decode cX8_isKey 13 = .ok (.iload_n 1, 1) := dk_27 (dk_at dksX8_isKey_0 13 rfl rfl)
theorem dX8_isKey_14 : decode cX8_isKey 14 = .ok (.ldc 212, 2) := dk_18 212 (dk_at dksX8_isKey_0 14 rfl rfl)
theorem dX8_isKey_16 : decode cX8_isKey 16 = .ok (.if_icmp .eq 24, 3) := dk_159 0 24 (dk_at dksX8_isKey_0 16 rfl rfl)
theorem dX8_isKey_19 : decode cX8_isKey 19 = .ok (.iload_n 1, 1) := dk_27 (dk_at dksX8_isKey_0 19 rfl rfl)
theorem dX8_isKey_20 : decode cX8_isKey 20 = .ok (.sipush 498, 3) := dk_17 1 242 (dk_at dksX8_isKey_0 20 rfl rfl)
theorem dX8_isKey_23 : decode cX8_isKey 23 = .ok (.if_icmp .eq 17, 3) := dk_159 0 17 (dk_at dksX8_isKey_1 0 rfl rfl)
theorem dX8_isKey_26 : decode cX8_isKey 26 = .ok (.iload_n 1, 1) := dk_27 (dk_at dksX8_isKey_1 3 rfl rfl)
theorem dX8_isKey_27 : decode cX8_isKey 27 = .ok (.sipush 1476, 3) := dk_17 5 196 (dk_at dksX8_isKey_1 4 rfl rfl)
theorem dX8_isKey_30 : decode cX8_isKey 30 = .ok (.if_icmp .eq 10, 3) := dk_159 0 10 (dk_at dksX8_isKey_1 7 rfl rfl)
theorem dX8_isKey_33 : decode cX8_isKey 33 = .ok (.iload_n 1, 1) := dk_27 (dk_at dksX8_isKey_1 10 rfl rfl)
theorem dX8_isKey_34 : decode cX8_isKey 34 = .ok (.sipush 14836, 3) := dk_17 57 244 (dk_at dksX8_isKey_1 11 rfl rfl)
theorem dX8_isKey_37 : decode cX8_isKey 37 = .ok (.if_icmp .ne 7, 3) := dk_160 0 7 (dk_at dksX8_isKey_1 14 rfl rfl)
theorem dX8_isKey_40 : decode cX8_isKey 40 = .ok (.iconst 1, 1) := dk_4 (dk_at dksX8_isKey_1 17 rfl rfl)
theorem dX8_isKey_41 : decode cX8_isKey 41 = .ok (.goto 4, 3) := dk_167 0 4 (dk_at dksX8_isKey_1 18 rfl rfl)
theorem dX8_isKey_44 : decode cX8_isKey 44 = .ok (.iconst 0, 1) := dk_3 (dk_at dksX8_isKey_1 21 rfl rfl)
theorem dX8_isKey_45 : decode cX8_isKey 45 = .ok (.ireturn, 1) := dk_172 (dk_at dksX8_isKey_1 22 rfl rfl)
abbrev cX8_takesPart : ByteArray := prog_16_method_30_code
def yX8_takesPart : MethodName := ⟨RX8, "takesPart", "(III)Z"⟩
def dkwX8_takesPart_2 : List UInt8 := [180, 0, 87, 21, 4, 100, 79, 42, 182, 0, 247, 4, 172]
abbrev dktX8_takesPart_2 : List UInt8 := dkwX8_takesPart_2 ++ []
def dkwX8_takesPart_1 : List UInt8 := [96, 54, 4, 42, 21, 4, 182, 0, 250, 154, 0, 5, 3, 172, 42, 180, 0, 99, 6, 27, 104, 28, 96, 42]
abbrev dktX8_takesPart_1 : List UInt8 := dkwX8_takesPart_1 ++ dktX8_takesPart_2
def dkwX8_takesPart_0 : List UInt8 := [42, 29, 182, 0, 237, 154, 0, 5, 3, 172, 42, 182, 0, 247, 17, 1, 224, 27, 104, 17, 0, 160, 28, 104]
abbrev dktX8_takesPart_0 : List UInt8 := dkwX8_takesPart_0 ++ dktX8_takesPart_1
theorem dksX8_takesPart_0 : cX8_takesPart.data.toList.drop 0 = dktX8_takesPart_0 := by decide +kernel
theorem dksX8_takesPart_1 : cX8_takesPart.data.toList.drop 24 = dktX8_takesPart_1 := dk_seg dksX8_takesPart_0 24 rfl rfl
theorem dksX8_takesPart_2 : cX8_takesPart.data.toList.drop 48 = dktX8_takesPart_2 := dk_seg dksX8_takesPart_1 24 rfl rfl
theorem dX8_takesPart_0 : decode cX8_takesPart 0 = .ok (.aload_n 0, 1) := dk_42 (dk_at dksX8_takesPart_0 0 rfl rfl)
theorem dX8_takesPart_1 : decode cX8_takesPart 1 = .ok (.iload_n 3, 1) := dk_29 (dk_at dksX8_takesPart_0 1 rfl rfl)
theorem dX8_takesPart_2 : decode cX8_takesPart 2 = .ok (.invokevirtual 237, 3) := dk_182 0 237 (dk_at dksX8_takesPart_0 2 rfl rfl)
theorem dX8_takesPart_5 : decode cX8_takesPart 5 = .ok (.ifCond .ne 5, 3) := dk_154 0 5 (dk_at dksX8_takesPart_0 5 rfl rfl)
theorem dX8_takesPart_8 : decode cX8_takesPart 8 = .ok (.iconst 0, 1) := dk_3 (dk_at dksX8_takesPart_0 8 rfl rfl)
theorem dX8_takesPart_9 : decode cX8_takesPart 9 = .ok (.ireturn, 1) := dk_172 (dk_at dksX8_takesPart_0 9 rfl rfl)
theorem dX8_takesPart_10 : decode cX8_takesPart 10 = .ok (.aload_n 0, 1) := dk_42 (dk_at dksX8_takesPart_0 10 rfl rfl)
theorem dX8_takesPart_11 : decode cX8_takesPart 11 = .ok (.invokevirtual 247, 3) := dk_182 0 247 (dk_at dksX8_takesPart_0 11 rfl rfl)
theorem dX8_takesPart_14 : decode cX8_takesPart 14 = .ok (.sipush 480, 3) := dk_17 1 224 (dk_at dksX8_takesPart_0 14 rfl rfl)
theorem dX8_takesPart_17 : decode cX8_takesPart 17 = .ok (.iload_n 1, 1) := dk_27 (dk_at dksX8_takesPart_0 17 rfl rfl)
theorem dX8_takesPart_18 : decode cX8_takesPart 18 = .ok (.imul, 1) := dk_104 (dk_at dksX8_takesPart_0 18 rfl rfl)
theorem dX8_takesPart_19 : decode cX8_takesPart 19 = .ok (.sipush 160, 3) := dk_17 0 160 (dk_at dksX8_takesPart_0 19 rfl rfl)
theorem dX8_takesPart_22 : decode cX8_takesPart 22 = .ok (.iload_n 2, 1) := dk_28 (dk_at dksX8_takesPart_0 22 rfl rfl)
theorem dX8_takesPart_23 : decode cX8_takesPart 23 = .ok (.imul, 1) := dk_104 (dk_at dksX8_takesPart_0 23 rfl rfl)
theorem dX8_takesPart_24 : decode cX8_takesPart 24 = .ok (.iadd, 1) := dk_96 (dk_at dksX8_takesPart_1 0 rfl rfl)
theorem dX8_takesPart_25 : decode cX8_takesPart 25 = .ok (.istore 4, 2) := dk_54 4 (dk_at dksX8_takesPart_1 1 rfl rfl)
theorem dX8_takesPart_27 : decode cX8_takesPart 27 = .ok (.aload_n 0, 1) := dk_42 (dk_at dksX8_takesPart_1 3 rfl rfl)
theorem dX8_takesPart_28 : decode cX8_takesPart 28 = .ok (.iload 4, 2) := dk_21 4 (dk_at dksX8_takesPart_1 4 rfl rfl)
theorem dX8_takesPart_30 : decode cX8_takesPart 30 = .ok (.invokevirtual 250, 3) := dk_182 0 250 (dk_at dksX8_takesPart_1 6 rfl rfl)
theorem dX8_takesPart_33 : decode cX8_takesPart 33 = .ok (.ifCond .ne 5, 3) := dk_154 0 5 (dk_at dksX8_takesPart_1 9 rfl rfl)
theorem dX8_takesPart_36 : decode cX8_takesPart 36 = .ok (.iconst 0, 1) := dk_3 (dk_at dksX8_takesPart_1 12 rfl rfl)
theorem dX8_takesPart_37 : decode cX8_takesPart 37 = .ok (.ireturn, 1) := dk_172 (dk_at dksX8_takesPart_1 13 rfl rfl)
theorem dX8_takesPart_38 : decode cX8_takesPart 38 = .ok (.aload_n 0, 1) := dk_42 (dk_at dksX8_takesPart_1 14 rfl rfl)
theorem dX8_takesPart_39 : decode cX8_takesPart 39 = .ok (.getfield 99, 3) := dk_180 0 99 (dk_at dksX8_takesPart_1 15 rfl rfl)
theorem dX8_takesPart_42 : decode cX8_takesPart 42 = .ok (.iconst 3, 1) := dk_6 (dk_at dksX8_takesPart_1 18 rfl rfl)
theorem dX8_takesPart_43 : decode cX8_takesPart 43 = .ok (.iload_n 1, 1) := dk_27 (dk_at dksX8_takesPart_1 19 rfl rfl)
theorem dX8_takesPart_44 : decode cX8_takesPart 44 = .ok (.imul, 1) := dk_104 (dk_at dksX8_takesPart_1 20 rfl rfl)
theorem dX8_takesPart_45 : decode cX8_takesPart 45 = .ok (.iload_n 2, 1) := dk_28 (dk_at dksX8_takesPart_1 21 rfl rfl)
theorem dX8_takesPart_46 : decode cX8_takesPart 46 = .ok (.iadd, 1) := dk_96 (dk_at dksX8_takesPart_1 22 rfl rfl)
theorem dX8_takesPart_47 : decode cX8_takesPart 47 = .ok (.aload_n 0, 1) := dk_42 (dk_at dksX8_takesPart_1 23 rfl rfl)
theorem dX8_takesPart_48 : decode cX8_takesPart 48 = .ok (.getfield 87, 3) := dk_180 0 87 (dk_at dksX8_takesPart_2 0 rfl rfl)
theorem dX8_takesPart_51 : decode cX8_takesPart 51 = .ok (.iload 4, 2) := dk_21 4 (dk_at dksX8_takesPart_2 3 rfl rfl)
theorem dX8_takesPart_53 : decode cX8_takesPart 53 = .ok (.isub, 1) := dk_100 (dk_at dksX8_takesPart_2 5 rfl rfl)
theorem dX8_takesPart_54 : decode cX8_takesPart 54 = .ok (.iastore, 1) := dk_79 (dk_at dksX8_takesPart_2 6 rfl rfl)
theorem dX8_takesPart_55 : decode cX8_takesPart 55 = .ok (.aload_n 0, 1) := dk_42 (dk_at dksX8_takesPart_2 7 rfl rfl)
theorem dX8_takesPart_56 : decode cX8_takesPart 56 = .ok (.invokevirtual 247, 3) := dk_182 0 247 (dk_at dksX8_takesPart_2 8 rfl rfl)
theorem dX8_takesPart_59 : decode cX8_takesPart 59 = .ok (.iconst 1, 1) := dk_4 (dk_at dksX8_takesPart_2 11 rfl rfl)
theorem dX8_takesPart_60 : decode cX8_takesPart 60 = .ok (.ireturn, 1) := dk_172 (dk_at dksX8_takesPart_2 12 rfl rfl)
abbrev cX8_isWord : ByteArray := prog_16_method_18_code
def yX8_isWord : MethodName := ⟨RX8, "isWord", "(I)Z"⟩
def dkwX8_isWord_0 : List UInt8 := [42, 180, 0, 72, 5, 160, 0, 15, 42, 180, 0, 75, 27, 160, 0, 7, 4, 167, 0, 4, 3, 172]
abbrev dktX8_isWord_0 : List UInt8 := dkwX8_isWord_0 ++ []
theorem dksX8_isWord_0 : cX8_isWord.data.toList.drop 0 = dktX8_isWord_0 := by decide +kernel
theorem dX8_isWord_0 : decode cX8_isWord 0 = .ok (.aload_n 0, 1) := dk_42 (dk_at dksX8_isWord_0 0 rfl rfl)
theorem dX8_isWord_1 : decode cX8_isWord 1 = .ok (.getfield 72, 3) := dk_180 0 72 (dk_at dksX8_isWord_0 1 rfl rfl)
theorem dX8_isWord_4 : decode cX8_isWord 4 = .ok (.iconst 2, 1) := dk_5 (dk_at dksX8_isWord_0 4 rfl rfl)
theorem dX8_isWord_5 : decode cX8_isWord 5 = .ok (.if_icmp .ne 15, 3) := dk_160 0 15 (dk_at dksX8_isWord_0 5 rfl rfl)
theorem dX8_isWord_8 : decode cX8_isWord 8 = .ok (.aload_n 0, 1) := dk_42 (dk_at dksX8_isWord_0 8 rfl rfl)
theorem dX8_isWord_9 : decode cX8_isWord 9 = .ok (.getfield 75, 3) := dk_180 0 75 (dk_at dksX8_isWord_0 9 rfl rfl)
theorem dX8_isWord_12 : decode cX8_isWord 12 = .ok (.iload_n 1, 1) := dk_27 (dk_at dksX8_isWord_0 12 rfl rfl)
theorem dX8_isWord_13 : decode cX8_isWord 13 = .ok (.if_icmp .ne 7, 3) := dk_160 0 7 (dk_at dksX8_isWord_0 13 rfl rfl)
theorem dX8_isWord_16 : decode cX8_isWord 16 = .ok (.iconst 1, 1) := dk_4 (dk_at dksX8_isWord_0 16 rfl rfl)
theorem dX8_isWord_17 : decode cX8_isWord 17 = .ok (.goto 4, 3) := dk_167 0 4 (dk_at dksX8_isWord_0 17 rfl rfl)
theorem dX8_isWord_20 : decode cX8_isWord 20 = .ok (.iconst 0, 1) := dk_3 (dk_at dksX8_isWord_0 20 rfl rfl)
theorem dX8_isWord_21 : decode cX8_isWord 21 = .ok (.ireturn, 1) := dk_172 (dk_at dksX8_isWord_0 21 rfl rfl)
abbrev cX8_goOn : ByteArray := prog_16_method_17_code
def yX8_goOn : MethodName := ⟨RX8, "goOn", "()V"⟩
def dkwX8_goOn_0 : List UInt8 := [42, 89, 180, 0, 69, 42, 180, 0, 78, 96, 181, 0, 69, 42, 182, 0, 208, 177]
abbrev dktX8_goOn_0 : List UInt8 := dkwX8_goOn_0 ++ []
theorem dksX8_goOn_0 : cX8_goOn.data.toList.drop 0 = dktX8_goOn_0 := by decide +kernel
theorem dX8_goOn_0 : decode cX8_goOn 0 = .ok (.aload_n 0, 1) := dk_42 (dk_at dksX8_goOn_0 0 rfl rfl)
theorem dX8_goOn_1 : decode cX8_goOn 1 = .ok (.dup, 1) := dk_89 (dk_at dksX8_goOn_0 1 rfl rfl)
theorem dX8_goOn_2 : decode cX8_goOn 2 = .ok (.getfield 69, 3) := dk_180 0 69 (dk_at dksX8_goOn_0 2 rfl rfl)
theorem dX8_goOn_5 : decode cX8_goOn 5 = .ok (.aload_n 0, 1) := dk_42 (dk_at dksX8_goOn_0 5 rfl rfl)
theorem dX8_goOn_6 : decode cX8_goOn 6 = .ok (.getfield 78, 3) := dk_180 0 78 (dk_at dksX8_goOn_0 6 rfl rfl)
theorem dX8_goOn_9 : decode cX8_goOn 9 = .ok (.iadd, 1) := dk_96 (dk_at dksX8_goOn_0 9 rfl rfl)
theorem dX8_goOn_10 : decode cX8_goOn 10 = .ok (.putfield 69, 3) := dk_181 0 69 (dk_at dksX8_goOn_0 10 rfl rfl)
theorem dX8_goOn_13 : decode cX8_goOn 13 = .ok (.aload_n 0, 1) := dk_42 (dk_at dksX8_goOn_0 13 rfl rfl)
theorem dX8_goOn_14 : decode cX8_goOn 14 = .ok (.invokevirtual 208, 3) := dk_182 0 208 (dk_at dksX8_goOn_0 14 rfl rfl)
theorem dX8_goOn_17 : decode cX8_goOn 17 = .ok (.return_, 1) := dk_177 (dk_at dksX8_goOn_0 17 rfl rfl)
abbrev cX8_takesE : ByteArray := prog_16_method_29_code
def yX8_takesE : MethodName := ⟨RX8, "takesE", "(I)Z"⟩
def dkwX8_takesE_7 : List UInt8 := [62, 21, 7, 4, 160, 0, 7, 4, 167, 0, 4, 3, 61, 42, 182, 0, 247, 167, 255, 94]
abbrev dktX8_takesE_7 : List UInt8 := dkwX8_takesE_7 ++ []
def dkwX8_takesE_6 : List UInt8 := [28, 153, 0, 21, 21, 4, 154, 0, 8, 21, 5, 153, 0, 7, 4, 167, 0, 9, 3, 167, 0, 5, 21, 6]
abbrev dktX8_takesE_6 : List UInt8 := dkwX8_takesE_6 ++ dktX8_takesE_7
def dkwX8_takesE_5 : List UInt8 := [153, 0, 11, 42, 29, 182, 0, 240, 167, 0, 7, 42, 182, 0, 244, 54, 7, 21, 7, 154, 0, 5, 3, 172]
abbrev dktX8_takesE_5 : List UInt8 := dkwX8_takesE_5 ++ dktX8_takesE_6
def dkwX8_takesE_4 : List UInt8 := [167, 0, 4, 3, 54, 5, 42, 180, 0, 72, 5, 160, 0, 7, 4, 167, 0, 4, 3, 54, 6, 28]
abbrev dktX8_takesE_4 : List UInt8 := dkwX8_takesE_4 ++ dktX8_takesE_5
def dkwX8_takesE_3 : List UInt8 := [167, 0, 4, 3, 172, 42, 17, 57, 244, 182, 0, 237, 54, 4, 42, 180, 0, 72, 16, 40, 160, 0, 7, 4]
abbrev dktX8_takesE_3 : List UInt8 := dkwX8_takesE_3 ++ dktX8_takesE_4
def dkwX8_takesE_2 : List UInt8 := [42, 4, 182, 0, 231, 42, 180, 0, 84, 154, 0, 16, 42, 180, 0, 72, 16, 59, 160, 0, 7, 4]
abbrev dktX8_takesE_2 : List UInt8 := dkwX8_takesE_2 ++ dktX8_takesE_3
def dkwX8_takesE_1 : List UInt8 := [180, 0, 72, 16, 41, 159, 0, 46, 42, 180, 0, 72, 16, 59, 159, 0, 10, 42, 180, 0, 72, 156, 0, 30]
abbrev dktX8_takesE_1 : List UInt8 := dkwX8_takesE_1 ++ dktX8_takesE_2
def dkwX8_takesE_0 : List UInt8 := [42, 27, 181, 0, 87, 42, 3, 181, 0, 84, 42, 3, 181, 0, 81, 4, 61, 4, 62, 28, 154, 0, 55, 42]
abbrev dktX8_takesE_0 : List UInt8 := dkwX8_takesE_0 ++ dktX8_takesE_1
theorem dksX8_takesE_0 : cX8_takesE.data.toList.drop 0 = dktX8_takesE_0 := by decide +kernel
theorem dksX8_takesE_1 : cX8_takesE.data.toList.drop 24 = dktX8_takesE_1 := dk_seg dksX8_takesE_0 24 rfl rfl
theorem dksX8_takesE_2 : cX8_takesE.data.toList.drop 48 = dktX8_takesE_2 := dk_seg dksX8_takesE_1 24 rfl rfl
theorem dksX8_takesE_3 : cX8_takesE.data.toList.drop 70 = dktX8_takesE_3 := dk_seg dksX8_takesE_2 22 rfl rfl
theorem dksX8_takesE_4 : cX8_takesE.data.toList.drop 94 = dktX8_takesE_4 := dk_seg dksX8_takesE_3 24 rfl rfl
theorem dksX8_takesE_5 : cX8_takesE.data.toList.drop 116 = dktX8_takesE_5 := dk_seg dksX8_takesE_4 22 rfl rfl
theorem dksX8_takesE_6 : cX8_takesE.data.toList.drop 140 = dktX8_takesE_6 := dk_seg dksX8_takesE_5 24 rfl rfl
theorem dksX8_takesE_7 : cX8_takesE.data.toList.drop 164 = dktX8_takesE_7 := dk_seg dksX8_takesE_6 24 rfl rfl
theorem dX8_takesE_0 : decode cX8_takesE 0 = .ok (.aload_n 0, 1) := dk_42 (dk_at dksX8_takesE_0 0 rfl rfl)
theorem dX8_takesE_1 : decode cX8_takesE 1 = .ok (.iload_n 1, 1) := dk_27 (dk_at dksX8_takesE_0 1 rfl rfl)
theorem dX8_takesE_2 : decode cX8_takesE 2 = .ok (.putfield 87, 3) := dk_181 0 87 (dk_at dksX8_takesE_0 2 rfl rfl)
theorem dX8_takesE_5 : decode cX8_takesE 5 = .ok (.aload_n 0, 1) := dk_42 (dk_at dksX8_takesE_0 5 rfl rfl)
theorem dX8_takesE_6 : decode cX8_takesE 6 = .ok (.iconst 0, 1) := dk_3 (dk_at dksX8_takesE_0 6 rfl rfl)
theorem dX8_takesE_7 : decode cX8_takesE 7 = .ok (.putfield 84, 3) := dk_181 0 84 (dk_at dksX8_takesE_0 7 rfl rfl)
theorem dX8_takesE_10 : decode cX8_takesE 10 = .ok (.aload_n 0, 1) := dk_42 (dk_at dksX8_takesE_0 10 rfl rfl)
theorem dX8_takesE_11 : decode cX8_takesE 11 = .ok (.iconst 0, 1) := dk_3 (dk_at dksX8_takesE_0 11 rfl rfl)
theorem dX8_takesE_12 : decode cX8_takesE 12 = .ok (.putfield 81, 3) := dk_181 0 81 (dk_at dksX8_takesE_0 12 rfl rfl)
theorem dX8_takesE_15 : decode cX8_takesE 15 = .ok (.iconst 1, 1) := dk_4 (dk_at dksX8_takesE_0 15 rfl rfl)
theorem dX8_takesE_16 : decode cX8_takesE 16 = .ok (.istore_n 2, 1) := dk_61 (dk_at dksX8_takesE_0 16 rfl rfl)
theorem dX8_takesE_17 : decode cX8_takesE 17 = .ok (.iconst 1, 1) := dk_4 (dk_at dksX8_takesE_0 17 rfl rfl)
theorem dX8_takesE_18 : decode cX8_takesE 18 = .ok (.istore_n 3, 1) := dk_62 (dk_at dksX8_takesE_0 18 rfl rfl)
theorem dX8_takesE_19 : decode cX8_takesE 19 = .ok (.iload_n 2, 1) := dk_28 (dk_at dksX8_takesE_0 19 rfl rfl)
theorem dX8_takesE_20 : decode cX8_takesE 20 = .ok (.ifCond .ne 55, 3) := dk_154 0 55 (dk_at dksX8_takesE_0 20 rfl rfl)
theorem dX8_takesE_23 : decode cX8_takesE 23 = .ok (.aload_n 0, 1) := dk_42 (dk_at dksX8_takesE_0 23 rfl rfl)
theorem dX8_takesE_24 : decode cX8_takesE 24 = .ok (.getfield 72, 3) := dk_180 0 72 (dk_at dksX8_takesE_1 0 rfl rfl)
theorem dX8_takesE_27 : decode cX8_takesE 27 = .ok (.bipush 41, 2) := dk_16 41 (dk_at dksX8_takesE_1 3 rfl rfl)
theorem dX8_takesE_29 : decode cX8_takesE 29 = .ok (.if_icmp .eq 46, 3) := dk_159 0 46 (dk_at dksX8_takesE_1 5 rfl rfl)
theorem dX8_takesE_32 : decode cX8_takesE 32 = .ok (.aload_n 0, 1) := dk_42 (dk_at dksX8_takesE_1 8 rfl rfl)
theorem dX8_takesE_33 : decode cX8_takesE 33 = .ok (.getfield 72, 3) := dk_180 0 72 (dk_at dksX8_takesE_1 9 rfl rfl)
theorem dX8_takesE_36 : decode cX8_takesE 36 = .ok (.bipush 59, 2) := dk_16 59 (dk_at dksX8_takesE_1 12 rfl rfl)
theorem dX8_takesE_38 : decode cX8_takesE 38 = .ok (.if_icmp .eq 10, 3) := dk_159 0 10 (dk_at dksX8_takesE_1 14 rfl rfl)
theorem dX8_takesE_41 : decode cX8_takesE 41 = .ok (.aload_n 0, 1) := dk_42 (dk_at dksX8_takesE_1 17 rfl rfl)
theorem dX8_takesE_42 : decode cX8_takesE 42 = .ok (.getfield 72, 3) := dk_180 0 72 (dk_at dksX8_takesE_1 18 rfl rfl)
theorem dX8_takesE_45 : decode cX8_takesE 45 = .ok (.ifCond .ge 30, 3) := dk_156 0 30 (dk_at dksX8_takesE_1 21 rfl rfl)
theorem dX8_takesE_48 : decode cX8_takesE 48 = .ok (.aload_n 0, 1) := dk_42 (dk_at dksX8_takesE_2 0 rfl rfl)
theorem dX8_takesE_49 : decode cX8_takesE 49 = .ok (.iconst 1, 1) := dk_4 (dk_at dksX8_takesE_2 1 rfl rfl)
theorem dX8_takesE_50 : decode cX8_takesE 50 = .ok (.invokevirtual 231, 3) := dk_182 0 231 (dk_at dksX8_takesE_2 2 rfl rfl)
theorem dX8_takesE_53 : decode cX8_takesE 53 = .ok (.aload_n 0, 1) := dk_42 (dk_at dksX8_takesE_2 5 rfl rfl)
theorem dX8_takesE_54 : decode cX8_takesE 54 = .ok (.getfield 84, 3) := dk_180 0 84 (dk_at dksX8_takesE_2 6 rfl rfl)
theorem dX8_takesE_57 : decode cX8_takesE 57 = .ok (.ifCond .ne 16, 3) := dk_154 0 16 (dk_at dksX8_takesE_2 9 rfl rfl)
theorem dX8_takesE_60 : decode cX8_takesE 60 = .ok (.aload_n 0, 1) := dk_42 (dk_at dksX8_takesE_2 12 rfl rfl)
theorem dX8_takesE_61 : decode cX8_takesE 61 = .ok (.getfield 72, 3) := dk_180 0 72 (dk_at dksX8_takesE_2 13 rfl rfl)
theorem dX8_takesE_64 : decode cX8_takesE 64 = .ok (.bipush 59, 2) := dk_16 59 (dk_at dksX8_takesE_2 16 rfl rfl)
theorem dX8_takesE_66 : decode cX8_takesE 66 = .ok (.if_icmp .ne 7, 3) := dk_160 0 7 (dk_at dksX8_takesE_2 18 rfl rfl)
theorem dX8_takesE_69 : decode cX8_takesE 69 = .ok (.iconst 1, 1) := dk_4 (dk_at dksX8_takesE_2 21 rfl rfl)
theorem dX8_takesE_70 : decode cX8_takesE 70 = .ok (.goto 4, 3) := dk_167 0 4 (dk_at dksX8_takesE_3 0 rfl rfl)
theorem dX8_takesE_73 : decode cX8_takesE 73 = .ok (.iconst 0, 1) := dk_3 (dk_at dksX8_takesE_3 3 rfl rfl)
theorem dX8_takesE_74 : decode cX8_takesE 74 = .ok (.ireturn, 1) := dk_172 (dk_at dksX8_takesE_3 4 rfl rfl)
theorem dX8_takesE_75 : decode cX8_takesE 75 = .ok (.aload_n 0, 1) := dk_42 (dk_at dksX8_takesE_3 5 rfl rfl)
theorem dX8_takesE_76 : decode cX8_takesE 76 = .ok (.sipush 14836, 3) := dk_17 57 244 (dk_at dksX8_takesE_3 6 rfl rfl)
theorem dX8_takesE_79 : decode cX8_takesE 79 = .ok (.invokevirtual 237, 3) := dk_182 0 237 (dk_at dksX8_takesE_3 9 rfl rfl)
theorem dX8_takesE_82 : decode cX8_takesE 82 = .ok (.istore 4, 2) := dk_54 4 (dk_at dksX8_takesE_3 12 rfl rfl)
theorem dX8_takesE_84 : decode cX8_takesE 84 = .ok (.aload_n 0, 1) := dk_42 (dk_at dksX8_takesE_3 14 rfl rfl)
theorem dX8_takesE_85 : decode cX8_takesE 85 = .ok (.getfield 72, 3) := dk_180 0 72 (dk_at dksX8_takesE_3 15 rfl rfl)
theorem dX8_takesE_88 : decode cX8_takesE 88 = .ok (.bipush 40, 2) := dk_16 40 (dk_at dksX8_takesE_3 18 rfl rfl)
theorem dX8_takesE_90 : decode cX8_takesE 90 = .ok (.if_icmp .ne 7, 3) := dk_160 0 7 (dk_at dksX8_takesE_3 20 rfl rfl)
theorem dX8_takesE_93 : decode cX8_takesE 93 = .ok (.iconst 1, 1) := dk_4 (dk_at dksX8_takesE_3 23 rfl rfl)
theorem dX8_takesE_94 : decode cX8_takesE 94 = .ok (.goto 4, 3) := dk_167 0 4 (dk_at dksX8_takesE_4 0 rfl rfl)
theorem dX8_takesE_97 : decode cX8_takesE 97 = .ok (.iconst 0, 1) := dk_3 (dk_at dksX8_takesE_4 3 rfl rfl)
theorem dX8_takesE_98 : decode cX8_takesE 98 = .ok (.istore 5, 2) := dk_54 5 (dk_at dksX8_takesE_4 4 rfl rfl)
theorem dX8_takesE_100 : decode cX8_takesE 100 = .ok (.aload_n 0, 1) := dk_42 (dk_at dksX8_takesE_4 6 rfl rfl)
theorem dX8_takesE_101 : decode cX8_takesE 101 = .ok (.getfield 72, 3) := dk_180 0 72 (dk_at dksX8_takesE_4 7 rfl rfl)
theorem dX8_takesE_104 : decode cX8_takesE 104 = .ok (.iconst 2, 1) := dk_5 (dk_at dksX8_takesE_4 10 rfl rfl)
theorem dX8_takesE_105 : decode cX8_takesE 105 = .ok (.if_icmp .ne 7, 3) := dk_160 0 7 (dk_at dksX8_takesE_4 11 rfl rfl)
theorem dX8_takesE_108 : decode cX8_takesE 108 = .ok (.iconst 1, 1) := dk_4 (dk_at dksX8_takesE_4 14 rfl rfl)
theorem dX8_takesE_109 : decode cX8_takesE 109 = .ok (.goto 4, 3) := dk_167 0 4 (dk_at dksX8_takesE_4 15 rfl rfl)
theorem dX8_takesE_112 : decode cX8_takesE 112 = .ok (.iconst 0, 1) := dk_3 (dk_at dksX8_takesE_4 18 rfl rfl)
theorem dX8_takesE_113 : decode cX8_takesE 113 = .ok (.istore 6, 2) := dk_54 6 (dk_at dksX8_takesE_4 19 rfl rfl)
theorem dX8_takesE_115 : decode cX8_takesE 115 = .ok (.iload_n 2, 1) := dk_28 (dk_at dksX8_takesE_4 21 rfl rfl)
theorem dX8_takesE_116 : decode cX8_takesE 116 = .ok (.ifCond .eq 11, 3) := dk_153 0 11 (dk_at dksX8_takesE_5 0 rfl rfl)
theorem dX8_takesE_119 : decode cX8_takesE 119 = .ok (.aload_n 0, 1) := dk_42 (dk_at dksX8_takesE_5 3 rfl rfl)
theorem dX8_takesE_120 : decode cX8_takesE 120 = .ok (.iload_n 3, 1) := dk_29 (dk_at dksX8_takesE_5 4 rfl rfl)
theorem dX8_takesE_121 : decode cX8_takesE 121 = .ok (.invokevirtual 240, 3) := dk_182 0 240 (dk_at dksX8_takesE_5 5 rfl rfl)
theorem dX8_takesE_124 : decode cX8_takesE 124 = .ok (.goto 7, 3) := dk_167 0 7 (dk_at dksX8_takesE_5 8 rfl rfl)
theorem dX8_takesE_127 : decode cX8_takesE 127 = .ok (.aload_n 0, 1) := dk_42 (dk_at dksX8_takesE_5 11 rfl rfl)
theorem dX8_takesE_128 : decode cX8_takesE 128 = .ok (.invokevirtual 244, 3) := dk_182 0 244 (dk_at dksX8_takesE_5 12 rfl rfl)
theorem dX8_takesE_131 : decode cX8_takesE 131 = .ok (.istore 7, 2) := dk_54 7 (dk_at dksX8_takesE_5 15 rfl rfl)
theorem dX8_takesE_133 : decode cX8_takesE 133 = .ok (.iload 7, 2) := dk_21 7 (dk_at dksX8_takesE_5 17 rfl rfl)
theorem dX8_takesE_135 : decode cX8_takesE 135 = .ok (.ifCond .ne 5, 3) := dk_154 0 5 (dk_at dksX8_takesE_5 19 rfl rfl)
theorem dX8_takesE_138 : decode cX8_takesE 138 = .ok (.iconst 0, 1) := dk_3 (dk_at dksX8_takesE_5 22 rfl rfl)
theorem dX8_takesE_139 : decode cX8_takesE 139 = .ok (.ireturn, 1) := dk_172 (dk_at dksX8_takesE_5 23 rfl rfl)
theorem dX8_takesE_140 : decode cX8_takesE 140 = .ok (.iload_n 2, 1) := dk_28 (dk_at dksX8_takesE_6 0 rfl rfl)
theorem dX8_takesE_141 : decode cX8_takesE 141 = .ok (.ifCond .eq 21, 3) := dk_153 0 21 (dk_at dksX8_takesE_6 1 rfl rfl)
theorem dX8_takesE_144 : decode cX8_takesE 144 = .ok (.iload 4, 2) := dk_21 4 (dk_at dksX8_takesE_6 4 rfl rfl)
theorem dX8_takesE_146 : decode cX8_takesE 146 = .ok (.ifCond .ne 8, 3) := dk_154 0 8 (dk_at dksX8_takesE_6 6 rfl rfl)
theorem dX8_takesE_149 : decode cX8_takesE 149 = .ok (.iload 5, 2) := dk_21 5 (dk_at dksX8_takesE_6 9 rfl rfl)
theorem dX8_takesE_151 : decode cX8_takesE 151 = .ok (.ifCond .eq 7, 3) := dk_153 0 7 (dk_at dksX8_takesE_6 11 rfl rfl)
theorem dX8_takesE_154 : decode cX8_takesE 154 = .ok (.iconst 1, 1) := dk_4 (dk_at dksX8_takesE_6 14 rfl rfl)
theorem dX8_takesE_155 : decode cX8_takesE 155 = .ok (.goto 9, 3) := dk_167 0 9 (dk_at dksX8_takesE_6 15 rfl rfl)
theorem dX8_takesE_158 : decode cX8_takesE 158 = .ok (.iconst 0, 1) := dk_3 (dk_at dksX8_takesE_6 18 rfl rfl)
theorem dX8_takesE_159 : decode cX8_takesE 159 = .ok (.goto 5, 3) := dk_167 0 5 (dk_at dksX8_takesE_6 19 rfl rfl)
theorem dX8_takesE_162 : decode cX8_takesE 162 = .ok (.iload 6, 2) := dk_21 6 (dk_at dksX8_takesE_6 22 rfl rfl)
theorem dX8_takesE_164 : decode cX8_takesE 164 = .ok (.istore_n 3, 1) := dk_62 (dk_at dksX8_takesE_7 0 rfl rfl)
theorem dX8_takesE_165 : decode cX8_takesE 165 = .ok (.iload 7, 2) := dk_21 7 (dk_at dksX8_takesE_7 1 rfl rfl)
theorem dX8_takesE_167 : decode cX8_takesE 167 = .ok (.iconst 1, 1) := dk_4 (dk_at dksX8_takesE_7 3 rfl rfl)
theorem dX8_takesE_168 : decode cX8_takesE 168 = .ok (.if_icmp .ne 7, 3) := dk_160 0 7 (dk_at dksX8_takesE_7 4 rfl rfl)
theorem dX8_takesE_171 : decode cX8_takesE 171 = .ok (.iconst 1, 1) := dk_4 (dk_at dksX8_takesE_7 7 rfl rfl)
theorem dX8_takesE_172 : decode cX8_takesE 172 = .ok (.goto 4, 3) := dk_167 0 4 (dk_at dksX8_takesE_7 8 rfl rfl)
theorem dX8_takesE_175 : decode cX8_takesE 175 = .ok (.iconst 0, 1) := dk_3 (dk_at dksX8_takesE_7 11 rfl rfl)
theorem dX8_takesE_176 : decode cX8_takesE 176 = .ok (.istore_n 2, 1) := dk_61 (dk_at dksX8_takesE_7 12 rfl rfl)
theorem dX8_takesE_177 : decode cX8_takesE 177 = .ok (.aload_n 0, 1) := dk_42 (dk_at dksX8_takesE_7 13 rfl rfl)
theorem dX8_takesE_178 : decode cX8_takesE 178 = .ok (.invokevirtual 247, 3) := dk_182 0 247 (dk_at dksX8_takesE_7 14 rfl rfl)
theorem dX8_takesE_181 : decode cX8_takesE 181 = .ok (.goto (-162), 3) := dk_167 255 94 (dk_at dksX8_takesE_7 17 rfl rfl)
abbrev cX8_settle : ByteArray := prog_16_method_25_code
def yX8_settle : MethodName := ⟨RX8, "settle", "(I)V"⟩
def dkwX8_settle_3 : List UInt8 := [167, 255, 186, 177]
abbrev dktX8_settle_3 : List UInt8 := dkwX8_settle_3 ++ []
def dkwX8_settle_2 : List UInt8 := [159, 0, 9, 28, 16, 10, 160, 0, 7, 4, 167, 0, 4, 3, 100, 181, 0, 81, 42, 28, 3, 182, 0, 224]
abbrev dktX8_settle_2 : List UInt8 := dkwX8_settle_2 ++ dktX8_settle_3
def dkwX8_settle_1 : List UInt8 := [4, 100, 181, 0, 84, 42, 180, 0, 102, 42, 180, 0, 84, 46, 61, 42, 89, 180, 0, 81, 28, 7]
abbrev dktX8_settle_1 : List UInt8 := dkwX8_settle_1 ++ dktX8_settle_2
def dkwX8_settle_0 : List UInt8 := [42, 180, 0, 84, 158, 0, 69, 42, 42, 182, 0, 217, 182, 0, 221, 27, 161, 0, 57, 42, 89, 180, 0, 84]
abbrev dktX8_settle_0 : List UInt8 := dkwX8_settle_0 ++ dktX8_settle_1
theorem dksX8_settle_0 : cX8_settle.data.toList.drop 0 = dktX8_settle_0 := by decide +kernel
theorem dksX8_settle_1 : cX8_settle.data.toList.drop 24 = dktX8_settle_1 := dk_seg dksX8_settle_0 24 rfl rfl
theorem dksX8_settle_2 : cX8_settle.data.toList.drop 46 = dktX8_settle_2 := dk_seg dksX8_settle_1 22 rfl rfl
theorem dksX8_settle_3 : cX8_settle.data.toList.drop 70 = dktX8_settle_3 := dk_seg dksX8_settle_2 24 rfl rfl
theorem dX8_settle_0 : decode cX8_settle 0 = .ok (.aload_n 0, 1) := dk_42 (dk_at dksX8_settle_0 0 rfl rfl)
theorem dX8_settle_1 : decode cX8_settle 1 = .ok (.getfield 84, 3) := dk_180 0 84 (dk_at dksX8_settle_0 1 rfl rfl)
theorem dX8_settle_4 : decode cX8_settle 4 = .ok (.ifCond .le 69, 3) := dk_158 0 69 (dk_at dksX8_settle_0 4 rfl rfl)
theorem dX8_settle_7 : decode cX8_settle 7 = .ok (.aload_n 0, 1) := dk_42 (dk_at dksX8_settle_0 7 rfl rfl)
theorem dX8_settle_8 : decode cX8_settle 8 = .ok (.aload_n 0, 1) := dk_42 (dk_at dksX8_settle_0 8 rfl rfl)
theorem dX8_settle_9 : decode cX8_settle 9 = .ok (.invokevirtual 217, 3) := dk_182 0 217 (dk_at dksX8_settle_0 9 rfl rfl)
theorem dX8_settle_12 : decode cX8_settle 12 = .ok (.invokevirtual 221, 3) := dk_182 0 221 (dk_at dksX8_settle_0 12 rfl rfl)
theorem dX8_settle_15 : decode cX8_settle 15 = .ok (.iload_n 1, 1) := dk_27 (dk_at dksX8_settle_0 15 rfl rfl)
theorem dX8_settle_16 : decode cX8_settle 16 = .ok (.if_icmp .lt 57, 3) := dk_161 0 57 (dk_at dksX8_settle_0 16 rfl rfl)
theorem dX8_settle_19 : decode cX8_settle 19 = .ok (.aload_n 0, 1) := dk_42 (dk_at dksX8_settle_0 19 rfl rfl)
theorem dX8_settle_20 : decode cX8_settle 20 = .ok (.dup, 1) := dk_89 (dk_at dksX8_settle_0 20 rfl rfl)
theorem dX8_settle_21 : decode cX8_settle 21 = .ok (.getfield 84, 3) := dk_180 0 84 (dk_at dksX8_settle_0 21 rfl rfl)
theorem dX8_settle_24 : decode cX8_settle 24 = .ok (.iconst 1, 1) := dk_4 (dk_at dksX8_settle_1 0 rfl rfl)
theorem dX8_settle_25 : decode cX8_settle 25 = .ok (.isub, 1) := dk_100 (dk_at dksX8_settle_1 1 rfl rfl)
theorem dX8_settle_26 : decode cX8_settle 26 = .ok (.putfield 84, 3) := dk_181 0 84 (dk_at dksX8_settle_1 2 rfl rfl)
theorem dX8_settle_29 : decode cX8_settle 29 = .ok (.aload_n 0, 1) := dk_42 (dk_at dksX8_settle_1 5 rfl rfl)
theorem dX8_settle_30 : decode cX8_settle 30 = .ok (.getfield 102, 3) := dk_180 0 102 (dk_at dksX8_settle_1 6 rfl rfl)
theorem dX8_settle_33 : decode cX8_settle 33 = .ok (.aload_n 0, 1) := dk_42 (dk_at dksX8_settle_1 9 rfl rfl)
theorem dX8_settle_34 : decode cX8_settle 34 = .ok (.getfield 84, 3) := dk_180 0 84 (dk_at dksX8_settle_1 10 rfl rfl)
theorem dX8_settle_37 : decode cX8_settle 37 = .ok (.iaload, 1) := dk_46 (dk_at dksX8_settle_1 13 rfl rfl)
theorem dX8_settle_38 : decode cX8_settle 38 = .ok (.istore_n 2, 1) := dk_61 (dk_at dksX8_settle_1 14 rfl rfl)
theorem dX8_settle_39 : decode cX8_settle 39 = .ok (.aload_n 0, 1) := dk_42 (dk_at dksX8_settle_1 15 rfl rfl)
theorem dX8_settle_40 : decode cX8_settle 40 = .ok (.dup, 1) := dk_89 (dk_at dksX8_settle_1 16 rfl rfl)
theorem dX8_settle_41 : decode cX8_settle 41 = .ok (.getfield 81, 3) := dk_180 0 81 (dk_at dksX8_settle_1 17 rfl rfl)
theorem dX8_settle_44 : decode cX8_settle 44 = .ok (.iload_n 2, 1) := dk_28 (dk_at dksX8_settle_1 20 rfl rfl)
theorem dX8_settle_45 : decode cX8_settle 45 = .ok (.iconst 4, 1) := dk_7 (dk_at dksX8_settle_1 21 rfl rfl)
theorem dX8_settle_46 : decode cX8_settle 46 = .ok (.if_icmp .eq 9, 3) := dk_159 0 9 (dk_at dksX8_settle_2 0 rfl rfl)
theorem dX8_settle_49 : decode cX8_settle 49 = .ok (.iload_n 2, 1) := dk_28 (dk_at dksX8_settle_2 3 rfl rfl)
theorem dX8_settle_50 : decode cX8_settle 50 = .ok (.bipush 10, 2) := dk_16 10 (dk_at dksX8_settle_2 4 rfl rfl)
theorem dX8_settle_52 : decode cX8_settle 52 = .ok (.if_icmp .ne 7, 3) := dk_160 0 7 (dk_at dksX8_settle_2 6 rfl rfl)
theorem dX8_settle_55 : decode cX8_settle 55 = .ok (.iconst 1, 1) := dk_4 (dk_at dksX8_settle_2 9 rfl rfl)
theorem dX8_settle_56 : decode cX8_settle 56 = .ok (.goto 4, 3) := dk_167 0 4 (dk_at dksX8_settle_2 10 rfl rfl)
theorem dX8_settle_59 : decode cX8_settle 59 = .ok (.iconst 0, 1) := dk_3 (dk_at dksX8_settle_2 13 rfl rfl)
theorem dX8_settle_60 : decode cX8_settle 60 = .ok (.isub, 1) := dk_100 (dk_at dksX8_settle_2 14 rfl rfl)
theorem dX8_settle_61 : decode cX8_settle 61 = .ok (.putfield 81, 3) := dk_181 0 81 (dk_at dksX8_settle_2 15 rfl rfl)
theorem dX8_settle_64 : decode cX8_settle 64 = .ok (.aload_n 0, 1) := dk_42 (dk_at dksX8_settle_2 18 rfl rfl)
theorem dX8_settle_65 : decode cX8_settle 65 = .ok (.iload_n 2, 1) := dk_28 (dk_at dksX8_settle_2 19 rfl rfl)
theorem dX8_settle_66 : decode cX8_settle 66 = .ok (.iconst 0, 1) := dk_3 (dk_at dksX8_settle_2 20 rfl rfl)
theorem dX8_settle_67 : decode cX8_settle 67 = .ok (.invokevirtual 224, 3) := dk_182 0 224 (dk_at dksX8_settle_2 21 rfl rfl)
theorem dX8_settle_70 : decode cX8_settle 70 = .ok (.goto (-70), 3) := dk_167 255 186 (dk_at dksX8_settle_3 0 rfl rfl)
theorem dX8_settle_73 : decode cX8_settle 73 = .ok (.return_, 1) := dk_177 (dk_at dksX8_settle_3 3 rfl rfl)
abbrev cX8_top : ByteArray := prog_16_method_22_code
def yX8_top : MethodName := ⟨RX8, "top", "()I"⟩
def dkwX8_top_0 : List UInt8 := [42, 180, 0, 84, 158, 0, 17, 42, 180, 0, 102, 42, 180, 0, 84, 4, 100, 46, 167, 0, 4, 2, 172]
abbrev dktX8_top_0 : List UInt8 := dkwX8_top_0 ++ []
theorem dksX8_top_0 : cX8_top.data.toList.drop 0 = dktX8_top_0 := by decide +kernel
theorem dX8_top_0 : decode cX8_top 0 = .ok (.aload_n 0, 1) := dk_42 (dk_at dksX8_top_0 0 rfl rfl)
theorem dX8_top_1 : decode cX8_top 1 = .ok (.getfield 84, 3) := dk_180 0 84 (dk_at dksX8_top_0 1 rfl rfl)
theorem dX8_top_4 : decode cX8_top 4 = .ok (.ifCond .le 17, 3) := dk_158 0 17 (dk_at dksX8_top_0 4 rfl rfl)
theorem dX8_top_7 : decode cX8_top 7 = .ok (.aload_n 0, 1) := dk_42 (dk_at dksX8_top_0 7 rfl rfl)
theorem dX8_top_8 : decode cX8_top 8 = .ok (.getfield 102, 3) := dk_180 0 102 (dk_at dksX8_top_0 8 rfl rfl)
theorem dX8_top_11 : decode cX8_top 11 = .ok (.aload_n 0, 1) := dk_42 (dk_at dksX8_top_0 11 rfl rfl)
theorem dX8_top_12 : decode cX8_top 12 = .ok (.getfield 84, 3) := dk_180 0 84 (dk_at dksX8_top_0 12 rfl rfl)
theorem dX8_top_15 : decode cX8_top 15 = .ok (.iconst 1, 1) := dk_4 (dk_at dksX8_top_0 15 rfl rfl)
theorem dX8_top_16 : decode cX8_top 16 = .ok (.isub, 1) := dk_100 (dk_at dksX8_top_0 16 rfl rfl)
theorem dX8_top_17 : decode cX8_top 17 = .ok (.iaload, 1) := dk_46 (dk_at dksX8_top_0 17 rfl rfl)
theorem dX8_top_18 : decode cX8_top 18 = .ok (.goto 4, 3) := dk_167 0 4 (dk_at dksX8_top_0 18 rfl rfl)
theorem dX8_top_21 : decode cX8_top 21 = .ok (.iconst (-1), 1) := dk_2 (dk_at dksX8_top_0 21 rfl rfl)
theorem dX8_top_22 : decode cX8_top 22 = .ok (.ireturn, 1) := dk_172 (dk_at dksX8_top_0 22 rfl rfl)
abbrev cX8_strength : ByteArray := prog_16_method_24_code
def yX8_strength : MethodName := ⟨RX8, "strength", "(I)I"⟩
def dkwX8_strength_3 : List UInt8 := [160, 0, 8, 16, 7, 167, 0, 4, 3, 172]
abbrev dktX8_strength_3 : List UInt8 := dkwX8_strength_3 ++ []
def dkwX8_strength_2 : List UInt8 := [27, 16, 8, 160, 0, 7, 8, 167, 0, 26, 27, 16, 9, 160, 0, 8, 16, 6, 167, 0, 15, 27, 16, 10]
abbrev dktX8_strength_2 : List UInt8 := dkwX8_strength_2 ++ dktX8_strength_3
def dkwX8_strength_1 : List UInt8 := [167, 0, 57, 27, 8, 159, 0, 9, 27, 16, 6, 160, 0, 7, 7, 167, 0, 42, 27, 16, 7, 159, 0, 9]
abbrev dktX8_strength_1 : List UInt8 := dkwX8_strength_1 ++ dktX8_strength_2
def dkwX8_strength_0 : List UInt8 := [27, 5, 160, 0, 7, 4, 167, 0, 75, 27, 6, 160, 0, 7, 5, 167, 0, 66, 27, 7, 160, 0, 7, 6]
abbrev dktX8_strength_0 : List UInt8 := dkwX8_strength_0 ++ dktX8_strength_1
theorem dksX8_strength_0 : cX8_strength.data.toList.drop 0 = dktX8_strength_0 := by decide +kernel
theorem dksX8_strength_1 : cX8_strength.data.toList.drop 24 = dktX8_strength_1 := dk_seg dksX8_strength_0 24 rfl rfl
theorem dksX8_strength_2 : cX8_strength.data.toList.drop 48 = dktX8_strength_2 := dk_seg dksX8_strength_1 24 rfl rfl
theorem dksX8_strength_3 : cX8_strength.data.toList.drop 72 = dktX8_strength_3 := dk_seg dksX8_strength_2 24 rfl rfl
theorem dX8_strength_0 : decode cX8_strength 0 = .ok (.iload_n 1, 1) := dk_27 (dk_at dksX8_strength_0 0 rfl rfl)
theorem dX8_strength_1 : decode cX8_strength 1 = .ok (.iconst 2, 1) := dk_5 (dk_at dksX8_strength_0 1 rfl rfl)
theorem dX8_strength_2 : decode cX8_strength 2 = .ok (.if_icmp .ne 7, 3) := dk_160 0 7 (dk_at dksX8_strength_0 2 rfl rfl)
theorem dX8_strength_5 : decode cX8_strength 5 = .ok (.iconst 1, 1) := dk_4 (dk_at dksX8_strength_0 5 rfl rfl)
theorem dX8_strength_6 : decode cX8_strength 6 = .ok (.goto 75, 3) := dk_167 0 75 (dk_at dksX8_strength_0 6 rfl rfl)
theorem dX8_strength_9 : decode cX8_strength 9 = .ok (.iload_n 1, 1) := dk_27 (dk_at dksX8_strength_0 9 rfl rfl)
theorem dX8_strength_10 : decode cX8_strength 10 = .ok (.iconst 3, 1) := dk_6 (dk_at dksX8_strength_0 10 rfl rfl)
theorem dX8_strength_11 : decode cX8_strength 11 = .ok (.if_icmp .ne 7, 3) := dk_160 0 7 (dk_at dksX8_strength_0 11 rfl rfl)
theorem dX8_strength_14 : decode cX8_strength 14 = .ok (.iconst 2, 1) := dk_5 (dk_at dksX8_strength_0 14 rfl rfl)
theorem dX8_strength_15 : decode cX8_strength 15 = .ok (.goto 66, 3) := dk_167 0 66 (dk_at dksX8_strength_0 15 rfl rfl)
theorem dX8_strength_18 : decode cX8_strength 18 = .ok (.iload_n 1, 1) := dk_27 (dk_at dksX8_strength_0 18 rfl rfl)
theorem dX8_strength_19 : decode cX8_strength 19 = .ok (.iconst 4, 1) := dk_7 (dk_at dksX8_strength_0 19 rfl rfl)
theorem dX8_strength_20 : decode cX8_strength 20 = .ok (.if_icmp .ne 7, 3) := dk_160 0 7 (dk_at dksX8_strength_0 20 rfl rfl)
theorem dX8_strength_23 : decode cX8_strength 23 = .ok (.iconst 3, 1) := dk_6 (dk_at dksX8_strength_0 23 rfl rfl)
theorem dX8_strength_24 : decode cX8_strength 24 = .ok (.goto 57, 3) := dk_167 0 57 (dk_at dksX8_strength_1 0 rfl rfl)
theorem dX8_strength_27 : decode cX8_strength 27 = .ok (.iload_n 1, 1) := dk_27 (dk_at dksX8_strength_1 3 rfl rfl)
theorem dX8_strength_28 : decode cX8_strength 28 = .ok (.iconst 5, 1) := dk_8 (dk_at dksX8_strength_1 4 rfl rfl)
theorem dX8_strength_29 : decode cX8_strength 29 = .ok (.if_icmp .eq 9, 3) := dk_159 0 9 (dk_at dksX8_strength_1 5 rfl rfl)
theorem dX8_strength_32 : decode cX8_strength 32 = .ok (.iload_n 1, 1) := dk_27 (dk_at dksX8_strength_1 8 rfl rfl)
theorem dX8_strength_33 : decode cX8_strength 33 = .ok (.bipush 6, 2) := dk_16 6 (dk_at dksX8_strength_1 9 rfl rfl)
theorem dX8_strength_35 : decode cX8_strength 35 = .ok (.if_icmp .ne 7, 3) := dk_160 0 7 (dk_at dksX8_strength_1 11 rfl rfl)
theorem dX8_strength_38 : decode cX8_strength 38 = .ok (.iconst 4, 1) := dk_7 (dk_at dksX8_strength_1 14 rfl rfl)
theorem dX8_strength_39 : decode cX8_strength 39 = .ok (.goto 42, 3) := dk_167 0 42 (dk_at dksX8_strength_1 15 rfl rfl)
theorem dX8_strength_42 : decode cX8_strength 42 = .ok (.iload_n 1, 1) := dk_27 (dk_at dksX8_strength_1 18 rfl rfl)
theorem dX8_strength_43 : decode cX8_strength 43 = .ok (.bipush 7, 2) := dk_16 7 (dk_at dksX8_strength_1 19 rfl rfl)
theorem dX8_strength_45 : decode cX8_strength 45 = .ok (.if_icmp .eq 9, 3) := dk_159 0 9 (dk_at dksX8_strength_1 21 rfl rfl)
theorem dX8_strength_48 : decode cX8_strength 48 = .ok (.iload_n 1, 1) := dk_27 (dk_at dksX8_strength_2 0 rfl rfl)
theorem dX8_strength_49 : decode cX8_strength 49 = .ok (.bipush 8, 2) := dk_16 8 (dk_at dksX8_strength_2 1 rfl rfl)
theorem dX8_strength_51 : decode cX8_strength 51 = .ok (.if_icmp .ne 7, 3) := dk_160 0 7 (dk_at dksX8_strength_2 3 rfl rfl)
theorem dX8_strength_54 : decode cX8_strength 54 = .ok (.iconst 5, 1) := dk_8 (dk_at dksX8_strength_2 6 rfl rfl)
theorem dX8_strength_55 : decode cX8_strength 55 = .ok (.goto 26, 3) := dk_167 0 26 (dk_at dksX8_strength_2 7 rfl rfl)
theorem dX8_strength_58 : decode cX8_strength 58 = .ok (.iload_n 1, 1) := dk_27 (dk_at dksX8_strength_2 10 rfl rfl)
theorem dX8_strength_59 : decode cX8_strength 59 = .ok (.bipush 9, 2) := dk_16 9 (dk_at dksX8_strength_2 11 rfl rfl)
theorem dX8_strength_61 : decode cX8_strength 61 = .ok (.if_icmp .ne 8, 3) := dk_160 0 8 (dk_at dksX8_strength_2 13 rfl rfl)
theorem dX8_strength_64 : decode cX8_strength 64 = .ok (.bipush 6, 2) := dk_16 6 (dk_at dksX8_strength_2 16 rfl rfl)
theorem dX8_strength_66 : decode cX8_strength 66 = .ok (.goto 15, 3) := dk_167 0 15 (dk_at dksX8_strength_2 18 rfl rfl)
theorem dX8_strength_69 : decode cX8_strength 69 = .ok (.iload_n 1, 1) := dk_27 (dk_at dksX8_strength_2 21 rfl rfl)
theorem dX8_strength_70 : decode cX8_strength 70 = .ok (.bipush 10, 2) := dk_16 10 (dk_at dksX8_strength_2 22 rfl rfl)
theorem dX8_strength_72 : decode cX8_strength 72 = .ok (.if_icmp .ne 8, 3) := dk_160 0 8 (dk_at dksX8_strength_3 0 rfl rfl)
theorem dX8_strength_75 : decode cX8_strength 75 = .ok (.bipush 7, 2) := dk_16 7 (dk_at dksX8_strength_3 3 rfl rfl)
theorem dX8_strength_77 : decode cX8_strength 77 = .ok (.goto 4, 3) := dk_167 0 4 (dk_at dksX8_strength_3 5 rfl rfl)
theorem dX8_strength_80 : decode cX8_strength 80 = .ok (.iconst 0, 1) := dk_3 (dk_at dksX8_strength_3 8 rfl rfl)
theorem dX8_strength_81 : decode cX8_strength 81 = .ok (.ireturn, 1) := dk_172 (dk_at dksX8_strength_3 9 rfl rfl)
abbrev cX8_put : ByteArray := prog_16_method_21_code
def yX8_put : MethodName := ⟨RX8, "put", "(II)V"⟩
def dkwX8_put_1 : List UInt8 := [180, 0, 87, 4, 96, 181, 0, 87, 177]
abbrev dktX8_put_1 : List UInt8 := dkwX8_put_1 ++ []
def dkwX8_put_0 : List UInt8 := [42, 180, 0, 93, 42, 180, 0, 87, 27, 79, 42, 180, 0, 96, 42, 180, 0, 87, 28, 79, 42, 89]
abbrev dktX8_put_0 : List UInt8 := dkwX8_put_0 ++ dktX8_put_1
theorem dksX8_put_0 : cX8_put.data.toList.drop 0 = dktX8_put_0 := by decide +kernel
theorem dksX8_put_1 : cX8_put.data.toList.drop 22 = dktX8_put_1 := dk_seg dksX8_put_0 22 rfl rfl
theorem dX8_put_0 : decode cX8_put 0 = .ok (.aload_n 0, 1) := dk_42 (dk_at dksX8_put_0 0 rfl rfl)
theorem dX8_put_1 : decode cX8_put 1 = .ok (.getfield 93, 3) := dk_180 0 93 (dk_at dksX8_put_0 1 rfl rfl)
theorem dX8_put_4 : decode cX8_put 4 = .ok (.aload_n 0, 1) := dk_42 (dk_at dksX8_put_0 4 rfl rfl)
theorem dX8_put_5 : decode cX8_put 5 = .ok (.getfield 87, 3) := dk_180 0 87 (dk_at dksX8_put_0 5 rfl rfl)
theorem dX8_put_8 : decode cX8_put 8 = .ok (.iload_n 1, 1) := dk_27 (dk_at dksX8_put_0 8 rfl rfl)
theorem dX8_put_9 : decode cX8_put 9 = .ok (.iastore, 1) := dk_79 (dk_at dksX8_put_0 9 rfl rfl)
theorem dX8_put_10 : decode cX8_put 10 = .ok (.aload_n 0, 1) := dk_42 (dk_at dksX8_put_0 10 rfl rfl)
theorem dX8_put_11 : decode cX8_put 11 = .ok (.getfield 96, 3) := dk_180 0 96 (dk_at dksX8_put_0 11 rfl rfl)
theorem dX8_put_14 : decode cX8_put 14 = .ok (.aload_n 0, 1) := dk_42 (dk_at dksX8_put_0 14 rfl rfl)
theorem dX8_put_15 : decode cX8_put 15 = .ok (.getfield 87, 3) := dk_180 0 87 (dk_at dksX8_put_0 15 rfl rfl)
theorem dX8_put_18 : decode cX8_put 18 = .ok (.iload_n 2, 1) := dk_28 (dk_at dksX8_put_0 18 rfl rfl)
theorem dX8_put_19 : decode cX8_put 19 = .ok (.iastore, 1) := dk_79 (dk_at dksX8_put_0 19 rfl rfl)
theorem dX8_put_20 : decode cX8_put 20 = .ok (.aload_n 0, 1) := dk_42 (dk_at dksX8_put_0 20 rfl rfl)
theorem dX8_put_21 : decode cX8_put 21 = .ok (.dup, 1) := dk_89 (dk_at dksX8_put_0 21 rfl rfl)
theorem dX8_put_22 : decode cX8_put 22 = .ok (.getfield 87, 3) := dk_180 0 87 (dk_at dksX8_put_1 0 rfl rfl)
theorem dX8_put_25 : decode cX8_put 25 = .ok (.iconst 1, 1) := dk_4 (dk_at dksX8_put_1 3 rfl rfl)
theorem dX8_put_26 : decode cX8_put 26 = .ok (.iadd, 1) := dk_96 (dk_at dksX8_put_1 4 rfl rfl)
theorem dX8_put_27 : decode cX8_put 27 = .ok (.putfield 87, 3) := dk_181 0 87 (dk_at dksX8_put_1 5 rfl rfl)
theorem dX8_put_30 : decode cX8_put 30 = .ok (.return_, 1) := dk_177 (dk_at dksX8_put_1 8 rfl rfl)
abbrev cX8_takesOne : ByteArray := prog_16_method_27_code
def yX8_takesOne : MethodName := ⟨RX8, "takesOne", "(Z)I"⟩
def dkwX8_takesOne_6 : List UInt8 := [153, 0, 7, 4, 167, 0, 4, 3, 172]
abbrev dktX8_takesOne_6 : List UInt8 := dkwX8_takesOne_6 ++ []
def dkwX8_takesOne_5 : List UInt8 := [167, 0, 4, 3, 172, 42, 17, 57, 244, 182, 0, 237, 153, 0, 19, 27, 153, 0, 15, 42, 7, 182, 0, 234]
abbrev dktX8_takesOne_5 : List UInt8 := dkwX8_takesOne_5 ++ dktX8_takesOne_6
def dkwX8_takesOne_4 : List UInt8 := [167, 0, 4, 3, 172, 42, 180, 0, 72, 16, 40, 160, 0, 18, 42, 16, 20, 182, 0, 234, 153, 0, 7, 4]
abbrev dktX8_takesOne_4 : List UInt8 := dkwX8_takesOne_4 ++ dktX8_takesOne_5
def dkwX8_takesOne_3 : List UInt8 := [182, 0, 231, 5, 172, 42, 180, 0, 72, 16, 45, 160, 0, 18, 42, 16, 10, 182, 0, 234, 153, 0, 7, 4]
abbrev dktX8_takesOne_3 : List UInt8 := dkwX8_takesOne_3 ++ dktX8_takesOne_4
def dkwX8_takesOne_2 : List UInt8 := [160, 0, 10, 42, 180, 0, 75, 167, 0, 11, 42, 42, 180, 0, 75, 182, 0, 202, 182, 0, 224, 42, 16, 7]
abbrev dktX8_takesOne_2 : List UInt8 := dkwX8_takesOne_2 ++ dktX8_takesOne_3
def dkwX8_takesOne_1 : List UInt8 := [155, 0, 51, 42, 42, 180, 0, 72, 4, 160, 0, 7, 3, 167, 0, 4, 4, 42, 180, 0, 72, 4]
abbrev dktX8_takesOne_1 : List UInt8 := dkwX8_takesOne_1 ++ dktX8_takesOne_2
def dkwX8_takesOne_0 : List UInt8 := [42, 180, 0, 72, 4, 159, 0, 22, 42, 180, 0, 72, 5, 160, 0, 62, 42, 42, 180, 0, 75, 182, 0, 202]
abbrev dktX8_takesOne_0 : List UInt8 := dkwX8_takesOne_0 ++ dktX8_takesOne_1
theorem dksX8_takesOne_0 : cX8_takesOne.data.toList.drop 0 = dktX8_takesOne_0 := by decide +kernel
theorem dksX8_takesOne_1 : cX8_takesOne.data.toList.drop 24 = dktX8_takesOne_1 := dk_seg dksX8_takesOne_0 24 rfl rfl
theorem dksX8_takesOne_2 : cX8_takesOne.data.toList.drop 46 = dktX8_takesOne_2 := dk_seg dksX8_takesOne_1 22 rfl rfl
theorem dksX8_takesOne_3 : cX8_takesOne.data.toList.drop 70 = dktX8_takesOne_3 := dk_seg dksX8_takesOne_2 24 rfl rfl
theorem dksX8_takesOne_4 : cX8_takesOne.data.toList.drop 94 = dktX8_takesOne_4 := dk_seg dksX8_takesOne_3 24 rfl rfl
theorem dksX8_takesOne_5 : cX8_takesOne.data.toList.drop 118 = dktX8_takesOne_5 := dk_seg dksX8_takesOne_4 24 rfl rfl
theorem dksX8_takesOne_6 : cX8_takesOne.data.toList.drop 142 = dktX8_takesOne_6 := dk_seg dksX8_takesOne_5 24 rfl rfl
theorem dX8_takesOne_0 : decode cX8_takesOne 0 = .ok (.aload_n 0, 1) := dk_42 (dk_at dksX8_takesOne_0 0 rfl rfl)
theorem dX8_takesOne_1 : decode cX8_takesOne 1 = .ok (.getfield 72, 3) := dk_180 0 72 (dk_at dksX8_takesOne_0 1 rfl rfl)
theorem dX8_takesOne_4 : decode cX8_takesOne 4 = .ok (.iconst 1, 1) := dk_4 (dk_at dksX8_takesOne_0 4 rfl rfl)
theorem dX8_takesOne_5 : decode cX8_takesOne 5 = .ok (.if_icmp .eq 22, 3) := dk_159 0 22 (dk_at dksX8_takesOne_0 5 rfl rfl)
theorem dX8_takesOne_8 : decode cX8_takesOne 8 = .ok (.aload_n 0, 1) := dk_42 (dk_at dksX8_takesOne_0 8 rfl rfl)
theorem dX8_takesOne_9 : decode cX8_takesOne 9 = .ok (.getfield 72, 3) := dk_180 0 72 (dk_at dksX8_takesOne_0 9 rfl rfl)
theorem dX8_takesOne_12 : decode cX8_takesOne 12 = .ok (.iconst 2, 1) := dk_5 (dk_at dksX8_takesOne_0 12 rfl rfl)
theorem dX8_takesOne_13 : decode cX8_takesOne 13 = .ok (.if_icmp .ne 62, 3) := dk_160 0 62 (dk_at dksX8_takesOne_0 13 rfl rfl)
theorem dX8_takesOne_16 : decode cX8_takesOne 16 = .ok (.aload_n 0, 1) := dk_42 (dk_at dksX8_takesOne_0 16 rfl rfl)
theorem dX8_takesOne_17 : decode cX8_takesOne 17 = .ok (.aload_n 0, 1) := dk_42 (dk_at dksX8_takesOne_0 17 rfl rfl)
theorem dX8_takesOne_18 : decode cX8_takesOne 18 = .ok (.getfield 75, 3) := dk_180 0 75 (dk_at dksX8_takesOne_0 18 rfl rfl)
theorem dX8_takesOne_21 : decode cX8_takesOne 21 = .ok (.invokevirtual 202, 3) := dk_182 0 202 (dk_at dksX8_takesOne_0 21 rfl rfl)
theorem dX8_takesOne_24 : decode cX8_takesOne 24 = .ok (.ifCond .lt 51, 3) := dk_155 0 51 (dk_at dksX8_takesOne_1 0 rfl rfl)
theorem dX8_takesOne_27 : decode cX8_takesOne 27 = .ok (.aload_n 0, 1) := dk_42 (dk_at dksX8_takesOne_1 3 rfl rfl)
theorem dX8_takesOne_28 : decode cX8_takesOne 28 = .ok (.aload_n 0, 1) := dk_42 (dk_at dksX8_takesOne_1 4 rfl rfl)
theorem dX8_takesOne_29 : decode cX8_takesOne 29 = .ok (.getfield 72, 3) := dk_180 0 72 (dk_at dksX8_takesOne_1 5 rfl rfl)
theorem dX8_takesOne_32 : decode cX8_takesOne 32 = .ok (.iconst 1, 1) := dk_4 (dk_at dksX8_takesOne_1 8 rfl rfl)
theorem dX8_takesOne_33 : decode cX8_takesOne 33 = .ok (.if_icmp .ne 7, 3) := dk_160 0 7 (dk_at dksX8_takesOne_1 9 rfl rfl)
theorem dX8_takesOne_36 : decode cX8_takesOne 36 = .ok (.iconst 0, 1) := dk_3 (dk_at dksX8_takesOne_1 12 rfl rfl)
theorem dX8_takesOne_37 : decode cX8_takesOne 37 = .ok (.goto 4, 3) := dk_167 0 4 (dk_at dksX8_takesOne_1 13 rfl rfl)
theorem dX8_takesOne_40 : decode cX8_takesOne 40 = .ok (.iconst 1, 1) := dk_4 (dk_at dksX8_takesOne_1 16 rfl rfl)
theorem dX8_takesOne_41 : decode cX8_takesOne 41 = .ok (.aload_n 0, 1) := dk_42 (dk_at dksX8_takesOne_1 17 rfl rfl)
theorem dX8_takesOne_42 : decode cX8_takesOne 42 = .ok (.getfield 72, 3) := dk_180 0 72 (dk_at dksX8_takesOne_1 18 rfl rfl)
theorem dX8_takesOne_45 : decode cX8_takesOne 45 = .ok (.iconst 1, 1) := dk_4 (dk_at dksX8_takesOne_1 21 rfl rfl)
theorem dX8_takesOne_46 : decode cX8_takesOne 46 = .ok (.if_icmp .ne 10, 3) := dk_160 0 10 (dk_at dksX8_takesOne_2 0 rfl rfl)
theorem dX8_takesOne_49 : decode cX8_takesOne 49 = .ok (.aload_n 0, 1) := dk_42 (dk_at dksX8_takesOne_2 3 rfl rfl)
theorem dX8_takesOne_50 : decode cX8_takesOne 50 = .ok (.getfield 75, 3) := dk_180 0 75 (dk_at dksX8_takesOne_2 4 rfl rfl)
theorem dX8_takesOne_53 : decode cX8_takesOne 53 = .ok (.goto 11, 3) := dk_167 0 11 (dk_at dksX8_takesOne_2 7 rfl rfl)
theorem dX8_takesOne_56 : decode cX8_takesOne 56 = .ok (.aload_n 0, 1) := dk_42 (dk_at dksX8_takesOne_2 10 rfl rfl)
theorem dX8_takesOne_57 : decode cX8_takesOne 57 = .ok (.aload_n 0, 1) := dk_42 (dk_at dksX8_takesOne_2 11 rfl rfl)
theorem dX8_takesOne_58 : decode cX8_takesOne 58 = .ok (.getfield 75, 3) := dk_180 0 75 (dk_at dksX8_takesOne_2 12 rfl rfl)
theorem dX8_takesOne_61 : decode cX8_takesOne 61 = .ok (.invokevirtual 202, 3) := dk_182 0 202 (dk_at dksX8_takesOne_2 15 rfl rfl)
theorem dX8_takesOne_64 : decode cX8_takesOne 64 = .ok (.invokevirtual 224, 3) := dk_182 0 224 (dk_at dksX8_takesOne_2 18 rfl rfl)
theorem dX8_takesOne_67 : decode cX8_takesOne 67 = .ok (.aload_n 0, 1) := dk_42 (dk_at dksX8_takesOne_2 21 rfl rfl)
theorem dX8_takesOne_68 : decode cX8_takesOne 68 = .ok (.bipush 7, 2) := dk_16 7 (dk_at dksX8_takesOne_2 22 rfl rfl)
theorem dX8_takesOne_70 : decode cX8_takesOne 70 = .ok (.invokevirtual 231, 3) := dk_182 0 231 (dk_at dksX8_takesOne_3 0 rfl rfl)
theorem dX8_takesOne_73 : decode cX8_takesOne 73 = .ok (.iconst 2, 1) := dk_5 (dk_at dksX8_takesOne_3 3 rfl rfl)
theorem dX8_takesOne_74 : decode cX8_takesOne 74 = .ok (.ireturn, 1) := dk_172 (dk_at dksX8_takesOne_3 4 rfl rfl)
theorem dX8_takesOne_75 : decode cX8_takesOne 75 = .ok (.aload_n 0, 1) := dk_42 (dk_at dksX8_takesOne_3 5 rfl rfl)
theorem dX8_takesOne_76 : decode cX8_takesOne 76 = .ok (.getfield 72, 3) := dk_180 0 72 (dk_at dksX8_takesOne_3 6 rfl rfl)
theorem dX8_takesOne_79 : decode cX8_takesOne 79 = .ok (.bipush 45, 2) := dk_16 45 (dk_at dksX8_takesOne_3 9 rfl rfl)
theorem dX8_takesOne_81 : decode cX8_takesOne 81 = .ok (.if_icmp .ne 18, 3) := dk_160 0 18 (dk_at dksX8_takesOne_3 11 rfl rfl)
theorem dX8_takesOne_84 : decode cX8_takesOne 84 = .ok (.aload_n 0, 1) := dk_42 (dk_at dksX8_takesOne_3 14 rfl rfl)
theorem dX8_takesOne_85 : decode cX8_takesOne 85 = .ok (.bipush 10, 2) := dk_16 10 (dk_at dksX8_takesOne_3 15 rfl rfl)
theorem dX8_takesOne_87 : decode cX8_takesOne 87 = .ok (.invokevirtual 234, 3) := dk_182 0 234 (dk_at dksX8_takesOne_3 17 rfl rfl)
theorem dX8_takesOne_90 : decode cX8_takesOne 90 = .ok (.ifCond .eq 7, 3) := dk_153 0 7 (dk_at dksX8_takesOne_3 20 rfl rfl)
theorem dX8_takesOne_93 : decode cX8_takesOne 93 = .ok (.iconst 1, 1) := dk_4 (dk_at dksX8_takesOne_3 23 rfl rfl)
theorem dX8_takesOne_94 : decode cX8_takesOne 94 = .ok (.goto 4, 3) := dk_167 0 4 (dk_at dksX8_takesOne_4 0 rfl rfl)
theorem dX8_takesOne_97 : decode cX8_takesOne 97 = .ok (.iconst 0, 1) := dk_3 (dk_at dksX8_takesOne_4 3 rfl rfl)
theorem dX8_takesOne_98 : decode cX8_takesOne 98 = .ok (.ireturn, 1) := dk_172 (dk_at dksX8_takesOne_4 4 rfl rfl)
theorem dX8_takesOne_99 : decode cX8_takesOne 99 = .ok (.aload_n 0, 1) := dk_42 (dk_at dksX8_takesOne_4 5 rfl rfl)
theorem dX8_takesOne_100 : decode cX8_takesOne 100 = .ok (.getfield 72, 3) := dk_180 0 72 (dk_at dksX8_takesOne_4 6 rfl rfl)
theorem dX8_takesOne_103 : decode cX8_takesOne 103 = .ok (.bipush 40, 2) := dk_16 40 (dk_at dksX8_takesOne_4 9 rfl rfl)
theorem dX8_takesOne_105 : decode cX8_takesOne 105 = .ok (.if_icmp .ne 18, 3) := dk_160 0 18 (dk_at dksX8_takesOne_4 11 rfl rfl)
theorem dX8_takesOne_108 : decode cX8_takesOne 108 = .ok (.aload_n 0, 1) := dk_42 (dk_at dksX8_takesOne_4 14 rfl rfl)
theorem dX8_takesOne_109 : decode cX8_takesOne 109 = .ok (.bipush 20, 2) := dk_16 20 (dk_at dksX8_takesOne_4 15 rfl rfl)
theorem dX8_takesOne_111 : decode cX8_takesOne 111 = .ok (.invokevirtual 234, 3) := dk_182 0 234 (dk_at dksX8_takesOne_4 17 rfl rfl)
theorem dX8_takesOne_114 : decode cX8_takesOne 114 = .ok (.ifCond .eq 7, 3) := dk_153 0 7 (dk_at dksX8_takesOne_4 20 rfl rfl)
theorem dX8_takesOne_117 : decode cX8_takesOne 117 = .ok (.iconst 1, 1) := dk_4 (dk_at dksX8_takesOne_4 23 rfl rfl)
theorem dX8_takesOne_118 : decode cX8_takesOne 118 = .ok (.goto 4, 3) := dk_167 0 4 (dk_at dksX8_takesOne_5 0 rfl rfl)
theorem dX8_takesOne_121 : decode cX8_takesOne 121 = .ok (.iconst 0, 1) := dk_3 (dk_at dksX8_takesOne_5 3 rfl rfl)
theorem dX8_takesOne_122 : decode cX8_takesOne 122 = .ok (.ireturn, 1) := dk_172 (dk_at dksX8_takesOne_5 4 rfl rfl)
theorem dX8_takesOne_123 : decode cX8_takesOne 123 = .ok (.aload_n 0, 1) := dk_42 (dk_at dksX8_takesOne_5 5 rfl rfl)
theorem dX8_takesOne_124 : decode cX8_takesOne 124 = .ok (.sipush 14836, 3) := dk_17 57 244 (dk_at dksX8_takesOne_5 6 rfl rfl)
theorem dX8_takesOne_127 : decode cX8_takesOne 127 = .ok (.invokevirtual 237, 3) := dk_182 0 237 (dk_at dksX8_takesOne_5 9 rfl rfl)
theorem dX8_takesOne_130 : decode cX8_takesOne 130 = .ok (.ifCond .eq 19, 3) := dk_153 0 19 (dk_at dksX8_takesOne_5 12 rfl rfl)
theorem dX8_takesOne_133 : decode cX8_takesOne 133 = .ok (.iload_n 1, 1) := dk_27 (dk_at dksX8_takesOne_5 15 rfl rfl)
theorem dX8_takesOne_134 : decode cX8_takesOne 134 = .ok (.ifCond .eq 15, 3) := dk_153 0 15 (dk_at dksX8_takesOne_5 16 rfl rfl)
theorem dX8_takesOne_137 : decode cX8_takesOne 137 = .ok (.aload_n 0, 1) := dk_42 (dk_at dksX8_takesOne_5 19 rfl rfl)
theorem dX8_takesOne_138 : decode cX8_takesOne 138 = .ok (.iconst 4, 1) := dk_7 (dk_at dksX8_takesOne_5 20 rfl rfl)
theorem dX8_takesOne_139 : decode cX8_takesOne 139 = .ok (.invokevirtual 234, 3) := dk_182 0 234 (dk_at dksX8_takesOne_5 21 rfl rfl)
theorem dX8_takesOne_142 : decode cX8_takesOne 142 = .ok (.ifCond .eq 7, 3) := dk_153 0 7 (dk_at dksX8_takesOne_6 0 rfl rfl)
theorem dX8_takesOne_145 : decode cX8_takesOne 145 = .ok (.iconst 1, 1) := dk_4 (dk_at dksX8_takesOne_6 3 rfl rfl)
theorem dX8_takesOne_146 : decode cX8_takesOne 146 = .ok (.goto 4, 3) := dk_167 0 4 (dk_at dksX8_takesOne_6 4 rfl rfl)
theorem dX8_takesOne_149 : decode cX8_takesOne 149 = .ok (.iconst 0, 1) := dk_3 (dk_at dksX8_takesOne_6 7 rfl rfl)
theorem dX8_takesOne_150 : decode cX8_takesOne 150 = .ok (.ireturn, 1) := dk_172 (dk_at dksX8_takesOne_6 8 rfl rfl)
abbrev cX8_opens : ByteArray := prog_16_method_26_code
def yX8_opens : MethodName := ⟨RX8, "opens", "(I)Z"⟩
def dkwX8_opens_1 : List UInt8 := [182, 0, 228, 4, 172]
abbrev dktX8_opens_1 : List UInt8 := dkwX8_opens_1 ++ []
def dkwX8_opens_0 : List UInt8 := [42, 180, 0, 81, 8, 160, 0, 5, 3, 172, 42, 89, 180, 0, 81, 4, 96, 181, 0, 81, 42, 27]
abbrev dktX8_opens_0 : List UInt8 := dkwX8_opens_0 ++ dktX8_opens_1
theorem dksX8_opens_0 : cX8_opens.data.toList.drop 0 = dktX8_opens_0 := by decide +kernel
theorem dksX8_opens_1 : cX8_opens.data.toList.drop 22 = dktX8_opens_1 := dk_seg dksX8_opens_0 22 rfl rfl
theorem dX8_opens_0 : decode cX8_opens 0 = .ok (.aload_n 0, 1) := dk_42 (dk_at dksX8_opens_0 0 rfl rfl)
theorem dX8_opens_1 : decode cX8_opens 1 = .ok (.getfield 81, 3) := dk_180 0 81 (dk_at dksX8_opens_0 1 rfl rfl)
theorem dX8_opens_4 : decode cX8_opens 4 = .ok (.iconst 5, 1) := dk_8 (dk_at dksX8_opens_0 4 rfl rfl)
theorem dX8_opens_5 : decode cX8_opens 5 = .ok (.if_icmp .ne 5, 3) := dk_160 0 5 (dk_at dksX8_opens_0 5 rfl rfl)
theorem dX8_opens_8 : decode cX8_opens 8 = .ok (.iconst 0, 1) := dk_3 (dk_at dksX8_opens_0 8 rfl rfl)
theorem dX8_opens_9 : decode cX8_opens 9 = .ok (.ireturn, 1) := dk_172 (dk_at dksX8_opens_0 9 rfl rfl)
theorem dX8_opens_10 : decode cX8_opens 10 = .ok (.aload_n 0, 1) := dk_42 (dk_at dksX8_opens_0 10 rfl rfl)
theorem dX8_opens_11 : decode cX8_opens 11 = .ok (.dup, 1) := dk_89 (dk_at dksX8_opens_0 11 rfl rfl)
theorem dX8_opens_12 : decode cX8_opens 12 = .ok (.getfield 81, 3) := dk_180 0 81 (dk_at dksX8_opens_0 12 rfl rfl)
theorem dX8_opens_15 : decode cX8_opens 15 = .ok (.iconst 1, 1) := dk_4 (dk_at dksX8_opens_0 15 rfl rfl)
theorem dX8_opens_16 : decode cX8_opens 16 = .ok (.iadd, 1) := dk_96 (dk_at dksX8_opens_0 16 rfl rfl)
theorem dX8_opens_17 : decode cX8_opens 17 = .ok (.putfield 81, 3) := dk_181 0 81 (dk_at dksX8_opens_0 17 rfl rfl)
theorem dX8_opens_20 : decode cX8_opens 20 = .ok (.aload_n 0, 1) := dk_42 (dk_at dksX8_opens_0 20 rfl rfl)
theorem dX8_opens_21 : decode cX8_opens 21 = .ok (.iload_n 1, 1) := dk_27 (dk_at dksX8_opens_0 21 rfl rfl)
theorem dX8_opens_22 : decode cX8_opens 22 = .ok (.invokevirtual 228, 3) := dk_182 0 228 (dk_at dksX8_opens_1 0 rfl rfl)
theorem dX8_opens_25 : decode cX8_opens 25 = .ok (.iconst 1, 1) := dk_4 (dk_at dksX8_opens_1 3 rfl rfl)
theorem dX8_opens_26 : decode cX8_opens 26 = .ok (.ireturn, 1) := dk_172 (dk_at dksX8_opens_1 4 rfl rfl)
abbrev cX8_pushSign : ByteArray := prog_16_method_23_code
def yX8_pushSign : MethodName := ⟨RX8, "pushSign", "(I)V"⟩
def dkwX8_pushSign_0 : List UInt8 := [42, 180, 0, 102, 42, 180, 0, 84, 27, 79, 42, 89, 180, 0, 84, 4, 96, 181, 0, 84, 177]
abbrev dktX8_pushSign_0 : List UInt8 := dkwX8_pushSign_0 ++ []
theorem dksX8_pushSign_0 : cX8_pushSign.data.toList.drop 0 = dktX8_pushSign_0 := by decide +kernel
theorem dX8_pushSign_0 : decode cX8_pushSign 0 = .ok (.aload_n 0, 1) := dk_42 (dk_at dksX8_pushSign_0 0 rfl rfl)
theorem dX8_pushSign_1 : decode cX8_pushSign 1 = .ok (.getfield 102, 3) := dk_180 0 102 (dk_at dksX8_pushSign_0 1 rfl rfl)
theorem dX8_pushSign_4 : decode cX8_pushSign 4 = .ok (.aload_n 0, 1) := dk_42 (dk_at dksX8_pushSign_0 4 rfl rfl)
theorem dX8_pushSign_5 : decode cX8_pushSign 5 = .ok (.getfield 84, 3) := dk_180 0 84 (dk_at dksX8_pushSign_0 5 rfl rfl)
theorem dX8_pushSign_8 : decode cX8_pushSign 8 = .ok (.iload_n 1, 1) := dk_27 (dk_at dksX8_pushSign_0 8 rfl rfl)
theorem dX8_pushSign_9 : decode cX8_pushSign 9 = .ok (.iastore, 1) := dk_79 (dk_at dksX8_pushSign_0 9 rfl rfl)
theorem dX8_pushSign_10 : decode cX8_pushSign 10 = .ok (.aload_n 0, 1) := dk_42 (dk_at dksX8_pushSign_0 10 rfl rfl)
theorem dX8_pushSign_11 : decode cX8_pushSign 11 = .ok (.dup, 1) := dk_89 (dk_at dksX8_pushSign_0 11 rfl rfl)
theorem dX8_pushSign_12 : decode cX8_pushSign 12 = .ok (.getfield 84, 3) := dk_180 0 84 (dk_at dksX8_pushSign_0 12 rfl rfl)
theorem dX8_pushSign_15 : decode cX8_pushSign 15 = .ok (.iconst 1, 1) := dk_4 (dk_at dksX8_pushSign_0 15 rfl rfl)
theorem dX8_pushSign_16 : decode cX8_pushSign 16 = .ok (.iadd, 1) := dk_96 (dk_at dksX8_pushSign_0 16 rfl rfl)
theorem dX8_pushSign_17 : decode cX8_pushSign 17 = .ok (.putfield 84, 3) := dk_181 0 84 (dk_at dksX8_pushSign_0 17 rfl rfl)
theorem dX8_pushSign_20 : decode cX8_pushSign 20 = .ok (.return_, 1) := dk_177 (dk_at dksX8_pushSign_0 20 rfl rfl)
abbrev cX8_takesSign : ByteArray := prog_16_method_28_code
def yX8_takesSign : MethodName := ⟨RX8, "takesSign", "()I"⟩
def dkwX8_takesSign_9 : List UInt8 := [182, 0, 231, 5, 172]
abbrev dktX8_takesSign_9 : List UInt8 := dkwX8_takesSign_9 ++ []
def dkwX8_takesSign_8 : List UInt8 := [89, 180, 0, 84, 4, 100, 181, 0, 84, 42, 89, 180, 0, 81, 4, 100, 181, 0, 81, 42, 16, 7]
abbrev dktX8_takesSign_8 : List UInt8 := dkwX8_takesSign_8 ++ dktX8_takesSign_9
def dkwX8_takesSign_7 : List UInt8 := [16, 41, 159, 0, 5, 3, 172, 42, 4, 182, 0, 231, 42, 182, 0, 217, 16, 20, 159, 0, 5, 3, 172, 42]
abbrev dktX8_takesSign_7 : List UInt8 := dkwX8_takesSign_7 ++ dktX8_takesSign_8
def dkwX8_takesSign_6 : List UInt8 := [182, 0, 217, 182, 0, 221, 7, 160, 0, 5, 3, 172, 42, 27, 182, 0, 228, 4, 172, 42, 180, 0, 72]
abbrev dktX8_takesSign_6 : List UInt8 := dkwX8_takesSign_6 ++ dktX8_takesSign_7
def dkwX8_takesSign_5 : List UInt8 := [167, 0, 8, 42, 27, 182, 0, 221, 182, 0, 231, 27, 8, 159, 0, 9, 27, 16, 6, 160, 0, 17, 42, 42]
abbrev dktX8_takesSign_5 : List UInt8 := dkwX8_takesSign_5 ++ dktX8_takesSign_6
def dkwX8_takesSign_4 : List UInt8 := [167, 0, 4, 2, 60, 27, 155, 0, 59, 42, 27, 8, 159, 0, 9, 27, 16, 6, 160, 0, 7, 8]
abbrev dktX8_takesSign_4 : List UInt8 := dkwX8_takesSign_4 ++ dktX8_takesSign_5
def dkwX8_takesSign_3 : List UInt8 := [17, 5, 196, 182, 0, 237, 153, 0, 7, 6, 167, 0, 18, 42, 17, 1, 242, 182, 0, 237, 153, 0, 7, 5]
abbrev dktX8_takesSign_3 : List UInt8 := dkwX8_takesSign_3 ++ dktX8_takesSign_4
def dkwX8_takesSign_2 : List UInt8 := [16, 60, 160, 0, 7, 8, 167, 0, 46, 42, 180, 0, 72, 16, 61, 160, 0, 8, 16, 6, 167, 0, 32, 42]
abbrev dktX8_takesSign_2 : List UInt8 := dkwX8_takesSign_2 ++ dktX8_takesSign_3
def dkwX8_takesSign_1 : List UInt8 := [16, 7, 167, 0, 73, 42, 180, 0, 72, 16, 45, 160, 0, 8, 16, 8, 167, 0, 59, 42, 180, 0, 72]
abbrev dktX8_takesSign_1 : List UInt8 := dkwX8_takesSign_1 ++ dktX8_takesSign_2
def dkwX8_takesSign_0 : List UInt8 := [42, 180, 0, 72, 16, 42, 160, 0, 8, 16, 9, 167, 0, 87, 42, 180, 0, 72, 16, 43, 160, 0, 8]
abbrev dktX8_takesSign_0 : List UInt8 := dkwX8_takesSign_0 ++ dktX8_takesSign_1
theorem dksX8_takesSign_0 : cX8_takesSign.data.toList.drop 0 = dktX8_takesSign_0 := by decide +kernel
theorem dksX8_takesSign_1 : cX8_takesSign.data.toList.drop 23 = dktX8_takesSign_1 := dk_seg dksX8_takesSign_0 23 rfl rfl
theorem dksX8_takesSign_2 : cX8_takesSign.data.toList.drop 46 = dktX8_takesSign_2 := dk_seg dksX8_takesSign_1 23 rfl rfl
theorem dksX8_takesSign_3 : cX8_takesSign.data.toList.drop 70 = dktX8_takesSign_3 := dk_seg dksX8_takesSign_2 24 rfl rfl
theorem dksX8_takesSign_4 : cX8_takesSign.data.toList.drop 94 = dktX8_takesSign_4 := dk_seg dksX8_takesSign_3 24 rfl rfl
theorem dksX8_takesSign_5 : cX8_takesSign.data.toList.drop 116 = dktX8_takesSign_5 := dk_seg dksX8_takesSign_4 22 rfl rfl
theorem dksX8_takesSign_6 : cX8_takesSign.data.toList.drop 140 = dktX8_takesSign_6 := dk_seg dksX8_takesSign_5 24 rfl rfl
theorem dksX8_takesSign_7 : cX8_takesSign.data.toList.drop 163 = dktX8_takesSign_7 := dk_seg dksX8_takesSign_6 23 rfl rfl
theorem dksX8_takesSign_8 : cX8_takesSign.data.toList.drop 187 = dktX8_takesSign_8 := dk_seg dksX8_takesSign_7 24 rfl rfl
theorem dksX8_takesSign_9 : cX8_takesSign.data.toList.drop 209 = dktX8_takesSign_9 := dk_seg dksX8_takesSign_8 22 rfl rfl
theorem dX8_takesSign_0 : decode cX8_takesSign 0 = .ok (.aload_n 0, 1) := dk_42 (dk_at dksX8_takesSign_0 0 rfl rfl)
theorem dX8_takesSign_1 : decode cX8_takesSign 1 = .ok (.getfield 72, 3) := dk_180 0 72 (dk_at dksX8_takesSign_0 1 rfl rfl)
theorem dX8_takesSign_4 : decode cX8_takesSign 4 = .ok (.bipush 42, 2) := dk_16 42 (dk_at dksX8_takesSign_0 4 rfl rfl)
theorem dX8_takesSign_6 : decode cX8_takesSign 6 = .ok (.if_icmp .ne 8, 3) := dk_160 0 8 (dk_at dksX8_takesSign_0 6 rfl rfl)
theorem dX8_takesSign_9 : decode cX8_takesSign 9 = .ok (.bipush 9, 2) := dk_16 9 (dk_at dksX8_takesSign_0 9 rfl rfl)
theorem dX8_takesSign_11 : decode cX8_takesSign 11 = .ok (.goto 87, 3) := dk_167 0 87 (dk_at dksX8_takesSign_0 11 rfl rfl)
theorem dX8_takesSign_14 : decode cX8_takesSign 14 = .ok (.aload_n 0, 1) := dk_42 (dk_at dksX8_takesSign_0 14 rfl rfl)
theorem dX8_takesSign_15 : decode cX8_takesSign 15 = .ok (.getfield 72, 3) := dk_180 0 72 (dk_at dksX8_takesSign_0 15 rfl rfl)
theorem dX8_takesSign_18 : decode cX8_takesSign 18 = .ok (.bipush 43, 2) := dk_16 43 (dk_at dksX8_takesSign_0 18 rfl rfl)
theorem dX8_takesSign_20 : decode cX8_takesSign 20 = .ok (.if_icmp .ne 8, 3) := dk_160 0 8 (dk_at dksX8_takesSign_0 20 rfl rfl)
theorem dX8_takesSign_23 : decode cX8_takesSign 23 = .ok (.bipush 7, 2) := dk_16 7 (dk_at dksX8_takesSign_1 0 rfl rfl)
theorem dX8_takesSign_25 : decode cX8_takesSign 25 = .ok (.goto 73, 3) := dk_167 0 73 (dk_at dksX8_takesSign_1 2 rfl rfl)
theorem dX8_takesSign_28 : decode cX8_takesSign 28 = .ok (.aload_n 0, 1) := dk_42 (dk_at dksX8_takesSign_1 5 rfl rfl)
theorem dX8_takesSign_29 : decode cX8_takesSign 29 = .ok (.getfield 72, 3) := dk_180 0 72 (dk_at dksX8_takesSign_1 6 rfl rfl)
theorem dX8_takesSign_32 : decode cX8_takesSign 32 = .ok (.bipush 45, 2) := dk_16 45 (dk_at dksX8_takesSign_1 9 rfl rfl)
theorem dX8_takesSign_34 : decode cX8_takesSign 34 = .ok (.if_icmp .ne 8, 3) := dk_160 0 8 (dk_at dksX8_takesSign_1 11 rfl rfl)
theorem dX8_takesSign_37 : decode cX8_takesSign 37 = .ok (.bipush 8, 2) := dk_16 8 (dk_at dksX8_takesSign_1 14 rfl rfl)
theorem dX8_takesSign_39 : decode cX8_takesSign 39 = .ok (.goto 59, 3) := dk_167 0 59 (dk_at dksX8_takesSign_1 16 rfl rfl)
theorem dX8_takesSign_42 : decode cX8_takesSign 42 = .ok (.aload_n 0, 1) := dk_42 (dk_at dksX8_takesSign_1 19 rfl rfl)
theorem dX8_takesSign_43 : decode cX8_takesSign 43 = .ok (.getfield 72, 3) := dk_180 0 72 (dk_at dksX8_takesSign_1 20 rfl rfl)
theorem dX8_takesSign_46 : decode cX8_takesSign 46 = .ok (.bipush 60, 2) := dk_16 60 (dk_at dksX8_takesSign_2 0 rfl rfl)
theorem dX8_takesSign_48 : decode cX8_takesSign 48 = .ok (.if_icmp .ne 7, 3) := dk_160 0 7 (dk_at dksX8_takesSign_2 2 rfl rfl)
theorem dX8_takesSign_51 : decode cX8_takesSign 51 = .ok (.iconst 5, 1) := dk_8 (dk_at dksX8_takesSign_2 5 rfl rfl)
theorem dX8_takesSign_52 : decode cX8_takesSign 52 = .ok (.goto 46, 3) := dk_167 0 46 (dk_at dksX8_takesSign_2 6 rfl rfl)
theorem dX8_takesSign_55 : decode cX8_takesSign 55 = .ok (.aload_n 0, 1) := dk_42 (dk_at dksX8_takesSign_2 9 rfl rfl)
theorem dX8_takesSign_56 : decode cX8_takesSign 56 = .ok (.getfield 72, 3) := dk_180 0 72 (dk_at dksX8_takesSign_2 10 rfl rfl)
theorem dX8_takesSign_59 : decode cX8_takesSign 59 = .ok (.bipush 61, 2) := dk_16 61 (dk_at dksX8_takesSign_2 13 rfl rfl)
theorem dX8_takesSign_61 : decode cX8_takesSign 61 = .ok (.if_icmp .ne 8, 3) := dk_160 0 8 (dk_at dksX8_takesSign_2 15 rfl rfl)
theorem dX8_takesSign_64 : decode cX8_takesSign 64 = .ok (.bipush 6, 2) := dk_16 6 (dk_at dksX8_takesSign_2 18 rfl rfl)
theorem dX8_takesSign_66 : decode cX8_takesSign 66 = .ok (.goto 32, 3) := dk_167 0 32 (dk_at dksX8_takesSign_2 20 rfl rfl)
theorem dX8_takesSign_69 : decode cX8_takesSign 69 = .ok (.aload_n 0, 1) := dk_42 (dk_at dksX8_takesSign_2 23 rfl rfl)
theorem dX8_takesSign_70 : decode cX8_takesSign 70 = .ok (.sipush 1476, 3) := dk_17 5 196 (dk_at dksX8_takesSign_3 0 rfl rfl)
theorem dX8_takesSign_73 : decode cX8_takesSign 73 = .ok (.invokevirtual 237, 3) := dk_182 0 237 (dk_at dksX8_takesSign_3 3 rfl rfl)
theorem dX8_takesSign_76 : decode cX8_takesSign 76 = .ok (.ifCond .eq 7, 3) := dk_153 0 7 (dk_at dksX8_takesSign_3 6 rfl rfl)
theorem dX8_takesSign_79 : decode cX8_takesSign 79 = .ok (.iconst 3, 1) := dk_6 (dk_at dksX8_takesSign_3 9 rfl rfl)
theorem dX8_takesSign_80 : decode cX8_takesSign 80 = .ok (.goto 18, 3) := dk_167 0 18 (dk_at dksX8_takesSign_3 10 rfl rfl)
theorem dX8_takesSign_83 : decode cX8_takesSign 83 = .ok (.aload_n 0, 1) := dk_42 (dk_at dksX8_takesSign_3 13 rfl rfl)
theorem dX8_takesSign_84 : decode cX8_takesSign 84 = .ok (.sipush 498, 3) := dk_17 1 242 (dk_at dksX8_takesSign_3 14 rfl rfl)
theorem dX8_takesSign_87 : decode cX8_takesSign 87 = .ok (.invokevirtual 237, 3) := dk_182 0 237 (dk_at dksX8_takesSign_3 17 rfl rfl)
theorem dX8_takesSign_90 : decode cX8_takesSign 90 = .ok (.ifCond .eq 7, 3) := dk_153 0 7 (dk_at dksX8_takesSign_3 20 rfl rfl)
theorem dX8_takesSign_93 : decode cX8_takesSign 93 = .ok (.iconst 2, 1) := dk_5 (dk_at dksX8_takesSign_3 23 rfl rfl)
theorem dX8_takesSign_94 : decode cX8_takesSign 94 = .ok (.goto 4, 3) := dk_167 0 4 (dk_at dksX8_takesSign_4 0 rfl rfl)
theorem dX8_takesSign_97 : decode cX8_takesSign 97 = .ok (.iconst (-1), 1) := dk_2 (dk_at dksX8_takesSign_4 3 rfl rfl)
theorem dX8_takesSign_98 : decode cX8_takesSign 98 = .ok (.istore_n 1, 1) := dk_60 (dk_at dksX8_takesSign_4 4 rfl rfl)
theorem dX8_takesSign_99 : decode cX8_takesSign 99 = .ok (.iload_n 1, 1) := dk_27 (dk_at dksX8_takesSign_4 5 rfl rfl)
theorem dX8_takesSign_100 : decode cX8_takesSign 100 = .ok (.ifCond .lt 59, 3) := dk_155 0 59 (dk_at dksX8_takesSign_4 6 rfl rfl)
theorem dX8_takesSign_103 : decode cX8_takesSign 103 = .ok (.aload_n 0, 1) := dk_42 (dk_at dksX8_takesSign_4 9 rfl rfl)
theorem dX8_takesSign_104 : decode cX8_takesSign 104 = .ok (.iload_n 1, 1) := dk_27 (dk_at dksX8_takesSign_4 10 rfl rfl)
theorem dX8_takesSign_105 : decode cX8_takesSign 105 = .ok (.iconst 5, 1) := dk_8 (dk_at dksX8_takesSign_4 11 rfl rfl)
theorem dX8_takesSign_106 : decode cX8_takesSign 106 = .ok (.if_icmp .eq 9, 3) := dk_159 0 9 (dk_at dksX8_takesSign_4 12 rfl rfl)
theorem dX8_takesSign_109 : decode cX8_takesSign 109 = .ok (.iload_n 1, 1) := dk_27 (dk_at dksX8_takesSign_4 15 rfl rfl)
theorem dX8_takesSign_110 : decode cX8_takesSign 110 = .ok (.bipush 6, 2) := dk_16 6 (dk_at dksX8_takesSign_4 16 rfl rfl)
theorem dX8_takesSign_112 : decode cX8_takesSign 112 = .ok (.if_icmp .ne 7, 3) := dk_160 0 7 (dk_at dksX8_takesSign_4 18 rfl rfl)
theorem dX8_takesSign_115 : decode cX8_takesSign 115 = .ok (.iconst 5, 1) := dk_8 (dk_at dksX8_takesSign_4 21 rfl rfl)
theorem dX8_takesSign_116 : decode cX8_takesSign 116 = .ok (.goto 8, 3) := dk_167 0 8 (dk_at dksX8_takesSign_5 0 rfl rfl)
theorem dX8_takesSign_119 : decode cX8_takesSign 119 = .ok (.aload_n 0, 1) := dk_42 (dk_at dksX8_takesSign_5 3 rfl rfl)
theorem dX8_takesSign_120 : decode cX8_takesSign 120 = .ok (.iload_n 1, 1) := dk_27 (dk_at dksX8_takesSign_5 4 rfl rfl)
theorem dX8_takesSign_121 : decode cX8_takesSign 121 = .ok (.invokevirtual 221, 3) := dk_182 0 221 (dk_at dksX8_takesSign_5 5 rfl rfl)
theorem dX8_takesSign_124 : decode cX8_takesSign 124 = .ok (.invokevirtual 231, 3) := dk_182 0 231 (dk_at dksX8_takesSign_5 8 rfl rfl)
theorem dX8_takesSign_127 : decode cX8_takesSign 127 = .ok (.iload_n 1, 1) := dk_27 (dk_at dksX8_takesSign_5 11 rfl rfl)
theorem dX8_takesSign_128 : decode cX8_takesSign 128 = .ok (.iconst 5, 1) := dk_8 (dk_at dksX8_takesSign_5 12 rfl rfl)
theorem dX8_takesSign_129 : decode cX8_takesSign 129 = .ok (.if_icmp .eq 9, 3) := dk_159 0 9 (dk_at dksX8_takesSign_5 13 rfl rfl)
theorem dX8_takesSign_132 : decode cX8_takesSign 132 = .ok (.iload_n 1, 1) := dk_27 (dk_at dksX8_takesSign_5 16 rfl rfl)
theorem dX8_takesSign_133 : decode cX8_takesSign 133 = .ok (.bipush 6, 2) := dk_16 6 (dk_at dksX8_takesSign_5 17 rfl rfl)
theorem dX8_takesSign_135 : decode cX8_takesSign 135 = .ok (.if_icmp .ne 17, 3) := dk_160 0 17 (dk_at dksX8_takesSign_5 19 rfl rfl)
theorem dX8_takesSign_138 : decode cX8_takesSign 138 = .ok (.aload_n 0, 1) := dk_42 (dk_at dksX8_takesSign_5 22 rfl rfl)
theorem dX8_takesSign_139 : decode cX8_takesSign 139 = .ok (.aload_n 0, 1) := dk_42 (dk_at dksX8_takesSign_5 23 rfl rfl)
theorem dX8_takesSign_140 : decode cX8_takesSign 140 = .ok (.invokevirtual 217, 3) := dk_182 0 217 (dk_at dksX8_takesSign_6 0 rfl rfl)
theorem dX8_takesSign_143 : decode cX8_takesSign 143 = .ok (.invokevirtual 221, 3) := dk_182 0 221 (dk_at dksX8_takesSign_6 3 rfl rfl)
theorem dX8_takesSign_146 : decode cX8_takesSign 146 = .ok (.iconst 4, 1) := dk_7 (dk_at dksX8_takesSign_6 6 rfl rfl)
theorem dX8_takesSign_147 : decode cX8_takesSign 147 = .ok (.if_icmp .ne 5, 3) := dk_160 0 5 (dk_at dksX8_takesSign_6 7 rfl rfl)
theorem dX8_takesSign_150 : decode cX8_takesSign 150 = .ok (.iconst 0, 1) := dk_3 (dk_at dksX8_takesSign_6 10 rfl rfl)
theorem dX8_takesSign_151 : decode cX8_takesSign 151 = .ok (.ireturn, 1) := dk_172 (dk_at dksX8_takesSign_6 11 rfl rfl)
theorem dX8_takesSign_152 : decode cX8_takesSign 152 = .ok (.aload_n 0, 1) := dk_42 (dk_at dksX8_takesSign_6 12 rfl rfl)
theorem dX8_takesSign_153 : decode cX8_takesSign 153 = .ok (.iload_n 1, 1) := dk_27 (dk_at dksX8_takesSign_6 13 rfl rfl)
theorem dX8_takesSign_154 : decode cX8_takesSign 154 = .ok (.invokevirtual 228, 3) := dk_182 0 228 (dk_at dksX8_takesSign_6 14 rfl rfl)
theorem dX8_takesSign_157 : decode cX8_takesSign 157 = .ok (.iconst 1, 1) := dk_4 (dk_at dksX8_takesSign_6 17 rfl rfl)
theorem dX8_takesSign_158 : decode cX8_takesSign 158 = .ok (.ireturn, 1) := dk_172 (dk_at dksX8_takesSign_6 18 rfl rfl)
theorem dX8_takesSign_159 : decode cX8_takesSign 159 = .ok (.aload_n 0, 1) := dk_42 (dk_at dksX8_takesSign_6 19 rfl rfl)
theorem dX8_takesSign_160 : decode cX8_takesSign 160 = .ok (.getfield 72, 3) := dk_180 0 72 (dk_at dksX8_takesSign_6 20 rfl rfl)
theorem dX8_takesSign_163 : decode cX8_takesSign 163 = .ok (.bipush 41, 2) := dk_16 41 (dk_at dksX8_takesSign_7 0 rfl rfl)
theorem dX8_takesSign_165 : decode cX8_takesSign 165 = .ok (.if_icmp .eq 5, 3) := dk_159 0 5 (dk_at dksX8_takesSign_7 2 rfl rfl)
theorem dX8_takesSign_168 : decode cX8_takesSign 168 = .ok (.iconst 0, 1) := dk_3 (dk_at dksX8_takesSign_7 5 rfl rfl)
theorem dX8_takesSign_169 : decode cX8_takesSign 169 = .ok (.ireturn, 1) := dk_172 (dk_at dksX8_takesSign_7 6 rfl rfl)
theorem dX8_takesSign_170 : decode cX8_takesSign 170 = .ok (.aload_n 0, 1) := dk_42 (dk_at dksX8_takesSign_7 7 rfl rfl)
theorem dX8_takesSign_171 : decode cX8_takesSign 171 = .ok (.iconst 1, 1) := dk_4 (dk_at dksX8_takesSign_7 8 rfl rfl)
theorem dX8_takesSign_172 : decode cX8_takesSign 172 = .ok (.invokevirtual 231, 3) := dk_182 0 231 (dk_at dksX8_takesSign_7 9 rfl rfl)
theorem dX8_takesSign_175 : decode cX8_takesSign 175 = .ok (.aload_n 0, 1) := dk_42 (dk_at dksX8_takesSign_7 12 rfl rfl)
theorem dX8_takesSign_176 : decode cX8_takesSign 176 = .ok (.invokevirtual 217, 3) := dk_182 0 217 (dk_at dksX8_takesSign_7 13 rfl rfl)
theorem dX8_takesSign_179 : decode cX8_takesSign 179 = .ok (.bipush 20, 2) := dk_16 20 (dk_at dksX8_takesSign_7 16 rfl rfl)
theorem dX8_takesSign_181 : decode cX8_takesSign 181 = .ok (.if_icmp .eq 5, 3) := dk_159 0 5 (dk_at dksX8_takesSign_7 18 rfl rfl)
theorem dX8_takesSign_184 : decode cX8_takesSign 184 = .ok (.iconst 0, 1) := dk_3 (dk_at dksX8_takesSign_7 21 rfl rfl)
theorem dX8_takesSign_185 : decode cX8_takesSign 185 = .ok (.ireturn, 1) := dk_172 (dk_at dksX8_takesSign_7 22 rfl rfl)
theorem dX8_takesSign_186 : decode cX8_takesSign 186 = .ok (.aload_n 0, 1) := dk_42 (dk_at dksX8_takesSign_7 23 rfl rfl)
theorem dX8_takesSign_187 : decode cX8_takesSign 187 = .ok (.dup, 1) := dk_89 (dk_at dksX8_takesSign_8 0 rfl rfl)
theorem dX8_takesSign_188 : decode cX8_takesSign 188 = .ok (.getfield 84, 3) := dk_180 0 84 (dk_at dksX8_takesSign_8 1 rfl rfl)
theorem dX8_takesSign_191 : decode cX8_takesSign 191 = .ok (.iconst 1, 1) := dk_4 (dk_at dksX8_takesSign_8 4 rfl rfl)
theorem dX8_takesSign_192 : decode cX8_takesSign 192 = .ok (.isub, 1) := dk_100 (dk_at dksX8_takesSign_8 5 rfl rfl)
theorem dX8_takesSign_193 : decode cX8_takesSign 193 = .ok (.putfield 84, 3) := dk_181 0 84 (dk_at dksX8_takesSign_8 6 rfl rfl)
theorem dX8_takesSign_196 : decode cX8_takesSign 196 = .ok (.aload_n 0, 1) := dk_42 (dk_at dksX8_takesSign_8 9 rfl rfl)
theorem dX8_takesSign_197 : decode cX8_takesSign 197 = .ok (.dup, 1) := dk_89 (dk_at dksX8_takesSign_8 10 rfl rfl)
theorem dX8_takesSign_198 : decode cX8_takesSign 198 = .ok (.getfield 81, 3) := dk_180 0 81 (dk_at dksX8_takesSign_8 11 rfl rfl)
theorem dX8_takesSign_201 : decode cX8_takesSign 201 = .ok (.iconst 1, 1) := dk_4 (dk_at dksX8_takesSign_8 14 rfl rfl)
theorem dX8_takesSign_202 : decode cX8_takesSign 202 = .ok (.isub, 1) := dk_100 (dk_at dksX8_takesSign_8 15 rfl rfl)
theorem dX8_takesSign_203 : decode cX8_takesSign 203 = .ok (.putfield 81, 3) := dk_181 0 81 (dk_at dksX8_takesSign_8 16 rfl rfl)
theorem dX8_takesSign_206 : decode cX8_takesSign 206 = .ok (.aload_n 0, 1) := dk_42 (dk_at dksX8_takesSign_8 19 rfl rfl)
theorem dX8_takesSign_207 : decode cX8_takesSign 207 = .ok (.bipush 7, 2) := dk_16 7 (dk_at dksX8_takesSign_8 20 rfl rfl)
theorem dX8_takesSign_209 : decode cX8_takesSign 209 = .ok (.invokevirtual 231, 3) := dk_182 0 231 (dk_at dksX8_takesSign_9 0 rfl rfl)
theorem dX8_takesSign_212 : decode cX8_takesSign 212 = .ok (.iconst 2, 1) := dk_5 (dk_at dksX8_takesSign_9 3 rfl rfl)
theorem dX8_takesSign_213 : decode cX8_takesSign 213 = .ok (.ireturn, 1) := dk_172 (dk_at dksX8_takesSign_9 4 rfl rfl)
abbrev cX8_force : ByteArray := prog_16_method_32_code
def yX8_force : MethodName := ⟨RX8, "force", "(I)I"⟩
def dkwX8_force_1 : List UInt8 := [27, 181, 0, 63, 28, 172]
abbrev dktX8_force_1 : List UInt8 := dkwX8_force_1 ++ []
def dkwX8_force_0 : List UInt8 := [42, 27, 3, 42, 180, 0, 60, 4, 100, 182, 0, 7, 154, 0, 6, 16, 254, 172, 42, 180, 0, 63, 61, 42]
abbrev dktX8_force_0 : List UInt8 := dkwX8_force_0 ++ dktX8_force_1
theorem dksX8_force_0 : cX8_force.data.toList.drop 0 = dktX8_force_0 := by decide +kernel
theorem dksX8_force_1 : cX8_force.data.toList.drop 24 = dktX8_force_1 := dk_seg dksX8_force_0 24 rfl rfl
theorem dX8_force_0 : decode cX8_force 0 = .ok (.aload_n 0, 1) := dk_42 (dk_at dksX8_force_0 0 rfl rfl)
theorem dX8_force_1 : decode cX8_force 1 = .ok (.iload_n 1, 1) := dk_27 (dk_at dksX8_force_0 1 rfl rfl)
theorem dX8_force_2 : decode cX8_force 2 = .ok (.iconst 0, 1) := dk_3 (dk_at dksX8_force_0 2 rfl rfl)
theorem dX8_force_3 : decode cX8_force 3 = .ok (.aload_n 0, 1) := dk_42 (dk_at dksX8_force_0 3 rfl rfl)
theorem dX8_force_4 : decode cX8_force 4 = .ok (.getfield 60, 3) := dk_180 0 60 (dk_at dksX8_force_0 4 rfl rfl)
theorem dX8_force_7 : decode cX8_force 7 = .ok (.iconst 1, 1) := dk_4 (dk_at dksX8_force_0 7 rfl rfl)
theorem dX8_force_8 : decode cX8_force 8 = .ok (.isub, 1) := dk_100 (dk_at dksX8_force_0 8 rfl rfl)
theorem dX8_force_9 : decode cX8_force 9 = .ok (.invokevirtual 7, 3) := dk_182 0 7 (dk_at dksX8_force_0 9 rfl rfl)
theorem dX8_force_12 : decode cX8_force 12 = .ok (.ifCond .ne 6, 3) := dk_154 0 6 (dk_at dksX8_force_0 12 rfl rfl)
theorem dX8_force_15 : decode cX8_force 15 = .ok (.bipush (-2), 2) := dk_16 254 (dk_at dksX8_force_0 15 rfl rfl)
theorem dX8_force_17 : decode cX8_force 17 = .ok (.ireturn, 1) := dk_172 (dk_at dksX8_force_0 17 rfl rfl)
theorem dX8_force_18 : decode cX8_force 18 = .ok (.aload_n 0, 1) := dk_42 (dk_at dksX8_force_0 18 rfl rfl)
theorem dX8_force_19 : decode cX8_force 19 = .ok (.getfield 63, 3) := dk_180 0 63 (dk_at dksX8_force_0 19 rfl rfl)
theorem dX8_force_22 : decode cX8_force 22 = .ok (.istore_n 2, 1) := dk_61 (dk_at dksX8_force_0 22 rfl rfl)
theorem dX8_force_23 : decode cX8_force 23 = .ok (.aload_n 0, 1) := dk_42 (dk_at dksX8_force_0 23 rfl rfl)
theorem dX8_force_24 : decode cX8_force 24 = .ok (.iload_n 1, 1) := dk_27 (dk_at dksX8_force_1 0 rfl rfl)
theorem dX8_force_25 : decode cX8_force 25 = .ok (.putfield 63, 3) := dk_181 0 63 (dk_at dksX8_force_1 1 rfl rfl)
theorem dX8_force_28 : decode cX8_force 28 = .ok (.iload_n 2, 1) := dk_28 (dk_at dksX8_force_1 4 rfl rfl)
theorem dX8_force_29 : decode cX8_force 29 = .ok (.ireturn, 1) := dk_172 (dk_at dksX8_force_1 5 rfl rfl)
abbrev cX8_told : ByteArray := prog_16_method_42_code
def yX8_told : MethodName := ⟨RX8, "told", "(IIII)I"⟩
def dkwX8_told_3 : List UInt8 := [182, 1, 15, 167, 0, 10, 42, 27, 28, 29, 182, 1, 31, 172]
abbrev dktX8_told_3 : List UInt8 := dkwX8_told_3 ++ []
def dkwX8_told_2 : List UInt8 := [182, 1, 11, 153, 0, 7, 4, 167, 0, 29, 3, 167, 0, 25, 21, 4, 4, 160, 0, 12, 42, 27, 28]
abbrev dktX8_told_2 : List UInt8 := dkwX8_told_2 ++ dktX8_told_3
def dkwX8_told_1 : List UInt8 := [42, 21, 4, 3, 5, 182, 0, 7, 154, 0, 6, 16, 254, 172, 21, 4, 154, 0, 20, 42, 27, 29]
abbrev dktX8_told_1 : List UInt8 := dkwX8_told_1 ++ dktX8_told_2
def dkwX8_told_0 : List UInt8 := [42, 27, 182, 1, 25, 153, 0, 30, 42, 28, 182, 0, 51, 153, 0, 22, 42, 29, 182, 1, 28, 153, 0, 14]
abbrev dktX8_told_0 : List UInt8 := dkwX8_told_0 ++ dktX8_told_1
theorem dksX8_told_0 : cX8_told.data.toList.drop 0 = dktX8_told_0 := by decide +kernel
theorem dksX8_told_1 : cX8_told.data.toList.drop 24 = dktX8_told_1 := dk_seg dksX8_told_0 24 rfl rfl
theorem dksX8_told_2 : cX8_told.data.toList.drop 46 = dktX8_told_2 := dk_seg dksX8_told_1 22 rfl rfl
theorem dksX8_told_3 : cX8_told.data.toList.drop 69 = dktX8_told_3 := dk_seg dksX8_told_2 23 rfl rfl
theorem dX8_told_0 : decode cX8_told 0 = .ok (.aload_n 0, 1) := dk_42 (dk_at dksX8_told_0 0 rfl rfl)
theorem dX8_told_1 : decode cX8_told 1 = .ok (.iload_n 1, 1) := dk_27 (dk_at dksX8_told_0 1 rfl rfl)
theorem dX8_told_2 : decode cX8_told 2 = .ok (.invokevirtual 281, 3) := dk_182 1 25 (dk_at dksX8_told_0 2 rfl rfl)
theorem dX8_told_5 : decode cX8_told 5 = .ok (.ifCond .eq 30, 3) := dk_153 0 30 (dk_at dksX8_told_0 5 rfl rfl)
theorem dX8_told_8 : decode cX8_told 8 = .ok (.aload_n 0, 1) := dk_42 (dk_at dksX8_told_0 8 rfl rfl)
theorem dX8_told_9 : decode cX8_told 9 = .ok (.iload_n 2, 1) := dk_28 (dk_at dksX8_told_0 9 rfl rfl)
theorem dX8_told_10 : decode cX8_told 10 = .ok (.invokevirtual 51, 3) := dk_182 0 51 (dk_at dksX8_told_0 10 rfl rfl)
theorem dX8_told_13 : decode cX8_told 13 = .ok (.ifCond .eq 22, 3) := dk_153 0 22 (dk_at dksX8_told_0 13 rfl rfl)
theorem dX8_told_16 : decode cX8_told 16 = .ok (.aload_n 0, 1) := dk_42 (dk_at dksX8_told_0 16 rfl rfl)
theorem dX8_told_17 : decode cX8_told 17 = .ok (.iload_n 3, 1) := dk_29 (dk_at dksX8_told_0 17 rfl rfl)
theorem dX8_told_18 : decode cX8_told 18 = .ok (.invokevirtual 284, 3) := dk_182 1 28 (dk_at dksX8_told_0 18 rfl rfl)
theorem dX8_told_21 : decode cX8_told 21 = .ok (.ifCond .eq 14, 3) := dk_153 0 14 (dk_at dksX8_told_0 21 rfl rfl)
theorem dX8_told_24 : decode cX8_told 24 = .ok (.aload_n 0, 1) := dk_42 (dk_at dksX8_told_1 0 rfl rfl)
theorem dX8_told_25 : decode cX8_told 25 = .ok (.iload 4, 2) := dk_21 4 (dk_at dksX8_told_1 1 rfl rfl)
theorem dX8_told_27 : decode cX8_told 27 = .ok (.iconst 0, 1) := dk_3 (dk_at dksX8_told_1 3 rfl rfl)
theorem dX8_told_28 : decode cX8_told 28 = .ok (.iconst 2, 1) := dk_5 (dk_at dksX8_told_1 4 rfl rfl)
theorem dX8_told_29 : decode cX8_told 29 = .ok (.invokevirtual 7, 3) := dk_182 0 7 (dk_at dksX8_told_1 5 rfl rfl)
theorem dX8_told_32 : decode cX8_told 32 = .ok (.ifCond .ne 6, 3) := dk_154 0 6 (dk_at dksX8_told_1 8 rfl rfl)
theorem dX8_told_35 : decode cX8_told 35 = .ok (.bipush (-2), 2) := dk_16 254 (dk_at dksX8_told_1 11 rfl rfl)
theorem dX8_told_37 : decode cX8_told 37 = .ok (.ireturn, 1) := dk_172 (dk_at dksX8_told_1 13 rfl rfl)
theorem dX8_told_38 : decode cX8_told 38 = .ok (.iload 4, 2) := dk_21 4 (dk_at dksX8_told_1 14 rfl rfl)
theorem dX8_told_40 : decode cX8_told 40 = .ok (.ifCond .ne 20, 3) := dk_154 0 20 (dk_at dksX8_told_1 16 rfl rfl)
theorem dX8_told_43 : decode cX8_told 43 = .ok (.aload_n 0, 1) := dk_42 (dk_at dksX8_told_1 19 rfl rfl)
theorem dX8_told_44 : decode cX8_told 44 = .ok (.iload_n 1, 1) := dk_27 (dk_at dksX8_told_1 20 rfl rfl)
theorem dX8_told_45 : decode cX8_told 45 = .ok (.iload_n 3, 1) := dk_29 (dk_at dksX8_told_1 21 rfl rfl)
theorem dX8_told_46 : decode cX8_told 46 = .ok (.invokevirtual 267, 3) := dk_182 1 11 (dk_at dksX8_told_2 0 rfl rfl)
theorem dX8_told_49 : decode cX8_told 49 = .ok (.ifCond .eq 7, 3) := dk_153 0 7 (dk_at dksX8_told_2 3 rfl rfl)
theorem dX8_told_52 : decode cX8_told 52 = .ok (.iconst 1, 1) := dk_4 (dk_at dksX8_told_2 6 rfl rfl)
theorem dX8_told_53 : decode cX8_told 53 = .ok (.goto 29, 3) := dk_167 0 29 (dk_at dksX8_told_2 7 rfl rfl)
theorem dX8_told_56 : decode cX8_told 56 = .ok (.iconst 0, 1) := dk_3 (dk_at dksX8_told_2 10 rfl rfl)
theorem dX8_told_57 : decode cX8_told 57 = .ok (.goto 25, 3) := dk_167 0 25 (dk_at dksX8_told_2 11 rfl rfl)
theorem dX8_told_60 : decode cX8_told 60 = .ok (.iload 4, 2) := dk_21 4 (dk_at dksX8_told_2 14 rfl rfl)
theorem dX8_told_62 : decode cX8_told 62 = .ok (.iconst 1, 1) := dk_4 (dk_at dksX8_told_2 16 rfl rfl)
theorem dX8_told_63 : decode cX8_told 63 = .ok (.if_icmp .ne 12, 3) := dk_160 0 12 (dk_at dksX8_told_2 17 rfl rfl)
theorem dX8_told_66 : decode cX8_told 66 = .ok (.aload_n 0, 1) := dk_42 (dk_at dksX8_told_2 20 rfl rfl)
theorem dX8_told_67 : decode cX8_told 67 = .ok (.iload_n 1, 1) := dk_27 (dk_at dksX8_told_2 21 rfl rfl)
theorem dX8_told_68 : decode cX8_told 68 = .ok (.iload_n 2, 1) := dk_28 (dk_at dksX8_told_2 22 rfl rfl)
theorem dX8_told_69 : decode cX8_told 69 = .ok (.invokevirtual 271, 3) := dk_182 1 15 (dk_at dksX8_told_3 0 rfl rfl)
theorem dX8_told_72 : decode cX8_told 72 = .ok (.goto 10, 3) := dk_167 0 10 (dk_at dksX8_told_3 3 rfl rfl)
theorem dX8_told_75 : decode cX8_told 75 = .ok (.aload_n 0, 1) := dk_42 (dk_at dksX8_told_3 6 rfl rfl)
theorem dX8_told_76 : decode cX8_told 76 = .ok (.iload_n 1, 1) := dk_27 (dk_at dksX8_told_3 7 rfl rfl)
theorem dX8_told_77 : decode cX8_told 77 = .ok (.iload_n 2, 1) := dk_28 (dk_at dksX8_told_3 8 rfl rfl)
theorem dX8_told_78 : decode cX8_told 78 = .ok (.iload_n 3, 1) := dk_29 (dk_at dksX8_told_3 9 rfl rfl)
theorem dX8_told_79 : decode cX8_told 79 = .ok (.invokevirtual 287, 3) := dk_182 1 31 (dk_at dksX8_told_3 10 rfl rfl)
theorem dX8_told_82 : decode cX8_told 82 = .ok (.ireturn, 1) := dk_172 (dk_at dksX8_told_3 13 rfl rfl)
