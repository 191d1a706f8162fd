set_option maxRecDepth 100000
abbrev cX8_isHow : ByteArray := prog_16_method_4_code
def yX8_isHow : MethodName := ⟨RX8, "isHow", "(I)Z"⟩
def dkwX8_isHow_0 : List UInt8 := [42, 27, 3, 42, 180, 0, 14, 4, 100, 182, 0, 7, 172]
abbrev dktX8_isHow_0 : List UInt8 := dkwX8_isHow_0 ++ []
theorem dksX8_isHow_0 : cX8_isHow.data.toList.drop 0 = dktX8_isHow_0 := by decide +kernel
theorem dX8_isHow_0 : decode cX8_isHow 0 = .ok (.aload_n 0, 1) := dk_42 (dk_at dksX8_isHow_0 0 rfl rfl)
theorem dX8_isHow_1 : decode cX8_isHow 1 = .ok (.iload_n 1, 1) := dk_27 (dk_at dksX8_isHow_0 1 rfl rfl)
theorem dX8_isHow_2 : decode cX8_isHow 2 = .ok (.iconst 0, 1) := dk_3 (dk_at dksX8_isHow_0 2 rfl rfl)
theorem dX8_isHow_3 : decode cX8_isHow 3 = .ok (.aload_n 0, 1) := dk_42 (dk_at dksX8_isHow_0 3 rfl rfl)
theorem dX8_isHow_4 : decode cX8_isHow 4 = .ok (.getfield 14, 3) := dk_180 0 14 (dk_at dksX8_isHow_0 4 rfl rfl)
theorem dX8_isHow_7 : decode cX8_isHow 7 = .ok (.iconst 1, 1) := dk_4 (dk_at dksX8_isHow_0 7 rfl rfl)
theorem dX8_isHow_8 : decode cX8_isHow 8 = .ok (.isub, 1) := dk_100 (dk_at dksX8_isHow_0 8 rfl rfl)
theorem dX8_isHow_9 : decode cX8_isHow 9 = .ok (.invokevirtual 7, 3) := dk_182 0 7 (dk_at dksX8_isHow_0 9 rfl rfl)
theorem dX8_isHow_12 : decode cX8_isHow 12 = .ok (.ireturn, 1) := dk_172 (dk_at dksX8_isHow_0 12 rfl rfl)
abbrev cX8_isNight : ByteArray := prog_16_method_3_code
def yX8_isNight : MethodName := ⟨RX8, "isNight", "(I)Z"⟩
def dkwX8_isNight_0 : List UInt8 := [42, 27, 3, 42, 180, 0, 11, 4, 100, 182, 0, 7, 172]
abbrev dktX8_isNight_0 : List UInt8 := dkwX8_isNight_0 ++ []
theorem dksX8_isNight_0 : cX8_isNight.data.toList.drop 0 = dktX8_isNight_0 := by decide +kernel
theorem dX8_isNight_0 : decode cX8_isNight 0 = .ok (.aload_n 0, 1) := dk_42 (dk_at dksX8_isNight_0 0 rfl rfl)
theorem dX8_isNight_1 : decode cX8_isNight 1 = .ok (.iload_n 1, 1) := dk_27 (dk_at dksX8_isNight_0 1 rfl rfl)
theorem dX8_isNight_2 : decode cX8_isNight 2 = .ok (.iconst 0, 1) := dk_3 (dk_at dksX8_isNight_0 2 rfl rfl)
theorem dX8_isNight_3 : decode cX8_isNight 3 = .ok (.aload_n 0, 1) := dk_42 (dk_at dksX8_isNight_0 3 rfl rfl)
theorem dX8_isNight_4 : decode cX8_isNight 4 = .ok (.getfield 11, 3) := dk_180 0 11 (dk_at dksX8_isNight_0 4 rfl rfl)
theorem dX8_isNight_7 : decode cX8_isNight 7 = .ok (.iconst 1, 1) := dk_4 (dk_at dksX8_isNight_0 7 rfl rfl)
theorem dX8_isNight_8 : decode cX8_isNight 8 = .ok (.isub, 1) := dk_100 (dk_at dksX8_isNight_0 8 rfl rfl)
theorem dX8_isNight_9 : decode cX8_isNight 9 = .ok (.invokevirtual 7, 3) := dk_182 0 7 (dk_at dksX8_isNight_0 9 rfl rfl)
theorem dX8_isNight_12 : decode cX8_isNight 12 = .ok (.ireturn, 1) := dk_172 (dk_at dksX8_isNight_0 12 rfl rfl)
abbrev cX8_may : ByteArray := prog_16_method_37_code
def yX8_may : MethodName := ⟨RX8, "may", "(II)Z"⟩
def dkwX8_may_3 : List UInt8 := [164, 0, 7, 4, 167, 0, 4, 3, 172, 42, 42, 180, 0, 28, 28, 46, 4, 7, 182, 0, 7, 172, 4, 172]
abbrev dktX8_may_3 : List UInt8 := dkwX8_may_3 ++ []
def dkwX8_may_2 : List UInt8 := [42, 180, 0, 28, 28, 46, 5, 164, 0, 7, 4, 167, 0, 4, 3, 172, 42, 180, 0, 28, 28, 46, 8]
abbrev dktX8_may_2 : List UInt8 := dkwX8_may_2 ++ dktX8_may_3
def dkwX8_may_1 : List UInt8 := [170, 0, 0, 0, 0, 0, 72, 0, 0, 0, 2, 0, 0, 0, 4, 0, 0, 0, 27, 0, 0, 0, 43, 0, 0, 0, 59]
abbrev dktX8_may_1 : List UInt8 := dkwX8_may_1 ++ dktX8_may_2
def dkwX8_may_0 : List UInt8 := [42, 180, 0, 25, 28, 46, 154, 0, 5, 3, 172, 42, 180, 0, 45, 27, 46]
abbrev dktX8_may_0 : List UInt8 := dkwX8_may_0 ++ dktX8_may_1
theorem dksX8_may_0 : cX8_may.data.toList.drop 0 = dktX8_may_0 := by decide +kernel
theorem dksX8_may_1 : cX8_may.data.toList.drop 17 = dktX8_may_1 := dk_seg dksX8_may_0 17 rfl rfl
theorem dksX8_may_2 : cX8_may.data.toList.drop 44 = dktX8_may_2 := dk_seg dksX8_may_1 27 rfl rfl
theorem dksX8_may_3 : cX8_may.data.toList.drop 67 = dktX8_may_3 := dk_seg dksX8_may_2 23 rfl rfl
theorem dX8_may_0 : decode cX8_may 0 = .ok (.aload_n 0, 1) := dk_42 (dk_at dksX8_may_0 0 rfl rfl)
theorem dX8_may_1 : decode cX8_may 1 = .ok (.getfield 25, 3) := dk_180 0 25 (dk_at dksX8_may_0 1 rfl rfl)
theorem dX8_may_4 : decode cX8_may 4 = .ok (.iload_n 2, 1) := dk_28 (dk_at dksX8_may_0 4 rfl rfl)
theorem dX8_may_5 : decode cX8_may 5 = .ok (.iaload, 1) := dk_46 (dk_at dksX8_may_0 5 rfl rfl)
theorem dX8_may_6 : decode cX8_may 6 = .ok (.ifCond .ne 5, 3) := dk_154 0 5 (dk_at dksX8_may_0 6 rfl rfl)
theorem dX8_may_9 : decode cX8_may 9 = .ok (.iconst 0, 1) := dk_3 (dk_at dksX8_may_0 9 rfl rfl)
theorem dX8_may_10 : decode cX8_may 10 = .ok (.ireturn, 1) := dk_172 (dk_at dksX8_may_0 10 rfl rfl)
theorem dX8_may_11 : decode cX8_may 11 = .ok (.aload_n 0, 1) := dk_42 (dk_at dksX8_may_0 11 rfl rfl)
theorem dX8_may_12 : decode cX8_may 12 = .ok (.getfield 45, 3) := dk_180 0 45 (dk_at dksX8_may_0 12 rfl rfl)
theorem dX8_may_15 : decode cX8_may 15 = .ok (.iload_n 1, 1) := dk_27 (dk_at dksX8_may_0 15 rfl rfl)
theorem dX8_may_16 : decode cX8_may 16 = .ok (.iaload, 1) := dk_46 (dk_at dksX8_may_0 16 rfl rfl)
theorem dX8_may_17 : decode cX8_may 17 = .ok (.tableswitch 72 2 4 #[27, 43, 59], 27) := by decide +kernel
theorem dX8_may_44 : decode cX8_may 44 = .ok (.aload_n 0, 1) := dk_42 (dk_at dksX8_may_2 0 rfl rfl)
theorem dX8_may_45 : decode cX8_may 45 = .ok (.getfield 28, 3) := dk_180 0 28 (dk_at dksX8_may_2 1 rfl rfl)
theorem dX8_may_48 : decode cX8_may 48 = .ok (.iload_n 2, 1) := dk_28 (dk_at dksX8_may_2 4 rfl rfl)
theorem dX8_may_49 : decode cX8_may 49 = .ok (.iaload, 1) := dk_46 (dk_at dksX8_may_2 5 rfl rfl)
theorem dX8_may_50 : decode cX8_may 50 = .ok (.iconst 2, 1) := dk_5 (dk_at dksX8_may_2 6 rfl rfl)
theorem dX8_may_51 : decode cX8_may 51 = .ok (.if_icmp .le 7, 3) := dk_164 0 7 (dk_at dksX8_may_2 7 rfl rfl)
theorem dX8_may_54 : decode cX8_may 54 = .ok (.iconst 1, 1) := dk_4 (dk_at dksX8_may_2 10 rfl rfl)
theorem dX8_may_55 : decode cX8_may 55 = .ok (.goto 4, 3) := dk_167 0 4 (dk_at dksX8_may_2 11 rfl rfl)
theorem dX8_may_58 : decode cX8_may 58 = .ok (.iconst 0, 1) := dk_3 (dk_at dksX8_may_2 14 rfl rfl)
theorem dX8_may_59 : decode cX8_may 59 = .ok (.ireturn, 1) := dk_172 (dk_at dksX8_may_2 15 rfl rfl)
theorem dX8_may_60 : decode cX8_may 60 = .ok (.aload_n 0, 1) := dk_42 (dk_at dksX8_may_2 16 rfl rfl)
theorem dX8_may_61 : decode cX8_may 61 = .ok (.getfield 28, 3) := dk_180 0 28 (dk_at dksX8_may_2 17 rfl rfl)
theorem dX8_may_64 : decode cX8_may 64 = .ok (.iload_n 2, 1) := dk_28 (dk_at dksX8_may_2 20 rfl rfl)
theorem dX8_may_65 : decode cX8_may 65 = .ok (.iaload, 1) := dk_46 (dk_at dksX8_may_2 21 rfl rfl)
theorem dX8_may_66 : decode cX8_may 66 = .ok (.iconst 5, 1) := dk_8 (dk_at dksX8_may_2 22 rfl rfl)
theorem dX8_may_67 : decode cX8_may 67 = .ok (.if_icmp .le 7, 3) := dk_164 0 7 (dk_at dksX8_may_3 0 rfl rfl)
theorem dX8_may_70 : decode cX8_may 70 = .ok (.iconst 1, 1) := dk_4 (dk_at dksX8_may_3 3 rfl rfl)
theorem dX8_may_71 : decode cX8_may 71 = .ok (.goto 4, 3) := dk_167 0 4 (dk_at dksX8_may_3 4 rfl rfl)
theorem dX8_may_74 : decode cX8_may 74 = .ok (.iconst 0, 1) := dk_3 (dk_at dksX8_may_3 7 rfl rfl)
theorem dX8_may_75 : decode cX8_may 75 = .ok (.ireturn, 1) := dk_172 (dk_at dksX8_may_3 8 rfl rfl)
theorem dX8_may_76 : decode cX8_may 76 = .ok (.aload_n 0, 1) := dk_42 (dk_at dksX8_may_3 9 rfl rfl)
theorem dX8_may_77 : decode cX8_may 77 = .ok (.aload_n 0, 1) := dk_42 (dk_at dksX8_may_3 10 rfl rfl)
theorem dX8_may_78 : decode cX8_may 78 = .ok (.getfield 28, 3) := dk_180 0 28 (dk_at dksX8_may_3 11 rfl rfl)
theorem dX8_may_81 : decode cX8_may 81 = .ok (.iload_n 2, 1) := dk_28 (dk_at dksX8_may_3 14 rfl rfl)
theorem dX8_may_82 : decode cX8_may 82 = .ok (.iaload, 1) := dk_46 (dk_at dksX8_may_3 15 rfl rfl)
theorem dX8_may_83 : decode cX8_may 83 = .ok (.iconst 1, 1) := dk_4 (dk_at dksX8_may_3 16 rfl rfl)
theorem dX8_may_84 : decode cX8_may 84 = .ok (.iconst 4, 1) := dk_7 (dk_at dksX8_may_3 17 rfl rfl)
theorem dX8_may_85 : decode cX8_may 85 = .ok (.invokevirtual 7, 3) := dk_182 0 7 (dk_at dksX8_may_3 18 rfl rfl)
theorem dX8_may_88 : decode cX8_may 88 = .ok (.ireturn, 1) := dk_172 (dk_at dksX8_may_3 21 rfl rfl)
theorem dX8_may_89 : decode cX8_may 89 = .ok (.iconst 1, 1) := dk_4 (dk_at dksX8_may_3 22 rfl rfl)
theorem dX8_may_90 : decode cX8_may 90 = .ok (.ireturn, 1) := dk_172 (dk_at dksX8_may_3 23 rfl rfl)
abbrev cX8_drag : ByteArray := prog_16_method_38_code
def yX8_drag : MethodName := ⟨RX8, "drag", "(II)I"⟩
def dkwX8_drag_3 : List UInt8 := [108, 5, 108, 172, 3, 172]
abbrev dktX8_drag_3 : List UInt8 := dkwX8_drag_3 ++ []
def dkwX8_drag_2 : List UInt8 := [5, 42, 180, 0, 21, 28, 46, 104, 172, 29, 172, 29, 7, 108, 172, 42, 180, 0, 48, 27, 46, 172, 29, 7]
abbrev dktX8_drag_2 : List UInt8 := dkwX8_drag_2 ++ dktX8_drag_3
def dkwX8_drag_1 : List UInt8 := [170, 0, 0, 0, 0, 62, 0, 0, 0, 0, 0, 0, 0, 4, 0, 0, 0, 34, 0, 0, 0, 43, 0, 0, 0, 45, 0, 0, 0, 49, 0, 0, 0, 56]
abbrev dktX8_drag_1 : List UInt8 := dkwX8_drag_1 ++ dktX8_drag_2
def dkwX8_drag_0 : List UInt8 := [5, 42, 180, 0, 21, 28, 46, 104, 42, 180, 0, 48, 27, 46, 96, 62, 42, 180, 0, 45, 27, 46]
abbrev dktX8_drag_0 : List UInt8 := dkwX8_drag_0 ++ dktX8_drag_1
theorem dksX8_drag_0 : cX8_drag.data.toList.drop 0 = dktX8_drag_0 := by decide +kernel
theorem dksX8_drag_1 : cX8_drag.data.toList.drop 22 = dktX8_drag_1 := dk_seg dksX8_drag_0 22 rfl rfl
theorem dksX8_drag_2 : cX8_drag.data.toList.drop 56 = dktX8_drag_2 := dk_seg dksX8_drag_1 34 rfl rfl
theorem dksX8_drag_3 : cX8_drag.data.toList.drop 80 = dktX8_drag_3 := dk_seg dksX8_drag_2 24 rfl rfl
theorem dX8_drag_0 : decode cX8_drag 0 = .ok (.iconst 2, 1) := dk_5 (dk_at dksX8_drag_0 0 rfl rfl)
theorem dX8_drag_1 : decode cX8_drag 1 = .ok (.aload_n 0, 1) := dk_42 (dk_at dksX8_drag_0 1 rfl rfl)
theorem dX8_drag_2 : decode cX8_drag 2 = .ok (.getfield 21, 3) := dk_180 0 21 (dk_at dksX8_drag_0 2 rfl rfl)
theorem dX8_drag_5 : decode cX8_drag 5 = .ok (.iload_n 2, 1) := dk_28 (dk_at dksX8_drag_0 5 rfl rfl)
theorem dX8_drag_6 : decode cX8_drag 6 = .ok (.iaload, 1) := dk_46 (dk_at dksX8_drag_0 6 rfl rfl)
theorem dX8_drag_7 : decode cX8_drag 7 = .ok (.imul, 1) := dk_104 (dk_at dksX8_drag_0 7 rfl rfl)
theorem dX8_drag_8 : decode cX8_drag 8 = .ok (.aload_n 0, 1) := dk_42 (dk_at dksX8_drag_0 8 rfl rfl)
theorem dX8_drag_9 : decode cX8_drag 9 = .ok (.getfield 48, 3) := dk_180 0 48 (dk_at dksX8_drag_0 9 rfl rfl)
theorem dX8_drag_12 : decode cX8_drag 12 = .ok (.iload_n 1, 1) := dk_27 (dk_at dksX8_drag_0 12 rfl rfl)
theorem dX8_drag_13 : decode cX8_drag 13 = .ok (.iaload, 1) := dk_46 (dk_at dksX8_drag_0 13 rfl rfl)
theorem dX8_drag_14 : decode cX8_drag 14 = .ok (.iadd, 1) := dk_96 (dk_at dksX8_drag_0 14 rfl rfl)
theorem dX8_drag_15 : decode cX8_drag 15 = .ok (.istore_n 3, 1) := dk_62 (dk_at dksX8_drag_0 15 rfl rfl)
theorem dX8_drag_16 : decode cX8_drag 16 = .ok (.aload_n 0, 1) := dk_42 (dk_at dksX8_drag_0 16 rfl rfl)
theorem dX8_drag_17 : decode cX8_drag 17 = .ok (.getfield 45, 3) := dk_180 0 45 (dk_at dksX8_drag_0 17 rfl rfl)
theorem dX8_drag_20 : decode cX8_drag 20 = .ok (.iload_n 1, 1) := dk_27 (dk_at dksX8_drag_0 20 rfl rfl)
theorem dX8_drag_21 : decode cX8_drag 21 = .ok (.iaload, 1) := dk_46 (dk_at dksX8_drag_0 21 rfl rfl)
theorem dX8_drag_22 : decode cX8_drag 22 = .ok (.tableswitch 62 0 4 #[34, 43, 45, 49, 56], 34) := by decide +kernel
theorem dX8_drag_56 : decode cX8_drag 56 = .ok (.iconst 2, 1) := dk_5 (dk_at dksX8_drag_2 0 rfl rfl)
theorem dX8_drag_57 : decode cX8_drag 57 = .ok (.aload_n 0, 1) := dk_42 (dk_at dksX8_drag_2 1 rfl rfl)
theorem dX8_drag_58 : decode cX8_drag 58 = .ok (.getfield 21, 3) := dk_180 0 21 (dk_at dksX8_drag_2 2 rfl rfl)
theorem dX8_drag_61 : decode cX8_drag 61 = .ok (.iload_n 2, 1) := dk_28 (dk_at dksX8_drag_2 5 rfl rfl)
theorem dX8_drag_62 : decode cX8_drag 62 = .ok (.iaload, 1) := dk_46 (dk_at dksX8_drag_2 6 rfl rfl)
theorem dX8_drag_63 : decode cX8_drag 63 = .ok (.imul, 1) := dk_104 (dk_at dksX8_drag_2 7 rfl rfl)
theorem dX8_drag_64 : decode cX8_drag 64 = .ok (.ireturn, 1) := dk_172 (dk_at dksX8_drag_2 8 rfl rfl)
theorem dX8_drag_65 : decode cX8_drag 65 = .ok (.iload_n 3, 1) := dk_29 (dk_at dksX8_drag_2 9 rfl rfl)
theorem dX8_drag_66 : decode cX8_drag 66 = .ok (.ireturn, 1) := dk_172 (dk_at dksX8_drag_2 10 rfl rfl)
theorem dX8_drag_67 : decode cX8_drag 67 = .ok (.iload_n 3, 1) := dk_29 (dk_at dksX8_drag_2 11 rfl rfl)
theorem dX8_drag_68 : decode cX8_drag 68 = .ok (.iconst 4, 1) := dk_7 (dk_at dksX8_drag_2 12 rfl rfl)
theorem dX8_drag_69 : decode cX8_drag 69 = .ok (.idiv, 1) := dk_108 (dk_at dksX8_drag_2 13 rfl rfl)
theorem dX8_drag_70 : decode cX8_drag 70 = .ok (.ireturn, 1) := dk_172 (dk_at dksX8_drag_2 14 rfl rfl)
theorem dX8_drag_71 : decode cX8_drag 71 = .ok (.aload_n 0, 1) := dk_42 (dk_at dksX8_drag_2 15 rfl rfl)
theorem dX8_drag_72 : decode cX8_drag 72 = .ok (.getfield 48, 3) := dk_180 0 48 (dk_at dksX8_drag_2 16 rfl rfl)
theorem dX8_drag_75 : decode cX8_drag 75 = .ok (.iload_n 1, 1) := dk_27 (dk_at dksX8_drag_2 19 rfl rfl)
theorem dX8_drag_76 : decode cX8_drag 76 = .ok (.iaload, 1) := dk_46 (dk_at dksX8_drag_2 20 rfl rfl)
theorem dX8_drag_77 : decode cX8_drag 77 = .ok (.ireturn, 1) := dk_172 (dk_at dksX8_drag_2 21 rfl rfl)
theorem dX8_drag_78 : decode cX8_drag 78 = .ok (.iload_n 3, 1) := dk_29 (dk_at dksX8_drag_2 22 rfl rfl)
theorem dX8_drag_79 : decode cX8_drag 79 = .ok (.iconst 4, 1) := dk_7 (dk_at dksX8_drag_2 23 rfl rfl)
theorem dX8_drag_80 : decode cX8_drag 80 = .ok (.idiv, 1) := dk_108 (dk_at dksX8_drag_3 0 rfl rfl)
theorem dX8_drag_81 : decode cX8_drag 81 = .ok (.iconst 2, 1) := dk_5 (dk_at dksX8_drag_3 1 rfl rfl)
theorem dX8_drag_82 : decode cX8_drag 82 = .ok (.idiv, 1) := dk_108 (dk_at dksX8_drag_3 2 rfl rfl)
theorem dX8_drag_83 : decode cX8_drag 83 = .ok (.ireturn, 1) := dk_172 (dk_at dksX8_drag_3 3 rfl rfl)
theorem dX8_drag_84 : decode cX8_drag 84 = .ok (.iconst 0, 1) := dk_3 (dk_at dksX8_drag_3 4 rfl rfl)
theorem dX8_drag_85 : decode cX8_drag 85 = .ok (.ireturn, 1) := dk_172 (dk_at dksX8_drag_3 5 rfl rfl)
abbrev cX8_pushes : ByteArray := prog_16_method_40_code
def yX8_pushes : MethodName := ⟨RX8, "pushes", "(III)I"⟩
def dkwX8_pushes_3 : List UInt8 := [21, 4, 172]
abbrev dktX8_pushes_3 : List UInt8 := dkwX8_pushes_3 ++ []
def dkwX8_pushes_2 : List UInt8 := [16, 247, 162, 0, 8, 16, 247, 167, 0, 5, 21, 5, 96, 54, 4, 21, 4, 156, 0, 7, 3, 167, 0, 5]
abbrev dktX8_pushes_2 : List UInt8 := dkwX8_pushes_2 ++ dktX8_pushes_3
def dkwX8_pushes_1 : List UInt8 := [29, 27, 182, 1, 22, 54, 5, 21, 4, 21, 5, 16, 9, 164, 0, 8, 16, 9, 167, 0, 17, 21, 5]
abbrev dktX8_pushes_1 : List UInt8 := dkwX8_pushes_1 ++ dktX8_pushes_2
def dkwX8_pushes_0 : List UInt8 := [42, 27, 28, 29, 182, 1, 19, 54, 4, 21, 4, 154, 0, 5, 3, 172, 42, 3, 42, 180, 0, 21, 28, 46]
abbrev dktX8_pushes_0 : List UInt8 := dkwX8_pushes_0 ++ dktX8_pushes_1
theorem dksX8_pushes_0 : cX8_pushes.data.toList.drop 0 = dktX8_pushes_0 := by decide +kernel
theorem dksX8_pushes_1 : cX8_pushes.data.toList.drop 24 = dktX8_pushes_1 := dk_seg dksX8_pushes_0 24 rfl rfl
theorem dksX8_pushes_2 : cX8_pushes.data.toList.drop 47 = dktX8_pushes_2 := dk_seg dksX8_pushes_1 23 rfl rfl
theorem dksX8_pushes_3 : cX8_pushes.data.toList.drop 71 = dktX8_pushes_3 := dk_seg dksX8_pushes_2 24 rfl rfl
theorem dX8_pushes_0 : decode cX8_pushes 0 = .ok (.aload_n 0, 1) := dk_42 (dk_at dksX8_pushes_0 0 rfl rfl)
theorem dX8_pushes_1 : decode cX8_pushes 1 = .ok (.iload_n 1, 1) := dk_27 (dk_at dksX8_pushes_0 1 rfl rfl)
theorem dX8_pushes_2 : decode cX8_pushes 2 = .ok (.iload_n 2, 1) := dk_28 (dk_at dksX8_pushes_0 2 rfl rfl)
theorem dX8_pushes_3 : decode cX8_pushes 3 = .ok (.iload_n 3, 1) := dk_29 (dk_at dksX8_pushes_0 3 rfl rfl)
theorem dX8_pushes_4 : decode cX8_pushes 4 = .ok (.invokevirtual 275, 3) := dk_182 1 19 (dk_at dksX8_pushes_0 4 rfl rfl)
theorem dX8_pushes_7 : decode cX8_pushes 7 = .ok (.istore 4, 2) := dk_54 4 (dk_at dksX8_pushes_0 7 rfl rfl)
theorem dX8_pushes_9 : decode cX8_pushes 9 = .ok (.iload 4, 2) := dk_21 4 (dk_at dksX8_pushes_0 9 rfl rfl)
theorem dX8_pushes_11 : decode cX8_pushes 11 = .ok (.ifCond .ne 5, 3) := dk_154 0 5 (dk_at dksX8_pushes_0 11 rfl rfl)
theorem dX8_pushes_14 : decode cX8_pushes 14 = .ok (.iconst 0, 1) := dk_3 (dk_at dksX8_pushes_0 14 rfl rfl)
theorem dX8_pushes_15 : decode cX8_pushes 15 = .ok (.ireturn, 1) := dk_172 (dk_at dksX8_pushes_0 15 rfl rfl)
theorem dX8_pushes_16 : decode cX8_pushes 16 = .ok (.aload_n 0, 1) := dk_42 (dk_at dksX8_pushes_0 16 rfl rfl)
theorem dX8_pushes_17 : decode cX8_pushes 17 = .ok (.iconst 0, 1) := dk_3 (dk_at dksX8_pushes_0 17 rfl rfl)
theorem dX8_pushes_18 : decode cX8_pushes 18 = .ok (.aload_n 0, 1) := dk_42 (dk_at dksX8_pushes_0 18 rfl rfl)
theorem dX8_pushes_19 : decode cX8_pushes 19 = .ok (.getfield 21, 3) := dk_180 0 21 (dk_at dksX8_pushes_0 19 rfl rfl)
theorem dX8_pushes_22 : decode cX8_pushes 22 = .ok (.iload_n 2, 1) := dk_28 (dk_at dksX8_pushes_0 22 rfl rfl)
theorem dX8_pushes_23 : decode cX8_pushes 23 = .ok (.iaload, 1) := dk_46 (dk_at dksX8_pushes_0 23 rfl rfl)
theorem dX8_pushes_24 : decode cX8_pushes 24 = .ok (.iload_n 3, 1) := dk_29 (dk_at dksX8_pushes_1 0 rfl rfl)
theorem dX8_pushes_25 : decode cX8_pushes 25 = .ok (.iload_n 1, 1) := dk_27 (dk_at dksX8_pushes_1 1 rfl rfl)
theorem dX8_pushes_26 : decode cX8_pushes 26 = .ok (.invokevirtual 278, 3) := dk_182 1 22 (dk_at dksX8_pushes_1 2 rfl rfl)
theorem dX8_pushes_29 : decode cX8_pushes 29 = .ok (.istore 5, 2) := dk_54 5 (dk_at dksX8_pushes_1 5 rfl rfl)
theorem dX8_pushes_31 : decode cX8_pushes 31 = .ok (.iload 4, 2) := dk_21 4 (dk_at dksX8_pushes_1 7 rfl rfl)
theorem dX8_pushes_33 : decode cX8_pushes 33 = .ok (.iload 5, 2) := dk_21 5 (dk_at dksX8_pushes_1 9 rfl rfl)
theorem dX8_pushes_35 : decode cX8_pushes 35 = .ok (.bipush 9, 2) := dk_16 9 (dk_at dksX8_pushes_1 11 rfl rfl)
theorem dX8_pushes_37 : decode cX8_pushes 37 = .ok (.if_icmp .le 8, 3) := dk_164 0 8 (dk_at dksX8_pushes_1 13 rfl rfl)
theorem dX8_pushes_40 : decode cX8_pushes 40 = .ok (.bipush 9, 2) := dk_16 9 (dk_at dksX8_pushes_1 16 rfl rfl)
theorem dX8_pushes_42 : decode cX8_pushes 42 = .ok (.goto 17, 3) := dk_167 0 17 (dk_at dksX8_pushes_1 18 rfl rfl)
theorem dX8_pushes_45 : decode cX8_pushes 45 = .ok (.iload 5, 2) := dk_21 5 (dk_at dksX8_pushes_1 21 rfl rfl)
theorem dX8_pushes_47 : decode cX8_pushes 47 = .ok (.bipush (-9), 2) := dk_16 247 (dk_at dksX8_pushes_2 0 rfl rfl)
theorem dX8_pushes_49 : decode cX8_pushes 49 = .ok (.if_icmp .ge 8, 3) := dk_162 0 8 (dk_at dksX8_pushes_2 2 rfl rfl)
theorem dX8_pushes_52 : decode cX8_pushes 52 = .ok (.bipush (-9), 2) := dk_16 247 (dk_at dksX8_pushes_2 5 rfl rfl)
theorem dX8_pushes_54 : decode cX8_pushes 54 = .ok (.goto 5, 3) := dk_167 0 5 (dk_at dksX8_pushes_2 7 rfl rfl)
theorem dX8_pushes_57 : decode cX8_pushes 57 = .ok (.iload 5, 2) := dk_21 5 (dk_at dksX8_pushes_2 10 rfl rfl)
theorem dX8_pushes_59 : decode cX8_pushes 59 = .ok (.iadd, 1) := dk_96 (dk_at dksX8_pushes_2 12 rfl rfl)
theorem dX8_pushes_60 : decode cX8_pushes 60 = .ok (.istore 4, 2) := dk_54 4 (dk_at dksX8_pushes_2 13 rfl rfl)
theorem dX8_pushes_62 : decode cX8_pushes 62 = .ok (.iload 4, 2) := dk_21 4 (dk_at dksX8_pushes_2 15 rfl rfl)
theorem dX8_pushes_64 : decode cX8_pushes 64 = .ok (.ifCond .ge 7, 3) := dk_156 0 7 (dk_at dksX8_pushes_2 17 rfl rfl)
theorem dX8_pushes_67 : decode cX8_pushes 67 = .ok (.iconst 0, 1) := dk_3 (dk_at dksX8_pushes_2 20 rfl rfl)
theorem dX8_pushes_68 : decode cX8_pushes 68 = .ok (.goto 5, 3) := dk_167 0 5 (dk_at dksX8_pushes_2 21 rfl rfl)
theorem dX8_pushes_71 : decode cX8_pushes 71 = .ok (.iload 4, 2) := dk_21 4 (dk_at dksX8_pushes_3 0 rfl rfl)
theorem dX8_pushes_73 : decode cX8_pushes 73 = .ok (.ireturn, 1) := dk_172 (dk_at dksX8_pushes_3 2 rfl rfl)
abbrev cX8_plainPush : ByteArray := prog_16_method_39_code
def yX8_plainPush : MethodName := ⟨RX8, "plainPush", "(III)I"⟩
def dkwX8_plainPush_4 : List UInt8 := [167, 0, 22, 42, 180, 0, 45, 27, 46, 7, 160, 0, 10, 21, 4, 4, 96, 167, 0, 5, 21, 4, 172]
abbrev dktX8_plainPush_4 : List UInt8 := dkwX8_plainPush_4 ++ []
def dkwX8_plainPush_3 : List UInt8 := [180, 0, 45, 27, 46, 6, 160, 0, 20, 21, 4, 16, 9, 164, 0, 8, 16, 9, 167, 0, 27, 21, 4]
abbrev dktX8_plainPush_3 : List UInt8 := dkwX8_plainPush_3 ++ dktX8_plainPush_4
def dkwX8_plainPush_2 : List UInt8 := [182, 1, 0, 42, 27, 28, 182, 1, 15, 100, 16, 10, 108, 54, 4, 21, 4, 157, 0, 5, 3, 172, 42]
abbrev dktX8_plainPush_2 : List UInt8 := dkwX8_plainPush_2 ++ dktX8_plainPush_3
def dkwX8_plainPush_1 : List UInt8 := [180, 0, 48, 27, 46, 42, 180, 0, 21, 28, 46, 8, 108, 164, 0, 7, 4, 167, 0, 4, 3, 172, 42, 29]
abbrev dktX8_plainPush_1 : List UInt8 := dkwX8_plainPush_1 ++ dktX8_plainPush_2
def dkwX8_plainPush_0 : List UInt8 := [42, 27, 29, 182, 1, 11, 154, 0, 5, 3, 172, 42, 180, 0, 45, 27, 46, 8, 160, 0, 26, 42]
abbrev dktX8_plainPush_0 : List UInt8 := dkwX8_plainPush_0 ++ dktX8_plainPush_1
theorem dksX8_plainPush_0 : cX8_plainPush.data.toList.drop 0 = dktX8_plainPush_0 := by decide +kernel
theorem dksX8_plainPush_1 : cX8_plainPush.data.toList.drop 22 = dktX8_plainPush_1 := dk_seg dksX8_plainPush_0 22 rfl rfl
theorem dksX8_plainPush_2 : cX8_plainPush.data.toList.drop 46 = dktX8_plainPush_2 := dk_seg dksX8_plainPush_1 24 rfl rfl
theorem dksX8_plainPush_3 : cX8_plainPush.data.toList.drop 69 = dktX8_plainPush_3 := dk_seg dksX8_plainPush_2 23 rfl rfl
theorem dksX8_plainPush_4 : cX8_plainPush.data.toList.drop 92 = dktX8_plainPush_4 := dk_seg dksX8_plainPush_3 23 rfl rfl
theorem dX8_plainPush_0 : decode cX8_plainPush 0 = .ok (.aload_n 0, 1) := dk_42 (dk_at dksX8_plainPush_0 0 rfl rfl)
theorem dX8_plainPush_1 : decode cX8_plainPush 1 = .ok (.iload_n 1, 1) := dk_27 (dk_at dksX8_plainPush_0 1 rfl rfl)
theorem dX8_plainPush_2 : decode cX8_plainPush 2 = .ok (.iload_n 3, 1) := dk_29 (dk_at dksX8_plainPush_0 2 rfl rfl)
theorem dX8_plainPush_3 : decode cX8_plainPush 3 = .ok (.invokevirtual 267, 3) := dk_182 1 11 (dk_at dksX8_plainPush_0 3 rfl rfl)
theorem dX8_plainPush_6 : decode cX8_plainPush 6 = .ok (.ifCond .ne 5, 3) := dk_154 0 5 (dk_at dksX8_plainPush_0 6 rfl rfl)
theorem dX8_plainPush_9 : decode cX8_plainPush 9 = .ok (.iconst 0, 1) := dk_3 (dk_at dksX8_plainPush_0 9 rfl rfl)
theorem dX8_plainPush_10 : decode cX8_plainPush 10 = .ok (.ireturn, 1) := dk_172 (dk_at dksX8_plainPush_0 10 rfl rfl)
theorem dX8_plainPush_11 : decode cX8_plainPush 11 = .ok (.aload_n 0, 1) := dk_42 (dk_at dksX8_plainPush_0 11 rfl rfl)
theorem dX8_plainPush_12 : decode cX8_plainPush 12 = .ok (.getfield 45, 3) := dk_180 0 45 (dk_at dksX8_plainPush_0 12 rfl rfl)
theorem dX8_plainPush_15 : decode cX8_plainPush 15 = .ok (.iload_n 1, 1) := dk_27 (dk_at dksX8_plainPush_0 15 rfl rfl)
theorem dX8_plainPush_16 : decode cX8_plainPush 16 = .ok (.iaload, 1) := dk_46 (dk_at dksX8_plainPush_0 16 rfl rfl)
theorem dX8_plainPush_17 : decode cX8_plainPush 17 = .ok (.iconst 5, 1) := dk_8 (dk_at dksX8_plainPush_0 17 rfl rfl)
theorem dX8_plainPush_18 : decode cX8_plainPush 18 = .ok (.if_icmp .ne 26, 3) := dk_160 0 26 (dk_at dksX8_plainPush_0 18 rfl rfl)
theorem dX8_plainPush_21 : decode cX8_plainPush 21 = .ok (.aload_n 0, 1) := dk_42 (dk_at dksX8_plainPush_0 21 rfl rfl)
theorem dX8_plainPush_22 : decode cX8_plainPush 22 = .ok (.getfield 48, 3) := dk_180 0 48 (dk_at dksX8_plainPush_1 0 rfl rfl)
theorem dX8_plainPush_25 : decode cX8_plainPush 25 = .ok (.iload_n 1, 1) := dk_27 (dk_at dksX8_plainPush_1 3 rfl rfl)
theorem dX8_plainPush_26 : decode cX8_plainPush 26 = .ok (.iaload, 1) := dk_46 (dk_at dksX8_plainPush_1 4 rfl rfl)
theorem dX8_plainPush_27 : decode cX8_plainPush 27 = .ok (.aload_n 0, 1) := dk_42 (dk_at dksX8_plainPush_1 5 rfl rfl)
theorem dX8_plainPush_28 : decode cX8_plainPush 28 = .ok (.getfield 21, 3) := dk_180 0 21 (dk_at dksX8_plainPush_1 6 rfl rfl)
theorem dX8_plainPush_31 : decode cX8_plainPush 31 = .ok (.iload_n 2, 1) := dk_28 (dk_at dksX8_plainPush_1 9 rfl rfl)
theorem dX8_plainPush_32 : decode cX8_plainPush 32 = .ok (.iaload, 1) := dk_46 (dk_at dksX8_plainPush_1 10 rfl rfl)
theorem dX8_plainPush_33 : decode cX8_plainPush 33 = .ok (.iconst 5, 1) := dk_8 (dk_at dksX8_plainPush_1 11 rfl rfl)
theorem dX8_plainPush_34 : decode cX8_plainPush 34 = .ok (.idiv, 1) := dk_108 (dk_at dksX8_plainPush_1 12 rfl rfl)
theorem dX8_plainPush_35 : decode cX8_plainPush 35 = .ok (.if_icmp .le 7, 3) := dk_164 0 7 (dk_at dksX8_plainPush_1 13 rfl rfl)
theorem dX8_plainPush_38 : decode cX8_plainPush 38 = .ok (.iconst 1, 1) := dk_4 (dk_at dksX8_plainPush_1 16 rfl rfl)
theorem dX8_plainPush_39 : decode cX8_plainPush 39 = .ok (.goto 4, 3) := dk_167 0 4 (dk_at dksX8_plainPush_1 17 rfl rfl)
theorem dX8_plainPush_42 : decode cX8_plainPush 42 = .ok (.iconst 0, 1) := dk_3 (dk_at dksX8_plainPush_1 20 rfl rfl)
theorem dX8_plainPush_43 : decode cX8_plainPush 43 = .ok (.ireturn, 1) := dk_172 (dk_at dksX8_plainPush_1 21 rfl rfl)
theorem dX8_plainPush_44 : decode cX8_plainPush 44 = .ok (.aload_n 0, 1) := dk_42 (dk_at dksX8_plainPush_1 22 rfl rfl)
theorem dX8_plainPush_45 : decode cX8_plainPush 45 = .ok (.iload_n 3, 1) := dk_29 (dk_at dksX8_plainPush_1 23 rfl rfl)
theorem dX8_plainPush_46 : decode cX8_plainPush 46 = .ok (.invokevirtual 256, 3) := dk_182 1 0 (dk_at dksX8_plainPush_2 0 rfl rfl)
theorem dX8_plainPush_49 : decode cX8_plainPush 49 = .ok (.aload_n 0, 1) := dk_42 (dk_at dksX8_plainPush_2 3 rfl rfl)
theorem dX8_plainPush_50 : decode cX8_plainPush 50 = .ok (.iload_n 1, 1) := dk_27 (dk_at dksX8_plainPush_2 4 rfl rfl)
theorem dX8_plainPush_51 : decode cX8_plainPush 51 = .ok (.iload_n 2, 1) := dk_28 (dk_at dksX8_plainPush_2 5 rfl rfl)
theorem dX8_plainPush_52 : decode cX8_plainPush 52 = .ok (.invokevirtual 271, 3) := dk_182 1 15 (dk_at dksX8_plainPush_2 6 rfl rfl)
theorem dX8_plainPush_55 : decode cX8_plainPush 55 = .ok (.isub, 1) := dk_100 (dk_at dksX8_plainPush_2 9 rfl rfl)
theorem dX8_plainPush_56 : decode cX8_plainPush 56 = .ok (.bipush 10, 2) := dk_16 10 (dk_at dksX8_plainPush_2 10 rfl rfl)
theorem dX8_plainPush_58 : decode cX8_plainPush 58 = .ok (.idiv, 1) := dk_108 (dk_at dksX8_plainPush_2 12 rfl rfl)
theorem dX8_plainPush_59 : decode cX8_plainPush 59 = .ok (.istore 4, 2) := dk_54 4 (dk_at dksX8_plainPush_2 13 rfl rfl)
theorem dX8_plainPush_61 : decode cX8_plainPush 61 = .ok (.iload 4, 2) := dk_21 4 (dk_at dksX8_plainPush_2 15 rfl rfl)
theorem dX8_plainPush_63 : decode cX8_plainPush 63 = .ok (.ifCond .gt 5, 3) := dk_157 0 5 (dk_at dksX8_plainPush_2 17 rfl rfl)
theorem dX8_plainPush_66 : decode cX8_plainPush 66 = .ok (.iconst 0, 1) := dk_3 (dk_at dksX8_plainPush_2 20 rfl rfl)
theorem dX8_plainPush_67 : decode cX8_plainPush 67 = .ok (.ireturn, 1) := dk_172 (dk_at dksX8_plainPush_2 21 rfl rfl)
theorem dX8_plainPush_68 : decode cX8_plainPush 68 = .ok (.aload_n 0, 1) := dk_42 (dk_at dksX8_plainPush_2 22 rfl rfl)
theorem dX8_plainPush_69 : decode cX8_plainPush 69 = .ok (.getfield 45, 3) := dk_180 0 45 (dk_at dksX8_plainPush_3 0 rfl rfl)
theorem dX8_plainPush_72 : decode cX8_plainPush 72 = .ok (.iload_n 1, 1) := dk_27 (dk_at dksX8_plainPush_3 3 rfl rfl)
theorem dX8_plainPush_73 : decode cX8_plainPush 73 = .ok (.iaload, 1) := dk_46 (dk_at dksX8_plainPush_3 4 rfl rfl)
theorem dX8_plainPush_74 : decode cX8_plainPush 74 = .ok (.iconst 3, 1) := dk_6 (dk_at dksX8_plainPush_3 5 rfl rfl)
theorem dX8_plainPush_75 : decode cX8_plainPush 75 = .ok (.if_icmp .ne 20, 3) := dk_160 0 20 (dk_at dksX8_plainPush_3 6 rfl rfl)
theorem dX8_plainPush_78 : decode cX8_plainPush 78 = .ok (.iload 4, 2) := dk_21 4 (dk_at dksX8_plainPush_3 9 rfl rfl)
theorem dX8_plainPush_80 : decode cX8_plainPush 80 = .ok (.bipush 9, 2) := dk_16 9 (dk_at dksX8_plainPush_3 11 rfl rfl)
theorem dX8_plainPush_82 : decode cX8_plainPush 82 = .ok (.if_icmp .le 8, 3) := dk_164 0 8 (dk_at dksX8_plainPush_3 13 rfl rfl)
theorem dX8_plainPush_85 : decode cX8_plainPush 85 = .ok (.bipush 9, 2) := dk_16 9 (dk_at dksX8_plainPush_3 16 rfl rfl)
theorem dX8_plainPush_87 : decode cX8_plainPush 87 = .ok (.goto 27, 3) := dk_167 0 27 (dk_at dksX8_plainPush_3 18 rfl rfl)
theorem dX8_plainPush_90 : decode cX8_plainPush 90 = .ok (.iload 4, 2) := dk_21 4 (dk_at dksX8_plainPush_3 21 rfl rfl)
theorem dX8_plainPush_92 : decode cX8_plainPush 92 = .ok (.goto 22, 3) := dk_167 0 22 (dk_at dksX8_plainPush_4 0 rfl rfl)
theorem dX8_plainPush_95 : decode cX8_plainPush 95 = .ok (.aload_n 0, 1) := dk_42 (dk_at dksX8_plainPush_4 3 rfl rfl)
theorem dX8_plainPush_96 : decode cX8_plainPush 96 = .ok (.getfield 45, 3) := dk_180 0 45 (dk_at dksX8_plainPush_4 4 rfl rfl)
theorem dX8_plainPush_99 : decode cX8_plainPush 99 = .ok (.iload_n 1, 1) := dk_27 (dk_at dksX8_plainPush_4 7 rfl rfl)
theorem dX8_plainPush_100 : decode cX8_plainPush 100 = .ok (.iaload, 1) := dk_46 (dk_at dksX8_plainPush_4 8 rfl rfl)
theorem dX8_plainPush_101 : decode cX8_plainPush 101 = .ok (.iconst 4, 1) := dk_7 (dk_at dksX8_plainPush_4 9 rfl rfl)
theorem dX8_plainPush_102 : decode cX8_plainPush 102 = .ok (.if_icmp .ne 10, 3) := dk_160 0 10 (dk_at dksX8_plainPush_4 10 rfl rfl)
theorem dX8_plainPush_105 : decode cX8_plainPush 105 = .ok (.iload 4, 2) := dk_21 4 (dk_at dksX8_plainPush_4 13 rfl rfl)
theorem dX8_plainPush_107 : decode cX8_plainPush 107 = .ok (.iconst 1, 1) := dk_4 (dk_at dksX8_plainPush_4 15 rfl rfl)
theorem dX8_plainPush_108 : decode cX8_plainPush 108 = .ok (.iadd, 1) := dk_96 (dk_at dksX8_plainPush_4 16 rfl rfl)
theorem dX8_plainPush_109 : decode cX8_plainPush 109 = .ok (.goto 5, 3) := dk_167 0 5 (dk_at dksX8_plainPush_4 17 rfl rfl)
theorem dX8_plainPush_112 : decode cX8_plainPush 112 = .ok (.iload 4, 2) := dk_21 4 (dk_at dksX8_plainPush_4 20 rfl rfl)
theorem dX8_plainPush_114 : decode cX8_plainPush 114 = .ok (.ireturn, 1) := dk_172 (dk_at dksX8_plainPush_4 22 rfl rfl)
abbrev cX8_windNow : ByteArray := prog_16_method_36_code
def yX8_windNow : MethodName := ⟨RX8, "windNow", "(I)I"⟩
def dkwX8_windNow_0 : List UInt8 := [42, 180, 0, 108, 156, 0, 12, 42, 180, 0, 31, 27, 46, 167, 0, 7, 42, 180, 0, 108, 172]
abbrev dktX8_windNow_0 : List UInt8 := dkwX8_windNow_0 ++ []
theorem dksX8_windNow_0 : cX8_windNow.data.toList.drop 0 = dktX8_windNow_0 := by decide +kernel
theorem dX8_windNow_0 : decode cX8_windNow 0 = .ok (.aload_n 0, 1) := dk_42 (dk_at dksX8_windNow_0 0 rfl rfl)
theorem dX8_windNow_1 : decode cX8_windNow 1 = .ok (.getfield 108, 3) := dk_180 0 108 (dk_at dksX8_windNow_0 1 rfl rfl)
theorem dX8_windNow_4 : decode cX8_windNow 4 = .ok (.ifCond .ge 12, 3) := dk_156 0 12 (dk_at dksX8_windNow_0 4 rfl rfl)
theorem dX8_windNow_7 : decode cX8_windNow 7 = .ok (.aload_n 0, 1) := dk_42 (dk_at dksX8_windNow_0 7 rfl rfl)
theorem dX8_windNow_8 : decode cX8_windNow 8 = .ok (.getfield 31, 3) := dk_180 0 31 (dk_at dksX8_windNow_0 8 rfl rfl)
theorem dX8_windNow_11 : decode cX8_windNow 11 = .ok (.iload_n 1, 1) := dk_27 (dk_at dksX8_windNow_0 11 rfl rfl)
theorem dX8_windNow_12 : decode cX8_windNow 12 = .ok (.iaload, 1) := dk_46 (dk_at dksX8_windNow_0 12 rfl rfl)
theorem dX8_windNow_13 : decode cX8_windNow 13 = .ok (.goto 7, 3) := dk_167 0 7 (dk_at dksX8_windNow_0 13 rfl rfl)
theorem dX8_windNow_16 : decode cX8_windNow 16 = .ok (.aload_n 0, 1) := dk_42 (dk_at dksX8_windNow_0 16 rfl rfl)
theorem dX8_windNow_17 : decode cX8_windNow 17 = .ok (.getfield 108, 3) := dk_180 0 108 (dk_at dksX8_windNow_0 17 rfl rfl)
theorem dX8_windNow_20 : decode cX8_windNow 20 = .ok (.ireturn, 1) := dk_172 (dk_at dksX8_windNow_0 20 rfl rfl)
abbrev cX8_tellsRule : ByteArray := prog_16_method_35_code
def yX8_tellsRule : MethodName := ⟨RX8, "tellsRule", "(IIII)I"⟩
def dkwX8_tellsRule_9 : List UInt8 := [167, 255, 73, 42, 180, 0, 105, 3, 46, 172]
abbrev dktX8_tellsRule_9 : List UInt8 := dkwX8_tellsRule_9 ++ []
def dkwX8_tellsRule_8 : List UInt8 := [180, 0, 105, 21, 6, 4, 100, 46, 42, 180, 0, 105, 21, 6, 46, 182, 1, 7, 79, 132, 7, 1]
abbrev dktX8_tellsRule_8 : List UInt8 := dkwX8_tellsRule_8 ++ dktX8_tellsRule_9
def dkwX8_tellsRule_7 : List UInt8 := [167, 0, 4, 3, 79, 167, 0, 37, 132, 6, 255, 42, 180, 0, 105, 21, 6, 4, 100, 42, 21, 8, 42]
abbrev dktX8_tellsRule_7 : List UInt8 := dkwX8_tellsRule_7 ++ dktX8_tellsRule_8
def dkwX8_tellsRule_6 : List UInt8 := [21, 6, 4, 100, 46, 116, 167, 0, 20, 42, 180, 0, 105, 21, 6, 4, 100, 46, 154, 0, 7, 4]
abbrev dktX8_tellsRule_6 : List UInt8 := dkwX8_tellsRule_6 ++ dktX8_tellsRule_7
def dkwX8_tellsRule_5 : List UInt8 := [16, 10, 160, 0, 52, 42, 180, 0, 105, 21, 6, 4, 100, 21, 8, 16, 10, 160, 0, 16, 42, 180, 0, 105]
abbrev dktX8_tellsRule_5 : List UInt8 := dkwX8_tellsRule_5 ++ dktX8_tellsRule_6
def dkwX8_tellsRule_4 : List UInt8 := [46, 28, 29, 21, 4, 182, 1, 3, 79, 132, 6, 1, 167, 0, 99, 21, 8, 7, 159, 0, 10, 21, 8]
abbrev dktX8_tellsRule_4 : List UInt8 := dkwX8_tellsRule_4 ++ dktX8_tellsRule_5
def dkwX8_tellsRule_3 : List UInt8 := [21, 6, 21, 8, 154, 0, 13, 42, 180, 0, 96, 21, 7, 46, 167, 0, 18, 42, 42, 180, 0, 96, 21, 7]
abbrev dktX8_tellsRule_3 : List UInt8 := dkwX8_tellsRule_3 ++ dktX8_tellsRule_4
def dkwX8_tellsRule_2 : List UInt8 := [180, 0, 93, 21, 7, 46, 54, 8, 21, 8, 153, 0, 9, 21, 8, 4, 160, 0, 46, 42, 180, 0, 105]
abbrev dktX8_tellsRule_2 : List UInt8 := dkwX8_tellsRule_2 ++ dktX8_tellsRule_3
def dkwX8_tellsRule_1 : List UInt8 := [21, 7, 21, 5, 42, 180, 0, 99, 6, 42, 180, 0, 63, 104, 27, 96, 46, 96, 162, 0, 168, 42]
abbrev dktX8_tellsRule_1 : List UInt8 := dkwX8_tellsRule_1 ++ dktX8_tellsRule_2
def dkwX8_tellsRule_0 : List UInt8 := [17, 1, 224, 42, 180, 0, 63, 104, 17, 0, 160, 27, 104, 96, 54, 5, 3, 54, 6, 21, 5, 54, 7]
abbrev dktX8_tellsRule_0 : List UInt8 := dkwX8_tellsRule_0 ++ dktX8_tellsRule_1
theorem dksX8_tellsRule_0 : cX8_tellsRule.data.toList.drop 0 = dktX8_tellsRule_0 := by decide +kernel
theorem dksX8_tellsRule_1 : cX8_tellsRule.data.toList.drop 23 = dktX8_tellsRule_1 := dk_seg dksX8_tellsRule_0 23 rfl rfl
theorem dksX8_tellsRule_2 : cX8_tellsRule.data.toList.drop 45 = dktX8_tellsRule_2 := dk_seg dksX8_tellsRule_1 22 rfl rfl
theorem dksX8_tellsRule_3 : cX8_tellsRule.data.toList.drop 68 = dktX8_tellsRule_3 := dk_seg dksX8_tellsRule_2 23 rfl rfl
theorem dksX8_tellsRule_4 : cX8_tellsRule.data.toList.drop 92 = dktX8_tellsRule_4 := dk_seg dksX8_tellsRule_3 24 rfl rfl
theorem dksX8_tellsRule_5 : cX8_tellsRule.data.toList.drop 115 = dktX8_tellsRule_5 := dk_seg dksX8_tellsRule_4 23 rfl rfl
theorem dksX8_tellsRule_6 : cX8_tellsRule.data.toList.drop 139 = dktX8_tellsRule_6 := dk_seg dksX8_tellsRule_5 24 rfl rfl
theorem dksX8_tellsRule_7 : cX8_tellsRule.data.toList.drop 161 = dktX8_tellsRule_7 := dk_seg dksX8_tellsRule_6 22 rfl rfl
theorem dksX8_tellsRule_8 : cX8_tellsRule.data.toList.drop 184 = dktX8_tellsRule_8 := dk_seg dksX8_tellsRule_7 23 rfl rfl
theorem dksX8_tellsRule_9 : cX8_tellsRule.data.toList.drop 206 = dktX8_tellsRule_9 := dk_seg dksX8_tellsRule_8 22 rfl rfl
theorem dX8_tellsRule_0 : decode cX8_tellsRule 0 = .ok (.sipush 480, 3) := dk_17 1 224 (dk_at dksX8_tellsRule_0 0 rfl rfl)
theorem dX8_tellsRule_3 : decode cX8_tellsRule 3 = .ok (.aload_n 0, 1) := dk_42 (dk_at dksX8_tellsRule_0 3 rfl rfl)
theorem dX8_tellsRule_4 : decode cX8_tellsRule 4 = .ok (.getfield 63, 3) := dk_180 0 63 (dk_at dksX8_tellsRule_0 4 rfl rfl)
theorem dX8_tellsRule_7 : decode cX8_tellsRule 7 = .ok (.imul, 1) := dk_104 (dk_at dksX8_tellsRule_0 7 rfl rfl)
theorem dX8_tellsRule_8 : decode cX8_tellsRule 8 = .ok (.sipush 160, 3) := dk_17 0 160 (dk_at dksX8_tellsRule_0 8 rfl rfl)
theorem dX8_tellsRule_11 : decode cX8_tellsRule 11 = .ok (.iload_n 1, 1) := dk_27 (dk_at dksX8_tellsRule_0 11 rfl rfl)
theorem dX8_tellsRule_12 : decode cX8_tellsRule 12 = .ok (.imul, 1) := dk_104 (dk_at dksX8_tellsRule_0 12 rfl rfl)
theorem dX8_tellsRule_13 : decode cX8_tellsRule 13 = .ok (.iadd, 1) := dk_96 (dk_at dksX8_tellsRule_0 13 rfl rfl)
theorem dX8_tellsRule_14 : decode cX8_tellsRule 14 = .ok (.istore 5, 2) := dk_54 5 (dk_at dksX8_tellsRule_0 14 rfl rfl)
theorem dX8_tellsRule_16 : decode cX8_tellsRule 16 = .ok (.iconst 0, 1) := dk_3 (dk_at dksX8_tellsRule_0 16 rfl rfl)
theorem dX8_tellsRule_17 : decode cX8_tellsRule 17 = .ok (.istore 6, 2) := dk_54 6 (dk_at dksX8_tellsRule_0 17 rfl rfl)
theorem dX8_tellsRule_19 : decode cX8_tellsRule 19 = .ok (.iload 5, 2) := dk_21 5 (dk_at dksX8_tellsRule_0 19 rfl rfl)
theorem dX8_tellsRule_21 : decode cX8_tellsRule 21 = .ok (.istore 7, 2) := dk_54 7 (dk_at dksX8_tellsRule_0 21 rfl rfl)
theorem dX8_tellsRule_23 : decode cX8_tellsRule 23 = .ok (.iload 7, 2) := dk_21 7 (dk_at dksX8_tellsRule_1 0 rfl rfl)
theorem dX8_tellsRule_25 : decode cX8_tellsRule 25 = .ok (.iload 5, 2) := dk_21 5 (dk_at dksX8_tellsRule_1 2 rfl rfl)
theorem dX8_tellsRule_27 : decode cX8_tellsRule 27 = .ok (.aload_n 0, 1) := dk_42 (dk_at dksX8_tellsRule_1 4 rfl rfl)
theorem dX8_tellsRule_28 : decode cX8_tellsRule 28 = .ok (.getfield 99, 3) := dk_180 0 99 (dk_at dksX8_tellsRule_1 5 rfl rfl)
theorem dX8_tellsRule_31 : decode cX8_tellsRule 31 = .ok (.iconst 3, 1) := dk_6 (dk_at dksX8_tellsRule_1 8 rfl rfl)
theorem dX8_tellsRule_32 : decode cX8_tellsRule 32 = .ok (.aload_n 0, 1) := dk_42 (dk_at dksX8_tellsRule_1 9 rfl rfl)
theorem dX8_tellsRule_33 : decode cX8_tellsRule 33 = .ok (.getfield 63, 3) := dk_180 0 63 (dk_at dksX8_tellsRule_1 10 rfl rfl)
theorem dX8_tellsRule_36 : decode cX8_tellsRule 36 = .ok (.imul, 1) := dk_104 (dk_at dksX8_tellsRule_1 13 rfl rfl)
theorem dX8_tellsRule_37 : decode cX8_tellsRule 37 = .ok (.iload_n 1, 1) := dk_27 (dk_at dksX8_tellsRule_1 14 rfl rfl)
theorem dX8_tellsRule_38 : decode cX8_tellsRule 38 = .ok (.iadd, 1) := dk_96 (dk_at dksX8_tellsRule_1 15 rfl rfl)
theorem dX8_tellsRule_39 : decode cX8_tellsRule 39 = .ok (.iaload, 1) := dk_46 (dk_at dksX8_tellsRule_1 16 rfl rfl)
theorem dX8_tellsRule_40 : decode cX8_tellsRule 40 = .ok (.iadd, 1) := dk_96 (dk_at dksX8_tellsRule_1 17 rfl rfl)
theorem dX8_tellsRule_41 : decode cX8_tellsRule 41 = .ok (.if_icmp .ge 168, 3) := dk_162 0 168 (dk_at dksX8_tellsRule_1 18 rfl rfl)
theorem dX8_tellsRule_44 : decode cX8_tellsRule 44 = .ok (.aload_n 0, 1) := dk_42 (dk_at dksX8_tellsRule_1 21 rfl rfl)
theorem dX8_tellsRule_45 : decode cX8_tellsRule 45 = .ok (.getfield 93, 3) := dk_180 0 93 (dk_at dksX8_tellsRule_2 0 rfl rfl)
theorem dX8_tellsRule_48 : decode cX8_tellsRule 48 = .ok (.iload 7, 2) := dk_21 7 (dk_at dksX8_tellsRule_2 3 rfl rfl)
theorem dX8_tellsRule_50 : decode cX8_tellsRule 50 = .ok (.iaload, 1) := dk_46 (dk_at dksX8_tellsRule_2 5 rfl rfl)
theorem dX8_tellsRule_51 : decode cX8_tellsRule 51 = .ok (.istore 8, 2) := dk_54 8 (dk_at dksX8_tellsRule_2 6 rfl rfl)
theorem dX8_tellsRule_53 : decode cX8_tellsRule 53 = .ok (.iload 8, 2) := dk_21 8 (dk_at dksX8_tellsRule_2 8 rfl rfl)
theorem dX8_tellsRule_55 : decode cX8_tellsRule 55 = .ok (.ifCond .eq 9, 3) := dk_153 0 9 (dk_at dksX8_tellsRule_2 10 rfl rfl)
theorem dX8_tellsRule_58 : decode cX8_tellsRule 58 = .ok (.iload 8, 2) := dk_21 8 (dk_at dksX8_tellsRule_2 13 rfl rfl)
theorem dX8_tellsRule_60 : decode cX8_tellsRule 60 = .ok (.iconst 1, 1) := dk_4 (dk_at dksX8_tellsRule_2 15 rfl rfl)
theorem dX8_tellsRule_61 : decode cX8_tellsRule 61 = .ok (.if_icmp .ne 46, 3) := dk_160 0 46 (dk_at dksX8_tellsRule_2 16 rfl rfl)
theorem dX8_tellsRule_64 : decode cX8_tellsRule 64 = .ok (.aload_n 0, 1) := dk_42 (dk_at dksX8_tellsRule_2 19 rfl rfl)
theorem dX8_tellsRule_65 : decode cX8_tellsRule 65 = .ok (.getfield 105, 3) := dk_180 0 105 (dk_at dksX8_tellsRule_2 20 rfl rfl)
theorem dX8_tellsRule_68 : decode cX8_tellsRule 68 = .ok (.iload 6, 2) := dk_21 6 (dk_at dksX8_tellsRule_3 0 rfl rfl)
theorem dX8_tellsRule_70 : decode cX8_tellsRule 70 = .ok (.iload 8, 2) := dk_21 8 (dk_at dksX8_tellsRule_3 2 rfl rfl)
theorem dX8_tellsRule_72 : decode cX8_tellsRule 72 = .ok (.ifCond .ne 13, 3) := dk_154 0 13 (dk_at dksX8_tellsRule_3 4 rfl rfl)
theorem dX8_tellsRule_75 : decode cX8_tellsRule 75 = .ok (.aload_n 0, 1) := dk_42 (dk_at dksX8_tellsRule_3 7 rfl rfl)
theorem dX8_tellsRule_76 : decode cX8_tellsRule 76 = .ok (.getfield 96, 3) := dk_180 0 96 (dk_at dksX8_tellsRule_3 8 rfl rfl)
theorem dX8_tellsRule_79 : decode cX8_tellsRule 79 = .ok (.iload 7, 2) := dk_21 7 (dk_at dksX8_tellsRule_3 11 rfl rfl)
theorem dX8_tellsRule_81 : decode cX8_tellsRule 81 = .ok (.iaload, 1) := dk_46 (dk_at dksX8_tellsRule_3 13 rfl rfl)
theorem dX8_tellsRule_82 : decode cX8_tellsRule 82 = .ok (.goto 18, 3) := dk_167 0 18 (dk_at dksX8_tellsRule_3 14 rfl rfl)
theorem dX8_tellsRule_85 : decode cX8_tellsRule 85 = .ok (.aload_n 0, 1) := dk_42 (dk_at dksX8_tellsRule_3 17 rfl rfl)
theorem dX8_tellsRule_86 : decode cX8_tellsRule 86 = .ok (.aload_n 0, 1) := dk_42 (dk_at dksX8_tellsRule_3 18 rfl rfl)
theorem dX8_tellsRule_87 : decode cX8_tellsRule 87 = .ok (.getfield 96, 3) := dk_180 0 96 (dk_at dksX8_tellsRule_3 19 rfl rfl)
theorem dX8_tellsRule_90 : decode cX8_tellsRule 90 = .ok (.iload 7, 2) := dk_21 7 (dk_at dksX8_tellsRule_3 22 rfl rfl)
theorem dX8_tellsRule_92 : decode cX8_tellsRule 92 = .ok (.iaload, 1) := dk_46 (dk_at dksX8_tellsRule_4 0 rfl rfl)
theorem dX8_tellsRule_93 : decode cX8_tellsRule 93 = .ok (.iload_n 2, 1) := dk_28 (dk_at dksX8_tellsRule_4 1 rfl rfl)
theorem dX8_tellsRule_94 : decode cX8_tellsRule 94 = .ok (.iload_n 3, 1) := dk_29 (dk_at dksX8_tellsRule_4 2 rfl rfl)
theorem dX8_tellsRule_95 : decode cX8_tellsRule 95 = .ok (.iload 4, 2) := dk_21 4 (dk_at dksX8_tellsRule_4 3 rfl rfl)
theorem dX8_tellsRule_97 : decode cX8_tellsRule 97 = .ok (.invokevirtual 259, 3) := dk_182 1 3 (dk_at dksX8_tellsRule_4 5 rfl rfl)
theorem dX8_tellsRule_100 : decode cX8_tellsRule 100 = .ok (.iastore, 1) := dk_79 (dk_at dksX8_tellsRule_4 8 rfl rfl)
theorem dX8_tellsRule_101 : decode cX8_tellsRule 101 = .ok (.iinc 6 1, 3) := dk_132 6 1 (dk_at dksX8_tellsRule_4 9 rfl rfl)
theorem dX8_tellsRule_104 : decode cX8_tellsRule 104 = .ok (.goto 99, 3) := dk_167 0 99 (dk_at dksX8_tellsRule_4 12 rfl rfl)
theorem dX8_tellsRule_107 : decode cX8_tellsRule 107 = .ok (.iload 8, 2) := dk_21 8 (dk_at dksX8_tellsRule_4 15 rfl rfl)
theorem dX8_tellsRule_109 : decode cX8_tellsRule 109 = .ok (.iconst 4, 1) := dk_7 (dk_at dksX8_tellsRule_4 17 rfl rfl)
theorem dX8_tellsRule_110 : decode cX8_tellsRule 110 = .ok (.if_icmp .eq 10, 3) := dk_159 0 10 (dk_at dksX8_tellsRule_4 18 rfl rfl)
theorem dX8_tellsRule_113 : decode cX8_tellsRule 113 = .ok (.iload 8, 2) := dk_21 8 (dk_at dksX8_tellsRule_4 21 rfl rfl)
theorem dX8_tellsRule_115 : decode cX8_tellsRule 115 = .ok (.bipush 10, 2) := dk_16 10 (dk_at dksX8_tellsRule_5 0 rfl rfl)
theorem dX8_tellsRule_117 : decode cX8_tellsRule 117 = .ok (.if_icmp .ne 52, 3) := dk_160 0 52 (dk_at dksX8_tellsRule_5 2 rfl rfl)
theorem dX8_tellsRule_120 : decode cX8_tellsRule 120 = .ok (.aload_n 0, 1) := dk_42 (dk_at dksX8_tellsRule_5 5 rfl rfl)
theorem dX8_tellsRule_121 : decode cX8_tellsRule 121 = .ok (.getfield 105, 3) := dk_180 0 105 (dk_at dksX8_tellsRule_5 6 rfl rfl)
theorem dX8_tellsRule_124 : decode cX8_tellsRule 124 = .ok (.iload 6, 2) := dk_21 6 (dk_at dksX8_tellsRule_5 9 rfl rfl)
theorem dX8_tellsRule_126 : decode cX8_tellsRule 126 = .ok (.iconst 1, 1) := dk_4 (dk_at dksX8_tellsRule_5 11 rfl rfl)
theorem dX8_tellsRule_127 : decode cX8_tellsRule 127 = .ok (.isub, 1) := dk_100 (dk_at dksX8_tellsRule_5 12 rfl rfl)
theorem dX8_tellsRule_128 : decode cX8_tellsRule 128 = .ok (.iload 8, 2) := dk_21 8 (dk_at dksX8_tellsRule_5 13 rfl rfl)
theorem dX8_tellsRule_130 : decode cX8_tellsRule 130 = .ok (.bipush 10, 2) := dk_16 10 (dk_at dksX8_tellsRule_5 15 rfl rfl)
theorem dX8_tellsRule_132 : decode cX8_tellsRule 132 = .ok (.if_icmp .ne 16, 3) := dk_160 0 16 (dk_at dksX8_tellsRule_5 17 rfl rfl)
theorem dX8_tellsRule_135 : decode cX8_tellsRule 135 = .ok (.aload_n 0, 1) := dk_42 (dk_at dksX8_tellsRule_5 20 rfl rfl)
theorem dX8_tellsRule_136 : decode cX8_tellsRule 136 = .ok (.getfield 105, 3) := dk_180 0 105 (dk_at dksX8_tellsRule_5 21 rfl rfl)
theorem dX8_tellsRule_139 : decode cX8_tellsRule 139 = .ok (.iload 6, 2) := dk_21 6 (dk_at dksX8_tellsRule_6 0 rfl rfl)
theorem dX8_tellsRule_141 : decode cX8_tellsRule 141 = .ok (.iconst 1, 1) := dk_4 (dk_at dksX8_tellsRule_6 2 rfl rfl)
theorem dX8_tellsRule_142 : decode cX8_tellsRule 142 = .ok (.isub, 1) := dk_100 (dk_at dksX8_tellsRule_6 3 rfl rfl)
theorem dX8_tellsRule_143 : decode cX8_tellsRule 143 = .ok (.iaload, 1) := dk_46 (dk_at dksX8_tellsRule_6 4 rfl rfl)
theorem dX8_tellsRule_144 : decode cX8_tellsRule 144 = .ok (.ineg, 1) := dk_116 (dk_at dksX8_tellsRule_6 5 rfl rfl)
theorem dX8_tellsRule_145 : decode cX8_tellsRule 145 = .ok (.goto 20, 3) := dk_167 0 20 (dk_at dksX8_tellsRule_6 6 rfl rfl)
theorem dX8_tellsRule_148 : decode cX8_tellsRule 148 = .ok (.aload_n 0, 1) := dk_42 (dk_at dksX8_tellsRule_6 9 rfl rfl)
theorem dX8_tellsRule_149 : decode cX8_tellsRule 149 = .ok (.getfield 105, 3) := dk_180 0 105 (dk_at dksX8_tellsRule_6 10 rfl rfl)
theorem dX8_tellsRule_152 : decode cX8_tellsRule 152 = .ok (.iload 6, 2) := dk_21 6 (dk_at dksX8_tellsRule_6 13 rfl rfl)
theorem dX8_tellsRule_154 : decode cX8_tellsRule 154 = .ok (.iconst 1, 1) := dk_4 (dk_at dksX8_tellsRule_6 15 rfl rfl)
theorem dX8_tellsRule_155 : decode cX8_tellsRule 155 = .ok (.isub, 1) := dk_100 (dk_at dksX8_tellsRule_6 16 rfl rfl)
theorem dX8_tellsRule_156 : decode cX8_tellsRule 156 = .ok (.iaload, 1) := dk_46 (dk_at dksX8_tellsRule_6 17 rfl rfl)
theorem dX8_tellsRule_157 : decode cX8_tellsRule 157 = .ok (.ifCond .ne 7, 3) := dk_154 0 7 (dk_at dksX8_tellsRule_6 18 rfl rfl)
theorem dX8_tellsRule_160 : decode cX8_tellsRule 160 = .ok (.iconst 1, 1) := dk_4 (dk_at dksX8_tellsRule_6 21 rfl rfl)
theorem dX8_tellsRule_161 : decode cX8_tellsRule 161 = .ok (.goto 4, 3) := dk_167 0 4 (dk_at dksX8_tellsRule_7 0 rfl rfl)
theorem dX8_tellsRule_164 : decode cX8_tellsRule 164 = .ok (.iconst 0, 1) := dk_3 (dk_at dksX8_tellsRule_7 3 rfl rfl)
theorem dX8_tellsRule_165 : decode cX8_tellsRule 165 = .ok (.iastore, 1) := dk_79 (dk_at dksX8_tellsRule_7 4 rfl rfl)
theorem dX8_tellsRule_166 : decode cX8_tellsRule 166 = .ok (.goto 37, 3) := dk_167 0 37 (dk_at dksX8_tellsRule_7 5 rfl rfl)
theorem dX8_tellsRule_169 : decode cX8_tellsRule 169 = .ok (.iinc 6 (-1), 3) := dk_132 6 255 (dk_at dksX8_tellsRule_7 8 rfl rfl)
theorem dX8_tellsRule_172 : decode cX8_tellsRule 172 = .ok (.aload_n 0, 1) := dk_42 (dk_at dksX8_tellsRule_7 11 rfl rfl)
theorem dX8_tellsRule_173 : decode cX8_tellsRule 173 = .ok (.getfield 105, 3) := dk_180 0 105 (dk_at dksX8_tellsRule_7 12 rfl rfl)
theorem dX8_tellsRule_176 : decode cX8_tellsRule 176 = .ok (.iload 6, 2) := dk_21 6 (dk_at dksX8_tellsRule_7 15 rfl rfl)
theorem dX8_tellsRule_178 : decode cX8_tellsRule 178 = .ok (.iconst 1, 1) := dk_4 (dk_at dksX8_tellsRule_7 17 rfl rfl)
theorem dX8_tellsRule_179 : decode cX8_tellsRule 179 = .ok (.isub, 1) := dk_100 (dk_at dksX8_tellsRule_7 18 rfl rfl)
theorem dX8_tellsRule_180 : decode cX8_tellsRule 180 = .ok (.aload_n 0, 1) := dk_42 (dk_at dksX8_tellsRule_7 19 rfl rfl)
theorem dX8_tellsRule_181 : decode cX8_tellsRule 181 = .ok (.iload 8, 2) := dk_21 8 (dk_at dksX8_tellsRule_7 20 rfl rfl)
theorem dX8_tellsRule_183 : decode cX8_tellsRule 183 = .ok (.aload_n 0, 1) := dk_42 (dk_at dksX8_tellsRule_7 22 rfl rfl)
theorem dX8_tellsRule_184 : decode cX8_tellsRule 184 = .ok (.getfield 105, 3) := dk_180 0 105 (dk_at dksX8_tellsRule_8 0 rfl rfl)
theorem dX8_tellsRule_187 : decode cX8_tellsRule 187 = .ok (.iload 6, 2) := dk_21 6 (dk_at dksX8_tellsRule_8 3 rfl rfl)
theorem dX8_tellsRule_189 : decode cX8_tellsRule 189 = .ok (.iconst 1, 1) := dk_4 (dk_at dksX8_tellsRule_8 5 rfl rfl)
theorem dX8_tellsRule_190 : decode cX8_tellsRule 190 = .ok (.isub, 1) := dk_100 (dk_at dksX8_tellsRule_8 6 rfl rfl)
theorem dX8_tellsRule_191 : decode cX8_tellsRule 191 = .ok (.iaload, 1) := dk_46 (dk_at dksX8_tellsRule_8 7 rfl rfl)
theorem dX8_tellsRule_192 : decode cX8_tellsRule 192 = .ok (.aload_n 0, 1) := dk_42 (dk_at dksX8_tellsRule_8 8 rfl rfl)
theorem dX8_tellsRule_193 : decode cX8_tellsRule 193 = .ok (.getfield 105, 3) := dk_180 0 105 (dk_at dksX8_tellsRule_8 9 rfl rfl)
theorem dX8_tellsRule_196 : decode cX8_tellsRule 196 = .ok (.iload 6, 2) := dk_21 6 (dk_at dksX8_tellsRule_8 12 rfl rfl)
theorem dX8_tellsRule_198 : decode cX8_tellsRule 198 = .ok (.iaload, 1) := dk_46 (dk_at dksX8_tellsRule_8 14 rfl rfl)
theorem dX8_tellsRule_199 : decode cX8_tellsRule 199 = .ok (.invokevirtual 263, 3) := dk_182 1 7 (dk_at dksX8_tellsRule_8 15 rfl rfl)
theorem dX8_tellsRule_202 : decode cX8_tellsRule 202 = .ok (.iastore, 1) := dk_79 (dk_at dksX8_tellsRule_8 18 rfl rfl)
theorem dX8_tellsRule_203 : decode cX8_tellsRule 203 = .ok (.iinc 7 1, 3) := dk_132 7 1 (dk_at dksX8_tellsRule_8 19 rfl rfl)
theorem dX8_tellsRule_206 : decode cX8_tellsRule 206 = .ok (.goto (-183), 3) := dk_167 255 73 (dk_at dksX8_tellsRule_9 0 rfl rfl)
theorem dX8_tellsRule_209 : decode cX8_tellsRule 209 = .ok (.aload_n 0, 1) := dk_42 (dk_at dksX8_tellsRule_9 3 rfl rfl)
theorem dX8_tellsRule_210 : decode cX8_tellsRule 210 = .ok (.getfield 105, 3) := dk_180 0 105 (dk_at dksX8_tellsRule_9 4 rfl rfl)
theorem dX8_tellsRule_213 : decode cX8_tellsRule 213 = .ok (.iconst 0, 1) := dk_3 (dk_at dksX8_tellsRule_9 7 rfl rfl)
theorem dX8_tellsRule_214 : decode cX8_tellsRule 214 = .ok (.iaload, 1) := dk_46 (dk_at dksX8_tellsRule_9 8 rfl rfl)
theorem dX8_tellsRule_215 : decode cX8_tellsRule 215 = .ok (.ireturn, 1) := dk_172 (dk_at dksX8_tellsRule_9 9 rfl rfl)
abbrev cX8_nameValue : ByteArray := prog_16_method_33_code
def yX8_nameValue : MethodName := ⟨RX8, "nameValue", "(IIII)I"⟩
def dkwX8_nameValue_3 : List UInt8 := [156, 0, 7, 3, 167, 0, 10, 42, 180, 0, 48, 21, 4, 46, 172, 29, 172]
abbrev dktX8_nameValue_3 : List UInt8 := dkwX8_nameValue_3 ++ []
def dkwX8_nameValue_2 : List UInt8 := [28, 172, 42, 180, 0, 25, 29, 46, 172, 42, 180, 0, 28, 29, 46, 172, 42, 29, 182, 1, 0, 172, 21, 4]
abbrev dktX8_nameValue_2 : List UInt8 := dkwX8_nameValue_2 ++ dktX8_nameValue_3
def dkwX8_nameValue_1 : List UInt8 := [170, 0, 0, 0, 0, 0, 74, 0, 0, 0, 0, 0, 0, 0, 4, 0, 0, 0, 35, 0, 0, 0, 37, 0, 0, 0, 44, 0, 0, 0, 51, 0, 0, 0, 57]
abbrev dktX8_nameValue_1 : List UInt8 := dkwX8_nameValue_1 ++ dktX8_nameValue_2
def dkwX8_nameValue_0 : List UInt8 := [27]
abbrev dktX8_nameValue_0 : List UInt8 := dkwX8_nameValue_0 ++ dktX8_nameValue_1
theorem dksX8_nameValue_0 : cX8_nameValue.data.toList.drop 0 = dktX8_nameValue_0 := by decide +kernel
theorem dksX8_nameValue_1 : cX8_nameValue.data.toList.drop 1 = dktX8_nameValue_1 := dk_seg dksX8_nameValue_0 1 rfl rfl
theorem dksX8_nameValue_2 : cX8_nameValue.data.toList.drop 36 = dktX8_nameValue_2 := dk_seg dksX8_nameValue_1 35 rfl rfl
theorem dksX8_nameValue_3 : cX8_nameValue.data.toList.drop 60 = dktX8_nameValue_3 := dk_seg dksX8_nameValue_2 24 rfl rfl
theorem dX8_nameValue_0 : decode cX8_nameValue 0 = .ok (.iload_n 1, 1) := dk_27 (dk_at dksX8_nameValue_0 0 rfl rfl)
theorem dX8_nameValue_1 : decode cX8_nameValue 1 = .ok (.tableswitch 74 0 4 #[35, 37, 44, 51, 57], 35) := by decide +kernel
theorem dX8_nameValue_36 : decode cX8_nameValue 36 = .ok (.iload_n 2, 1) := dk_28 (dk_at dksX8_nameValue_2 0 rfl rfl)
theorem dX8_nameValue_37 : decode cX8_nameValue 37 = .ok (.ireturn, 1) := dk_172 (dk_at dksX8_nameValue_2 1 rfl rfl)
theorem dX8_nameValue_38 : decode cX8_nameValue 38 = .ok (.aload_n 0, 1) := dk_42 (dk_at dksX8_nameValue_2 2 rfl rfl)
theorem dX8_nameValue_39 : decode cX8_nameValue 39 = .ok (.getfield 25, 3) := dk_180 0 25 (dk_at dksX8_nameValue_2 3 rfl rfl)
theorem dX8_nameValue_42 : decode cX8_nameValue 42 = .ok (.iload_n 3, 1) := dk_29 (dk_at dksX8_nameValue_2 6 rfl rfl)
theorem dX8_nameValue_43 : decode cX8_nameValue 43 = .ok (.iaload, 1) := dk_46 (dk_at dksX8_nameValue_2 7 rfl rfl)
theorem dX8_nameValue_44 : decode cX8_nameValue 44 = .ok (.ireturn, 1) := dk_172 (dk_at dksX8_nameValue_2 8 rfl rfl)
theorem dX8_nameValue_45 : decode cX8_nameValue 45 = .ok (.aload_n 0, 1) := dk_42 (dk_at dksX8_nameValue_2 9 rfl rfl)
theorem dX8_nameValue_46 : decode cX8_nameValue 46 = .ok (.getfield 28, 3) := dk_180 0 28 (dk_at dksX8_nameValue_2 10 rfl rfl)
theorem dX8_nameValue_49 : decode cX8_nameValue 49 = .ok (.iload_n 3, 1) := dk_29 (dk_at dksX8_nameValue_2 13 rfl rfl)
theorem dX8_nameValue_50 : decode cX8_nameValue 50 = .ok (.iaload, 1) := dk_46 (dk_at dksX8_nameValue_2 14 rfl rfl)
theorem dX8_nameValue_51 : decode cX8_nameValue 51 = .ok (.ireturn, 1) := dk_172 (dk_at dksX8_nameValue_2 15 rfl rfl)
theorem dX8_nameValue_52 : decode cX8_nameValue 52 = .ok (.aload_n 0, 1) := dk_42 (dk_at dksX8_nameValue_2 16 rfl rfl)
theorem dX8_nameValue_53 : decode cX8_nameValue 53 = .ok (.iload_n 3, 1) := dk_29 (dk_at dksX8_nameValue_2 17 rfl rfl)
theorem dX8_nameValue_54 : decode cX8_nameValue 54 = .ok (.invokevirtual 256, 3) := dk_182 1 0 (dk_at dksX8_nameValue_2 18 rfl rfl)
theorem dX8_nameValue_57 : decode cX8_nameValue 57 = .ok (.ireturn, 1) := dk_172 (dk_at dksX8_nameValue_2 21 rfl rfl)
theorem dX8_nameValue_58 : decode cX8_nameValue 58 = .ok (.iload 4, 2) := dk_21 4 (dk_at dksX8_nameValue_2 22 rfl rfl)
theorem dX8_nameValue_60 : decode cX8_nameValue 60 = .ok (.ifCond .ge 7, 3) := dk_156 0 7 (dk_at dksX8_nameValue_3 0 rfl rfl)
theorem dX8_nameValue_63 : decode cX8_nameValue 63 = .ok (.iconst 0, 1) := dk_3 (dk_at dksX8_nameValue_3 3 rfl rfl)
theorem dX8_nameValue_64 : decode cX8_nameValue 64 = .ok (.goto 10, 3) := dk_167 0 10 (dk_at dksX8_nameValue_3 4 rfl rfl)
theorem dX8_nameValue_67 : decode cX8_nameValue 67 = .ok (.aload_n 0, 1) := dk_42 (dk_at dksX8_nameValue_3 7 rfl rfl)
theorem dX8_nameValue_68 : decode cX8_nameValue 68 = .ok (.getfield 48, 3) := dk_180 0 48 (dk_at dksX8_nameValue_3 8 rfl rfl)
theorem dX8_nameValue_71 : decode cX8_nameValue 71 = .ok (.iload 4, 2) := dk_21 4 (dk_at dksX8_nameValue_3 11 rfl rfl)
theorem dX8_nameValue_73 : decode cX8_nameValue 73 = .ok (.iaload, 1) := dk_46 (dk_at dksX8_nameValue_3 13 rfl rfl)
theorem dX8_nameValue_74 : decode cX8_nameValue 74 = .ok (.ireturn, 1) := dk_172 (dk_at dksX8_nameValue_3 14 rfl rfl)
theorem dX8_nameValue_75 : decode cX8_nameValue 75 = .ok (.iload_n 3, 1) := dk_29 (dk_at dksX8_nameValue_3 15 rfl rfl)
theorem dX8_nameValue_76 : decode cX8_nameValue 76 = .ok (.ireturn, 1) := dk_172 (dk_at dksX8_nameValue_3 16 rfl rfl)
abbrev cX8_done : ByteArray := prog_16_method_34_code
def yX8_done : MethodName := ⟨RX8, "done", "(III)I"⟩
def dkwX8_done_4 : List UInt8 := [167, 0, 4, 3, 172, 28, 29, 96, 172, 28, 29, 100, 172, 28, 29, 104, 172]
abbrev dktX8_done_4 : List UInt8 := dkwX8_done_4 ++ []
def dkwX8_done_3 : List UInt8 := [167, 0, 4, 3, 172, 28, 29, 162, 0, 7, 4, 167, 0, 4, 3, 172, 28, 29, 160, 0, 7, 4]
abbrev dktX8_done_3 : List UInt8 := dkwX8_done_3 ++ dktX8_done_4
def dkwX8_done_2 : List UInt8 := [28, 154, 0, 7, 29, 153, 0, 7, 4, 167, 0, 4, 3, 172, 28, 153, 0, 11, 29, 153, 0, 7, 4]
abbrev dktX8_done_2 : List UInt8 := dkwX8_done_2 ++ dktX8_done_3
def dkwX8_done_1 : List UInt8 := [170, 0, 0, 0, 0, 0, 101, 0, 0, 0, 2, 0, 0, 0, 8, 0, 0, 0, 43, 0, 0, 0, 57, 0, 0, 0, 101, 0, 0, 0, 71, 0, 0, 0, 82, 0, 0, 0, 93, 0, 0, 0, 97]
abbrev dktX8_done_1 : List UInt8 := dkwX8_done_1 ++ dktX8_done_2
def dkwX8_done_0 : List UInt8 := [27]
abbrev dktX8_done_0 : List UInt8 := dkwX8_done_0 ++ dktX8_done_1
theorem dksX8_done_0 : cX8_done.data.toList.drop 0 = dktX8_done_0 := by decide +kernel
theorem dksX8_done_1 : cX8_done.data.toList.drop 1 = dktX8_done_1 := dk_seg dksX8_done_0 1 rfl rfl
theorem dksX8_done_2 : cX8_done.data.toList.drop 44 = dktX8_done_2 := dk_seg dksX8_done_1 43 rfl rfl
theorem dksX8_done_3 : cX8_done.data.toList.drop 67 = dktX8_done_3 := dk_seg dksX8_done_2 23 rfl rfl
theorem dksX8_done_4 : cX8_done.data.toList.drop 89 = dktX8_done_4 := dk_seg dksX8_done_3 22 rfl rfl
theorem dX8_done_0 : decode cX8_done 0 = .ok (.iload_n 1, 1) := dk_27 (dk_at dksX8_done_0 0 rfl rfl)
theorem dX8_done_1 : decode cX8_done 1 = .ok (.tableswitch 101 2 8 #[43, 57, 101, 71, 82, 93, 97], 43) := by decide +kernel
theorem dX8_done_44 : decode cX8_done 44 = .ok (.iload_n 2, 1) := dk_28 (dk_at dksX8_done_2 0 rfl rfl)
theorem dX8_done_45 : decode cX8_done 45 = .ok (.ifCond .ne 7, 3) := dk_154 0 7 (dk_at dksX8_done_2 1 rfl rfl)
theorem dX8_done_48 : decode cX8_done 48 = .ok (.iload_n 3, 1) := dk_29 (dk_at dksX8_done_2 4 rfl rfl)
theorem dX8_done_49 : decode cX8_done 49 = .ok (.ifCond .eq 7, 3) := dk_153 0 7 (dk_at dksX8_done_2 5 rfl rfl)
theorem dX8_done_52 : decode cX8_done 52 = .ok (.iconst 1, 1) := dk_4 (dk_at dksX8_done_2 8 rfl rfl)
theorem dX8_done_53 : decode cX8_done 53 = .ok (.goto 4, 3) := dk_167 0 4 (dk_at dksX8_done_2 9 rfl rfl)
theorem dX8_done_56 : decode cX8_done 56 = .ok (.iconst 0, 1) := dk_3 (dk_at dksX8_done_2 12 rfl rfl)
theorem dX8_done_57 : decode cX8_done 57 = .ok (.ireturn, 1) := dk_172 (dk_at dksX8_done_2 13 rfl rfl)
theorem dX8_done_58 : decode cX8_done 58 = .ok (.iload_n 2, 1) := dk_28 (dk_at dksX8_done_2 14 rfl rfl)
theorem dX8_done_59 : decode cX8_done 59 = .ok (.ifCond .eq 11, 3) := dk_153 0 11 (dk_at dksX8_done_2 15 rfl rfl)
theorem dX8_done_62 : decode cX8_done 62 = .ok (.iload_n 3, 1) := dk_29 (dk_at dksX8_done_2 18 rfl rfl)
theorem dX8_done_63 : decode cX8_done 63 = .ok (.ifCond .eq 7, 3) := dk_153 0 7 (dk_at dksX8_done_2 19 rfl rfl)
theorem dX8_done_66 : decode cX8_done 66 = .ok (.iconst 1, 1) := dk_4 (dk_at dksX8_done_2 22 rfl rfl)
theorem dX8_done_67 : decode cX8_done 67 = .ok (.goto 4, 3) := dk_167 0 4 (dk_at dksX8_done_3 0 rfl rfl)
theorem dX8_done_70 : decode cX8_done 70 = .ok (.iconst 0, 1) := dk_3 (dk_at dksX8_done_3 3 rfl rfl)
theorem dX8_done_71 : decode cX8_done 71 = .ok (.ireturn, 1) := dk_172 (dk_at dksX8_done_3 4 rfl rfl)
theorem dX8_done_72 : decode cX8_done 72 = .ok (.iload_n 2, 1) := dk_28 (dk_at dksX8_done_3 5 rfl rfl)
theorem dX8_done_73 : decode cX8_done 73 = .ok (.iload_n 3, 1) := dk_29 (dk_at dksX8_done_3 6 rfl rfl)
theorem dX8_done_74 : decode cX8_done 74 = .ok (.if_icmp .ge 7, 3) := dk_162 0 7 (dk_at dksX8_done_3 7 rfl rfl)
theorem dX8_done_77 : decode cX8_done 77 = .ok (.iconst 1, 1) := dk_4 (dk_at dksX8_done_3 10 rfl rfl)
theorem dX8_done_78 : decode cX8_done 78 = .ok (.goto 4, 3) := dk_167 0 4 (dk_at dksX8_done_3 11 rfl rfl)
theorem dX8_done_81 : decode cX8_done 81 = .ok (.iconst 0, 1) := dk_3 (dk_at dksX8_done_3 14 rfl rfl)
theorem dX8_done_82 : decode cX8_done 82 = .ok (.ireturn, 1) := dk_172 (dk_at dksX8_done_3 15 rfl rfl)
theorem dX8_done_83 : decode cX8_done 83 = .ok (.iload_n 2, 1) := dk_28 (dk_at dksX8_done_3 16 rfl rfl)
theorem dX8_done_84 : decode cX8_done 84 = .ok (.iload_n 3, 1) := dk_29 (dk_at dksX8_done_3 17 rfl rfl)
theorem dX8_done_85 : decode cX8_done 85 = .ok (.if_icmp .ne 7, 3) := dk_160 0 7 (dk_at dksX8_done_3 18 rfl rfl)
theorem dX8_done_88 : decode cX8_done 88 = .ok (.iconst 1, 1) := dk_4 (dk_at dksX8_done_3 21 rfl rfl)
theorem dX8_done_89 : decode cX8_done 89 = .ok (.goto 4, 3) := dk_167 0 4 (dk_at dksX8_done_4 0 rfl rfl)
theorem dX8_done_92 : decode cX8_done 92 = .ok (.iconst 0, 1) := dk_3 (dk_at dksX8_done_4 3 rfl rfl)
theorem dX8_done_93 : decode cX8_done 93 = .ok (.ireturn, 1) := dk_172 (dk_at dksX8_done_4 4 rfl rfl)
theorem dX8_done_94 : decode cX8_done 94 = .ok (.iload_n 2, 1) := dk_28 (dk_at dksX8_done_4 5 rfl rfl)
theorem dX8_done_95 : decode cX8_done 95 = .ok (.iload_n 3, 1) := dk_29 (dk_at dksX8_done_4 6 rfl rfl)
theorem dX8_done_96 : decode cX8_done 96 = .ok (.iadd, 1) := dk_96 (dk_at dksX8_done_4 7 rfl rfl)
theorem dX8_done_97 : decode cX8_done 97 = .ok (.ireturn, 1) := dk_172 (dk_at dksX8_done_4 8 rfl rfl)
theorem dX8_done_98 : decode cX8_done 98 = .ok (.iload_n 2, 1) := dk_28 (dk_at dksX8_done_4 9 rfl rfl)
theorem dX8_done_99 : decode cX8_done 99 = .ok (.iload_n 3, 1) := dk_29 (dk_at dksX8_done_4 10 rfl rfl)
theorem dX8_done_100 : decode cX8_done 100 = .ok (.isub, 1) := dk_100 (dk_at dksX8_done_4 11 rfl rfl)
theorem dX8_done_101 : decode cX8_done 101 = .ok (.ireturn, 1) := dk_172 (dk_at dksX8_done_4 12 rfl rfl)
theorem dX8_done_102 : decode cX8_done 102 = .ok (.iload_n 2, 1) := dk_28 (dk_at dksX8_done_4 13 rfl rfl)
theorem dX8_done_103 : decode cX8_done 103 = .ok (.iload_n 3, 1) := dk_29 (dk_at dksX8_done_4 14 rfl rfl)
theorem dX8_done_104 : decode cX8_done 104 = .ok (.imul, 1) := dk_104 (dk_at dksX8_done_4 15 rfl rfl)
theorem dX8_done_105 : decode cX8_done 105 = .ok (.ireturn, 1) := dk_172 (dk_at dksX8_done_4 16 rfl rfl)
abbrev cX8_needs : ByteArray := prog_16_method_43_code
def yX8_needs : MethodName := ⟨RX8, "needs", "(III)I"⟩
def dkwX8_needs_3 : List UInt8 := [172]
abbrev dktX8_needs_3 : List UInt8 := dkwX8_needs_3 ++ []
def dkwX8_needs_2 : List UInt8 := [29, 182, 1, 31, 158, 0, 7, 21, 5, 54, 4, 132, 5, 255, 167, 255, 228, 42, 2, 181, 0, 108, 21, 4]
abbrev dktX8_needs_2 : List UInt8 := dkwX8_needs_2 ++ dktX8_needs_3
def dkwX8_needs_1 : List UInt8 := [16, 254, 172, 2, 54, 4, 16, 99, 54, 5, 21, 5, 155, 0, 29, 42, 21, 5, 181, 0, 108, 42, 27, 28]
abbrev dktX8_needs_1 : List UInt8 := dkwX8_needs_1 ++ dktX8_needs_2
def dkwX8_needs_0 : List UInt8 := [42, 27, 182, 1, 25, 153, 0, 19, 42, 28, 182, 0, 51, 153, 0, 11, 42, 29, 182, 1, 28, 154, 0, 6]
abbrev dktX8_needs_0 : List UInt8 := dkwX8_needs_0 ++ dktX8_needs_1
theorem dksX8_needs_0 : cX8_needs.data.toList.drop 0 = dktX8_needs_0 := by decide +kernel
theorem dksX8_needs_1 : cX8_needs.data.toList.drop 24 = dktX8_needs_1 := dk_seg dksX8_needs_0 24 rfl rfl
theorem dksX8_needs_2 : cX8_needs.data.toList.drop 48 = dktX8_needs_2 := dk_seg dksX8_needs_1 24 rfl rfl
theorem dksX8_needs_3 : cX8_needs.data.toList.drop 72 = dktX8_needs_3 := dk_seg dksX8_needs_2 24 rfl rfl
theorem dX8_needs_0 : decode cX8_needs 0 = .ok (.aload_n 0, 1) := dk_42 (dk_at dksX8_needs_0 0 rfl rfl)
theorem dX8_needs_1 : decode cX8_needs 1 = .ok (.iload_n 1, 1) := dk_27 (dk_at dksX8_needs_0 1 rfl rfl)
theorem dX8_needs_2 : decode cX8_needs 2 = .ok (.invokevirtual 281, 3) := dk_182 1 25 (dk_at dksX8_needs_0 2 rfl rfl)
theorem dX8_needs_5 : decode cX8_needs 5 = .ok (.ifCond .eq 19, 3) := dk_153 0 19 (dk_at dksX8_needs_0 5 rfl rfl)
theorem dX8_needs_8 : decode cX8_needs 8 = .ok (.aload_n 0, 1) := dk_42 (dk_at dksX8_needs_0 8 rfl rfl)
theorem dX8_needs_9 : decode cX8_needs 9 = .ok (.iload_n 2, 1) := dk_28 (dk_at dksX8_needs_0 9 rfl rfl)
theorem dX8_needs_10 : decode cX8_needs 10 = .ok (.invokevirtual 51, 3) := dk_182 0 51 (dk_at dksX8_needs_0 10 rfl rfl)
theorem dX8_needs_13 : decode cX8_needs 13 = .ok (.ifCond .eq 11, 3) := dk_153 0 11 (dk_at dksX8_needs_0 13 rfl rfl)
theorem dX8_needs_16 : decode cX8_needs 16 = .ok (.aload_n 0, 1) := dk_42 (dk_at dksX8_needs_0 16 rfl rfl)
theorem dX8_needs_17 : decode cX8_needs 17 = .ok (.iload_n 3, 1) := dk_29 (dk_at dksX8_needs_0 17 rfl rfl)
theorem dX8_needs_18 : decode cX8_needs 18 = .ok (.invokevirtual 284, 3) := dk_182 1 28 (dk_at dksX8_needs_0 18 rfl rfl)
theorem dX8_needs_21 : decode cX8_needs 21 = .ok (.ifCond .ne 6, 3) := dk_154 0 6 (dk_at dksX8_needs_0 21 rfl rfl)
theorem dX8_needs_24 : decode cX8_needs 24 = .ok (.bipush (-2), 2) := dk_16 254 (dk_at dksX8_needs_1 0 rfl rfl)
theorem dX8_needs_26 : decode cX8_needs 26 = .ok (.ireturn, 1) := dk_172 (dk_at dksX8_needs_1 2 rfl rfl)
theorem dX8_needs_27 : decode cX8_needs 27 = .ok (.iconst (-1), 1) := dk_2 (dk_at dksX8_needs_1 3 rfl rfl)
theorem dX8_needs_28 : decode cX8_needs 28 = .ok (.istore 4, 2) := dk_54 4 (dk_at dksX8_needs_1 4 rfl rfl)
theorem dX8_needs_30 : decode cX8_needs 30 = .ok (.bipush 99, 2) := dk_16 99 (dk_at dksX8_needs_1 6 rfl rfl)
theorem dX8_needs_32 : decode cX8_needs 32 = .ok (.istore 5, 2) := dk_54 5 (dk_at dksX8_needs_1 8 rfl rfl)
theorem dX8_needs_34 : decode cX8_needs 34 = .ok (.iload 5, 2) := dk_21 5 (dk_at dksX8_needs_1 10 rfl rfl)
theorem dX8_needs_36 : decode cX8_needs 36 = .ok (.ifCond .lt 29, 3) := dk_155 0 29 (dk_at dksX8_needs_1 12 rfl rfl)
theorem dX8_needs_39 : decode cX8_needs 39 = .ok (.aload_n 0, 1) := dk_42 (dk_at dksX8_needs_1 15 rfl rfl)
theorem dX8_needs_40 : decode cX8_needs 40 = .ok (.iload 5, 2) := dk_21 5 (dk_at dksX8_needs_1 16 rfl rfl)
theorem dX8_needs_42 : decode cX8_needs 42 = .ok (.putfield 108, 3) := dk_181 0 108 (dk_at dksX8_needs_1 18 rfl rfl)
theorem dX8_needs_45 : decode cX8_needs 45 = .ok (.aload_n 0, 1) := dk_42 (dk_at dksX8_needs_1 21 rfl rfl)
theorem dX8_needs_46 : decode cX8_needs 46 = .ok (.iload_n 1, 1) := dk_27 (dk_at dksX8_needs_1 22 rfl rfl)
theorem dX8_needs_47 : decode cX8_needs 47 = .ok (.iload_n 2, 1) := dk_28 (dk_at dksX8_needs_1 23 rfl rfl)
theorem dX8_needs_48 : decode cX8_needs 48 = .ok (.iload_n 3, 1) := dk_29 (dk_at dksX8_needs_2 0 rfl rfl)
theorem dX8_needs_49 : decode cX8_needs 49 = .ok (.invokevirtual 287, 3) := dk_182 1 31 (dk_at dksX8_needs_2 1 rfl rfl)
theorem dX8_needs_52 : decode cX8_needs 52 = .ok (.ifCond .le 7, 3) := dk_158 0 7 (dk_at dksX8_needs_2 4 rfl rfl)
theorem dX8_needs_55 : decode cX8_needs 55 = .ok (.iload 5, 2) := dk_21 5 (dk_at dksX8_needs_2 7 rfl rfl)
theorem dX8_needs_57 : decode cX8_needs 57 = .ok (.istore 4, 2) := dk_54 4 (dk_at dksX8_needs_2 9 rfl rfl)
theorem dX8_needs_59 : decode cX8_needs 59 = .ok (.iinc 5 (-1), 3) := dk_132 5 255 (dk_at dksX8_needs_2 11 rfl rfl)
theorem dX8_needs_62 : decode cX8_needs 62 = .ok (.goto (-28), 3) := dk_167 255 228 (dk_at dksX8_needs_2 14 rfl rfl)
theorem dX8_needs_65 : decode cX8_needs 65 = .ok (.aload_n 0, 1) := dk_42 (dk_at dksX8_needs_2 17 rfl rfl)
theorem dX8_needs_66 : decode cX8_needs 66 = .ok (.iconst (-1), 1) := dk_2 (dk_at dksX8_needs_2 18 rfl rfl)
theorem dX8_needs_67 : decode cX8_needs 67 = .ok (.putfield 108, 3) := dk_181 0 108 (dk_at dksX8_needs_2 19 rfl rfl)
theorem dX8_needs_70 : decode cX8_needs 70 = .ok (.iload 4, 2) := dk_21 4 (dk_at dksX8_needs_2 22 rfl rfl)
theorem dX8_needs_72 : decode cX8_needs 72 = .ok (.ireturn, 1) := dk_172 (dk_at dksX8_needs_3 0 rfl rfl)
abbrev cX8_run : ByteArray := prog_16_method_51_code
def yX8_run : MethodName := ⟨RX8, "run", "(IIII)I"⟩
def dkwX8_run_3 : List UInt8 := [167, 0, 9, 42, 180, 0, 117, 29, 46, 172]
abbrev dktX8_run_3 : List UInt8 := dkwX8_run_3 ++ []
def dkwX8_run_2 : List UInt8 := [154, 0, 12, 42, 180, 0, 114, 29, 46, 167, 0, 24, 21, 4, 4, 160, 0, 12, 42, 180, 0, 111, 29, 46]
abbrev dktX8_run_2 : List UInt8 := dkwX8_run_2 ++ dktX8_run_3
def dkwX8_run_1 : List UInt8 := [42, 21, 4, 3, 5, 182, 0, 7, 154, 0, 6, 16, 254, 172, 42, 27, 28, 182, 1, 52, 21, 4]
abbrev dktX8_run_1 : List UInt8 := dkwX8_run_1 ++ dktX8_run_2
def dkwX8_run_0 : List UInt8 := [42, 27, 182, 1, 25, 153, 0, 30, 42, 28, 182, 1, 49, 153, 0, 22, 42, 29, 182, 0, 51, 153, 0, 14]
abbrev dktX8_run_0 : List UInt8 := dkwX8_run_0 ++ dktX8_run_1
theorem dksX8_run_0 : cX8_run.data.toList.drop 0 = dktX8_run_0 := by decide +kernel
theorem dksX8_run_1 : cX8_run.data.toList.drop 24 = dktX8_run_1 := dk_seg dksX8_run_0 24 rfl rfl
theorem dksX8_run_2 : cX8_run.data.toList.drop 46 = dktX8_run_2 := dk_seg dksX8_run_1 22 rfl rfl
theorem dksX8_run_3 : cX8_run.data.toList.drop 70 = dktX8_run_3 := dk_seg dksX8_run_2 24 rfl rfl
theorem dX8_run_0 : decode cX8_run 0 = .ok (.aload_n 0, 1) := dk_42 (dk_at dksX8_run_0 0 rfl rfl)
theorem dX8_run_1 : decode cX8_run 1 = .ok (.iload_n 1, 1) := dk_27 (dk_at dksX8_run_0 1 rfl rfl)
theorem dX8_run_2 : decode cX8_run 2 = .ok (.invokevirtual 281, 3) := dk_182 1 25 (dk_at dksX8_run_0 2 rfl rfl)
theorem dX8_run_5 : decode cX8_run 5 = .ok (.ifCond .eq 30, 3) := dk_153 0 30 (dk_at dksX8_run_0 5 rfl rfl)
theorem dX8_run_8 : decode cX8_run 8 = .ok (.aload_n 0, 1) := dk_42 (dk_at dksX8_run_0 8 rfl rfl)
theorem dX8_run_9 : decode cX8_run 9 = .ok (.iload_n 2, 1) := dk_28 (dk_at dksX8_run_0 9 rfl rfl)
theorem dX8_run_10 : decode cX8_run 10 = .ok (.invokevirtual 305, 3) := dk_182 1 49 (dk_at dksX8_run_0 10 rfl rfl)
theorem dX8_run_13 : decode cX8_run 13 = .ok (.ifCond .eq 22, 3) := dk_153 0 22 (dk_at dksX8_run_0 13 rfl rfl)
theorem dX8_run_16 : decode cX8_run 16 = .ok (.aload_n 0, 1) := dk_42 (dk_at dksX8_run_0 16 rfl rfl)
theorem dX8_run_17 : decode cX8_run 17 = .ok (.iload_n 3, 1) := dk_29 (dk_at dksX8_run_0 17 rfl rfl)
theorem dX8_run_18 : decode cX8_run 18 = .ok (.invokevirtual 51, 3) := dk_182 0 51 (dk_at dksX8_run_0 18 rfl rfl)
theorem dX8_run_21 : decode cX8_run 21 = .ok (.ifCond .eq 14, 3) := dk_153 0 14 (dk_at dksX8_run_0 21 rfl rfl)
theorem dX8_run_24 : decode cX8_run 24 = .ok (.aload_n 0, 1) := dk_42 (dk_at dksX8_run_1 0 rfl rfl)
theorem dX8_run_25 : decode cX8_run 25 = .ok (.iload 4, 2) := dk_21 4 (dk_at dksX8_run_1 1 rfl rfl)
theorem dX8_run_27 : decode cX8_run 27 = .ok (.iconst 0, 1) := dk_3 (dk_at dksX8_run_1 3 rfl rfl)
theorem dX8_run_28 : decode cX8_run 28 = .ok (.iconst 2, 1) := dk_5 (dk_at dksX8_run_1 4 rfl rfl)
theorem dX8_run_29 : decode cX8_run 29 = .ok (.invokevirtual 7, 3) := dk_182 0 7 (dk_at dksX8_run_1 5 rfl rfl)
theorem dX8_run_32 : decode cX8_run 32 = .ok (.ifCond .ne 6, 3) := dk_154 0 6 (dk_at dksX8_run_1 8 rfl rfl)
theorem dX8_run_35 : decode cX8_run 35 = .ok (.bipush (-2), 2) := dk_16 254 (dk_at dksX8_run_1 11 rfl rfl)
theorem dX8_run_37 : decode cX8_run 37 = .ok (.ireturn, 1) := dk_172 (dk_at dksX8_run_1 13 rfl rfl)
theorem dX8_run_38 : decode cX8_run 38 = .ok (.aload_n 0, 1) := dk_42 (dk_at dksX8_run_1 14 rfl rfl)
theorem dX8_run_39 : decode cX8_run 39 = .ok (.iload_n 1, 1) := dk_27 (dk_at dksX8_run_1 15 rfl rfl)
theorem dX8_run_40 : decode cX8_run 40 = .ok (.iload_n 2, 1) := dk_28 (dk_at dksX8_run_1 16 rfl rfl)
theorem dX8_run_41 : decode cX8_run 41 = .ok (.invokevirtual 308, 3) := dk_182 1 52 (dk_at dksX8_run_1 17 rfl rfl)
theorem dX8_run_44 : decode cX8_run 44 = .ok (.iload 4, 2) := dk_21 4 (dk_at dksX8_run_1 20 rfl rfl)
theorem dX8_run_46 : decode cX8_run 46 = .ok (.ifCond .ne 12, 3) := dk_154 0 12 (dk_at dksX8_run_2 0 rfl rfl)
theorem dX8_run_49 : decode cX8_run 49 = .ok (.aload_n 0, 1) := dk_42 (dk_at dksX8_run_2 3 rfl rfl)
theorem dX8_run_50 : decode cX8_run 50 = .ok (.getfield 114, 3) := dk_180 0 114 (dk_at dksX8_run_2 4 rfl rfl)
theorem dX8_run_53 : decode cX8_run 53 = .ok (.iload_n 3, 1) := dk_29 (dk_at dksX8_run_2 7 rfl rfl)
theorem dX8_run_54 : decode cX8_run 54 = .ok (.iaload, 1) := dk_46 (dk_at dksX8_run_2 8 rfl rfl)
theorem dX8_run_55 : decode cX8_run 55 = .ok (.goto 24, 3) := dk_167 0 24 (dk_at dksX8_run_2 9 rfl rfl)
theorem dX8_run_58 : decode cX8_run 58 = .ok (.iload 4, 2) := dk_21 4 (dk_at dksX8_run_2 12 rfl rfl)
theorem dX8_run_60 : decode cX8_run 60 = .ok (.iconst 1, 1) := dk_4 (dk_at dksX8_run_2 14 rfl rfl)
theorem dX8_run_61 : decode cX8_run 61 = .ok (.if_icmp .ne 12, 3) := dk_160 0 12 (dk_at dksX8_run_2 15 rfl rfl)
theorem dX8_run_64 : decode cX8_run 64 = .ok (.aload_n 0, 1) := dk_42 (dk_at dksX8_run_2 18 rfl rfl)
theorem dX8_run_65 : decode cX8_run 65 = .ok (.getfield 111, 3) := dk_180 0 111 (dk_at dksX8_run_2 19 rfl rfl)
theorem dX8_run_68 : decode cX8_run 68 = .ok (.iload_n 3, 1) := dk_29 (dk_at dksX8_run_2 22 rfl rfl)
theorem dX8_run_69 : decode cX8_run 69 = .ok (.iaload, 1) := dk_46 (dk_at dksX8_run_2 23 rfl rfl)
theorem dX8_run_70 : decode cX8_run 70 = .ok (.goto 9, 3) := dk_167 0 9 (dk_at dksX8_run_3 0 rfl rfl)
theorem dX8_run_73 : decode cX8_run 73 = .ok (.aload_n 0, 1) := dk_42 (dk_at dksX8_run_3 3 rfl rfl)
theorem dX8_run_74 : decode cX8_run 74 = .ok (.getfield 117, 3) := dk_180 0 117 (dk_at dksX8_run_3 4 rfl rfl)
theorem dX8_run_77 : decode cX8_run 77 = .ok (.iload_n 3, 1) := dk_29 (dk_at dksX8_run_3 7 rfl rfl)
theorem dX8_run_78 : decode cX8_run 78 = .ok (.iaload, 1) := dk_46 (dk_at dksX8_run_3 8 rfl rfl)
theorem dX8_run_79 : decode cX8_run 79 = .ok (.ireturn, 1) := dk_172 (dk_at dksX8_run_3 9 rfl rfl)
abbrev cX8_isRow : ByteArray := prog_16_method_49_code
def yX8_isRow : MethodName := ⟨RX8, "isRow", "(I)Z"⟩
def dkwX8_isRow_2 : List UInt8 := [167, 0, 4, 3, 172]
abbrev dktX8_isRow_2 : List UInt8 := dkwX8_isRow_2 ++ []
def dkwX8_isRow_1 : List UInt8 := [27, 16, 100, 112, 182, 1, 28, 153, 0, 18, 27, 16, 100, 108, 27, 16, 100, 112, 163, 0, 7, 4]
abbrev dktX8_isRow_1 : List UInt8 := dkwX8_isRow_1 ++ dktX8_isRow_2
def dkwX8_isRow_0 : List UInt8 := [42, 27, 3, 17, 23, 71, 182, 0, 7, 153, 0, 40, 42, 27, 16, 100, 108, 182, 1, 28, 153, 0, 29, 42]
abbrev dktX8_isRow_0 : List UInt8 := dkwX8_isRow_0 ++ dktX8_isRow_1
theorem dksX8_isRow_0 : cX8_isRow.data.toList.drop 0 = dktX8_isRow_0 := by decide +kernel
theorem dksX8_isRow_1 : cX8_isRow.data.toList.drop 24 = dktX8_isRow_1 := dk_seg dksX8_isRow_0 24 rfl rfl
theorem dksX8_isRow_2 : cX8_isRow.data.toList.drop 46 = dktX8_isRow_2 := dk_seg dksX8_isRow_1 22 rfl rfl
theorem dX8_isRow_0 : decode cX8_isRow 0 = .ok (.aload_n 0, 1) := dk_42 (dk_at dksX8_isRow_0 0 rfl rfl)
theorem dX8_isRow_1 : decode cX8_isRow 1 = .ok (.iload_n 1, 1) := dk_27 (dk_at dksX8_isRow_0 1 rfl rfl)
theorem dX8_isRow_2 : decode cX8_isRow 2 = .ok (.iconst 0, 1) := dk_3 (dk_at dksX8_isRow_0 2 rfl rfl)
theorem dX8_isRow_3 : decode cX8_isRow 3 = .ok (.sipush 5959, 3) := dk_17 23 71 (dk_at dksX8_isRow_0 3 rfl rfl)
theorem dX8_isRow_6 : decode cX8_isRow 6 = .ok (.invokevirtual 7, 3) := dk_182 0 7 (dk_at dksX8_isRow_0 6 rfl rfl)
theorem dX8_isRow_9 : decode cX8_isRow 9 = .ok (.ifCond .eq 40, 3) := dk_153 0 40 (dk_at dksX8_isRow_0 9 rfl rfl)
theorem dX8_isRow_12 : decode cX8_isRow 12 = .ok (.aload_n 0, 1) := dk_42 (dk_at dksX8_isRow_0 12 rfl rfl)
theorem dX8_isRow_13 : decode cX8_isRow 13 = .ok (.iload_n 1, 1) := dk_27 (dk_at dksX8_isRow_0 13 rfl rfl)
theorem dX8_isRow_14 : decode cX8_isRow 14 = .ok (.bipush 100, 2) := dk_16 100 (dk_at dksX8_isRow_0 14 rfl rfl)
theorem dX8_isRow_16 : decode cX8_isRow 16 = .ok (.idiv, 1) := dk_108 (dk_at dksX8_isRow_0 16 rfl rfl)
theorem dX8_isRow_17 : decode cX8_isRow 17 = .ok (.invokevirtual 284, 3) := dk_182 1 28 (dk_at dksX8_isRow_0 17 rfl rfl)
theorem dX8_isRow_20 : decode cX8_isRow 20 = .ok (.ifCond .eq 29, 3) := dk_153 0 29 (dk_at dksX8_isRow_0 20 rfl rfl)
theorem dX8_isRow_23 : decode cX8_isRow 23 = .ok (.aload_n 0, 1) := dk_42 (dk_at dksX8_isRow_0 23 rfl rfl)
theorem dX8_isRow_24 : decode cX8_isRow 24 = .ok (.iload_n 1, 1) := dk_27 (dk_at dksX8_isRow_1 0 rfl rfl)
theorem dX8_isRow_25 : decode cX8_isRow 25 = .ok (.bipush 100, 2) := dk_16 100 (dk_at dksX8_isRow_1 1 rfl rfl)
theorem dX8_isRow_27 : decode cX8_isRow 27 = .ok (.irem, 1) := dk_112 (dk_at dksX8_isRow_1 3 rfl rfl)
theorem dX8_isRow_28 : decode cX8_isRow 28 = .ok (.invokevirtual 284, 3) := dk_182 1 28 (dk_at dksX8_isRow_1 4 rfl rfl)
theorem dX8_isRow_31 : decode cX8_isRow 31 = .ok (.ifCond .eq 18, 3) := dk_153 0 18 (dk_at dksX8_isRow_1 7 rfl rfl)
theorem dX8_isRow_34 : decode cX8_isRow 34 = .ok (.iload_n 1, 1) := dk_27 (dk_at dksX8_isRow_1 10 rfl rfl)
theorem dX8_isRow_35 : decode cX8_isRow 35 = .ok (.bipush 100, 2) := dk_16 100 (dk_at dksX8_isRow_1 11 rfl rfl)
theorem dX8_isRow_37 : decode cX8_isRow 37 = .ok (.idiv, 1) := dk_108 (dk_at dksX8_isRow_1 13 rfl rfl)
theorem dX8_isRow_38 : decode cX8_isRow 38 = .ok (.iload_n 1, 1) := dk_27 (dk_at dksX8_isRow_1 14 rfl rfl)
theorem dX8_isRow_39 : decode cX8_isRow 39 = .ok (.bipush 100, 2) := dk_16 100 (dk_at dksX8_isRow_1 15 rfl rfl)
theorem dX8_isRow_41 : decode cX8_isRow 41 = .ok (.irem, 1) := dk_112 (dk_at dksX8_isRow_1 17 rfl rfl)
theorem dX8_isRow_42 : decode cX8_isRow 42 = .ok (.if_icmp .gt 7, 3) := dk_163 0 7 (dk_at dksX8_isRow_1 18 rfl rfl)
theorem dX8_isRow_45 : decode cX8_isRow 45 = .ok (.iconst 1, 1) := dk_4 (dk_at dksX8_isRow_1 21 rfl rfl)
theorem dX8_isRow_46 : decode cX8_isRow 46 = .ok (.goto 4, 3) := dk_167 0 4 (dk_at dksX8_isRow_2 0 rfl rfl)
theorem dX8_isRow_49 : decode cX8_isRow 49 = .ok (.iconst 0, 1) := dk_3 (dk_at dksX8_isRow_2 3 rfl rfl)
theorem dX8_isRow_50 : decode cX8_isRow 50 = .ok (.ireturn, 1) := dk_172 (dk_at dksX8_isRow_2 4 rfl rfl)
abbrev cX8_goRow : ByteArray := prog_16_method_50_code
def yX8_goRow : MethodName := ⟨RX8, "goRow", "(II)V"⟩
def dkwX8_goRow_1 : List UInt8 := [132, 3, 1, 167, 255, 239, 177]
abbrev dktX8_goRow_1 : List UInt8 := dkwX8_goRow_1 ++ []
def dkwX8_goRow_0 : List UInt8 := [42, 182, 1, 43, 28, 16, 100, 108, 62, 29, 28, 16, 100, 112, 163, 0, 15, 42, 27, 29, 182, 1, 46]
abbrev dktX8_goRow_0 : List UInt8 := dkwX8_goRow_0 ++ dktX8_goRow_1
theorem dksX8_goRow_0 : cX8_goRow.data.toList.drop 0 = dktX8_goRow_0 := by decide +kernel
theorem dksX8_goRow_1 : cX8_goRow.data.toList.drop 23 = dktX8_goRow_1 := dk_seg dksX8_goRow_0 23 rfl rfl
theorem dX8_goRow_0 : decode cX8_goRow 0 = .ok (.aload_n 0, 1) := dk_42 (dk_at dksX8_goRow_0 0 rfl rfl)
theorem dX8_goRow_1 : decode cX8_goRow 1 = .ok (.invokevirtual 299, 3) := dk_182 1 43 (dk_at dksX8_goRow_0 1 rfl rfl)
theorem dX8_goRow_4 : decode cX8_goRow 4 = .ok (.iload_n 2, 1) := dk_28 (dk_at dksX8_goRow_0 4 rfl rfl)
theorem dX8_goRow_5 : decode cX8_goRow 5 = .ok (.bipush 100, 2) := dk_16 100 (dk_at dksX8_goRow_0 5 rfl rfl)
theorem dX8_goRow_7 : decode cX8_goRow 7 = .ok (.idiv, 1) := dk_108 (dk_at dksX8_goRow_0 7 rfl rfl)
theorem dX8_goRow_8 : decode cX8_goRow 8 = .ok (.istore_n 3, 1) := dk_62 (dk_at dksX8_goRow_0 8 rfl rfl)
theorem dX8_goRow_9 : decode cX8_goRow 9 = .ok (.iload_n 3, 1) := dk_29 (dk_at dksX8_goRow_0 9 rfl rfl)
theorem dX8_goRow_10 : decode cX8_goRow 10 = .ok (.iload_n 2, 1) := dk_28 (dk_at dksX8_goRow_0 10 rfl rfl)
theorem dX8_goRow_11 : decode cX8_goRow 11 = .ok (.bipush 100, 2) := dk_16 100 (dk_at dksX8_goRow_0 11 rfl rfl)
theorem dX8_goRow_13 : decode cX8_goRow 13 = .ok (.irem, 1) := dk_112 (dk_at dksX8_goRow_0 13 rfl rfl)
theorem dX8_goRow_14 : decode cX8_goRow 14 = .ok (.if_icmp .gt 15, 3) := dk_163 0 15 (dk_at dksX8_goRow_0 14 rfl rfl)
theorem dX8_goRow_17 : decode cX8_goRow 17 = .ok (.aload_n 0, 1) := dk_42 (dk_at dksX8_goRow_0 17 rfl rfl)
theorem dX8_goRow_18 : decode cX8_goRow 18 = .ok (.iload_n 1, 1) := dk_27 (dk_at dksX8_goRow_0 18 rfl rfl)
theorem dX8_goRow_19 : decode cX8_goRow 19 = .ok (.iload_n 3, 1) := dk_29 (dk_at dksX8_goRow_0 19 rfl rfl)
theorem dX8_goRow_20 : decode cX8_goRow 20 = .ok (.invokevirtual 302, 3) := dk_182 1 46 (dk_at dksX8_goRow_0 20 rfl rfl)
theorem dX8_goRow_23 : decode cX8_goRow 23 = .ok (.iinc 3 1, 3) := dk_132 3 1 (dk_at dksX8_goRow_1 0 rfl rfl)
theorem dX8_goRow_26 : decode cX8_goRow 26 = .ok (.goto (-17), 3) := dk_167 255 239 (dk_at dksX8_goRow_1 3 rfl rfl)
theorem dX8_goRow_29 : decode cX8_goRow 29 = .ok (.return_, 1) := dk_177 (dk_at dksX8_goRow_1 6 rfl rfl)
abbrev cX8_begin : ByteArray := prog_16_method_46_code
def yX8_begin : MethodName := ⟨RX8, "begin", "()V"⟩
def dkwX8_begin_2 : List UInt8 := [167, 255, 212, 177]
abbrev dktX8_begin_2 : List UInt8 := dkwX8_begin_2 ++ []
def dkwX8_begin_1 : List UInt8 := [180, 0, 114, 27, 3, 79, 42, 180, 0, 117, 27, 3, 79, 42, 180, 0, 120, 27, 2, 79, 132, 1, 1]
abbrev dktX8_begin_1 : List UInt8 := dkwX8_begin_1 ++ dktX8_begin_2
def dkwX8_begin_0 : List UInt8 := [3, 60, 27, 42, 180, 0, 1, 162, 0, 42, 42, 180, 0, 111, 27, 42, 180, 0, 17, 27, 46, 79, 42]
abbrev dktX8_begin_0 : List UInt8 := dkwX8_begin_0 ++ dktX8_begin_1
theorem dksX8_begin_0 : cX8_begin.data.toList.drop 0 = dktX8_begin_0 := by decide +kernel
theorem dksX8_begin_1 : cX8_begin.data.toList.drop 23 = dktX8_begin_1 := dk_seg dksX8_begin_0 23 rfl rfl
theorem dksX8_begin_2 : cX8_begin.data.toList.drop 46 = dktX8_begin_2 := dk_seg dksX8_begin_1 23 rfl rfl
theorem dX8_begin_0 : decode cX8_begin 0 = .ok (.iconst 0, 1) := dk_3 (dk_at dksX8_begin_0 0 rfl rfl)
theorem dX8_begin_1 : decode cX8_begin 1 = .ok (.istore_n 1, 1) := dk_60 (dk_at dksX8_begin_0 1 rfl rfl)
theorem dX8_begin_2 : decode cX8_begin 2 = .ok (.iload_n 1, 1) := dk_27 (dk_at dksX8_begin_0 2 rfl rfl)
theorem dX8_begin_3 : decode cX8_begin 3 = .ok (.aload_n 0, 1) := dk_42 (dk_at dksX8_begin_0 3 rfl rfl)
theorem dX8_begin_4 : decode cX8_begin 4 = .ok (.getfield 1, 3) := dk_180 0 1 (dk_at dksX8_begin_0 4 rfl rfl)
theorem dX8_begin_7 : decode cX8_begin 7 = .ok (.if_icmp .ge 42, 3) := dk_162 0 42 (dk_at dksX8_begin_0 7 rfl rfl)
theorem dX8_begin_10 : decode cX8_begin 10 = .ok (.aload_n 0, 1) := dk_42 (dk_at dksX8_begin_0 10 rfl rfl)
theorem dX8_begin_11 : decode cX8_begin 11 = .ok (.getfield 111, 3) := dk_180 0 111 (dk_at dksX8_begin_0 11 rfl rfl)
theorem dX8_begin_14 : decode cX8_begin 14 = .ok (.iload_n 1, 1) := dk_27 (dk_at dksX8_begin_0 14 rfl rfl)
theorem dX8_begin_15 : decode cX8_begin 15 = .ok (.aload_n 0, 1) := dk_42 (dk_at dksX8_begin_0 15 rfl rfl)
theorem dX8_begin_16 : decode cX8_begin 16 = .ok (.getfield 17, 3) := dk_180 0 17 (dk_at dksX8_begin_0 16 rfl rfl)
theorem dX8_begin_19 : decode cX8_begin 19 = .ok (.iload_n 1, 1) := dk_27 (dk_at dksX8_begin_0 19 rfl rfl)
theorem dX8_begin_20 : decode cX8_begin 20 = .ok (.iaload, 1) := dk_46 (dk_at dksX8_begin_0 20 rfl rfl)
theorem dX8_begin_21 : decode cX8_begin 21 = .ok (.iastore, 1) := dk_79 (dk_at dksX8_begin_0 21 rfl rfl)
theorem dX8_begin_22 : decode cX8_begin 22 = .ok (.aload_n 0, 1) := dk_42 (dk_at dksX8_begin_0 22 rfl rfl)
theorem dX8_begin_23 : decode cX8_begin 23 = .ok (.getfield 114, 3) := dk_180 0 114 (dk_at dksX8_begin_1 0 rfl rfl)
theorem dX8_begin_26 : decode cX8_begin 26 = .ok (.iload_n 1, 1) := dk_27 (dk_at dksX8_begin_1 3 rfl rfl)
theorem dX8_begin_27 : decode cX8_begin 27 = .ok (.iconst 0, 1) := dk_3 (dk_at dksX8_begin_1 4 rfl rfl)
theorem dX8_begin_28 : decode cX8_begin 28 = .ok (.iastore, 1) := dk_79 (dk_at dksX8_begin_1 5 rfl rfl)
theorem dX8_begin_29 : decode cX8_begin 29 = .ok (.aload_n 0, 1) := dk_42 (dk_at dksX8_begin_1 6 rfl rfl)
theorem dX8_begin_30 : decode cX8_begin 30 = .ok (.getfield 117, 3) := dk_180 0 117 (dk_at dksX8_begin_1 7 rfl rfl)
theorem dX8_begin_33 : decode cX8_begin 33 = .ok (.iload_n 1, 1) := dk_27 (dk_at dksX8_begin_1 10 rfl rfl)
theorem dX8_begin_34 : decode cX8_begin 34 = .ok (.iconst 0, 1) := dk_3 (dk_at dksX8_begin_1 11 rfl rfl)
theorem dX8_begin_35 : decode cX8_begin 35 = .ok (.iastore, 1) := dk_79 (dk_at dksX8_begin_1 12 rfl rfl)
theorem dX8_begin_36 : decode cX8_begin 36 = .ok (.aload_n 0, 1) := dk_42 (dk_at dksX8_begin_1 13 rfl rfl)
theorem dX8_begin_37 : decode cX8_begin 37 = .ok (.getfield 120, 3) := dk_180 0 120 (dk_at dksX8_begin_1 14 rfl rfl)
theorem dX8_begin_40 : decode cX8_begin 40 = .ok (.iload_n 1, 1) := dk_27 (dk_at dksX8_begin_1 17 rfl rfl)
theorem dX8_begin_41 : decode cX8_begin 41 = .ok (.iconst (-1), 1) := dk_2 (dk_at dksX8_begin_1 18 rfl rfl)
theorem dX8_begin_42 : decode cX8_begin 42 = .ok (.iastore, 1) := dk_79 (dk_at dksX8_begin_1 19 rfl rfl)
theorem dX8_begin_43 : decode cX8_begin 43 = .ok (.iinc 1 1, 3) := dk_132 1 1 (dk_at dksX8_begin_1 20 rfl rfl)
theorem dX8_begin_46 : decode cX8_begin 46 = .ok (.goto (-44), 3) := dk_167 255 212 (dk_at dksX8_begin_2 0 rfl rfl)
theorem dX8_begin_49 : decode cX8_begin 49 = .ok (.return_, 1) := dk_177 (dk_at dksX8_begin_2 3 rfl rfl)
abbrev cX8_goNight : ByteArray := prog_16_method_47_code
def yX8_goNight : MethodName := ⟨RX8, "goNight", "(II)V"⟩
def dkwX8_goNight_6 : List UInt8 := [167, 0, 4, 3, 96, 79, 42, 180, 0, 120, 21, 4, 29, 79, 132, 4, 1, 167, 255, 108, 177]
abbrev dktX8_goNight_6 : List UInt8 := dkwX8_goNight_6 ++ []
def dkwX8_goNight_5 : List UInt8 := [42, 180, 0, 120, 21, 4, 46, 155, 0, 18, 42, 180, 0, 120, 21, 4, 46, 29, 159, 0, 7, 4]
abbrev dktX8_goNight_5 : List UInt8 := dkwX8_goNight_5 ++ dktX8_goNight_6
def dkwX8_goNight_4 : List UInt8 := [182, 1, 37, 54, 6, 167, 255, 202, 21, 7, 154, 0, 6, 167, 0, 47, 42, 180, 0, 117, 21, 4, 92, 46]
abbrev dktX8_goNight_4 : List UInt8 := dkwX8_goNight_4 ++ dktX8_goNight_5
def dkwX8_goNight_3 : List UInt8 := [21, 6, 79, 42, 180, 0, 114, 21, 4, 92, 46, 4, 96, 79, 4, 54, 7, 132, 5, 255, 42, 21, 6, 29]
abbrev dktX8_goNight_3 : List UInt8 := dkwX8_goNight_3 ++ dktX8_goNight_4
def dkwX8_goNight_2 : List UInt8 := [158, 0, 55, 21, 6, 155, 0, 50, 42, 21, 6, 182, 1, 40, 153, 0, 41, 42, 180, 0, 111, 21, 4]
abbrev dktX8_goNight_2 : List UInt8 := dkwX8_goNight_2 ++ dktX8_goNight_3
def dkwX8_goNight_1 : List UInt8 := [182, 1, 31, 54, 5, 42, 42, 180, 0, 111, 21, 4, 46, 29, 182, 1, 37, 54, 6, 3, 54, 7, 21, 5]
abbrev dktX8_goNight_1 : List UInt8 := dkwX8_goNight_1 ++ dktX8_goNight_2
def dkwX8_goNight_0 : List UInt8 := [42, 27, 28, 182, 1, 34, 62, 3, 54, 4, 21, 4, 42, 180, 0, 1, 162, 0, 145, 42, 27, 21, 4, 28]
abbrev dktX8_goNight_0 : List UInt8 := dkwX8_goNight_0 ++ dktX8_goNight_1
theorem dksX8_goNight_0 : cX8_goNight.data.toList.drop 0 = dktX8_goNight_0 := by decide +kernel
theorem dksX8_goNight_1 : cX8_goNight.data.toList.drop 24 = dktX8_goNight_1 := dk_seg dksX8_goNight_0 24 rfl rfl
theorem dksX8_goNight_2 : cX8_goNight.data.toList.drop 48 = dktX8_goNight_2 := dk_seg dksX8_goNight_1 24 rfl rfl
theorem dksX8_goNight_3 : cX8_goNight.data.toList.drop 71 = dktX8_goNight_3 := dk_seg dksX8_goNight_2 23 rfl rfl
theorem dksX8_goNight_4 : cX8_goNight.data.toList.drop 95 = dktX8_goNight_4 := dk_seg dksX8_goNight_3 24 rfl rfl
theorem dksX8_goNight_5 : cX8_goNight.data.toList.drop 119 = dktX8_goNight_5 := dk_seg dksX8_goNight_4 24 rfl rfl
theorem dksX8_goNight_6 : cX8_goNight.data.toList.drop 141 = dktX8_goNight_6 := dk_seg dksX8_goNight_5 22 rfl rfl
theorem dX8_goNight_0 : decode cX8_goNight 0 = .ok (.aload_n 0, 1) := dk_42 (dk_at dksX8_goNight_0 0 rfl rfl)
theorem dX8_goNight_1 : decode cX8_goNight 1 = .ok (.iload_n 1, 1) := dk_27 (dk_at dksX8_goNight_0 1 rfl rfl)
theorem dX8_goNight_2 : decode cX8_goNight 2 = .ok (.iload_n 2, 1) := dk_28 (dk_at dksX8_goNight_0 2 rfl rfl)
theorem dX8_goNight_3 : decode cX8_goNight 3 = .ok (.invokevirtual 290, 3) := dk_182 1 34 (dk_at dksX8_goNight_0 3 rfl rfl)
theorem dX8_goNight_6 : decode cX8_goNight 6 = .ok (.istore_n 3, 1) := dk_62 (dk_at dksX8_goNight_0 6 rfl rfl)
theorem dX8_goNight_7 : decode cX8_goNight 7 = .ok (.iconst 0, 1) := dk_3 (dk_at dksX8_goNight_0 7 rfl rfl)
theorem dX8_goNight_8 : decode cX8_goNight 8 = .ok (.istore 4, 2) := dk_54 4 (dk_at dksX8_goNight_0 8 rfl rfl)
theorem dX8_goNight_10 : decode cX8_goNight 10 = .ok (.iload 4, 2) := dk_21 4 (dk_at dksX8_goNight_0 10 rfl rfl)
theorem dX8_goNight_12 : decode cX8_goNight 12 = .ok (.aload_n 0, 1) := dk_42 (dk_at dksX8_goNight_0 12 rfl rfl)
theorem dX8_goNight_13 : decode cX8_goNight 13 = .ok (.getfield 1, 3) := dk_180 0 1 (dk_at dksX8_goNight_0 13 rfl rfl)
theorem dX8_goNight_16 : decode cX8_goNight 16 = .ok (.if_icmp .ge 145, 3) := dk_162 0 145 (dk_at dksX8_goNight_0 16 rfl rfl)
theorem dX8_goNight_19 : decode cX8_goNight 19 = .ok (.aload_n 0, 1) := dk_42 (dk_at dksX8_goNight_0 19 rfl rfl)
theorem dX8_goNight_20 : decode cX8_goNight 20 = .ok (.iload_n 1, 1) := dk_27 (dk_at dksX8_goNight_0 20 rfl rfl)
theorem dX8_goNight_21 : decode cX8_goNight 21 = .ok (.iload 4, 2) := dk_21 4 (dk_at dksX8_goNight_0 21 rfl rfl)
theorem dX8_goNight_23 : decode cX8_goNight 23 = .ok (.iload_n 2, 1) := dk_28 (dk_at dksX8_goNight_0 23 rfl rfl)
theorem dX8_goNight_24 : decode cX8_goNight 24 = .ok (.invokevirtual 287, 3) := dk_182 1 31 (dk_at dksX8_goNight_1 0 rfl rfl)
theorem dX8_goNight_27 : decode cX8_goNight 27 = .ok (.istore 5, 2) := dk_54 5 (dk_at dksX8_goNight_1 3 rfl rfl)
theorem dX8_goNight_29 : decode cX8_goNight 29 = .ok (.aload_n 0, 1) := dk_42 (dk_at dksX8_goNight_1 5 rfl rfl)
theorem dX8_goNight_30 : decode cX8_goNight 30 = .ok (.aload_n 0, 1) := dk_42 (dk_at dksX8_goNight_1 6 rfl rfl)
theorem dX8_goNight_31 : decode cX8_goNight 31 = .ok (.getfield 111, 3) := dk_180 0 111 (dk_at dksX8_goNight_1 7 rfl rfl)
theorem dX8_goNight_34 : decode cX8_goNight 34 = .ok (.iload 4, 2) := dk_21 4 (dk_at dksX8_goNight_1 10 rfl rfl)
theorem dX8_goNight_36 : decode cX8_goNight 36 = .ok (.iaload, 1) := dk_46 (dk_at dksX8_goNight_1 12 rfl rfl)
theorem dX8_goNight_37 : decode cX8_goNight 37 = .ok (.iload_n 3, 1) := dk_29 (dk_at dksX8_goNight_1 13 rfl rfl)
theorem dX8_goNight_38 : decode cX8_goNight 38 = .ok (.invokevirtual 293, 3) := dk_182 1 37 (dk_at dksX8_goNight_1 14 rfl rfl)
theorem dX8_goNight_41 : decode cX8_goNight 41 = .ok (.istore 6, 2) := dk_54 6 (dk_at dksX8_goNight_1 17 rfl rfl)
theorem dX8_goNight_43 : decode cX8_goNight 43 = .ok (.iconst 0, 1) := dk_3 (dk_at dksX8_goNight_1 19 rfl rfl)
theorem dX8_goNight_44 : decode cX8_goNight 44 = .ok (.istore 7, 2) := dk_54 7 (dk_at dksX8_goNight_1 20 rfl rfl)
theorem dX8_goNight_46 : decode cX8_goNight 46 = .ok (.iload 5, 2) := dk_21 5 (dk_at dksX8_goNight_1 22 rfl rfl)
theorem dX8_goNight_48 : decode cX8_goNight 48 = .ok (.ifCond .le 55, 3) := dk_158 0 55 (dk_at dksX8_goNight_2 0 rfl rfl)
theorem dX8_goNight_51 : decode cX8_goNight 51 = .ok (.iload 6, 2) := dk_21 6 (dk_at dksX8_goNight_2 3 rfl rfl)
theorem dX8_goNight_53 : decode cX8_goNight 53 = .ok (.ifCond .lt 50, 3) := dk_155 0 50 (dk_at dksX8_goNight_2 5 rfl rfl)
theorem dX8_goNight_56 : decode cX8_goNight 56 = .ok (.aload_n 0, 1) := dk_42 (dk_at dksX8_goNight_2 8 rfl rfl)
theorem dX8_goNight_57 : decode cX8_goNight 57 = .ok (.iload 6, 2) := dk_21 6 (dk_at dksX8_goNight_2 9 rfl rfl)
theorem dX8_goNight_59 : decode cX8_goNight 59 = .ok (.invokevirtual 296, 3) := dk_182 1 40 (dk_at dksX8_goNight_2 11 rfl rfl)
theorem dX8_goNight_62 : decode cX8_goNight 62 = .ok (.ifCond .eq 41, 3) := dk_153 0 41 (dk_at dksX8_goNight_2 14 rfl rfl)
theorem dX8_goNight_65 : decode cX8_goNight 65 = .ok (.aload_n 0, 1) := dk_42 (dk_at dksX8_goNight_2 17 rfl rfl)
theorem dX8_goNight_66 : decode cX8_goNight 66 = .ok (.getfield 111, 3) := dk_180 0 111 (dk_at dksX8_goNight_2 18 rfl rfl)
theorem dX8_goNight_69 : decode cX8_goNight 69 = .ok (.iload 4, 2) := dk_21 4 (dk_at dksX8_goNight_2 21 rfl rfl)
theorem dX8_goNight_71 : decode cX8_goNight 71 = .ok (.iload 6, 2) := dk_21 6 (dk_at dksX8_goNight_3 0 rfl rfl)
theorem dX8_goNight_73 : decode cX8_goNight 73 = .ok (.iastore, 1) := dk_79 (dk_at dksX8_goNight_3 2 rfl rfl)
theorem dX8_goNight_74 : decode cX8_goNight 74 = .ok (.aload_n 0, 1) := dk_42 (dk_at dksX8_goNight_3 3 rfl rfl)
theorem dX8_goNight_75 : decode cX8_goNight 75 = .ok (.getfield 114, 3) := dk_180 0 114 (dk_at dksX8_goNight_3 4 rfl rfl)
theorem dX8_goNight_78 : decode cX8_goNight 78 = .ok (.iload 4, 2) := dk_21 4 (dk_at dksX8_goNight_3 7 rfl rfl)
theorem dX8_goNight_80 : decode cX8_goNight 80 = .ok (.dup2, 1) := dk_92 (dk_at dksX8_goNight_3 9 rfl rfl)
theorem dX8_goNight_81 : decode cX8_goNight 81 = .ok (.iaload, 1) := dk_46 (dk_at dksX8_goNight_3 10 rfl rfl)
theorem dX8_goNight_82 : decode cX8_goNight 82 = .ok (.iconst 1, 1) := dk_4 (dk_at dksX8_goNight_3 11 rfl rfl)
theorem dX8_goNight_83 : decode cX8_goNight 83 = .ok (.iadd, 1) := dk_96 (dk_at dksX8_goNight_3 12 rfl rfl)
theorem dX8_goNight_84 : decode cX8_goNight 84 = .ok (.iastore, 1) := dk_79 (dk_at dksX8_goNight_3 13 rfl rfl)
theorem dX8_goNight_85 : decode cX8_goNight 85 = .ok (.iconst 1, 1) := dk_4 (dk_at dksX8_goNight_3 14 rfl rfl)
theorem dX8_goNight_86 : decode cX8_goNight 86 = .ok (.istore 7, 2) := dk_54 7 (dk_at dksX8_goNight_3 15 rfl rfl)
theorem dX8_goNight_88 : decode cX8_goNight 88 = .ok (.iinc 5 (-1), 3) := dk_132 5 255 (dk_at dksX8_goNight_3 17 rfl rfl)
theorem dX8_goNight_91 : decode cX8_goNight 91 = .ok (.aload_n 0, 1) := dk_42 (dk_at dksX8_goNight_3 20 rfl rfl)
theorem dX8_goNight_92 : decode cX8_goNight 92 = .ok (.iload 6, 2) := dk_21 6 (dk_at dksX8_goNight_3 21 rfl rfl)
theorem dX8_goNight_94 : decode cX8_goNight 94 = .ok (.iload_n 3, 1) := dk_29 (dk_at dksX8_goNight_3 23 rfl rfl)
theorem dX8_goNight_95 : decode cX8_goNight 95 = .ok (.invokevirtual 293, 3) := dk_182 1 37 (dk_at dksX8_goNight_4 0 rfl rfl)
theorem dX8_goNight_98 : decode cX8_goNight 98 = .ok (.istore 6, 2) := dk_54 6 (dk_at dksX8_goNight_4 3 rfl rfl)
theorem dX8_goNight_100 : decode cX8_goNight 100 = .ok (.goto (-54), 3) := dk_167 255 202 (dk_at dksX8_goNight_4 5 rfl rfl)
theorem dX8_goNight_103 : decode cX8_goNight 103 = .ok (.iload 7, 2) := dk_21 7 (dk_at dksX8_goNight_4 8 rfl rfl)
theorem dX8_goNight_105 : decode cX8_goNight 105 = .ok (.ifCond .ne 6, 3) := dk_154 0 6 (dk_at dksX8_goNight_4 10 rfl rfl)
theorem dX8_goNight_108 : decode cX8_goNight 108 = .ok (.goto 47, 3) := dk_167 0 47 (dk_at dksX8_goNight_4 13 rfl rfl)
theorem dX8_goNight_111 : decode cX8_goNight 111 = .ok (.aload_n 0, 1) := dk_42 (dk_at dksX8_goNight_4 16 rfl rfl)
theorem dX8_goNight_112 : decode cX8_goNight 112 = .ok (.getfield 117, 3) := dk_180 0 117 (dk_at dksX8_goNight_4 17 rfl rfl)
theorem dX8_goNight_115 : decode cX8_goNight 115 = .ok (.iload 4, 2) := dk_21 4 (dk_at dksX8_goNight_4 20 rfl rfl)
theorem dX8_goNight_117 : decode cX8_goNight 117 = .ok (.dup2, 1) := dk_92 (dk_at dksX8_goNight_4 22 rfl rfl)
theorem dX8_goNight_118 : decode cX8_goNight 118 = .ok (.iaload, 1) := dk_46 (dk_at dksX8_goNight_4 23 rfl rfl)
theorem dX8_goNight_119 : decode cX8_goNight 119 = .ok (.aload_n 0, 1) := dk_42 (dk_at dksX8_goNight_5 0 rfl rfl)
theorem dX8_goNight_120 : decode cX8_goNight 120 = .ok (.getfield 120, 3) := dk_180 0 120 (dk_at dksX8_goNight_5 1 rfl rfl)
theorem dX8_goNight_123 : decode cX8_goNight 123 = .ok (.iload 4, 2) := dk_21 4 (dk_at dksX8_goNight_5 4 rfl rfl)
theorem dX8_goNight_125 : decode cX8_goNight 125 = .ok (.iaload, 1) := dk_46 (dk_at dksX8_goNight_5 6 rfl rfl)
theorem dX8_goNight_126 : decode cX8_goNight 126 = .ok (.ifCond .lt 18, 3) := dk_155 0 18 (dk_at dksX8_goNight_5 7 rfl rfl)
theorem dX8_goNight_129 : decode cX8_goNight 129 = .ok (.aload_n 0, 1) := dk_42 (dk_at dksX8_goNight_5 10 rfl rfl)
theorem dX8_goNight_130 : decode cX8_goNight 130 = .ok (.getfield 120, 3) := dk_180 0 120 (dk_at dksX8_goNight_5 11 rfl rfl)
theorem dX8_goNight_133 : decode cX8_goNight 133 = .ok (.iload 4, 2) := dk_21 4 (dk_at dksX8_goNight_5 14 rfl rfl)
theorem dX8_goNight_135 : decode cX8_goNight 135 = .ok (.iaload, 1) := dk_46 (dk_at dksX8_goNight_5 16 rfl rfl)
theorem dX8_goNight_136 : decode cX8_goNight 136 = .ok (.iload_n 3, 1) := dk_29 (dk_at dksX8_goNight_5 17 rfl rfl)
theorem dX8_goNight_137 : decode cX8_goNight 137 = .ok (.if_icmp .eq 7, 3) := dk_159 0 7 (dk_at dksX8_goNight_5 18 rfl rfl)
theorem dX8_goNight_140 : decode cX8_goNight 140 = .ok (.iconst 1, 1) := dk_4 (dk_at dksX8_goNight_5 21 rfl rfl)
theorem dX8_goNight_141 : decode cX8_goNight 141 = .ok (.goto 4, 3) := dk_167 0 4 (dk_at dksX8_goNight_6 0 rfl rfl)
theorem dX8_goNight_144 : decode cX8_goNight 144 = .ok (.iconst 0, 1) := dk_3 (dk_at dksX8_goNight_6 3 rfl rfl)
theorem dX8_goNight_145 : decode cX8_goNight 145 = .ok (.iadd, 1) := dk_96 (dk_at dksX8_goNight_6 4 rfl rfl)
theorem dX8_goNight_146 : decode cX8_goNight 146 = .ok (.iastore, 1) := dk_79 (dk_at dksX8_goNight_6 5 rfl rfl)
theorem dX8_goNight_147 : decode cX8_goNight 147 = .ok (.aload_n 0, 1) := dk_42 (dk_at dksX8_goNight_6 6 rfl rfl)
theorem dX8_goNight_148 : decode cX8_goNight 148 = .ok (.getfield 120, 3) := dk_180 0 120 (dk_at dksX8_goNight_6 7 rfl rfl)
theorem dX8_goNight_151 : decode cX8_goNight 151 = .ok (.iload 4, 2) := dk_21 4 (dk_at dksX8_goNight_6 10 rfl rfl)
theorem dX8_goNight_153 : decode cX8_goNight 153 = .ok (.iload_n 3, 1) := dk_29 (dk_at dksX8_goNight_6 12 rfl rfl)
theorem dX8_goNight_154 : decode cX8_goNight 154 = .ok (.iastore, 1) := dk_79 (dk_at dksX8_goNight_6 13 rfl rfl)
theorem dX8_goNight_155 : decode cX8_goNight 155 = .ok (.iinc 4 1, 3) := dk_132 4 1 (dk_at dksX8_goNight_6 14 rfl rfl)
theorem dX8_goNight_158 : decode cX8_goNight 158 = .ok (.goto (-148), 3) := dk_167 255 108 (dk_at dksX8_goNight_6 17 rfl rfl)
theorem dX8_goNight_161 : decode cX8_goNight 161 = .ok (.return_, 1) := dk_177 (dk_at dksX8_goNight_6 20 rfl rfl)
abbrev cX8_wayOf : ByteArray := prog_16_method_41_code
def yX8_wayOf : MethodName := ⟨RX8, "wayOf", "(II)I"⟩
def dkwX8_wayOf_0 : List UInt8 := [42, 180, 0, 45, 27, 46, 8, 160, 0, 7, 4, 167, 0, 9, 42, 180, 0, 34, 28, 46, 172]
abbrev dktX8_wayOf_0 : List UInt8 := dkwX8_wayOf_0 ++ []
theorem dksX8_wayOf_0 : cX8_wayOf.data.toList.drop 0 = dktX8_wayOf_0 := by decide +kernel
theorem dX8_wayOf_0 : decode cX8_wayOf 0 = .ok (.aload_n 0, 1) := dk_42 (dk_at dksX8_wayOf_0 0 rfl rfl)
theorem dX8_wayOf_1 : decode cX8_wayOf 1 = .ok (.getfield 45, 3) := dk_180 0 45 (dk_at dksX8_wayOf_0 1 rfl rfl)
theorem dX8_wayOf_4 : decode cX8_wayOf 4 = .ok (.iload_n 1, 1) := dk_27 (dk_at dksX8_wayOf_0 4 rfl rfl)
theorem dX8_wayOf_5 : decode cX8_wayOf 5 = .ok (.iaload, 1) := dk_46 (dk_at dksX8_wayOf_0 5 rfl rfl)
theorem dX8_wayOf_6 : decode cX8_wayOf 6 = .ok (.iconst 5, 1) := dk_8 (dk_at dksX8_wayOf_0 6 rfl rfl)
theorem dX8_wayOf_7 : decode cX8_wayOf 7 = .ok (.if_icmp .ne 7, 3) := dk_160 0 7 (dk_at dksX8_wayOf_0 7 rfl rfl)
theorem dX8_wayOf_10 : decode cX8_wayOf 10 = .ok (.iconst 1, 1) := dk_4 (dk_at dksX8_wayOf_0 10 rfl rfl)
theorem dX8_wayOf_11 : decode cX8_wayOf 11 = .ok (.goto 9, 3) := dk_167 0 9 (dk_at dksX8_wayOf_0 11 rfl rfl)
theorem dX8_wayOf_14 : decode cX8_wayOf 14 = .ok (.aload_n 0, 1) := dk_42 (dk_at dksX8_wayOf_0 14 rfl rfl)
theorem dX8_wayOf_15 : decode cX8_wayOf 15 = .ok (.getfield 34, 3) := dk_180 0 34 (dk_at dksX8_wayOf_0 15 rfl rfl)
theorem dX8_wayOf_18 : decode cX8_wayOf 18 = .ok (.iload_n 2, 1) := dk_28 (dk_at dksX8_wayOf_0 18 rfl rfl)
theorem dX8_wayOf_19 : decode cX8_wayOf 19 = .ok (.iaload, 1) := dk_46 (dk_at dksX8_wayOf_0 19 rfl rfl)
theorem dX8_wayOf_20 : decode cX8_wayOf 20 = .ok (.ireturn, 1) := dk_172 (dk_at dksX8_wayOf_0 20 rfl rfl)
abbrev cX8_ahead : ByteArray := prog_16_method_45_code
def yX8_ahead : MethodName := ⟨RX8, "ahead", "(II)I"⟩
def dkwX8_ahead_3 : List UInt8 := [153, 0, 13, 16, 64, 21, 4, 104, 29, 96, 167, 0, 4, 2, 172]
abbrev dktX8_ahead_3 : List UInt8 := dkwX8_ahead_3 ++ []
def dkwX8_ahead_2 : List UInt8 := [54, 4, 42, 29, 3, 16, 63, 182, 0, 7, 153, 0, 25, 42, 21, 4, 3, 16, 63, 182, 0, 7]
abbrev dktX8_ahead_2 : List UInt8 := dkwX8_ahead_2 ++ dktX8_ahead_3
def dkwX8_ahead_1 : List UInt8 := [27, 16, 64, 108, 28, 4, 160, 0, 7, 4, 167, 0, 13, 28, 6, 160, 0, 7, 2, 167, 0, 4, 3, 96]
abbrev dktX8_ahead_1 : List UInt8 := dkwX8_ahead_1 ++ dktX8_ahead_2
def dkwX8_ahead_0 : List UInt8 := [27, 16, 64, 112, 28, 154, 0, 7, 4, 167, 0, 13, 28, 5, 160, 0, 7, 2, 167, 0, 4, 3, 96, 62]
abbrev dktX8_ahead_0 : List UInt8 := dkwX8_ahead_0 ++ dktX8_ahead_1
theorem dksX8_ahead_0 : cX8_ahead.data.toList.drop 0 = dktX8_ahead_0 := by decide +kernel
theorem dksX8_ahead_1 : cX8_ahead.data.toList.drop 24 = dktX8_ahead_1 := dk_seg dksX8_ahead_0 24 rfl rfl
theorem dksX8_ahead_2 : cX8_ahead.data.toList.drop 48 = dktX8_ahead_2 := dk_seg dksX8_ahead_1 24 rfl rfl
theorem dksX8_ahead_3 : cX8_ahead.data.toList.drop 70 = dktX8_ahead_3 := dk_seg dksX8_ahead_2 22 rfl rfl
theorem dX8_ahead_0 : decode cX8_ahead 0 = .ok (.iload_n 1, 1) := dk_27 (dk_at dksX8_ahead_0 0 rfl rfl)
theorem dX8_ahead_1 : decode cX8_ahead 1 = .ok (.bipush 64, 2) := dk_16 64 (dk_at dksX8_ahead_0 1 rfl rfl)
theorem dX8_ahead_3 : decode cX8_ahead 3 = .ok (.irem, 1) := dk_112 (dk_at dksX8_ahead_0 3 rfl rfl)
theorem dX8_ahead_4 : decode cX8_ahead 4 = .ok (.iload_n 2, 1) := dk_28 (dk_at dksX8_ahead_0 4 rfl rfl)
theorem dX8_ahead_5 : decode cX8_ahead 5 = .ok (.ifCond .ne 7, 3) := dk_154 0 7 (dk_at dksX8_ahead_0 5 rfl rfl)
theorem dX8_ahead_8 : decode cX8_ahead 8 = .ok (.iconst 1, 1) := dk_4 (dk_at dksX8_ahead_0 8 rfl rfl)
theorem dX8_ahead_9 : decode cX8_ahead 9 = .ok (.goto 13, 3) := dk_167 0 13 (dk_at dksX8_ahead_0 9 rfl rfl)
theorem dX8_ahead_12 : decode cX8_ahead 12 = .ok (.iload_n 2, 1) := dk_28 (dk_at dksX8_ahead_0 12 rfl rfl)
theorem dX8_ahead_13 : decode cX8_ahead 13 = .ok (.iconst 2, 1) := dk_5 (dk_at dksX8_ahead_0 13 rfl rfl)
theorem dX8_ahead_14 : decode cX8_ahead 14 = .ok (.if_icmp .ne 7, 3) := dk_160 0 7 (dk_at dksX8_ahead_0 14 rfl rfl)
theorem dX8_ahead_17 : decode cX8_ahead 17 = .ok (.iconst (-1), 1) := dk_2 (dk_at dksX8_ahead_0 17 rfl rfl)
theorem dX8_ahead_18 : decode cX8_ahead 18 = .ok (.goto 4, 3) := dk_167 0 4 (dk_at dksX8_ahead_0 18 rfl rfl)
theorem dX8_ahead_21 : decode cX8_ahead 21 = .ok (.iconst 0, 1) := dk_3 (dk_at dksX8_ahead_0 21 rfl rfl)
theorem dX8_ahead_22 : decode cX8_ahead 22 = .ok (.iadd, 1) := dk_96 (dk_at dksX8_ahead_0 22 rfl rfl)
theorem dX8_ahead_23 : decode cX8_ahead 23 = .ok (.istore_n 3, 1) := dk_62 (dk_at dksX8_ahead_0 23 rfl rfl)
theorem dX8_ahead_24 : decode cX8_ahead 24 = .ok (.iload_n 1, 1) := dk_27 (dk_at dksX8_ahead_1 0 rfl rfl)
theorem dX8_ahead_25 : decode cX8_ahead 25 = .ok (.bipush 64, 2) := dk_16 64 (dk_at dksX8_ahead_1 1 rfl rfl)
theorem dX8_ahead_27 : decode cX8_ahead 27 = .ok (.idiv, 1) := dk_108 (dk_at dksX8_ahead_1 3 rfl rfl)
theorem dX8_ahead_28 : decode cX8_ahead 28 = .ok (.iload_n 2, 1) := dk_28 (dk_at dksX8_ahead_1 4 rfl rfl)
theorem dX8_ahead_29 : decode cX8_ahead 29 = .ok (.iconst 1, 1) := dk_4 (dk_at dksX8_ahead_1 5 rfl rfl)
theorem dX8_ahead_30 : decode cX8_ahead 30 = .ok (.if_icmp .ne 7, 3) := dk_160 0 7 (dk_at dksX8_ahead_1 6 rfl rfl)
theorem dX8_ahead_33 : decode cX8_ahead 33 = .ok (.iconst 1, 1) := dk_4 (dk_at dksX8_ahead_1 9 rfl rfl)
theorem dX8_ahead_34 : decode cX8_ahead 34 = .ok (.goto 13, 3) := dk_167 0 13 (dk_at dksX8_ahead_1 10 rfl rfl)
theorem dX8_ahead_37 : decode cX8_ahead 37 = .ok (.iload_n 2, 1) := dk_28 (dk_at dksX8_ahead_1 13 rfl rfl)
theorem dX8_ahead_38 : decode cX8_ahead 38 = .ok (.iconst 3, 1) := dk_6 (dk_at dksX8_ahead_1 14 rfl rfl)
theorem dX8_ahead_39 : decode cX8_ahead 39 = .ok (.if_icmp .ne 7, 3) := dk_160 0 7 (dk_at dksX8_ahead_1 15 rfl rfl)
theorem dX8_ahead_42 : decode cX8_ahead 42 = .ok (.iconst (-1), 1) := dk_2 (dk_at dksX8_ahead_1 18 rfl rfl)
theorem dX8_ahead_43 : decode cX8_ahead 43 = .ok (.goto 4, 3) := dk_167 0 4 (dk_at dksX8_ahead_1 19 rfl rfl)
theorem dX8_ahead_46 : decode cX8_ahead 46 = .ok (.iconst 0, 1) := dk_3 (dk_at dksX8_ahead_1 22 rfl rfl)
theorem dX8_ahead_47 : decode cX8_ahead 47 = .ok (.iadd, 1) := dk_96 (dk_at dksX8_ahead_1 23 rfl rfl)
theorem dX8_ahead_48 : decode cX8_ahead 48 = .ok (.istore 4, 2) := dk_54 4 (dk_at dksX8_ahead_2 0 rfl rfl)
theorem dX8_ahead_50 : decode cX8_ahead 50 = .ok (.aload_n 0, 1) := dk_42 (dk_at dksX8_ahead_2 2 rfl rfl)
theorem dX8_ahead_51 : decode cX8_ahead 51 = .ok (.iload_n 3, 1) := dk_29 (dk_at dksX8_ahead_2 3 rfl rfl)
theorem dX8_ahead_52 : decode cX8_ahead 52 = .ok (.iconst 0, 1) := dk_3 (dk_at dksX8_ahead_2 4 rfl rfl)
theorem dX8_ahead_53 : decode cX8_ahead 53 = .ok (.bipush 63, 2) := dk_16 63 (dk_at dksX8_ahead_2 5 rfl rfl)
theorem dX8_ahead_55 : decode cX8_ahead 55 = .ok (.invokevirtual 7, 3) := dk_182 0 7 (dk_at dksX8_ahead_2 7 rfl rfl)
theorem dX8_ahead_58 : decode cX8_ahead 58 = .ok (.ifCond .eq 25, 3) := dk_153 0 25 (dk_at dksX8_ahead_2 10 rfl rfl)
theorem dX8_ahead_61 : decode cX8_ahead 61 = .ok (.aload_n 0, 1) := dk_42 (dk_at dksX8_ahead_2 13 rfl rfl)
theorem dX8_ahead_62 : decode cX8_ahead 62 = .ok (.iload 4, 2) := dk_21 4 (dk_at dksX8_ahead_2 14 rfl rfl)
theorem dX8_ahead_64 : decode cX8_ahead 64 = .ok (.iconst 0, 1) := dk_3 (dk_at dksX8_ahead_2 16 rfl rfl)
theorem dX8_ahead_65 : decode cX8_ahead 65 = .ok (.bipush 63, 2) := dk_16 63 (dk_at dksX8_ahead_2 17 rfl rfl)
theorem dX8_ahead_67 : decode cX8_ahead 67 = .ok (.invokevirtual 7, 3) := dk_182 0 7 (dk_at dksX8_ahead_2 19 rfl rfl)
theorem dX8_ahead_70 : decode cX8_ahead 70 = .ok (.ifCond .eq 13, 3) := dk_153 0 13 (dk_at dksX8_ahead_3 0 rfl rfl)
theorem dX8_ahead_73 : decode cX8_ahead 73 = .ok (.bipush 64, 2) := dk_16 64 (dk_at dksX8_ahead_3 3 rfl rfl)
theorem dX8_ahead_75 : decode cX8_ahead 75 = .ok (.iload 4, 2) := dk_21 4 (dk_at dksX8_ahead_3 5 rfl rfl)
theorem dX8_ahead_77 : decode cX8_ahead 77 = .ok (.imul, 1) := dk_104 (dk_at dksX8_ahead_3 7 rfl rfl)
theorem dX8_ahead_78 : decode cX8_ahead 78 = .ok (.iload_n 3, 1) := dk_29 (dk_at dksX8_ahead_3 8 rfl rfl)
theorem dX8_ahead_79 : decode cX8_ahead 79 = .ok (.iadd, 1) := dk_96 (dk_at dksX8_ahead_3 9 rfl rfl)
theorem dX8_ahead_80 : decode cX8_ahead 80 = .ok (.goto 4, 3) := dk_167 0 4 (dk_at dksX8_ahead_3 10 rfl rfl)
theorem dX8_ahead_83 : decode cX8_ahead 83 = .ok (.iconst (-1), 1) := dk_2 (dk_at dksX8_ahead_3 13 rfl rfl)
theorem dX8_ahead_84 : decode cX8_ahead 84 = .ok (.ireturn, 1) := dk_172 (dk_at dksX8_ahead_3 14 rfl rfl)
abbrev cX8_isFree : ByteArray := prog_16_method_44_code
def yX8_isFree : MethodName := ⟨RX8, "isFree", "(I)Z"⟩
def dkwX8_isFree_1 : List UInt8 := [132, 2, 1, 167, 255, 233, 4, 172]
abbrev dktX8_isFree_1 : List UInt8 := dkwX8_isFree_1 ++ []
def dkwX8_isFree_0 : List UInt8 := [3, 61, 28, 42, 180, 0, 1, 162, 0, 21, 42, 180, 0, 111, 28, 46, 27, 160, 0, 5, 3, 172]
abbrev dktX8_isFree_0 : List UInt8 := dkwX8_isFree_0 ++ dktX8_isFree_1
theorem dksX8_isFree_0 : cX8_isFree.data.toList.drop 0 = dktX8_isFree_0 := by decide +kernel
theorem dksX8_isFree_1 : cX8_isFree.data.toList.drop 22 = dktX8_isFree_1 := dk_seg dksX8_isFree_0 22 rfl rfl
theorem dX8_isFree_0 : decode cX8_isFree 0 = .ok (.iconst 0, 1) := dk_3 (dk_at dksX8_isFree_0 0 rfl rfl)
theorem dX8_isFree_1 : decode cX8_isFree 1 = .ok (.istore_n 2, 1) := dk_61 (dk_at dksX8_isFree_0 1 rfl rfl)
theorem dX8_isFree_2 : decode cX8_isFree 2 = .ok (.iload_n 2, 1) := dk_28 (dk_at dksX8_isFree_0 2 rfl rfl)
theorem dX8_isFree_3 : decode cX8_isFree 3 = .ok (.aload_n 0, 1) := dk_42 (dk_at dksX8_isFree_0 3 rfl rfl)
theorem dX8_isFree_4 : decode cX8_isFree 4 = .ok (.getfield 1, 3) := dk_180 0 1 (dk_at dksX8_isFree_0 4 rfl rfl)
theorem dX8_isFree_7 : decode cX8_isFree 7 = .ok (.if_icmp .ge 21, 3) := dk_162 0 21 (dk_at dksX8_isFree_0 7 rfl rfl)
theorem dX8_isFree_10 : decode cX8_isFree 10 = .ok (.aload_n 0, 1) := dk_42 (dk_at dksX8_isFree_0 10 rfl rfl)
theorem dX8_isFree_11 : decode cX8_isFree 11 = .ok (.getfield 111, 3) := dk_180 0 111 (dk_at dksX8_isFree_0 11 rfl rfl)
theorem dX8_isFree_14 : decode cX8_isFree 14 = .ok (.iload_n 2, 1) := dk_28 (dk_at dksX8_isFree_0 14 rfl rfl)
theorem dX8_isFree_15 : decode cX8_isFree 15 = .ok (.iaload, 1) := dk_46 (dk_at dksX8_isFree_0 15 rfl rfl)
theorem dX8_isFree_16 : decode cX8_isFree 16 = .ok (.iload_n 1, 1) := dk_27 (dk_at dksX8_isFree_0 16 rfl rfl)
theorem dX8_isFree_17 : decode cX8_isFree 17 = .ok (.if_icmp .ne 5, 3) := dk_160 0 5 (dk_at dksX8_isFree_0 17 rfl rfl)
theorem dX8_isFree_20 : decode cX8_isFree 20 = .ok (.iconst 0, 1) := dk_3 (dk_at dksX8_isFree_0 20 rfl rfl)
theorem dX8_isFree_21 : decode cX8_isFree 21 = .ok (.ireturn, 1) := dk_172 (dk_at dksX8_isFree_0 21 rfl rfl)
theorem dX8_isFree_22 : decode cX8_isFree 22 = .ok (.iinc 2 1, 3) := dk_132 2 1 (dk_at dksX8_isFree_1 0 rfl rfl)
theorem dX8_isFree_25 : decode cX8_isFree 25 = .ok (.goto (-23), 3) := dk_167 255 233 (dk_at dksX8_isFree_1 3 rfl rfl)
theorem dX8_isFree_28 : decode cX8_isFree 28 = .ok (.iconst 1, 1) := dk_4 (dk_at dksX8_isFree_1 6 rfl rfl)
theorem dX8_isFree_29 : decode cX8_isFree 29 = .ok (.ireturn, 1) := dk_172 (dk_at dksX8_isFree_1 7 rfl rfl)
abbrev cX8_lay : ByteArray := prog_16_method_52_code
def yX8_lay : MethodName := ⟨RX8, "lay", "(II)I"⟩
def dkwX8_lay_3 : List UInt8 := [172]
abbrev dktX8_lay_3 : List UInt8 := dkwX8_lay_3 ++ []
def dkwX8_lay_2 : List UInt8 := [180, 0, 111, 21, 4, 46, 79, 29, 42, 180, 0, 114, 21, 4, 46, 96, 62, 132, 4, 1, 167, 255, 220, 29]
abbrev dktX8_lay_2 : List UInt8 := dkwX8_lay_2 ++ dktX8_lay_3
def dkwX8_lay_1 : List UInt8 := [182, 1, 52, 3, 62, 3, 54, 4, 21, 4, 42, 180, 0, 1, 162, 0, 33, 42, 180, 0, 17, 21, 4, 42]
abbrev dktX8_lay_1 : List UInt8 := dkwX8_lay_1 ++ dktX8_lay_2
def dkwX8_lay_0 : List UInt8 := [42, 27, 182, 1, 25, 153, 0, 11, 42, 28, 182, 1, 49, 154, 0, 6, 16, 254, 172, 42, 27, 28]
abbrev dktX8_lay_0 : List UInt8 := dkwX8_lay_0 ++ dktX8_lay_1
theorem dksX8_lay_0 : cX8_lay.data.toList.drop 0 = dktX8_lay_0 := by decide +kernel
theorem dksX8_lay_1 : cX8_lay.data.toList.drop 22 = dktX8_lay_1 := dk_seg dksX8_lay_0 22 rfl rfl
theorem dksX8_lay_2 : cX8_lay.data.toList.drop 46 = dktX8_lay_2 := dk_seg dksX8_lay_1 24 rfl rfl
theorem dksX8_lay_3 : cX8_lay.data.toList.drop 70 = dktX8_lay_3 := dk_seg dksX8_lay_2 24 rfl rfl
theorem dX8_lay_0 : decode cX8_lay 0 = .ok (.aload_n 0, 1) := dk_42 (dk_at dksX8_lay_0 0 rfl rfl)
theorem dX8_lay_1 : decode cX8_lay 1 = .ok (.iload_n 1, 1) := dk_27 (dk_at dksX8_lay_0 1 rfl rfl)
theorem dX8_lay_2 : decode cX8_lay 2 = .ok (.invokevirtual 281, 3) := dk_182 1 25 (dk_at dksX8_lay_0 2 rfl rfl)
theorem dX8_lay_5 : decode cX8_lay 5 = .ok (.ifCond .eq 11, 3) := dk_153 0 11 (dk_at dksX8_lay_0 5 rfl rfl)
theorem dX8_lay_8 : decode cX8_lay 8 = .ok (.aload_n 0, 1) := dk_42 (dk_at dksX8_lay_0 8 rfl rfl)
theorem dX8_lay_9 : decode cX8_lay 9 = .ok (.iload_n 2, 1) := dk_28 (dk_at dksX8_lay_0 9 rfl rfl)
theorem dX8_lay_10 : decode cX8_lay 10 = .ok (.invokevirtual 305, 3) := dk_182 1 49 (dk_at dksX8_lay_0 10 rfl rfl)
theorem dX8_lay_13 : decode cX8_lay 13 = .ok (.ifCond .ne 6, 3) := dk_154 0 6 (dk_at dksX8_lay_0 13 rfl rfl)
theorem dX8_lay_16 : decode cX8_lay 16 = .ok (.bipush (-2), 2) := dk_16 254 (dk_at dksX8_lay_0 16 rfl rfl)
theorem dX8_lay_18 : decode cX8_lay 18 = .ok (.ireturn, 1) := dk_172 (dk_at dksX8_lay_0 18 rfl rfl)
theorem dX8_lay_19 : decode cX8_lay 19 = .ok (.aload_n 0, 1) := dk_42 (dk_at dksX8_lay_0 19 rfl rfl)
theorem dX8_lay_20 : decode cX8_lay 20 = .ok (.iload_n 1, 1) := dk_27 (dk_at dksX8_lay_0 20 rfl rfl)
theorem dX8_lay_21 : decode cX8_lay 21 = .ok (.iload_n 2, 1) := dk_28 (dk_at dksX8_lay_0 21 rfl rfl)
theorem dX8_lay_22 : decode cX8_lay 22 = .ok (.invokevirtual 308, 3) := dk_182 1 52 (dk_at dksX8_lay_1 0 rfl rfl)
theorem dX8_lay_25 : decode cX8_lay 25 = .ok (.iconst 0, 1) := dk_3 (dk_at dksX8_lay_1 3 rfl rfl)
theorem dX8_lay_26 : decode cX8_lay 26 = .ok (.istore_n 3, 1) := dk_62 (dk_at dksX8_lay_1 4 rfl rfl)
theorem dX8_lay_27 : decode cX8_lay 27 = .ok (.iconst 0, 1) := dk_3 (dk_at dksX8_lay_1 5 rfl rfl)
theorem dX8_lay_28 : decode cX8_lay 28 = .ok (.istore 4, 2) := dk_54 4 (dk_at dksX8_lay_1 6 rfl rfl)
theorem dX8_lay_30 : decode cX8_lay 30 = .ok (.iload 4, 2) := dk_21 4 (dk_at dksX8_lay_1 8 rfl rfl)
theorem dX8_lay_32 : decode cX8_lay 32 = .ok (.aload_n 0, 1) := dk_42 (dk_at dksX8_lay_1 10 rfl rfl)
theorem dX8_lay_33 : decode cX8_lay 33 = .ok (.getfield 1, 3) := dk_180 0 1 (dk_at dksX8_lay_1 11 rfl rfl)
theorem dX8_lay_36 : decode cX8_lay 36 = .ok (.if_icmp .ge 33, 3) := dk_162 0 33 (dk_at dksX8_lay_1 14 rfl rfl)
theorem dX8_lay_39 : decode cX8_lay 39 = .ok (.aload_n 0, 1) := dk_42 (dk_at dksX8_lay_1 17 rfl rfl)
theorem dX8_lay_40 : decode cX8_lay 40 = .ok (.getfield 17, 3) := dk_180 0 17 (dk_at dksX8_lay_1 18 rfl rfl)
theorem dX8_lay_43 : decode cX8_lay 43 = .ok (.iload 4, 2) := dk_21 4 (dk_at dksX8_lay_1 21 rfl rfl)
theorem dX8_lay_45 : decode cX8_lay 45 = .ok (.aload_n 0, 1) := dk_42 (dk_at dksX8_lay_1 23 rfl rfl)
theorem dX8_lay_46 : decode cX8_lay 46 = .ok (.getfield 111, 3) := dk_180 0 111 (dk_at dksX8_lay_2 0 rfl rfl)
theorem dX8_lay_49 : decode cX8_lay 49 = .ok (.iload 4, 2) := dk_21 4 (dk_at dksX8_lay_2 3 rfl rfl)
theorem dX8_lay_51 : decode cX8_lay 51 = .ok (.iaload, 1) := dk_46 (dk_at dksX8_lay_2 5 rfl rfl)
theorem dX8_lay_52 : decode cX8_lay 52 = .ok (.iastore, 1) := dk_79 (dk_at dksX8_lay_2 6 rfl rfl)
theorem dX8_lay_53 : decode cX8_lay 53 = .ok (.iload_n 3, 1) := dk_29 (dk_at dksX8_lay_2 7 rfl rfl)
theorem dX8_lay_54 : decode cX8_lay 54 = .ok (.aload_n 0, 1) := dk_42 (dk_at dksX8_lay_2 8 rfl rfl)
theorem dX8_lay_55 : decode cX8_lay 55 = .ok (.getfield 114, 3) := dk_180 0 114 (dk_at dksX8_lay_2 9 rfl rfl)
theorem dX8_lay_58 : decode cX8_lay 58 = .ok (.iload 4, 2) := dk_21 4 (dk_at dksX8_lay_2 12 rfl rfl)
theorem dX8_lay_60 : decode cX8_lay 60 = .ok (.iaload, 1) := dk_46 (dk_at dksX8_lay_2 14 rfl rfl)
theorem dX8_lay_61 : decode cX8_lay 61 = .ok (.iadd, 1) := dk_96 (dk_at dksX8_lay_2 15 rfl rfl)
theorem dX8_lay_62 : decode cX8_lay 62 = .ok (.istore_n 3, 1) := dk_62 (dk_at dksX8_lay_2 16 rfl rfl)
theorem dX8_lay_63 : decode cX8_lay 63 = .ok (.iinc 4 1, 3) := dk_132 4 1 (dk_at dksX8_lay_2 17 rfl rfl)
theorem dX8_lay_66 : decode cX8_lay 66 = .ok (.goto (-36), 3) := dk_167 255 220 (dk_at dksX8_lay_2 20 rfl rfl)
theorem dX8_lay_69 : decode cX8_lay 69 = .ok (.iload_n 3, 1) := dk_29 (dk_at dksX8_lay_2 23 rfl rfl)
theorem dX8_lay_70 : decode cX8_lay 70 = .ok (.ireturn, 1) := dk_172 (dk_at dksX8_lay_3 0 rfl rfl)
abbrev cX8_track : ByteArray := prog_16_method_54_code
def yX8_track : MethodName := ⟨RX8, "track", "(III)I"⟩
def dkwX8_track_3 : List UInt8 := [180, 0, 123, 29, 79, 42, 89, 180, 0, 123, 4, 96, 181, 0, 123, 42, 180, 0, 123, 4, 100, 172]
abbrev dktX8_track_3 : List UInt8 := dkwX8_track_3 ++ []
def dkwX8_track_2 : List UInt8 := [180, 0, 126, 42, 180, 0, 123, 27, 79, 42, 180, 0, 129, 42, 180, 0, 123, 28, 79, 42, 180, 0, 132, 42]
abbrev dktX8_track_2 : List UInt8 := dkwX8_track_2 ++ dktX8_track_3
def dkwX8_track_1 : List UInt8 := [16, 99, 182, 0, 7, 154, 0, 6, 16, 254, 172, 42, 180, 0, 123, 16, 24, 160, 0, 6, 16, 252, 172, 42]
abbrev dktX8_track_1 : List UInt8 := dkwX8_track_1 ++ dktX8_track_2
def dkwX8_track_0 : List UInt8 := [42, 27, 182, 0, 51, 153, 0, 26, 42, 28, 3, 17, 3, 231, 182, 0, 7, 153, 0, 14, 42, 29, 3]
abbrev dktX8_track_0 : List UInt8 := dkwX8_track_0 ++ dktX8_track_1
theorem dksX8_track_0 : cX8_track.data.toList.drop 0 = dktX8_track_0 := by decide +kernel
theorem dksX8_track_1 : cX8_track.data.toList.drop 23 = dktX8_track_1 := dk_seg dksX8_track_0 23 rfl rfl
theorem dksX8_track_2 : cX8_track.data.toList.drop 47 = dktX8_track_2 := dk_seg dksX8_track_1 24 rfl rfl
theorem dksX8_track_3 : cX8_track.data.toList.drop 71 = dktX8_track_3 := dk_seg dksX8_track_2 24 rfl rfl
theorem dX8_track_0 : decode cX8_track 0 = .ok (.aload_n 0, 1) := dk_42 (dk_at dksX8_track_0 0 rfl rfl)
theorem dX8_track_1 : decode cX8_track 1 = .ok (.iload_n 1, 1) := dk_27 (dk_at dksX8_track_0 1 rfl rfl)
theorem dX8_track_2 : decode cX8_track 2 = .ok (.invokevirtual 51, 3) := dk_182 0 51 (dk_at dksX8_track_0 2 rfl rfl)
theorem dX8_track_5 : decode cX8_track 5 = .ok (.ifCond .eq 26, 3) := dk_153 0 26 (dk_at dksX8_track_0 5 rfl rfl)
theorem dX8_track_8 : decode cX8_track 8 = .ok (.aload_n 0, 1) := dk_42 (dk_at dksX8_track_0 8 rfl rfl)
theorem dX8_track_9 : decode cX8_track 9 = .ok (.iload_n 2, 1) := dk_28 (dk_at dksX8_track_0 9 rfl rfl)
theorem dX8_track_10 : decode cX8_track 10 = .ok (.iconst 0, 1) := dk_3 (dk_at dksX8_track_0 10 rfl rfl)
theorem dX8_track_11 : decode cX8_track 11 = .ok (.sipush 999, 3) := dk_17 3 231 (dk_at dksX8_track_0 11 rfl rfl)
theorem dX8_track_14 : decode cX8_track 14 = .ok (.invokevirtual 7, 3) := dk_182 0 7 (dk_at dksX8_track_0 14 rfl rfl)
theorem dX8_track_17 : decode cX8_track 17 = .ok (.ifCond .eq 14, 3) := dk_153 0 14 (dk_at dksX8_track_0 17 rfl rfl)
theorem dX8_track_20 : decode cX8_track 20 = .ok (.aload_n 0, 1) := dk_42 (dk_at dksX8_track_0 20 rfl rfl)
theorem dX8_track_21 : decode cX8_track 21 = .ok (.iload_n 3, 1) := dk_29 (dk_at dksX8_track_0 21 rfl rfl)
theorem dX8_track_22 : decode cX8_track 22 = .ok (.iconst 0, 1) := dk_3 (dk_at dksX8_track_0 22 rfl rfl)
theorem dX8_track_23 : decode cX8_track 23 = .ok (.bipush 99, 2) := dk_16 99 (dk_at dksX8_track_1 0 rfl rfl)
theorem dX8_track_25 : decode cX8_track 25 = .ok (.invokevirtual 7, 3) := dk_182 0 7 (dk_at dksX8_track_1 2 rfl rfl)
theorem dX8_track_28 : decode cX8_track 28 = .ok (.ifCond .ne 6, 3) := dk_154 0 6 (dk_at dksX8_track_1 5 rfl rfl)
theorem dX8_track_31 : decode cX8_track 31 = .ok (.bipush (-2), 2) := dk_16 254 (dk_at dksX8_track_1 8 rfl rfl)
theorem dX8_track_33 : decode cX8_track 33 = .ok (.ireturn, 1) := dk_172 (dk_at dksX8_track_1 10 rfl rfl)
theorem dX8_track_34 : decode cX8_track 34 = .ok (.aload_n 0, 1) := dk_42 (dk_at dksX8_track_1 11 rfl rfl)
theorem dX8_track_35 : decode cX8_track 35 = .ok (.getfield 123, 3) := dk_180 0 123 (dk_at dksX8_track_1 12 rfl rfl)
theorem dX8_track_38 : decode cX8_track 38 = .ok (.bipush 24, 2) := dk_16 24 (dk_at dksX8_track_1 15 rfl rfl)
theorem dX8_track_40 : decode cX8_track 40 = .ok (.if_icmp .ne 6, 3) := dk_160 0 6 (dk_at dksX8_track_1 17 rfl rfl)
theorem dX8_track_43 : decode cX8_track 43 = .ok (.bipush (-4), 2) := dk_16 252 (dk_at dksX8_track_1 20 rfl rfl)
theorem dX8_track_45 : decode cX8_track 45 = .ok (.ireturn, 1) := dk_172 (dk_at dksX8_track_1 22 rfl rfl)
theorem dX8_track_46 : decode cX8_track 46 = .ok (.aload_n 0, 1) := dk_42 (dk_at dksX8_track_1 23 rfl rfl)
theorem dX8_track_47 : decode cX8_track 47 = .ok (.getfield 126, 3) := dk_180 0 126 (dk_at dksX8_track_2 0 rfl rfl)
theorem dX8_track_50 : decode cX8_track 50 = .ok (.aload_n 0, 1) := dk_42 (dk_at dksX8_track_2 3 rfl rfl)
theorem dX8_track_51 : decode cX8_track 51 = .ok (.getfield 123, 3) := dk_180 0 123 (dk_at dksX8_track_2 4 rfl rfl)
theorem dX8_track_54 : decode cX8_track 54 = .ok (.iload_n 1, 1) := dk_27 (dk_at dksX8_track_2 7 rfl rfl)
theorem dX8_track_55 : decode cX8_track 55 = .ok (.iastore, 1) := dk_79 (dk_at dksX8_track_2 8 rfl rfl)
theorem dX8_track_56 : decode cX8_track 56 = .ok (.aload_n 0, 1) := dk_42 (dk_at dksX8_track_2 9 rfl rfl)
theorem dX8_track_57 : decode cX8_track 57 = .ok (.getfield 129, 3) := dk_180 0 129 (dk_at dksX8_track_2 10 rfl rfl)
theorem dX8_track_60 : decode cX8_track 60 = .ok (.aload_n 0, 1) := dk_42 (dk_at dksX8_track_2 13 rfl rfl)
theorem dX8_track_61 : decode cX8_track 61 = .ok (.getfield 123, 3) := dk_180 0 123 (dk_at dksX8_track_2 14 rfl rfl)
theorem dX8_track_64 : decode cX8_track 64 = .ok (.iload_n 2, 1) := dk_28 (dk_at dksX8_track_2 17 rfl rfl)
theorem dX8_track_65 : decode cX8_track 65 = .ok (.iastore, 1) := dk_79 (dk_at dksX8_track_2 18 rfl rfl)
theorem dX8_track_66 : decode cX8_track 66 = .ok (.aload_n 0, 1) := dk_42 (dk_at dksX8_track_2 19 rfl rfl)
theorem dX8_track_67 : decode cX8_track 67 = .ok (.getfield 132, 3) := dk_180 0 132 (dk_at dksX8_track_2 20 rfl rfl)
theorem dX8_track_70 : decode cX8_track 70 = .ok (.aload_n 0, 1) := dk_42 (dk_at dksX8_track_2 23 rfl rfl)
theorem dX8_track_71 : decode cX8_track 71 = .ok (.getfield 123, 3) := dk_180 0 123 (dk_at dksX8_track_3 0 rfl rfl)
theorem dX8_track_74 : decode cX8_track 74 = .ok (.iload_n 3, 1) := dk_29 (dk_at dksX8_track_3 3 rfl rfl)
theorem dX8_track_75 : decode cX8_track 75 = .ok (.iastore, 1) := dk_79 (dk_at dksX8_track_3 4 rfl rfl)
theorem dX8_track_76 : decode cX8_track 76 = .ok (.aload_n 0, 1) := dk_42 (dk_at dksX8_track_3 5 rfl rfl)
theorem dX8_track_77 : decode cX8_track 77 = .ok (.dup, 1) := dk_89 (dk_at dksX8_track_3 6 rfl rfl)
theorem dX8_track_78 : decode cX8_track 78 = .ok (.getfield 123, 3) := dk_180 0 123 (dk_at dksX8_track_3 7 rfl rfl)
theorem dX8_track_81 : decode cX8_track 81 = .ok (.iconst 1, 1) := dk_4 (dk_at dksX8_track_3 10 rfl rfl)
theorem dX8_track_82 : decode cX8_track 82 = .ok (.iadd, 1) := dk_96 (dk_at dksX8_track_3 11 rfl rfl)
theorem dX8_track_83 : decode cX8_track 83 = .ok (.putfield 123, 3) := dk_181 0 123 (dk_at dksX8_track_3 12 rfl rfl)
theorem dX8_track_86 : decode cX8_track 86 = .ok (.aload_n 0, 1) := dk_42 (dk_at dksX8_track_3 15 rfl rfl)
theorem dX8_track_87 : decode cX8_track 87 = .ok (.getfield 123, 3) := dk_180 0 123 (dk_at dksX8_track_3 16 rfl rfl)
theorem dX8_track_90 : decode cX8_track 90 = .ok (.iconst 1, 1) := dk_4 (dk_at dksX8_track_3 19 rfl rfl)
theorem dX8_track_91 : decode cX8_track 91 = .ok (.isub, 1) := dk_100 (dk_at dksX8_track_3 20 rfl rfl)
theorem dX8_track_92 : decode cX8_track 92 = .ok (.ireturn, 1) := dk_172 (dk_at dksX8_track_3 21 rfl rfl)
abbrev cX8_together : ByteArray := prog_16_method_57_code
def yX8_together : MethodName := ⟨RX8, "together", "(III)I"⟩
def dkwX8_together_2 : List UInt8 := [167, 0, 4, 3, 172]
abbrev dktX8_together_2 : List UInt8 := dkwX8_together_2 ++ []
def dkwX8_together_1 : List UInt8 := [16, 99, 182, 0, 7, 154, 0, 6, 16, 254, 172, 42, 27, 28, 29, 182, 1, 61, 153, 0, 7, 4]
abbrev dktX8_together_1 : List UInt8 := dkwX8_together_1 ++ dktX8_together_2
def dkwX8_together_0 : List UInt8 := [42, 27, 182, 1, 58, 153, 0, 27, 42, 28, 182, 1, 58, 153, 0, 19, 27, 28, 159, 0, 14, 42, 29, 3]
abbrev dktX8_together_0 : List UInt8 := dkwX8_together_0 ++ dktX8_together_1
theorem dksX8_together_0 : cX8_together.data.toList.drop 0 = dktX8_together_0 := by decide +kernel
theorem dksX8_together_1 : cX8_together.data.toList.drop 24 = dktX8_together_1 := dk_seg dksX8_together_0 24 rfl rfl
theorem dksX8_together_2 : cX8_together.data.toList.drop 46 = dktX8_together_2 := dk_seg dksX8_together_1 22 rfl rfl
theorem dX8_together_0 : decode cX8_together 0 = .ok (.aload_n 0, 1) := dk_42 (dk_at dksX8_together_0 0 rfl rfl)
theorem dX8_together_1 : decode cX8_together 1 = .ok (.iload_n 1, 1) := dk_27 (dk_at dksX8_together_0 1 rfl rfl)
theorem dX8_together_2 : decode cX8_together 2 = .ok (.invokevirtual 314, 3) := dk_182 1 58 (dk_at dksX8_together_0 2 rfl rfl)
theorem dX8_together_5 : decode cX8_together 5 = .ok (.ifCond .eq 27, 3) := dk_153 0 27 (dk_at dksX8_together_0 5 rfl rfl)
theorem dX8_together_8 : decode cX8_together 8 = .ok (.aload_n 0, 1) := dk_42 (dk_at dksX8_together_0 8 rfl rfl)
theorem dX8_together_9 : decode cX8_together 9 = .ok (.iload_n 2, 1) := dk_28 (dk_at dksX8_together_0 9 rfl rfl)
theorem dX8_together_10 : decode cX8_together 10 = .ok (.invokevirtual 314, 3) := dk_182 1 58 (dk_at dksX8_together_0 10 rfl rfl)
theorem dX8_together_13 : decode cX8_together 13 = .ok (.ifCond .eq 19, 3) := dk_153 0 19 (dk_at dksX8_together_0 13 rfl rfl)
theorem dX8_together_16 : decode cX8_together 16 = .ok (.iload_n 1, 1) := dk_27 (dk_at dksX8_together_0 16 rfl rfl)
theorem dX8_together_17 : decode cX8_together 17 = .ok (.iload_n 2, 1) := dk_28 (dk_at dksX8_together_0 17 rfl rfl)
theorem dX8_together_18 : decode cX8_together 18 = .ok (.if_icmp .eq 14, 3) := dk_159 0 14 (dk_at dksX8_together_0 18 rfl rfl)
theorem dX8_together_21 : decode cX8_together 21 = .ok (.aload_n 0, 1) := dk_42 (dk_at dksX8_together_0 21 rfl rfl)
theorem dX8_together_22 : decode cX8_together 22 = .ok (.iload_n 3, 1) := dk_29 (dk_at dksX8_together_0 22 rfl rfl)
theorem dX8_together_23 : decode cX8_together 23 = .ok (.iconst 0, 1) := dk_3 (dk_at dksX8_together_0 23 rfl rfl)
theorem dX8_together_24 : decode cX8_together 24 = .ok (.bipush 99, 2) := dk_16 99 (dk_at dksX8_together_1 0 rfl rfl)
theorem dX8_together_26 : decode cX8_together 26 = .ok (.invokevirtual 7, 3) := dk_182 0 7 (dk_at dksX8_together_1 2 rfl rfl)
theorem dX8_together_29 : decode cX8_together 29 = .ok (.ifCond .ne 6, 3) := dk_154 0 6 (dk_at dksX8_together_1 5 rfl rfl)
theorem dX8_together_32 : decode cX8_together 32 = .ok (.bipush (-2), 2) := dk_16 254 (dk_at dksX8_together_1 8 rfl rfl)
theorem dX8_together_34 : decode cX8_together 34 = .ok (.ireturn, 1) := dk_172 (dk_at dksX8_together_1 10 rfl rfl)
theorem dX8_together_35 : decode cX8_together 35 = .ok (.aload_n 0, 1) := dk_42 (dk_at dksX8_together_1 11 rfl rfl)
theorem dX8_together_36 : decode cX8_together 36 = .ok (.iload_n 1, 1) := dk_27 (dk_at dksX8_together_1 12 rfl rfl)
theorem dX8_together_37 : decode cX8_together 37 = .ok (.iload_n 2, 1) := dk_28 (dk_at dksX8_together_1 13 rfl rfl)
theorem dX8_together_38 : decode cX8_together 38 = .ok (.iload_n 3, 1) := dk_29 (dk_at dksX8_together_1 14 rfl rfl)
theorem dX8_together_39 : decode cX8_together 39 = .ok (.invokevirtual 317, 3) := dk_182 1 61 (dk_at dksX8_together_1 15 rfl rfl)
theorem dX8_together_42 : decode cX8_together 42 = .ok (.ifCond .eq 7, 3) := dk_153 0 7 (dk_at dksX8_together_1 18 rfl rfl)
theorem dX8_together_45 : decode cX8_together 45 = .ok (.iconst 1, 1) := dk_4 (dk_at dksX8_together_1 21 rfl rfl)
theorem dX8_together_46 : decode cX8_together 46 = .ok (.goto 4, 3) := dk_167 0 4 (dk_at dksX8_together_2 0 rfl rfl)
theorem dX8_together_49 : decode cX8_together 49 = .ok (.iconst 0, 1) := dk_3 (dk_at dksX8_together_2 3 rfl rfl)
theorem dX8_together_50 : decode cX8_together 50 = .ok (.ireturn, 1) := dk_172 (dk_at dksX8_together_2 4 rfl rfl)
abbrev cX8_isTrack : ByteArray := prog_16_method_53_code
def yX8_isTrack : MethodName := ⟨RX8, "isTrack", "(I)Z"⟩
def dkwX8_isTrack_0 : List UInt8 := [42, 27, 3, 42, 180, 0, 123, 4, 100, 182, 0, 7, 172]
abbrev dktX8_isTrack_0 : List UInt8 := dkwX8_isTrack_0 ++ []
theorem dksX8_isTrack_0 : cX8_isTrack.data.toList.drop 0 = dktX8_isTrack_0 := by decide +kernel
theorem dX8_isTrack_0 : decode cX8_isTrack 0 = .ok (.aload_n 0, 1) := dk_42 (dk_at dksX8_isTrack_0 0 rfl rfl)
theorem dX8_isTrack_1 : decode cX8_isTrack 1 = .ok (.iload_n 1, 1) := dk_27 (dk_at dksX8_isTrack_0 1 rfl rfl)
theorem dX8_isTrack_2 : decode cX8_isTrack 2 = .ok (.iconst 0, 1) := dk_3 (dk_at dksX8_isTrack_0 2 rfl rfl)
theorem dX8_isTrack_3 : decode cX8_isTrack 3 = .ok (.aload_n 0, 1) := dk_42 (dk_at dksX8_isTrack_0 3 rfl rfl)
theorem dX8_isTrack_4 : decode cX8_isTrack 4 = .ok (.getfield 123, 3) := dk_180 0 123 (dk_at dksX8_isTrack_0 4 rfl rfl)
theorem dX8_isTrack_7 : decode cX8_isTrack 7 = .ok (.iconst 1, 1) := dk_4 (dk_at dksX8_isTrack_0 7 rfl rfl)
theorem dX8_isTrack_8 : decode cX8_isTrack 8 = .ok (.isub, 1) := dk_100 (dk_at dksX8_isTrack_0 8 rfl rfl)
theorem dX8_isTrack_9 : decode cX8_isTrack 9 = .ok (.invokevirtual 7, 3) := dk_182 0 7 (dk_at dksX8_isTrack_0 9 rfl rfl)
theorem dX8_isTrack_12 : decode cX8_isTrack 12 = .ok (.ireturn, 1) := dk_172 (dk_at dksX8_isTrack_0 12 rfl rfl)
abbrev cX8_areTogether : ByteArray := prog_16_method_56_code
def yX8_areTogether : MethodName := ⟨RX8, "areTogether", "(III)Z"⟩
def dkwX8_areTogether_1 : List UInt8 := [180, 0, 129, 28, 46, 182, 1, 55, 29, 163, 0, 7, 4, 167, 0, 4, 3, 172]
abbrev dktX8_areTogether_1 : List UInt8 := dkwX8_areTogether_1 ++ []
def dkwX8_areTogether_0 : List UInt8 := [42, 180, 0, 132, 27, 46, 42, 180, 0, 132, 28, 46, 160, 0, 27, 42, 42, 180, 0, 129, 27, 46, 42]
abbrev dktX8_areTogether_0 : List UInt8 := dkwX8_areTogether_0 ++ dktX8_areTogether_1
theorem dksX8_areTogether_0 : cX8_areTogether.data.toList.drop 0 = dktX8_areTogether_0 := by decide +kernel
theorem dksX8_areTogether_1 : cX8_areTogether.data.toList.drop 23 = dktX8_areTogether_1 := dk_seg dksX8_areTogether_0 23 rfl rfl
theorem dX8_areTogether_0 : decode cX8_areTogether 0 = .ok (.aload_n 0, 1) := dk_42 (dk_at dksX8_areTogether_0 0 rfl rfl)
theorem dX8_areTogether_1 : decode cX8_areTogether 1 = .ok (.getfield 132, 3) := dk_180 0 132 (dk_at dksX8_areTogether_0 1 rfl rfl)
theorem dX8_areTogether_4 : decode cX8_areTogether 4 = .ok (.iload_n 1, 1) := dk_27 (dk_at dksX8_areTogether_0 4 rfl rfl)
theorem dX8_areTogether_5 : decode cX8_areTogether 5 = .ok (.iaload, 1) := dk_46 (dk_at dksX8_areTogether_0 5 rfl rfl)
theorem dX8_areTogether_6 : decode cX8_areTogether 6 = .ok (.aload_n 0, 1) := dk_42 (dk_at dksX8_areTogether_0 6 rfl rfl)
theorem dX8_areTogether_7 : decode cX8_areTogether 7 = .ok (.getfield 132, 3) := dk_180 0 132 (dk_at dksX8_areTogether_0 7 rfl rfl)
theorem dX8_areTogether_10 : decode cX8_areTogether 10 = .ok (.iload_n 2, 1) := dk_28 (dk_at dksX8_areTogether_0 10 rfl rfl)
theorem dX8_areTogether_11 : decode cX8_areTogether 11 = .ok (.iaload, 1) := dk_46 (dk_at dksX8_areTogether_0 11 rfl rfl)
theorem dX8_areTogether_12 : decode cX8_areTogether 12 = .ok (.if_icmp .ne 27, 3) := dk_160 0 27 (dk_at dksX8_areTogether_0 12 rfl rfl)
theorem dX8_areTogether_15 : decode cX8_areTogether 15 = .ok (.aload_n 0, 1) := dk_42 (dk_at dksX8_areTogether_0 15 rfl rfl)
theorem dX8_areTogether_16 : decode cX8_areTogether 16 = .ok (.aload_n 0, 1) := dk_42 (dk_at dksX8_areTogether_0 16 rfl rfl)
theorem dX8_areTogether_17 : decode cX8_areTogether 17 = .ok (.getfield 129, 3) := dk_180 0 129 (dk_at dksX8_areTogether_0 17 rfl rfl)
theorem dX8_areTogether_20 : decode cX8_areTogether 20 = .ok (.iload_n 1, 1) := dk_27 (dk_at dksX8_areTogether_0 20 rfl rfl)
theorem dX8_areTogether_21 : decode cX8_areTogether 21 = .ok (.iaload, 1) := dk_46 (dk_at dksX8_areTogether_0 21 rfl rfl)
theorem dX8_areTogether_22 : decode cX8_areTogether 22 = .ok (.aload_n 0, 1) := dk_42 (dk_at dksX8_areTogether_0 22 rfl rfl)
theorem dX8_areTogether_23 : decode cX8_areTogether 23 = .ok (.getfield 129, 3) := dk_180 0 129 (dk_at dksX8_areTogether_1 0 rfl rfl)
theorem dX8_areTogether_26 : decode cX8_areTogether 26 = .ok (.iload_n 2, 1) := dk_28 (dk_at dksX8_areTogether_1 3 rfl rfl)
theorem dX8_areTogether_27 : decode cX8_areTogether 27 = .ok (.iaload, 1) := dk_46 (dk_at dksX8_areTogether_1 4 rfl rfl)
theorem dX8_areTogether_28 : decode cX8_areTogether 28 = .ok (.invokevirtual 311, 3) := dk_182 1 55 (dk_at dksX8_areTogether_1 5 rfl rfl)
theorem dX8_areTogether_31 : decode cX8_areTogether 31 = .ok (.iload_n 3, 1) := dk_29 (dk_at dksX8_areTogether_1 8 rfl rfl)
theorem dX8_areTogether_32 : decode cX8_areTogether 32 = .ok (.if_icmp .gt 7, 3) := dk_163 0 7 (dk_at dksX8_areTogether_1 9 rfl rfl)
theorem dX8_areTogether_35 : decode cX8_areTogether 35 = .ok (.iconst 1, 1) := dk_4 (dk_at dksX8_areTogether_1 12 rfl rfl)
theorem dX8_areTogether_36 : decode cX8_areTogether 36 = .ok (.goto 4, 3) := dk_167 0 4 (dk_at dksX8_areTogether_1 13 rfl rfl)
theorem dX8_areTogether_39 : decode cX8_areTogether 39 = .ok (.iconst 0, 1) := dk_3 (dk_at dksX8_areTogether_1 16 rfl rfl)
theorem dX8_areTogether_40 : decode cX8_areTogether 40 = .ok (.ireturn, 1) := dk_172 (dk_at dksX8_areTogether_1 17 rfl rfl)
abbrev cX8_apart : ByteArray := prog_16_method_55_code
def yX8_apart : MethodName := ⟨RX8, "apart", "(II)I"⟩
def dkwX8_apart_0 : List UInt8 := [27, 28, 162, 0, 9, 28, 27, 100, 167, 0, 6, 27, 28, 100, 172]
abbrev dktX8_apart_0 : List UInt8 := dkwX8_apart_0 ++ []
theorem dksX8_apart_0 : cX8_apart.data.toList.drop 0 = dktX8_apart_0 := by decide +kernel
theorem dX8_apart_0 : decode cX8_apart 0 = .ok (.iload_n 1, 1) := dk_27 (dk_at dksX8_apart_0 0 rfl rfl)
theorem dX8_apart_1 : decode cX8_apart 1 = .ok (.iload_n 2, 1) := dk_28 (dk_at dksX8_apart_0 1 rfl rfl)
theorem dX8_apart_2 : decode cX8_apart 2 = .ok (.if_icmp .ge 9, 3) := dk_162 0 9 (dk_at dksX8_apart_0 2 rfl rfl)
theorem dX8_apart_5 : decode cX8_apart 5 = .ok (.iload_n 2, 1) := dk_28 (dk_at dksX8_apart_0 5 rfl rfl)
theorem dX8_apart_6 : decode cX8_apart 6 = .ok (.iload_n 1, 1) := dk_27 (dk_at dksX8_apart_0 6 rfl rfl)
theorem dX8_apart_7 : decode cX8_apart 7 = .ok (.isub, 1) := dk_100 (dk_at dksX8_apart_0 7 rfl rfl)
theorem dX8_apart_8 : decode cX8_apart 8 = .ok (.goto 6, 3) := dk_167 0 6 (dk_at dksX8_apart_0 8 rfl rfl)
theorem dX8_apart_11 : decode cX8_apart 11 = .ok (.iload_n 1, 1) := dk_27 (dk_at dksX8_apart_0 11 rfl rfl)
theorem dX8_apart_12 : decode cX8_apart 12 = .ok (.iload_n 2, 1) := dk_28 (dk_at dksX8_apart_0 12 rfl rfl)
theorem dX8_apart_13 : decode cX8_apart 13 = .ok (.isub, 1) := dk_100 (dk_at dksX8_apart_0 13 rfl rfl)
theorem dX8_apart_14 : decode cX8_apart 14 = .ok (.ireturn, 1) := dk_172 (dk_at dksX8_apart_0 14 rfl rfl)
abbrev cX8_groups : ByteArray := prog_16_method_58_code
def yX8_groups : MethodName := ⟨RX8, "groups", "(I)I"⟩
def dkwX8_groups_7 : List UInt8 := [132, 3, 1, 167, 255, 135, 28, 172]
abbrev dktX8_groups_7 : List UInt8 := dkwX8_groups_7 ++ []
def dkwX8_groups_6 : List UInt8 := [42, 180, 0, 135, 21, 6, 46, 79, 132, 6, 1, 167, 255, 208, 132, 2, 255, 132, 4, 1, 167, 255, 152]
abbrev dktX8_groups_6 : List UInt8 := dkwX8_groups_6 ++ dktX8_groups_7
def dkwX8_groups_5 : List UInt8 := [21, 6, 42, 180, 0, 135, 21, 6, 46, 21, 5, 160, 0, 13, 42, 180, 0, 135, 21, 4, 46, 167, 0, 10]
abbrev dktX8_groups_5 : List UInt8 := dkwX8_groups_5 ++ dktX8_groups_6
def dkwX8_groups_4 : List UInt8 := [180, 0, 135, 29, 46, 54, 5, 3, 54, 6, 21, 6, 42, 180, 0, 123, 162, 0, 45, 42, 180, 0, 135]
abbrev dktX8_groups_4 : List UInt8 := dkwX8_groups_4 ++ dktX8_groups_5
def dkwX8_groups_3 : List UInt8 := [153, 0, 87, 42, 180, 0, 135, 29, 46, 42, 180, 0, 135, 21, 4, 46, 160, 0, 6, 167, 0, 68, 42]
abbrev dktX8_groups_3 : List UInt8 := dkwX8_groups_3 ++ dktX8_groups_4
def dkwX8_groups_2 : List UInt8 := [180, 0, 123, 162, 0, 119, 3, 54, 4, 21, 4, 29, 162, 0, 104, 42, 29, 21, 4, 27, 182, 1, 61]
abbrev dktX8_groups_2 : List UInt8 := dkwX8_groups_2 ++ dktX8_groups_3
def dkwX8_groups_1 : List UInt8 := [42, 180, 0, 135, 28, 28, 79, 132, 2, 1, 167, 255, 238, 42, 180, 0, 123, 61, 3, 62, 29, 42]
abbrev dktX8_groups_1 : List UInt8 := dkwX8_groups_1 ++ dktX8_groups_2
def dkwX8_groups_0 : List UInt8 := [42, 27, 3, 16, 99, 182, 0, 7, 154, 0, 6, 16, 254, 172, 3, 61, 28, 42, 180, 0, 123, 162, 0, 16]
abbrev dktX8_groups_0 : List UInt8 := dkwX8_groups_0 ++ dktX8_groups_1
theorem dksX8_groups_0 : cX8_groups.data.toList.drop 0 = dktX8_groups_0 := by decide +kernel
theorem dksX8_groups_1 : cX8_groups.data.toList.drop 24 = dktX8_groups_1 := dk_seg dksX8_groups_0 24 rfl rfl
theorem dksX8_groups_2 : cX8_groups.data.toList.drop 46 = dktX8_groups_2 := dk_seg dksX8_groups_1 22 rfl rfl
theorem dksX8_groups_3 : cX8_groups.data.toList.drop 69 = dktX8_groups_3 := dk_seg dksX8_groups_2 23 rfl rfl
theorem dksX8_groups_4 : cX8_groups.data.toList.drop 92 = dktX8_groups_4 := dk_seg dksX8_groups_3 23 rfl rfl
theorem dksX8_groups_5 : cX8_groups.data.toList.drop 115 = dktX8_groups_5 := dk_seg dksX8_groups_4 23 rfl rfl
theorem dksX8_groups_6 : cX8_groups.data.toList.drop 139 = dktX8_groups_6 := dk_seg dksX8_groups_5 24 rfl rfl
theorem dksX8_groups_7 : cX8_groups.data.toList.drop 162 = dktX8_groups_7 := dk_seg dksX8_groups_6 23 rfl rfl
theorem dX8_groups_0 : decode cX8_groups 0 = .ok (.aload_n 0, 1) := dk_42 (dk_at dksX8_groups_0 0 rfl rfl)
theorem dX8_groups_1 : decode cX8_groups 1 = .ok (.iload_n 1, 1) := dk_27 (dk_at dksX8_groups_0 1 rfl rfl)
theorem dX8_groups_2 : decode cX8_groups 2 = .ok (.iconst 0, 1) := dk_3 (dk_at dksX8_groups_0 2 rfl rfl)
theorem dX8_groups_3 : decode cX8_groups 3 = .ok (.bipush 99, 2) := dk_16 99 (dk_at dksX8_groups_0 3 rfl rfl)
theorem dX8_groups_5 : decode cX8_groups 5 = .ok (.invokevirtual 7, 3) := dk_182 0 7 (dk_at dksX8_groups_0 5 rfl rfl)
theorem dX8_groups_8 : decode cX8_groups 8 = .ok (.ifCond .ne 6, 3) := dk_154 0 6 (dk_at dksX8_groups_0 8 rfl rfl)
theorem dX8_groups_11 : decode cX8_groups 11 = .ok (.bipush (-2), 2) := dk_16 254 (dk_at dksX8_groups_0 11 rfl rfl)
theorem dX8_groups_13 : decode cX8_groups 13 = .ok (.ireturn, 1) := dk_172 (dk_at dksX8_groups_0 13 rfl rfl)
theorem dX8_groups_14 : decode cX8_groups 14 = .ok (.iconst 0, 1) := dk_3 (dk_at dksX8_groups_0 14 rfl rfl)
theorem dX8_groups_15 : decode cX8_groups 15 = .ok (.istore_n 2, 1) := dk_61 (dk_at dksX8_groups_0 15 rfl rfl)
theorem dX8_groups_16 : decode cX8_groups 16 = .ok (.iload_n 2, 1) := dk_28 (dk_at dksX8_groups_0 16 rfl rfl)
theorem dX8_groups_17 : decode cX8_groups 17 = .ok (.aload_n 0, 1) := dk_42 (dk_at dksX8_groups_0 17 rfl rfl)
theorem dX8_groups_18 : decode cX8_groups 18 = .ok (.getfield 123, 3) := dk_180 0 123 (dk_at dksX8_groups_0 18 rfl rfl)
theorem dX8_groups_21 : decode cX8_groups 21 = .ok (.if_icmp .ge 16, 3) := dk_162 0 16 (dk_at dksX8_groups_0 21 rfl rfl)
theorem dX8_groups_24 : decode cX8_groups 24 = .ok (.aload_n 0, 1) := dk_42 (dk_at dksX8_groups_1 0 rfl rfl)
theorem dX8_groups_25 : decode cX8_groups 25 = .ok (.getfield 135, 3) := dk_180 0 135 (dk_at dksX8_groups_1 1 rfl rfl)
theorem dX8_groups_28 : decode cX8_groups 28 = .ok (.iload_n 2, 1) := dk_28 (dk_at dksX8_groups_1 4 rfl rfl)
theorem dX8_groups_29 : decode cX8_groups 29 = .ok (.iload_n 2, 1) := dk_28 (dk_at dksX8_groups_1 5 rfl rfl)
theorem dX8_groups_30 : decode cX8_groups 30 = .ok (.iastore, 1) := dk_79 (dk_at dksX8_groups_1 6 rfl rfl)
theorem dX8_groups_31 : decode cX8_groups 31 = .ok (.iinc 2 1, 3) := dk_132 2 1 (dk_at dksX8_groups_1 7 rfl rfl)
theorem dX8_groups_34 : decode cX8_groups 34 = .ok (.goto (-18), 3) := dk_167 255 238 (dk_at dksX8_groups_1 10 rfl rfl)
theorem dX8_groups_37 : decode cX8_groups 37 = .ok (.aload_n 0, 1) := dk_42 (dk_at dksX8_groups_1 13 rfl rfl)
theorem dX8_groups_38 : decode cX8_groups 38 = .ok (.getfield 123, 3) := dk_180 0 123 (dk_at dksX8_groups_1 14 rfl rfl)
theorem dX8_groups_41 : decode cX8_groups 41 = .ok (.istore_n 2, 1) := dk_61 (dk_at dksX8_groups_1 17 rfl rfl)
theorem dX8_groups_42 : decode cX8_groups 42 = .ok (.iconst 0, 1) := dk_3 (dk_at dksX8_groups_1 18 rfl rfl)
theorem dX8_groups_43 : decode cX8_groups 43 = .ok (.istore_n 3, 1) := dk_62 (dk_at dksX8_groups_1 19 rfl rfl)
theorem dX8_groups_44 : decode cX8_groups 44 = .ok (.iload_n 3, 1) := dk_29 (dk_at dksX8_groups_1 20 rfl rfl)
theorem dX8_groups_45 : decode cX8_groups 45 = .ok (.aload_n 0, 1) := dk_42 (dk_at dksX8_groups_1 21 rfl rfl)
theorem dX8_groups_46 : decode cX8_groups 46 = .ok (.getfield 123, 3) := dk_180 0 123 (dk_at dksX8_groups_2 0 rfl rfl)
theorem dX8_groups_49 : decode cX8_groups 49 = .ok (.if_icmp .ge 119, 3) := dk_162 0 119 (dk_at dksX8_groups_2 3 rfl rfl)
theorem dX8_groups_52 : decode cX8_groups 52 = .ok (.iconst 0, 1) := dk_3 (dk_at dksX8_groups_2 6 rfl rfl)
theorem dX8_groups_53 : decode cX8_groups 53 = .ok (.istore 4, 2) := dk_54 4 (dk_at dksX8_groups_2 7 rfl rfl)
theorem dX8_groups_55 : decode cX8_groups 55 = .ok (.iload 4, 2) := dk_21 4 (dk_at dksX8_groups_2 9 rfl rfl)
theorem dX8_groups_57 : decode cX8_groups 57 = .ok (.iload_n 3, 1) := dk_29 (dk_at dksX8_groups_2 11 rfl rfl)
theorem dX8_groups_58 : decode cX8_groups 58 = .ok (.if_icmp .ge 104, 3) := dk_162 0 104 (dk_at dksX8_groups_2 12 rfl rfl)
theorem dX8_groups_61 : decode cX8_groups 61 = .ok (.aload_n 0, 1) := dk_42 (dk_at dksX8_groups_2 15 rfl rfl)
theorem dX8_groups_62 : decode cX8_groups 62 = .ok (.iload_n 3, 1) := dk_29 (dk_at dksX8_groups_2 16 rfl rfl)
theorem dX8_groups_63 : decode cX8_groups 63 = .ok (.iload 4, 2) := dk_21 4 (dk_at dksX8_groups_2 17 rfl rfl)
theorem dX8_groups_65 : decode cX8_groups 65 = .ok (.iload_n 1, 1) := dk_27 (dk_at dksX8_groups_2 19 rfl rfl)
theorem dX8_groups_66 : decode cX8_groups 66 = .ok (.invokevirtual 317, 3) := dk_182 1 61 (dk_at dksX8_groups_2 20 rfl rfl)
theorem dX8_groups_69 : decode cX8_groups 69 = .ok (.ifCond .eq 87, 3) := dk_153 0 87 (dk_at dksX8_groups_3 0 rfl rfl)
theorem dX8_groups_72 : decode cX8_groups 72 = .ok (.aload_n 0, 1) := dk_42 (dk_at dksX8_groups_3 3 rfl rfl)
theorem dX8_groups_73 : decode cX8_groups 73 = .ok (.getfield 135, 3) := dk_180 0 135 (dk_at dksX8_groups_3 4 rfl rfl)
theorem dX8_groups_76 : decode cX8_groups 76 = .ok (.iload_n 3, 1) := dk_29 (dk_at dksX8_groups_3 7 rfl rfl)
theorem dX8_groups_77 : decode cX8_groups 77 = .ok (.iaload, 1) := dk_46 (dk_at dksX8_groups_3 8 rfl rfl)
theorem dX8_groups_78 : decode cX8_groups 78 = .ok (.aload_n 0, 1) := dk_42 (dk_at dksX8_groups_3 9 rfl rfl)
theorem dX8_groups_79 : decode cX8_groups 79 = .ok (.getfield 135, 3) := dk_180 0 135 (dk_at dksX8_groups_3 10 rfl rfl)
theorem dX8_groups_82 : decode cX8_groups 82 = .ok (.iload 4, 2) := dk_21 4 (dk_at dksX8_groups_3 13 rfl rfl)
theorem dX8_groups_84 : decode cX8_groups 84 = .ok (.iaload, 1) := dk_46 (dk_at dksX8_groups_3 15 rfl rfl)
theorem dX8_groups_85 : decode cX8_groups 85 = .ok (.if_icmp .ne 6, 3) := dk_160 0 6 (dk_at dksX8_groups_3 16 rfl rfl)
theorem dX8_groups_88 : decode cX8_groups 88 = .ok (.goto 68, 3) := dk_167 0 68 (dk_at dksX8_groups_3 19 rfl rfl)
theorem dX8_groups_91 : decode cX8_groups 91 = .ok (.aload_n 0, 1) := dk_42 (dk_at dksX8_groups_3 22 rfl rfl)
theorem dX8_groups_92 : decode cX8_groups 92 = .ok (.getfield 135, 3) := dk_180 0 135 (dk_at dksX8_groups_4 0 rfl rfl)
theorem dX8_groups_95 : decode cX8_groups 95 = .ok (.iload_n 3, 1) := dk_29 (dk_at dksX8_groups_4 3 rfl rfl)
theorem dX8_groups_96 : decode cX8_groups 96 = .ok (.iaload, 1) := dk_46 (dk_at dksX8_groups_4 4 rfl rfl)
theorem dX8_groups_97 : decode cX8_groups 97 = .ok (.istore 5, 2) := dk_54 5 (dk_at dksX8_groups_4 5 rfl rfl)
theorem dX8_groups_99 : decode cX8_groups 99 = .ok (.iconst 0, 1) := dk_3 (dk_at dksX8_groups_4 7 rfl rfl)
theorem dX8_groups_100 : decode cX8_groups 100 = .ok (.istore 6, 2) := dk_54 6 (dk_at dksX8_groups_4 8 rfl rfl)
theorem dX8_groups_102 : decode cX8_groups 102 = .ok (.iload 6, 2) := dk_21 6 (dk_at dksX8_groups_4 10 rfl rfl)
theorem dX8_groups_104 : decode cX8_groups 104 = .ok (.aload_n 0, 1) := dk_42 (dk_at dksX8_groups_4 12 rfl rfl)
theorem dX8_groups_105 : decode cX8_groups 105 = .ok (.getfield 123, 3) := dk_180 0 123 (dk_at dksX8_groups_4 13 rfl rfl)
theorem dX8_groups_108 : decode cX8_groups 108 = .ok (.if_icmp .ge 45, 3) := dk_162 0 45 (dk_at dksX8_groups_4 16 rfl rfl)
theorem dX8_groups_111 : decode cX8_groups 111 = .ok (.aload_n 0, 1) := dk_42 (dk_at dksX8_groups_4 19 rfl rfl)
theorem dX8_groups_112 : decode cX8_groups 112 = .ok (.getfield 135, 3) := dk_180 0 135 (dk_at dksX8_groups_4 20 rfl rfl)
theorem dX8_groups_115 : decode cX8_groups 115 = .ok (.iload 6, 2) := dk_21 6 (dk_at dksX8_groups_5 0 rfl rfl)
theorem dX8_groups_117 : decode cX8_groups 117 = .ok (.aload_n 0, 1) := dk_42 (dk_at dksX8_groups_5 2 rfl rfl)
theorem dX8_groups_118 : decode cX8_groups 118 = .ok (.getfield 135, 3) := dk_180 0 135 (dk_at dksX8_groups_5 3 rfl rfl)
theorem dX8_groups_121 : decode cX8_groups 121 = .ok (.iload 6, 2) := dk_21 6 (dk_at dksX8_groups_5 6 rfl rfl)
theorem dX8_groups_123 : decode cX8_groups 123 = .ok (.iaload, 1) := dk_46 (dk_at dksX8_groups_5 8 rfl rfl)
theorem dX8_groups_124 : decode cX8_groups 124 = .ok (.iload 5, 2) := dk_21 5 (dk_at dksX8_groups_5 9 rfl rfl)
theorem dX8_groups_126 : decode cX8_groups 126 = .ok (.if_icmp .ne 13, 3) := dk_160 0 13 (dk_at dksX8_groups_5 11 rfl rfl)
theorem dX8_groups_129 : decode cX8_groups 129 = .ok (.aload_n 0, 1) := dk_42 (dk_at dksX8_groups_5 14 rfl rfl)
theorem dX8_groups_130 : decode cX8_groups 130 = .ok (.getfield 135, 3) := dk_180 0 135 (dk_at dksX8_groups_5 15 rfl rfl)
theorem dX8_groups_133 : decode cX8_groups 133 = .ok (.iload 4, 2) := dk_21 4 (dk_at dksX8_groups_5 18 rfl rfl)
theorem dX8_groups_135 : decode cX8_groups 135 = .ok (.iaload, 1) := dk_46 (dk_at dksX8_groups_5 20 rfl rfl)
theorem dX8_groups_136 : decode cX8_groups 136 = .ok (.goto 10, 3) := dk_167 0 10 (dk_at dksX8_groups_5 21 rfl rfl)
theorem dX8_groups_139 : decode cX8_groups 139 = .ok (.aload_n 0, 1) := dk_42 (dk_at dksX8_groups_6 0 rfl rfl)
theorem dX8_groups_140 : decode cX8_groups 140 = .ok (.getfield 135, 3) := dk_180 0 135 (dk_at dksX8_groups_6 1 rfl rfl)
theorem dX8_groups_143 : decode cX8_groups 143 = .ok (.iload 6, 2) := dk_21 6 (dk_at dksX8_groups_6 4 rfl rfl)
theorem dX8_groups_145 : decode cX8_groups 145 = .ok (.iaload, 1) := dk_46 (dk_at dksX8_groups_6 6 rfl rfl)
theorem dX8_groups_146 : decode cX8_groups 146 = .ok (.iastore, 1) := dk_79 (dk_at dksX8_groups_6 7 rfl rfl)
theorem dX8_groups_147 : decode cX8_groups 147 = .ok (.iinc 6 1, 3) := dk_132 6 1 (dk_at dksX8_groups_6 8 rfl rfl)
theorem dX8_groups_150 : decode cX8_groups 150 = .ok (.goto (-48), 3) := dk_167 255 208 (dk_at dksX8_groups_6 11 rfl rfl)
theorem dX8_groups_153 : decode cX8_groups 153 = .ok (.iinc 2 (-1), 3) := dk_132 2 255 (dk_at dksX8_groups_6 14 rfl rfl)
theorem dX8_groups_156 : decode cX8_groups 156 = .ok (.iinc 4 1, 3) := dk_132 4 1 (dk_at dksX8_groups_6 17 rfl rfl)
theorem dX8_groups_159 : decode cX8_groups 159 = .ok (.goto (-104), 3) := dk_167 255 152 (dk_at dksX8_groups_6 20 rfl rfl)
theorem dX8_groups_162 : decode cX8_groups 162 = .ok (.iinc 3 1, 3) := dk_132 3 1 (dk_at dksX8_groups_7 0 rfl rfl)
theorem dX8_groups_165 : decode cX8_groups 165 = .ok (.goto (-121), 3) := dk_167 255 135 (dk_at dksX8_groups_7 3 rfl rfl)
theorem dX8_groups_168 : decode cX8_groups 168 = .ok (.iload_n 2, 1) := dk_28 (dk_at dksX8_groups_7 6 rfl rfl)
theorem dX8_groups_169 : decode cX8_groups 169 = .ok (.ireturn, 1) := dk_172 (dk_at dksX8_groups_7 7 rfl rfl)
abbrev cX8_fits : ByteArray := prog_16_method_60_code
def yX8_fits : MethodName := ⟨RX8, "fits", "(II)I"⟩
def dkwX8_fits_1 : List UInt8 := [42, 27, 182, 1, 67, 172]
abbrev dktX8_fits_1 : List UInt8 := dkwX8_fits_1 ++ []
def dkwX8_fits_0 : List UInt8 := [42, 27, 182, 1, 58, 153, 0, 11, 42, 28, 182, 1, 25, 154, 0, 6, 16, 254, 172, 42, 28, 182, 1, 64]
abbrev dktX8_fits_0 : List UInt8 := dkwX8_fits_0 ++ dktX8_fits_1
theorem dksX8_fits_0 : cX8_fits.data.toList.drop 0 = dktX8_fits_0 := by decide +kernel
theorem dksX8_fits_1 : cX8_fits.data.toList.drop 24 = dktX8_fits_1 := dk_seg dksX8_fits_0 24 rfl rfl
theorem dX8_fits_0 : decode cX8_fits 0 = .ok (.aload_n 0, 1) := dk_42 (dk_at dksX8_fits_0 0 rfl rfl)
theorem dX8_fits_1 : decode cX8_fits 1 = .ok (.iload_n 1, 1) := dk_27 (dk_at dksX8_fits_0 1 rfl rfl)
theorem dX8_fits_2 : decode cX8_fits 2 = .ok (.invokevirtual 314, 3) := dk_182 1 58 (dk_at dksX8_fits_0 2 rfl rfl)
theorem dX8_fits_5 : decode cX8_fits 5 = .ok (.ifCond .eq 11, 3) := dk_153 0 11 (dk_at dksX8_fits_0 5 rfl rfl)
theorem dX8_fits_8 : decode cX8_fits 8 = .ok (.aload_n 0, 1) := dk_42 (dk_at dksX8_fits_0 8 rfl rfl)
theorem dX8_fits_9 : decode cX8_fits 9 = .ok (.iload_n 2, 1) := dk_28 (dk_at dksX8_fits_0 9 rfl rfl)
theorem dX8_fits_10 : decode cX8_fits 10 = .ok (.invokevirtual 281, 3) := dk_182 1 25 (dk_at dksX8_fits_0 10 rfl rfl)
theorem dX8_fits_13 : decode cX8_fits 13 = .ok (.ifCond .ne 6, 3) := dk_154 0 6 (dk_at dksX8_fits_0 13 rfl rfl)
theorem dX8_fits_16 : decode cX8_fits 16 = .ok (.bipush (-2), 2) := dk_16 254 (dk_at dksX8_fits_0 16 rfl rfl)
theorem dX8_fits_18 : decode cX8_fits 18 = .ok (.ireturn, 1) := dk_172 (dk_at dksX8_fits_0 18 rfl rfl)
theorem dX8_fits_19 : decode cX8_fits 19 = .ok (.aload_n 0, 1) := dk_42 (dk_at dksX8_fits_0 19 rfl rfl)
theorem dX8_fits_20 : decode cX8_fits 20 = .ok (.iload_n 2, 1) := dk_28 (dk_at dksX8_fits_0 20 rfl rfl)
theorem dX8_fits_21 : decode cX8_fits 21 = .ok (.invokevirtual 320, 3) := dk_182 1 64 (dk_at dksX8_fits_0 21 rfl rfl)
theorem dX8_fits_24 : decode cX8_fits 24 = .ok (.aload_n 0, 1) := dk_42 (dk_at dksX8_fits_1 0 rfl rfl)
theorem dX8_fits_25 : decode cX8_fits 25 = .ok (.iload_n 1, 1) := dk_27 (dk_at dksX8_fits_1 1 rfl rfl)
theorem dX8_fits_26 : decode cX8_fits 26 = .ok (.invokevirtual 323, 3) := dk_182 1 67 (dk_at dksX8_fits_1 2 rfl rfl)
theorem dX8_fits_29 : decode cX8_fits 29 = .ok (.ireturn, 1) := dk_172 (dk_at dksX8_fits_1 5 rfl rfl)
abbrev cX8_goAll : ByteArray := prog_16_method_48_code
def yX8_goAll : MethodName := ⟨RX8, "goAll", "(I)V"⟩
def dkwX8_goAll_1 : List UInt8 := [167, 255, 239, 177]
abbrev dktX8_goAll_1 : List UInt8 := dkwX8_goAll_1 ++ []
def dkwX8_goAll_0 : List UInt8 := [42, 182, 1, 43, 3, 61, 28, 42, 180, 0, 11, 162, 0, 15, 42, 27, 28, 182, 1, 46, 132, 2, 1]
abbrev dktX8_goAll_0 : List UInt8 := dkwX8_goAll_0 ++ dktX8_goAll_1
theorem dksX8_goAll_0 : cX8_goAll.data.toList.drop 0 = dktX8_goAll_0 := by decide +kernel
theorem dksX8_goAll_1 : cX8_goAll.data.toList.drop 23 = dktX8_goAll_1 := dk_seg dksX8_goAll_0 23 rfl rfl
theorem dX8_goAll_0 : decode cX8_goAll 0 = .ok (.aload_n 0, 1) := dk_42 (dk_at dksX8_goAll_0 0 rfl rfl)
theorem dX8_goAll_1 : decode cX8_goAll 1 = .ok (.invokevirtual 299, 3) := dk_182 1 43 (dk_at dksX8_goAll_0 1 rfl rfl)
theorem dX8_goAll_4 : decode cX8_goAll 4 = .ok (.iconst 0, 1) := dk_3 (dk_at dksX8_goAll_0 4 rfl rfl)
theorem dX8_goAll_5 : decode cX8_goAll 5 = .ok (.istore_n 2, 1) := dk_61 (dk_at dksX8_goAll_0 5 rfl rfl)
theorem dX8_goAll_6 : decode cX8_goAll 6 = .ok (.iload_n 2, 1) := dk_28 (dk_at dksX8_goAll_0 6 rfl rfl)
theorem dX8_goAll_7 : decode cX8_goAll 7 = .ok (.aload_n 0, 1) := dk_42 (dk_at dksX8_goAll_0 7 rfl rfl)
theorem dX8_goAll_8 : decode cX8_goAll 8 = .ok (.getfield 11, 3) := dk_180 0 11 (dk_at dksX8_goAll_0 8 rfl rfl)
theorem dX8_goAll_11 : decode cX8_goAll 11 = .ok (.if_icmp .ge 15, 3) := dk_162 0 15 (dk_at dksX8_goAll_0 11 rfl rfl)
theorem dX8_goAll_14 : decode cX8_goAll 14 = .ok (.aload_n 0, 1) := dk_42 (dk_at dksX8_goAll_0 14 rfl rfl)
theorem dX8_goAll_15 : decode cX8_goAll 15 = .ok (.iload_n 1, 1) := dk_27 (dk_at dksX8_goAll_0 15 rfl rfl)
theorem dX8_goAll_16 : decode cX8_goAll 16 = .ok (.iload_n 2, 1) := dk_28 (dk_at dksX8_goAll_0 16 rfl rfl)
theorem dX8_goAll_17 : decode cX8_goAll 17 = .ok (.invokevirtual 302, 3) := dk_182 1 46 (dk_at dksX8_goAll_0 17 rfl rfl)
theorem dX8_goAll_20 : decode cX8_goAll 20 = .ok (.iinc 2 1, 3) := dk_132 2 1 (dk_at dksX8_goAll_0 20 rfl rfl)
theorem dX8_goAll_23 : decode cX8_goAll 23 = .ok (.goto (-17), 3) := dk_167 255 239 (dk_at dksX8_goAll_1 0 rfl rfl)
theorem dX8_goAll_26 : decode cX8_goAll 26 = .ok (.return_, 1) := dk_177 (dk_at dksX8_goAll_1 3 rfl rfl)
abbrev cX8_fitting : ByteArray := prog_16_method_59_code
def yX8_fitting : MethodName := ⟨RX8, "fitting", "(I)I"⟩
def dkwX8_fitting_2 : List UInt8 := [29, 4, 162, 0, 7, 4, 167, 0, 4, 29, 172]
abbrev dktX8_fitting_2 : List UInt8 := dkwX8_fitting_2 ++ []
def dkwX8_fitting_1 : List UInt8 := [182, 1, 55, 100, 6, 42, 42, 180, 0, 132, 27, 46, 42, 180, 0, 117, 28, 46, 182, 1, 55, 104, 100, 62]
abbrev dktX8_fitting_1 : List UInt8 := dkwX8_fitting_1 ++ dktX8_fitting_2
def dkwX8_fitting_0 : List UInt8 := [42, 180, 0, 126, 27, 46, 61, 16, 9, 42, 42, 180, 0, 129, 27, 46, 42, 180, 0, 114, 28, 46]
abbrev dktX8_fitting_0 : List UInt8 := dkwX8_fitting_0 ++ dktX8_fitting_1
theorem dksX8_fitting_0 : cX8_fitting.data.toList.drop 0 = dktX8_fitting_0 := by decide +kernel
theorem dksX8_fitting_1 : cX8_fitting.data.toList.drop 22 = dktX8_fitting_1 := dk_seg dksX8_fitting_0 22 rfl rfl
theorem dksX8_fitting_2 : cX8_fitting.data.toList.drop 46 = dktX8_fitting_2 := dk_seg dksX8_fitting_1 24 rfl rfl
theorem dX8_fitting_0 : decode cX8_fitting 0 = .ok (.aload_n 0, 1) := dk_42 (dk_at dksX8_fitting_0 0 rfl rfl)
theorem dX8_fitting_1 : decode cX8_fitting 1 = .ok (.getfield 126, 3) := dk_180 0 126 (dk_at dksX8_fitting_0 1 rfl rfl)
theorem dX8_fitting_4 : decode cX8_fitting 4 = .ok (.iload_n 1, 1) := dk_27 (dk_at dksX8_fitting_0 4 rfl rfl)
theorem dX8_fitting_5 : decode cX8_fitting 5 = .ok (.iaload, 1) := dk_46 (dk_at dksX8_fitting_0 5 rfl rfl)
theorem dX8_fitting_6 : decode cX8_fitting 6 = .ok (.istore_n 2, 1) := dk_61 (dk_at dksX8_fitting_0 6 rfl rfl)
theorem dX8_fitting_7 : decode cX8_fitting 7 = .ok (.bipush 9, 2) := dk_16 9 (dk_at dksX8_fitting_0 7 rfl rfl)
theorem dX8_fitting_9 : decode cX8_fitting 9 = .ok (.aload_n 0, 1) := dk_42 (dk_at dksX8_fitting_0 9 rfl rfl)
theorem dX8_fitting_10 : decode cX8_fitting 10 = .ok (.aload_n 0, 1) := dk_42 (dk_at dksX8_fitting_0 10 rfl rfl)
theorem dX8_fitting_11 : decode cX8_fitting 11 = .ok (.getfield 129, 3) := dk_180 0 129 (dk_at dksX8_fitting_0 11 rfl rfl)
theorem dX8_fitting_14 : decode cX8_fitting 14 = .ok (.iload_n 1, 1) := dk_27 (dk_at dksX8_fitting_0 14 rfl rfl)
theorem dX8_fitting_15 : decode cX8_fitting 15 = .ok (.iaload, 1) := dk_46 (dk_at dksX8_fitting_0 15 rfl rfl)
theorem dX8_fitting_16 : decode cX8_fitting 16 = .ok (.aload_n 0, 1) := dk_42 (dk_at dksX8_fitting_0 16 rfl rfl)
theorem dX8_fitting_17 : decode cX8_fitting 17 = .ok (.getfield 114, 3) := dk_180 0 114 (dk_at dksX8_fitting_0 17 rfl rfl)
theorem dX8_fitting_20 : decode cX8_fitting 20 = .ok (.iload_n 2, 1) := dk_28 (dk_at dksX8_fitting_0 20 rfl rfl)
theorem dX8_fitting_21 : decode cX8_fitting 21 = .ok (.iaload, 1) := dk_46 (dk_at dksX8_fitting_0 21 rfl rfl)
theorem dX8_fitting_22 : decode cX8_fitting 22 = .ok (.invokevirtual 311, 3) := dk_182 1 55 (dk_at dksX8_fitting_1 0 rfl rfl)
theorem dX8_fitting_25 : decode cX8_fitting 25 = .ok (.isub, 1) := dk_100 (dk_at dksX8_fitting_1 3 rfl rfl)
theorem dX8_fitting_26 : decode cX8_fitting 26 = .ok (.iconst 3, 1) := dk_6 (dk_at dksX8_fitting_1 4 rfl rfl)
theorem dX8_fitting_27 : decode cX8_fitting 27 = .ok (.aload_n 0, 1) := dk_42 (dk_at dksX8_fitting_1 5 rfl rfl)
theorem dX8_fitting_28 : decode cX8_fitting 28 = .ok (.aload_n 0, 1) := dk_42 (dk_at dksX8_fitting_1 6 rfl rfl)
theorem dX8_fitting_29 : decode cX8_fitting 29 = .ok (.getfield 132, 3) := dk_180 0 132 (dk_at dksX8_fitting_1 7 rfl rfl)
theorem dX8_fitting_32 : decode cX8_fitting 32 = .ok (.iload_n 1, 1) := dk_27 (dk_at dksX8_fitting_1 10 rfl rfl)
theorem dX8_fitting_33 : decode cX8_fitting 33 = .ok (.iaload, 1) := dk_46 (dk_at dksX8_fitting_1 11 rfl rfl)
theorem dX8_fitting_34 : decode cX8_fitting 34 = .ok (.aload_n 0, 1) := dk_42 (dk_at dksX8_fitting_1 12 rfl rfl)
theorem dX8_fitting_35 : decode cX8_fitting 35 = .ok (.getfield 117, 3) := dk_180 0 117 (dk_at dksX8_fitting_1 13 rfl rfl)
theorem dX8_fitting_38 : decode cX8_fitting 38 = .ok (.iload_n 2, 1) := dk_28 (dk_at dksX8_fitting_1 16 rfl rfl)
theorem dX8_fitting_39 : decode cX8_fitting 39 = .ok (.iaload, 1) := dk_46 (dk_at dksX8_fitting_1 17 rfl rfl)
theorem dX8_fitting_40 : decode cX8_fitting 40 = .ok (.invokevirtual 311, 3) := dk_182 1 55 (dk_at dksX8_fitting_1 18 rfl rfl)
theorem dX8_fitting_43 : decode cX8_fitting 43 = .ok (.imul, 1) := dk_104 (dk_at dksX8_fitting_1 21 rfl rfl)
theorem dX8_fitting_44 : decode cX8_fitting 44 = .ok (.isub, 1) := dk_100 (dk_at dksX8_fitting_1 22 rfl rfl)
theorem dX8_fitting_45 : decode cX8_fitting 45 = .ok (.istore_n 3, 1) := dk_62 (dk_at dksX8_fitting_1 23 rfl rfl)
theorem dX8_fitting_46 : decode cX8_fitting 46 = .ok (.iload_n 3, 1) := dk_29 (dk_at dksX8_fitting_2 0 rfl rfl)
theorem dX8_fitting_47 : decode cX8_fitting 47 = .ok (.iconst 1, 1) := dk_4 (dk_at dksX8_fitting_2 1 rfl rfl)
theorem dX8_fitting_48 : decode cX8_fitting 48 = .ok (.if_icmp .ge 7, 3) := dk_162 0 7 (dk_at dksX8_fitting_2 2 rfl rfl)
theorem dX8_fitting_51 : decode cX8_fitting 51 = .ok (.iconst 1, 1) := dk_4 (dk_at dksX8_fitting_2 5 rfl rfl)
theorem dX8_fitting_52 : decode cX8_fitting 52 = .ok (.goto 4, 3) := dk_167 0 4 (dk_at dksX8_fitting_2 6 rfl rfl)
theorem dX8_fitting_55 : decode cX8_fitting 55 = .ok (.iload_n 3, 1) := dk_29 (dk_at dksX8_fitting_2 9 rfl rfl)
theorem dX8_fitting_56 : decode cX8_fitting 56 = .ok (.ireturn, 1) := dk_172 (dk_at dksX8_fitting_2 10 rfl rfl)
abbrev cX8_odds : ByteArray := prog_16_method_63_code
def yX8_odds : MethodName := ⟨RX8, "odds", "(III)J"⟩
def dkwX8_odds_5 : List UInt8 := [167, 0, 8, 22, 5, 22, 9, 109, 173]
abbrev dktX8_odds_5 : List UInt8 := dkwX8_odds_5 ++ []
def dkwX8_odds_4 : List UInt8 := [182, 1, 72, 55, 7, 42, 22, 7, 22, 5, 182, 1, 76, 55, 9, 29, 154, 0, 11, 22, 7, 22, 9, 109]
abbrev dktX8_odds_4 : List UInt8 := dkwX8_odds_4 ++ dktX8_odds_5
def dkwX8_odds_3 : List UInt8 := [162, 0, 21, 22, 5, 42, 21, 7, 28, 182, 1, 72, 97, 55, 5, 132, 7, 1, 167, 255, 232, 42, 27, 28]
abbrev dktX8_odds_3 : List UInt8 := dkwX8_odds_3 ++ dktX8_odds_4
def dkwX8_odds_2 : List UInt8 := [4, 182, 0, 7, 154, 0, 7, 20, 1, 70, 173, 9, 55, 5, 3, 54, 7, 21, 7, 42, 180, 0, 14]
abbrev dktX8_odds_2 : List UInt8 := dkwX8_odds_2 ++ dktX8_odds_3
def dkwX8_odds_1 : List UInt8 := [182, 1, 25, 153, 0, 28, 42, 28, 3, 4, 21, 4, 120, 4, 100, 182, 0, 7, 153, 0, 13, 42, 29, 3]
abbrev dktX8_odds_1 : List UInt8 := dkwX8_odds_1 ++ dktX8_odds_2
def dkwX8_odds_0 : List UInt8 := [42, 180, 0, 123, 16, 16, 162, 0, 10, 42, 180, 0, 123, 167, 0, 5, 16, 16, 54, 4, 42, 27]
abbrev dktX8_odds_0 : List UInt8 := dkwX8_odds_0 ++ dktX8_odds_1
theorem dksX8_odds_0 : cX8_odds.data.toList.drop 0 = dktX8_odds_0 := by decide +kernel
theorem dksX8_odds_1 : cX8_odds.data.toList.drop 22 = dktX8_odds_1 := dk_seg dksX8_odds_0 22 rfl rfl
theorem dksX8_odds_2 : cX8_odds.data.toList.drop 46 = dktX8_odds_2 := dk_seg dksX8_odds_1 24 rfl rfl
theorem dksX8_odds_3 : cX8_odds.data.toList.drop 69 = dktX8_odds_3 := dk_seg dksX8_odds_2 23 rfl rfl
theorem dksX8_odds_4 : cX8_odds.data.toList.drop 93 = dktX8_odds_4 := dk_seg dksX8_odds_3 24 rfl rfl
theorem dksX8_odds_5 : cX8_odds.data.toList.drop 117 = dktX8_odds_5 := dk_seg dksX8_odds_4 24 rfl rfl
theorem dX8_odds_0 : decode cX8_odds 0 = .ok (.aload_n 0, 1) := dk_42 (dk_at dksX8_odds_0 0 rfl rfl)
theorem dX8_odds_1 : decode cX8_odds 1 = .ok (.getfield 123, 3) := dk_180 0 123 (dk_at dksX8_odds_0 1 rfl rfl)
theorem dX8_odds_4 : decode cX8_odds 4 = .ok (.bipush 16, 2) := dk_16 16 (dk_at dksX8_odds_0 4 rfl rfl)
theorem dX8_odds_6 : decode cX8_odds 6 = .ok (.if_icmp .ge 10, 3) := dk_162 0 10 (dk_at dksX8_odds_0 6 rfl rfl)
theorem dX8_odds_9 : decode cX8_odds 9 = .ok (.aload_n 0, 1) := dk_42 (dk_at dksX8_odds_0 9 rfl rfl)
theorem dX8_odds_10 : decode cX8_odds 10 = .ok (.getfield 123, 3) := dk_180 0 123 (dk_at dksX8_odds_0 10 rfl rfl)
theorem dX8_odds_13 : decode cX8_odds 13 = .ok (.goto 5, 3) := dk_167 0 5 (dk_at dksX8_odds_0 13 rfl rfl)
theorem dX8_odds_16 : decode cX8_odds 16 = .ok (.bipush 16, 2) := dk_16 16 (dk_at dksX8_odds_0 16 rfl rfl)
theorem dX8_odds_18 : decode cX8_odds 18 = .ok (.istore 4, 2) := dk_54 4 (dk_at dksX8_odds_0 18 rfl rfl)
theorem dX8_odds_20 : decode cX8_odds 20 = .ok (.aload_n 0, 1) := dk_42 (dk_at dksX8_odds_0 20 rfl rfl)
theorem dX8_odds_21 : decode cX8_odds 21 = .ok (.iload_n 1, 1) := dk_27 (dk_at dksX8_odds_0 21 rfl rfl)
theorem dX8_odds_22 : decode cX8_odds 22 = .ok (.invokevirtual 281, 3) := dk_182 1 25 (dk_at dksX8_odds_1 0 rfl rfl)
theorem dX8_odds_25 : decode cX8_odds 25 = .ok (.ifCond .eq 28, 3) := dk_153 0 28 (dk_at dksX8_odds_1 3 rfl rfl)
theorem dX8_odds_28 : decode cX8_odds 28 = .ok (.aload_n 0, 1) := dk_42 (dk_at dksX8_odds_1 6 rfl rfl)
theorem dX8_odds_29 : decode cX8_odds 29 = .ok (.iload_n 2, 1) := dk_28 (dk_at dksX8_odds_1 7 rfl rfl)
theorem dX8_odds_30 : decode cX8_odds 30 = .ok (.iconst 0, 1) := dk_3 (dk_at dksX8_odds_1 8 rfl rfl)
theorem dX8_odds_31 : decode cX8_odds 31 = .ok (.iconst 1, 1) := dk_4 (dk_at dksX8_odds_1 9 rfl rfl)
theorem dX8_odds_32 : decode cX8_odds 32 = .ok (.iload 4, 2) := dk_21 4 (dk_at dksX8_odds_1 10 rfl rfl)
theorem dX8_odds_34 : decode cX8_odds 34 = .ok (.ishl, 1) := dk_120 (dk_at dksX8_odds_1 12 rfl rfl)
theorem dX8_odds_35 : decode cX8_odds 35 = .ok (.iconst 1, 1) := dk_4 (dk_at dksX8_odds_1 13 rfl rfl)
theorem dX8_odds_36 : decode cX8_odds 36 = .ok (.isub, 1) := dk_100 (dk_at dksX8_odds_1 14 rfl rfl)
theorem dX8_odds_37 : decode cX8_odds 37 = .ok (.invokevirtual 7, 3) := dk_182 0 7 (dk_at dksX8_odds_1 15 rfl rfl)
theorem dX8_odds_40 : decode cX8_odds 40 = .ok (.ifCond .eq 13, 3) := dk_153 0 13 (dk_at dksX8_odds_1 18 rfl rfl)
theorem dX8_odds_43 : decode cX8_odds 43 = .ok (.aload_n 0, 1) := dk_42 (dk_at dksX8_odds_1 21 rfl rfl)
theorem dX8_odds_44 : decode cX8_odds 44 = .ok (.iload_n 3, 1) := dk_29 (dk_at dksX8_odds_1 22 rfl rfl)
theorem dX8_odds_45 : decode cX8_odds 45 = .ok (.iconst 0, 1) := dk_3 (dk_at dksX8_odds_1 23 rfl rfl)
theorem dX8_odds_46 : decode cX8_odds 46 = .ok (.iconst 1, 1) := dk_4 (dk_at dksX8_odds_2 0 rfl rfl)
theorem dX8_odds_47 : decode cX8_odds 47 = .ok (.invokevirtual 7, 3) := dk_182 0 7 (dk_at dksX8_odds_2 1 rfl rfl)
theorem dX8_odds_50 : decode cX8_odds 50 = .ok (.ifCond .ne 7, 3) := dk_154 0 7 (dk_at dksX8_odds_2 4 rfl rfl)
theorem dX8_odds_53 : decode cX8_odds 53 = .ok (.ldc2_w 326, 3) := dk_20 1 70 (dk_at dksX8_odds_2 7 rfl rfl)
theorem dX8_odds_56 : decode cX8_odds 56 = .ok (.lreturn, 1) := dk_173 (dk_at dksX8_odds_2 10 rfl rfl)
theorem dX8_odds_57 : decode cX8_odds 57 = .ok (.lconst 0, 1) := dk_9 (dk_at dksX8_odds_2 11 rfl rfl)
theorem dX8_odds_58 : decode cX8_odds 58 = .ok (.lstore 5, 2) := dk_55 5 (dk_at dksX8_odds_2 12 rfl rfl)
theorem dX8_odds_60 : decode cX8_odds 60 = .ok (.iconst 0, 1) := dk_3 (dk_at dksX8_odds_2 14 rfl rfl)
theorem dX8_odds_61 : decode cX8_odds 61 = .ok (.istore 7, 2) := dk_54 7 (dk_at dksX8_odds_2 15 rfl rfl)
theorem dX8_odds_63 : decode cX8_odds 63 = .ok (.iload 7, 2) := dk_21 7 (dk_at dksX8_odds_2 17 rfl rfl)
theorem dX8_odds_65 : decode cX8_odds 65 = .ok (.aload_n 0, 1) := dk_42 (dk_at dksX8_odds_2 19 rfl rfl)
theorem dX8_odds_66 : decode cX8_odds 66 = .ok (.getfield 14, 3) := dk_180 0 14 (dk_at dksX8_odds_2 20 rfl rfl)
theorem dX8_odds_69 : decode cX8_odds 69 = .ok (.if_icmp .ge 21, 3) := dk_162 0 21 (dk_at dksX8_odds_3 0 rfl rfl)
theorem dX8_odds_72 : decode cX8_odds 72 = .ok (.lload 5, 2) := dk_22 5 (dk_at dksX8_odds_3 3 rfl rfl)
theorem dX8_odds_74 : decode cX8_odds 74 = .ok (.aload_n 0, 1) := dk_42 (dk_at dksX8_odds_3 5 rfl rfl)
theorem dX8_odds_75 : decode cX8_odds 75 = .ok (.iload 7, 2) := dk_21 7 (dk_at dksX8_odds_3 6 rfl rfl)
theorem dX8_odds_77 : decode cX8_odds 77 = .ok (.iload_n 2, 1) := dk_28 (dk_at dksX8_odds_3 8 rfl rfl)
theorem dX8_odds_78 : decode cX8_odds 78 = .ok (.invokevirtual 328, 3) := dk_182 1 72 (dk_at dksX8_odds_3 9 rfl rfl)
theorem dX8_odds_81 : decode cX8_odds 81 = .ok (.ladd, 1) := dk_97 (dk_at dksX8_odds_3 12 rfl rfl)
theorem dX8_odds_82 : decode cX8_odds 82 = .ok (.lstore 5, 2) := dk_55 5 (dk_at dksX8_odds_3 13 rfl rfl)
theorem dX8_odds_84 : decode cX8_odds 84 = .ok (.iinc 7 1, 3) := dk_132 7 1 (dk_at dksX8_odds_3 15 rfl rfl)
theorem dX8_odds_87 : decode cX8_odds 87 = .ok (.goto (-24), 3) := dk_167 255 232 (dk_at dksX8_odds_3 18 rfl rfl)
theorem dX8_odds_90 : decode cX8_odds 90 = .ok (.aload_n 0, 1) := dk_42 (dk_at dksX8_odds_3 21 rfl rfl)
theorem dX8_odds_91 : decode cX8_odds 91 = .ok (.iload_n 1, 1) := dk_27 (dk_at dksX8_odds_3 22 rfl rfl)
theorem dX8_odds_92 : decode cX8_odds 92 = .ok (.iload_n 2, 1) := dk_28 (dk_at dksX8_odds_3 23 rfl rfl)
theorem dX8_odds_93 : decode cX8_odds 93 = .ok (.invokevirtual 328, 3) := dk_182 1 72 (dk_at dksX8_odds_4 0 rfl rfl)
theorem dX8_odds_96 : decode cX8_odds 96 = .ok (.lstore 7, 2) := dk_55 7 (dk_at dksX8_odds_4 3 rfl rfl)
theorem dX8_odds_98 : decode cX8_odds 98 = .ok (.aload_n 0, 1) := dk_42 (dk_at dksX8_odds_4 5 rfl rfl)
theorem dX8_odds_99 : decode cX8_odds 99 = .ok (.lload 7, 2) := dk_22 7 (dk_at dksX8_odds_4 6 rfl rfl)
theorem dX8_odds_101 : decode cX8_odds 101 = .ok (.lload 5, 2) := dk_22 5 (dk_at dksX8_odds_4 8 rfl rfl)
theorem dX8_odds_103 : decode cX8_odds 103 = .ok (.invokevirtual 332, 3) := dk_182 1 76 (dk_at dksX8_odds_4 10 rfl rfl)
theorem dX8_odds_106 : decode cX8_odds 106 = .ok (.lstore 9, 2) := dk_55 9 (dk_at dksX8_odds_4 13 rfl rfl)
theorem dX8_odds_108 : decode cX8_odds 108 = .ok (.iload_n 3, 1) := dk_29 (dk_at dksX8_odds_4 15 rfl rfl)
theorem dX8_odds_109 : decode cX8_odds 109 = .ok (.ifCond .ne 11, 3) := dk_154 0 11 (dk_at dksX8_odds_4 16 rfl rfl)
theorem dX8_odds_112 : decode cX8_odds 112 = .ok (.lload 7, 2) := dk_22 7 (dk_at dksX8_odds_4 19 rfl rfl)
theorem dX8_odds_114 : decode cX8_odds 114 = .ok (.lload 9, 2) := dk_22 9 (dk_at dksX8_odds_4 21 rfl rfl)
theorem dX8_odds_116 : decode cX8_odds 116 = .ok (.ldiv, 1) := dk_109 (dk_at dksX8_odds_4 23 rfl rfl)
theorem dX8_odds_117 : decode cX8_odds 117 = .ok (.goto 8, 3) := dk_167 0 8 (dk_at dksX8_odds_5 0 rfl rfl)
theorem dX8_odds_120 : decode cX8_odds 120 = .ok (.lload 5, 2) := dk_22 5 (dk_at dksX8_odds_5 3 rfl rfl)
theorem dX8_odds_122 : decode cX8_odds 122 = .ok (.lload 9, 2) := dk_22 9 (dk_at dksX8_odds_5 5 rfl rfl)
theorem dX8_odds_124 : decode cX8_odds 124 = .ok (.ldiv, 1) := dk_109 (dk_at dksX8_odds_5 7 rfl rfl)
theorem dX8_odds_125 : decode cX8_odds 125 = .ok (.lreturn, 1) := dk_173 (dk_at dksX8_odds_5 8 rfl rfl)
abbrev cX8_product : ByteArray := prog_16_method_61_code
def yX8_product : MethodName := ⟨RX8, "product", "(II)J"⟩
def dkwX8_product_2 : List UInt8 := [10, 105, 66, 132, 5, 1, 167, 255, 213, 33, 173]
abbrev dktX8_product_2 : List UInt8 := dkwX8_product_2 ++ []
def dkwX8_product_1 : List UInt8 := [162, 0, 33, 33, 28, 21, 5, 122, 4, 126, 4, 160, 0, 13, 42, 21, 5, 182, 1, 67, 133, 167, 0, 4]
abbrev dktX8_product_1 : List UInt8 := dkwX8_product_1 ++ dktX8_product_2
def dkwX8_product_0 : List UInt8 := [42, 27, 182, 1, 64, 10, 66, 3, 54, 5, 21, 5, 42, 180, 0, 123, 162, 0, 40, 21, 5, 16, 16]
abbrev dktX8_product_0 : List UInt8 := dkwX8_product_0 ++ dktX8_product_1
theorem dksX8_product_0 : cX8_product.data.toList.drop 0 = dktX8_product_0 := by decide +kernel
theorem dksX8_product_1 : cX8_product.data.toList.drop 23 = dktX8_product_1 := dk_seg dksX8_product_0 23 rfl rfl
theorem dksX8_product_2 : cX8_product.data.toList.drop 47 = dktX8_product_2 := dk_seg dksX8_product_1 24 rfl rfl
theorem dX8_product_0 : decode cX8_product 0 = .ok (.aload_n 0, 1) := dk_42 (dk_at dksX8_product_0 0 rfl rfl)
theorem dX8_product_1 : decode cX8_product 1 = .ok (.iload_n 1, 1) := dk_27 (dk_at dksX8_product_0 1 rfl rfl)
theorem dX8_product_2 : decode cX8_product 2 = .ok (.invokevirtual 320, 3) := dk_182 1 64 (dk_at dksX8_product_0 2 rfl rfl)
theorem dX8_product_5 : decode cX8_product 5 = .ok (.lconst 1, 1) := dk_10 (dk_at dksX8_product_0 5 rfl rfl)
theorem dX8_product_6 : decode cX8_product 6 = .ok (.lstore_n 3, 1) := dk_66 (dk_at dksX8_product_0 6 rfl rfl)
theorem dX8_product_7 : decode cX8_product 7 = .ok (.iconst 0, 1) := dk_3 (dk_at dksX8_product_0 7 rfl rfl)
theorem dX8_product_8 : decode cX8_product 8 = .ok (.istore 5, 2) := dk_54 5 (dk_at dksX8_product_0 8 rfl rfl)
theorem dX8_product_10 : decode cX8_product 10 = .ok (.iload 5, 2) := dk_21 5 (dk_at dksX8_product_0 10 rfl rfl)
theorem dX8_product_12 : decode cX8_product 12 = .ok (.aload_n 0, 1) := dk_42 (dk_at dksX8_product_0 12 rfl rfl)
theorem dX8_product_13 : decode cX8_product 13 = .ok (.getfield 123, 3) := dk_180 0 123 (dk_at dksX8_product_0 13 rfl rfl)
theorem dX8_product_16 : decode cX8_product 16 = .ok (.if_icmp .ge 40, 3) := dk_162 0 40 (dk_at dksX8_product_0 16 rfl rfl)
theorem dX8_product_19 : decode cX8_product 19 = .ok (.iload 5, 2) := dk_21 5 (dk_at dksX8_product_0 19 rfl rfl)
theorem dX8_product_21 : decode cX8_product 21 = .ok (.bipush 16, 2) := dk_16 16 (dk_at dksX8_product_0 21 rfl rfl)
theorem dX8_product_23 : decode cX8_product 23 = .ok (.if_icmp .ge 33, 3) := dk_162 0 33 (dk_at dksX8_product_1 0 rfl rfl)
theorem dX8_product_26 : decode cX8_product 26 = .ok (.lload_n 3, 1) := dk_33 (dk_at dksX8_product_1 3 rfl rfl)
theorem dX8_product_27 : decode cX8_product 27 = .ok (.iload_n 2, 1) := dk_28 (dk_at dksX8_product_1 4 rfl rfl)
theorem dX8_product_28 : decode cX8_product 28 = .ok (.iload 5, 2) := dk_21 5 (dk_at dksX8_product_1 5 rfl rfl)
theorem dX8_product_30 : decode cX8_product 30 = .ok (.ishr, 1) := dk_122 (dk_at dksX8_product_1 7 rfl rfl)
theorem dX8_product_31 : decode cX8_product 31 = .ok (.iconst 1, 1) := dk_4 (dk_at dksX8_product_1 8 rfl rfl)
theorem dX8_product_32 : decode cX8_product 32 = .ok (.iand, 1) := dk_126 (dk_at dksX8_product_1 9 rfl rfl)
theorem dX8_product_33 : decode cX8_product 33 = .ok (.iconst 1, 1) := dk_4 (dk_at dksX8_product_1 10 rfl rfl)
theorem dX8_product_34 : decode cX8_product 34 = .ok (.if_icmp .ne 13, 3) := dk_160 0 13 (dk_at dksX8_product_1 11 rfl rfl)
theorem dX8_product_37 : decode cX8_product 37 = .ok (.aload_n 0, 1) := dk_42 (dk_at dksX8_product_1 14 rfl rfl)
theorem dX8_product_38 : decode cX8_product 38 = .ok (.iload 5, 2) := dk_21 5 (dk_at dksX8_product_1 15 rfl rfl)
theorem dX8_product_40 : decode cX8_product 40 = .ok (.invokevirtual 323, 3) := dk_182 1 67 (dk_at dksX8_product_1 17 rfl rfl)
theorem dX8_product_43 : decode cX8_product 43 = .ok (.i2l, 1) := dk_133 (dk_at dksX8_product_1 20 rfl rfl)
theorem dX8_product_44 : decode cX8_product 44 = .ok (.goto 4, 3) := dk_167 0 4 (dk_at dksX8_product_1 21 rfl rfl)
theorem dX8_product_47 : decode cX8_product 47 = .ok (.lconst 1, 1) := dk_10 (dk_at dksX8_product_2 0 rfl rfl)
theorem dX8_product_48 : decode cX8_product 48 = .ok (.lmul, 1) := dk_105 (dk_at dksX8_product_2 1 rfl rfl)
theorem dX8_product_49 : decode cX8_product 49 = .ok (.lstore_n 3, 1) := dk_66 (dk_at dksX8_product_2 2 rfl rfl)
theorem dX8_product_50 : decode cX8_product 50 = .ok (.iinc 5 1, 3) := dk_132 5 1 (dk_at dksX8_product_2 3 rfl rfl)
theorem dX8_product_53 : decode cX8_product 53 = .ok (.goto (-43), 3) := dk_167 255 213 (dk_at dksX8_product_2 6 rfl rfl)
theorem dX8_product_56 : decode cX8_product 56 = .ok (.lload_n 3, 1) := dk_33 (dk_at dksX8_product_2 9 rfl rfl)
theorem dX8_product_57 : decode cX8_product 57 = .ok (.lreturn, 1) := dk_173 (dk_at dksX8_product_2 10 rfl rfl)
abbrev cX8_divisor : ByteArray := prog_16_method_62_code
def yX8_divisor : MethodName := ⟨RX8, "divisor", "(JJ)J"⟩
def dkwX8_divisor_1 : List UInt8 := [22, 9, 55, 7, 167, 255, 234, 22, 5, 173]
abbrev dktX8_divisor_1 : List UInt8 := dkwX8_divisor_1 ++ []
def dkwX8_divisor_0 : List UInt8 := [31, 55, 5, 33, 55, 7, 22, 7, 9, 148, 153, 0, 21, 22, 5, 22, 7, 113, 55, 9, 22, 7, 55, 5]
abbrev dktX8_divisor_0 : List UInt8 := dkwX8_divisor_0 ++ dktX8_divisor_1
theorem dksX8_divisor_0 : cX8_divisor.data.toList.drop 0 = dktX8_divisor_0 := by decide +kernel
theorem dksX8_divisor_1 : cX8_divisor.data.toList.drop 24 = dktX8_divisor_1 := dk_seg dksX8_divisor_0 24 rfl rfl
theorem dX8_divisor_0 : decode cX8_divisor 0 = .ok (.lload_n 1, 1) := dk_31 (dk_at dksX8_divisor_0 0 rfl rfl)
theorem dX8_divisor_1 : decode cX8_divisor 1 = .ok (.lstore 5, 2) := dk_55 5 (dk_at dksX8_divisor_0 1 rfl rfl)
theorem dX8_divisor_3 : decode cX8_divisor 3 = .ok (.lload_n 3, 1) := dk_33 (dk_at dksX8_divisor_0 3 rfl rfl)
theorem dX8_divisor_4 : decode cX8_divisor 4 = .ok (.lstore 7, 2) := dk_55 7 (dk_at dksX8_divisor_0 4 rfl rfl)
theorem dX8_divisor_6 : decode cX8_divisor 6 = .ok (.lload 7, 2) := dk_22 7 (dk_at dksX8_divisor_0 6 rfl rfl)
theorem dX8_divisor_8 : decode cX8_divisor 8 = .ok (.lconst 0, 1) := dk_9 (dk_at dksX8_divisor_0 8 rfl rfl)
theorem dX8_divisor_9 : decode cX8_divisor 9 = .ok (.lcmp, 1) := dk_148 (dk_at dksX8_divisor_0 9 rfl rfl)
theorem dX8_divisor_10 : decode cX8_divisor 10 = .ok (.ifCond .eq 21, 3) := dk_153 0 21 (dk_at dksX8_divisor_0 10 rfl rfl)
theorem dX8_divisor_13 : decode cX8_divisor 13 = .ok (.lload 5, 2) := dk_22 5 (dk_at dksX8_divisor_0 13 rfl rfl)
theorem dX8_divisor_15 : decode cX8_divisor 15 = .ok (.lload 7, 2) := dk_22 7 (dk_at dksX8_divisor_0 15 rfl rfl)
theorem dX8_divisor_17 : decode cX8_divisor 17 = .ok (.lrem, 1) := dk_113 (dk_at dksX8_divisor_0 17 rfl rfl)
theorem dX8_divisor_18 : decode cX8_divisor 18 = .ok (.lstore 9, 2) := dk_55 9 (dk_at dksX8_divisor_0 18 rfl rfl)
theorem dX8_divisor_20 : decode cX8_divisor 20 = .ok (.lload 7, 2) := dk_22 7 (dk_at dksX8_divisor_0 20 rfl rfl)
theorem dX8_divisor_22 : decode cX8_divisor 22 = .ok (.lstore 5, 2) := dk_55 5 (dk_at dksX8_divisor_0 22 rfl rfl)
theorem dX8_divisor_24 : decode cX8_divisor 24 = .ok (.lload 9, 2) := dk_22 9 (dk_at dksX8_divisor_1 0 rfl rfl)
theorem dX8_divisor_26 : decode cX8_divisor 26 = .ok (.lstore 7, 2) := dk_55 7 (dk_at dksX8_divisor_1 2 rfl rfl)
theorem dX8_divisor_28 : decode cX8_divisor 28 = .ok (.goto (-22), 3) := dk_167 255 234 (dk_at dksX8_divisor_1 4 rfl rfl)
theorem dX8_divisor_31 : decode cX8_divisor 31 = .ok (.lload 5, 2) := dk_22 5 (dk_at dksX8_divisor_1 7 rfl rfl)
theorem dX8_divisor_33 : decode cX8_divisor 33 = .ok (.lreturn, 1) := dk_173 (dk_at dksX8_divisor_1 9 rfl rfl)
abbrev cX8_peg : ByteArray := prog_16_method_64_code
def yX8_peg : MethodName := ⟨RX8, "peg", "(I)I"⟩
def dkwX8_peg_2 : List UInt8 := [180, 0, 138, 172]
abbrev dktX8_peg_2 : List UInt8 := dkwX8_peg_2 ++ []
def dkwX8_peg_1 : List UInt8 := [16, 252, 172, 42, 180, 0, 141, 42, 180, 0, 138, 27, 79, 42, 89, 180, 0, 138, 4, 96, 181, 0, 138, 42]
abbrev dktX8_peg_1 : List UInt8 := dkwX8_peg_1 ++ dktX8_peg_2
def dkwX8_peg_0 : List UInt8 := [42, 27, 3, 17, 15, 255, 182, 0, 7, 154, 0, 6, 16, 254, 172, 42, 180, 0, 138, 16, 8, 160, 0, 6]
abbrev dktX8_peg_0 : List UInt8 := dkwX8_peg_0 ++ dktX8_peg_1
theorem dksX8_peg_0 : cX8_peg.data.toList.drop 0 = dktX8_peg_0 := by decide +kernel
theorem dksX8_peg_1 : cX8_peg.data.toList.drop 24 = dktX8_peg_1 := dk_seg dksX8_peg_0 24 rfl rfl
theorem dksX8_peg_2 : cX8_peg.data.toList.drop 48 = dktX8_peg_2 := dk_seg dksX8_peg_1 24 rfl rfl
theorem dX8_peg_0 : decode cX8_peg 0 = .ok (.aload_n 0, 1) := dk_42 (dk_at dksX8_peg_0 0 rfl rfl)
theorem dX8_peg_1 : decode cX8_peg 1 = .ok (.iload_n 1, 1) := dk_27 (dk_at dksX8_peg_0 1 rfl rfl)
theorem dX8_peg_2 : decode cX8_peg 2 = .ok (.iconst 0, 1) := dk_3 (dk_at dksX8_peg_0 2 rfl rfl)
theorem dX8_peg_3 : decode cX8_peg 3 = .ok (.sipush 4095, 3) := dk_17 15 255 (dk_at dksX8_peg_0 3 rfl rfl)
theorem dX8_peg_6 : decode cX8_peg 6 = .ok (.invokevirtual 7, 3) := dk_182 0 7 (dk_at dksX8_peg_0 6 rfl rfl)
theorem dX8_peg_9 : decode cX8_peg 9 = .ok (.ifCond .ne 6, 3) := dk_154 0 6 (dk_at dksX8_peg_0 9 rfl rfl)
theorem dX8_peg_12 : decode cX8_peg 12 = .ok (.bipush (-2), 2) := dk_16 254 (dk_at dksX8_peg_0 12 rfl rfl)
theorem dX8_peg_14 : decode cX8_peg 14 = .ok (.ireturn, 1) := dk_172 (dk_at dksX8_peg_0 14 rfl rfl)
theorem dX8_peg_15 : decode cX8_peg 15 = .ok (.aload_n 0, 1) := dk_42 (dk_at dksX8_peg_0 15 rfl rfl)
theorem dX8_peg_16 : decode cX8_peg 16 = .ok (.getfield 138, 3) := dk_180 0 138 (dk_at dksX8_peg_0 16 rfl rfl)
theorem dX8_peg_19 : decode cX8_peg 19 = .ok (.bipush 8, 2) := dk_16 8 (dk_at dksX8_peg_0 19 rfl rfl)
theorem dX8_peg_21 : decode cX8_peg 21 = .ok (.if_icmp .ne 6, 3) := dk_160 0 6 (dk_at dksX8_peg_0 21 rfl rfl)
theorem dX8_peg_24 : decode cX8_peg 24 = .ok (.bipush (-4), 2) := dk_16 252 (dk_at dksX8_peg_1 0 rfl rfl)
theorem dX8_peg_26 : decode cX8_peg 26 = .ok (.ireturn, 1) := dk_172 (dk_at dksX8_peg_1 2 rfl rfl)
theorem dX8_peg_27 : decode cX8_peg 27 = .ok (.aload_n 0, 1) := dk_42 (dk_at dksX8_peg_1 3 rfl rfl)
theorem dX8_peg_28 : decode cX8_peg 28 = .ok (.getfield 141, 3) := dk_180 0 141 (dk_at dksX8_peg_1 4 rfl rfl)
theorem dX8_peg_31 : decode cX8_peg 31 = .ok (.aload_n 0, 1) := dk_42 (dk_at dksX8_peg_1 7 rfl rfl)
theorem dX8_peg_32 : decode cX8_peg 32 = .ok (.getfield 138, 3) := dk_180 0 138 (dk_at dksX8_peg_1 8 rfl rfl)
theorem dX8_peg_35 : decode cX8_peg 35 = .ok (.iload_n 1, 1) := dk_27 (dk_at dksX8_peg_1 11 rfl rfl)
theorem dX8_peg_36 : decode cX8_peg 36 = .ok (.iastore, 1) := dk_79 (dk_at dksX8_peg_1 12 rfl rfl)
theorem dX8_peg_37 : decode cX8_peg 37 = .ok (.aload_n 0, 1) := dk_42 (dk_at dksX8_peg_1 13 rfl rfl)
theorem dX8_peg_38 : decode cX8_peg 38 = .ok (.dup, 1) := dk_89 (dk_at dksX8_peg_1 14 rfl rfl)
theorem dX8_peg_39 : decode cX8_peg 39 = .ok (.getfield 138, 3) := dk_180 0 138 (dk_at dksX8_peg_1 15 rfl rfl)
theorem dX8_peg_42 : decode cX8_peg 42 = .ok (.iconst 1, 1) := dk_4 (dk_at dksX8_peg_1 18 rfl rfl)
theorem dX8_peg_43 : decode cX8_peg 43 = .ok (.iadd, 1) := dk_96 (dk_at dksX8_peg_1 19 rfl rfl)
theorem dX8_peg_44 : decode cX8_peg 44 = .ok (.putfield 138, 3) := dk_181 0 138 (dk_at dksX8_peg_1 20 rfl rfl)
theorem dX8_peg_47 : decode cX8_peg 47 = .ok (.aload_n 0, 1) := dk_42 (dk_at dksX8_peg_1 23 rfl rfl)
theorem dX8_peg_48 : decode cX8_peg 48 = .ok (.getfield 138, 3) := dk_180 0 138 (dk_at dksX8_peg_2 0 rfl rfl)
theorem dX8_peg_51 : decode cX8_peg 51 = .ok (.ireturn, 1) := dk_172 (dk_at dksX8_peg_2 3 rfl rfl)
abbrev cX8_holds : ByteArray := prog_16_method_66_code
def yX8_holds : MethodName := ⟨RX8, "holds", "(II)I"⟩
def dkwX8_holds_1 : List UInt8 := [28, 182, 1, 80, 153, 0, 7, 4, 167, 0, 4, 3, 172]
abbrev dktX8_holds_1 : List UInt8 := dkwX8_holds_1 ++ []
def dkwX8_holds_0 : List UInt8 := [42, 27, 182, 0, 51, 153, 0, 14, 42, 28, 3, 16, 63, 182, 0, 7, 154, 0, 6, 16, 254, 172, 42, 27]
abbrev dktX8_holds_0 : List UInt8 := dkwX8_holds_0 ++ dktX8_holds_1
theorem dksX8_holds_0 : cX8_holds.data.toList.drop 0 = dktX8_holds_0 := by decide +kernel
theorem dksX8_holds_1 : cX8_holds.data.toList.drop 24 = dktX8_holds_1 := dk_seg dksX8_holds_0 24 rfl rfl
theorem dX8_holds_0 : decode cX8_holds 0 = .ok (.aload_n 0, 1) := dk_42 (dk_at dksX8_holds_0 0 rfl rfl)
theorem dX8_holds_1 : decode cX8_holds 1 = .ok (.iload_n 1, 1) := dk_27 (dk_at dksX8_holds_0 1 rfl rfl)
theorem dX8_holds_2 : decode cX8_holds 2 = .ok (.invokevirtual 51, 3) := dk_182 0 51 (dk_at dksX8_holds_0 2 rfl rfl)
theorem dX8_holds_5 : decode cX8_holds 5 = .ok (.ifCond .eq 14, 3) := dk_153 0 14 (dk_at dksX8_holds_0 5 rfl rfl)
theorem dX8_holds_8 : decode cX8_holds 8 = .ok (.aload_n 0, 1) := dk_42 (dk_at dksX8_holds_0 8 rfl rfl)
theorem dX8_holds_9 : decode cX8_holds 9 = .ok (.iload_n 2, 1) := dk_28 (dk_at dksX8_holds_0 9 rfl rfl)
theorem dX8_holds_10 : decode cX8_holds 10 = .ok (.iconst 0, 1) := dk_3 (dk_at dksX8_holds_0 10 rfl rfl)
theorem dX8_holds_11 : decode cX8_holds 11 = .ok (.bipush 63, 2) := dk_16 63 (dk_at dksX8_holds_0 11 rfl rfl)
theorem dX8_holds_13 : decode cX8_holds 13 = .ok (.invokevirtual 7, 3) := dk_182 0 7 (dk_at dksX8_holds_0 13 rfl rfl)
theorem dX8_holds_16 : decode cX8_holds 16 = .ok (.ifCond .ne 6, 3) := dk_154 0 6 (dk_at dksX8_holds_0 16 rfl rfl)
theorem dX8_holds_19 : decode cX8_holds 19 = .ok (.bipush (-2), 2) := dk_16 254 (dk_at dksX8_holds_0 19 rfl rfl)
theorem dX8_holds_21 : decode cX8_holds 21 = .ok (.ireturn, 1) := dk_172 (dk_at dksX8_holds_0 21 rfl rfl)
theorem dX8_holds_22 : decode cX8_holds 22 = .ok (.aload_n 0, 1) := dk_42 (dk_at dksX8_holds_0 22 rfl rfl)
theorem dX8_holds_23 : decode cX8_holds 23 = .ok (.iload_n 1, 1) := dk_27 (dk_at dksX8_holds_0 23 rfl rfl)
theorem dX8_holds_24 : decode cX8_holds 24 = .ok (.iload_n 2, 1) := dk_28 (dk_at dksX8_holds_1 0 rfl rfl)
theorem dX8_holds_25 : decode cX8_holds 25 = .ok (.invokevirtual 336, 3) := dk_182 1 80 (dk_at dksX8_holds_1 1 rfl rfl)
theorem dX8_holds_28 : decode cX8_holds 28 = .ok (.ifCond .eq 7, 3) := dk_153 0 7 (dk_at dksX8_holds_1 4 rfl rfl)
theorem dX8_holds_31 : decode cX8_holds 31 = .ok (.iconst 1, 1) := dk_4 (dk_at dksX8_holds_1 7 rfl rfl)
theorem dX8_holds_32 : decode cX8_holds 32 = .ok (.goto 4, 3) := dk_167 0 4 (dk_at dksX8_holds_1 8 rfl rfl)
theorem dX8_holds_35 : decode cX8_holds 35 = .ok (.iconst 0, 1) := dk_3 (dk_at dksX8_holds_1 11 rfl rfl)
theorem dX8_holds_36 : decode cX8_holds 36 = .ok (.ireturn, 1) := dk_172 (dk_at dksX8_holds_1 12 rfl rfl)
abbrev cX8_isHeld : ByteArray := prog_16_method_65_code
def yX8_isHeld : MethodName := ⟨RX8, "isHeld", "(II)Z"⟩
def dkwX8_isHeld_8 : List UInt8 := [167, 0, 4, 3, 172]
abbrev dktX8_isHeld_8 : List UInt8 := dkwX8_isHeld_8 ++ []
def dkwX8_isHeld_7 : List UInt8 := [167, 255, 108, 29, 153, 0, 22, 21, 4, 153, 0, 17, 21, 5, 153, 0, 12, 21, 6, 153, 0, 7, 4]
abbrev dktX8_isHeld_7 : List UInt8 := dkwX8_isHeld_7 ++ dktX8_isHeld_8
def dkwX8_isHeld_6 : List UInt8 := [154, 0, 14, 42, 21, 9, 4, 28, 182, 0, 7, 153, 0, 7, 4, 167, 0, 4, 3, 54, 6, 132, 7, 1]
abbrev dktX8_isHeld_6 : List UInt8 := dkwX8_isHeld_6 ++ dktX8_isHeld_7
def dkwX8_isHeld_5 : List UInt8 := [154, 0, 15, 42, 21, 9, 116, 4, 28, 182, 0, 7, 153, 0, 7, 4, 167, 0, 4, 3, 54, 5, 21, 6]
abbrev dktX8_isHeld_5 : List UInt8 := dkwX8_isHeld_5 ++ dktX8_isHeld_6
def dkwX8_isHeld_4 : List UInt8 := [154, 0, 14, 42, 21, 8, 4, 28, 182, 0, 7, 153, 0, 7, 4, 167, 0, 4, 3, 54, 4, 21, 5]
abbrev dktX8_isHeld_4 : List UInt8 := dkwX8_isHeld_4 ++ dktX8_isHeld_5
def dkwX8_isHeld_3 : List UInt8 := [154, 0, 15, 42, 21, 8, 116, 4, 28, 182, 0, 7, 153, 0, 7, 4, 167, 0, 4, 3, 62, 21, 4]
abbrev dktX8_isHeld_3 : List UInt8 := dkwX8_isHeld_3 ++ dktX8_isHeld_4
def dkwX8_isHeld_2 : List UInt8 := [180, 0, 141, 21, 7, 46, 16, 64, 108, 42, 180, 0, 17, 27, 46, 16, 64, 108, 100, 54, 9, 29]
abbrev dktX8_isHeld_2 : List UInt8 := dkwX8_isHeld_2 ++ dktX8_isHeld_3
def dkwX8_isHeld_1 : List UInt8 := [180, 0, 141, 21, 7, 46, 16, 64, 112, 42, 180, 0, 17, 27, 46, 16, 64, 112, 100, 54, 8, 42]
abbrev dktX8_isHeld_1 : List UInt8 := dkwX8_isHeld_1 ++ dktX8_isHeld_2
def dkwX8_isHeld_0 : List UInt8 := [3, 62, 3, 54, 4, 3, 54, 5, 3, 54, 6, 3, 54, 7, 21, 7, 42, 180, 0, 138, 162, 0, 145, 42]
abbrev dktX8_isHeld_0 : List UInt8 := dkwX8_isHeld_0 ++ dktX8_isHeld_1
theorem dksX8_isHeld_0 : cX8_isHeld.data.toList.drop 0 = dktX8_isHeld_0 := by decide +kernel
theorem dksX8_isHeld_1 : cX8_isHeld.data.toList.drop 24 = dktX8_isHeld_1 := dk_seg dksX8_isHeld_0 24 rfl rfl
theorem dksX8_isHeld_2 : cX8_isHeld.data.toList.drop 46 = dktX8_isHeld_2 := dk_seg dksX8_isHeld_1 22 rfl rfl
theorem dksX8_isHeld_3 : cX8_isHeld.data.toList.drop 68 = dktX8_isHeld_3 := dk_seg dksX8_isHeld_2 22 rfl rfl
theorem dksX8_isHeld_4 : cX8_isHeld.data.toList.drop 91 = dktX8_isHeld_4 := dk_seg dksX8_isHeld_3 23 rfl rfl
theorem dksX8_isHeld_5 : cX8_isHeld.data.toList.drop 114 = dktX8_isHeld_5 := dk_seg dksX8_isHeld_4 23 rfl rfl
theorem dksX8_isHeld_6 : cX8_isHeld.data.toList.drop 138 = dktX8_isHeld_6 := dk_seg dksX8_isHeld_5 24 rfl rfl
theorem dksX8_isHeld_7 : cX8_isHeld.data.toList.drop 162 = dktX8_isHeld_7 := dk_seg dksX8_isHeld_6 24 rfl rfl
theorem dksX8_isHeld_8 : cX8_isHeld.data.toList.drop 185 = dktX8_isHeld_8 := dk_seg dksX8_isHeld_7 23 rfl rfl
theorem dX8_isHeld_0 : decode cX8_isHeld 0 = .ok (.iconst 0, 1) := dk_3 (dk_at dksX8_isHeld_0 0 rfl rfl)
theorem dX8_isHeld_1 : decode cX8_isHeld 1 = .ok (.istore_n 3, 1) := dk_62 (dk_at dksX8_isHeld_0 1 rfl rfl)
theorem dX8_isHeld_2 : decode cX8_isHeld 2 = .ok (.iconst 0, 1) := dk_3 (dk_at dksX8_isHeld_0 2 rfl rfl)
theorem dX8_isHeld_3 : decode cX8_isHeld 3 = .ok (.istore 4, 2) := dk_54 4 (dk_at dksX8_isHeld_0 3 rfl rfl)
theorem dX8_isHeld_5 : decode cX8_isHeld 5 = .ok (.iconst 0, 1) := dk_3 (dk_at dksX8_isHeld_0 5 rfl rfl)
theorem dX8_isHeld_6 : decode cX8_isHeld 6 = .ok (.istore 5, 2) := dk_54 5 (dk_at dksX8_isHeld_0 6 rfl rfl)
theorem dX8_isHeld_8 : decode cX8_isHeld 8 = .ok (.iconst 0, 1) := dk_3 (dk_at dksX8_isHeld_0 8 rfl rfl)
theorem dX8_isHeld_9 : decode cX8_isHeld 9 = .ok (.istore 6, 2) := dk_54 6 (dk_at dksX8_isHeld_0 9 rfl rfl)
theorem dX8_isHeld_11 : decode cX8_isHeld 11 = .ok (.iconst 0, 1) := dk_3 (dk_at dksX8_isHeld_0 11 rfl rfl)
theorem dX8_isHeld_12 : decode cX8_isHeld 12 = .ok (.istore 7, 2) := dk_54 7 (dk_at dksX8_isHeld_0 12 rfl rfl)
theorem dX8_isHeld_14 : decode cX8_isHeld 14 = .ok (.iload 7, 2) := dk_21 7 (dk_at dksX8_isHeld_0 14 rfl rfl)
theorem dX8_isHeld_16 : decode cX8_isHeld 16 = .ok (.aload_n 0, 1) := dk_42 (dk_at dksX8_isHeld_0 16 rfl rfl)
theorem dX8_isHeld_17 : decode cX8_isHeld 17 = .ok (.getfield 138, 3) := dk_180 0 138 (dk_at dksX8_isHeld_0 17 rfl rfl)
theorem dX8_isHeld_20 : decode cX8_isHeld 20 = .ok (.if_icmp .ge 145, 3) := dk_162 0 145 (dk_at dksX8_isHeld_0 20 rfl rfl)
theorem dX8_isHeld_23 : decode cX8_isHeld 23 = .ok (.aload_n 0, 1) := dk_42 (dk_at dksX8_isHeld_0 23 rfl rfl)
theorem dX8_isHeld_24 : decode cX8_isHeld 24 = .ok (.getfield 141, 3) := dk_180 0 141 (dk_at dksX8_isHeld_1 0 rfl rfl)
theorem dX8_isHeld_27 : decode cX8_isHeld 27 = .ok (.iload 7, 2) := dk_21 7 (dk_at dksX8_isHeld_1 3 rfl rfl)
theorem dX8_isHeld_29 : decode cX8_isHeld 29 = .ok (.iaload, 1) := dk_46 (dk_at dksX8_isHeld_1 5 rfl rfl)
theorem dX8_isHeld_30 : decode cX8_isHeld 30 = .ok (.bipush 64, 2) := dk_16 64 (dk_at dksX8_isHeld_1 6 rfl rfl)
theorem dX8_isHeld_32 : decode cX8_isHeld 32 = .ok (.irem, 1) := dk_112 (dk_at dksX8_isHeld_1 8 rfl rfl)
theorem dX8_isHeld_33 : decode cX8_isHeld 33 = .ok (.aload_n 0, 1) := dk_42 (dk_at dksX8_isHeld_1 9 rfl rfl)
theorem dX8_isHeld_34 : decode cX8_isHeld 34 = .ok (.getfield 17, 3) := dk_180 0 17 (dk_at dksX8_isHeld_1 10 rfl rfl)
theorem dX8_isHeld_37 : decode cX8_isHeld 37 = .ok (.iload_n 1, 1) := dk_27 (dk_at dksX8_isHeld_1 13 rfl rfl)
theorem dX8_isHeld_38 : decode cX8_isHeld 38 = .ok (.iaload, 1) := dk_46 (dk_at dksX8_isHeld_1 14 rfl rfl)
theorem dX8_isHeld_39 : decode cX8_isHeld 39 = .ok (.bipush 64, 2) := dk_16 64 (dk_at dksX8_isHeld_1 15 rfl rfl)
theorem dX8_isHeld_41 : decode cX8_isHeld 41 = .ok (.irem, 1) := dk_112 (dk_at dksX8_isHeld_1 17 rfl rfl)
theorem dX8_isHeld_42 : decode cX8_isHeld 42 = .ok (.isub, 1) := dk_100 (dk_at dksX8_isHeld_1 18 rfl rfl)
theorem dX8_isHeld_43 : decode cX8_isHeld 43 = .ok (.istore 8, 2) := dk_54 8 (dk_at dksX8_isHeld_1 19 rfl rfl)
theorem dX8_isHeld_45 : decode cX8_isHeld 45 = .ok (.aload_n 0, 1) := dk_42 (dk_at dksX8_isHeld_1 21 rfl rfl)
theorem dX8_isHeld_46 : decode cX8_isHeld 46 = .ok (.getfield 141, 3) := dk_180 0 141 (dk_at dksX8_isHeld_2 0 rfl rfl)
theorem dX8_isHeld_49 : decode cX8_isHeld 49 = .ok (.iload 7, 2) := dk_21 7 (dk_at dksX8_isHeld_2 3 rfl rfl)
theorem dX8_isHeld_51 : decode cX8_isHeld 51 = .ok (.iaload, 1) := dk_46 (dk_at dksX8_isHeld_2 5 rfl rfl)
theorem dX8_isHeld_52 : decode cX8_isHeld 52 = .ok (.bipush 64, 2) := dk_16 64 (dk_at dksX8_isHeld_2 6 rfl rfl)
theorem dX8_isHeld_54 : decode cX8_isHeld 54 = .ok (.idiv, 1) := dk_108 (dk_at dksX8_isHeld_2 8 rfl rfl)
theorem dX8_isHeld_55 : decode cX8_isHeld 55 = .ok (.aload_n 0, 1) := dk_42 (dk_at dksX8_isHeld_2 9 rfl rfl)
theorem dX8_isHeld_56 : decode cX8_isHeld 56 = .ok (.getfield 17, 3) := dk_180 0 17 (dk_at dksX8_isHeld_2 10 rfl rfl)
theorem dX8_isHeld_59 : decode cX8_isHeld 59 = .ok (.iload_n 1, 1) := dk_27 (dk_at dksX8_isHeld_2 13 rfl rfl)
theorem dX8_isHeld_60 : decode cX8_isHeld 60 = .ok (.iaload, 1) := dk_46 (dk_at dksX8_isHeld_2 14 rfl rfl)
theorem dX8_isHeld_61 : decode cX8_isHeld 61 = .ok (.bipush 64, 2) := dk_16 64 (dk_at dksX8_isHeld_2 15 rfl rfl)
theorem dX8_isHeld_63 : decode cX8_isHeld 63 = .ok (.idiv, 1) := dk_108 (dk_at dksX8_isHeld_2 17 rfl rfl)
theorem dX8_isHeld_64 : decode cX8_isHeld 64 = .ok (.isub, 1) := dk_100 (dk_at dksX8_isHeld_2 18 rfl rfl)
theorem dX8_isHeld_65 : decode cX8_isHeld 65 = .ok (.istore 9, 2) := dk_54 9 (dk_at dksX8_isHeld_2 19 rfl rfl)
theorem dX8_isHeld_67 : decode cX8_isHeld 67 = .ok (.iload_n 3, 1) := dk_29 (dk_at dksX8_isHeld_2 21 rfl rfl)
theorem dX8_isHeld_68 : decode cX8_isHeld 68 = .ok (.ifCond .ne 15, 3) := dk_154 0 15 (dk_at dksX8_isHeld_3 0 rfl rfl)
theorem dX8_isHeld_71 : decode cX8_isHeld 71 = .ok (.aload_n 0, 1) := dk_42 (dk_at dksX8_isHeld_3 3 rfl rfl)
theorem dX8_isHeld_72 : decode cX8_isHeld 72 = .ok (.iload 8, 2) := dk_21 8 (dk_at dksX8_isHeld_3 4 rfl rfl)
theorem dX8_isHeld_74 : decode cX8_isHeld 74 = .ok (.ineg, 1) := dk_116 (dk_at dksX8_isHeld_3 6 rfl rfl)
theorem dX8_isHeld_75 : decode cX8_isHeld 75 = .ok (.iconst 1, 1) := dk_4 (dk_at dksX8_isHeld_3 7 rfl rfl)
theorem dX8_isHeld_76 : decode cX8_isHeld 76 = .ok (.iload_n 2, 1) := dk_28 (dk_at dksX8_isHeld_3 8 rfl rfl)
theorem dX8_isHeld_77 : decode cX8_isHeld 77 = .ok (.invokevirtual 7, 3) := dk_182 0 7 (dk_at dksX8_isHeld_3 9 rfl rfl)
theorem dX8_isHeld_80 : decode cX8_isHeld 80 = .ok (.ifCond .eq 7, 3) := dk_153 0 7 (dk_at dksX8_isHeld_3 12 rfl rfl)
theorem dX8_isHeld_83 : decode cX8_isHeld 83 = .ok (.iconst 1, 1) := dk_4 (dk_at dksX8_isHeld_3 15 rfl rfl)
theorem dX8_isHeld_84 : decode cX8_isHeld 84 = .ok (.goto 4, 3) := dk_167 0 4 (dk_at dksX8_isHeld_3 16 rfl rfl)
theorem dX8_isHeld_87 : decode cX8_isHeld 87 = .ok (.iconst 0, 1) := dk_3 (dk_at dksX8_isHeld_3 19 rfl rfl)
theorem dX8_isHeld_88 : decode cX8_isHeld 88 = .ok (.istore_n 3, 1) := dk_62 (dk_at dksX8_isHeld_3 20 rfl rfl)
theorem dX8_isHeld_89 : decode cX8_isHeld 89 = .ok (.iload 4, 2) := dk_21 4 (dk_at dksX8_isHeld_3 21 rfl rfl)
theorem dX8_isHeld_91 : decode cX8_isHeld 91 = .ok (.ifCond .ne 14, 3) := dk_154 0 14 (dk_at dksX8_isHeld_4 0 rfl rfl)
theorem dX8_isHeld_94 : decode cX8_isHeld 94 = .ok (.aload_n 0, 1) := dk_42 (dk_at dksX8_isHeld_4 3 rfl rfl)
theorem dX8_isHeld_95 : decode cX8_isHeld 95 = .ok (.iload 8, 2) := dk_21 8 (dk_at dksX8_isHeld_4 4 rfl rfl)
theorem dX8_isHeld_97 : decode cX8_isHeld 97 = .ok (.iconst 1, 1) := dk_4 (dk_at dksX8_isHeld_4 6 rfl rfl)
theorem dX8_isHeld_98 : decode cX8_isHeld 98 = .ok (.iload_n 2, 1) := dk_28 (dk_at dksX8_isHeld_4 7 rfl rfl)
theorem dX8_isHeld_99 : decode cX8_isHeld 99 = .ok (.invokevirtual 7, 3) := dk_182 0 7 (dk_at dksX8_isHeld_4 8 rfl rfl)
theorem dX8_isHeld_102 : decode cX8_isHeld 102 = .ok (.ifCond .eq 7, 3) := dk_153 0 7 (dk_at dksX8_isHeld_4 11 rfl rfl)
theorem dX8_isHeld_105 : decode cX8_isHeld 105 = .ok (.iconst 1, 1) := dk_4 (dk_at dksX8_isHeld_4 14 rfl rfl)
theorem dX8_isHeld_106 : decode cX8_isHeld 106 = .ok (.goto 4, 3) := dk_167 0 4 (dk_at dksX8_isHeld_4 15 rfl rfl)
theorem dX8_isHeld_109 : decode cX8_isHeld 109 = .ok (.iconst 0, 1) := dk_3 (dk_at dksX8_isHeld_4 18 rfl rfl)
theorem dX8_isHeld_110 : decode cX8_isHeld 110 = .ok (.istore 4, 2) := dk_54 4 (dk_at dksX8_isHeld_4 19 rfl rfl)
theorem dX8_isHeld_112 : decode cX8_isHeld 112 = .ok (.iload 5, 2) := dk_21 5 (dk_at dksX8_isHeld_4 21 rfl rfl)
theorem dX8_isHeld_114 : decode cX8_isHeld 114 = .ok (.ifCond .ne 15, 3) := dk_154 0 15 (dk_at dksX8_isHeld_5 0 rfl rfl)
theorem dX8_isHeld_117 : decode cX8_isHeld 117 = .ok (.aload_n 0, 1) := dk_42 (dk_at dksX8_isHeld_5 3 rfl rfl)
theorem dX8_isHeld_118 : decode cX8_isHeld 118 = .ok (.iload 9, 2) := dk_21 9 (dk_at dksX8_isHeld_5 4 rfl rfl)
theorem dX8_isHeld_120 : decode cX8_isHeld 120 = .ok (.ineg, 1) := dk_116 (dk_at dksX8_isHeld_5 6 rfl rfl)
theorem dX8_isHeld_121 : decode cX8_isHeld 121 = .ok (.iconst 1, 1) := dk_4 (dk_at dksX8_isHeld_5 7 rfl rfl)
theorem dX8_isHeld_122 : decode cX8_isHeld 122 = .ok (.iload_n 2, 1) := dk_28 (dk_at dksX8_isHeld_5 8 rfl rfl)
theorem dX8_isHeld_123 : decode cX8_isHeld 123 = .ok (.invokevirtual 7, 3) := dk_182 0 7 (dk_at dksX8_isHeld_5 9 rfl rfl)
theorem dX8_isHeld_126 : decode cX8_isHeld 126 = .ok (.ifCond .eq 7, 3) := dk_153 0 7 (dk_at dksX8_isHeld_5 12 rfl rfl)
theorem dX8_isHeld_129 : decode cX8_isHeld 129 = .ok (.iconst 1, 1) := dk_4 (dk_at dksX8_isHeld_5 15 rfl rfl)
theorem dX8_isHeld_130 : decode cX8_isHeld 130 = .ok (.goto 4, 3) := dk_167 0 4 (dk_at dksX8_isHeld_5 16 rfl rfl)
theorem dX8_isHeld_133 : decode cX8_isHeld 133 = .ok (.iconst 0, 1) := dk_3 (dk_at dksX8_isHeld_5 19 rfl rfl)
theorem dX8_isHeld_134 : decode cX8_isHeld 134 = .ok (.istore 5, 2) := dk_54 5 (dk_at dksX8_isHeld_5 20 rfl rfl)
theorem dX8_isHeld_136 : decode cX8_isHeld 136 = .ok (.iload 6, 2) := dk_21 6 (dk_at dksX8_isHeld_5 22 rfl rfl)
theorem dX8_isHeld_138 : decode cX8_isHeld 138 = .ok (.ifCond .ne 14, 3) := dk_154 0 14 (dk_at dksX8_isHeld_6 0 rfl rfl)
theorem dX8_isHeld_141 : decode cX8_isHeld 141 = .ok (.aload_n 0, 1) := dk_42 (dk_at dksX8_isHeld_6 3 rfl rfl)
theorem dX8_isHeld_142 : decode cX8_isHeld 142 = .ok (.iload 9, 2) := dk_21 9 (dk_at dksX8_isHeld_6 4 rfl rfl)
theorem dX8_isHeld_144 : decode cX8_isHeld 144 = .ok (.iconst 1, 1) := dk_4 (dk_at dksX8_isHeld_6 6 rfl rfl)
theorem dX8_isHeld_145 : decode cX8_isHeld 145 = .ok (.iload_n 2, 1) := dk_28 (dk_at dksX8_isHeld_6 7 rfl rfl)
theorem dX8_isHeld_146 : decode cX8_isHeld 146 = .ok (.invokevirtual 7, 3) := dk_182 0 7 (dk_at dksX8_isHeld_6 8 rfl rfl)
theorem dX8_isHeld_149 : decode cX8_isHeld 149 = .ok (.ifCond .eq 7, 3) := dk_153 0 7 (dk_at dksX8_isHeld_6 11 rfl rfl)
theorem dX8_isHeld_152 : decode cX8_isHeld 152 = .ok (.iconst 1, 1) := dk_4 (dk_at dksX8_isHeld_6 14 rfl rfl)
theorem dX8_isHeld_153 : decode cX8_isHeld 153 = .ok (.goto 4, 3) := dk_167 0 4 (dk_at dksX8_isHeld_6 15 rfl rfl)
theorem dX8_isHeld_156 : decode cX8_isHeld 156 = .ok (.iconst 0, 1) := dk_3 (dk_at dksX8_isHeld_6 18 rfl rfl)
theorem dX8_isHeld_157 : decode cX8_isHeld 157 = .ok (.istore 6, 2) := dk_54 6 (dk_at dksX8_isHeld_6 19 rfl rfl)
theorem dX8_isHeld_159 : decode cX8_isHeld 159 = .ok (.iinc 7 1, 3) := dk_132 7 1 (dk_at dksX8_isHeld_6 21 rfl rfl)
theorem dX8_isHeld_162 : decode cX8_isHeld 162 = .ok (.goto (-148), 3) := dk_167 255 108 (dk_at dksX8_isHeld_7 0 rfl rfl)
theorem dX8_isHeld_165 : decode cX8_isHeld 165 = .ok (.iload_n 3, 1) := dk_29 (dk_at dksX8_isHeld_7 3 rfl rfl)
theorem dX8_isHeld_166 : decode cX8_isHeld 166 = .ok (.ifCond .eq 22, 3) := dk_153 0 22 (dk_at dksX8_isHeld_7 4 rfl rfl)
theorem dX8_isHeld_169 : decode cX8_isHeld 169 = .ok (.iload 4, 2) := dk_21 4 (dk_at dksX8_isHeld_7 7 rfl rfl)
theorem dX8_isHeld_171 : decode cX8_isHeld 171 = .ok (.ifCond .eq 17, 3) := dk_153 0 17 (dk_at dksX8_isHeld_7 9 rfl rfl)
theorem dX8_isHeld_174 : decode cX8_isHeld 174 = .ok (.iload 5, 2) := dk_21 5 (dk_at dksX8_isHeld_7 12 rfl rfl)
theorem dX8_isHeld_176 : decode cX8_isHeld 176 = .ok (.ifCond .eq 12, 3) := dk_153 0 12 (dk_at dksX8_isHeld_7 14 rfl rfl)
theorem dX8_isHeld_179 : decode cX8_isHeld 179 = .ok (.iload 6, 2) := dk_21 6 (dk_at dksX8_isHeld_7 17 rfl rfl)
theorem dX8_isHeld_181 : decode cX8_isHeld 181 = .ok (.ifCond .eq 7, 3) := dk_153 0 7 (dk_at dksX8_isHeld_7 19 rfl rfl)
theorem dX8_isHeld_184 : decode cX8_isHeld 184 = .ok (.iconst 1, 1) := dk_4 (dk_at dksX8_isHeld_7 22 rfl rfl)
theorem dX8_isHeld_185 : decode cX8_isHeld 185 = .ok (.goto 4, 3) := dk_167 0 4 (dk_at dksX8_isHeld_8 0 rfl rfl)
theorem dX8_isHeld_188 : decode cX8_isHeld 188 = .ok (.iconst 0, 1) := dk_3 (dk_at dksX8_isHeld_8 3 rfl rfl)
theorem dX8_isHeld_189 : decode cX8_isHeld 189 = .ok (.ireturn, 1) := dk_172 (dk_at dksX8_isHeld_8 4 rfl rfl)
abbrev cX8_bars : ByteArray := prog_16_method_68_code
def yX8_bars : MethodName := ⟨RX8, "bars", "(II)I"⟩
def dkwX8_bars_3 : List UInt8 := [3, 96, 62, 132, 4, 1, 167, 255, 212, 29, 172]
abbrev dktX8_bars_3 : List UInt8 := dkwX8_bars_3 ++ []
def dkwX8_bars_2 : List UInt8 := [182, 1, 80, 153, 0, 21, 42, 42, 180, 0, 111, 21, 4, 46, 182, 1, 83, 153, 0, 7, 4, 167, 0, 4]
abbrev dktX8_bars_2 : List UInt8 := dkwX8_bars_2 ++ dktX8_bars_3
def dkwX8_bars_1 : List UInt8 := [182, 1, 64, 3, 62, 3, 54, 4, 21, 4, 42, 180, 0, 1, 162, 0, 41, 29, 42, 21, 4, 28]
abbrev dktX8_bars_1 : List UInt8 := dkwX8_bars_1 ++ dktX8_bars_2
def dkwX8_bars_0 : List UInt8 := [42, 27, 182, 1, 25, 153, 0, 14, 42, 28, 3, 16, 63, 182, 0, 7, 154, 0, 6, 16, 254, 172, 42, 27]
abbrev dktX8_bars_0 : List UInt8 := dkwX8_bars_0 ++ dktX8_bars_1
theorem dksX8_bars_0 : cX8_bars.data.toList.drop 0 = dktX8_bars_0 := by decide +kernel
theorem dksX8_bars_1 : cX8_bars.data.toList.drop 24 = dktX8_bars_1 := dk_seg dksX8_bars_0 24 rfl rfl
theorem dksX8_bars_2 : cX8_bars.data.toList.drop 46 = dktX8_bars_2 := dk_seg dksX8_bars_1 22 rfl rfl
theorem dksX8_bars_3 : cX8_bars.data.toList.drop 70 = dktX8_bars_3 := dk_seg dksX8_bars_2 24 rfl rfl
theorem dX8_bars_0 : decode cX8_bars 0 = .ok (.aload_n 0, 1) := dk_42 (dk_at dksX8_bars_0 0 rfl rfl)
theorem dX8_bars_1 : decode cX8_bars 1 = .ok (.iload_n 1, 1) := dk_27 (dk_at dksX8_bars_0 1 rfl rfl)
theorem dX8_bars_2 : decode cX8_bars 2 = .ok (.invokevirtual 281, 3) := dk_182 1 25 (dk_at dksX8_bars_0 2 rfl rfl)
theorem dX8_bars_5 : decode cX8_bars 5 = .ok (.ifCond .eq 14, 3) := dk_153 0 14 (dk_at dksX8_bars_0 5 rfl rfl)
theorem dX8_bars_8 : decode cX8_bars 8 = .ok (.aload_n 0, 1) := dk_42 (dk_at dksX8_bars_0 8 rfl rfl)
theorem dX8_bars_9 : decode cX8_bars 9 = .ok (.iload_n 2, 1) := dk_28 (dk_at dksX8_bars_0 9 rfl rfl)
theorem dX8_bars_10 : decode cX8_bars 10 = .ok (.iconst 0, 1) := dk_3 (dk_at dksX8_bars_0 10 rfl rfl)
theorem dX8_bars_11 : decode cX8_bars 11 = .ok (.bipush 63, 2) := dk_16 63 (dk_at dksX8_bars_0 11 rfl rfl)
theorem dX8_bars_13 : decode cX8_bars 13 = .ok (.invokevirtual 7, 3) := dk_182 0 7 (dk_at dksX8_bars_0 13 rfl rfl)
theorem dX8_bars_16 : decode cX8_bars 16 = .ok (.ifCond .ne 6, 3) := dk_154 0 6 (dk_at dksX8_bars_0 16 rfl rfl)
theorem dX8_bars_19 : decode cX8_bars 19 = .ok (.bipush (-2), 2) := dk_16 254 (dk_at dksX8_bars_0 19 rfl rfl)
theorem dX8_bars_21 : decode cX8_bars 21 = .ok (.ireturn, 1) := dk_172 (dk_at dksX8_bars_0 21 rfl rfl)
theorem dX8_bars_22 : decode cX8_bars 22 = .ok (.aload_n 0, 1) := dk_42 (dk_at dksX8_bars_0 22 rfl rfl)
theorem dX8_bars_23 : decode cX8_bars 23 = .ok (.iload_n 1, 1) := dk_27 (dk_at dksX8_bars_0 23 rfl rfl)
theorem dX8_bars_24 : decode cX8_bars 24 = .ok (.invokevirtual 320, 3) := dk_182 1 64 (dk_at dksX8_bars_1 0 rfl rfl)
theorem dX8_bars_27 : decode cX8_bars 27 = .ok (.iconst 0, 1) := dk_3 (dk_at dksX8_bars_1 3 rfl rfl)
theorem dX8_bars_28 : decode cX8_bars 28 = .ok (.istore_n 3, 1) := dk_62 (dk_at dksX8_bars_1 4 rfl rfl)
theorem dX8_bars_29 : decode cX8_bars 29 = .ok (.iconst 0, 1) := dk_3 (dk_at dksX8_bars_1 5 rfl rfl)
theorem dX8_bars_30 : decode cX8_bars 30 = .ok (.istore 4, 2) := dk_54 4 (dk_at dksX8_bars_1 6 rfl rfl)
theorem dX8_bars_32 : decode cX8_bars 32 = .ok (.iload 4, 2) := dk_21 4 (dk_at dksX8_bars_1 8 rfl rfl)
theorem dX8_bars_34 : decode cX8_bars 34 = .ok (.aload_n 0, 1) := dk_42 (dk_at dksX8_bars_1 10 rfl rfl)
theorem dX8_bars_35 : decode cX8_bars 35 = .ok (.getfield 1, 3) := dk_180 0 1 (dk_at dksX8_bars_1 11 rfl rfl)
theorem dX8_bars_38 : decode cX8_bars 38 = .ok (.if_icmp .ge 41, 3) := dk_162 0 41 (dk_at dksX8_bars_1 14 rfl rfl)
theorem dX8_bars_41 : decode cX8_bars 41 = .ok (.iload_n 3, 1) := dk_29 (dk_at dksX8_bars_1 17 rfl rfl)
theorem dX8_bars_42 : decode cX8_bars 42 = .ok (.aload_n 0, 1) := dk_42 (dk_at dksX8_bars_1 18 rfl rfl)
theorem dX8_bars_43 : decode cX8_bars 43 = .ok (.iload 4, 2) := dk_21 4 (dk_at dksX8_bars_1 19 rfl rfl)
theorem dX8_bars_45 : decode cX8_bars 45 = .ok (.iload_n 2, 1) := dk_28 (dk_at dksX8_bars_1 21 rfl rfl)
theorem dX8_bars_46 : decode cX8_bars 46 = .ok (.invokevirtual 336, 3) := dk_182 1 80 (dk_at dksX8_bars_2 0 rfl rfl)
theorem dX8_bars_49 : decode cX8_bars 49 = .ok (.ifCond .eq 21, 3) := dk_153 0 21 (dk_at dksX8_bars_2 3 rfl rfl)
theorem dX8_bars_52 : decode cX8_bars 52 = .ok (.aload_n 0, 1) := dk_42 (dk_at dksX8_bars_2 6 rfl rfl)
theorem dX8_bars_53 : decode cX8_bars 53 = .ok (.aload_n 0, 1) := dk_42 (dk_at dksX8_bars_2 7 rfl rfl)
theorem dX8_bars_54 : decode cX8_bars 54 = .ok (.getfield 111, 3) := dk_180 0 111 (dk_at dksX8_bars_2 8 rfl rfl)
theorem dX8_bars_57 : decode cX8_bars 57 = .ok (.iload 4, 2) := dk_21 4 (dk_at dksX8_bars_2 11 rfl rfl)
theorem dX8_bars_59 : decode cX8_bars 59 = .ok (.iaload, 1) := dk_46 (dk_at dksX8_bars_2 13 rfl rfl)
theorem dX8_bars_60 : decode cX8_bars 60 = .ok (.invokevirtual 339, 3) := dk_182 1 83 (dk_at dksX8_bars_2 14 rfl rfl)
theorem dX8_bars_63 : decode cX8_bars 63 = .ok (.ifCond .eq 7, 3) := dk_153 0 7 (dk_at dksX8_bars_2 17 rfl rfl)
theorem dX8_bars_66 : decode cX8_bars 66 = .ok (.iconst 1, 1) := dk_4 (dk_at dksX8_bars_2 20 rfl rfl)
theorem dX8_bars_67 : decode cX8_bars 67 = .ok (.goto 4, 3) := dk_167 0 4 (dk_at dksX8_bars_2 21 rfl rfl)
theorem dX8_bars_70 : decode cX8_bars 70 = .ok (.iconst 0, 1) := dk_3 (dk_at dksX8_bars_3 0 rfl rfl)
theorem dX8_bars_71 : decode cX8_bars 71 = .ok (.iadd, 1) := dk_96 (dk_at dksX8_bars_3 1 rfl rfl)
theorem dX8_bars_72 : decode cX8_bars 72 = .ok (.istore_n 3, 1) := dk_62 (dk_at dksX8_bars_3 2 rfl rfl)
theorem dX8_bars_73 : decode cX8_bars 73 = .ok (.iinc 4 1, 3) := dk_132 4 1 (dk_at dksX8_bars_3 3 rfl rfl)
theorem dX8_bars_76 : decode cX8_bars 76 = .ok (.goto (-44), 3) := dk_167 255 212 (dk_at dksX8_bars_3 6 rfl rfl)
theorem dX8_bars_79 : decode cX8_bars 79 = .ok (.iload_n 3, 1) := dk_29 (dk_at dksX8_bars_3 9 rfl rfl)
theorem dX8_bars_80 : decode cX8_bars 80 = .ok (.ireturn, 1) := dk_172 (dk_at dksX8_bars_3 10 rfl rfl)
abbrev cX8_isOut : ByteArray := prog_16_method_67_code
def yX8_isOut : MethodName := ⟨RX8, "isOut", "(I)Z"⟩
def dkwX8_isOut_6 : List UInt8 := [154, 0, 17, 29, 154, 0, 13, 21, 4, 154, 0, 8, 21, 5, 153, 0, 7, 4, 167, 0, 4, 3, 172]
abbrev dktX8_isOut_6 : List UInt8 := dkwX8_isOut_6 ++ []
def dkwX8_isOut_5 : List UInt8 := [21, 6, 46, 16, 64, 108, 164, 0, 7, 4, 167, 0, 4, 3, 54, 5, 132, 6, 1, 167, 255, 132, 28]
abbrev dktX8_isOut_5 : List UInt8 := dkwX8_isOut_5 ++ dktX8_isOut_6
def dkwX8_isOut_4 : List UInt8 := [162, 0, 7, 4, 167, 0, 4, 3, 54, 4, 21, 5, 153, 0, 24, 27, 16, 64, 108, 42, 180, 0, 141]
abbrev dktX8_isOut_4 : List UInt8 := dkwX8_isOut_4 ++ dktX8_isOut_5
def dkwX8_isOut_3 : List UInt8 := [167, 0, 4, 3, 62, 21, 4, 153, 0, 24, 27, 16, 64, 108, 42, 180, 0, 141, 21, 6, 46, 16, 64, 108]
abbrev dktX8_isOut_3 : List UInt8 := dkwX8_isOut_3 ++ dktX8_isOut_4
def dkwX8_isOut_2 : List UInt8 := [3, 61, 29, 153, 0, 24, 27, 16, 64, 112, 42, 180, 0, 141, 21, 6, 46, 16, 64, 112, 164, 0, 7, 4]
abbrev dktX8_isOut_2 : List UInt8 := dkwX8_isOut_2 ++ dktX8_isOut_3
def dkwX8_isOut_1 : List UInt8 := [153, 0, 24, 27, 16, 64, 112, 42, 180, 0, 141, 21, 6, 46, 16, 64, 112, 162, 0, 7, 4, 167, 0, 4]
abbrev dktX8_isOut_1 : List UInt8 := dkwX8_isOut_1 ++ dktX8_isOut_2
def dkwX8_isOut_0 : List UInt8 := [4, 61, 4, 62, 4, 54, 4, 4, 54, 5, 3, 54, 6, 21, 6, 42, 180, 0, 138, 162, 0, 121, 28]
abbrev dktX8_isOut_0 : List UInt8 := dkwX8_isOut_0 ++ dktX8_isOut_1
theorem dksX8_isOut_0 : cX8_isOut.data.toList.drop 0 = dktX8_isOut_0 := by decide +kernel
theorem dksX8_isOut_1 : cX8_isOut.data.toList.drop 23 = dktX8_isOut_1 := dk_seg dksX8_isOut_0 23 rfl rfl
theorem dksX8_isOut_2 : cX8_isOut.data.toList.drop 47 = dktX8_isOut_2 := dk_seg dksX8_isOut_1 24 rfl rfl
theorem dksX8_isOut_3 : cX8_isOut.data.toList.drop 71 = dktX8_isOut_3 := dk_seg dksX8_isOut_2 24 rfl rfl
theorem dksX8_isOut_4 : cX8_isOut.data.toList.drop 95 = dktX8_isOut_4 := dk_seg dksX8_isOut_3 24 rfl rfl
theorem dksX8_isOut_5 : cX8_isOut.data.toList.drop 118 = dktX8_isOut_5 := dk_seg dksX8_isOut_4 23 rfl rfl
theorem dksX8_isOut_6 : cX8_isOut.data.toList.drop 141 = dktX8_isOut_6 := dk_seg dksX8_isOut_5 23 rfl rfl
theorem dX8_isOut_0 : decode cX8_isOut 0 = .ok (.iconst 1, 1) := dk_4 (dk_at dksX8_isOut_0 0 rfl rfl)
theorem dX8_isOut_1 : decode cX8_isOut 1 = .ok (.istore_n 2, 1) := dk_61 (dk_at dksX8_isOut_0 1 rfl rfl)
theorem dX8_isOut_2 : decode cX8_isOut 2 = .ok (.iconst 1, 1) := dk_4 (dk_at dksX8_isOut_0 2 rfl rfl)
theorem dX8_isOut_3 : decode cX8_isOut 3 = .ok (.istore_n 3, 1) := dk_62 (dk_at dksX8_isOut_0 3 rfl rfl)
theorem dX8_isOut_4 : decode cX8_isOut 4 = .ok (.iconst 1, 1) := dk_4 (dk_at dksX8_isOut_0 4 rfl rfl)
theorem dX8_isOut_5 : decode cX8_isOut 5 = .ok (.istore 4, 2) := dk_54 4 (dk_at dksX8_isOut_0 5 rfl rfl)
theorem dX8_isOut_7 : decode cX8_isOut 7 = .ok (.iconst 1, 1) := dk_4 (dk_at dksX8_isOut_0 7 rfl rfl)
theorem dX8_isOut_8 : decode cX8_isOut 8 = .ok (.istore 5, 2) := dk_54 5 (dk_at dksX8_isOut_0 8 rfl rfl)
theorem dX8_isOut_10 : decode cX8_isOut 10 = .ok (.iconst 0, 1) := dk_3 (dk_at dksX8_isOut_0 10 rfl rfl)
theorem dX8_isOut_11 : decode cX8_isOut 11 = .ok (.istore 6, 2) := dk_54 6 (dk_at dksX8_isOut_0 11 rfl rfl)
theorem dX8_isOut_13 : decode cX8_isOut 13 = .ok (.iload 6, 2) := dk_21 6 (dk_at dksX8_isOut_0 13 rfl rfl)
theorem dX8_isOut_15 : decode cX8_isOut 15 = .ok (.aload_n 0, 1) := dk_42 (dk_at dksX8_isOut_0 15 rfl rfl)
theorem dX8_isOut_16 : decode cX8_isOut 16 = .ok (.getfield 138, 3) := dk_180 0 138 (dk_at dksX8_isOut_0 16 rfl rfl)
theorem dX8_isOut_19 : decode cX8_isOut 19 = .ok (.if_icmp .ge 121, 3) := dk_162 0 121 (dk_at dksX8_isOut_0 19 rfl rfl)
theorem dX8_isOut_22 : decode cX8_isOut 22 = .ok (.iload_n 2, 1) := dk_28 (dk_at dksX8_isOut_0 22 rfl rfl)
theorem dX8_isOut_23 : decode cX8_isOut 23 = .ok (.ifCond .eq 24, 3) := dk_153 0 24 (dk_at dksX8_isOut_1 0 rfl rfl)
theorem dX8_isOut_26 : decode cX8_isOut 26 = .ok (.iload_n 1, 1) := dk_27 (dk_at dksX8_isOut_1 3 rfl rfl)
theorem dX8_isOut_27 : decode cX8_isOut 27 = .ok (.bipush 64, 2) := dk_16 64 (dk_at dksX8_isOut_1 4 rfl rfl)
theorem dX8_isOut_29 : decode cX8_isOut 29 = .ok (.irem, 1) := dk_112 (dk_at dksX8_isOut_1 6 rfl rfl)
theorem dX8_isOut_30 : decode cX8_isOut 30 = .ok (.aload_n 0, 1) := dk_42 (dk_at dksX8_isOut_1 7 rfl rfl)
theorem dX8_isOut_31 : decode cX8_isOut 31 = .ok (.getfield 141, 3) := dk_180 0 141 (dk_at dksX8_isOut_1 8 rfl rfl)
theorem dX8_isOut_34 : decode cX8_isOut 34 = .ok (.iload 6, 2) := dk_21 6 (dk_at dksX8_isOut_1 11 rfl rfl)
theorem dX8_isOut_36 : decode cX8_isOut 36 = .ok (.iaload, 1) := dk_46 (dk_at dksX8_isOut_1 13 rfl rfl)
theorem dX8_isOut_37 : decode cX8_isOut 37 = .ok (.bipush 64, 2) := dk_16 64 (dk_at dksX8_isOut_1 14 rfl rfl)
theorem dX8_isOut_39 : decode cX8_isOut 39 = .ok (.irem, 1) := dk_112 (dk_at dksX8_isOut_1 16 rfl rfl)
theorem dX8_isOut_40 : decode cX8_isOut 40 = .ok (.if_icmp .ge 7, 3) := dk_162 0 7 (dk_at dksX8_isOut_1 17 rfl rfl)
theorem dX8_isOut_43 : decode cX8_isOut 43 = .ok (.iconst 1, 1) := dk_4 (dk_at dksX8_isOut_1 20 rfl rfl)
theorem dX8_isOut_44 : decode cX8_isOut 44 = .ok (.goto 4, 3) := dk_167 0 4 (dk_at dksX8_isOut_1 21 rfl rfl)
theorem dX8_isOut_47 : decode cX8_isOut 47 = .ok (.iconst 0, 1) := dk_3 (dk_at dksX8_isOut_2 0 rfl rfl)
theorem dX8_isOut_48 : decode cX8_isOut 48 = .ok (.istore_n 2, 1) := dk_61 (dk_at dksX8_isOut_2 1 rfl rfl)
theorem dX8_isOut_49 : decode cX8_isOut 49 = .ok (.iload_n 3, 1) := dk_29 (dk_at dksX8_isOut_2 2 rfl rfl)
theorem dX8_isOut_50 : decode cX8_isOut 50 = .ok (.ifCond .eq 24, 3) := dk_153 0 24 (dk_at dksX8_isOut_2 3 rfl rfl)
theorem dX8_isOut_53 : decode cX8_isOut 53 = .ok (.iload_n 1, 1) := dk_27 (dk_at dksX8_isOut_2 6 rfl rfl)
theorem dX8_isOut_54 : decode cX8_isOut 54 = .ok (.bipush 64, 2) := dk_16 64 (dk_at dksX8_isOut_2 7 rfl rfl)
theorem dX8_isOut_56 : decode cX8_isOut 56 = .ok (.irem, 1) := dk_112 (dk_at dksX8_isOut_2 9 rfl rfl)
theorem dX8_isOut_57 : decode cX8_isOut 57 = .ok (.aload_n 0, 1) := dk_42 (dk_at dksX8_isOut_2 10 rfl rfl)
theorem dX8_isOut_58 : decode cX8_isOut 58 = .ok (.getfield 141, 3) := dk_180 0 141 (dk_at dksX8_isOut_2 11 rfl rfl)
theorem dX8_isOut_61 : decode cX8_isOut 61 = .ok (.iload 6, 2) := dk_21 6 (dk_at dksX8_isOut_2 14 rfl rfl)
theorem dX8_isOut_63 : decode cX8_isOut 63 = .ok (.iaload, 1) := dk_46 (dk_at dksX8_isOut_2 16 rfl rfl)
theorem dX8_isOut_64 : decode cX8_isOut 64 = .ok (.bipush 64, 2) := dk_16 64 (dk_at dksX8_isOut_2 17 rfl rfl)
theorem dX8_isOut_66 : decode cX8_isOut 66 = .ok (.irem, 1) := dk_112 (dk_at dksX8_isOut_2 19 rfl rfl)
theorem dX8_isOut_67 : decode cX8_isOut 67 = .ok (.if_icmp .le 7, 3) := dk_164 0 7 (dk_at dksX8_isOut_2 20 rfl rfl)
theorem dX8_isOut_70 : decode cX8_isOut 70 = .ok (.iconst 1, 1) := dk_4 (dk_at dksX8_isOut_2 23 rfl rfl)
theorem dX8_isOut_71 : decode cX8_isOut 71 = .ok (.goto 4, 3) := dk_167 0 4 (dk_at dksX8_isOut_3 0 rfl rfl)
theorem dX8_isOut_74 : decode cX8_isOut 74 = .ok (.iconst 0, 1) := dk_3 (dk_at dksX8_isOut_3 3 rfl rfl)
theorem dX8_isOut_75 : decode cX8_isOut 75 = .ok (.istore_n 3, 1) := dk_62 (dk_at dksX8_isOut_3 4 rfl rfl)
theorem dX8_isOut_76 : decode cX8_isOut 76 = .ok (.iload 4, 2) := dk_21 4 (dk_at dksX8_isOut_3 5 rfl rfl)
theorem dX8_isOut_78 : decode cX8_isOut 78 = .ok (.ifCond .eq 24, 3) := dk_153 0 24 (dk_at dksX8_isOut_3 7 rfl rfl)
theorem dX8_isOut_81 : decode cX8_isOut 81 = .ok (.iload_n 1, 1) := dk_27 (dk_at dksX8_isOut_3 10 rfl rfl)
theorem dX8_isOut_82 : decode cX8_isOut 82 = .ok (.bipush 64, 2) := dk_16 64 (dk_at dksX8_isOut_3 11 rfl rfl)
theorem dX8_isOut_84 : decode cX8_isOut 84 = .ok (.idiv, 1) := dk_108 (dk_at dksX8_isOut_3 13 rfl rfl)
theorem dX8_isOut_85 : decode cX8_isOut 85 = .ok (.aload_n 0, 1) := dk_42 (dk_at dksX8_isOut_3 14 rfl rfl)
theorem dX8_isOut_86 : decode cX8_isOut 86 = .ok (.getfield 141, 3) := dk_180 0 141 (dk_at dksX8_isOut_3 15 rfl rfl)
theorem dX8_isOut_89 : decode cX8_isOut 89 = .ok (.iload 6, 2) := dk_21 6 (dk_at dksX8_isOut_3 18 rfl rfl)
theorem dX8_isOut_91 : decode cX8_isOut 91 = .ok (.iaload, 1) := dk_46 (dk_at dksX8_isOut_3 20 rfl rfl)
theorem dX8_isOut_92 : decode cX8_isOut 92 = .ok (.bipush 64, 2) := dk_16 64 (dk_at dksX8_isOut_3 21 rfl rfl)
theorem dX8_isOut_94 : decode cX8_isOut 94 = .ok (.idiv, 1) := dk_108 (dk_at dksX8_isOut_3 23 rfl rfl)
theorem dX8_isOut_95 : decode cX8_isOut 95 = .ok (.if_icmp .ge 7, 3) := dk_162 0 7 (dk_at dksX8_isOut_4 0 rfl rfl)
theorem dX8_isOut_98 : decode cX8_isOut 98 = .ok (.iconst 1, 1) := dk_4 (dk_at dksX8_isOut_4 3 rfl rfl)
theorem dX8_isOut_99 : decode cX8_isOut 99 = .ok (.goto 4, 3) := dk_167 0 4 (dk_at dksX8_isOut_4 4 rfl rfl)
theorem dX8_isOut_102 : decode cX8_isOut 102 = .ok (.iconst 0, 1) := dk_3 (dk_at dksX8_isOut_4 7 rfl rfl)
theorem dX8_isOut_103 : decode cX8_isOut 103 = .ok (.istore 4, 2) := dk_54 4 (dk_at dksX8_isOut_4 8 rfl rfl)
theorem dX8_isOut_105 : decode cX8_isOut 105 = .ok (.iload 5, 2) := dk_21 5 (dk_at dksX8_isOut_4 10 rfl rfl)
theorem dX8_isOut_107 : decode cX8_isOut 107 = .ok (.ifCond .eq 24, 3) := dk_153 0 24 (dk_at dksX8_isOut_4 12 rfl rfl)
theorem dX8_isOut_110 : decode cX8_isOut 110 = .ok (.iload_n 1, 1) := dk_27 (dk_at dksX8_isOut_4 15 rfl rfl)
theorem dX8_isOut_111 : decode cX8_isOut 111 = .ok (.bipush 64, 2) := dk_16 64 (dk_at dksX8_isOut_4 16 rfl rfl)
theorem dX8_isOut_113 : decode cX8_isOut 113 = .ok (.idiv, 1) := dk_108 (dk_at dksX8_isOut_4 18 rfl rfl)
theorem dX8_isOut_114 : decode cX8_isOut 114 = .ok (.aload_n 0, 1) := dk_42 (dk_at dksX8_isOut_4 19 rfl rfl)
theorem dX8_isOut_115 : decode cX8_isOut 115 = .ok (.getfield 141, 3) := dk_180 0 141 (dk_at dksX8_isOut_4 20 rfl rfl)
theorem dX8_isOut_118 : decode cX8_isOut 118 = .ok (.iload 6, 2) := dk_21 6 (dk_at dksX8_isOut_5 0 rfl rfl)
theorem dX8_isOut_120 : decode cX8_isOut 120 = .ok (.iaload, 1) := dk_46 (dk_at dksX8_isOut_5 2 rfl rfl)
theorem dX8_isOut_121 : decode cX8_isOut 121 = .ok (.bipush 64, 2) := dk_16 64 (dk_at dksX8_isOut_5 3 rfl rfl)
theorem dX8_isOut_123 : decode cX8_isOut 123 = .ok (.idiv, 1) := dk_108 (dk_at dksX8_isOut_5 5 rfl rfl)
theorem dX8_isOut_124 : decode cX8_isOut 124 = .ok (.if_icmp .le 7, 3) := dk_164 0 7 (dk_at dksX8_isOut_5 6 rfl rfl)
theorem dX8_isOut_127 : decode cX8_isOut 127 = .ok (.iconst 1, 1) := dk_4 (dk_at dksX8_isOut_5 9 rfl rfl)
theorem dX8_isOut_128 : decode cX8_isOut 128 = .ok (.goto 4, 3) := dk_167 0 4 (dk_at dksX8_isOut_5 10 rfl rfl)
theorem dX8_isOut_131 : decode cX8_isOut 131 = .ok (.iconst 0, 1) := dk_3 (dk_at dksX8_isOut_5 13 rfl rfl)
theorem dX8_isOut_132 : decode cX8_isOut 132 = .ok (.istore 5, 2) := dk_54 5 (dk_at dksX8_isOut_5 14 rfl rfl)
theorem dX8_isOut_134 : decode cX8_isOut 134 = .ok (.iinc 6 1, 3) := dk_132 6 1 (dk_at dksX8_isOut_5 16 rfl rfl)
theorem dX8_isOut_137 : decode cX8_isOut 137 = .ok (.goto (-124), 3) := dk_167 255 132 (dk_at dksX8_isOut_5 19 rfl rfl)
theorem dX8_isOut_140 : decode cX8_isOut 140 = .ok (.iload_n 2, 1) := dk_28 (dk_at dksX8_isOut_5 22 rfl rfl)
theorem dX8_isOut_141 : decode cX8_isOut 141 = .ok (.ifCond .ne 17, 3) := dk_154 0 17 (dk_at dksX8_isOut_6 0 rfl rfl)
theorem dX8_isOut_144 : decode cX8_isOut 144 = .ok (.iload_n 3, 1) := dk_29 (dk_at dksX8_isOut_6 3 rfl rfl)
theorem dX8_isOut_145 : decode cX8_isOut 145 = .ok (.ifCond .ne 13, 3) := dk_154 0 13 (dk_at dksX8_isOut_6 4 rfl rfl)
theorem dX8_isOut_148 : decode cX8_isOut 148 = .ok (.iload 4, 2) := dk_21 4 (dk_at dksX8_isOut_6 7 rfl rfl)
theorem dX8_isOut_150 : decode cX8_isOut 150 = .ok (.ifCond .ne 8, 3) := dk_154 0 8 (dk_at dksX8_isOut_6 9 rfl rfl)
theorem dX8_isOut_153 : decode cX8_isOut 153 = .ok (.iload 5, 2) := dk_21 5 (dk_at dksX8_isOut_6 12 rfl rfl)
theorem dX8_isOut_155 : decode cX8_isOut 155 = .ok (.ifCond .eq 7, 3) := dk_153 0 7 (dk_at dksX8_isOut_6 14 rfl rfl)
theorem dX8_isOut_158 : decode cX8_isOut 158 = .ok (.iconst 1, 1) := dk_4 (dk_at dksX8_isOut_6 17 rfl rfl)
theorem dX8_isOut_159 : decode cX8_isOut 159 = .ok (.goto 4, 3) := dk_167 0 4 (dk_at dksX8_isOut_6 18 rfl rfl)
theorem dX8_isOut_162 : decode cX8_isOut 162 = .ok (.iconst 0, 1) := dk_3 (dk_at dksX8_isOut_6 21 rfl rfl)
theorem dX8_isOut_163 : decode cX8_isOut 163 = .ok (.ireturn, 1) := dk_172 (dk_at dksX8_isOut_6 22 rfl rfl)
