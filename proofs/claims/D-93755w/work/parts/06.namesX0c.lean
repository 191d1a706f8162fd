set_option maxRecDepth 100000
abbrev cX0_goers : ByteArray := prog_1_method_69_code
def yX0_goers : MethodName := ⟨RX0, "goers", "(II)I"⟩
def dkwX0_goers_2 : List UInt8 := [172]
abbrev dktX0_goers_2 : List UInt8 := dkwX0_goers_2 ++ []
def dkwX0_goers_1 : List UInt8 := [28, 182, 1, 192, 153, 0, 10, 4, 21, 4, 120, 167, 0, 4, 3, 128, 62, 132, 4, 1, 167, 255, 217, 29]
abbrev dktX0_goers_1 : List UInt8 := dkwX0_goers_1 ++ dktX0_goers_2
def dkwX0_goers_0 : List UInt8 := [3, 62, 3, 54, 4, 21, 4, 42, 180, 0, 9, 162, 0, 36, 29, 42, 42, 180, 0, 75, 27, 50, 21, 4]
abbrev dktX0_goers_0 : List UInt8 := dkwX0_goers_0 ++ dktX0_goers_1
theorem dksX0_goers_0 : cX0_goers.data.toList.drop 0 = dktX0_goers_0 := by decide +kernel
theorem dksX0_goers_1 : cX0_goers.data.toList.drop 24 = dktX0_goers_1 := dk_seg dksX0_goers_0 24 rfl rfl
theorem dksX0_goers_2 : cX0_goers.data.toList.drop 48 = dktX0_goers_2 := dk_seg dksX0_goers_1 24 rfl rfl
theorem dX0_goers_0 : decode cX0_goers 0 = .ok (.iconst 0, 1) := dk_3 (dk_at dksX0_goers_0 0 rfl rfl)
theorem dX0_goers_1 : decode cX0_goers 1 = .ok (.istore_n 3, 1) := dk_62 (dk_at dksX0_goers_0 1 rfl rfl)
theorem dX0_goers_2 : decode cX0_goers 2 = .ok (.iconst 0, 1) := dk_3 (dk_at dksX0_goers_0 2 rfl rfl)
theorem dX0_goers_3 : decode cX0_goers 3 = .ok (.istore 4, 2) := dk_54 4 (dk_at dksX0_goers_0 3 rfl rfl)
theorem dX0_goers_5 : decode cX0_goers 5 = .ok (.iload 4, 2) := dk_21 4 (dk_at dksX0_goers_0 5 rfl rfl)
theorem dX0_goers_7 : decode cX0_goers 7 = .ok (.aload_n 0, 1) := dk_42 (dk_at dksX0_goers_0 7 rfl rfl)
theorem dX0_goers_8 : decode cX0_goers 8 = .ok (.getfield 9, 3) := dk_180 0 9 (dk_at dksX0_goers_0 8 rfl rfl)
theorem dX0_goers_11 : decode cX0_goers 11 = .ok (.if_icmp .ge 36, 3) := dk_162 0 36 (dk_at dksX0_goers_0 11 rfl rfl)
theorem dX0_goers_14 : decode cX0_goers 14 = .ok (.iload_n 3, 1) := dk_29 (dk_at dksX0_goers_0 14 rfl rfl)
theorem dX0_goers_15 : decode cX0_goers 15 = .ok (.aload_n 0, 1) := dk_42 (dk_at dksX0_goers_0 15 rfl rfl)
theorem dX0_goers_16 : decode cX0_goers 16 = .ok (.aload_n 0, 1) := dk_42 (dk_at dksX0_goers_0 16 rfl rfl)
theorem dX0_goers_17 : decode cX0_goers 17 = .ok (.getfield 75, 3) := dk_180 0 75 (dk_at dksX0_goers_0 17 rfl rfl)
theorem dX0_goers_20 : decode cX0_goers 20 = .ok (.iload_n 1, 1) := dk_27 (dk_at dksX0_goers_0 20 rfl rfl)
theorem dX0_goers_21 : decode cX0_goers 21 = .ok (.aaload, 1) := dk_50 (dk_at dksX0_goers_0 21 rfl rfl)
theorem dX0_goers_22 : decode cX0_goers 22 = .ok (.iload 4, 2) := dk_21 4 (dk_at dksX0_goers_0 22 rfl rfl)
theorem dX0_goers_24 : decode cX0_goers 24 = .ok (.iload_n 2, 1) := dk_28 (dk_at dksX0_goers_1 0 rfl rfl)
theorem dX0_goers_25 : decode cX0_goers 25 = .ok (.invokevirtual 448, 3) := dk_182 1 192 (dk_at dksX0_goers_1 1 rfl rfl)
theorem dX0_goers_28 : decode cX0_goers 28 = .ok (.ifCond .eq 10, 3) := dk_153 0 10 (dk_at dksX0_goers_1 4 rfl rfl)
theorem dX0_goers_31 : decode cX0_goers 31 = .ok (.iconst 1, 1) := dk_4 (dk_at dksX0_goers_1 7 rfl rfl)
theorem dX0_goers_32 : decode cX0_goers 32 = .ok (.iload 4, 2) := dk_21 4 (dk_at dksX0_goers_1 8 rfl rfl)
theorem dX0_goers_34 : decode cX0_goers 34 = .ok (.ishl, 1) := dk_120 (dk_at dksX0_goers_1 10 rfl rfl)
theorem dX0_goers_35 : decode cX0_goers 35 = .ok (.goto 4, 3) := dk_167 0 4 (dk_at dksX0_goers_1 11 rfl rfl)
theorem dX0_goers_38 : decode cX0_goers 38 = .ok (.iconst 0, 1) := dk_3 (dk_at dksX0_goers_1 14 rfl rfl)
theorem dX0_goers_39 : decode cX0_goers 39 = .ok (.ior, 1) := dk_128 (dk_at dksX0_goers_1 15 rfl rfl)
theorem dX0_goers_40 : decode cX0_goers 40 = .ok (.istore_n 3, 1) := dk_62 (dk_at dksX0_goers_1 16 rfl rfl)
theorem dX0_goers_41 : decode cX0_goers 41 = .ok (.iinc 4 1, 3) := dk_132 4 1 (dk_at dksX0_goers_1 17 rfl rfl)
theorem dX0_goers_44 : decode cX0_goers 44 = .ok (.goto (-39), 3) := dk_167 255 217 (dk_at dksX0_goers_1 20 rfl rfl)
theorem dX0_goers_47 : decode cX0_goers 47 = .ok (.iload_n 3, 1) := dk_29 (dk_at dksX0_goers_1 23 rfl rfl)
theorem dX0_goers_48 : decode cX0_goers 48 = .ok (.ireturn, 1) := dk_172 (dk_at dksX0_goers_2 0 rfl rfl)
abbrev cX0_held : ByteArray := prog_1_method_71_code
def yX0_held : MethodName := ⟨RX0, "held", "(III)I"⟩
def dkwX0_held_4 : List UInt8 := [167, 255, 226, 2, 172]
abbrev dktX0_held_4 : List UInt8 := dkwX0_held_4 ++ []
def dkwX0_held_3 : List UInt8 := [42, 29, 21, 6, 182, 1, 205, 21, 5, 21, 6, 122, 4, 126, 159, 0, 6, 21, 6, 172, 132, 6, 1]
abbrev dktX0_held_3 : List UInt8 := dkwX0_held_3 ++ dktX0_held_4
def dkwX0_held_2 : List UInt8 := [159, 0, 6, 16, 254, 172, 42, 27, 28, 182, 1, 196, 54, 5, 3, 54, 6, 21, 6, 21, 4, 162, 0, 29]
abbrev dktX0_held_2 : List UInt8 := dkwX0_held_2 ++ dktX0_held_3
def dkwX0_held_1 : List UInt8 := [16, 254, 172, 42, 29, 182, 1, 202, 54, 4, 21, 4, 156, 0, 6, 16, 245, 172, 21, 4, 42, 180, 0, 9]
abbrev dktX0_held_1 : List UInt8 := dkwX0_held_1 ++ dktX0_held_2
def dkwX0_held_0 : List UInt8 := [42, 27, 182, 0, 83, 153, 0, 18, 42, 28, 182, 0, 86, 153, 0, 10, 29, 184, 1, 199, 154, 0, 6]
abbrev dktX0_held_0 : List UInt8 := dkwX0_held_0 ++ dktX0_held_1
theorem dksX0_held_0 : cX0_held.data.toList.drop 0 = dktX0_held_0 := by decide +kernel
theorem dksX0_held_1 : cX0_held.data.toList.drop 23 = dktX0_held_1 := dk_seg dksX0_held_0 23 rfl rfl
theorem dksX0_held_2 : cX0_held.data.toList.drop 47 = dktX0_held_2 := dk_seg dksX0_held_1 24 rfl rfl
theorem dksX0_held_3 : cX0_held.data.toList.drop 71 = dktX0_held_3 := dk_seg dksX0_held_2 24 rfl rfl
theorem dksX0_held_4 : cX0_held.data.toList.drop 94 = dktX0_held_4 := dk_seg dksX0_held_3 23 rfl rfl
theorem dX0_held_0 : decode cX0_held 0 = .ok (.aload_n 0, 1) := dk_42 (dk_at dksX0_held_0 0 rfl rfl)
theorem dX0_held_1 : decode cX0_held 1 = .ok (.iload_n 1, 1) := dk_27 (dk_at dksX0_held_0 1 rfl rfl)
theorem dX0_held_2 : decode cX0_held 2 = .ok (.invokevirtual 83, 3) := dk_182 0 83 (dk_at dksX0_held_0 2 rfl rfl)
theorem dX0_held_5 : decode cX0_held 5 = .ok (.ifCond .eq 18, 3) := dk_153 0 18 (dk_at dksX0_held_0 5 rfl rfl)
theorem dX0_held_8 : decode cX0_held 8 = .ok (.aload_n 0, 1) := dk_42 (dk_at dksX0_held_0 8 rfl rfl)
theorem dX0_held_9 : decode cX0_held 9 = .ok (.iload_n 2, 1) := dk_28 (dk_at dksX0_held_0 9 rfl rfl)
theorem dX0_held_10 : decode cX0_held 10 = .ok (.invokevirtual 86, 3) := dk_182 0 86 (dk_at dksX0_held_0 10 rfl rfl)
theorem dX0_held_13 : decode cX0_held 13 = .ok (.ifCond .eq 10, 3) := dk_153 0 10 (dk_at dksX0_held_0 13 rfl rfl)
theorem dX0_held_16 : decode cX0_held 16 = .ok (.iload_n 3, 1) := dk_29 (dk_at dksX0_held_0 16 rfl rfl)
theorem dX0_held_17 : decode cX0_held 17 = .ok (.invokestatic 455, 3) := dk_184 1 199 (dk_at dksX0_held_0 17 rfl rfl)
theorem dX0_held_20 : decode cX0_held 20 = .ok (.ifCond .ne 6, 3) := dk_154 0 6 (dk_at dksX0_held_0 20 rfl rfl)
theorem dX0_held_23 : decode cX0_held 23 = .ok (.bipush (-2), 2) := dk_16 254 (dk_at dksX0_held_1 0 rfl rfl)
theorem dX0_held_25 : decode cX0_held 25 = .ok (.ireturn, 1) := dk_172 (dk_at dksX0_held_1 2 rfl rfl)
theorem dX0_held_26 : decode cX0_held 26 = .ok (.aload_n 0, 1) := dk_42 (dk_at dksX0_held_1 3 rfl rfl)
theorem dX0_held_27 : decode cX0_held 27 = .ok (.iload_n 3, 1) := dk_29 (dk_at dksX0_held_1 4 rfl rfl)
theorem dX0_held_28 : decode cX0_held 28 = .ok (.invokevirtual 458, 3) := dk_182 1 202 (dk_at dksX0_held_1 5 rfl rfl)
theorem dX0_held_31 : decode cX0_held 31 = .ok (.istore 4, 2) := dk_54 4 (dk_at dksX0_held_1 8 rfl rfl)
theorem dX0_held_33 : decode cX0_held 33 = .ok (.iload 4, 2) := dk_21 4 (dk_at dksX0_held_1 10 rfl rfl)
theorem dX0_held_35 : decode cX0_held 35 = .ok (.ifCond .ge 6, 3) := dk_156 0 6 (dk_at dksX0_held_1 12 rfl rfl)
theorem dX0_held_38 : decode cX0_held 38 = .ok (.bipush (-11), 2) := dk_16 245 (dk_at dksX0_held_1 15 rfl rfl)
theorem dX0_held_40 : decode cX0_held 40 = .ok (.ireturn, 1) := dk_172 (dk_at dksX0_held_1 17 rfl rfl)
theorem dX0_held_41 : decode cX0_held 41 = .ok (.iload 4, 2) := dk_21 4 (dk_at dksX0_held_1 18 rfl rfl)
theorem dX0_held_43 : decode cX0_held 43 = .ok (.aload_n 0, 1) := dk_42 (dk_at dksX0_held_1 20 rfl rfl)
theorem dX0_held_44 : decode cX0_held 44 = .ok (.getfield 9, 3) := dk_180 0 9 (dk_at dksX0_held_1 21 rfl rfl)
theorem dX0_held_47 : decode cX0_held 47 = .ok (.if_icmp .eq 6, 3) := dk_159 0 6 (dk_at dksX0_held_2 0 rfl rfl)
theorem dX0_held_50 : decode cX0_held 50 = .ok (.bipush (-2), 2) := dk_16 254 (dk_at dksX0_held_2 3 rfl rfl)
theorem dX0_held_52 : decode cX0_held 52 = .ok (.ireturn, 1) := dk_172 (dk_at dksX0_held_2 5 rfl rfl)
theorem dX0_held_53 : decode cX0_held 53 = .ok (.aload_n 0, 1) := dk_42 (dk_at dksX0_held_2 6 rfl rfl)
theorem dX0_held_54 : decode cX0_held 54 = .ok (.iload_n 1, 1) := dk_27 (dk_at dksX0_held_2 7 rfl rfl)
theorem dX0_held_55 : decode cX0_held 55 = .ok (.iload_n 2, 1) := dk_28 (dk_at dksX0_held_2 8 rfl rfl)
theorem dX0_held_56 : decode cX0_held 56 = .ok (.invokevirtual 452, 3) := dk_182 1 196 (dk_at dksX0_held_2 9 rfl rfl)
theorem dX0_held_59 : decode cX0_held 59 = .ok (.istore 5, 2) := dk_54 5 (dk_at dksX0_held_2 12 rfl rfl)
theorem dX0_held_61 : decode cX0_held 61 = .ok (.iconst 0, 1) := dk_3 (dk_at dksX0_held_2 14 rfl rfl)
theorem dX0_held_62 : decode cX0_held 62 = .ok (.istore 6, 2) := dk_54 6 (dk_at dksX0_held_2 15 rfl rfl)
theorem dX0_held_64 : decode cX0_held 64 = .ok (.iload 6, 2) := dk_21 6 (dk_at dksX0_held_2 17 rfl rfl)
theorem dX0_held_66 : decode cX0_held 66 = .ok (.iload 4, 2) := dk_21 4 (dk_at dksX0_held_2 19 rfl rfl)
theorem dX0_held_68 : decode cX0_held 68 = .ok (.if_icmp .ge 29, 3) := dk_162 0 29 (dk_at dksX0_held_2 21 rfl rfl)
theorem dX0_held_71 : decode cX0_held 71 = .ok (.aload_n 0, 1) := dk_42 (dk_at dksX0_held_3 0 rfl rfl)
theorem dX0_held_72 : decode cX0_held 72 = .ok (.iload_n 3, 1) := dk_29 (dk_at dksX0_held_3 1 rfl rfl)
theorem dX0_held_73 : decode cX0_held 73 = .ok (.iload 6, 2) := dk_21 6 (dk_at dksX0_held_3 2 rfl rfl)
theorem dX0_held_75 : decode cX0_held 75 = .ok (.invokevirtual 461, 3) := dk_182 1 205 (dk_at dksX0_held_3 4 rfl rfl)
theorem dX0_held_78 : decode cX0_held 78 = .ok (.iload 5, 2) := dk_21 5 (dk_at dksX0_held_3 7 rfl rfl)
theorem dX0_held_80 : decode cX0_held 80 = .ok (.iload 6, 2) := dk_21 6 (dk_at dksX0_held_3 9 rfl rfl)
theorem dX0_held_82 : decode cX0_held 82 = .ok (.ishr, 1) := dk_122 (dk_at dksX0_held_3 11 rfl rfl)
theorem dX0_held_83 : decode cX0_held 83 = .ok (.iconst 1, 1) := dk_4 (dk_at dksX0_held_3 12 rfl rfl)
theorem dX0_held_84 : decode cX0_held 84 = .ok (.iand, 1) := dk_126 (dk_at dksX0_held_3 13 rfl rfl)
theorem dX0_held_85 : decode cX0_held 85 = .ok (.if_icmp .eq 6, 3) := dk_159 0 6 (dk_at dksX0_held_3 14 rfl rfl)
theorem dX0_held_88 : decode cX0_held 88 = .ok (.iload 6, 2) := dk_21 6 (dk_at dksX0_held_3 17 rfl rfl)
theorem dX0_held_90 : decode cX0_held 90 = .ok (.ireturn, 1) := dk_172 (dk_at dksX0_held_3 19 rfl rfl)
theorem dX0_held_91 : decode cX0_held 91 = .ok (.iinc 6 1, 3) := dk_132 6 1 (dk_at dksX0_held_3 20 rfl rfl)
theorem dX0_held_94 : decode cX0_held 94 = .ok (.goto (-30), 3) := dk_167 255 226 (dk_at dksX0_held_4 0 rfl rfl)
theorem dX0_held_97 : decode cX0_held 97 = .ok (.iconst (-1), 1) := dk_2 (dk_at dksX0_held_4 3 rfl rfl)
theorem dX0_held_98 : decode cX0_held 98 = .ok (.ireturn, 1) := dk_172 (dk_at dksX0_held_4 4 rfl rfl)
abbrev cX0_isSheet : ByteArray := prog_1_method_80_code
def yX0_isSheet : MethodName := ⟨RX0, "isSheet", "(I)Z"⟩
def dkwX0_isSheet_0 : List UInt8 := [26, 133, 9, 20, 1, 236, 184, 0, 5, 172]
abbrev dktX0_isSheet_0 : List UInt8 := dkwX0_isSheet_0 ++ []
theorem dksX0_isSheet_0 : cX0_isSheet.data.toList.drop 0 = dktX0_isSheet_0 := by decide +kernel
theorem dX0_isSheet_0 : decode cX0_isSheet 0 = .ok (.iload_n 0, 1) := dk_26 (dk_at dksX0_isSheet_0 0 rfl rfl)
theorem dX0_isSheet_1 : decode cX0_isSheet 1 = .ok (.i2l, 1) := dk_133 (dk_at dksX0_isSheet_0 1 rfl rfl)
theorem dX0_isSheet_2 : decode cX0_isSheet 2 = .ok (.lconst 0, 1) := dk_9 (dk_at dksX0_isSheet_0 2 rfl rfl)
theorem dX0_isSheet_3 : decode cX0_isSheet 3 = .ok (.ldc2_w 492, 3) := dk_20 1 236 (dk_at dksX0_isSheet_0 3 rfl rfl)
theorem dX0_isSheet_6 : decode cX0_isSheet 6 = .ok (.invokestatic 5, 3) := dk_184 0 5 (dk_at dksX0_isSheet_0 6 rfl rfl)
theorem dX0_isSheet_9 : decode cX0_isSheet 9 = .ok (.ireturn, 1) := dk_172 (dk_at dksX0_isSheet_0 9 rfl rfl)
abbrev cX0_sizeOf : ByteArray := prog_1_method_89_code
def yX0_sizeOf : MethodName := ⟨RX0, "sizeOf", "(I)I"⟩
def dkwX0_sizeOf_1 : List UInt8 := [184, 2, 15, 172]
abbrev dktX0_sizeOf_1 : List UInt8 := dkwX0_sizeOf_1 ++ []
def dkwX0_sizeOf_0 : List UInt8 := [42, 180, 1, 59, 27, 50, 180, 1, 240, 77, 44, 199, 0, 7, 2, 167, 0, 11, 44, 44, 184, 2, 11]
abbrev dktX0_sizeOf_0 : List UInt8 := dkwX0_sizeOf_0 ++ dktX0_sizeOf_1
theorem dksX0_sizeOf_0 : cX0_sizeOf.data.toList.drop 0 = dktX0_sizeOf_0 := by decide +kernel
theorem dksX0_sizeOf_1 : cX0_sizeOf.data.toList.drop 23 = dktX0_sizeOf_1 := dk_seg dksX0_sizeOf_0 23 rfl rfl
theorem dX0_sizeOf_0 : decode cX0_sizeOf 0 = .ok (.aload_n 0, 1) := dk_42 (dk_at dksX0_sizeOf_0 0 rfl rfl)
theorem dX0_sizeOf_1 : decode cX0_sizeOf 1 = .ok (.getfield 315, 3) := dk_180 1 59 (dk_at dksX0_sizeOf_0 1 rfl rfl)
theorem dX0_sizeOf_4 : decode cX0_sizeOf 4 = .ok (.iload_n 1, 1) := dk_27 (dk_at dksX0_sizeOf_0 4 rfl rfl)
theorem dX0_sizeOf_5 : decode cX0_sizeOf 5 = .ok (.aaload, 1) := dk_50 (dk_at dksX0_sizeOf_0 5 rfl rfl)
theorem dX0_sizeOf_6 : decode cX0_sizeOf 6 = .ok (.getfield 496, 3) := dk_180 1 240 (dk_at dksX0_sizeOf_0 6 rfl rfl)
theorem dX0_sizeOf_9 : decode cX0_sizeOf 9 = .ok (.astore_n 2, 1) := dk_77 (dk_at dksX0_sizeOf_0 9 rfl rfl)
theorem dX0_sizeOf_10 : decode cX0_sizeOf 10 = .ok (.aload_n 2, 1) := dk_44 (dk_at dksX0_sizeOf_0 10 rfl rfl)
theorem dX0_sizeOf_11 : decode cX0_sizeOf 11 = .ok (.ifnonnull 7, 3) := dk_199 0 7 (dk_at dksX0_sizeOf_0 11 rfl rfl)
theorem dX0_sizeOf_14 : decode cX0_sizeOf 14 = .ok (.iconst (-1), 1) := dk_2 (dk_at dksX0_sizeOf_0 14 rfl rfl)
theorem dX0_sizeOf_15 : decode cX0_sizeOf 15 = .ok (.goto 11, 3) := dk_167 0 11 (dk_at dksX0_sizeOf_0 15 rfl rfl)
theorem dX0_sizeOf_18 : decode cX0_sizeOf 18 = .ok (.aload_n 2, 1) := dk_44 (dk_at dksX0_sizeOf_0 18 rfl rfl)
theorem dX0_sizeOf_19 : decode cX0_sizeOf 19 = .ok (.aload_n 2, 1) := dk_44 (dk_at dksX0_sizeOf_0 19 rfl rfl)
theorem dX0_sizeOf_20 : decode cX0_sizeOf 20 = .ok (.invokestatic 523, 3) := dk_184 2 11 (dk_at dksX0_sizeOf_0 20 rfl rfl)
theorem dX0_sizeOf_23 : decode cX0_sizeOf 23 = .ok (.invokestatic 527, 3) := dk_184 2 15 (dk_at dksX0_sizeOf_1 0 rfl rfl)
theorem dX0_sizeOf_26 : decode cX0_sizeOf 26 = .ok (.ireturn, 1) := dk_172 (dk_at dksX0_sizeOf_1 3 rfl rfl)
abbrev cX0_sortOf : ByteArray := prog_1_method_88_code
def yX0_sortOf : MethodName := ⟨RX0, "sortOf", "(Ljava/lang/Object;)I"⟩
def dkwX0_sortOf_0 : List UInt8 := [42, 193, 1, 250, 153, 0, 7, 3, 167, 0, 15, 42, 193, 1, 255, 153, 0, 7, 4, 167, 0, 4, 5, 172]
abbrev dktX0_sortOf_0 : List UInt8 := dkwX0_sortOf_0 ++ []
theorem dksX0_sortOf_0 : cX0_sortOf.data.toList.drop 0 = dktX0_sortOf_0 := by decide +kernel
theorem dX0_sortOf_0 : decode cX0_sortOf 0 = .ok (.aload_n 0, 1) := dk_42 (dk_at dksX0_sortOf_0 0 rfl rfl)
theorem dX0_sortOf_1 : decode cX0_sortOf 1 = .ok (.instanceof 506, 3) := dk_193 1 250 (dk_at dksX0_sortOf_0 1 rfl rfl)
theorem dX0_sortOf_4 : decode cX0_sortOf 4 = .ok (.ifCond .eq 7, 3) := dk_153 0 7 (dk_at dksX0_sortOf_0 4 rfl rfl)
theorem dX0_sortOf_7 : decode cX0_sortOf 7 = .ok (.iconst 0, 1) := dk_3 (dk_at dksX0_sortOf_0 7 rfl rfl)
theorem dX0_sortOf_8 : decode cX0_sortOf 8 = .ok (.goto 15, 3) := dk_167 0 15 (dk_at dksX0_sortOf_0 8 rfl rfl)
theorem dX0_sortOf_11 : decode cX0_sortOf 11 = .ok (.aload_n 0, 1) := dk_42 (dk_at dksX0_sortOf_0 11 rfl rfl)
theorem dX0_sortOf_12 : decode cX0_sortOf 12 = .ok (.instanceof 511, 3) := dk_193 1 255 (dk_at dksX0_sortOf_0 12 rfl rfl)
theorem dX0_sortOf_15 : decode cX0_sortOf 15 = .ok (.ifCond .eq 7, 3) := dk_153 0 7 (dk_at dksX0_sortOf_0 15 rfl rfl)
theorem dX0_sortOf_18 : decode cX0_sortOf 18 = .ok (.iconst 1, 1) := dk_4 (dk_at dksX0_sortOf_0 18 rfl rfl)
theorem dX0_sortOf_19 : decode cX0_sortOf 19 = .ok (.goto 4, 3) := dk_167 0 4 (dk_at dksX0_sortOf_0 19 rfl rfl)
theorem dX0_sortOf_22 : decode cX0_sortOf 22 = .ok (.iconst 2, 1) := dk_5 (dk_at dksX0_sortOf_0 22 rfl rfl)
theorem dX0_sortOf_23 : decode cX0_sortOf 23 = .ok (.ireturn, 1) := dk_172 (dk_at dksX0_sortOf_0 23 rfl rfl)
abbrev cX0_lengthOf : ByteArray := prog_1_method_86_code
def yX0_lengthOf : MethodName := ⟨RX0, "lengthOf", "(Ljava/lang/Object;I)I"⟩
def dkwX0_lengthOf_2 : List UInt8 := [42, 192, 1, 250, 190, 172, 42, 192, 1, 255, 190, 172, 42, 192, 2, 1, 190, 172]
abbrev dktX0_lengthOf_2 : List UInt8 := dkwX0_lengthOf_2 ++ []
def dkwX0_lengthOf_1 : List UInt8 := [171, 0, 0, 0, 0, 0, 39, 0, 0, 0, 2, 0, 0, 0, 0, 0, 0, 0, 27, 0, 0, 0, 1, 0, 0, 0, 33]
abbrev dktX0_lengthOf_1 : List UInt8 := dkwX0_lengthOf_1 ++ dktX0_lengthOf_2
def dkwX0_lengthOf_0 : List UInt8 := [27]
abbrev dktX0_lengthOf_0 : List UInt8 := dkwX0_lengthOf_0 ++ dktX0_lengthOf_1
theorem dksX0_lengthOf_0 : cX0_lengthOf.data.toList.drop 0 = dktX0_lengthOf_0 := by decide +kernel
theorem dksX0_lengthOf_1 : cX0_lengthOf.data.toList.drop 1 = dktX0_lengthOf_1 := dk_seg dksX0_lengthOf_0 1 rfl rfl
theorem dksX0_lengthOf_2 : cX0_lengthOf.data.toList.drop 28 = dktX0_lengthOf_2 := dk_seg dksX0_lengthOf_1 27 rfl rfl
theorem dX0_lengthOf_0 : decode cX0_lengthOf 0 = .ok (.iload_n 1, 1) := dk_27 (dk_at dksX0_lengthOf_0 0 rfl rfl)
theorem dX0_lengthOf_1 : decode cX0_lengthOf 1 = .ok (.lookupswitch 39 #[(0, 27), (1, 33)], 27) := by decide +kernel
theorem dX0_lengthOf_28 : decode cX0_lengthOf 28 = .ok (.aload_n 0, 1) := dk_42 (dk_at dksX0_lengthOf_2 0 rfl rfl)
theorem dX0_lengthOf_29 : decode cX0_lengthOf 29 = .ok (.checkcast 506, 3) := dk_192 1 250 (dk_at dksX0_lengthOf_2 1 rfl rfl)
theorem dX0_lengthOf_32 : decode cX0_lengthOf 32 = .ok (.arraylength, 1) := dk_190 (dk_at dksX0_lengthOf_2 4 rfl rfl)
theorem dX0_lengthOf_33 : decode cX0_lengthOf 33 = .ok (.ireturn, 1) := dk_172 (dk_at dksX0_lengthOf_2 5 rfl rfl)
theorem dX0_lengthOf_34 : decode cX0_lengthOf 34 = .ok (.aload_n 0, 1) := dk_42 (dk_at dksX0_lengthOf_2 6 rfl rfl)
theorem dX0_lengthOf_35 : decode cX0_lengthOf 35 = .ok (.checkcast 511, 3) := dk_192 1 255 (dk_at dksX0_lengthOf_2 7 rfl rfl)
theorem dX0_lengthOf_38 : decode cX0_lengthOf 38 = .ok (.arraylength, 1) := dk_190 (dk_at dksX0_lengthOf_2 10 rfl rfl)
theorem dX0_lengthOf_39 : decode cX0_lengthOf 39 = .ok (.ireturn, 1) := dk_172 (dk_at dksX0_lengthOf_2 11 rfl rfl)
theorem dX0_lengthOf_40 : decode cX0_lengthOf 40 = .ok (.aload_n 0, 1) := dk_42 (dk_at dksX0_lengthOf_2 12 rfl rfl)
theorem dX0_lengthOf_41 : decode cX0_lengthOf 41 = .ok (.checkcast 513, 3) := dk_192 2 1 (dk_at dksX0_lengthOf_2 13 rfl rfl)
theorem dX0_lengthOf_44 : decode cX0_lengthOf 44 = .ok (.arraylength, 1) := dk_190 (dk_at dksX0_lengthOf_2 16 rfl rfl)
theorem dX0_lengthOf_45 : decode cX0_lengthOf 45 = .ok (.ireturn, 1) := dk_172 (dk_at dksX0_lengthOf_2 17 rfl rfl)
abbrev cX0_numberOf : ByteArray := prog_1_method_90_code
def yX0_numberOf : MethodName := ⟨RX0, "numberOf", "(II)I"⟩
def dkwX0_numberOf_0 : List UInt8 := [42, 180, 1, 59, 27, 50, 180, 1, 240, 78, 45, 45, 184, 2, 11, 28, 184, 2, 19, 172]
abbrev dktX0_numberOf_0 : List UInt8 := dkwX0_numberOf_0 ++ []
theorem dksX0_numberOf_0 : cX0_numberOf.data.toList.drop 0 = dktX0_numberOf_0 := by decide +kernel
theorem dX0_numberOf_0 : decode cX0_numberOf 0 = .ok (.aload_n 0, 1) := dk_42 (dk_at dksX0_numberOf_0 0 rfl rfl)
theorem dX0_numberOf_1 : decode cX0_numberOf 1 = .ok (.getfield 315, 3) := dk_180 1 59 (dk_at dksX0_numberOf_0 1 rfl rfl)
theorem dX0_numberOf_4 : decode cX0_numberOf 4 = .ok (.iload_n 1, 1) := dk_27 (dk_at dksX0_numberOf_0 4 rfl rfl)
theorem dX0_numberOf_5 : decode cX0_numberOf 5 = .ok (.aaload, 1) := dk_50 (dk_at dksX0_numberOf_0 5 rfl rfl)
theorem dX0_numberOf_6 : decode cX0_numberOf 6 = .ok (.getfield 496, 3) := dk_180 1 240 (dk_at dksX0_numberOf_0 6 rfl rfl)
theorem dX0_numberOf_9 : decode cX0_numberOf 9 = .ok (.astore_n 3, 1) := dk_78 (dk_at dksX0_numberOf_0 9 rfl rfl)
theorem dX0_numberOf_10 : decode cX0_numberOf 10 = .ok (.aload_n 3, 1) := dk_45 (dk_at dksX0_numberOf_0 10 rfl rfl)
theorem dX0_numberOf_11 : decode cX0_numberOf 11 = .ok (.aload_n 3, 1) := dk_45 (dk_at dksX0_numberOf_0 11 rfl rfl)
theorem dX0_numberOf_12 : decode cX0_numberOf 12 = .ok (.invokestatic 523, 3) := dk_184 2 11 (dk_at dksX0_numberOf_0 12 rfl rfl)
theorem dX0_numberOf_15 : decode cX0_numberOf 15 = .ok (.iload_n 2, 1) := dk_28 (dk_at dksX0_numberOf_0 15 rfl rfl)
theorem dX0_numberOf_16 : decode cX0_numberOf 16 = .ok (.invokestatic 531, 3) := dk_184 2 19 (dk_at dksX0_numberOf_0 16 rfl rfl)
theorem dX0_numberOf_19 : decode cX0_numberOf 19 = .ok (.ireturn, 1) := dk_172 (dk_at dksX0_numberOf_0 19 rfl rfl)
abbrev cX0_item : ByteArray := prog_1_method_85_code
def yX0_item : MethodName := ⟨RX0, "item", "(Ljava/lang/Object;II)I"⟩
def dkwX0_item_4 : List UInt8 := [46, 172]
abbrev dktX0_item_4 : List UInt8 := dkwX0_item_4 ++ []
def dkwX0_item_3 : List UInt8 := [184, 1, 251, 42, 192, 1, 255, 28, 53, 172, 28, 42, 192, 2, 1, 190, 184, 1, 251, 42, 192, 2, 1, 28]
abbrev dktX0_item_3 : List UInt8 := dkwX0_item_3 ++ dktX0_item_4
def dkwX0_item_2 : List UInt8 := [28, 42, 192, 1, 250, 190, 184, 1, 251, 42, 192, 1, 250, 28, 51, 172, 28, 42, 192, 1, 255, 190]
abbrev dktX0_item_2 : List UInt8 := dkwX0_item_2 ++ dktX0_item_3
def dkwX0_item_1 : List UInt8 := [171, 0, 0, 0, 0, 0, 59, 0, 0, 0, 2, 0, 0, 0, 0, 0, 0, 0, 27, 0, 0, 0, 1, 0, 0, 0, 43]
abbrev dktX0_item_1 : List UInt8 := dkwX0_item_1 ++ dktX0_item_2
def dkwX0_item_0 : List UInt8 := [27]
abbrev dktX0_item_0 : List UInt8 := dkwX0_item_0 ++ dktX0_item_1
theorem dksX0_item_0 : cX0_item.data.toList.drop 0 = dktX0_item_0 := by decide +kernel
theorem dksX0_item_1 : cX0_item.data.toList.drop 1 = dktX0_item_1 := dk_seg dksX0_item_0 1 rfl rfl
theorem dksX0_item_2 : cX0_item.data.toList.drop 28 = dktX0_item_2 := dk_seg dksX0_item_1 27 rfl rfl
theorem dksX0_item_3 : cX0_item.data.toList.drop 50 = dktX0_item_3 := dk_seg dksX0_item_2 22 rfl rfl
theorem dksX0_item_4 : cX0_item.data.toList.drop 74 = dktX0_item_4 := dk_seg dksX0_item_3 24 rfl rfl
theorem dX0_item_0 : decode cX0_item 0 = .ok (.iload_n 1, 1) := dk_27 (dk_at dksX0_item_0 0 rfl rfl)
theorem dX0_item_1 : decode cX0_item 1 = .ok (.lookupswitch 59 #[(0, 27), (1, 43)], 27) := by decide +kernel
theorem dX0_item_28 : decode cX0_item 28 = .ok (.iload_n 2, 1) := dk_28 (dk_at dksX0_item_2 0 rfl rfl)
theorem dX0_item_29 : decode cX0_item 29 = .ok (.aload_n 0, 1) := dk_42 (dk_at dksX0_item_2 1 rfl rfl)
theorem dX0_item_30 : decode cX0_item 30 = .ok (.checkcast 506, 3) := dk_192 1 250 (dk_at dksX0_item_2 2 rfl rfl)
theorem dX0_item_33 : decode cX0_item 33 = .ok (.arraylength, 1) := dk_190 (dk_at dksX0_item_2 5 rfl rfl)
theorem dX0_item_34 : decode cX0_item 34 = .ok (.invokestatic 507, 3) := dk_184 1 251 (dk_at dksX0_item_2 6 rfl rfl)
theorem dX0_item_37 : decode cX0_item 37 = .ok (.aload_n 0, 1) := dk_42 (dk_at dksX0_item_2 9 rfl rfl)
theorem dX0_item_38 : decode cX0_item 38 = .ok (.checkcast 506, 3) := dk_192 1 250 (dk_at dksX0_item_2 10 rfl rfl)
theorem dX0_item_41 : decode cX0_item 41 = .ok (.iload_n 2, 1) := dk_28 (dk_at dksX0_item_2 13 rfl rfl)
theorem dX0_item_42 : decode cX0_item 42 = .ok (.baload, 1) := dk_51 (dk_at dksX0_item_2 14 rfl rfl)
theorem dX0_item_43 : decode cX0_item 43 = .ok (.ireturn, 1) := dk_172 (dk_at dksX0_item_2 15 rfl rfl)
theorem dX0_item_44 : decode cX0_item 44 = .ok (.iload_n 2, 1) := dk_28 (dk_at dksX0_item_2 16 rfl rfl)
theorem dX0_item_45 : decode cX0_item 45 = .ok (.aload_n 0, 1) := dk_42 (dk_at dksX0_item_2 17 rfl rfl)
theorem dX0_item_46 : decode cX0_item 46 = .ok (.checkcast 511, 3) := dk_192 1 255 (dk_at dksX0_item_2 18 rfl rfl)
theorem dX0_item_49 : decode cX0_item 49 = .ok (.arraylength, 1) := dk_190 (dk_at dksX0_item_2 21 rfl rfl)
theorem dX0_item_50 : decode cX0_item 50 = .ok (.invokestatic 507, 3) := dk_184 1 251 (dk_at dksX0_item_3 0 rfl rfl)
theorem dX0_item_53 : decode cX0_item 53 = .ok (.aload_n 0, 1) := dk_42 (dk_at dksX0_item_3 3 rfl rfl)
theorem dX0_item_54 : decode cX0_item 54 = .ok (.checkcast 511, 3) := dk_192 1 255 (dk_at dksX0_item_3 4 rfl rfl)
theorem dX0_item_57 : decode cX0_item 57 = .ok (.iload_n 2, 1) := dk_28 (dk_at dksX0_item_3 7 rfl rfl)
theorem dX0_item_58 : decode cX0_item 58 = .ok (.saload, 1) := dk_53 (dk_at dksX0_item_3 8 rfl rfl)
theorem dX0_item_59 : decode cX0_item 59 = .ok (.ireturn, 1) := dk_172 (dk_at dksX0_item_3 9 rfl rfl)
theorem dX0_item_60 : decode cX0_item 60 = .ok (.iload_n 2, 1) := dk_28 (dk_at dksX0_item_3 10 rfl rfl)
theorem dX0_item_61 : decode cX0_item 61 = .ok (.aload_n 0, 1) := dk_42 (dk_at dksX0_item_3 11 rfl rfl)
theorem dX0_item_62 : decode cX0_item 62 = .ok (.checkcast 513, 3) := dk_192 2 1 (dk_at dksX0_item_3 12 rfl rfl)
theorem dX0_item_65 : decode cX0_item 65 = .ok (.arraylength, 1) := dk_190 (dk_at dksX0_item_3 15 rfl rfl)
theorem dX0_item_66 : decode cX0_item 66 = .ok (.invokestatic 507, 3) := dk_184 1 251 (dk_at dksX0_item_3 16 rfl rfl)
theorem dX0_item_69 : decode cX0_item 69 = .ok (.aload_n 0, 1) := dk_42 (dk_at dksX0_item_3 19 rfl rfl)
theorem dX0_item_70 : decode cX0_item 70 = .ok (.checkcast 513, 3) := dk_192 2 1 (dk_at dksX0_item_3 20 rfl rfl)
theorem dX0_item_73 : decode cX0_item 73 = .ok (.iload_n 2, 1) := dk_28 (dk_at dksX0_item_3 23 rfl rfl)
theorem dX0_item_74 : decode cX0_item 74 = .ok (.iaload, 1) := dk_46 (dk_at dksX0_item_4 0 rfl rfl)
theorem dX0_item_75 : decode cX0_item 75 = .ok (.ireturn, 1) := dk_172 (dk_at dksX0_item_4 1 rfl rfl)
abbrev cX0_asksPlace : ByteArray := prog_1_method_87_code
def yX0_asksPlace : MethodName := ⟨RX0, "asksPlace", "(II)V"⟩
def dkwX0_asksPlace_0 : List UInt8 := [26, 155, 0, 8, 26, 27, 161, 0, 11, 187, 2, 8, 89, 183, 2, 10, 191, 177]
abbrev dktX0_asksPlace_0 : List UInt8 := dkwX0_asksPlace_0 ++ []
theorem dksX0_asksPlace_0 : cX0_asksPlace.data.toList.drop 0 = dktX0_asksPlace_0 := by decide +kernel
theorem dX0_asksPlace_0 : decode cX0_asksPlace 0 = .ok (.iload_n 0, 1) := dk_26 (dk_at dksX0_asksPlace_0 0 rfl rfl)
theorem dX0_asksPlace_1 : decode cX0_asksPlace 1 = .ok (.ifCond .lt 8, 3) := dk_155 0 8 (dk_at dksX0_asksPlace_0 1 rfl rfl)
theorem dX0_asksPlace_4 : decode cX0_asksPlace 4 = .ok (.iload_n 0, 1) := dk_26 (dk_at dksX0_asksPlace_0 4 rfl rfl)
theorem dX0_asksPlace_5 : decode cX0_asksPlace 5 = .ok (.iload_n 1, 1) := dk_27 (dk_at dksX0_asksPlace_0 5 rfl rfl)
theorem dX0_asksPlace_6 : decode cX0_asksPlace 6 = .ok (.if_icmp .lt 11, 3) := dk_161 0 11 (dk_at dksX0_asksPlace_0 6 rfl rfl)
theorem dX0_asksPlace_9 : decode cX0_asksPlace 9 = .ok (.new 520, 3) := dk_187 2 8 (dk_at dksX0_asksPlace_0 9 rfl rfl)
theorem dX0_asksPlace_12 : decode cX0_asksPlace 12 = .ok (.dup, 1) := dk_89 (dk_at dksX0_asksPlace_0 12 rfl rfl)
theorem dX0_asksPlace_13 : decode cX0_asksPlace 13 = .ok (.invokespecial 522, 3) := dk_183 2 10 (dk_at dksX0_asksPlace_0 13 rfl rfl)
theorem dX0_asksPlace_16 : decode cX0_asksPlace 16 = .ok (.athrow, 1) := dk_191 (dk_at dksX0_asksPlace_0 16 rfl rfl)
theorem dX0_asksPlace_17 : decode cX0_asksPlace 17 = .ok (.return_, 1) := dk_177 (dk_at dksX0_asksPlace_0 17 rfl rfl)
abbrev cX0_cross : ByteArray := prog_1_method_72_code
def yX0_cross : MethodName := ⟨RX0, "cross", "(II)I"⟩
def dkwX0_cross_2 : List UInt8 := [180, 1, 47, 42, 180, 1, 208, 28, 79, 42, 89, 180, 1, 208, 4, 96, 181, 1, 208, 42, 180, 1, 208, 172]
abbrev dktX0_cross_2 : List UInt8 := dkwX0_cross_2 ++ []
def dkwX0_cross_1 : List UInt8 := [42, 180, 1, 208, 16, 20, 160, 0, 6, 16, 252, 172, 42, 180, 1, 44, 42, 180, 1, 208, 27, 79, 42]
abbrev dktX0_cross_1 : List UInt8 := dkwX0_cross_1 ++ dktX0_cross_2
def dkwX0_cross_0 : List UInt8 := [42, 27, 182, 1, 138, 153, 0, 16, 42, 28, 182, 1, 138, 153, 0, 8, 27, 28, 160, 0, 6, 16, 254, 172]
abbrev dktX0_cross_0 : List UInt8 := dkwX0_cross_0 ++ dktX0_cross_1
theorem dksX0_cross_0 : cX0_cross.data.toList.drop 0 = dktX0_cross_0 := by decide +kernel
theorem dksX0_cross_1 : cX0_cross.data.toList.drop 24 = dktX0_cross_1 := dk_seg dksX0_cross_0 24 rfl rfl
theorem dksX0_cross_2 : cX0_cross.data.toList.drop 47 = dktX0_cross_2 := dk_seg dksX0_cross_1 23 rfl rfl
theorem dX0_cross_0 : decode cX0_cross 0 = .ok (.aload_n 0, 1) := dk_42 (dk_at dksX0_cross_0 0 rfl rfl)
theorem dX0_cross_1 : decode cX0_cross 1 = .ok (.iload_n 1, 1) := dk_27 (dk_at dksX0_cross_0 1 rfl rfl)
theorem dX0_cross_2 : decode cX0_cross 2 = .ok (.invokevirtual 394, 3) := dk_182 1 138 (dk_at dksX0_cross_0 2 rfl rfl)
theorem dX0_cross_5 : decode cX0_cross 5 = .ok (.ifCond .eq 16, 3) := dk_153 0 16 (dk_at dksX0_cross_0 5 rfl rfl)
theorem dX0_cross_8 : decode cX0_cross 8 = .ok (.aload_n 0, 1) := dk_42 (dk_at dksX0_cross_0 8 rfl rfl)
theorem dX0_cross_9 : decode cX0_cross 9 = .ok (.iload_n 2, 1) := dk_28 (dk_at dksX0_cross_0 9 rfl rfl)
theorem dX0_cross_10 : decode cX0_cross 10 = .ok (.invokevirtual 394, 3) := dk_182 1 138 (dk_at dksX0_cross_0 10 rfl rfl)
theorem dX0_cross_13 : decode cX0_cross 13 = .ok (.ifCond .eq 8, 3) := dk_153 0 8 (dk_at dksX0_cross_0 13 rfl rfl)
theorem dX0_cross_16 : decode cX0_cross 16 = .ok (.iload_n 1, 1) := dk_27 (dk_at dksX0_cross_0 16 rfl rfl)
theorem dX0_cross_17 : decode cX0_cross 17 = .ok (.iload_n 2, 1) := dk_28 (dk_at dksX0_cross_0 17 rfl rfl)
theorem dX0_cross_18 : decode cX0_cross 18 = .ok (.if_icmp .ne 6, 3) := dk_160 0 6 (dk_at dksX0_cross_0 18 rfl rfl)
theorem dX0_cross_21 : decode cX0_cross 21 = .ok (.bipush (-2), 2) := dk_16 254 (dk_at dksX0_cross_0 21 rfl rfl)
theorem dX0_cross_23 : decode cX0_cross 23 = .ok (.ireturn, 1) := dk_172 (dk_at dksX0_cross_0 23 rfl rfl)
theorem dX0_cross_24 : decode cX0_cross 24 = .ok (.aload_n 0, 1) := dk_42 (dk_at dksX0_cross_1 0 rfl rfl)
theorem dX0_cross_25 : decode cX0_cross 25 = .ok (.getfield 464, 3) := dk_180 1 208 (dk_at dksX0_cross_1 1 rfl rfl)
theorem dX0_cross_28 : decode cX0_cross 28 = .ok (.bipush 20, 2) := dk_16 20 (dk_at dksX0_cross_1 4 rfl rfl)
theorem dX0_cross_30 : decode cX0_cross 30 = .ok (.if_icmp .ne 6, 3) := dk_160 0 6 (dk_at dksX0_cross_1 6 rfl rfl)
theorem dX0_cross_33 : decode cX0_cross 33 = .ok (.bipush (-4), 2) := dk_16 252 (dk_at dksX0_cross_1 9 rfl rfl)
theorem dX0_cross_35 : decode cX0_cross 35 = .ok (.ireturn, 1) := dk_172 (dk_at dksX0_cross_1 11 rfl rfl)
theorem dX0_cross_36 : decode cX0_cross 36 = .ok (.aload_n 0, 1) := dk_42 (dk_at dksX0_cross_1 12 rfl rfl)
theorem dX0_cross_37 : decode cX0_cross 37 = .ok (.getfield 300, 3) := dk_180 1 44 (dk_at dksX0_cross_1 13 rfl rfl)
theorem dX0_cross_40 : decode cX0_cross 40 = .ok (.aload_n 0, 1) := dk_42 (dk_at dksX0_cross_1 16 rfl rfl)
theorem dX0_cross_41 : decode cX0_cross 41 = .ok (.getfield 464, 3) := dk_180 1 208 (dk_at dksX0_cross_1 17 rfl rfl)
theorem dX0_cross_44 : decode cX0_cross 44 = .ok (.iload_n 1, 1) := dk_27 (dk_at dksX0_cross_1 20 rfl rfl)
theorem dX0_cross_45 : decode cX0_cross 45 = .ok (.iastore, 1) := dk_79 (dk_at dksX0_cross_1 21 rfl rfl)
theorem dX0_cross_46 : decode cX0_cross 46 = .ok (.aload_n 0, 1) := dk_42 (dk_at dksX0_cross_1 22 rfl rfl)
theorem dX0_cross_47 : decode cX0_cross 47 = .ok (.getfield 303, 3) := dk_180 1 47 (dk_at dksX0_cross_2 0 rfl rfl)
theorem dX0_cross_50 : decode cX0_cross 50 = .ok (.aload_n 0, 1) := dk_42 (dk_at dksX0_cross_2 3 rfl rfl)
theorem dX0_cross_51 : decode cX0_cross 51 = .ok (.getfield 464, 3) := dk_180 1 208 (dk_at dksX0_cross_2 4 rfl rfl)
theorem dX0_cross_54 : decode cX0_cross 54 = .ok (.iload_n 2, 1) := dk_28 (dk_at dksX0_cross_2 7 rfl rfl)
theorem dX0_cross_55 : decode cX0_cross 55 = .ok (.iastore, 1) := dk_79 (dk_at dksX0_cross_2 8 rfl rfl)
theorem dX0_cross_56 : decode cX0_cross 56 = .ok (.aload_n 0, 1) := dk_42 (dk_at dksX0_cross_2 9 rfl rfl)
theorem dX0_cross_57 : decode cX0_cross 57 = .ok (.dup, 1) := dk_89 (dk_at dksX0_cross_2 10 rfl rfl)
theorem dX0_cross_58 : decode cX0_cross 58 = .ok (.getfield 464, 3) := dk_180 1 208 (dk_at dksX0_cross_2 11 rfl rfl)
theorem dX0_cross_61 : decode cX0_cross 61 = .ok (.iconst 1, 1) := dk_4 (dk_at dksX0_cross_2 14 rfl rfl)
theorem dX0_cross_62 : decode cX0_cross 62 = .ok (.iadd, 1) := dk_96 (dk_at dksX0_cross_2 15 rfl rfl)
theorem dX0_cross_63 : decode cX0_cross 63 = .ok (.putfield 464, 3) := dk_181 1 208 (dk_at dksX0_cross_2 16 rfl rfl)
theorem dX0_cross_66 : decode cX0_cross 66 = .ok (.aload_n 0, 1) := dk_42 (dk_at dksX0_cross_2 19 rfl rfl)
theorem dX0_cross_67 : decode cX0_cross 67 = .ok (.getfield 464, 3) := dk_180 1 208 (dk_at dksX0_cross_2 20 rfl rfl)
theorem dX0_cross_70 : decode cX0_cross 70 = .ok (.ireturn, 1) := dk_172 (dk_at dksX0_cross_2 23 rfl rfl)
abbrev cX0_order : ByteArray := prog_1_method_75_code
def yX0_order : MethodName := ⟨RX0, "order", "(I)I"⟩
def dkwX0_order_2 : List UInt8 := [42, 28, 182, 1, 214, 62, 132, 4, 1, 167, 255, 230, 29, 172]
abbrev dktX0_order_2 : List UInt8 := dkwX0_order_2 ++ []
def dkwX0_order_1 : List UInt8 := [182, 1, 214, 62, 3, 54, 4, 21, 4, 27, 162, 0, 26, 29, 2, 159, 0, 21, 28, 4, 29, 120, 128, 61]
abbrev dktX0_order_1 : List UInt8 := dkwX0_order_1 ++ dktX0_order_2
def dkwX0_order_0 : List UInt8 := [27, 133, 9, 42, 180, 1, 130, 4, 100, 133, 184, 0, 5, 154, 0, 6, 16, 254, 172, 3, 61, 42, 28]
abbrev dktX0_order_0 : List UInt8 := dkwX0_order_0 ++ dktX0_order_1
theorem dksX0_order_0 : cX0_order.data.toList.drop 0 = dktX0_order_0 := by decide +kernel
theorem dksX0_order_1 : cX0_order.data.toList.drop 23 = dktX0_order_1 := dk_seg dksX0_order_0 23 rfl rfl
theorem dksX0_order_2 : cX0_order.data.toList.drop 47 = dktX0_order_2 := dk_seg dksX0_order_1 24 rfl rfl
theorem dX0_order_0 : decode cX0_order 0 = .ok (.iload_n 1, 1) := dk_27 (dk_at dksX0_order_0 0 rfl rfl)
theorem dX0_order_1 : decode cX0_order 1 = .ok (.i2l, 1) := dk_133 (dk_at dksX0_order_0 1 rfl rfl)
theorem dX0_order_2 : decode cX0_order 2 = .ok (.lconst 0, 1) := dk_9 (dk_at dksX0_order_0 2 rfl rfl)
theorem dX0_order_3 : decode cX0_order 3 = .ok (.aload_n 0, 1) := dk_42 (dk_at dksX0_order_0 3 rfl rfl)
theorem dX0_order_4 : decode cX0_order 4 = .ok (.getfield 386, 3) := dk_180 1 130 (dk_at dksX0_order_0 4 rfl rfl)
theorem dX0_order_7 : decode cX0_order 7 = .ok (.iconst 1, 1) := dk_4 (dk_at dksX0_order_0 7 rfl rfl)
theorem dX0_order_8 : decode cX0_order 8 = .ok (.isub, 1) := dk_100 (dk_at dksX0_order_0 8 rfl rfl)
theorem dX0_order_9 : decode cX0_order 9 = .ok (.i2l, 1) := dk_133 (dk_at dksX0_order_0 9 rfl rfl)
theorem dX0_order_10 : decode cX0_order 10 = .ok (.invokestatic 5, 3) := dk_184 0 5 (dk_at dksX0_order_0 10 rfl rfl)
theorem dX0_order_13 : decode cX0_order 13 = .ok (.ifCond .ne 6, 3) := dk_154 0 6 (dk_at dksX0_order_0 13 rfl rfl)
theorem dX0_order_16 : decode cX0_order 16 = .ok (.bipush (-2), 2) := dk_16 254 (dk_at dksX0_order_0 16 rfl rfl)
theorem dX0_order_18 : decode cX0_order 18 = .ok (.ireturn, 1) := dk_172 (dk_at dksX0_order_0 18 rfl rfl)
theorem dX0_order_19 : decode cX0_order 19 = .ok (.iconst 0, 1) := dk_3 (dk_at dksX0_order_0 19 rfl rfl)
theorem dX0_order_20 : decode cX0_order 20 = .ok (.istore_n 2, 1) := dk_61 (dk_at dksX0_order_0 20 rfl rfl)
theorem dX0_order_21 : decode cX0_order 21 = .ok (.aload_n 0, 1) := dk_42 (dk_at dksX0_order_0 21 rfl rfl)
theorem dX0_order_22 : decode cX0_order 22 = .ok (.iload_n 2, 1) := dk_28 (dk_at dksX0_order_0 22 rfl rfl)
theorem dX0_order_23 : decode cX0_order 23 = .ok (.invokevirtual 470, 3) := dk_182 1 214 (dk_at dksX0_order_1 0 rfl rfl)
theorem dX0_order_26 : decode cX0_order 26 = .ok (.istore_n 3, 1) := dk_62 (dk_at dksX0_order_1 3 rfl rfl)
theorem dX0_order_27 : decode cX0_order 27 = .ok (.iconst 0, 1) := dk_3 (dk_at dksX0_order_1 4 rfl rfl)
theorem dX0_order_28 : decode cX0_order 28 = .ok (.istore 4, 2) := dk_54 4 (dk_at dksX0_order_1 5 rfl rfl)
theorem dX0_order_30 : decode cX0_order 30 = .ok (.iload 4, 2) := dk_21 4 (dk_at dksX0_order_1 7 rfl rfl)
theorem dX0_order_32 : decode cX0_order 32 = .ok (.iload_n 1, 1) := dk_27 (dk_at dksX0_order_1 9 rfl rfl)
theorem dX0_order_33 : decode cX0_order 33 = .ok (.if_icmp .ge 26, 3) := dk_162 0 26 (dk_at dksX0_order_1 10 rfl rfl)
theorem dX0_order_36 : decode cX0_order 36 = .ok (.iload_n 3, 1) := dk_29 (dk_at dksX0_order_1 13 rfl rfl)
theorem dX0_order_37 : decode cX0_order 37 = .ok (.iconst (-1), 1) := dk_2 (dk_at dksX0_order_1 14 rfl rfl)
theorem dX0_order_38 : decode cX0_order 38 = .ok (.if_icmp .eq 21, 3) := dk_159 0 21 (dk_at dksX0_order_1 15 rfl rfl)
theorem dX0_order_41 : decode cX0_order 41 = .ok (.iload_n 2, 1) := dk_28 (dk_at dksX0_order_1 18 rfl rfl)
theorem dX0_order_42 : decode cX0_order 42 = .ok (.iconst 1, 1) := dk_4 (dk_at dksX0_order_1 19 rfl rfl)
theorem dX0_order_43 : decode cX0_order 43 = .ok (.iload_n 3, 1) := dk_29 (dk_at dksX0_order_1 20 rfl rfl)
theorem dX0_order_44 : decode cX0_order 44 = .ok (.ishl, 1) := dk_120 (dk_at dksX0_order_1 21 rfl rfl)
theorem dX0_order_45 : decode cX0_order 45 = .ok (.ior, 1) := dk_128 (dk_at dksX0_order_1 22 rfl rfl)
theorem dX0_order_46 : decode cX0_order 46 = .ok (.istore_n 2, 1) := dk_61 (dk_at dksX0_order_1 23 rfl rfl)
theorem dX0_order_47 : decode cX0_order 47 = .ok (.aload_n 0, 1) := dk_42 (dk_at dksX0_order_2 0 rfl rfl)
theorem dX0_order_48 : decode cX0_order 48 = .ok (.iload_n 2, 1) := dk_28 (dk_at dksX0_order_2 1 rfl rfl)
theorem dX0_order_49 : decode cX0_order 49 = .ok (.invokevirtual 470, 3) := dk_182 1 214 (dk_at dksX0_order_2 2 rfl rfl)
theorem dX0_order_52 : decode cX0_order 52 = .ok (.istore_n 3, 1) := dk_62 (dk_at dksX0_order_2 5 rfl rfl)
theorem dX0_order_53 : decode cX0_order 53 = .ok (.iinc 4 1, 3) := dk_132 4 1 (dk_at dksX0_order_2 6 rfl rfl)
theorem dX0_order_56 : decode cX0_order 56 = .ok (.goto (-26), 3) := dk_167 255 230 (dk_at dksX0_order_2 9 rfl rfl)
theorem dX0_order_59 : decode cX0_order 59 = .ok (.iload_n 3, 1) := dk_29 (dk_at dksX0_order_2 12 rfl rfl)
theorem dX0_order_60 : decode cX0_order 60 = .ok (.ireturn, 1) := dk_172 (dk_at dksX0_order_2 13 rfl rfl)
abbrev cX0_nextTrack : ByteArray := prog_1_method_74_code
def yX0_nextTrack : MethodName := ⟨RX0, "nextTrack", "(I)I"⟩
def dkwX0_nextTrack_1 : List UInt8 := [153, 0, 5, 28, 172, 132, 2, 1, 167, 255, 226, 2, 172]
abbrev dktX0_nextTrack_1 : List UInt8 := dkwX0_nextTrack_1 ++ []
def dkwX0_nextTrack_0 : List UInt8 := [3, 61, 28, 42, 180, 1, 130, 162, 0, 28, 27, 28, 122, 4, 126, 154, 0, 14, 42, 28, 27, 182, 1, 211]
abbrev dktX0_nextTrack_0 : List UInt8 := dkwX0_nextTrack_0 ++ dktX0_nextTrack_1
theorem dksX0_nextTrack_0 : cX0_nextTrack.data.toList.drop 0 = dktX0_nextTrack_0 := by decide +kernel
theorem dksX0_nextTrack_1 : cX0_nextTrack.data.toList.drop 24 = dktX0_nextTrack_1 := dk_seg dksX0_nextTrack_0 24 rfl rfl
theorem dX0_nextTrack_0 : decode cX0_nextTrack 0 = .ok (.iconst 0, 1) := dk_3 (dk_at dksX0_nextTrack_0 0 rfl rfl)
theorem dX0_nextTrack_1 : decode cX0_nextTrack 1 = .ok (.istore_n 2, 1) := dk_61 (dk_at dksX0_nextTrack_0 1 rfl rfl)
theorem dX0_nextTrack_2 : decode cX0_nextTrack 2 = .ok (.iload_n 2, 1) := dk_28 (dk_at dksX0_nextTrack_0 2 rfl rfl)
theorem dX0_nextTrack_3 : decode cX0_nextTrack 3 = .ok (.aload_n 0, 1) := dk_42 (dk_at dksX0_nextTrack_0 3 rfl rfl)
theorem dX0_nextTrack_4 : decode cX0_nextTrack 4 = .ok (.getfield 386, 3) := dk_180 1 130 (dk_at dksX0_nextTrack_0 4 rfl rfl)
theorem dX0_nextTrack_7 : decode cX0_nextTrack 7 = .ok (.if_icmp .ge 28, 3) := dk_162 0 28 (dk_at dksX0_nextTrack_0 7 rfl rfl)
theorem dX0_nextTrack_10 : decode cX0_nextTrack 10 = .ok (.iload_n 1, 1) := dk_27 (dk_at dksX0_nextTrack_0 10 rfl rfl)
theorem dX0_nextTrack_11 : decode cX0_nextTrack 11 = .ok (.iload_n 2, 1) := dk_28 (dk_at dksX0_nextTrack_0 11 rfl rfl)
theorem dX0_nextTrack_12 : decode cX0_nextTrack 12 = .ok (.ishr, 1) := dk_122 (dk_at dksX0_nextTrack_0 12 rfl rfl)
theorem dX0_nextTrack_13 : decode cX0_nextTrack 13 = .ok (.iconst 1, 1) := dk_4 (dk_at dksX0_nextTrack_0 13 rfl rfl)
theorem dX0_nextTrack_14 : decode cX0_nextTrack 14 = .ok (.iand, 1) := dk_126 (dk_at dksX0_nextTrack_0 14 rfl rfl)
theorem dX0_nextTrack_15 : decode cX0_nextTrack 15 = .ok (.ifCond .ne 14, 3) := dk_154 0 14 (dk_at dksX0_nextTrack_0 15 rfl rfl)
theorem dX0_nextTrack_18 : decode cX0_nextTrack 18 = .ok (.aload_n 0, 1) := dk_42 (dk_at dksX0_nextTrack_0 18 rfl rfl)
theorem dX0_nextTrack_19 : decode cX0_nextTrack 19 = .ok (.iload_n 2, 1) := dk_28 (dk_at dksX0_nextTrack_0 19 rfl rfl)
theorem dX0_nextTrack_20 : decode cX0_nextTrack 20 = .ok (.iload_n 1, 1) := dk_27 (dk_at dksX0_nextTrack_0 20 rfl rfl)
theorem dX0_nextTrack_21 : decode cX0_nextTrack 21 = .ok (.invokevirtual 467, 3) := dk_182 1 211 (dk_at dksX0_nextTrack_0 21 rfl rfl)
theorem dX0_nextTrack_24 : decode cX0_nextTrack 24 = .ok (.ifCond .eq 5, 3) := dk_153 0 5 (dk_at dksX0_nextTrack_1 0 rfl rfl)
theorem dX0_nextTrack_27 : decode cX0_nextTrack 27 = .ok (.iload_n 2, 1) := dk_28 (dk_at dksX0_nextTrack_1 3 rfl rfl)
theorem dX0_nextTrack_28 : decode cX0_nextTrack 28 = .ok (.ireturn, 1) := dk_172 (dk_at dksX0_nextTrack_1 4 rfl rfl)
theorem dX0_nextTrack_29 : decode cX0_nextTrack 29 = .ok (.iinc 2 1, 3) := dk_132 2 1 (dk_at dksX0_nextTrack_1 5 rfl rfl)
theorem dX0_nextTrack_32 : decode cX0_nextTrack 32 = .ok (.goto (-30), 3) := dk_167 255 226 (dk_at dksX0_nextTrack_1 8 rfl rfl)
theorem dX0_nextTrack_35 : decode cX0_nextTrack 35 = .ok (.iconst (-1), 1) := dk_2 (dk_at dksX0_nextTrack_1 11 rfl rfl)
theorem dX0_nextTrack_36 : decode cX0_nextTrack 36 = .ok (.ireturn, 1) := dk_172 (dk_at dksX0_nextTrack_1 12 rfl rfl)
abbrev cX0_isEldest : ByteArray := prog_1_method_73_code
def yX0_isEldest : MethodName := ⟨RX0, "isEldest", "(II)Z"⟩
def dkwX0_isEldest_1 : List UInt8 := [180, 1, 47, 29, 46, 122, 4, 126, 154, 0, 5, 3, 172, 132, 3, 1, 167, 255, 220, 4, 172]
abbrev dktX0_isEldest_1 : List UInt8 := dkwX0_isEldest_1 ++ []
def dkwX0_isEldest_0 : List UInt8 := [3, 62, 29, 42, 180, 1, 208, 162, 0, 34, 42, 180, 1, 44, 29, 46, 27, 160, 0, 18, 28, 42]
abbrev dktX0_isEldest_0 : List UInt8 := dkwX0_isEldest_0 ++ dktX0_isEldest_1
theorem dksX0_isEldest_0 : cX0_isEldest.data.toList.drop 0 = dktX0_isEldest_0 := by decide +kernel
theorem dksX0_isEldest_1 : cX0_isEldest.data.toList.drop 22 = dktX0_isEldest_1 := dk_seg dksX0_isEldest_0 22 rfl rfl
theorem dX0_isEldest_0 : decode cX0_isEldest 0 = .ok (.iconst 0, 1) := dk_3 (dk_at dksX0_isEldest_0 0 rfl rfl)
theorem dX0_isEldest_1 : decode cX0_isEldest 1 = .ok (.istore_n 3, 1) := dk_62 (dk_at dksX0_isEldest_0 1 rfl rfl)
theorem dX0_isEldest_2 : decode cX0_isEldest 2 = .ok (.iload_n 3, 1) := dk_29 (dk_at dksX0_isEldest_0 2 rfl rfl)
theorem dX0_isEldest_3 : decode cX0_isEldest 3 = .ok (.aload_n 0, 1) := dk_42 (dk_at dksX0_isEldest_0 3 rfl rfl)
theorem dX0_isEldest_4 : decode cX0_isEldest 4 = .ok (.getfield 464, 3) := dk_180 1 208 (dk_at dksX0_isEldest_0 4 rfl rfl)
theorem dX0_isEldest_7 : decode cX0_isEldest 7 = .ok (.if_icmp .ge 34, 3) := dk_162 0 34 (dk_at dksX0_isEldest_0 7 rfl rfl)
theorem dX0_isEldest_10 : decode cX0_isEldest 10 = .ok (.aload_n 0, 1) := dk_42 (dk_at dksX0_isEldest_0 10 rfl rfl)
theorem dX0_isEldest_11 : decode cX0_isEldest 11 = .ok (.getfield 300, 3) := dk_180 1 44 (dk_at dksX0_isEldest_0 11 rfl rfl)
theorem dX0_isEldest_14 : decode cX0_isEldest 14 = .ok (.iload_n 3, 1) := dk_29 (dk_at dksX0_isEldest_0 14 rfl rfl)
theorem dX0_isEldest_15 : decode cX0_isEldest 15 = .ok (.iaload, 1) := dk_46 (dk_at dksX0_isEldest_0 15 rfl rfl)
theorem dX0_isEldest_16 : decode cX0_isEldest 16 = .ok (.iload_n 1, 1) := dk_27 (dk_at dksX0_isEldest_0 16 rfl rfl)
theorem dX0_isEldest_17 : decode cX0_isEldest 17 = .ok (.if_icmp .ne 18, 3) := dk_160 0 18 (dk_at dksX0_isEldest_0 17 rfl rfl)
theorem dX0_isEldest_20 : decode cX0_isEldest 20 = .ok (.iload_n 2, 1) := dk_28 (dk_at dksX0_isEldest_0 20 rfl rfl)
theorem dX0_isEldest_21 : decode cX0_isEldest 21 = .ok (.aload_n 0, 1) := dk_42 (dk_at dksX0_isEldest_0 21 rfl rfl)
theorem dX0_isEldest_22 : decode cX0_isEldest 22 = .ok (.getfield 303, 3) := dk_180 1 47 (dk_at dksX0_isEldest_1 0 rfl rfl)
theorem dX0_isEldest_25 : decode cX0_isEldest 25 = .ok (.iload_n 3, 1) := dk_29 (dk_at dksX0_isEldest_1 3 rfl rfl)
theorem dX0_isEldest_26 : decode cX0_isEldest 26 = .ok (.iaload, 1) := dk_46 (dk_at dksX0_isEldest_1 4 rfl rfl)
theorem dX0_isEldest_27 : decode cX0_isEldest 27 = .ok (.ishr, 1) := dk_122 (dk_at dksX0_isEldest_1 5 rfl rfl)
theorem dX0_isEldest_28 : decode cX0_isEldest 28 = .ok (.iconst 1, 1) := dk_4 (dk_at dksX0_isEldest_1 6 rfl rfl)
theorem dX0_isEldest_29 : decode cX0_isEldest 29 = .ok (.iand, 1) := dk_126 (dk_at dksX0_isEldest_1 7 rfl rfl)
theorem dX0_isEldest_30 : decode cX0_isEldest 30 = .ok (.ifCond .ne 5, 3) := dk_154 0 5 (dk_at dksX0_isEldest_1 8 rfl rfl)
theorem dX0_isEldest_33 : decode cX0_isEldest 33 = .ok (.iconst 0, 1) := dk_3 (dk_at dksX0_isEldest_1 11 rfl rfl)
theorem dX0_isEldest_34 : decode cX0_isEldest 34 = .ok (.ireturn, 1) := dk_172 (dk_at dksX0_isEldest_1 12 rfl rfl)
theorem dX0_isEldest_35 : decode cX0_isEldest 35 = .ok (.iinc 3 1, 3) := dk_132 3 1 (dk_at dksX0_isEldest_1 13 rfl rfl)
theorem dX0_isEldest_38 : decode cX0_isEldest 38 = .ok (.goto (-36), 3) := dk_167 255 220 (dk_at dksX0_isEldest_1 16 rfl rfl)
theorem dX0_isEldest_41 : decode cX0_isEldest 41 = .ok (.iconst 1, 1) := dk_4 (dk_at dksX0_isEldest_1 19 rfl rfl)
theorem dX0_isEldest_42 : decode cX0_isEldest 42 = .ok (.ireturn, 1) := dk_172 (dk_at dksX0_isEldest_1 20 rfl rfl)
abbrev cX0_look : ByteArray := prog_1_method_76_code
def yX0_look : MethodName := ⟨RX0, "look", "(II)I"⟩
def dkwX0_look_10 : List UInt8 := [172]
abbrev dktX0_look_10 : List UInt8 := dkwX0_look_10 ++ []
def dkwX0_look_9 : List UInt8 := [167, 255, 129, 28, 154, 0, 8, 21, 4, 167, 0, 15, 28, 4, 160, 0, 8, 21, 5, 167, 0, 5, 21, 6]
abbrev dktX0_look_9 : List UInt8 := dkwX0_look_9 ++ dktX0_look_10
def dkwX0_look_8 : List UInt8 := [21, 9, 21, 6, 162, 0, 15, 21, 7, 54, 4, 21, 8, 54, 5, 21, 9, 54, 6, 132, 7, 1]
abbrev dktX0_look_8 : List UInt8 := dkwX0_look_8 ++ dktX0_look_9
def dkwX0_look_7 : List UInt8 := [167, 255, 191, 21, 9, 27, 163, 0, 36, 21, 8, 21, 5, 163, 0, 17, 21, 8, 21, 5, 160, 0, 22]
abbrev dktX0_look_7 : List UInt8 := dkwX0_look_7 ++ dktX0_look_8
def dkwX0_look_6 : List UInt8 := [160, 0, 15, 6, 42, 180, 0, 35, 21, 10, 46, 96, 167, 0, 4, 3, 96, 54, 9, 132, 10, 1]
abbrev dktX0_look_6 : List UInt8 := dkwX0_look_6 ++ dktX0_look_7
def dkwX0_look_5 : List UInt8 := [42, 180, 1, 50, 21, 10, 46, 167, 0, 4, 3, 96, 54, 8, 21, 9, 21, 7, 21, 10, 122, 4, 126, 4]
abbrev dktX0_look_5 : List UInt8 := dkwX0_look_5 ++ dktX0_look_6
def dkwX0_look_4 : List UInt8 := [54, 9, 3, 54, 10, 21, 10, 29, 162, 0, 65, 21, 8, 21, 7, 21, 10, 122, 4, 126, 4, 160, 0, 13]
abbrev dktX0_look_4 : List UInt8 := dkwX0_look_4 ++ dktX0_look_5
def dkwX0_look_3 : List UInt8 := [3, 54, 4, 2, 54, 5, 3, 54, 6, 3, 54, 7, 21, 7, 4, 29, 120, 162, 0, 125, 3, 54, 8, 3]
abbrev dktX0_look_3 : List UInt8 := dkwX0_look_3 ++ dktX0_look_4
def dkwX0_look_2 : List UInt8 := [180, 1, 50, 21, 4, 42, 5, 21, 4, 3, 3, 3, 16, 99, 182, 1, 177, 79, 132, 4, 1, 167, 255, 228]
abbrev dktX0_look_2 : List UInt8 := dkwX0_look_2 ++ dktX0_look_3
def dkwX0_look_1 : List UInt8 := [16, 254, 172, 16, 12, 42, 180, 0, 13, 184, 1, 86, 62, 3, 54, 4, 21, 4, 29, 162, 0, 28, 42]
abbrev dktX0_look_1 : List UInt8 := dkwX0_look_1 ++ dktX0_look_2
def dkwX0_look_0 : List UInt8 := [27, 133, 9, 20, 0, 20, 184, 0, 5, 153, 0, 15, 28, 133, 9, 20, 0, 89, 184, 0, 5, 154, 0, 6]
abbrev dktX0_look_0 : List UInt8 := dkwX0_look_0 ++ dktX0_look_1
theorem dksX0_look_0 : cX0_look.data.toList.drop 0 = dktX0_look_0 := by decide +kernel
theorem dksX0_look_1 : cX0_look.data.toList.drop 24 = dktX0_look_1 := dk_seg dksX0_look_0 24 rfl rfl
theorem dksX0_look_2 : cX0_look.data.toList.drop 47 = dktX0_look_2 := dk_seg dksX0_look_1 23 rfl rfl
theorem dksX0_look_3 : cX0_look.data.toList.drop 71 = dktX0_look_3 := dk_seg dksX0_look_2 24 rfl rfl
theorem dksX0_look_4 : cX0_look.data.toList.drop 95 = dktX0_look_4 := dk_seg dksX0_look_3 24 rfl rfl
theorem dksX0_look_5 : cX0_look.data.toList.drop 119 = dktX0_look_5 := dk_seg dksX0_look_4 24 rfl rfl
theorem dksX0_look_6 : cX0_look.data.toList.drop 143 = dktX0_look_6 := dk_seg dksX0_look_5 24 rfl rfl
theorem dksX0_look_7 : cX0_look.data.toList.drop 165 = dktX0_look_7 := dk_seg dksX0_look_6 22 rfl rfl
theorem dksX0_look_8 : cX0_look.data.toList.drop 188 = dktX0_look_8 := dk_seg dksX0_look_7 23 rfl rfl
theorem dksX0_look_9 : cX0_look.data.toList.drop 210 = dktX0_look_9 := dk_seg dksX0_look_8 22 rfl rfl
theorem dksX0_look_10 : cX0_look.data.toList.drop 234 = dktX0_look_10 := dk_seg dksX0_look_9 24 rfl rfl
theorem dX0_look_0 : decode cX0_look 0 = .ok (.iload_n 1, 1) := dk_27 (dk_at dksX0_look_0 0 rfl rfl)
theorem dX0_look_1 : decode cX0_look 1 = .ok (.i2l, 1) := dk_133 (dk_at dksX0_look_0 1 rfl rfl)
theorem dX0_look_2 : decode cX0_look 2 = .ok (.lconst 0, 1) := dk_9 (dk_at dksX0_look_0 2 rfl rfl)
theorem dX0_look_3 : decode cX0_look 3 = .ok (.ldc2_w 20, 3) := dk_20 0 20 (dk_at dksX0_look_0 3 rfl rfl)
theorem dX0_look_6 : decode cX0_look 6 = .ok (.invokestatic 5, 3) := dk_184 0 5 (dk_at dksX0_look_0 6 rfl rfl)
theorem dX0_look_9 : decode cX0_look 9 = .ok (.ifCond .eq 15, 3) := dk_153 0 15 (dk_at dksX0_look_0 9 rfl rfl)
theorem dX0_look_12 : decode cX0_look 12 = .ok (.iload_n 2, 1) := dk_28 (dk_at dksX0_look_0 12 rfl rfl)
theorem dX0_look_13 : decode cX0_look 13 = .ok (.i2l, 1) := dk_133 (dk_at dksX0_look_0 13 rfl rfl)
theorem dX0_look_14 : decode cX0_look 14 = .ok (.lconst 0, 1) := dk_9 (dk_at dksX0_look_0 14 rfl rfl)
theorem dX0_look_15 : decode cX0_look 15 = .ok (.ldc2_w 89, 3) := dk_20 0 89 (dk_at dksX0_look_0 15 rfl rfl)
theorem dX0_look_18 : decode cX0_look 18 = .ok (.invokestatic 5, 3) := dk_184 0 5 (dk_at dksX0_look_0 18 rfl rfl)
theorem dX0_look_21 : decode cX0_look 21 = .ok (.ifCond .ne 6, 3) := dk_154 0 6 (dk_at dksX0_look_0 21 rfl rfl)
theorem dX0_look_24 : decode cX0_look 24 = .ok (.bipush (-2), 2) := dk_16 254 (dk_at dksX0_look_1 0 rfl rfl)
theorem dX0_look_26 : decode cX0_look 26 = .ok (.ireturn, 1) := dk_172 (dk_at dksX0_look_1 2 rfl rfl)
theorem dX0_look_27 : decode cX0_look 27 = .ok (.bipush 12, 2) := dk_16 12 (dk_at dksX0_look_1 3 rfl rfl)
theorem dX0_look_29 : decode cX0_look 29 = .ok (.aload_n 0, 1) := dk_42 (dk_at dksX0_look_1 5 rfl rfl)
theorem dX0_look_30 : decode cX0_look 30 = .ok (.getfield 13, 3) := dk_180 0 13 (dk_at dksX0_look_1 6 rfl rfl)
theorem dX0_look_33 : decode cX0_look 33 = .ok (.invokestatic 342, 3) := dk_184 1 86 (dk_at dksX0_look_1 9 rfl rfl)
theorem dX0_look_36 : decode cX0_look 36 = .ok (.istore_n 3, 1) := dk_62 (dk_at dksX0_look_1 12 rfl rfl)
theorem dX0_look_37 : decode cX0_look 37 = .ok (.iconst 0, 1) := dk_3 (dk_at dksX0_look_1 13 rfl rfl)
theorem dX0_look_38 : decode cX0_look 38 = .ok (.istore 4, 2) := dk_54 4 (dk_at dksX0_look_1 14 rfl rfl)
theorem dX0_look_40 : decode cX0_look 40 = .ok (.iload 4, 2) := dk_21 4 (dk_at dksX0_look_1 16 rfl rfl)
theorem dX0_look_42 : decode cX0_look 42 = .ok (.iload_n 3, 1) := dk_29 (dk_at dksX0_look_1 18 rfl rfl)
theorem dX0_look_43 : decode cX0_look 43 = .ok (.if_icmp .ge 28, 3) := dk_162 0 28 (dk_at dksX0_look_1 19 rfl rfl)
theorem dX0_look_46 : decode cX0_look 46 = .ok (.aload_n 0, 1) := dk_42 (dk_at dksX0_look_1 22 rfl rfl)
theorem dX0_look_47 : decode cX0_look 47 = .ok (.getfield 306, 3) := dk_180 1 50 (dk_at dksX0_look_2 0 rfl rfl)
theorem dX0_look_50 : decode cX0_look 50 = .ok (.iload 4, 2) := dk_21 4 (dk_at dksX0_look_2 3 rfl rfl)
theorem dX0_look_52 : decode cX0_look 52 = .ok (.aload_n 0, 1) := dk_42 (dk_at dksX0_look_2 5 rfl rfl)
theorem dX0_look_53 : decode cX0_look 53 = .ok (.iconst 2, 1) := dk_5 (dk_at dksX0_look_2 6 rfl rfl)
theorem dX0_look_54 : decode cX0_look 54 = .ok (.iload 4, 2) := dk_21 4 (dk_at dksX0_look_2 7 rfl rfl)
theorem dX0_look_56 : decode cX0_look 56 = .ok (.iconst 0, 1) := dk_3 (dk_at dksX0_look_2 9 rfl rfl)
theorem dX0_look_57 : decode cX0_look 57 = .ok (.iconst 0, 1) := dk_3 (dk_at dksX0_look_2 10 rfl rfl)
theorem dX0_look_58 : decode cX0_look 58 = .ok (.iconst 0, 1) := dk_3 (dk_at dksX0_look_2 11 rfl rfl)
theorem dX0_look_59 : decode cX0_look 59 = .ok (.bipush 99, 2) := dk_16 99 (dk_at dksX0_look_2 12 rfl rfl)
theorem dX0_look_61 : decode cX0_look 61 = .ok (.invokevirtual 433, 3) := dk_182 1 177 (dk_at dksX0_look_2 14 rfl rfl)
theorem dX0_look_64 : decode cX0_look 64 = .ok (.iastore, 1) := dk_79 (dk_at dksX0_look_2 17 rfl rfl)
theorem dX0_look_65 : decode cX0_look 65 = .ok (.iinc 4 1, 3) := dk_132 4 1 (dk_at dksX0_look_2 18 rfl rfl)
theorem dX0_look_68 : decode cX0_look 68 = .ok (.goto (-28), 3) := dk_167 255 228 (dk_at dksX0_look_2 21 rfl rfl)
theorem dX0_look_71 : decode cX0_look 71 = .ok (.iconst 0, 1) := dk_3 (dk_at dksX0_look_3 0 rfl rfl)
theorem dX0_look_72 : decode cX0_look 72 = .ok (.istore 4, 2) := dk_54 4 (dk_at dksX0_look_3 1 rfl rfl)
theorem dX0_look_74 : decode cX0_look 74 = .ok (.iconst (-1), 1) := dk_2 (dk_at dksX0_look_3 3 rfl rfl)
theorem dX0_look_75 : decode cX0_look 75 = .ok (.istore 5, 2) := dk_54 5 (dk_at dksX0_look_3 4 rfl rfl)
theorem dX0_look_77 : decode cX0_look 77 = .ok (.iconst 0, 1) := dk_3 (dk_at dksX0_look_3 6 rfl rfl)
theorem dX0_look_78 : decode cX0_look 78 = .ok (.istore 6, 2) := dk_54 6 (dk_at dksX0_look_3 7 rfl rfl)
theorem dX0_look_80 : decode cX0_look 80 = .ok (.iconst 0, 1) := dk_3 (dk_at dksX0_look_3 9 rfl rfl)
theorem dX0_look_81 : decode cX0_look 81 = .ok (.istore 7, 2) := dk_54 7 (dk_at dksX0_look_3 10 rfl rfl)
theorem dX0_look_83 : decode cX0_look 83 = .ok (.iload 7, 2) := dk_21 7 (dk_at dksX0_look_3 12 rfl rfl)
theorem dX0_look_85 : decode cX0_look 85 = .ok (.iconst 1, 1) := dk_4 (dk_at dksX0_look_3 14 rfl rfl)
theorem dX0_look_86 : decode cX0_look 86 = .ok (.iload_n 3, 1) := dk_29 (dk_at dksX0_look_3 15 rfl rfl)
theorem dX0_look_87 : decode cX0_look 87 = .ok (.ishl, 1) := dk_120 (dk_at dksX0_look_3 16 rfl rfl)
theorem dX0_look_88 : decode cX0_look 88 = .ok (.if_icmp .ge 125, 3) := dk_162 0 125 (dk_at dksX0_look_3 17 rfl rfl)
theorem dX0_look_91 : decode cX0_look 91 = .ok (.iconst 0, 1) := dk_3 (dk_at dksX0_look_3 20 rfl rfl)
theorem dX0_look_92 : decode cX0_look 92 = .ok (.istore 8, 2) := dk_54 8 (dk_at dksX0_look_3 21 rfl rfl)
theorem dX0_look_94 : decode cX0_look 94 = .ok (.iconst 0, 1) := dk_3 (dk_at dksX0_look_3 23 rfl rfl)
theorem dX0_look_95 : decode cX0_look 95 = .ok (.istore 9, 2) := dk_54 9 (dk_at dksX0_look_4 0 rfl rfl)
theorem dX0_look_97 : decode cX0_look 97 = .ok (.iconst 0, 1) := dk_3 (dk_at dksX0_look_4 2 rfl rfl)
theorem dX0_look_98 : decode cX0_look 98 = .ok (.istore 10, 2) := dk_54 10 (dk_at dksX0_look_4 3 rfl rfl)
theorem dX0_look_100 : decode cX0_look 100 = .ok (.iload 10, 2) := dk_21 10 (dk_at dksX0_look_4 5 rfl rfl)
theorem dX0_look_102 : decode cX0_look 102 = .ok (.iload_n 3, 1) := dk_29 (dk_at dksX0_look_4 7 rfl rfl)
theorem dX0_look_103 : decode cX0_look 103 = .ok (.if_icmp .ge 65, 3) := dk_162 0 65 (dk_at dksX0_look_4 8 rfl rfl)
theorem dX0_look_106 : decode cX0_look 106 = .ok (.iload 8, 2) := dk_21 8 (dk_at dksX0_look_4 11 rfl rfl)
theorem dX0_look_108 : decode cX0_look 108 = .ok (.iload 7, 2) := dk_21 7 (dk_at dksX0_look_4 13 rfl rfl)
theorem dX0_look_110 : decode cX0_look 110 = .ok (.iload 10, 2) := dk_21 10 (dk_at dksX0_look_4 15 rfl rfl)
theorem dX0_look_112 : decode cX0_look 112 = .ok (.ishr, 1) := dk_122 (dk_at dksX0_look_4 17 rfl rfl)
theorem dX0_look_113 : decode cX0_look 113 = .ok (.iconst 1, 1) := dk_4 (dk_at dksX0_look_4 18 rfl rfl)
theorem dX0_look_114 : decode cX0_look 114 = .ok (.iand, 1) := dk_126 (dk_at dksX0_look_4 19 rfl rfl)
theorem dX0_look_115 : decode cX0_look 115 = .ok (.iconst 1, 1) := dk_4 (dk_at dksX0_look_4 20 rfl rfl)
theorem dX0_look_116 : decode cX0_look 116 = .ok (.if_icmp .ne 13, 3) := dk_160 0 13 (dk_at dksX0_look_4 21 rfl rfl)
theorem dX0_look_119 : decode cX0_look 119 = .ok (.aload_n 0, 1) := dk_42 (dk_at dksX0_look_5 0 rfl rfl)
theorem dX0_look_120 : decode cX0_look 120 = .ok (.getfield 306, 3) := dk_180 1 50 (dk_at dksX0_look_5 1 rfl rfl)
theorem dX0_look_123 : decode cX0_look 123 = .ok (.iload 10, 2) := dk_21 10 (dk_at dksX0_look_5 4 rfl rfl)
theorem dX0_look_125 : decode cX0_look 125 = .ok (.iaload, 1) := dk_46 (dk_at dksX0_look_5 6 rfl rfl)
theorem dX0_look_126 : decode cX0_look 126 = .ok (.goto 4, 3) := dk_167 0 4 (dk_at dksX0_look_5 7 rfl rfl)
theorem dX0_look_129 : decode cX0_look 129 = .ok (.iconst 0, 1) := dk_3 (dk_at dksX0_look_5 10 rfl rfl)
theorem dX0_look_130 : decode cX0_look 130 = .ok (.iadd, 1) := dk_96 (dk_at dksX0_look_5 11 rfl rfl)
theorem dX0_look_131 : decode cX0_look 131 = .ok (.istore 8, 2) := dk_54 8 (dk_at dksX0_look_5 12 rfl rfl)
theorem dX0_look_133 : decode cX0_look 133 = .ok (.iload 9, 2) := dk_21 9 (dk_at dksX0_look_5 14 rfl rfl)
theorem dX0_look_135 : decode cX0_look 135 = .ok (.iload 7, 2) := dk_21 7 (dk_at dksX0_look_5 16 rfl rfl)
theorem dX0_look_137 : decode cX0_look 137 = .ok (.iload 10, 2) := dk_21 10 (dk_at dksX0_look_5 18 rfl rfl)
theorem dX0_look_139 : decode cX0_look 139 = .ok (.ishr, 1) := dk_122 (dk_at dksX0_look_5 20 rfl rfl)
theorem dX0_look_140 : decode cX0_look 140 = .ok (.iconst 1, 1) := dk_4 (dk_at dksX0_look_5 21 rfl rfl)
theorem dX0_look_141 : decode cX0_look 141 = .ok (.iand, 1) := dk_126 (dk_at dksX0_look_5 22 rfl rfl)
theorem dX0_look_142 : decode cX0_look 142 = .ok (.iconst 1, 1) := dk_4 (dk_at dksX0_look_5 23 rfl rfl)
theorem dX0_look_143 : decode cX0_look 143 = .ok (.if_icmp .ne 15, 3) := dk_160 0 15 (dk_at dksX0_look_6 0 rfl rfl)
theorem dX0_look_146 : decode cX0_look 146 = .ok (.iconst 3, 1) := dk_6 (dk_at dksX0_look_6 3 rfl rfl)
theorem dX0_look_147 : decode cX0_look 147 = .ok (.aload_n 0, 1) := dk_42 (dk_at dksX0_look_6 4 rfl rfl)
theorem dX0_look_148 : decode cX0_look 148 = .ok (.getfield 35, 3) := dk_180 0 35 (dk_at dksX0_look_6 5 rfl rfl)
theorem dX0_look_151 : decode cX0_look 151 = .ok (.iload 10, 2) := dk_21 10 (dk_at dksX0_look_6 8 rfl rfl)
theorem dX0_look_153 : decode cX0_look 153 = .ok (.iaload, 1) := dk_46 (dk_at dksX0_look_6 10 rfl rfl)
theorem dX0_look_154 : decode cX0_look 154 = .ok (.iadd, 1) := dk_96 (dk_at dksX0_look_6 11 rfl rfl)
theorem dX0_look_155 : decode cX0_look 155 = .ok (.goto 4, 3) := dk_167 0 4 (dk_at dksX0_look_6 12 rfl rfl)
theorem dX0_look_158 : decode cX0_look 158 = .ok (.iconst 0, 1) := dk_3 (dk_at dksX0_look_6 15 rfl rfl)
theorem dX0_look_159 : decode cX0_look 159 = .ok (.iadd, 1) := dk_96 (dk_at dksX0_look_6 16 rfl rfl)
theorem dX0_look_160 : decode cX0_look 160 = .ok (.istore 9, 2) := dk_54 9 (dk_at dksX0_look_6 17 rfl rfl)
theorem dX0_look_162 : decode cX0_look 162 = .ok (.iinc 10 1, 3) := dk_132 10 1 (dk_at dksX0_look_6 19 rfl rfl)
theorem dX0_look_165 : decode cX0_look 165 = .ok (.goto (-65), 3) := dk_167 255 191 (dk_at dksX0_look_7 0 rfl rfl)
theorem dX0_look_168 : decode cX0_look 168 = .ok (.iload 9, 2) := dk_21 9 (dk_at dksX0_look_7 3 rfl rfl)
theorem dX0_look_170 : decode cX0_look 170 = .ok (.iload_n 1, 1) := dk_27 (dk_at dksX0_look_7 5 rfl rfl)
theorem dX0_look_171 : decode cX0_look 171 = .ok (.if_icmp .gt 36, 3) := dk_163 0 36 (dk_at dksX0_look_7 6 rfl rfl)
theorem dX0_look_174 : decode cX0_look 174 = .ok (.iload 8, 2) := dk_21 8 (dk_at dksX0_look_7 9 rfl rfl)
theorem dX0_look_176 : decode cX0_look 176 = .ok (.iload 5, 2) := dk_21 5 (dk_at dksX0_look_7 11 rfl rfl)
theorem dX0_look_178 : decode cX0_look 178 = .ok (.if_icmp .gt 17, 3) := dk_163 0 17 (dk_at dksX0_look_7 13 rfl rfl)
theorem dX0_look_181 : decode cX0_look 181 = .ok (.iload 8, 2) := dk_21 8 (dk_at dksX0_look_7 16 rfl rfl)
theorem dX0_look_183 : decode cX0_look 183 = .ok (.iload 5, 2) := dk_21 5 (dk_at dksX0_look_7 18 rfl rfl)
theorem dX0_look_185 : decode cX0_look 185 = .ok (.if_icmp .ne 22, 3) := dk_160 0 22 (dk_at dksX0_look_7 20 rfl rfl)
theorem dX0_look_188 : decode cX0_look 188 = .ok (.iload 9, 2) := dk_21 9 (dk_at dksX0_look_8 0 rfl rfl)
theorem dX0_look_190 : decode cX0_look 190 = .ok (.iload 6, 2) := dk_21 6 (dk_at dksX0_look_8 2 rfl rfl)
theorem dX0_look_192 : decode cX0_look 192 = .ok (.if_icmp .ge 15, 3) := dk_162 0 15 (dk_at dksX0_look_8 4 rfl rfl)
theorem dX0_look_195 : decode cX0_look 195 = .ok (.iload 7, 2) := dk_21 7 (dk_at dksX0_look_8 7 rfl rfl)
theorem dX0_look_197 : decode cX0_look 197 = .ok (.istore 4, 2) := dk_54 4 (dk_at dksX0_look_8 9 rfl rfl)
theorem dX0_look_199 : decode cX0_look 199 = .ok (.iload 8, 2) := dk_21 8 (dk_at dksX0_look_8 11 rfl rfl)
theorem dX0_look_201 : decode cX0_look 201 = .ok (.istore 5, 2) := dk_54 5 (dk_at dksX0_look_8 13 rfl rfl)
theorem dX0_look_203 : decode cX0_look 203 = .ok (.iload 9, 2) := dk_21 9 (dk_at dksX0_look_8 15 rfl rfl)
theorem dX0_look_205 : decode cX0_look 205 = .ok (.istore 6, 2) := dk_54 6 (dk_at dksX0_look_8 17 rfl rfl)
theorem dX0_look_207 : decode cX0_look 207 = .ok (.iinc 7 1, 3) := dk_132 7 1 (dk_at dksX0_look_8 19 rfl rfl)
theorem dX0_look_210 : decode cX0_look 210 = .ok (.goto (-127), 3) := dk_167 255 129 (dk_at dksX0_look_9 0 rfl rfl)
theorem dX0_look_213 : decode cX0_look 213 = .ok (.iload_n 2, 1) := dk_28 (dk_at dksX0_look_9 3 rfl rfl)
theorem dX0_look_214 : decode cX0_look 214 = .ok (.ifCond .ne 8, 3) := dk_154 0 8 (dk_at dksX0_look_9 4 rfl rfl)
theorem dX0_look_217 : decode cX0_look 217 = .ok (.iload 4, 2) := dk_21 4 (dk_at dksX0_look_9 7 rfl rfl)
theorem dX0_look_219 : decode cX0_look 219 = .ok (.goto 15, 3) := dk_167 0 15 (dk_at dksX0_look_9 9 rfl rfl)
theorem dX0_look_222 : decode cX0_look 222 = .ok (.iload_n 2, 1) := dk_28 (dk_at dksX0_look_9 12 rfl rfl)
theorem dX0_look_223 : decode cX0_look 223 = .ok (.iconst 1, 1) := dk_4 (dk_at dksX0_look_9 13 rfl rfl)
theorem dX0_look_224 : decode cX0_look 224 = .ok (.if_icmp .ne 8, 3) := dk_160 0 8 (dk_at dksX0_look_9 14 rfl rfl)
theorem dX0_look_227 : decode cX0_look 227 = .ok (.iload 5, 2) := dk_21 5 (dk_at dksX0_look_9 17 rfl rfl)
theorem dX0_look_229 : decode cX0_look 229 = .ok (.goto 5, 3) := dk_167 0 5 (dk_at dksX0_look_9 19 rfl rfl)
theorem dX0_look_232 : decode cX0_look 232 = .ok (.iload 6, 2) := dk_21 6 (dk_at dksX0_look_9 22 rfl rfl)
theorem dX0_look_234 : decode cX0_look 234 = .ok (.ireturn, 1) := dk_172 (dk_at dksX0_look_10 0 rfl rfl)
abbrev cX0_image : ByteArray := prog_1_method_77_code
def yX0_image : MethodName := ⟨RX0, "image", "()I"⟩
def dkwX0_image_2 : List UInt8 := [180, 1, 53, 3, 42, 180, 0, 9, 184, 1, 112, 42, 4, 181, 1, 232, 42, 180, 0, 9, 172]
abbrev dktX0_image_2 : List UInt8 := dkwX0_image_2 ++ []
def dkwX0_image_1 : List UInt8 := [42, 42, 180, 1, 161, 181, 1, 226, 42, 42, 180, 1, 72, 181, 1, 229, 42, 180, 0, 16, 3, 42]
abbrev dktX0_image_1 : List UInt8 := dkwX0_image_1 ++ dktX0_image_2
def dkwX0_image_0 : List UInt8 := [42, 42, 180, 0, 9, 181, 1, 217, 42, 42, 180, 1, 130, 181, 1, 220, 42, 42, 180, 1, 208, 181, 1, 223]
abbrev dktX0_image_0 : List UInt8 := dkwX0_image_0 ++ dktX0_image_1
theorem dksX0_image_0 : cX0_image.data.toList.drop 0 = dktX0_image_0 := by decide +kernel
theorem dksX0_image_1 : cX0_image.data.toList.drop 24 = dktX0_image_1 := dk_seg dksX0_image_0 24 rfl rfl
theorem dksX0_image_2 : cX0_image.data.toList.drop 46 = dktX0_image_2 := dk_seg dksX0_image_1 22 rfl rfl
theorem dX0_image_0 : decode cX0_image 0 = .ok (.aload_n 0, 1) := dk_42 (dk_at dksX0_image_0 0 rfl rfl)
theorem dX0_image_1 : decode cX0_image 1 = .ok (.aload_n 0, 1) := dk_42 (dk_at dksX0_image_0 1 rfl rfl)
theorem dX0_image_2 : decode cX0_image 2 = .ok (.getfield 9, 3) := dk_180 0 9 (dk_at dksX0_image_0 2 rfl rfl)
theorem dX0_image_5 : decode cX0_image 5 = .ok (.putfield 473, 3) := dk_181 1 217 (dk_at dksX0_image_0 5 rfl rfl)
theorem dX0_image_8 : decode cX0_image 8 = .ok (.aload_n 0, 1) := dk_42 (dk_at dksX0_image_0 8 rfl rfl)
theorem dX0_image_9 : decode cX0_image 9 = .ok (.aload_n 0, 1) := dk_42 (dk_at dksX0_image_0 9 rfl rfl)
theorem dX0_image_10 : decode cX0_image 10 = .ok (.getfield 386, 3) := dk_180 1 130 (dk_at dksX0_image_0 10 rfl rfl)
theorem dX0_image_13 : decode cX0_image 13 = .ok (.putfield 476, 3) := dk_181 1 220 (dk_at dksX0_image_0 13 rfl rfl)
theorem dX0_image_16 : decode cX0_image 16 = .ok (.aload_n 0, 1) := dk_42 (dk_at dksX0_image_0 16 rfl rfl)
theorem dX0_image_17 : decode cX0_image 17 = .ok (.aload_n 0, 1) := dk_42 (dk_at dksX0_image_0 17 rfl rfl)
theorem dX0_image_18 : decode cX0_image 18 = .ok (.getfield 464, 3) := dk_180 1 208 (dk_at dksX0_image_0 18 rfl rfl)
theorem dX0_image_21 : decode cX0_image 21 = .ok (.putfield 479, 3) := dk_181 1 223 (dk_at dksX0_image_0 21 rfl rfl)
theorem dX0_image_24 : decode cX0_image 24 = .ok (.aload_n 0, 1) := dk_42 (dk_at dksX0_image_1 0 rfl rfl)
theorem dX0_image_25 : decode cX0_image 25 = .ok (.aload_n 0, 1) := dk_42 (dk_at dksX0_image_1 1 rfl rfl)
theorem dX0_image_26 : decode cX0_image 26 = .ok (.getfield 417, 3) := dk_180 1 161 (dk_at dksX0_image_1 2 rfl rfl)
theorem dX0_image_29 : decode cX0_image 29 = .ok (.putfield 482, 3) := dk_181 1 226 (dk_at dksX0_image_1 5 rfl rfl)
theorem dX0_image_32 : decode cX0_image 32 = .ok (.aload_n 0, 1) := dk_42 (dk_at dksX0_image_1 8 rfl rfl)
theorem dX0_image_33 : decode cX0_image 33 = .ok (.aload_n 0, 1) := dk_42 (dk_at dksX0_image_1 9 rfl rfl)
theorem dX0_image_34 : decode cX0_image 34 = .ok (.getfield 328, 3) := dk_180 1 72 (dk_at dksX0_image_1 10 rfl rfl)
theorem dX0_image_37 : decode cX0_image 37 = .ok (.putfield 485, 3) := dk_181 1 229 (dk_at dksX0_image_1 13 rfl rfl)
theorem dX0_image_40 : decode cX0_image 40 = .ok (.aload_n 0, 1) := dk_42 (dk_at dksX0_image_1 16 rfl rfl)
theorem dX0_image_41 : decode cX0_image 41 = .ok (.getfield 16, 3) := dk_180 0 16 (dk_at dksX0_image_1 17 rfl rfl)
theorem dX0_image_44 : decode cX0_image 44 = .ok (.iconst 0, 1) := dk_3 (dk_at dksX0_image_1 20 rfl rfl)
theorem dX0_image_45 : decode cX0_image 45 = .ok (.aload_n 0, 1) := dk_42 (dk_at dksX0_image_1 21 rfl rfl)
theorem dX0_image_46 : decode cX0_image 46 = .ok (.getfield 309, 3) := dk_180 1 53 (dk_at dksX0_image_2 0 rfl rfl)
theorem dX0_image_49 : decode cX0_image 49 = .ok (.iconst 0, 1) := dk_3 (dk_at dksX0_image_2 3 rfl rfl)
theorem dX0_image_50 : decode cX0_image 50 = .ok (.aload_n 0, 1) := dk_42 (dk_at dksX0_image_2 4 rfl rfl)
theorem dX0_image_51 : decode cX0_image 51 = .ok (.getfield 9, 3) := dk_180 0 9 (dk_at dksX0_image_2 5 rfl rfl)
theorem dX0_image_54 : decode cX0_image 54 = .ok (.invokestatic 368, 3) := dk_184 1 112 (dk_at dksX0_image_2 8 rfl rfl)
theorem dX0_image_57 : decode cX0_image 57 = .ok (.aload_n 0, 1) := dk_42 (dk_at dksX0_image_2 11 rfl rfl)
theorem dX0_image_58 : decode cX0_image 58 = .ok (.iconst 1, 1) := dk_4 (dk_at dksX0_image_2 12 rfl rfl)
theorem dX0_image_59 : decode cX0_image 59 = .ok (.putfield 488, 3) := dk_181 1 232 (dk_at dksX0_image_2 13 rfl rfl)
theorem dX0_image_62 : decode cX0_image 62 = .ok (.aload_n 0, 1) := dk_42 (dk_at dksX0_image_2 16 rfl rfl)
theorem dX0_image_63 : decode cX0_image 63 = .ok (.getfield 9, 3) := dk_180 0 9 (dk_at dksX0_image_2 17 rfl rfl)
theorem dX0_image_66 : decode cX0_image 66 = .ok (.ireturn, 1) := dk_172 (dk_at dksX0_image_2 20 rfl rfl)
abbrev cX0_back : ByteArray := prog_1_method_78_code
def yX0_back : MethodName := ⟨RX0, "back", "()I"⟩
def dkwX0_back_2 : List UInt8 := [42, 180, 0, 16, 3, 42, 180, 1, 217, 184, 1, 112, 42, 180, 0, 9, 172]
abbrev dktX0_back_2 : List UInt8 := dkwX0_back_2 ++ []
def dkwX0_back_1 : List UInt8 := [181, 1, 208, 42, 42, 180, 1, 226, 181, 1, 161, 42, 42, 180, 1, 229, 181, 1, 72, 42, 180, 1, 53, 3]
abbrev dktX0_back_1 : List UInt8 := dkwX0_back_1 ++ dktX0_back_2
def dkwX0_back_0 : List UInt8 := [42, 180, 1, 232, 154, 0, 6, 16, 253, 172, 42, 42, 180, 1, 220, 181, 1, 130, 42, 42, 180, 1, 223]
abbrev dktX0_back_0 : List UInt8 := dkwX0_back_0 ++ dktX0_back_1
theorem dksX0_back_0 : cX0_back.data.toList.drop 0 = dktX0_back_0 := by decide +kernel
theorem dksX0_back_1 : cX0_back.data.toList.drop 23 = dktX0_back_1 := dk_seg dksX0_back_0 23 rfl rfl
theorem dksX0_back_2 : cX0_back.data.toList.drop 47 = dktX0_back_2 := dk_seg dksX0_back_1 24 rfl rfl
theorem dX0_back_0 : decode cX0_back 0 = .ok (.aload_n 0, 1) := dk_42 (dk_at dksX0_back_0 0 rfl rfl)
theorem dX0_back_1 : decode cX0_back 1 = .ok (.getfield 488, 3) := dk_180 1 232 (dk_at dksX0_back_0 1 rfl rfl)
theorem dX0_back_4 : decode cX0_back 4 = .ok (.ifCond .ne 6, 3) := dk_154 0 6 (dk_at dksX0_back_0 4 rfl rfl)
theorem dX0_back_7 : decode cX0_back 7 = .ok (.bipush (-3), 2) := dk_16 253 (dk_at dksX0_back_0 7 rfl rfl)
theorem dX0_back_9 : decode cX0_back 9 = .ok (.ireturn, 1) := dk_172 (dk_at dksX0_back_0 9 rfl rfl)
theorem dX0_back_10 : decode cX0_back 10 = .ok (.aload_n 0, 1) := dk_42 (dk_at dksX0_back_0 10 rfl rfl)
theorem dX0_back_11 : decode cX0_back 11 = .ok (.aload_n 0, 1) := dk_42 (dk_at dksX0_back_0 11 rfl rfl)
theorem dX0_back_12 : decode cX0_back 12 = .ok (.getfield 476, 3) := dk_180 1 220 (dk_at dksX0_back_0 12 rfl rfl)
theorem dX0_back_15 : decode cX0_back 15 = .ok (.putfield 386, 3) := dk_181 1 130 (dk_at dksX0_back_0 15 rfl rfl)
theorem dX0_back_18 : decode cX0_back 18 = .ok (.aload_n 0, 1) := dk_42 (dk_at dksX0_back_0 18 rfl rfl)
theorem dX0_back_19 : decode cX0_back 19 = .ok (.aload_n 0, 1) := dk_42 (dk_at dksX0_back_0 19 rfl rfl)
theorem dX0_back_20 : decode cX0_back 20 = .ok (.getfield 479, 3) := dk_180 1 223 (dk_at dksX0_back_0 20 rfl rfl)
theorem dX0_back_23 : decode cX0_back 23 = .ok (.putfield 464, 3) := dk_181 1 208 (dk_at dksX0_back_1 0 rfl rfl)
theorem dX0_back_26 : decode cX0_back 26 = .ok (.aload_n 0, 1) := dk_42 (dk_at dksX0_back_1 3 rfl rfl)
theorem dX0_back_27 : decode cX0_back 27 = .ok (.aload_n 0, 1) := dk_42 (dk_at dksX0_back_1 4 rfl rfl)
theorem dX0_back_28 : decode cX0_back 28 = .ok (.getfield 482, 3) := dk_180 1 226 (dk_at dksX0_back_1 5 rfl rfl)
theorem dX0_back_31 : decode cX0_back 31 = .ok (.putfield 417, 3) := dk_181 1 161 (dk_at dksX0_back_1 8 rfl rfl)
theorem dX0_back_34 : decode cX0_back 34 = .ok (.aload_n 0, 1) := dk_42 (dk_at dksX0_back_1 11 rfl rfl)
theorem dX0_back_35 : decode cX0_back 35 = .ok (.aload_n 0, 1) := dk_42 (dk_at dksX0_back_1 12 rfl rfl)
theorem dX0_back_36 : decode cX0_back 36 = .ok (.getfield 485, 3) := dk_180 1 229 (dk_at dksX0_back_1 13 rfl rfl)
theorem dX0_back_39 : decode cX0_back 39 = .ok (.putfield 328, 3) := dk_181 1 72 (dk_at dksX0_back_1 16 rfl rfl)
theorem dX0_back_42 : decode cX0_back 42 = .ok (.aload_n 0, 1) := dk_42 (dk_at dksX0_back_1 19 rfl rfl)
theorem dX0_back_43 : decode cX0_back 43 = .ok (.getfield 309, 3) := dk_180 1 53 (dk_at dksX0_back_1 20 rfl rfl)
theorem dX0_back_46 : decode cX0_back 46 = .ok (.iconst 0, 1) := dk_3 (dk_at dksX0_back_1 23 rfl rfl)
theorem dX0_back_47 : decode cX0_back 47 = .ok (.aload_n 0, 1) := dk_42 (dk_at dksX0_back_2 0 rfl rfl)
theorem dX0_back_48 : decode cX0_back 48 = .ok (.getfield 16, 3) := dk_180 0 16 (dk_at dksX0_back_2 1 rfl rfl)
theorem dX0_back_51 : decode cX0_back 51 = .ok (.iconst 0, 1) := dk_3 (dk_at dksX0_back_2 4 rfl rfl)
theorem dX0_back_52 : decode cX0_back 52 = .ok (.aload_n 0, 1) := dk_42 (dk_at dksX0_back_2 5 rfl rfl)
theorem dX0_back_53 : decode cX0_back 53 = .ok (.getfield 473, 3) := dk_180 1 217 (dk_at dksX0_back_2 6 rfl rfl)
theorem dX0_back_56 : decode cX0_back 56 = .ok (.invokestatic 368, 3) := dk_184 1 112 (dk_at dksX0_back_2 9 rfl rfl)
theorem dX0_back_59 : decode cX0_back 59 = .ok (.aload_n 0, 1) := dk_42 (dk_at dksX0_back_2 12 rfl rfl)
theorem dX0_back_60 : decode cX0_back 60 = .ok (.getfield 9, 3) := dk_180 0 9 (dk_at dksX0_back_2 13 rfl rfl)
theorem dX0_back_63 : decode cX0_back 63 = .ok (.ireturn, 1) := dk_172 (dk_at dksX0_back_2 16 rfl rfl)
abbrev cX0_count : ByteArray := prog_1_method_79_code
def yX0_count : MethodName := ⟨RX0, "count", "(I)I"⟩
def dkwX0_count_3 : List UInt8 := [172, 42, 180, 1, 208, 172, 42, 180, 0, 241, 172, 42, 180, 0, 230, 172, 42, 180, 1, 72, 172, 16, 254, 172]
abbrev dktX0_count_3 : List UInt8 := dkwX0_count_3 ++ []
def dkwX0_count_2 : List UInt8 := [42, 180, 0, 9, 172, 42, 180, 0, 13, 172, 42, 180, 0, 47, 172, 42, 180, 1, 130, 172, 42, 180, 1, 161]
abbrev dktX0_count_2 : List UInt8 := dkwX0_count_2 ++ dktX0_count_3
def dkwX0_count_1 : List UInt8 := [170, 0, 0, 0, 0, 0, 96, 0, 0, 0, 0, 0, 0, 0, 8, 0, 0, 0, 51, 0, 0, 0, 56, 0, 0, 0, 61, 0, 0, 0, 66, 0, 0, 0, 71, 0, 0, 0, 76, 0, 0, 0, 81, 0, 0, 0, 86, 0, 0, 0, 91]
abbrev dktX0_count_1 : List UInt8 := dkwX0_count_1 ++ dktX0_count_2
def dkwX0_count_0 : List UInt8 := [27]
abbrev dktX0_count_0 : List UInt8 := dkwX0_count_0 ++ dktX0_count_1
theorem dksX0_count_0 : cX0_count.data.toList.drop 0 = dktX0_count_0 := by decide +kernel
theorem dksX0_count_1 : cX0_count.data.toList.drop 1 = dktX0_count_1 := dk_seg dksX0_count_0 1 rfl rfl
theorem dksX0_count_2 : cX0_count.data.toList.drop 52 = dktX0_count_2 := dk_seg dksX0_count_1 51 rfl rfl
theorem dksX0_count_3 : cX0_count.data.toList.drop 76 = dktX0_count_3 := dk_seg dksX0_count_2 24 rfl rfl
theorem dX0_count_0 : decode cX0_count 0 = .ok (.iload_n 1, 1) := dk_27 (dk_at dksX0_count_0 0 rfl rfl)
theorem dX0_count_1 : decode cX0_count 1 = .ok (.tableswitch 96 0 8 #[51, 56, 61, 66, 71, 76, 81, 86, 91], 51) := by decide +kernel
theorem dX0_count_52 : decode cX0_count 52 = .ok (.aload_n 0, 1) := dk_42 (dk_at dksX0_count_2 0 rfl rfl)
theorem dX0_count_53 : decode cX0_count 53 = .ok (.getfield 9, 3) := dk_180 0 9 (dk_at dksX0_count_2 1 rfl rfl)
theorem dX0_count_56 : decode cX0_count 56 = .ok (.ireturn, 1) := dk_172 (dk_at dksX0_count_2 4 rfl rfl)
theorem dX0_count_57 : decode cX0_count 57 = .ok (.aload_n 0, 1) := dk_42 (dk_at dksX0_count_2 5 rfl rfl)
theorem dX0_count_58 : decode cX0_count 58 = .ok (.getfield 13, 3) := dk_180 0 13 (dk_at dksX0_count_2 6 rfl rfl)
theorem dX0_count_61 : decode cX0_count 61 = .ok (.ireturn, 1) := dk_172 (dk_at dksX0_count_2 9 rfl rfl)
theorem dX0_count_62 : decode cX0_count 62 = .ok (.aload_n 0, 1) := dk_42 (dk_at dksX0_count_2 10 rfl rfl)
theorem dX0_count_63 : decode cX0_count 63 = .ok (.getfield 47, 3) := dk_180 0 47 (dk_at dksX0_count_2 11 rfl rfl)
theorem dX0_count_66 : decode cX0_count 66 = .ok (.ireturn, 1) := dk_172 (dk_at dksX0_count_2 14 rfl rfl)
theorem dX0_count_67 : decode cX0_count 67 = .ok (.aload_n 0, 1) := dk_42 (dk_at dksX0_count_2 15 rfl rfl)
theorem dX0_count_68 : decode cX0_count 68 = .ok (.getfield 386, 3) := dk_180 1 130 (dk_at dksX0_count_2 16 rfl rfl)
theorem dX0_count_71 : decode cX0_count 71 = .ok (.ireturn, 1) := dk_172 (dk_at dksX0_count_2 19 rfl rfl)
theorem dX0_count_72 : decode cX0_count 72 = .ok (.aload_n 0, 1) := dk_42 (dk_at dksX0_count_2 20 rfl rfl)
theorem dX0_count_73 : decode cX0_count 73 = .ok (.getfield 417, 3) := dk_180 1 161 (dk_at dksX0_count_2 21 rfl rfl)
theorem dX0_count_76 : decode cX0_count 76 = .ok (.ireturn, 1) := dk_172 (dk_at dksX0_count_3 0 rfl rfl)
theorem dX0_count_77 : decode cX0_count 77 = .ok (.aload_n 0, 1) := dk_42 (dk_at dksX0_count_3 1 rfl rfl)
theorem dX0_count_78 : decode cX0_count 78 = .ok (.getfield 464, 3) := dk_180 1 208 (dk_at dksX0_count_3 2 rfl rfl)
theorem dX0_count_81 : decode cX0_count 81 = .ok (.ireturn, 1) := dk_172 (dk_at dksX0_count_3 5 rfl rfl)
theorem dX0_count_82 : decode cX0_count 82 = .ok (.aload_n 0, 1) := dk_42 (dk_at dksX0_count_3 6 rfl rfl)
theorem dX0_count_83 : decode cX0_count 83 = .ok (.getfield 241, 3) := dk_180 0 241 (dk_at dksX0_count_3 7 rfl rfl)
theorem dX0_count_86 : decode cX0_count 86 = .ok (.ireturn, 1) := dk_172 (dk_at dksX0_count_3 10 rfl rfl)
theorem dX0_count_87 : decode cX0_count 87 = .ok (.aload_n 0, 1) := dk_42 (dk_at dksX0_count_3 11 rfl rfl)
theorem dX0_count_88 : decode cX0_count 88 = .ok (.getfield 230, 3) := dk_180 0 230 (dk_at dksX0_count_3 12 rfl rfl)
theorem dX0_count_91 : decode cX0_count 91 = .ok (.ireturn, 1) := dk_172 (dk_at dksX0_count_3 15 rfl rfl)
theorem dX0_count_92 : decode cX0_count 92 = .ok (.aload_n 0, 1) := dk_42 (dk_at dksX0_count_3 16 rfl rfl)
theorem dX0_count_93 : decode cX0_count 93 = .ok (.getfield 328, 3) := dk_180 1 72 (dk_at dksX0_count_3 17 rfl rfl)
theorem dX0_count_96 : decode cX0_count 96 = .ok (.ireturn, 1) := dk_172 (dk_at dksX0_count_3 20 rfl rfl)
theorem dX0_count_97 : decode cX0_count 97 = .ok (.bipush (-2), 2) := dk_16 254 (dk_at dksX0_count_3 21 rfl rfl)
theorem dX0_count_99 : decode cX0_count 99 = .ok (.ireturn, 1) := dk_172 (dk_at dksX0_count_3 23 rfl rfl)
abbrev cX0_sheet : ByteArray := prog_1_method_82_code
def yX0_sheet : MethodName := ⟨RX0, "sheet", "(III)I"⟩
def dkwX0_sheet_3 : List UInt8 := [16, 242, 172]
abbrev dktX0_sheet_3 : List UInt8 := dkwX0_sheet_3 ++ []
def dkwX0_sheet_2 : List UInt8 := [181, 1, 240, 4, 172, 42, 180, 1, 59, 27, 50, 28, 29, 184, 1, 244, 181, 1, 240, 4, 172, 58, 4]
abbrev dktX0_sheet_2 : List UInt8 := dkwX0_sheet_2 ++ dktX0_sheet_3
def dkwX0_sheet_1 : List UInt8 := [159, 0, 12, 29, 16, 40, 164, 0, 6, 16, 254, 172, 28, 2, 160, 0, 15, 42, 180, 1, 59, 27, 50, 1]
abbrev dktX0_sheet_1 : List UInt8 := dkwX0_sheet_1 ++ dktX0_sheet_2
def dkwX0_sheet_0 : List UInt8 := [27, 184, 1, 199, 153, 0, 28, 28, 133, 20, 1, 238, 20, 0, 89, 184, 0, 5, 153, 0, 14, 28, 2]
abbrev dktX0_sheet_0 : List UInt8 := dkwX0_sheet_0 ++ dktX0_sheet_1
theorem dksX0_sheet_0 : cX0_sheet.data.toList.drop 0 = dktX0_sheet_0 := by decide +kernel
theorem dksX0_sheet_1 : cX0_sheet.data.toList.drop 23 = dktX0_sheet_1 := dk_seg dksX0_sheet_0 23 rfl rfl
theorem dksX0_sheet_2 : cX0_sheet.data.toList.drop 47 = dktX0_sheet_2 := dk_seg dksX0_sheet_1 24 rfl rfl
theorem dksX0_sheet_3 : cX0_sheet.data.toList.drop 70 = dktX0_sheet_3 := dk_seg dksX0_sheet_2 23 rfl rfl
theorem dX0_sheet_0 : decode cX0_sheet 0 = .ok (.iload_n 1, 1) := dk_27 (dk_at dksX0_sheet_0 0 rfl rfl)
theorem dX0_sheet_1 : decode cX0_sheet 1 = .ok (.invokestatic 455, 3) := dk_184 1 199 (dk_at dksX0_sheet_0 1 rfl rfl)
theorem dX0_sheet_4 : decode cX0_sheet 4 = .ok (.ifCond .eq 28, 3) := dk_153 0 28 (dk_at dksX0_sheet_0 4 rfl rfl)
theorem dX0_sheet_7 : decode cX0_sheet 7 = .ok (.iload_n 2, 1) := dk_28 (dk_at dksX0_sheet_0 7 rfl rfl)
theorem dX0_sheet_8 : decode cX0_sheet 8 = .ok (.i2l, 1) := dk_133 (dk_at dksX0_sheet_0 8 rfl rfl)
theorem dX0_sheet_9 : decode cX0_sheet 9 = .ok (.ldc2_w 494, 3) := dk_20 1 238 (dk_at dksX0_sheet_0 9 rfl rfl)
theorem dX0_sheet_12 : decode cX0_sheet 12 = .ok (.ldc2_w 89, 3) := dk_20 0 89 (dk_at dksX0_sheet_0 12 rfl rfl)
theorem dX0_sheet_15 : decode cX0_sheet 15 = .ok (.invokestatic 5, 3) := dk_184 0 5 (dk_at dksX0_sheet_0 15 rfl rfl)
theorem dX0_sheet_18 : decode cX0_sheet 18 = .ok (.ifCond .eq 14, 3) := dk_153 0 14 (dk_at dksX0_sheet_0 18 rfl rfl)
theorem dX0_sheet_21 : decode cX0_sheet 21 = .ok (.iload_n 2, 1) := dk_28 (dk_at dksX0_sheet_0 21 rfl rfl)
theorem dX0_sheet_22 : decode cX0_sheet 22 = .ok (.iconst (-1), 1) := dk_2 (dk_at dksX0_sheet_0 22 rfl rfl)
theorem dX0_sheet_23 : decode cX0_sheet 23 = .ok (.if_icmp .eq 12, 3) := dk_159 0 12 (dk_at dksX0_sheet_1 0 rfl rfl)
theorem dX0_sheet_26 : decode cX0_sheet 26 = .ok (.iload_n 3, 1) := dk_29 (dk_at dksX0_sheet_1 3 rfl rfl)
theorem dX0_sheet_27 : decode cX0_sheet 27 = .ok (.bipush 40, 2) := dk_16 40 (dk_at dksX0_sheet_1 4 rfl rfl)
theorem dX0_sheet_29 : decode cX0_sheet 29 = .ok (.if_icmp .le 6, 3) := dk_164 0 6 (dk_at dksX0_sheet_1 6 rfl rfl)
theorem dX0_sheet_32 : decode cX0_sheet 32 = .ok (.bipush (-2), 2) := dk_16 254 (dk_at dksX0_sheet_1 9 rfl rfl)
theorem dX0_sheet_34 : decode cX0_sheet 34 = .ok (.ireturn, 1) := dk_172 (dk_at dksX0_sheet_1 11 rfl rfl)
theorem dX0_sheet_35 : decode cX0_sheet 35 = .ok (.iload_n 2, 1) := dk_28 (dk_at dksX0_sheet_1 12 rfl rfl)
theorem dX0_sheet_36 : decode cX0_sheet 36 = .ok (.iconst (-1), 1) := dk_2 (dk_at dksX0_sheet_1 13 rfl rfl)
theorem dX0_sheet_37 : decode cX0_sheet 37 = .ok (.if_icmp .ne 15, 3) := dk_160 0 15 (dk_at dksX0_sheet_1 14 rfl rfl)
theorem dX0_sheet_40 : decode cX0_sheet 40 = .ok (.aload_n 0, 1) := dk_42 (dk_at dksX0_sheet_1 17 rfl rfl)
theorem dX0_sheet_41 : decode cX0_sheet 41 = .ok (.getfield 315, 3) := dk_180 1 59 (dk_at dksX0_sheet_1 18 rfl rfl)
theorem dX0_sheet_44 : decode cX0_sheet 44 = .ok (.iload_n 1, 1) := dk_27 (dk_at dksX0_sheet_1 21 rfl rfl)
theorem dX0_sheet_45 : decode cX0_sheet 45 = .ok (.aaload, 1) := dk_50 (dk_at dksX0_sheet_1 22 rfl rfl)
theorem dX0_sheet_46 : decode cX0_sheet 46 = .ok (.aconst_null, 1) := dk_1 (dk_at dksX0_sheet_1 23 rfl rfl)
theorem dX0_sheet_47 : decode cX0_sheet 47 = .ok (.putfield 496, 3) := dk_181 1 240 (dk_at dksX0_sheet_2 0 rfl rfl)
theorem dX0_sheet_50 : decode cX0_sheet 50 = .ok (.iconst 1, 1) := dk_4 (dk_at dksX0_sheet_2 3 rfl rfl)
theorem dX0_sheet_51 : decode cX0_sheet 51 = .ok (.ireturn, 1) := dk_172 (dk_at dksX0_sheet_2 4 rfl rfl)
theorem dX0_sheet_52 : decode cX0_sheet 52 = .ok (.aload_n 0, 1) := dk_42 (dk_at dksX0_sheet_2 5 rfl rfl)
theorem dX0_sheet_53 : decode cX0_sheet 53 = .ok (.getfield 315, 3) := dk_180 1 59 (dk_at dksX0_sheet_2 6 rfl rfl)
theorem dX0_sheet_56 : decode cX0_sheet 56 = .ok (.iload_n 1, 1) := dk_27 (dk_at dksX0_sheet_2 9 rfl rfl)
theorem dX0_sheet_57 : decode cX0_sheet 57 = .ok (.aaload, 1) := dk_50 (dk_at dksX0_sheet_2 10 rfl rfl)
theorem dX0_sheet_58 : decode cX0_sheet 58 = .ok (.iload_n 2, 1) := dk_28 (dk_at dksX0_sheet_2 11 rfl rfl)
theorem dX0_sheet_59 : decode cX0_sheet 59 = .ok (.iload_n 3, 1) := dk_29 (dk_at dksX0_sheet_2 12 rfl rfl)
theorem dX0_sheet_60 : decode cX0_sheet 60 = .ok (.invokestatic 500, 3) := dk_184 1 244 (dk_at dksX0_sheet_2 13 rfl rfl)
theorem dX0_sheet_63 : decode cX0_sheet 63 = .ok (.putfield 496, 3) := dk_181 1 240 (dk_at dksX0_sheet_2 16 rfl rfl)
theorem dX0_sheet_66 : decode cX0_sheet 66 = .ok (.iconst 1, 1) := dk_4 (dk_at dksX0_sheet_2 19 rfl rfl)
theorem dX0_sheet_67 : decode cX0_sheet 67 = .ok (.ireturn, 1) := dk_172 (dk_at dksX0_sheet_2 20 rfl rfl)
theorem dX0_sheet_68 : decode cX0_sheet 68 = .ok (.astore 4, 2) := dk_58 4 (dk_at dksX0_sheet_2 21 rfl rfl)
theorem dX0_sheet_70 : decode cX0_sheet 70 = .ok (.bipush (-14), 2) := dk_16 242 (dk_at dksX0_sheet_3 0 rfl rfl)
theorem dX0_sheet_72 : decode cX0_sheet 72 = .ok (.ireturn, 1) := dk_172 (dk_at dksX0_sheet_3 2 rfl rfl)
abbrev cX0_rowOf : ByteArray := prog_1_method_81_code
def yX0_rowOf : MethodName := ⟨RX0, "rowOf", "(II)Ljava/lang/Object;"⟩
def dkwX0_rowOf_2 : List UInt8 := [27, 188, 8, 176, 27, 188, 9, 176, 27, 188, 10, 176]
abbrev dktX0_rowOf_2 : List UInt8 := dkwX0_rowOf_2 ++ []
def dkwX0_rowOf_1 : List UInt8 := [171, 0, 0, 0, 0, 0, 35, 0, 0, 0, 2, 0, 0, 0, 0, 0, 0, 0, 27, 0, 0, 0, 1, 0, 0, 0, 31]
abbrev dktX0_rowOf_1 : List UInt8 := dkwX0_rowOf_1 ++ dktX0_rowOf_2
def dkwX0_rowOf_0 : List UInt8 := [26]
abbrev dktX0_rowOf_0 : List UInt8 := dkwX0_rowOf_0 ++ dktX0_rowOf_1
theorem dksX0_rowOf_0 : cX0_rowOf.data.toList.drop 0 = dktX0_rowOf_0 := by decide +kernel
theorem dksX0_rowOf_1 : cX0_rowOf.data.toList.drop 1 = dktX0_rowOf_1 := dk_seg dksX0_rowOf_0 1 rfl rfl
theorem dksX0_rowOf_2 : cX0_rowOf.data.toList.drop 28 = dktX0_rowOf_2 := dk_seg dksX0_rowOf_1 27 rfl rfl
theorem dX0_rowOf_0 : decode cX0_rowOf 0 = .ok (.iload_n 0, 1) := dk_26 (dk_at dksX0_rowOf_0 0 rfl rfl)
theorem dX0_rowOf_1 : decode cX0_rowOf 1 = .ok (.lookupswitch 35 #[(0, 27), (1, 31)], 27) := by decide +kernel
theorem dX0_rowOf_28 : decode cX0_rowOf 28 = .ok (.iload_n 1, 1) := dk_27 (dk_at dksX0_rowOf_2 0 rfl rfl)
theorem dX0_rowOf_29 : decode cX0_rowOf 29 = .ok (.newarray .byte, 2) := dk_188_8 (dk_at dksX0_rowOf_2 1 rfl rfl)
theorem dX0_rowOf_31 : decode cX0_rowOf 31 = .ok (.areturn, 1) := dk_176 (dk_at dksX0_rowOf_2 3 rfl rfl)
theorem dX0_rowOf_32 : decode cX0_rowOf 32 = .ok (.iload_n 1, 1) := dk_27 (dk_at dksX0_rowOf_2 4 rfl rfl)
theorem dX0_rowOf_33 : decode cX0_rowOf 33 = .ok (.newarray .short, 2) := dk_188_9 (dk_at dksX0_rowOf_2 5 rfl rfl)
theorem dX0_rowOf_35 : decode cX0_rowOf 35 = .ok (.areturn, 1) := dk_176 (dk_at dksX0_rowOf_2 7 rfl rfl)
theorem dX0_rowOf_36 : decode cX0_rowOf 36 = .ok (.iload_n 1, 1) := dk_27 (dk_at dksX0_rowOf_2 8 rfl rfl)
theorem dX0_rowOf_37 : decode cX0_rowOf 37 = .ok (.newarray .int, 2) := dk_188_10 (dk_at dksX0_rowOf_2 9 rfl rfl)
theorem dX0_rowOf_39 : decode cX0_rowOf 39 = .ok (.areturn, 1) := dk_176 (dk_at dksX0_rowOf_2 11 rfl rfl)
abbrev cX0_cell : ByteArray := prog_1_method_84_code
def yX0_cell : MethodName := ⟨RX0, "cell", "(III)I"⟩
def dkwX0_cell_1 : List UInt8 := [172, 58, 4, 16, 245, 172, 58, 4, 16, 244, 172]
abbrev dktX0_cell_1 : List UInt8 := dkwX0_cell_1 ++ []
def dkwX0_cell_0 : List UInt8 := [27, 184, 1, 199, 154, 0, 6, 16, 254, 172, 42, 180, 1, 59, 27, 50, 180, 1, 240, 28, 29, 184, 2, 2]
abbrev dktX0_cell_0 : List UInt8 := dkwX0_cell_0 ++ dktX0_cell_1
theorem dksX0_cell_0 : cX0_cell.data.toList.drop 0 = dktX0_cell_0 := by decide +kernel
theorem dksX0_cell_1 : cX0_cell.data.toList.drop 24 = dktX0_cell_1 := dk_seg dksX0_cell_0 24 rfl rfl
theorem dX0_cell_0 : decode cX0_cell 0 = .ok (.iload_n 1, 1) := dk_27 (dk_at dksX0_cell_0 0 rfl rfl)
theorem dX0_cell_1 : decode cX0_cell 1 = .ok (.invokestatic 455, 3) := dk_184 1 199 (dk_at dksX0_cell_0 1 rfl rfl)
theorem dX0_cell_4 : decode cX0_cell 4 = .ok (.ifCond .ne 6, 3) := dk_154 0 6 (dk_at dksX0_cell_0 4 rfl rfl)
theorem dX0_cell_7 : decode cX0_cell 7 = .ok (.bipush (-2), 2) := dk_16 254 (dk_at dksX0_cell_0 7 rfl rfl)
theorem dX0_cell_9 : decode cX0_cell 9 = .ok (.ireturn, 1) := dk_172 (dk_at dksX0_cell_0 9 rfl rfl)
theorem dX0_cell_10 : decode cX0_cell 10 = .ok (.aload_n 0, 1) := dk_42 (dk_at dksX0_cell_0 10 rfl rfl)
theorem dX0_cell_11 : decode cX0_cell 11 = .ok (.getfield 315, 3) := dk_180 1 59 (dk_at dksX0_cell_0 11 rfl rfl)
theorem dX0_cell_14 : decode cX0_cell 14 = .ok (.iload_n 1, 1) := dk_27 (dk_at dksX0_cell_0 14 rfl rfl)
theorem dX0_cell_15 : decode cX0_cell 15 = .ok (.aaload, 1) := dk_50 (dk_at dksX0_cell_0 15 rfl rfl)
theorem dX0_cell_16 : decode cX0_cell 16 = .ok (.getfield 496, 3) := dk_180 1 240 (dk_at dksX0_cell_0 16 rfl rfl)
theorem dX0_cell_19 : decode cX0_cell 19 = .ok (.iload_n 2, 1) := dk_28 (dk_at dksX0_cell_0 19 rfl rfl)
theorem dX0_cell_20 : decode cX0_cell 20 = .ok (.iload_n 3, 1) := dk_29 (dk_at dksX0_cell_0 20 rfl rfl)
theorem dX0_cell_21 : decode cX0_cell 21 = .ok (.invokestatic 514, 3) := dk_184 2 2 (dk_at dksX0_cell_0 21 rfl rfl)
theorem dX0_cell_24 : decode cX0_cell 24 = .ok (.ireturn, 1) := dk_172 (dk_at dksX0_cell_1 0 rfl rfl)
theorem dX0_cell_25 : decode cX0_cell 25 = .ok (.astore 4, 2) := dk_58 4 (dk_at dksX0_cell_1 1 rfl rfl)
theorem dX0_cell_27 : decode cX0_cell 27 = .ok (.bipush (-11), 2) := dk_16 245 (dk_at dksX0_cell_1 3 rfl rfl)
theorem dX0_cell_29 : decode cX0_cell 29 = .ok (.ireturn, 1) := dk_172 (dk_at dksX0_cell_1 5 rfl rfl)
theorem dX0_cell_30 : decode cX0_cell 30 = .ok (.astore 4, 2) := dk_58 4 (dk_at dksX0_cell_1 6 rfl rfl)
theorem dX0_cell_32 : decode cX0_cell 32 = .ok (.bipush (-12), 2) := dk_16 244 (dk_at dksX0_cell_1 8 rfl rfl)
theorem dX0_cell_34 : decode cX0_cell 34 = .ok (.ireturn, 1) := dk_172 (dk_at dksX0_cell_1 10 rfl rfl)
abbrev cX0_put : ByteArray := prog_1_method_83_code
def yX0_put : MethodName := ⟨RX0, "put", "(Ljava/lang/Object;II)I"⟩
def dkwX0_put_2 : List UInt8 := [28, 147, 86, 167, 0, 19, 27, 42, 192, 2, 1, 190, 184, 1, 251, 42, 192, 2, 1, 27, 28, 79, 4, 172]
abbrev dktX0_put_2 : List UInt8 := dkwX0_put_2 ++ []
def dkwX0_put_1 : List UInt8 := [167, 0, 46, 42, 193, 1, 255, 153, 0, 23, 27, 42, 192, 1, 255, 190, 184, 1, 251, 42, 192, 1, 255, 27]
abbrev dktX0_put_1 : List UInt8 := dkwX0_put_1 ++ dktX0_put_2
def dkwX0_put_0 : List UInt8 := [42, 193, 1, 250, 153, 0, 23, 27, 42, 192, 1, 250, 190, 184, 1, 251, 42, 192, 1, 250, 27, 28, 145, 84]
abbrev dktX0_put_0 : List UInt8 := dkwX0_put_0 ++ dktX0_put_1
theorem dksX0_put_0 : cX0_put.data.toList.drop 0 = dktX0_put_0 := by decide +kernel
theorem dksX0_put_1 : cX0_put.data.toList.drop 24 = dktX0_put_1 := dk_seg dksX0_put_0 24 rfl rfl
theorem dksX0_put_2 : cX0_put.data.toList.drop 48 = dktX0_put_2 := dk_seg dksX0_put_1 24 rfl rfl
theorem dX0_put_0 : decode cX0_put 0 = .ok (.aload_n 0, 1) := dk_42 (dk_at dksX0_put_0 0 rfl rfl)
theorem dX0_put_1 : decode cX0_put 1 = .ok (.instanceof 506, 3) := dk_193 1 250 (dk_at dksX0_put_0 1 rfl rfl)
theorem dX0_put_4 : decode cX0_put 4 = .ok (.ifCond .eq 23, 3) := dk_153 0 23 (dk_at dksX0_put_0 4 rfl rfl)
theorem dX0_put_7 : decode cX0_put 7 = .ok (.iload_n 1, 1) := dk_27 (dk_at dksX0_put_0 7 rfl rfl)
theorem dX0_put_8 : decode cX0_put 8 = .ok (.aload_n 0, 1) := dk_42 (dk_at dksX0_put_0 8 rfl rfl)
theorem dX0_put_9 : decode cX0_put 9 = .ok (.checkcast 506, 3) := dk_192 1 250 (dk_at dksX0_put_0 9 rfl rfl)
theorem dX0_put_12 : decode cX0_put 12 = .ok (.arraylength, 1) := dk_190 (dk_at dksX0_put_0 12 rfl rfl)
theorem dX0_put_13 : decode cX0_put 13 = .ok (.invokestatic 507, 3) := dk_184 1 251 (dk_at dksX0_put_0 13 rfl rfl)
theorem dX0_put_16 : decode cX0_put 16 = .ok (.aload_n 0, 1) := dk_42 (dk_at dksX0_put_0 16 rfl rfl)
theorem dX0_put_17 : decode cX0_put 17 = .ok (.checkcast 506, 3) := dk_192 1 250 (dk_at dksX0_put_0 17 rfl rfl)
theorem dX0_put_20 : decode cX0_put 20 = .ok (.iload_n 1, 1) := dk_27 (dk_at dksX0_put_0 20 rfl rfl)
theorem dX0_put_21 : decode cX0_put 21 = .ok (.iload_n 2, 1) := dk_28 (dk_at dksX0_put_0 21 rfl rfl)
theorem dX0_put_22 : decode cX0_put 22 = .ok (.i2b, 1) := dk_145 (dk_at dksX0_put_0 22 rfl rfl)
theorem dX0_put_23 : decode cX0_put 23 = .ok (.bastore, 1) := dk_84 (dk_at dksX0_put_0 23 rfl rfl)
theorem dX0_put_24 : decode cX0_put 24 = .ok (.goto 46, 3) := dk_167 0 46 (dk_at dksX0_put_1 0 rfl rfl)
theorem dX0_put_27 : decode cX0_put 27 = .ok (.aload_n 0, 1) := dk_42 (dk_at dksX0_put_1 3 rfl rfl)
theorem dX0_put_28 : decode cX0_put 28 = .ok (.instanceof 511, 3) := dk_193 1 255 (dk_at dksX0_put_1 4 rfl rfl)
theorem dX0_put_31 : decode cX0_put 31 = .ok (.ifCond .eq 23, 3) := dk_153 0 23 (dk_at dksX0_put_1 7 rfl rfl)
theorem dX0_put_34 : decode cX0_put 34 = .ok (.iload_n 1, 1) := dk_27 (dk_at dksX0_put_1 10 rfl rfl)
theorem dX0_put_35 : decode cX0_put 35 = .ok (.aload_n 0, 1) := dk_42 (dk_at dksX0_put_1 11 rfl rfl)
theorem dX0_put_36 : decode cX0_put 36 = .ok (.checkcast 511, 3) := dk_192 1 255 (dk_at dksX0_put_1 12 rfl rfl)
theorem dX0_put_39 : decode cX0_put 39 = .ok (.arraylength, 1) := dk_190 (dk_at dksX0_put_1 15 rfl rfl)
theorem dX0_put_40 : decode cX0_put 40 = .ok (.invokestatic 507, 3) := dk_184 1 251 (dk_at dksX0_put_1 16 rfl rfl)
theorem dX0_put_43 : decode cX0_put 43 = .ok (.aload_n 0, 1) := dk_42 (dk_at dksX0_put_1 19 rfl rfl)
theorem dX0_put_44 : decode cX0_put 44 = .ok (.checkcast 511, 3) := dk_192 1 255 (dk_at dksX0_put_1 20 rfl rfl)
theorem dX0_put_47 : decode cX0_put 47 = .ok (.iload_n 1, 1) := dk_27 (dk_at dksX0_put_1 23 rfl rfl)
theorem dX0_put_48 : decode cX0_put 48 = .ok (.iload_n 2, 1) := dk_28 (dk_at dksX0_put_2 0 rfl rfl)
theorem dX0_put_49 : decode cX0_put 49 = .ok (.i2s, 1) := dk_147 (dk_at dksX0_put_2 1 rfl rfl)
theorem dX0_put_50 : decode cX0_put 50 = .ok (.sastore, 1) := dk_86 (dk_at dksX0_put_2 2 rfl rfl)
theorem dX0_put_51 : decode cX0_put 51 = .ok (.goto 19, 3) := dk_167 0 19 (dk_at dksX0_put_2 3 rfl rfl)
theorem dX0_put_54 : decode cX0_put 54 = .ok (.iload_n 1, 1) := dk_27 (dk_at dksX0_put_2 6 rfl rfl)
theorem dX0_put_55 : decode cX0_put 55 = .ok (.aload_n 0, 1) := dk_42 (dk_at dksX0_put_2 7 rfl rfl)
theorem dX0_put_56 : decode cX0_put 56 = .ok (.checkcast 513, 3) := dk_192 2 1 (dk_at dksX0_put_2 8 rfl rfl)
theorem dX0_put_59 : decode cX0_put 59 = .ok (.arraylength, 1) := dk_190 (dk_at dksX0_put_2 11 rfl rfl)
theorem dX0_put_60 : decode cX0_put 60 = .ok (.invokestatic 507, 3) := dk_184 1 251 (dk_at dksX0_put_2 12 rfl rfl)
theorem dX0_put_63 : decode cX0_put 63 = .ok (.aload_n 0, 1) := dk_42 (dk_at dksX0_put_2 15 rfl rfl)
theorem dX0_put_64 : decode cX0_put 64 = .ok (.checkcast 513, 3) := dk_192 2 1 (dk_at dksX0_put_2 16 rfl rfl)
theorem dX0_put_67 : decode cX0_put 67 = .ok (.iload_n 1, 1) := dk_27 (dk_at dksX0_put_2 19 rfl rfl)
theorem dX0_put_68 : decode cX0_put 68 = .ok (.iload_n 2, 1) := dk_28 (dk_at dksX0_put_2 20 rfl rfl)
theorem dX0_put_69 : decode cX0_put 69 = .ok (.iastore, 1) := dk_79 (dk_at dksX0_put_2 21 rfl rfl)
theorem dX0_put_70 : decode cX0_put 70 = .ok (.iconst 1, 1) := dk_4 (dk_at dksX0_put_2 22 rfl rfl)
theorem dX0_put_71 : decode cX0_put 71 = .ok (.ireturn, 1) := dk_172 (dk_at dksX0_put_2 23 rfl rfl)
abbrev cX0_copy : ByteArray := prog_1_method_91_code
def yX0_copy : MethodName := ⟨RX0, "copy", "(IIIII)I"⟩
def dkwX0_copy_6 : List UInt8 := [172, 25, 6, 28, 25, 7, 21, 4, 21, 5, 184, 1, 112, 21, 5, 172]
abbrev dktX0_copy_6 : List UInt8 := dkwX0_copy_6 ++ []
def dkwX0_copy_5 : List UInt8 := [163, 0, 22, 21, 5, 21, 8, 28, 100, 163, 0, 13, 21, 5, 21, 9, 21, 4, 100, 164, 0, 6, 16, 244]
abbrev dktX0_copy_5 : List UInt8 := dkwX0_copy_5 ++ dktX0_copy_6
def dkwX0_copy_4 : List UInt8 := [155, 0, 44, 28, 155, 0, 40, 21, 4, 155, 0, 35, 28, 21, 8, 163, 0, 29, 21, 4, 21, 9]
abbrev dktX0_copy_4 : List UInt8 := dkwX0_copy_4 ++ dktX0_copy_5
def dkwX0_copy_3 : List UInt8 := [25, 6, 184, 2, 11, 184, 2, 15, 54, 8, 25, 7, 25, 7, 184, 2, 11, 184, 2, 15, 54, 9, 21, 5]
abbrev dktX0_copy_3 : List UInt8 := dkwX0_copy_3 ++ dktX0_copy_4
def dkwX0_copy_2 : List UInt8 := [199, 0, 6, 16, 245, 172, 25, 6, 184, 2, 11, 25, 7, 184, 2, 11, 159, 0, 6, 16, 243, 172, 25, 6]
abbrev dktX0_copy_2 : List UInt8 := dkwX0_copy_2 ++ dktX0_copy_3
def dkwX0_copy_1 : List UInt8 := [180, 1, 240, 58, 6, 42, 180, 1, 59, 29, 50, 180, 1, 240, 58, 7, 25, 6, 198, 0, 8, 25, 7]
abbrev dktX0_copy_1 : List UInt8 := dkwX0_copy_1 ++ dktX0_copy_2
def dkwX0_copy_0 : List UInt8 := [27, 184, 1, 199, 153, 0, 10, 29, 184, 1, 199, 154, 0, 6, 16, 254, 172, 42, 180, 1, 59, 27, 50]
abbrev dktX0_copy_0 : List UInt8 := dkwX0_copy_0 ++ dktX0_copy_1
theorem dksX0_copy_0 : cX0_copy.data.toList.drop 0 = dktX0_copy_0 := by decide +kernel
theorem dksX0_copy_1 : cX0_copy.data.toList.drop 23 = dktX0_copy_1 := dk_seg dksX0_copy_0 23 rfl rfl
theorem dksX0_copy_2 : cX0_copy.data.toList.drop 46 = dktX0_copy_2 := dk_seg dksX0_copy_1 23 rfl rfl
theorem dksX0_copy_3 : cX0_copy.data.toList.drop 70 = dktX0_copy_3 := dk_seg dksX0_copy_2 24 rfl rfl
theorem dksX0_copy_4 : cX0_copy.data.toList.drop 94 = dktX0_copy_4 := dk_seg dksX0_copy_3 24 rfl rfl
theorem dksX0_copy_5 : cX0_copy.data.toList.drop 116 = dktX0_copy_5 := dk_seg dksX0_copy_4 22 rfl rfl
theorem dksX0_copy_6 : cX0_copy.data.toList.drop 140 = dktX0_copy_6 := dk_seg dksX0_copy_5 24 rfl rfl
theorem dX0_copy_0 : decode cX0_copy 0 = .ok (.iload_n 1, 1) := dk_27 (dk_at dksX0_copy_0 0 rfl rfl)
theorem dX0_copy_1 : decode cX0_copy 1 = .ok (.invokestatic 455, 3) := dk_184 1 199 (dk_at dksX0_copy_0 1 rfl rfl)
theorem dX0_copy_4 : decode cX0_copy 4 = .ok (.ifCond .eq 10, 3) := dk_153 0 10 (dk_at dksX0_copy_0 4 rfl rfl)
theorem dX0_copy_7 : decode cX0_copy 7 = .ok (.iload_n 3, 1) := dk_29 (dk_at dksX0_copy_0 7 rfl rfl)
theorem dX0_copy_8 : decode cX0_copy 8 = .ok (.invokestatic 455, 3) := dk_184 1 199 (dk_at dksX0_copy_0 8 rfl rfl)
theorem dX0_copy_11 : decode cX0_copy 11 = .ok (.ifCond .ne 6, 3) := dk_154 0 6 (dk_at dksX0_copy_0 11 rfl rfl)
theorem dX0_copy_14 : decode cX0_copy 14 = .ok (.bipush (-2), 2) := dk_16 254 (dk_at dksX0_copy_0 14 rfl rfl)
theorem dX0_copy_16 : decode cX0_copy 16 = .ok (.ireturn, 1) := dk_172 (dk_at dksX0_copy_0 16 rfl rfl)
theorem dX0_copy_17 : decode cX0_copy 17 = .ok (.aload_n 0, 1) := dk_42 (dk_at dksX0_copy_0 17 rfl rfl)
theorem dX0_copy_18 : decode cX0_copy 18 = .ok (.getfield 315, 3) := dk_180 1 59 (dk_at dksX0_copy_0 18 rfl rfl)
theorem dX0_copy_21 : decode cX0_copy 21 = .ok (.iload_n 1, 1) := dk_27 (dk_at dksX0_copy_0 21 rfl rfl)
theorem dX0_copy_22 : decode cX0_copy 22 = .ok (.aaload, 1) := dk_50 (dk_at dksX0_copy_0 22 rfl rfl)
theorem dX0_copy_23 : decode cX0_copy 23 = .ok (.getfield 496, 3) := dk_180 1 240 (dk_at dksX0_copy_1 0 rfl rfl)
theorem dX0_copy_26 : decode cX0_copy 26 = .ok (.astore 6, 2) := dk_58 6 (dk_at dksX0_copy_1 3 rfl rfl)
theorem dX0_copy_28 : decode cX0_copy 28 = .ok (.aload_n 0, 1) := dk_42 (dk_at dksX0_copy_1 5 rfl rfl)
theorem dX0_copy_29 : decode cX0_copy 29 = .ok (.getfield 315, 3) := dk_180 1 59 (dk_at dksX0_copy_1 6 rfl rfl)
theorem dX0_copy_32 : decode cX0_copy 32 = .ok (.iload_n 3, 1) := dk_29 (dk_at dksX0_copy_1 9 rfl rfl)
theorem dX0_copy_33 : decode cX0_copy 33 = .ok (.aaload, 1) := dk_50 (dk_at dksX0_copy_1 10 rfl rfl)
theorem dX0_copy_34 : decode cX0_copy 34 = .ok (.getfield 496, 3) := dk_180 1 240 (dk_at dksX0_copy_1 11 rfl rfl)
theorem dX0_copy_37 : decode cX0_copy 37 = .ok (.astore 7, 2) := dk_58 7 (dk_at dksX0_copy_1 14 rfl rfl)
theorem dX0_copy_39 : decode cX0_copy 39 = .ok (.aload 6, 2) := dk_25 6 (dk_at dksX0_copy_1 16 rfl rfl)
theorem dX0_copy_41 : decode cX0_copy 41 = .ok (.ifnull 8, 3) := dk_198 0 8 (dk_at dksX0_copy_1 18 rfl rfl)
theorem dX0_copy_44 : decode cX0_copy 44 = .ok (.aload 7, 2) := dk_25 7 (dk_at dksX0_copy_1 21 rfl rfl)
theorem dX0_copy_46 : decode cX0_copy 46 = .ok (.ifnonnull 6, 3) := dk_199 0 6 (dk_at dksX0_copy_2 0 rfl rfl)
theorem dX0_copy_49 : decode cX0_copy 49 = .ok (.bipush (-11), 2) := dk_16 245 (dk_at dksX0_copy_2 3 rfl rfl)
theorem dX0_copy_51 : decode cX0_copy 51 = .ok (.ireturn, 1) := dk_172 (dk_at dksX0_copy_2 5 rfl rfl)
theorem dX0_copy_52 : decode cX0_copy 52 = .ok (.aload 6, 2) := dk_25 6 (dk_at dksX0_copy_2 6 rfl rfl)
theorem dX0_copy_54 : decode cX0_copy 54 = .ok (.invokestatic 523, 3) := dk_184 2 11 (dk_at dksX0_copy_2 8 rfl rfl)
theorem dX0_copy_57 : decode cX0_copy 57 = .ok (.aload 7, 2) := dk_25 7 (dk_at dksX0_copy_2 11 rfl rfl)
theorem dX0_copy_59 : decode cX0_copy 59 = .ok (.invokestatic 523, 3) := dk_184 2 11 (dk_at dksX0_copy_2 13 rfl rfl)
theorem dX0_copy_62 : decode cX0_copy 62 = .ok (.if_icmp .eq 6, 3) := dk_159 0 6 (dk_at dksX0_copy_2 16 rfl rfl)
theorem dX0_copy_65 : decode cX0_copy 65 = .ok (.bipush (-13), 2) := dk_16 243 (dk_at dksX0_copy_2 19 rfl rfl)
theorem dX0_copy_67 : decode cX0_copy 67 = .ok (.ireturn, 1) := dk_172 (dk_at dksX0_copy_2 21 rfl rfl)
theorem dX0_copy_68 : decode cX0_copy 68 = .ok (.aload 6, 2) := dk_25 6 (dk_at dksX0_copy_2 22 rfl rfl)
theorem dX0_copy_70 : decode cX0_copy 70 = .ok (.aload 6, 2) := dk_25 6 (dk_at dksX0_copy_3 0 rfl rfl)
theorem dX0_copy_72 : decode cX0_copy 72 = .ok (.invokestatic 523, 3) := dk_184 2 11 (dk_at dksX0_copy_3 2 rfl rfl)
theorem dX0_copy_75 : decode cX0_copy 75 = .ok (.invokestatic 527, 3) := dk_184 2 15 (dk_at dksX0_copy_3 5 rfl rfl)
theorem dX0_copy_78 : decode cX0_copy 78 = .ok (.istore 8, 2) := dk_54 8 (dk_at dksX0_copy_3 8 rfl rfl)
theorem dX0_copy_80 : decode cX0_copy 80 = .ok (.aload 7, 2) := dk_25 7 (dk_at dksX0_copy_3 10 rfl rfl)
theorem dX0_copy_82 : decode cX0_copy 82 = .ok (.aload 7, 2) := dk_25 7 (dk_at dksX0_copy_3 12 rfl rfl)
theorem dX0_copy_84 : decode cX0_copy 84 = .ok (.invokestatic 523, 3) := dk_184 2 11 (dk_at dksX0_copy_3 14 rfl rfl)
theorem dX0_copy_87 : decode cX0_copy 87 = .ok (.invokestatic 527, 3) := dk_184 2 15 (dk_at dksX0_copy_3 17 rfl rfl)
theorem dX0_copy_90 : decode cX0_copy 90 = .ok (.istore 9, 2) := dk_54 9 (dk_at dksX0_copy_3 20 rfl rfl)
theorem dX0_copy_92 : decode cX0_copy 92 = .ok (.iload 5, 2) := dk_21 5 (dk_at dksX0_copy_3 22 rfl rfl)
theorem dX0_copy_94 : decode cX0_copy 94 = .ok (.ifCond .lt 44, 3) := dk_155 0 44 (dk_at dksX0_copy_4 0 rfl rfl)
theorem dX0_copy_97 : decode cX0_copy 97 = .ok (.iload_n 2, 1) := dk_28 (dk_at dksX0_copy_4 3 rfl rfl)
theorem dX0_copy_98 : decode cX0_copy 98 = .ok (.ifCond .lt 40, 3) := dk_155 0 40 (dk_at dksX0_copy_4 4 rfl rfl)
theorem dX0_copy_101 : decode cX0_copy 101 = .ok (.iload 4, 2) := dk_21 4 (dk_at dksX0_copy_4 7 rfl rfl)
theorem dX0_copy_103 : decode cX0_copy 103 = .ok (.ifCond .lt 35, 3) := dk_155 0 35 (dk_at dksX0_copy_4 9 rfl rfl)
theorem dX0_copy_106 : decode cX0_copy 106 = .ok (.iload_n 2, 1) := dk_28 (dk_at dksX0_copy_4 12 rfl rfl)
theorem dX0_copy_107 : decode cX0_copy 107 = .ok (.iload 8, 2) := dk_21 8 (dk_at dksX0_copy_4 13 rfl rfl)
theorem dX0_copy_109 : decode cX0_copy 109 = .ok (.if_icmp .gt 29, 3) := dk_163 0 29 (dk_at dksX0_copy_4 15 rfl rfl)
theorem dX0_copy_112 : decode cX0_copy 112 = .ok (.iload 4, 2) := dk_21 4 (dk_at dksX0_copy_4 18 rfl rfl)
theorem dX0_copy_114 : decode cX0_copy 114 = .ok (.iload 9, 2) := dk_21 9 (dk_at dksX0_copy_4 20 rfl rfl)
theorem dX0_copy_116 : decode cX0_copy 116 = .ok (.if_icmp .gt 22, 3) := dk_163 0 22 (dk_at dksX0_copy_5 0 rfl rfl)
theorem dX0_copy_119 : decode cX0_copy 119 = .ok (.iload 5, 2) := dk_21 5 (dk_at dksX0_copy_5 3 rfl rfl)
theorem dX0_copy_121 : decode cX0_copy 121 = .ok (.iload 8, 2) := dk_21 8 (dk_at dksX0_copy_5 5 rfl rfl)
theorem dX0_copy_123 : decode cX0_copy 123 = .ok (.iload_n 2, 1) := dk_28 (dk_at dksX0_copy_5 7 rfl rfl)
theorem dX0_copy_124 : decode cX0_copy 124 = .ok (.isub, 1) := dk_100 (dk_at dksX0_copy_5 8 rfl rfl)
theorem dX0_copy_125 : decode cX0_copy 125 = .ok (.if_icmp .gt 13, 3) := dk_163 0 13 (dk_at dksX0_copy_5 9 rfl rfl)
theorem dX0_copy_128 : decode cX0_copy 128 = .ok (.iload 5, 2) := dk_21 5 (dk_at dksX0_copy_5 12 rfl rfl)
theorem dX0_copy_130 : decode cX0_copy 130 = .ok (.iload 9, 2) := dk_21 9 (dk_at dksX0_copy_5 14 rfl rfl)
theorem dX0_copy_132 : decode cX0_copy 132 = .ok (.iload 4, 2) := dk_21 4 (dk_at dksX0_copy_5 16 rfl rfl)
theorem dX0_copy_134 : decode cX0_copy 134 = .ok (.isub, 1) := dk_100 (dk_at dksX0_copy_5 18 rfl rfl)
theorem dX0_copy_135 : decode cX0_copy 135 = .ok (.if_icmp .le 6, 3) := dk_164 0 6 (dk_at dksX0_copy_5 19 rfl rfl)
theorem dX0_copy_138 : decode cX0_copy 138 = .ok (.bipush (-12), 2) := dk_16 244 (dk_at dksX0_copy_5 22 rfl rfl)
theorem dX0_copy_140 : decode cX0_copy 140 = .ok (.ireturn, 1) := dk_172 (dk_at dksX0_copy_6 0 rfl rfl)
theorem dX0_copy_141 : decode cX0_copy 141 = .ok (.aload 6, 2) := dk_25 6 (dk_at dksX0_copy_6 1 rfl rfl)
theorem dX0_copy_143 : decode cX0_copy 143 = .ok (.iload_n 2, 1) := dk_28 (dk_at dksX0_copy_6 3 rfl rfl)
theorem dX0_copy_144 : decode cX0_copy 144 = .ok (.aload 7, 2) := dk_25 7 (dk_at dksX0_copy_6 4 rfl rfl)
theorem dX0_copy_146 : decode cX0_copy 146 = .ok (.iload 4, 2) := dk_21 4 (dk_at dksX0_copy_6 6 rfl rfl)
theorem dX0_copy_148 : decode cX0_copy 148 = .ok (.iload 5, 2) := dk_21 5 (dk_at dksX0_copy_6 8 rfl rfl)
theorem dX0_copy_150 : decode cX0_copy 150 = .ok (.invokestatic 368, 3) := dk_184 1 112 (dk_at dksX0_copy_6 10 rfl rfl)
theorem dX0_copy_153 : decode cX0_copy 153 = .ok (.iload 5, 2) := dk_21 5 (dk_at dksX0_copy_6 13 rfl rfl)
theorem dX0_copy_155 : decode cX0_copy 155 = .ok (.ireturn, 1) := dk_172 (dk_at dksX0_copy_6 15 rfl rfl)
abbrev cX0_nights : ByteArray := prog_1_method_93_code
def yX0_nights : MethodName := ⟨RX0, "nights", "(IIII)I"⟩
def dkwX0_nights_2 : List UInt8 := [21, 4, 182, 2, 24, 172, 58, 5, 16, 243, 172, 58, 5, 16, 245, 172, 58, 5, 16, 244, 172]
abbrev dktX0_nights_2 : List UInt8 := dkwX0_nights_2 ++ []
def dkwX0_nights_1 : List UInt8 := [20, 0, 73, 184, 0, 5, 154, 0, 6, 16, 254, 172, 42, 42, 180, 1, 59, 27, 50, 180, 1, 240, 28, 29]
abbrev dktX0_nights_1 : List UInt8 := dkwX0_nights_1 ++ dktX0_nights_2
def dkwX0_nights_0 : List UInt8 := [27, 184, 1, 199, 153, 0, 28, 28, 133, 9, 20, 0, 89, 184, 0, 5, 153, 0, 16, 21, 4, 133, 9]
abbrev dktX0_nights_0 : List UInt8 := dkwX0_nights_0 ++ dktX0_nights_1
theorem dksX0_nights_0 : cX0_nights.data.toList.drop 0 = dktX0_nights_0 := by decide +kernel
theorem dksX0_nights_1 : cX0_nights.data.toList.drop 23 = dktX0_nights_1 := dk_seg dksX0_nights_0 23 rfl rfl
theorem dksX0_nights_2 : cX0_nights.data.toList.drop 47 = dktX0_nights_2 := dk_seg dksX0_nights_1 24 rfl rfl
theorem dX0_nights_0 : decode cX0_nights 0 = .ok (.iload_n 1, 1) := dk_27 (dk_at dksX0_nights_0 0 rfl rfl)
theorem dX0_nights_1 : decode cX0_nights 1 = .ok (.invokestatic 455, 3) := dk_184 1 199 (dk_at dksX0_nights_0 1 rfl rfl)
theorem dX0_nights_4 : decode cX0_nights 4 = .ok (.ifCond .eq 28, 3) := dk_153 0 28 (dk_at dksX0_nights_0 4 rfl rfl)
theorem dX0_nights_7 : decode cX0_nights 7 = .ok (.iload_n 2, 1) := dk_28 (dk_at dksX0_nights_0 7 rfl rfl)
theorem dX0_nights_8 : decode cX0_nights 8 = .ok (.i2l, 1) := dk_133 (dk_at dksX0_nights_0 8 rfl rfl)
theorem dX0_nights_9 : decode cX0_nights 9 = .ok (.lconst 0, 1) := dk_9 (dk_at dksX0_nights_0 9 rfl rfl)
theorem dX0_nights_10 : decode cX0_nights 10 = .ok (.ldc2_w 89, 3) := dk_20 0 89 (dk_at dksX0_nights_0 10 rfl rfl)
theorem dX0_nights_13 : decode cX0_nights 13 = .ok (.invokestatic 5, 3) := dk_184 0 5 (dk_at dksX0_nights_0 13 rfl rfl)
theorem dX0_nights_16 : decode cX0_nights 16 = .ok (.ifCond .eq 16, 3) := dk_153 0 16 (dk_at dksX0_nights_0 16 rfl rfl)
theorem dX0_nights_19 : decode cX0_nights 19 = .ok (.iload 4, 2) := dk_21 4 (dk_at dksX0_nights_0 19 rfl rfl)
theorem dX0_nights_21 : decode cX0_nights 21 = .ok (.i2l, 1) := dk_133 (dk_at dksX0_nights_0 21 rfl rfl)
theorem dX0_nights_22 : decode cX0_nights 22 = .ok (.lconst 0, 1) := dk_9 (dk_at dksX0_nights_0 22 rfl rfl)
theorem dX0_nights_23 : decode cX0_nights 23 = .ok (.ldc2_w 73, 3) := dk_20 0 73 (dk_at dksX0_nights_1 0 rfl rfl)
theorem dX0_nights_26 : decode cX0_nights 26 = .ok (.invokestatic 5, 3) := dk_184 0 5 (dk_at dksX0_nights_1 3 rfl rfl)
theorem dX0_nights_29 : decode cX0_nights 29 = .ok (.ifCond .ne 6, 3) := dk_154 0 6 (dk_at dksX0_nights_1 6 rfl rfl)
theorem dX0_nights_32 : decode cX0_nights 32 = .ok (.bipush (-2), 2) := dk_16 254 (dk_at dksX0_nights_1 9 rfl rfl)
theorem dX0_nights_34 : decode cX0_nights 34 = .ok (.ireturn, 1) := dk_172 (dk_at dksX0_nights_1 11 rfl rfl)
theorem dX0_nights_35 : decode cX0_nights 35 = .ok (.aload_n 0, 1) := dk_42 (dk_at dksX0_nights_1 12 rfl rfl)
theorem dX0_nights_36 : decode cX0_nights 36 = .ok (.aload_n 0, 1) := dk_42 (dk_at dksX0_nights_1 13 rfl rfl)
theorem dX0_nights_37 : decode cX0_nights 37 = .ok (.getfield 315, 3) := dk_180 1 59 (dk_at dksX0_nights_1 14 rfl rfl)
theorem dX0_nights_40 : decode cX0_nights 40 = .ok (.iload_n 1, 1) := dk_27 (dk_at dksX0_nights_1 17 rfl rfl)
theorem dX0_nights_41 : decode cX0_nights 41 = .ok (.aaload, 1) := dk_50 (dk_at dksX0_nights_1 18 rfl rfl)
theorem dX0_nights_42 : decode cX0_nights 42 = .ok (.getfield 496, 3) := dk_180 1 240 (dk_at dksX0_nights_1 19 rfl rfl)
theorem dX0_nights_45 : decode cX0_nights 45 = .ok (.iload_n 2, 1) := dk_28 (dk_at dksX0_nights_1 22 rfl rfl)
theorem dX0_nights_46 : decode cX0_nights 46 = .ok (.iload_n 3, 1) := dk_29 (dk_at dksX0_nights_1 23 rfl rfl)
theorem dX0_nights_47 : decode cX0_nights 47 = .ok (.iload 4, 2) := dk_21 4 (dk_at dksX0_nights_2 0 rfl rfl)
theorem dX0_nights_49 : decode cX0_nights 49 = .ok (.invokevirtual 536, 3) := dk_182 2 24 (dk_at dksX0_nights_2 2 rfl rfl)
theorem dX0_nights_52 : decode cX0_nights 52 = .ok (.ireturn, 1) := dk_172 (dk_at dksX0_nights_2 5 rfl rfl)
theorem dX0_nights_53 : decode cX0_nights 53 = .ok (.astore 5, 2) := dk_58 5 (dk_at dksX0_nights_2 6 rfl rfl)
theorem dX0_nights_55 : decode cX0_nights 55 = .ok (.bipush (-13), 2) := dk_16 243 (dk_at dksX0_nights_2 8 rfl rfl)
theorem dX0_nights_57 : decode cX0_nights 57 = .ok (.ireturn, 1) := dk_172 (dk_at dksX0_nights_2 10 rfl rfl)
theorem dX0_nights_58 : decode cX0_nights 58 = .ok (.astore 5, 2) := dk_58 5 (dk_at dksX0_nights_2 11 rfl rfl)
theorem dX0_nights_60 : decode cX0_nights 60 = .ok (.bipush (-11), 2) := dk_16 245 (dk_at dksX0_nights_2 13 rfl rfl)
theorem dX0_nights_62 : decode cX0_nights 62 = .ok (.ireturn, 1) := dk_172 (dk_at dksX0_nights_2 15 rfl rfl)
theorem dX0_nights_63 : decode cX0_nights 63 = .ok (.astore 5, 2) := dk_58 5 (dk_at dksX0_nights_2 16 rfl rfl)
theorem dX0_nights_65 : decode cX0_nights 65 = .ok (.bipush (-12), 2) := dk_16 244 (dk_at dksX0_nights_2 18 rfl rfl)
theorem dX0_nights_67 : decode cX0_nights 67 = .ok (.ireturn, 1) := dk_172 (dk_at dksX0_nights_2 20 rfl rfl)
abbrev cX0_came : ByteArray := prog_1_method_92_code
def yX0_came : MethodName := ⟨RX0, "came", "(Ljava/lang/Object;III)I"⟩
def dkwX0_came_2 : List UInt8 := [132, 7, 1, 167, 255, 220, 21, 6, 172]
abbrev dktX0_came_2 : List UInt8 := dkwX0_came_2 ++ []
def dkwX0_came_1 : List UInt8 := [28, 29, 21, 7, 96, 184, 2, 19, 182, 2, 22, 155, 0, 7, 4, 167, 0, 4, 3, 96, 54, 6]
abbrev dktX0_came_1 : List UInt8 := dkwX0_came_1 ++ dktX0_came_2
def dkwX0_came_0 : List UInt8 := [43, 28, 184, 2, 15, 54, 5, 3, 54, 6, 3, 54, 7, 21, 7, 21, 4, 162, 0, 35, 21, 6, 42, 43]
abbrev dktX0_came_0 : List UInt8 := dkwX0_came_0 ++ dktX0_came_1
theorem dksX0_came_0 : cX0_came.data.toList.drop 0 = dktX0_came_0 := by decide +kernel
theorem dksX0_came_1 : cX0_came.data.toList.drop 24 = dktX0_came_1 := dk_seg dksX0_came_0 24 rfl rfl
theorem dksX0_came_2 : cX0_came.data.toList.drop 46 = dktX0_came_2 := dk_seg dksX0_came_1 22 rfl rfl
theorem dX0_came_0 : decode cX0_came 0 = .ok (.aload_n 1, 1) := dk_43 (dk_at dksX0_came_0 0 rfl rfl)
theorem dX0_came_1 : decode cX0_came 1 = .ok (.iload_n 2, 1) := dk_28 (dk_at dksX0_came_0 1 rfl rfl)
theorem dX0_came_2 : decode cX0_came 2 = .ok (.invokestatic 527, 3) := dk_184 2 15 (dk_at dksX0_came_0 2 rfl rfl)
theorem dX0_came_5 : decode cX0_came 5 = .ok (.istore 5, 2) := dk_54 5 (dk_at dksX0_came_0 5 rfl rfl)
theorem dX0_came_7 : decode cX0_came 7 = .ok (.iconst 0, 1) := dk_3 (dk_at dksX0_came_0 7 rfl rfl)
theorem dX0_came_8 : decode cX0_came 8 = .ok (.istore 6, 2) := dk_54 6 (dk_at dksX0_came_0 8 rfl rfl)
theorem dX0_came_10 : decode cX0_came 10 = .ok (.iconst 0, 1) := dk_3 (dk_at dksX0_came_0 10 rfl rfl)
theorem dX0_came_11 : decode cX0_came 11 = .ok (.istore 7, 2) := dk_54 7 (dk_at dksX0_came_0 11 rfl rfl)
theorem dX0_came_13 : decode cX0_came 13 = .ok (.iload 7, 2) := dk_21 7 (dk_at dksX0_came_0 13 rfl rfl)
theorem dX0_came_15 : decode cX0_came 15 = .ok (.iload 4, 2) := dk_21 4 (dk_at dksX0_came_0 15 rfl rfl)
theorem dX0_came_17 : decode cX0_came 17 = .ok (.if_icmp .ge 35, 3) := dk_162 0 35 (dk_at dksX0_came_0 17 rfl rfl)
theorem dX0_came_20 : decode cX0_came 20 = .ok (.iload 6, 2) := dk_21 6 (dk_at dksX0_came_0 20 rfl rfl)
theorem dX0_came_22 : decode cX0_came 22 = .ok (.aload_n 0, 1) := dk_42 (dk_at dksX0_came_0 22 rfl rfl)
theorem dX0_came_23 : decode cX0_came 23 = .ok (.aload_n 1, 1) := dk_43 (dk_at dksX0_came_0 23 rfl rfl)
theorem dX0_came_24 : decode cX0_came 24 = .ok (.iload_n 2, 1) := dk_28 (dk_at dksX0_came_1 0 rfl rfl)
theorem dX0_came_25 : decode cX0_came 25 = .ok (.iload_n 3, 1) := dk_29 (dk_at dksX0_came_1 1 rfl rfl)
theorem dX0_came_26 : decode cX0_came 26 = .ok (.iload 7, 2) := dk_21 7 (dk_at dksX0_came_1 2 rfl rfl)
theorem dX0_came_28 : decode cX0_came 28 = .ok (.iadd, 1) := dk_96 (dk_at dksX0_came_1 4 rfl rfl)
theorem dX0_came_29 : decode cX0_came 29 = .ok (.invokestatic 531, 3) := dk_184 2 19 (dk_at dksX0_came_1 5 rfl rfl)
theorem dX0_came_32 : decode cX0_came 32 = .ok (.invokevirtual 534, 3) := dk_182 2 22 (dk_at dksX0_came_1 8 rfl rfl)
theorem dX0_came_35 : decode cX0_came 35 = .ok (.ifCond .lt 7, 3) := dk_155 0 7 (dk_at dksX0_came_1 11 rfl rfl)
theorem dX0_came_38 : decode cX0_came 38 = .ok (.iconst 1, 1) := dk_4 (dk_at dksX0_came_1 14 rfl rfl)
theorem dX0_came_39 : decode cX0_came 39 = .ok (.goto 4, 3) := dk_167 0 4 (dk_at dksX0_came_1 15 rfl rfl)
theorem dX0_came_42 : decode cX0_came 42 = .ok (.iconst 0, 1) := dk_3 (dk_at dksX0_came_1 18 rfl rfl)
theorem dX0_came_43 : decode cX0_came 43 = .ok (.iadd, 1) := dk_96 (dk_at dksX0_came_1 19 rfl rfl)
theorem dX0_came_44 : decode cX0_came 44 = .ok (.istore 6, 2) := dk_54 6 (dk_at dksX0_came_1 20 rfl rfl)
theorem dX0_came_46 : decode cX0_came 46 = .ok (.iinc 7 1, 3) := dk_132 7 1 (dk_at dksX0_came_2 0 rfl rfl)
theorem dX0_came_49 : decode cX0_came 49 = .ok (.goto (-36), 3) := dk_167 255 220 (dk_at dksX0_came_2 3 rfl rfl)
theorem dX0_came_52 : decode cX0_came 52 = .ok (.iload 6, 2) := dk_21 6 (dk_at dksX0_came_2 6 rfl rfl)
theorem dX0_came_54 : decode cX0_came 54 = .ok (.ireturn, 1) := dk_172 (dk_at dksX0_came_2 8 rfl rfl)
abbrev cX0_taken : ByteArray := prog_1_method_95_code
def yX0_taken : MethodName := ⟨RX0, "taken", "(II)I"⟩
def dkwX0_taken_2 : List UInt8 := [172]
abbrev dktX0_taken_2 : List UInt8 := dkwX0_taken_2 ++ []
def dkwX0_taken_1 : List UInt8 := [180, 0, 75, 27, 50, 167, 0, 4, 1, 28, 184, 2, 30, 180, 1, 171, 172, 78, 16, 245, 172, 78, 16, 243]
abbrev dktX0_taken_1 : List UInt8 := dkwX0_taken_1 ++ dktX0_taken_2
def dkwX0_taken_0 : List UInt8 := [28, 133, 9, 20, 0, 71, 184, 0, 5, 154, 0, 6, 16, 254, 172, 42, 27, 182, 0, 83, 153, 0, 12, 42]
abbrev dktX0_taken_0 : List UInt8 := dkwX0_taken_0 ++ dktX0_taken_1
theorem dksX0_taken_0 : cX0_taken.data.toList.drop 0 = dktX0_taken_0 := by decide +kernel
theorem dksX0_taken_1 : cX0_taken.data.toList.drop 24 = dktX0_taken_1 := dk_seg dksX0_taken_0 24 rfl rfl
theorem dksX0_taken_2 : cX0_taken.data.toList.drop 48 = dktX0_taken_2 := dk_seg dksX0_taken_1 24 rfl rfl
theorem dX0_taken_0 : decode cX0_taken 0 = .ok (.iload_n 2, 1) := dk_28 (dk_at dksX0_taken_0 0 rfl rfl)
theorem dX0_taken_1 : decode cX0_taken 1 = .ok (.i2l, 1) := dk_133 (dk_at dksX0_taken_0 1 rfl rfl)
theorem dX0_taken_2 : decode cX0_taken 2 = .ok (.lconst 0, 1) := dk_9 (dk_at dksX0_taken_0 2 rfl rfl)
theorem dX0_taken_3 : decode cX0_taken 3 = .ok (.ldc2_w 71, 3) := dk_20 0 71 (dk_at dksX0_taken_0 3 rfl rfl)
theorem dX0_taken_6 : decode cX0_taken 6 = .ok (.invokestatic 5, 3) := dk_184 0 5 (dk_at dksX0_taken_0 6 rfl rfl)
theorem dX0_taken_9 : decode cX0_taken 9 = .ok (.ifCond .ne 6, 3) := dk_154 0 6 (dk_at dksX0_taken_0 9 rfl rfl)
theorem dX0_taken_12 : decode cX0_taken 12 = .ok (.bipush (-2), 2) := dk_16 254 (dk_at dksX0_taken_0 12 rfl rfl)
theorem dX0_taken_14 : decode cX0_taken 14 = .ok (.ireturn, 1) := dk_172 (dk_at dksX0_taken_0 14 rfl rfl)
theorem dX0_taken_15 : decode cX0_taken 15 = .ok (.aload_n 0, 1) := dk_42 (dk_at dksX0_taken_0 15 rfl rfl)
theorem dX0_taken_16 : decode cX0_taken 16 = .ok (.iload_n 1, 1) := dk_27 (dk_at dksX0_taken_0 16 rfl rfl)
theorem dX0_taken_17 : decode cX0_taken 17 = .ok (.invokevirtual 83, 3) := dk_182 0 83 (dk_at dksX0_taken_0 17 rfl rfl)
theorem dX0_taken_20 : decode cX0_taken 20 = .ok (.ifCond .eq 12, 3) := dk_153 0 12 (dk_at dksX0_taken_0 20 rfl rfl)
theorem dX0_taken_23 : decode cX0_taken 23 = .ok (.aload_n 0, 1) := dk_42 (dk_at dksX0_taken_0 23 rfl rfl)
theorem dX0_taken_24 : decode cX0_taken 24 = .ok (.getfield 75, 3) := dk_180 0 75 (dk_at dksX0_taken_1 0 rfl rfl)
theorem dX0_taken_27 : decode cX0_taken 27 = .ok (.iload_n 1, 1) := dk_27 (dk_at dksX0_taken_1 3 rfl rfl)
theorem dX0_taken_28 : decode cX0_taken 28 = .ok (.aaload, 1) := dk_50 (dk_at dksX0_taken_1 4 rfl rfl)
theorem dX0_taken_29 : decode cX0_taken 29 = .ok (.goto 4, 3) := dk_167 0 4 (dk_at dksX0_taken_1 5 rfl rfl)
theorem dX0_taken_32 : decode cX0_taken 32 = .ok (.aconst_null, 1) := dk_1 (dk_at dksX0_taken_1 8 rfl rfl)
theorem dX0_taken_33 : decode cX0_taken 33 = .ok (.iload_n 2, 1) := dk_28 (dk_at dksX0_taken_1 9 rfl rfl)
theorem dX0_taken_34 : decode cX0_taken 34 = .ok (.invokestatic 542, 3) := dk_184 2 30 (dk_at dksX0_taken_1 10 rfl rfl)
theorem dX0_taken_37 : decode cX0_taken 37 = .ok (.getfield 427, 3) := dk_180 1 171 (dk_at dksX0_taken_1 13 rfl rfl)
theorem dX0_taken_40 : decode cX0_taken 40 = .ok (.ireturn, 1) := dk_172 (dk_at dksX0_taken_1 16 rfl rfl)
theorem dX0_taken_41 : decode cX0_taken 41 = .ok (.astore_n 3, 1) := dk_78 (dk_at dksX0_taken_1 17 rfl rfl)
theorem dX0_taken_42 : decode cX0_taken 42 = .ok (.bipush (-11), 2) := dk_16 245 (dk_at dksX0_taken_1 18 rfl rfl)
theorem dX0_taken_44 : decode cX0_taken 44 = .ok (.ireturn, 1) := dk_172 (dk_at dksX0_taken_1 20 rfl rfl)
theorem dX0_taken_45 : decode cX0_taken 45 = .ok (.astore_n 3, 1) := dk_78 (dk_at dksX0_taken_1 21 rfl rfl)
theorem dX0_taken_46 : decode cX0_taken 46 = .ok (.bipush (-13), 2) := dk_16 243 (dk_at dksX0_taken_1 22 rfl rfl)
theorem dX0_taken_48 : decode cX0_taken 48 = .ok (.ireturn, 1) := dk_172 (dk_at dksX0_taken_2 0 rfl rfl)
abbrev cX0_as : ByteArray := prog_1_method_94_code
def yX0_as : MethodName := ⟨RX0, "as", "(LWalkingStones$How;I)LWalkingStones$How;"⟩
def dkwX0_as_3 : List UInt8 := [176, 42, 176]
abbrev dktX0_as_3 : List UInt8 := dkwX0_as_3 ++ []
def dkwX0_as_2 : List UInt8 := [42, 192, 0, 50, 176, 42, 192, 0, 56, 176, 42, 192, 0, 59, 176, 42, 192, 0, 62, 176, 42, 192, 0, 65]
abbrev dktX0_as_2 : List UInt8 := dkwX0_as_2 ++ dktX0_as_3
def dkwX0_as_1 : List UInt8 := [170, 0, 0, 0, 0, 0, 60, 0, 0, 0, 1, 0, 0, 0, 5, 0, 0, 0, 35, 0, 0, 0, 40, 0, 0, 0, 45, 0, 0, 0, 50, 0, 0, 0, 55]
abbrev dktX0_as_1 : List UInt8 := dkwX0_as_1 ++ dktX0_as_2
def dkwX0_as_0 : List UInt8 := [27]
abbrev dktX0_as_0 : List UInt8 := dkwX0_as_0 ++ dktX0_as_1
theorem dksX0_as_0 : cX0_as.data.toList.drop 0 = dktX0_as_0 := by decide +kernel
theorem dksX0_as_1 : cX0_as.data.toList.drop 1 = dktX0_as_1 := dk_seg dksX0_as_0 1 rfl rfl
theorem dksX0_as_2 : cX0_as.data.toList.drop 36 = dktX0_as_2 := dk_seg dksX0_as_1 35 rfl rfl
theorem dksX0_as_3 : cX0_as.data.toList.drop 60 = dktX0_as_3 := dk_seg dksX0_as_2 24 rfl rfl
theorem dX0_as_0 : decode cX0_as 0 = .ok (.iload_n 1, 1) := dk_27 (dk_at dksX0_as_0 0 rfl rfl)
theorem dX0_as_1 : decode cX0_as 1 = .ok (.tableswitch 60 1 5 #[35, 40, 45, 50, 55], 35) := by decide +kernel
theorem dX0_as_36 : decode cX0_as 36 = .ok (.aload_n 0, 1) := dk_42 (dk_at dksX0_as_2 0 rfl rfl)
theorem dX0_as_37 : decode cX0_as 37 = .ok (.checkcast 50, 3) := dk_192 0 50 (dk_at dksX0_as_2 1 rfl rfl)
theorem dX0_as_40 : decode cX0_as 40 = .ok (.areturn, 1) := dk_176 (dk_at dksX0_as_2 4 rfl rfl)
theorem dX0_as_41 : decode cX0_as 41 = .ok (.aload_n 0, 1) := dk_42 (dk_at dksX0_as_2 5 rfl rfl)
theorem dX0_as_42 : decode cX0_as 42 = .ok (.checkcast 56, 3) := dk_192 0 56 (dk_at dksX0_as_2 6 rfl rfl)
theorem dX0_as_45 : decode cX0_as 45 = .ok (.areturn, 1) := dk_176 (dk_at dksX0_as_2 9 rfl rfl)
theorem dX0_as_46 : decode cX0_as 46 = .ok (.aload_n 0, 1) := dk_42 (dk_at dksX0_as_2 10 rfl rfl)
theorem dX0_as_47 : decode cX0_as 47 = .ok (.checkcast 59, 3) := dk_192 0 59 (dk_at dksX0_as_2 11 rfl rfl)
theorem dX0_as_50 : decode cX0_as 50 = .ok (.areturn, 1) := dk_176 (dk_at dksX0_as_2 14 rfl rfl)
theorem dX0_as_51 : decode cX0_as 51 = .ok (.aload_n 0, 1) := dk_42 (dk_at dksX0_as_2 15 rfl rfl)
theorem dX0_as_52 : decode cX0_as 52 = .ok (.checkcast 62, 3) := dk_192 0 62 (dk_at dksX0_as_2 16 rfl rfl)
theorem dX0_as_55 : decode cX0_as 55 = .ok (.areturn, 1) := dk_176 (dk_at dksX0_as_2 19 rfl rfl)
theorem dX0_as_56 : decode cX0_as 56 = .ok (.aload_n 0, 1) := dk_42 (dk_at dksX0_as_2 20 rfl rfl)
theorem dX0_as_57 : decode cX0_as 57 = .ok (.checkcast 65, 3) := dk_192 0 65 (dk_at dksX0_as_2 21 rfl rfl)
theorem dX0_as_60 : decode cX0_as 60 = .ok (.areturn, 1) := dk_176 (dk_at dksX0_as_3 0 rfl rfl)
theorem dX0_as_61 : decode cX0_as 61 = .ok (.aload_n 0, 1) := dk_42 (dk_at dksX0_as_3 1 rfl rfl)
theorem dX0_as_62 : decode cX0_as 62 = .ok (.areturn, 1) := dk_176 (dk_at dksX0_as_3 2 rfl rfl)
theorem q106 : (Jvm.Cond.initialized "WalkingStones") ∈ lw_all := lw_g (lw_at lw_m1 1 rfl) rfl
theorem q137 : (Jvm.Cond.instanceMethod ({ cls := "WalkingStones", name := "stone", desc := "(II)I" } : Jvm.MethodName)) ∈ lw_all := lw_g (lw_at lw_m1 32 rfl) rfl
theorem q138 : (Jvm.Cond.selects "WalkingStones" ({ cls := "WalkingStones", name := "stone", desc := "(II)I" } : Jvm.MethodName) ({ cls := "WalkingStones", name := "stone", desc := "(II)I" } : Jvm.MethodName)) ∈ lw_all := lw_g (lw_at lw_m1 33 rfl) rfl
theorem q139 : (Jvm.Cond.code ({ cls := "WalkingStones", name := "stone", desc := "(II)I" } : Jvm.MethodName) prog_1_method_6_code (3 : Nat) (Option.some Jvm.ClassFile.FieldType.int)) ∈ lw_all := lw_g (lw_at lw_m1 34 rfl) rfl
theorem q140 : (Jvm.Cond.constantLong "WalkingStones" (20 : Nat) (99 : Int64)) ∈ lw_all := lw_g (lw_at lw_m1 35 rfl) rfl
theorem q141 : (Jvm.Cond.methodLink "WalkingStones" (5 : Nat) ({ cls := "WalkingStones", name := "in", desc := "(JJJ)Z" } : Jvm.MethodName)) ∈ lw_all := lw_g (lw_at lw_m1 36 rfl) rfl
theorem q142 : (Jvm.Cond.static ({ cls := "WalkingStones", name := "in", desc := "(JJJ)Z" } : Jvm.MethodName)) ∈ lw_all := lw_g (lw_at lw_m1 37 rfl) rfl
theorem q143 : (Jvm.Cond.code ({ cls := "WalkingStones", name := "in", desc := "(JJJ)Z" } : Jvm.MethodName) prog_1_method_1_code (6 : Nat) (Option.some Jvm.ClassFile.FieldType.boolean)) ∈ lw_all := lw_g (lw_at lw_m1 38 rfl) rfl
theorem q144 : (Jvm.Cond.methodLink "WalkingStones" (22 : Nat) ({ cls := "WalkingStones", name := "isPlace", desc := "(I)Z" } : Jvm.MethodName)) ∈ lw_all := lw_g (lw_at lw_m1 39 rfl) rfl
theorem q145 : (Jvm.Cond.static ({ cls := "WalkingStones", name := "isPlace", desc := "(I)Z" } : Jvm.MethodName)) ∈ lw_all := lw_g (lw_at lw_m1 40 rfl) rfl
theorem q146 : (Jvm.Cond.code ({ cls := "WalkingStones", name := "isPlace", desc := "(I)Z" } : Jvm.MethodName) prog_1_method_2_code (1 : Nat) (Option.some Jvm.ClassFile.FieldType.boolean)) ∈ lw_all := lw_g (lw_at lw_m1 41 rfl) rfl
theorem q147 : (Jvm.Cond.constantLong "WalkingStones" (3 : Nat) (4095 : Int64)) ∈ lw_all := lw_g (lw_at lw_m1 42 rfl) rfl
theorem q148 : (Jvm.Cond.methodLink "WalkingStones" (26 : Nat) ({ cls := "WalkingStones", name := "liesAt", desc := "(I)Z" } : Jvm.MethodName)) ∈ lw_all := lw_g (lw_at lw_m1 43 rfl) rfl
theorem q149 : (Jvm.Cond.privateMethod ({ cls := "WalkingStones", name := "liesAt", desc := "(I)Z" } : Jvm.MethodName)) ∈ lw_tbl := lw_at lw_m1 44 rfl
theorem q150 : (Jvm.Cond.instanceMethod ({ cls := "WalkingStones", name := "liesAt", desc := "(I)Z" } : Jvm.MethodName)) ∈ lw_all := lw_g (lw_at lw_m1 45 rfl) rfl
theorem q151 : (Jvm.Cond.instantiable "WalkingStones" (49 : Nat)) ∈ lw_all := lw_g (lw_at lw_m1 46 rfl) rfl
theorem q152 : (Jvm.Cond.code ({ cls := "WalkingStones", name := "liesAt", desc := "(I)Z" } : Jvm.MethodName) prog_1_method_5_code (3 : Nat) (Option.some Jvm.ClassFile.FieldType.boolean)) ∈ lw_all := lw_g (lw_at lw_m1 47 rfl) rfl
theorem q154 : (Jvm.Cond.instanceMethod ({ cls := "WalkingStones", name := "night", desc := "(I)I" } : Jvm.MethodName)) ∈ lw_all := lw_g (lw_at lw_m1 49 rfl) rfl
theorem q155 : (Jvm.Cond.selects "WalkingStones" ({ cls := "WalkingStones", name := "night", desc := "(I)I" } : Jvm.MethodName) ({ cls := "WalkingStones", name := "night", desc := "(I)I" } : Jvm.MethodName)) ∈ lw_all := lw_g (lw_at lw_m1 50 rfl) rfl
theorem q156 : (Jvm.Cond.code ({ cls := "WalkingStones", name := "night", desc := "(I)I" } : Jvm.MethodName) prog_1_method_7_code (2 : Nat) (Option.some Jvm.ClassFile.FieldType.int)) ∈ lw_all := lw_g (lw_at lw_m1 51 rfl) rfl
theorem q158 : (Jvm.Cond.instanceMethod ({ cls := "WalkingStones", name := "stoneTold", desc := "(II)I" } : Jvm.MethodName)) ∈ lw_all := lw_g (lw_at lw_m1 53 rfl) rfl
theorem q159 : (Jvm.Cond.selects "WalkingStones" ({ cls := "WalkingStones", name := "stoneTold", desc := "(II)I" } : Jvm.MethodName) ({ cls := "WalkingStones", name := "stoneTold", desc := "(II)I" } : Jvm.MethodName)) ∈ lw_all := lw_g (lw_at lw_m1 54 rfl) rfl
theorem q160 : (Jvm.Cond.code ({ cls := "WalkingStones", name := "stoneTold", desc := "(II)I" } : Jvm.MethodName) prog_1_method_8_code (3 : Nat) (Option.some Jvm.ClassFile.FieldType.int)) ∈ lw_all := lw_g (lw_at lw_m1 55 rfl) rfl
theorem q161 : (Jvm.Cond.methodLink "WalkingStones" (44 : Nat) ({ cls := "WalkingStones", name := "isStone", desc := "(I)Z" } : Jvm.MethodName)) ∈ lw_all := lw_g (lw_at lw_m1 56 rfl) rfl
theorem q162 : (Jvm.Cond.privateMethod ({ cls := "WalkingStones", name := "isStone", desc := "(I)Z" } : Jvm.MethodName)) ∈ lw_tbl := lw_at lw_m1 57 rfl
theorem q163 : (Jvm.Cond.instanceMethod ({ cls := "WalkingStones", name := "isStone", desc := "(I)Z" } : Jvm.MethodName)) ∈ lw_all := lw_g (lw_at lw_m1 58 rfl) rfl
theorem q164 : (Jvm.Cond.code ({ cls := "WalkingStones", name := "isStone", desc := "(I)Z" } : Jvm.MethodName) prog_1_method_3_code (2 : Nat) (Option.some Jvm.ClassFile.FieldType.boolean)) ∈ lw_all := lw_g (lw_at lw_m1 59 rfl) rfl
theorem q166 : (Jvm.Cond.instanceMethod ({ cls := "WalkingStones", name := "how", desc := "(II)I" } : Jvm.MethodName)) ∈ lw_all := lw_g (lw_at lw_m1 61 rfl) rfl
theorem q167 : (Jvm.Cond.selects "WalkingStones" ({ cls := "WalkingStones", name := "how", desc := "(II)I" } : Jvm.MethodName) ({ cls := "WalkingStones", name := "how", desc := "(II)I" } : Jvm.MethodName)) ∈ lw_all := lw_g (lw_at lw_m1 62 rfl) rfl
theorem q168 : (Jvm.Cond.code ({ cls := "WalkingStones", name := "how", desc := "(II)I" } : Jvm.MethodName) prog_1_method_11_code (3 : Nat) (Option.some Jvm.ClassFile.FieldType.int)) ∈ lw_all := lw_g (lw_at lw_m1 63 rfl) rfl
theorem q169 : (Jvm.Cond.constantLong "WalkingStones" (71 : Nat) (5 : Int64)) ∈ lw_all := lw_g (lw_at lw_m1 64 rfl) rfl
theorem q170 : (Jvm.Cond.constantLong "WalkingStones" (73 : Nat) (20 : Int64)) ∈ lw_all := lw_g (lw_at lw_m1 65 rfl) rfl
theorem q171 : (Jvm.Cond.methodLink "WalkingStones" (79 : Nat) ({ cls := "WalkingStones", name := "made", desc := "(II)LWalkingStones$How;" } : Jvm.MethodName)) ∈ lw_all := lw_g (lw_at lw_m1 66 rfl) rfl
theorem q172 : (Jvm.Cond.privateMethod ({ cls := "WalkingStones", name := "made", desc := "(II)LWalkingStones$How;" } : Jvm.MethodName)) ∈ lw_tbl := lw_at lw_m1 67 rfl
theorem q173 : (Jvm.Cond.instanceMethod ({ cls := "WalkingStones", name := "made", desc := "(II)LWalkingStones$How;" } : Jvm.MethodName)) ∈ lw_all := lw_g (lw_at lw_m1 68 rfl) rfl
theorem q174 : (Jvm.Cond.code ({ cls := "WalkingStones", name := "made", desc := "(II)LWalkingStones$How;" } : Jvm.MethodName) prog_1_method_10_code (3 : Nat) (Option.some (Jvm.ClassFile.FieldType.object "WalkingStones$How"))) ∈ lw_all := lw_g (lw_at lw_m1 69 rfl) rfl
theorem q175 : (Jvm.Cond.classLink "WalkingStones" (50 : Nat) "WalkingStones$Gust") ∈ lw_all := lw_g (lw_at lw_m1 70 rfl) rfl
theorem q177 : (Jvm.Cond.methodLink "WalkingStones" (52 : Nat) ({ cls := "WalkingStones$Gust", name := "<init>", desc := "(LWalkingStones;I)V" } : Jvm.MethodName)) ∈ lw_all := lw_g (lw_at lw_m1 72 rfl) rfl
theorem q194 : (Jvm.Cond.fieldLink "WalkingStones" (427 : Nat) "WalkingStones$How" "number" "I") ∈ lw_all := lw_g (lw_at lw_m1 89 rfl) rfl
theorem q203 : (Jvm.Cond.classLink "WalkingStones" (56 : Nat) "WalkingStones$Raft") ∈ lw_all := lw_g (lw_at lw_m1 98 rfl) rfl
theorem q205 : (Jvm.Cond.methodLink "WalkingStones" (58 : Nat) ({ cls := "WalkingStones$Raft", name := "<init>", desc := "(LWalkingStones;I)V" } : Jvm.MethodName)) ∈ lw_all := lw_g (lw_at lw_m1 100 rfl) rfl
theorem q216 : (Jvm.Cond.classLink "WalkingStones" (59 : Nat) "WalkingStones$Whole") ∈ lw_all := lw_g (lw_at lw_m1 111 rfl) rfl
theorem q218 : (Jvm.Cond.methodLink "WalkingStones" (61 : Nat) ({ cls := "WalkingStones$Whole", name := "<init>", desc := "(LWalkingStones;I)V" } : Jvm.MethodName)) ∈ lw_all := lw_g (lw_at lw_m1 113 rfl) rfl
theorem q230 : (Jvm.Cond.classLink "WalkingStones" (62 : Nat) "WalkingStones$Panes") ∈ lw_all := lw_g (lw_at lw_m1 125 rfl) rfl
theorem q232 : (Jvm.Cond.methodLink "WalkingStones" (64 : Nat) ({ cls := "WalkingStones$Panes", name := "<init>", desc := "(LWalkingStones;I)V" } : Jvm.MethodName)) ∈ lw_all := lw_g (lw_at lw_m1 127 rfl) rfl
theorem q244 : (Jvm.Cond.classLink "WalkingStones" (65 : Nat) "WalkingStones$Slope") ∈ lw_all := lw_g (lw_at lw_m1 139 rfl) rfl
theorem q246 : (Jvm.Cond.methodLink "WalkingStones" (67 : Nat) ({ cls := "WalkingStones$Slope", name := "<init>", desc := "(LWalkingStones;I)V" } : Jvm.MethodName)) ∈ lw_all := lw_g (lw_at lw_m1 141 rfl) rfl
theorem q256 : (Jvm.Cond.classLink "WalkingStones" (68 : Nat) "WalkingStones$How") ∈ lw_all := lw_g (lw_at lw_m1 151 rfl) rfl
theorem q258 : (Jvm.Cond.methodLink "WalkingStones" (70 : Nat) ({ cls := "WalkingStones$How", name := "<init>", desc := "(LWalkingStones;I)V" } : Jvm.MethodName)) ∈ lw_all := lw_g (lw_at lw_m1 153 rfl) rfl
theorem q263 : (Jvm.Cond.instanceMethod ({ cls := "WalkingStones", name := "told", desc := "(IIII)I" } : Jvm.MethodName)) ∈ lw_all := lw_g (lw_at lw_m1 158 rfl) rfl
theorem q264 : (Jvm.Cond.selects "WalkingStones" ({ cls := "WalkingStones", name := "told", desc := "(IIII)I" } : Jvm.MethodName) ({ cls := "WalkingStones", name := "told", desc := "(IIII)I" } : Jvm.MethodName)) ∈ lw_all := lw_g (lw_at lw_m1 159 rfl) rfl
theorem q265 : (Jvm.Cond.code ({ cls := "WalkingStones", name := "told", desc := "(IIII)I" } : Jvm.MethodName) prog_1_method_12_code (6 : Nat) (Option.some Jvm.ClassFile.FieldType.int)) ∈ lw_all := lw_g (lw_at lw_m1 160 rfl) rfl
theorem q266 : (Jvm.Cond.methodLink "WalkingStones" (83 : Nat) ({ cls := "WalkingStones", name := "isHow", desc := "(I)Z" } : Jvm.MethodName)) ∈ lw_all := lw_g (lw_at lw_m1 161 rfl) rfl
theorem q267 : (Jvm.Cond.privateMethod ({ cls := "WalkingStones", name := "isHow", desc := "(I)Z" } : Jvm.MethodName)) ∈ lw_tbl := lw_at lw_m1 162 rfl
theorem q268 : (Jvm.Cond.instanceMethod ({ cls := "WalkingStones", name := "isHow", desc := "(I)Z" } : Jvm.MethodName)) ∈ lw_all := lw_g (lw_at lw_m1 163 rfl) rfl
theorem q269 : (Jvm.Cond.code ({ cls := "WalkingStones", name := "isHow", desc := "(I)Z" } : Jvm.MethodName) prog_1_method_9_code (2 : Nat) (Option.some Jvm.ClassFile.FieldType.boolean)) ∈ lw_all := lw_g (lw_at lw_m1 164 rfl) rfl
theorem q270 : (Jvm.Cond.methodLink "WalkingStones" (86 : Nat) ({ cls := "WalkingStones", name := "isNight", desc := "(I)Z" } : Jvm.MethodName)) ∈ lw_all := lw_g (lw_at lw_m1 165 rfl) rfl
theorem q271 : (Jvm.Cond.privateMethod ({ cls := "WalkingStones", name := "isNight", desc := "(I)Z" } : Jvm.MethodName)) ∈ lw_tbl := lw_at lw_m1 166 rfl
theorem q272 : (Jvm.Cond.instanceMethod ({ cls := "WalkingStones", name := "isNight", desc := "(I)Z" } : Jvm.MethodName)) ∈ lw_all := lw_g (lw_at lw_m1 167 rfl) rfl
theorem q273 : (Jvm.Cond.code ({ cls := "WalkingStones", name := "isNight", desc := "(I)Z" } : Jvm.MethodName) prog_1_method_4_code (2 : Nat) (Option.some Jvm.ClassFile.FieldType.boolean)) ∈ lw_all := lw_g (lw_at lw_m1 168 rfl) rfl
theorem q274 : (Jvm.Cond.constantLong "WalkingStones" (89 : Nat) (2 : Int64)) ∈ lw_all := lw_g (lw_at lw_m1 169 rfl) rfl
theorem q275 : (Jvm.Cond.methodLink "WalkingStones" (91 : Nat) ({ cls := "WalkingStones$How", name := "may", desc := "(I)Z" } : Jvm.MethodName)) ∈ lw_all := lw_g (lw_at lw_m1 170 rfl) rfl
theorem q304 : (Jvm.Cond.methodLink "WalkingStones" (94 : Nat) ({ cls := "WalkingStones$How", name := "drag", desc := "(I)I" } : Jvm.MethodName)) ∈ lw_all := lw_g (lw_at lw_m1 199 rfl) rfl
theorem q327 : (Jvm.Cond.methodLink "WalkingStones" (98 : Nat) ({ cls := "WalkingStones$How", name := "goesBy", desc := "(II)I" } : Jvm.MethodName)) ∈ lw_all := lw_g (lw_at lw_m1 222 rfl) rfl
theorem q366 : (Jvm.Cond.privateMethod ({ cls := "WalkingStones", name := "asks", desc := "(IIIIII)I" } : Jvm.MethodName)) ∈ lw_tbl := lw_at lw_m2 21 rfl
theorem q367 : (Jvm.Cond.instanceMethod ({ cls := "WalkingStones", name := "asks", desc := "(IIIIII)I" } : Jvm.MethodName)) ∈ lw_all := lw_g (lw_at lw_m2 22 rfl) rfl
theorem q368 : (Jvm.Cond.code ({ cls := "WalkingStones", name := "asks", desc := "(IIIIII)I" } : Jvm.MethodName) prog_1_method_38_code (7 : Nat) (Option.some Jvm.ClassFile.FieldType.int)) ∈ lw_all := lw_g (lw_at lw_m2 23 rfl) rfl
theorem q369 : (Jvm.Cond.methodLink "WalkingStones" (340 : Nat) ({ cls := "WalkingStones$Node", name := "worth", desc := "()I" } : Jvm.MethodName)) ∈ lw_all := lw_g (lw_at lw_m2 24 rfl) rfl
theorem q386 : (Jvm.Cond.methodLink "WalkingStones" (342 : Nat) ({ cls := "java/lang/Math", name := "min", desc := "(II)I" } : Jvm.MethodName)) ∈ lw_all := lw_g (lw_at lw_m2 41 rfl) rfl
theorem q387 : (Jvm.Cond.methodLink "WalkingStones" (347 : Nat) ({ cls := "java/lang/Math", name := "max", desc := "(II)I" } : Jvm.MethodName)) ∈ lw_all := lw_g (lw_at lw_m2 42 rfl) rfl
theorem q389 : (Jvm.Cond.instanceMethod ({ cls := "WalkingStones", name := "needs", desc := "(III)I" } : Jvm.MethodName)) ∈ lw_all := lw_g (lw_at lw_m2 44 rfl) rfl
theorem q390 : (Jvm.Cond.selects "WalkingStones" ({ cls := "WalkingStones", name := "needs", desc := "(III)I" } : Jvm.MethodName) ({ cls := "WalkingStones", name := "needs", desc := "(III)I" } : Jvm.MethodName)) ∈ lw_all := lw_g (lw_at lw_m2 45 rfl) rfl
theorem q391 : (Jvm.Cond.codeWith ({ cls := "WalkingStones", name := "needs", desc := "(III)I" } : Jvm.MethodName) prog_1_method_13_code (8 : Nat) (Option.some Jvm.ClassFile.FieldType.int) [((35 : Nat), (76 : Nat), (107 : Nat), (0 : Nat)), ((87 : Nat), (96 : Nat), (107 : Nat), (0 : Nat)), ((107 : Nat), (109 : Nat), (107 : Nat), (0 : Nat))]) ∈ lw_all := lw_g (lw_at lw_m2 46 rfl) rfl
theorem q393 : (Jvm.Cond.instanceMethod ({ cls := "WalkingStones", name := "feed", desc := "(IJ)I" } : Jvm.MethodName)) ∈ lw_all := lw_g (lw_at lw_m2 48 rfl) rfl
theorem q394 : (Jvm.Cond.selects "WalkingStones" ({ cls := "WalkingStones", name := "feed", desc := "(IJ)I" } : Jvm.MethodName) ({ cls := "WalkingStones", name := "feed", desc := "(IJ)I" } : Jvm.MethodName)) ∈ lw_all := lw_g (lw_at lw_m2 49 rfl) rfl
theorem q395 : (Jvm.Cond.code ({ cls := "WalkingStones", name := "feed", desc := "(IJ)I" } : Jvm.MethodName) prog_1_method_33_code (5 : Nat) (Option.some Jvm.ClassFile.FieldType.int)) ∈ lw_all := lw_g (lw_at lw_m2 50 rfl) rfl
theorem q396 : (Jvm.Cond.constantLong "WalkingStones" (247 : Nat) (8 : Int64)) ∈ lw_all := lw_g (lw_at lw_m2 51 rfl) rfl
theorem q398 : (Jvm.Cond.instanceMethod ({ cls := "WalkingStones", name := "text", desc := "()I" } : Jvm.MethodName)) ∈ lw_all := lw_g (lw_at lw_m2 53 rfl) rfl
theorem q399 : (Jvm.Cond.selects "WalkingStones" ({ cls := "WalkingStones", name := "text", desc := "()I" } : Jvm.MethodName) ({ cls := "WalkingStones", name := "text", desc := "()I" } : Jvm.MethodName)) ∈ lw_all := lw_g (lw_at lw_m2 54 rfl) rfl
theorem q400 : (Jvm.Cond.code ({ cls := "WalkingStones", name := "text", desc := "()I" } : Jvm.MethodName) prog_1_method_34_code (1 : Nat) (Option.some Jvm.ClassFile.FieldType.int)) ∈ lw_all := lw_g (lw_at lw_m2 55 rfl) rfl
theorem q401 : (Jvm.Cond.methodLink "WalkingStones" (244 : Nat) ({ cls := "WalkingStones", name := "newText", desc := "()I" } : Jvm.MethodName)) ∈ lw_all := lw_g (lw_at lw_m2 56 rfl) rfl
theorem q402 : (Jvm.Cond.privateMethod ({ cls := "WalkingStones", name := "newText", desc := "()I" } : Jvm.MethodName)) ∈ lw_tbl := lw_at lw_m2 57 rfl
theorem q403 : (Jvm.Cond.instanceMethod ({ cls := "WalkingStones", name := "newText", desc := "()I" } : Jvm.MethodName)) ∈ lw_all := lw_g (lw_at lw_m2 58 rfl) rfl
theorem q404 : (Jvm.Cond.codeWith ({ cls := "WalkingStones", name := "newText", desc := "()I" } : Jvm.MethodName) prog_1_method_31_code (3 : Nat) (Option.some Jvm.ClassFile.FieldType.int) [((28 : Nat), (83 : Nat), (86 : Nat), (235 : Nat))]) ∈ lw_all := lw_g (lw_at lw_m2 59 rfl) rfl
theorem q405 : (Jvm.Cond.classLink "WalkingStones" (235 : Nat) "WalkingStones$Faulty") ∈ lw_all := lw_g (lw_at lw_m2 60 rfl) rfl
theorem q406 : (Jvm.Cond.classLink "WalkingStones" (233 : Nat) "WalkingStones$Node") ∈ lw_all := lw_g (lw_at lw_m2 61 rfl) rfl
theorem q408 : (Jvm.Cond.methodLink "WalkingStones" (174 : Nat) ({ cls := "WalkingStones", name := "next", desc := "()V" } : Jvm.MethodName)) ∈ lw_all := lw_g (lw_at lw_m2 63 rfl) rfl
theorem q409 : (Jvm.Cond.privateMethod ({ cls := "WalkingStones", name := "next", desc := "()V" } : Jvm.MethodName)) ∈ lw_tbl := lw_at lw_m2 64 rfl
theorem q410 : (Jvm.Cond.instanceMethod ({ cls := "WalkingStones", name := "next", desc := "()V" } : Jvm.MethodName)) ∈ lw_all := lw_g (lw_at lw_m2 65 rfl) rfl
theorem q411 : (Jvm.Cond.code ({ cls := "WalkingStones", name := "next", desc := "()V" } : Jvm.MethodName) prog_1_method_17_code (2 : Nat) (Option.none : Option Jvm.ClassFile.FieldType)) ∈ lw_all := lw_g (lw_at lw_m2 66 rfl) rfl
theorem q412 : (Jvm.Cond.methodLink "WalkingStones" (120 : Nat) ({ cls := "WalkingStones", name := "byteAt", desc := "(I)I" } : Jvm.MethodName)) ∈ lw_all := lw_g (lw_at lw_m2 67 rfl) rfl
theorem q413 : (Jvm.Cond.privateMethod ({ cls := "WalkingStones", name := "byteAt", desc := "(I)I" } : Jvm.MethodName)) ∈ lw_tbl := lw_at lw_m2 68 rfl
theorem q414 : (Jvm.Cond.instanceMethod ({ cls := "WalkingStones", name := "byteAt", desc := "(I)I" } : Jvm.MethodName)) ∈ lw_all := lw_g (lw_at lw_m2 69 rfl) rfl
theorem q415 : (Jvm.Cond.code ({ cls := "WalkingStones", name := "byteAt", desc := "(I)I" } : Jvm.MethodName) prog_1_method_14_code (2 : Nat) (Option.some Jvm.ClassFile.FieldType.int)) ∈ lw_all := lw_g (lw_at lw_m2 70 rfl) rfl
theorem q416 : (Jvm.Cond.methodLink "WalkingStones" (129 : Nat) ({ cls := "WalkingStones", name := "isLetter", desc := "(I)Z" } : Jvm.MethodName)) ∈ lw_all := lw_g (lw_at lw_m2 71 rfl) rfl
theorem q417 : (Jvm.Cond.static ({ cls := "WalkingStones", name := "isLetter", desc := "(I)Z" } : Jvm.MethodName)) ∈ lw_all := lw_g (lw_at lw_m2 72 rfl) rfl
theorem q418 : (Jvm.Cond.code ({ cls := "WalkingStones", name := "isLetter", desc := "(I)Z" } : Jvm.MethodName) prog_1_method_15_code (1 : Nat) (Option.some Jvm.ClassFile.FieldType.boolean)) ∈ lw_all := lw_g (lw_at lw_m2 73 rfl) rfl
theorem q419 : (Jvm.Cond.constantLong "WalkingStones" (109 : Nat) (97 : Int64)) ∈ lw_all := lw_g (lw_at lw_m2 74 rfl) rfl
theorem q420 : (Jvm.Cond.constantLong "WalkingStones" (111 : Nat) (122 : Int64)) ∈ lw_all := lw_g (lw_at lw_m2 75 rfl) rfl
theorem q421 : (Jvm.Cond.methodLink "WalkingStones" (132 : Nat) ({ cls := "WalkingStones", name := "word", desc := "()V" } : Jvm.MethodName)) ∈ lw_all := lw_g (lw_at lw_m2 76 rfl) rfl
theorem q422 : (Jvm.Cond.privateMethod ({ cls := "WalkingStones", name := "word", desc := "()V" } : Jvm.MethodName)) ∈ lw_tbl := lw_at lw_m2 77 rfl
theorem q423 : (Jvm.Cond.instanceMethod ({ cls := "WalkingStones", name := "word", desc := "()V" } : Jvm.MethodName)) ∈ lw_all := lw_g (lw_at lw_m2 78 rfl) rfl
theorem q424 : (Jvm.Cond.code ({ cls := "WalkingStones", name := "word", desc := "()V" } : Jvm.MethodName) prog_1_method_19_code (2 : Nat) (Option.none : Option Jvm.ClassFile.FieldType)) ∈ lw_all := lw_g (lw_at lw_m2 79 rfl) rfl
theorem q425 : (Jvm.Cond.methodLink "WalkingStones" (167 : Nat) ({ cls := "WalkingStones", name := "placeIn", desc := "([Ljava/lang/String;)I" } : Jvm.MethodName)) ∈ lw_all := lw_g (lw_at lw_m2 80 rfl) rfl
theorem q426 : (Jvm.Cond.privateMethod ({ cls := "WalkingStones", name := "placeIn", desc := "([Ljava/lang/String;)I" } : Jvm.MethodName)) ∈ lw_tbl := lw_at lw_m2 81 rfl
theorem q427 : (Jvm.Cond.instanceMethod ({ cls := "WalkingStones", name := "placeIn", desc := "([Ljava/lang/String;)I" } : Jvm.MethodName)) ∈ lw_all := lw_g (lw_at lw_m2 82 rfl) rfl
theorem q428 : (Jvm.Cond.code ({ cls := "WalkingStones", name := "placeIn", desc := "([Ljava/lang/String;)I" } : Jvm.MethodName) prog_1_method_18_code (5 : Nat) (Option.some Jvm.ClassFile.FieldType.int)) ∈ lw_all := lw_g (lw_at lw_m2 83 rfl) rfl
theorem q429 : (Jvm.Cond.methodLink "WalkingStones" (156 : Nat) ({ cls := "java/lang/String", name := "length", desc := "()I" } : Jvm.MethodName)) ∈ lw_all := lw_g (lw_at lw_m2 84 rfl) rfl
theorem q439 : (Jvm.Cond.methodLink "WalkingStones" (159 : Nat) ({ cls := "java/lang/String", name := "charAt", desc := "(I)C" } : Jvm.MethodName)) ∈ lw_all := lw_g (lw_at lw_m2 94 rfl) rfl
theorem q477 : (Jvm.Cond.methodLink "WalkingStones" (136 : Nat) ({ cls := "WalkingStones", name := "isDigit", desc := "(I)Z" } : Jvm.MethodName)) ∈ lw_all := lw_g (lw_at lw_m2 132 rfl) rfl
theorem q478 : (Jvm.Cond.static ({ cls := "WalkingStones", name := "isDigit", desc := "(I)Z" } : Jvm.MethodName)) ∈ lw_all := lw_g (lw_at lw_m2 133 rfl) rfl
theorem q479 : (Jvm.Cond.code ({ cls := "WalkingStones", name := "isDigit", desc := "(I)Z" } : Jvm.MethodName) prog_1_method_16_code (1 : Nat) (Option.some Jvm.ClassFile.FieldType.boolean)) ∈ lw_all := lw_g (lw_at lw_m2 134 rfl) rfl
theorem q480 : (Jvm.Cond.constantLong "WalkingStones" (113 : Nat) (48 : Int64)) ∈ lw_all := lw_g (lw_at lw_m2 135 rfl) rfl
theorem q481 : (Jvm.Cond.constantLong "WalkingStones" (115 : Nat) (57 : Int64)) ∈ lw_all := lw_g (lw_at lw_m2 136 rfl) rfl
theorem q482 : (Jvm.Cond.methodLink "WalkingStones" (139 : Nat) ({ cls := "WalkingStones", name := "digits", desc := "()V" } : Jvm.MethodName)) ∈ lw_all := lw_g (lw_at lw_m2 137 rfl) rfl
theorem q483 : (Jvm.Cond.privateMethod ({ cls := "WalkingStones", name := "digits", desc := "()V" } : Jvm.MethodName)) ∈ lw_tbl := lw_at lw_m2 138 rfl
theorem q484 : (Jvm.Cond.instanceMethod ({ cls := "WalkingStones", name := "digits", desc := "()V" } : Jvm.MethodName)) ∈ lw_all := lw_g (lw_at lw_m2 139 rfl) rfl
theorem q485 : (Jvm.Cond.code ({ cls := "WalkingStones", name := "digits", desc := "()V" } : Jvm.MethodName) prog_1_method_20_code (1 : Nat) (Option.none : Option Jvm.ClassFile.FieldType)) ∈ lw_all := lw_g (lw_at lw_m2 140 rfl) rfl
theorem q486 : (Jvm.Cond.stringRef "WalkingStones" (145 : Nat) "();+-*<=") ∈ lw_tbl := lw_at lw_m2 141 rfl
theorem q487 : (Jvm.Cond.methodLink "WalkingStones" (147 : Nat) ({ cls := "java/lang/String", name := "indexOf", desc := "(I)I" } : Jvm.MethodName)) ∈ lw_all := lw_g (lw_at lw_m2 142 rfl) rfl
theorem q542 : (Jvm.Cond.methodLink "WalkingStones" (188 : Nat) ({ cls := "WalkingStones", name := "isKey", desc := "(I)Z" } : Jvm.MethodName)) ∈ lw_all := lw_g (lw_at lw_m2 197 rfl) rfl
theorem q543 : (Jvm.Cond.privateMethod ({ cls := "WalkingStones", name := "isKey", desc := "(I)Z" } : Jvm.MethodName)) ∈ lw_tbl := lw_at lw_m2 198 rfl
theorem q544 : (Jvm.Cond.instanceMethod ({ cls := "WalkingStones", name := "isKey", desc := "(I)Z" } : Jvm.MethodName)) ∈ lw_all := lw_g (lw_at lw_m2 199 rfl) rfl
theorem q545 : (Jvm.Cond.code ({ cls := "WalkingStones", name := "isKey", desc := "(I)Z" } : Jvm.MethodName) prog_1_method_22_code (2 : Nat) (Option.some Jvm.ClassFile.FieldType.boolean)) ∈ lw_all := lw_g (lw_at lw_m2 200 rfl) rfl
theorem q546 : (Jvm.Cond.methodLink "WalkingStones" (180 : Nat) ({ cls := "WalkingStones", name := "need", desc := "(Z)V" } : Jvm.MethodName)) ∈ lw_all := lw_g (lw_at lw_m2 201 rfl) rfl
theorem q547 : (Jvm.Cond.privateMethod ({ cls := "WalkingStones", name := "need", desc := "(Z)V" } : Jvm.MethodName)) ∈ lw_tbl := lw_at lw_m2 202 rfl
theorem q548 : (Jvm.Cond.instanceMethod ({ cls := "WalkingStones", name := "need", desc := "(Z)V" } : Jvm.MethodName)) ∈ lw_all := lw_g (lw_at lw_m2 203 rfl) rfl
theorem q549 : (Jvm.Cond.code ({ cls := "WalkingStones", name := "need", desc := "(Z)V" } : Jvm.MethodName) prog_1_method_23_code (2 : Nat) (Option.none : Option Jvm.ClassFile.FieldType)) ∈ lw_all := lw_g (lw_at lw_m2 204 rfl) rfl
theorem q550 : (Jvm.Cond.methodLink "WalkingStones" (227 : Nat) ({ cls := "WalkingStones", name := "either", desc := "()LWalkingStones$Node;" } : Jvm.MethodName)) ∈ lw_all := lw_g (lw_at lw_m2 205 rfl) rfl
theorem q551 : (Jvm.Cond.privateMethod ({ cls := "WalkingStones", name := "either", desc := "()LWalkingStones$Node;" } : Jvm.MethodName)) ∈ lw_tbl := lw_at lw_m2 206 rfl
theorem q552 : (Jvm.Cond.instanceMethod ({ cls := "WalkingStones", name := "either", desc := "()LWalkingStones$Node;" } : Jvm.MethodName)) ∈ lw_all := lw_g (lw_at lw_m2 207 rfl) rfl
theorem q553 : (Jvm.Cond.code ({ cls := "WalkingStones", name := "either", desc := "()LWalkingStones$Node;" } : Jvm.MethodName) prog_1_method_25_code (2 : Nat) (Option.some (Jvm.ClassFile.FieldType.object "WalkingStones$Node"))) ∈ lw_all := lw_g (lw_at lw_m2 208 rfl) rfl
theorem q554 : (Jvm.Cond.methodLink "WalkingStones" (184 : Nat) ({ cls := "WalkingStones", name := "both", desc := "()LWalkingStones$Node;" } : Jvm.MethodName)) ∈ lw_all := lw_g (lw_at lw_m2 209 rfl) rfl
theorem q555 : (Jvm.Cond.privateMethod ({ cls := "WalkingStones", name := "both", desc := "()LWalkingStones$Node;" } : Jvm.MethodName)) ∈ lw_tbl := lw_at lw_m2 210 rfl
theorem q556 : (Jvm.Cond.instanceMethod ({ cls := "WalkingStones", name := "both", desc := "()LWalkingStones$Node;" } : Jvm.MethodName)) ∈ lw_all := lw_g (lw_at lw_m2 211 rfl) rfl
theorem q557 : (Jvm.Cond.code ({ cls := "WalkingStones", name := "both", desc := "()LWalkingStones$Node;" } : Jvm.MethodName) prog_1_method_26_code (2 : Nat) (Option.some (Jvm.ClassFile.FieldType.object "WalkingStones$Node"))) ∈ lw_all := lw_g (lw_at lw_m2 212 rfl) rfl
theorem q558 : (Jvm.Cond.methodLink "WalkingStones" (196 : Nat) ({ cls := "WalkingStones", name := "not", desc := "()LWalkingStones$Node;" } : Jvm.MethodName)) ∈ lw_all := lw_g (lw_at lw_m2 213 rfl) rfl
theorem q559 : (Jvm.Cond.privateMethod ({ cls := "WalkingStones", name := "not", desc := "()LWalkingStones$Node;" } : Jvm.MethodName)) ∈ lw_tbl := lw_at lw_m2 214 rfl
theorem q560 : (Jvm.Cond.instanceMethod ({ cls := "WalkingStones", name := "not", desc := "()LWalkingStones$Node;" } : Jvm.MethodName)) ∈ lw_all := lw_g (lw_at lw_m2 215 rfl) rfl
theorem q561 : (Jvm.Cond.code ({ cls := "WalkingStones", name := "not", desc := "()LWalkingStones$Node;" } : Jvm.MethodName) prog_1_method_27_code (3 : Nat) (Option.some (Jvm.ClassFile.FieldType.object "WalkingStones$Node"))) ∈ lw_all := lw_g (lw_at lw_m2 216 rfl) rfl
theorem q562 : (Jvm.Cond.methodLink "WalkingStones" (199 : Nat) ({ cls := "WalkingStones", name := "openOne", desc := "()V" } : Jvm.MethodName)) ∈ lw_all := lw_g (lw_at lw_m2 217 rfl) rfl
theorem q563 : (Jvm.Cond.privateMethod ({ cls := "WalkingStones", name := "openOne", desc := "()V" } : Jvm.MethodName)) ∈ lw_tbl := lw_at lw_m2 218 rfl
theorem q564 : (Jvm.Cond.instanceMethod ({ cls := "WalkingStones", name := "openOne", desc := "()V" } : Jvm.MethodName)) ∈ lw_all := lw_g (lw_at lw_m2 219 rfl) rfl
theorem q565 : (Jvm.Cond.code ({ cls := "WalkingStones", name := "openOne", desc := "()V" } : Jvm.MethodName) prog_1_method_24_code (1 : Nat) (Option.none : Option Jvm.ClassFile.FieldType)) ∈ lw_all := lw_g (lw_at lw_m2 220 rfl) rfl
theorem q566 : (Jvm.Cond.classLink "WalkingStones" (202 : Nat) "WalkingStones$Turned") ∈ lw_all := lw_g (lw_at lw_m2 221 rfl) rfl
theorem q568 : (Jvm.Cond.methodLink "WalkingStones" (204 : Nat) ({ cls := "WalkingStones$Turned", name := "<init>", desc := "(LWalkingStones$Node;Z)V" } : Jvm.MethodName)) ∈ lw_all := lw_g (lw_at lw_m2 223 rfl) rfl
theorem q583 : (Jvm.Cond.methodLink "WalkingStones" (207 : Nat) ({ cls := "WalkingStones", name := "plus", desc := "()LWalkingStones$Node;" } : Jvm.MethodName)) ∈ lw_all := lw_g (lw_at lw_m2 238 rfl) rfl
theorem q584 : (Jvm.Cond.privateMethod ({ cls := "WalkingStones", name := "plus", desc := "()LWalkingStones$Node;" } : Jvm.MethodName)) ∈ lw_tbl := lw_at lw_m2 239 rfl
theorem q585 : (Jvm.Cond.instanceMethod ({ cls := "WalkingStones", name := "plus", desc := "()LWalkingStones$Node;" } : Jvm.MethodName)) ∈ lw_all := lw_g (lw_at lw_m3 0 rfl) rfl
theorem q586 : (Jvm.Cond.code ({ cls := "WalkingStones", name := "plus", desc := "()LWalkingStones$Node;" } : Jvm.MethodName) prog_1_method_28_code (3 : Nat) (Option.some (Jvm.ClassFile.FieldType.object "WalkingStones$Node"))) ∈ lw_all := lw_g (lw_at lw_m3 1 rfl) rfl
theorem q587 : (Jvm.Cond.methodLink "WalkingStones" (213 : Nat) ({ cls := "WalkingStones", name := "times", desc := "()LWalkingStones$Node;" } : Jvm.MethodName)) ∈ lw_all := lw_g (lw_at lw_m3 2 rfl) rfl
theorem q588 : (Jvm.Cond.privateMethod ({ cls := "WalkingStones", name := "times", desc := "()LWalkingStones$Node;" } : Jvm.MethodName)) ∈ lw_tbl := lw_at lw_m3 3 rfl
theorem q589 : (Jvm.Cond.instanceMethod ({ cls := "WalkingStones", name := "times", desc := "()LWalkingStones$Node;" } : Jvm.MethodName)) ∈ lw_all := lw_g (lw_at lw_m3 4 rfl) rfl
theorem q590 : (Jvm.Cond.code ({ cls := "WalkingStones", name := "times", desc := "()LWalkingStones$Node;" } : Jvm.MethodName) prog_1_method_29_code (2 : Nat) (Option.some (Jvm.ClassFile.FieldType.object "WalkingStones$Node"))) ∈ lw_all := lw_g (lw_at lw_m3 5 rfl) rfl
theorem q591 : (Jvm.Cond.methodLink "WalkingStones" (216 : Nat) ({ cls := "WalkingStones", name := "one", desc := "()LWalkingStones$Node;" } : Jvm.MethodName)) ∈ lw_all := lw_g (lw_at lw_m3 6 rfl) rfl
theorem q592 : (Jvm.Cond.privateMethod ({ cls := "WalkingStones", name := "one", desc := "()LWalkingStones$Node;" } : Jvm.MethodName)) ∈ lw_tbl := lw_at lw_m3 7 rfl
theorem q593 : (Jvm.Cond.instanceMethod ({ cls := "WalkingStones", name := "one", desc := "()LWalkingStones$Node;" } : Jvm.MethodName)) ∈ lw_all := lw_g (lw_at lw_m3 8 rfl) rfl
theorem q594 : (Jvm.Cond.code ({ cls := "WalkingStones", name := "one", desc := "()LWalkingStones$Node;" } : Jvm.MethodName) prog_1_method_30_code (3 : Nat) (Option.some (Jvm.ClassFile.FieldType.object "WalkingStones$Node"))) ∈ lw_all := lw_g (lw_at lw_m3 9 rfl) rfl
theorem q595 : (Jvm.Cond.classLink "WalkingStones" (219 : Nat) "WalkingStones$Number") ∈ lw_all := lw_g (lw_at lw_m3 10 rfl) rfl
theorem q597 : (Jvm.Cond.methodLink "WalkingStones" (221 : Nat) ({ cls := "WalkingStones$Number", name := "<init>", desc := "(I)V" } : Jvm.MethodName)) ∈ lw_all := lw_g (lw_at lw_m3 12 rfl) rfl
theorem q605 : (Jvm.Cond.classLink "WalkingStones" (224 : Nat) "WalkingStones$Name") ∈ lw_all := lw_g (lw_at lw_m3 20 rfl) rfl
theorem q607 : (Jvm.Cond.methodLink "WalkingStones" (226 : Nat) ({ cls := "WalkingStones$Name", name := "<init>", desc := "(LWalkingStones;I)V" } : Jvm.MethodName)) ∈ lw_all := lw_g (lw_at lw_m3 22 rfl) rfl
theorem q618 : (Jvm.Cond.methodLink "WalkingStones" (210 : Nat) ({ cls := "WalkingStones", name := "isSign", desc := "(I)Z" } : Jvm.MethodName)) ∈ lw_all := lw_g (lw_at lw_m3 33 rfl) rfl
theorem q619 : (Jvm.Cond.privateMethod ({ cls := "WalkingStones", name := "isSign", desc := "(I)Z" } : Jvm.MethodName)) ∈ lw_tbl := lw_at lw_m3 34 rfl
theorem q620 : (Jvm.Cond.instanceMethod ({ cls := "WalkingStones", name := "isSign", desc := "(I)Z" } : Jvm.MethodName)) ∈ lw_all := lw_g (lw_at lw_m3 35 rfl) rfl
theorem q621 : (Jvm.Cond.code ({ cls := "WalkingStones", name := "isSign", desc := "(I)Z" } : Jvm.MethodName) prog_1_method_21_code (2 : Nat) (Option.some Jvm.ClassFile.FieldType.boolean)) ∈ lw_all := lw_g (lw_at lw_m3 36 rfl) rfl
theorem q622 : (Jvm.Cond.classLink "WalkingStones" (191 : Nat) "WalkingStones$Two") ∈ lw_all := lw_g (lw_at lw_m3 37 rfl) rfl
theorem q624 : (Jvm.Cond.methodLink "WalkingStones" (193 : Nat) ({ cls := "WalkingStones$Two", name := "<init>", desc := "(ILWalkingStones$Node;LWalkingStones$Node;)V" } : Jvm.MethodName)) ∈ lw_all := lw_g (lw_at lw_m3 39 rfl) rfl
theorem q640 : (Jvm.Cond.instanceMethod ({ cls := "WalkingStones", name := "<init>", desc := "()V" } : Jvm.MethodName)) ∈ lw_all := lw_g (lw_at lw_m3 55 rfl) rfl
theorem q641 : (Jvm.Cond.code ({ cls := "WalkingStones", name := "<init>", desc := "()V" } : Jvm.MethodName) prog_1_method_36_code (1 : Nat) (Option.none : Option Jvm.ClassFile.FieldType)) ∈ lw_all := lw_g (lw_at lw_m3 56 rfl) rfl
theorem q642 : (Jvm.Cond.methodLink "WalkingStones" (249 : Nat) ({ cls := "java/lang/Object", name := "<init>", desc := "()V" } : Jvm.MethodName)) ∈ lw_all := lw_g (lw_at lw_m3 57 rfl) rfl
theorem q700 : (Jvm.Cond.methodLink "WalkingStones" (253 : Nat) ({ cls := "WalkingStones$Faulty", name := "<init>", desc := "()V" } : Jvm.MethodName)) ∈ lw_all := lw_g (lw_at lw_m3 115 rfl) rfl
theorem q726 : (Jvm.Cond.classLink "WalkingStones" (254 : Nat) "[LWalkingStones$Node;") ∈ lw_all := lw_g (lw_at lw_m3 141 rfl) rfl
theorem q728 : (Jvm.Cond.classLink "WalkingStones" (148 : Nat) "java/lang/String") ∈ lw_all := lw_g (lw_at lw_m3 143 rfl) rfl
theorem q730 : (Jvm.Cond.stringRef "WalkingStones" (256 : Nat) "add") ∈ lw_tbl := lw_at lw_m3 145 rfl
theorem q731 : (Jvm.Cond.stringRef "WalkingStones" (258 : Nat) "call") ∈ lw_tbl := lw_at lw_m3 146 rfl
theorem q732 : (Jvm.Cond.stringRef "WalkingStones" (260 : Nat) "worth") ∈ lw_tbl := lw_at lw_m3 147 rfl
theorem q733 : (Jvm.Cond.stringRef "WalkingStones" (262 : Nat) "or") ∈ lw_tbl := lw_at lw_m3 148 rfl
theorem q734 : (Jvm.Cond.stringRef "WalkingStones" (264 : Nat) "and") ∈ lw_tbl := lw_at lw_m3 149 rfl
theorem q735 : (Jvm.Cond.stringRef "WalkingStones" (266 : Nat) "not") ∈ lw_tbl := lw_at lw_m3 150 rfl
theorem q736 : (Jvm.Cond.stringRef "WalkingStones" (267 : Nat) "weight") ∈ lw_tbl := lw_at lw_m3 151 rfl
theorem q737 : (Jvm.Cond.stringRef "WalkingStones" (269 : Nat) "wet") ∈ lw_tbl := lw_at lw_m3 152 rfl
theorem q738 : (Jvm.Cond.stringRef "WalkingStones" (270 : Nat) "ice") ∈ lw_tbl := lw_at lw_m3 153 rfl
theorem q739 : (Jvm.Cond.stringRef "WalkingStones" (271 : Nat) "wind") ∈ lw_tbl := lw_at lw_m3 154 rfl
theorem q740 : (Jvm.Cond.stringRef "WalkingStones" (272 : Nat) "number") ∈ lw_tbl := lw_at lw_m3 155 rfl
theorem q741 : (Jvm.Cond.stringRef "WalkingStones" (274 : Nat) "night") ∈ lw_tbl := lw_at lw_m3 156 rfl
theorem q742 : (Jvm.Cond.classLink "WalkingStones" (312 : Nat) "WalkingStones$Sheet") ∈ lw_all := lw_g (lw_at lw_m3 157 rfl) rfl
theorem q745 : (Jvm.Cond.methodLinkNest "WalkingStones" (314 : Nat) ({ cls := "WalkingStones$Sheet", name := "<init>", desc := "()V" } : Jvm.MethodName) "WalkingStones") ∈ lw_tbl := lw_at lw_m3 160 rfl
theorem q749 : (Jvm.Cond.fieldLinkNest "WalkingStones" (496 : Nat) "WalkingStones$Sheet" "row" "Ljava/lang/Object;" "WalkingStones") ∈ lw_tbl := lw_at lw_m3 164 rfl
theorem q753 : (Jvm.Cond.stringRef "WalkingStones" (319 : Nat) "add 0 ; call 0 < ice ; worth wind ;") ∈ lw_tbl := lw_at lw_m3 168 rfl
theorem q754 : (Jvm.Cond.methodLink "WalkingStones" (321 : Nat) ({ cls := "WalkingStones", name := "firstText", desc := "(Ljava/lang/String;)V" } : Jvm.MethodName)) ∈ lw_all := lw_g (lw_at lw_m3 169 rfl) rfl
theorem q755 : (Jvm.Cond.privateMethod ({ cls := "WalkingStones", name := "firstText", desc := "(Ljava/lang/String;)V" } : Jvm.MethodName)) ∈ lw_tbl := lw_at lw_m3 170 rfl
theorem q756 : (Jvm.Cond.instanceMethod ({ cls := "WalkingStones", name := "firstText", desc := "(Ljava/lang/String;)V" } : Jvm.MethodName)) ∈ lw_all := lw_g (lw_at lw_m3 171 rfl) rfl
theorem q757 : (Jvm.Cond.code ({ cls := "WalkingStones", name := "firstText", desc := "(Ljava/lang/String;)V" } : Jvm.MethodName) prog_1_method_32_code (3 : Nat) (Option.none : Option Jvm.ClassFile.FieldType)) ∈ lw_all := lw_g (lw_at lw_m3 172 rfl) rfl
theorem q758 : (Jvm.Cond.fieldLink "WalkingStones" (29 : Nat) "WalkingStones" "weights" "[I") ∈ lw_all := lw_g (lw_at lw_m3 173 rfl) rfl
theorem q759 : (Jvm.Cond.fieldLink "WalkingStones" (16 : Nat) "WalkingStones" "places" "[I") ∈ lw_all := lw_g (lw_at lw_m3 174 rfl) rfl
theorem q760 : (Jvm.Cond.fieldLink "WalkingStones" (9 : Nat) "WalkingStones" "stones" "I") ∈ lw_all := lw_g (lw_at lw_m3 175 rfl) rfl
theorem q763 : (Jvm.Cond.fieldLink "WalkingStones" (32 : Nat) "WalkingStones" "wet" "[I") ∈ lw_all := lw_g (lw_at lw_m3 178 rfl) rfl
theorem q768 : (Jvm.Cond.fieldLink "WalkingStones" (35 : Nat) "WalkingStones" "ice" "[I") ∈ lw_all := lw_g (lw_at lw_m3 183 rfl) rfl
theorem q771 : (Jvm.Cond.fieldLink "WalkingStones" (38 : Nat) "WalkingStones" "wind" "[I") ∈ lw_all := lw_g (lw_at lw_m3 186 rfl) rfl
theorem q773 : (Jvm.Cond.fieldLink "WalkingStones" (41 : Nat) "WalkingStones" "ways" "[I") ∈ lw_all := lw_g (lw_at lw_m3 188 rfl) rfl
theorem q774 : (Jvm.Cond.fieldLink "WalkingStones" (13 : Nat) "WalkingStones" "nights" "I") ∈ lw_all := lw_g (lw_at lw_m3 189 rfl) rfl
theorem q775 : (Jvm.Cond.fieldLink "WalkingStones" (75 : Nat) "WalkingStones" "hows" "[LWalkingStones$How;") ∈ lw_all := lw_g (lw_at lw_m3 190 rfl) rfl
theorem q776 : (Jvm.Cond.fieldLink "WalkingStones" (47 : Nat) "WalkingStones" "howMany" "I") ∈ lw_all := lw_g (lw_at lw_m3 191 rfl) rfl
theorem q777 : (Jvm.Cond.fieldLink "WalkingStones" (152 : Nat) "WalkingStones" "faulty" "LWalkingStones$Faulty;") ∈ lw_all := lw_g (lw_at lw_m3 192 rfl) rfl
theorem q779 : (Jvm.Cond.fieldLink "WalkingStones" (334 : Nat) "WalkingStones" "forWeight" "I") ∈ lw_all := lw_g (lw_at lw_m3 194 rfl) rfl
theorem q781 : (Jvm.Cond.fieldLink "WalkingStones" (337 : Nat) "WalkingStones" "forNumber" "I") ∈ lw_all := lw_g (lw_at lw_m3 196 rfl) rfl
theorem q783 : (Jvm.Cond.fieldLink "WalkingStones" (331 : Nat) "WalkingStones" "forNight" "I") ∈ lw_all := lw_g (lw_at lw_m3 198 rfl) rfl
theorem q784 : (Jvm.Cond.fieldLink "WalkingStones" (237 : Nat) "WalkingStones" "texts" "[[LWalkingStones$Node;") ∈ lw_all := lw_g (lw_at lw_m3 199 rfl) rfl
theorem q785 : (Jvm.Cond.fieldLink "WalkingStones" (241 : Nat) "WalkingStones" "textMany" "I") ∈ lw_all := lw_g (lw_at lw_m3 200 rfl) rfl
theorem q786 : (Jvm.Cond.fieldLink "WalkingStones" (163 : Nat) "WalkingStones" "keys" "[Ljava/lang/String;") ∈ lw_all := lw_g (lw_at lw_m3 201 rfl) rfl
theorem q787 : (Jvm.Cond.fieldLink "WalkingStones" (171 : Nat) "WalkingStones" "names" "[Ljava/lang/String;") ∈ lw_all := lw_g (lw_at lw_m3 202 rfl) rfl
theorem q788 : (Jvm.Cond.fieldLink "WalkingStones" (105 : Nat) "WalkingStones" "tape" "[B") ∈ lw_all := lw_g (lw_at lw_m3 203 rfl) rfl
theorem q789 : (Jvm.Cond.fieldLink "WalkingStones" (230 : Nat) "WalkingStones" "taped" "I") ∈ lw_all := lw_g (lw_at lw_m3 204 rfl) rfl
theorem q790 : (Jvm.Cond.fieldLink "WalkingStones" (102 : Nat) "WalkingStones" "length" "I") ∈ lw_all := lw_g (lw_at lw_m3 205 rfl) rfl
theorem q791 : (Jvm.Cond.fieldLink "WalkingStones" (117 : Nat) "WalkingStones" "at" "I") ∈ lw_all := lw_g (lw_at lw_m3 206 rfl) rfl
theorem q792 : (Jvm.Cond.fieldLink "WalkingStones" (123 : Nat) "WalkingStones" "begin" "I") ∈ lw_all := lw_g (lw_at lw_m3 207 rfl) rfl
theorem q793 : (Jvm.Cond.fieldLink "WalkingStones" (126 : Nat) "WalkingStones" "token" "I") ∈ lw_all := lw_g (lw_at lw_m3 208 rfl) rfl
theorem q794 : (Jvm.Cond.fieldLink "WalkingStones" (142 : Nat) "WalkingStones" "value" "I") ∈ lw_all := lw_g (lw_at lw_m3 209 rfl) rfl
theorem q795 : (Jvm.Cond.fieldLink "WalkingStones" (177 : Nat) "WalkingStones" "opens" "I") ∈ lw_all := lw_g (lw_at lw_m3 210 rfl) rfl
theorem q796 : (Jvm.Cond.fieldLink "WalkingStones" (328 : Nat) "WalkingStones" "rule" "I") ∈ lw_all := lw_g (lw_at lw_m3 211 rfl) rfl
theorem q797 : (Jvm.Cond.fieldLink "WalkingStones" (276 : Nat) "WalkingStones" "keptPlaces" "[I") ∈ lw_all := lw_g (lw_at lw_m3 212 rfl) rfl
theorem q798 : (Jvm.Cond.fieldLink "WalkingStones" (279 : Nat) "WalkingStones" "went" "[I") ∈ lw_all := lw_g (lw_at lw_m3 213 rfl) rfl
theorem q799 : (Jvm.Cond.fieldLink "WalkingStones" (282 : Nat) "WalkingStones" "turned" "[I") ∈ lw_all := lw_g (lw_at lw_m3 214 rfl) rfl
theorem q800 : (Jvm.Cond.fieldLink "WalkingStones" (285 : Nat) "WalkingStones" "lastWay" "[I") ∈ lw_all := lw_g (lw_at lw_m3 215 rfl) rfl
theorem q801 : (Jvm.Cond.fieldLink "WalkingStones" (288 : Nat) "WalkingStones" "trackStone" "[I") ∈ lw_all := lw_g (lw_at lw_m3 216 rfl) rfl
theorem q802 : (Jvm.Cond.fieldLink "WalkingStones" (291 : Nat) "WalkingStones" "trackLong" "[I") ∈ lw_all := lw_g (lw_at lw_m3 217 rfl) rfl
theorem q803 : (Jvm.Cond.fieldLink "WalkingStones" (294 : Nat) "WalkingStones" "trackTurns" "[I") ∈ lw_all := lw_g (lw_at lw_m3 218 rfl) rfl
theorem q804 : (Jvm.Cond.fieldLink "WalkingStones" (386 : Nat) "WalkingStones" "trackMany" "I") ∈ lw_all := lw_g (lw_at lw_m3 219 rfl) rfl
theorem q805 : (Jvm.Cond.fieldLink "WalkingStones" (297 : Nat) "WalkingStones" "pegs" "[I") ∈ lw_all := lw_g (lw_at lw_m3 220 rfl) rfl
theorem q806 : (Jvm.Cond.fieldLink "WalkingStones" (417 : Nat) "WalkingStones" "pegMany" "I") ∈ lw_all := lw_g (lw_at lw_m3 221 rfl) rfl
theorem q807 : (Jvm.Cond.fieldLink "WalkingStones" (300 : Nat) "WalkingStones" "overs" "[I") ∈ lw_all := lw_g (lw_at lw_m3 222 rfl) rfl
theorem q808 : (Jvm.Cond.fieldLink "WalkingStones" (303 : Nat) "WalkingStones" "unders" "[I") ∈ lw_all := lw_g (lw_at lw_m3 223 rfl) rfl
theorem q809 : (Jvm.Cond.fieldLink "WalkingStones" (464 : Nat) "WalkingStones" "crossMany" "I") ∈ lw_all := lw_g (lw_at lw_m3 224 rfl) rfl
theorem q810 : (Jvm.Cond.fieldLink "WalkingStones" (306 : Nat) "WalkingStones" "worths" "[I") ∈ lw_all := lw_g (lw_at lw_m3 225 rfl) rfl
theorem q811 : (Jvm.Cond.fieldLink "WalkingStones" (488 : Nat) "WalkingStones" "hasImage" "Z") ∈ lw_all := lw_g (lw_at lw_m3 226 rfl) rfl
theorem q812 : (Jvm.Cond.fieldLink "WalkingStones" (473 : Nat) "WalkingStones" "imageStones" "I") ∈ lw_all := lw_g (lw_at lw_m3 227 rfl) rfl
theorem q813 : (Jvm.Cond.fieldLink "WalkingStones" (476 : Nat) "WalkingStones" "imageTracks" "I") ∈ lw_all := lw_g (lw_at lw_m3 228 rfl) rfl
theorem q814 : (Jvm.Cond.fieldLink "WalkingStones" (479 : Nat) "WalkingStones" "imageCross" "I") ∈ lw_all := lw_g (lw_at lw_m3 229 rfl) rfl
theorem q815 : (Jvm.Cond.fieldLink "WalkingStones" (482 : Nat) "WalkingStones" "imagePegs" "I") ∈ lw_all := lw_g (lw_at lw_m3 230 rfl) rfl
theorem q816 : (Jvm.Cond.fieldLink "WalkingStones" (485 : Nat) "WalkingStones" "imageRule" "I") ∈ lw_all := lw_g (lw_at lw_m3 231 rfl) rfl
theorem q817 : (Jvm.Cond.fieldLink "WalkingStones" (309 : Nat) "WalkingStones" "imagePlaces" "[I") ∈ lw_all := lw_g (lw_at lw_m3 232 rfl) rfl
theorem q818 : (Jvm.Cond.fieldLink "WalkingStones" (315 : Nat) "WalkingStones" "sheets" "[LWalkingStones$Sheet;") ∈ lw_all := lw_g (lw_at lw_m3 233 rfl) rfl
theorem q819 : (Jvm.Cond.laysFinal "WalkingStones" "WalkingStones" "weights" "[I") ∈ lw_all := lw_g (lw_at lw_m3 234 rfl) rfl
theorem q820 : (Jvm.Cond.soleField "WalkingStones" "weights") ∈ lw_all := lw_g (lw_at lw_m3 235 rfl) rfl
theorem q821 : (Jvm.Cond.laysFinal "WalkingStones" "WalkingStones" "places" "[I") ∈ lw_all := lw_g (lw_at lw_m3 236 rfl) rfl
theorem q822 : (Jvm.Cond.soleField "WalkingStones" "places") ∈ lw_all := lw_g (lw_at lw_m3 237 rfl) rfl
theorem q823 : (Jvm.Cond.lays "WalkingStones" "WalkingStones" "stones" "I") ∈ lw_all := lw_g (lw_at lw_m3 238 rfl) rfl
theorem q824 : (Jvm.Cond.soleField "WalkingStones" "stones") ∈ lw_all := lw_g (lw_at lw_m3 239 rfl) rfl
theorem q825 : (Jvm.Cond.laysFinal "WalkingStones" "WalkingStones" "wet" "[I") ∈ lw_all := lw_g (lw_at lw_m4 0 rfl) rfl
theorem q826 : (Jvm.Cond.soleField "WalkingStones" "wet") ∈ lw_all := lw_g (lw_at lw_m4 1 rfl) rfl
theorem q827 : (Jvm.Cond.laysFinal "WalkingStones" "WalkingStones" "ice" "[I") ∈ lw_all := lw_g (lw_at lw_m4 2 rfl) rfl
theorem q828 : (Jvm.Cond.soleField "WalkingStones" "ice") ∈ lw_all := lw_g (lw_at lw_m4 3 rfl) rfl
theorem q829 : (Jvm.Cond.laysFinal "WalkingStones" "WalkingStones" "wind" "[I") ∈ lw_all := lw_g (lw_at lw_m4 4 rfl) rfl
theorem q830 : (Jvm.Cond.soleField "WalkingStones" "wind") ∈ lw_all := lw_g (lw_at lw_m4 5 rfl) rfl
theorem q831 : (Jvm.Cond.laysFinal "WalkingStones" "WalkingStones" "ways" "[I") ∈ lw_all := lw_g (lw_at lw_m4 6 rfl) rfl
theorem q832 : (Jvm.Cond.soleField "WalkingStones" "ways") ∈ lw_all := lw_g (lw_at lw_m4 7 rfl) rfl
theorem q833 : (Jvm.Cond.lays "WalkingStones" "WalkingStones" "nights" "I") ∈ lw_all := lw_g (lw_at lw_m4 8 rfl) rfl
theorem q834 : (Jvm.Cond.soleField "WalkingStones" "nights") ∈ lw_all := lw_g (lw_at lw_m4 9 rfl) rfl
theorem q835 : (Jvm.Cond.laysFinal "WalkingStones" "WalkingStones" "hows" "[LWalkingStones$How;") ∈ lw_all := lw_g (lw_at lw_m4 10 rfl) rfl
theorem q836 : (Jvm.Cond.soleField "WalkingStones" "hows") ∈ lw_all := lw_g (lw_at lw_m4 11 rfl) rfl
theorem q837 : (Jvm.Cond.lays "WalkingStones" "WalkingStones" "howMany" "I") ∈ lw_all := lw_g (lw_at lw_m4 12 rfl) rfl
theorem q838 : (Jvm.Cond.soleField "WalkingStones" "howMany") ∈ lw_all := lw_g (lw_at lw_m4 13 rfl) rfl
theorem q839 : (Jvm.Cond.laysFinal "WalkingStones" "WalkingStones" "faulty" "LWalkingStones$Faulty;") ∈ lw_all := lw_g (lw_at lw_m4 14 rfl) rfl
theorem q840 : (Jvm.Cond.soleField "WalkingStones" "faulty") ∈ lw_all := lw_g (lw_at lw_m4 15 rfl) rfl
theorem q841 : (Jvm.Cond.lays "WalkingStones" "WalkingStones" "forWeight" "I") ∈ lw_all := lw_g (lw_at lw_m4 16 rfl) rfl
theorem q842 : (Jvm.Cond.soleField "WalkingStones" "forWeight") ∈ lw_all := lw_g (lw_at lw_m4 17 rfl) rfl
theorem q843 : (Jvm.Cond.lays "WalkingStones" "WalkingStones" "forNumber" "I") ∈ lw_all := lw_g (lw_at lw_m4 18 rfl) rfl
theorem q844 : (Jvm.Cond.soleField "WalkingStones" "forNumber") ∈ lw_all := lw_g (lw_at lw_m4 19 rfl) rfl
theorem q845 : (Jvm.Cond.lays "WalkingStones" "WalkingStones" "forNight" "I") ∈ lw_all := lw_g (lw_at lw_m4 20 rfl) rfl
theorem q846 : (Jvm.Cond.soleField "WalkingStones" "forNight") ∈ lw_all := lw_g (lw_at lw_m4 21 rfl) rfl
theorem q847 : (Jvm.Cond.laysFinal "WalkingStones" "WalkingStones" "texts" "[[LWalkingStones$Node;") ∈ lw_all := lw_g (lw_at lw_m4 22 rfl) rfl
theorem q848 : (Jvm.Cond.soleField "WalkingStones" "texts") ∈ lw_all := lw_g (lw_at lw_m4 23 rfl) rfl
theorem q849 : (Jvm.Cond.lays "WalkingStones" "WalkingStones" "textMany" "I") ∈ lw_all := lw_g (lw_at lw_m4 24 rfl) rfl
theorem q850 : (Jvm.Cond.soleField "WalkingStones" "textMany") ∈ lw_all := lw_g (lw_at lw_m4 25 rfl) rfl
theorem q851 : (Jvm.Cond.laysFinal "WalkingStones" "WalkingStones" "keys" "[Ljava/lang/String;") ∈ lw_all := lw_g (lw_at lw_m4 26 rfl) rfl
theorem q852 : (Jvm.Cond.soleField "WalkingStones" "keys") ∈ lw_all := lw_g (lw_at lw_m4 27 rfl) rfl
theorem q853 : (Jvm.Cond.laysFinal "WalkingStones" "WalkingStones" "names" "[Ljava/lang/String;") ∈ lw_all := lw_g (lw_at lw_m4 28 rfl) rfl
theorem q854 : (Jvm.Cond.soleField "WalkingStones" "names") ∈ lw_all := lw_g (lw_at lw_m4 29 rfl) rfl
theorem q855 : (Jvm.Cond.laysFinal "WalkingStones" "WalkingStones" "tape" "[B") ∈ lw_all := lw_g (lw_at lw_m4 30 rfl) rfl
theorem q856 : (Jvm.Cond.soleField "WalkingStones" "tape") ∈ lw_all := lw_g (lw_at lw_m4 31 rfl) rfl
theorem q857 : (Jvm.Cond.lays "WalkingStones" "WalkingStones" "taped" "I") ∈ lw_all := lw_g (lw_at lw_m4 32 rfl) rfl
theorem q858 : (Jvm.Cond.soleField "WalkingStones" "taped") ∈ lw_all := lw_g (lw_at lw_m4 33 rfl) rfl
theorem q859 : (Jvm.Cond.lays "WalkingStones" "WalkingStones" "length" "I") ∈ lw_all := lw_g (lw_at lw_m4 34 rfl) rfl
theorem q860 : (Jvm.Cond.soleField "WalkingStones" "length") ∈ lw_all := lw_g (lw_at lw_m4 35 rfl) rfl
theorem q861 : (Jvm.Cond.lays "WalkingStones" "WalkingStones" "at" "I") ∈ lw_all := lw_g (lw_at lw_m4 36 rfl) rfl
theorem q862 : (Jvm.Cond.soleField "WalkingStones" "at") ∈ lw_all := lw_g (lw_at lw_m4 37 rfl) rfl
theorem q863 : (Jvm.Cond.lays "WalkingStones" "WalkingStones" "begin" "I") ∈ lw_all := lw_g (lw_at lw_m4 38 rfl) rfl
theorem q864 : (Jvm.Cond.soleField "WalkingStones" "begin") ∈ lw_all := lw_g (lw_at lw_m4 39 rfl) rfl
theorem q865 : (Jvm.Cond.lays "WalkingStones" "WalkingStones" "token" "I") ∈ lw_all := lw_g (lw_at lw_m4 40 rfl) rfl
theorem q866 : (Jvm.Cond.soleField "WalkingStones" "token") ∈ lw_all := lw_g (lw_at lw_m4 41 rfl) rfl
theorem q867 : (Jvm.Cond.lays "WalkingStones" "WalkingStones" "value" "I") ∈ lw_all := lw_g (lw_at lw_m4 42 rfl) rfl
theorem q868 : (Jvm.Cond.soleField "WalkingStones" "value") ∈ lw_all := lw_g (lw_at lw_m4 43 rfl) rfl
theorem q869 : (Jvm.Cond.lays "WalkingStones" "WalkingStones" "opens" "I") ∈ lw_all := lw_g (lw_at lw_m4 44 rfl) rfl
theorem q870 : (Jvm.Cond.soleField "WalkingStones" "opens") ∈ lw_all := lw_g (lw_at lw_m4 45 rfl) rfl
theorem q871 : (Jvm.Cond.lays "WalkingStones" "WalkingStones" "rule" "I") ∈ lw_all := lw_g (lw_at lw_m4 46 rfl) rfl
theorem q872 : (Jvm.Cond.soleField "WalkingStones" "rule") ∈ lw_all := lw_g (lw_at lw_m4 47 rfl) rfl
theorem q873 : (Jvm.Cond.laysFinal "WalkingStones" "WalkingStones" "keptPlaces" "[I") ∈ lw_all := lw_g (lw_at lw_m4 48 rfl) rfl
theorem q874 : (Jvm.Cond.soleField "WalkingStones" "keptPlaces") ∈ lw_all := lw_g (lw_at lw_m4 49 rfl) rfl
theorem q875 : (Jvm.Cond.laysFinal "WalkingStones" "WalkingStones" "went" "[I") ∈ lw_all := lw_g (lw_at lw_m4 50 rfl) rfl
theorem q876 : (Jvm.Cond.soleField "WalkingStones" "went") ∈ lw_all := lw_g (lw_at lw_m4 51 rfl) rfl
theorem q877 : (Jvm.Cond.laysFinal "WalkingStones" "WalkingStones" "turned" "[I") ∈ lw_all := lw_g (lw_at lw_m4 52 rfl) rfl
theorem q878 : (Jvm.Cond.soleField "WalkingStones" "turned") ∈ lw_all := lw_g (lw_at lw_m4 53 rfl) rfl
theorem q879 : (Jvm.Cond.laysFinal "WalkingStones" "WalkingStones" "lastWay" "[I") ∈ lw_all := lw_g (lw_at lw_m4 54 rfl) rfl
theorem q880 : (Jvm.Cond.soleField "WalkingStones" "lastWay") ∈ lw_all := lw_g (lw_at lw_m4 55 rfl) rfl
theorem q881 : (Jvm.Cond.laysFinal "WalkingStones" "WalkingStones" "trackStone" "[I") ∈ lw_all := lw_g (lw_at lw_m4 56 rfl) rfl
theorem q882 : (Jvm.Cond.soleField "WalkingStones" "trackStone") ∈ lw_all := lw_g (lw_at lw_m4 57 rfl) rfl
theorem q883 : (Jvm.Cond.laysFinal "WalkingStones" "WalkingStones" "trackLong" "[I") ∈ lw_all := lw_g (lw_at lw_m4 58 rfl) rfl
theorem q884 : (Jvm.Cond.soleField "WalkingStones" "trackLong") ∈ lw_all := lw_g (lw_at lw_m4 59 rfl) rfl
theorem q885 : (Jvm.Cond.laysFinal "WalkingStones" "WalkingStones" "trackTurns" "[I") ∈ lw_all := lw_g (lw_at lw_m4 60 rfl) rfl
theorem q886 : (Jvm.Cond.soleField "WalkingStones" "trackTurns") ∈ lw_all := lw_g (lw_at lw_m4 61 rfl) rfl
theorem q887 : (Jvm.Cond.lays "WalkingStones" "WalkingStones" "trackMany" "I") ∈ lw_all := lw_g (lw_at lw_m4 62 rfl) rfl
theorem q888 : (Jvm.Cond.soleField "WalkingStones" "trackMany") ∈ lw_all := lw_g (lw_at lw_m4 63 rfl) rfl
theorem q889 : (Jvm.Cond.laysFinal "WalkingStones" "WalkingStones" "pegs" "[I") ∈ lw_all := lw_g (lw_at lw_m4 64 rfl) rfl
theorem q890 : (Jvm.Cond.soleField "WalkingStones" "pegs") ∈ lw_all := lw_g (lw_at lw_m4 65 rfl) rfl
theorem q891 : (Jvm.Cond.lays "WalkingStones" "WalkingStones" "pegMany" "I") ∈ lw_all := lw_g (lw_at lw_m4 66 rfl) rfl
theorem q892 : (Jvm.Cond.soleField "WalkingStones" "pegMany") ∈ lw_all := lw_g (lw_at lw_m4 67 rfl) rfl
theorem q893 : (Jvm.Cond.laysFinal "WalkingStones" "WalkingStones" "overs" "[I") ∈ lw_all := lw_g (lw_at lw_m4 68 rfl) rfl
theorem q894 : (Jvm.Cond.soleField "WalkingStones" "overs") ∈ lw_all := lw_g (lw_at lw_m4 69 rfl) rfl
theorem q895 : (Jvm.Cond.laysFinal "WalkingStones" "WalkingStones" "unders" "[I") ∈ lw_all := lw_g (lw_at lw_m4 70 rfl) rfl
theorem q896 : (Jvm.Cond.soleField "WalkingStones" "unders") ∈ lw_all := lw_g (lw_at lw_m4 71 rfl) rfl
theorem q897 : (Jvm.Cond.lays "WalkingStones" "WalkingStones" "crossMany" "I") ∈ lw_all := lw_g (lw_at lw_m4 72 rfl) rfl
theorem q898 : (Jvm.Cond.soleField "WalkingStones" "crossMany") ∈ lw_all := lw_g (lw_at lw_m4 73 rfl) rfl
theorem q899 : (Jvm.Cond.laysFinal "WalkingStones" "WalkingStones" "worths" "[I") ∈ lw_all := lw_g (lw_at lw_m4 74 rfl) rfl
theorem q900 : (Jvm.Cond.soleField "WalkingStones" "worths") ∈ lw_all := lw_g (lw_at lw_m4 75 rfl) rfl
theorem q901 : (Jvm.Cond.lays "WalkingStones" "WalkingStones" "hasImage" "Z") ∈ lw_all := lw_g (lw_at lw_m4 76 rfl) rfl
theorem q902 : (Jvm.Cond.soleField "WalkingStones" "hasImage") ∈ lw_all := lw_g (lw_at lw_m4 77 rfl) rfl
theorem q903 : (Jvm.Cond.lays "WalkingStones" "WalkingStones" "imageStones" "I") ∈ lw_all := lw_g (lw_at lw_m4 78 rfl) rfl
theorem q904 : (Jvm.Cond.soleField "WalkingStones" "imageStones") ∈ lw_all := lw_g (lw_at lw_m4 79 rfl) rfl
theorem q905 : (Jvm.Cond.lays "WalkingStones" "WalkingStones" "imageTracks" "I") ∈ lw_all := lw_g (lw_at lw_m4 80 rfl) rfl
theorem q906 : (Jvm.Cond.soleField "WalkingStones" "imageTracks") ∈ lw_all := lw_g (lw_at lw_m4 81 rfl) rfl
theorem q907 : (Jvm.Cond.lays "WalkingStones" "WalkingStones" "imageCross" "I") ∈ lw_all := lw_g (lw_at lw_m4 82 rfl) rfl
theorem q908 : (Jvm.Cond.soleField "WalkingStones" "imageCross") ∈ lw_all := lw_g (lw_at lw_m4 83 rfl) rfl
theorem q909 : (Jvm.Cond.lays "WalkingStones" "WalkingStones" "imagePegs" "I") ∈ lw_all := lw_g (lw_at lw_m4 84 rfl) rfl
theorem q910 : (Jvm.Cond.soleField "WalkingStones" "imagePegs") ∈ lw_all := lw_g (lw_at lw_m4 85 rfl) rfl
theorem q911 : (Jvm.Cond.lays "WalkingStones" "WalkingStones" "imageRule" "I") ∈ lw_all := lw_g (lw_at lw_m4 86 rfl) rfl
theorem q912 : (Jvm.Cond.soleField "WalkingStones" "imageRule") ∈ lw_all := lw_g (lw_at lw_m4 87 rfl) rfl
theorem q913 : (Jvm.Cond.laysFinal "WalkingStones" "WalkingStones" "imagePlaces" "[I") ∈ lw_all := lw_g (lw_at lw_m4 88 rfl) rfl
theorem q914 : (Jvm.Cond.soleField "WalkingStones" "imagePlaces") ∈ lw_all := lw_g (lw_at lw_m4 89 rfl) rfl
theorem q915 : (Jvm.Cond.laysFinal "WalkingStones" "WalkingStones" "sheets" "[LWalkingStones$Sheet;") ∈ lw_all := lw_g (lw_at lw_m4 90 rfl) rfl
theorem q916 : (Jvm.Cond.soleField "WalkingStones" "sheets") ∈ lw_all := lw_g (lw_at lw_m4 91 rfl) rfl
theorem q917 : (Jvm.Cond.superclass "WalkingStones" "java/lang/Object") ∈ lw_all := lw_g (lw_at lw_m4 92 rfl) rfl
theorem q919 : (Jvm.Cond.instanceMethod ({ cls := "WalkingStones", name := "force", desc := "(I)I" } : Jvm.MethodName)) ∈ lw_all := lw_g (lw_at lw_m4 94 rfl) rfl
theorem q920 : (Jvm.Cond.selects "WalkingStones" ({ cls := "WalkingStones", name := "force", desc := "(I)I" } : Jvm.MethodName) ({ cls := "WalkingStones", name := "force", desc := "(I)I" } : Jvm.MethodName)) ∈ lw_all := lw_g (lw_at lw_m4 95 rfl) rfl
theorem q921 : (Jvm.Cond.code ({ cls := "WalkingStones", name := "force", desc := "(I)I" } : Jvm.MethodName) prog_1_method_37_code (3 : Nat) (Option.some Jvm.ClassFile.FieldType.int)) ∈ lw_all := lw_g (lw_at lw_m4 96 rfl) rfl
theorem q922 : (Jvm.Cond.methodLink "WalkingStones" (325 : Nat) ({ cls := "WalkingStones", name := "isText", desc := "(I)Z" } : Jvm.MethodName)) ∈ lw_all := lw_g (lw_at lw_m4 97 rfl) rfl
theorem q923 : (Jvm.Cond.privateMethod ({ cls := "WalkingStones", name := "isText", desc := "(I)Z" } : Jvm.MethodName)) ∈ lw_tbl := lw_at lw_m4 98 rfl
theorem q924 : (Jvm.Cond.instanceMethod ({ cls := "WalkingStones", name := "isText", desc := "(I)Z" } : Jvm.MethodName)) ∈ lw_all := lw_g (lw_at lw_m4 99 rfl) rfl
theorem q925 : (Jvm.Cond.code ({ cls := "WalkingStones", name := "isText", desc := "(I)Z" } : Jvm.MethodName) prog_1_method_35_code (2 : Nat) (Option.some Jvm.ClassFile.FieldType.boolean)) ∈ lw_all := lw_g (lw_at lw_m4 100 rfl) rfl
theorem q927 : (Jvm.Cond.instanceMethod ({ cls := "WalkingStones", name := "run", desc := "(IIII)I" } : Jvm.MethodName)) ∈ lw_all := lw_g (lw_at lw_m4 102 rfl) rfl
theorem q928 : (Jvm.Cond.selects "WalkingStones" ({ cls := "WalkingStones", name := "run", desc := "(IIII)I" } : Jvm.MethodName) ({ cls := "WalkingStones", name := "run", desc := "(IIII)I" } : Jvm.MethodName)) ∈ lw_all := lw_g (lw_at lw_m4 103 rfl) rfl
theorem q929 : (Jvm.Cond.codeWith ({ cls := "WalkingStones", name := "run", desc := "(IIII)I" } : Jvm.MethodName) prog_1_method_45_code (7 : Nat) (Option.some Jvm.ClassFile.FieldType.int) [((44 : Nat), (99 : Nat), (106 : Nat), (0 : Nat)), ((106 : Nat), (108 : Nat), (106 : Nat), (0 : Nat))]) ∈ lw_all := lw_g (lw_at lw_m4 104 rfl) rfl
theorem q930 : (Jvm.Cond.methodLink "WalkingStones" (374 : Nat) ({ cls := "WalkingStones", name := "areNights", desc := "(I)Z" } : Jvm.MethodName)) ∈ lw_all := lw_g (lw_at lw_m4 105 rfl) rfl
theorem q931 : (Jvm.Cond.privateMethod ({ cls := "WalkingStones", name := "areNights", desc := "(I)Z" } : Jvm.MethodName)) ∈ lw_tbl := lw_at lw_m4 106 rfl
theorem q932 : (Jvm.Cond.instanceMethod ({ cls := "WalkingStones", name := "areNights", desc := "(I)Z" } : Jvm.MethodName)) ∈ lw_all := lw_g (lw_at lw_m4 107 rfl) rfl
theorem q933 : (Jvm.Cond.code ({ cls := "WalkingStones", name := "areNights", desc := "(I)Z" } : Jvm.MethodName) prog_1_method_44_code (2 : Nat) (Option.some Jvm.ClassFile.FieldType.boolean)) ∈ lw_all := lw_g (lw_at lw_m4 108 rfl) rfl
theorem q934 : (Jvm.Cond.methodLink "WalkingStones" (377 : Nat) ({ cls := "WalkingStones", name := "keeps", desc := "()V" } : Jvm.MethodName)) ∈ lw_all := lw_g (lw_at lw_m4 109 rfl) rfl
theorem q935 : (Jvm.Cond.privateMethod ({ cls := "WalkingStones", name := "keeps", desc := "()V" } : Jvm.MethodName)) ∈ lw_tbl := lw_at lw_m4 110 rfl
theorem q936 : (Jvm.Cond.instanceMethod ({ cls := "WalkingStones", name := "keeps", desc := "()V" } : Jvm.MethodName)) ∈ lw_all := lw_g (lw_at lw_m4 111 rfl) rfl
theorem q937 : (Jvm.Cond.code ({ cls := "WalkingStones", name := "keeps", desc := "()V" } : Jvm.MethodName) prog_1_method_42_code (1 : Nat) (Option.none : Option Jvm.ClassFile.FieldType)) ∈ lw_all := lw_g (lw_at lw_m4 112 rfl) rfl
theorem q938 : (Jvm.Cond.methodLink "WalkingStones" (368 : Nat) ({ cls := "java/lang/System", name := "arraycopy", desc := "(Ljava/lang/Object;ILjava/lang/Object;II)V" } : Jvm.MethodName)) ∈ lw_all := lw_g (lw_at lw_m4 113 rfl) rfl
theorem q941 : (Jvm.Cond.methodLink "WalkingStones" (380 : Nat) ({ cls := "WalkingStones", name := "runs", desc := "(LWalkingStones$How;II)V" } : Jvm.MethodName)) ∈ lw_all := lw_g (lw_at lw_m4 116 rfl) rfl
theorem q942 : (Jvm.Cond.privateMethod ({ cls := "WalkingStones", name := "runs", desc := "(LWalkingStones$How;II)V" } : Jvm.MethodName)) ∈ lw_tbl := lw_at lw_m4 117 rfl
theorem q943 : (Jvm.Cond.instanceMethod ({ cls := "WalkingStones", name := "runs", desc := "(LWalkingStones$How;II)V" } : Jvm.MethodName)) ∈ lw_all := lw_g (lw_at lw_m4 118 rfl) rfl
theorem q944 : (Jvm.Cond.code ({ cls := "WalkingStones", name := "runs", desc := "(LWalkingStones$How;II)V" } : Jvm.MethodName) prog_1_method_41_code (6 : Nat) (Option.none : Option Jvm.ClassFile.FieldType)) ∈ lw_all := lw_g (lw_at lw_m4 119 rfl) rfl
theorem q945 : (Jvm.Cond.methodLink "WalkingStones" (364 : Nat) ({ cls := "WalkingStones", name := "goes", desc := "(LWalkingStones$How;II)V" } : Jvm.MethodName)) ∈ lw_all := lw_g (lw_at lw_m4 120 rfl) rfl
theorem q946 : (Jvm.Cond.privateMethod ({ cls := "WalkingStones", name := "goes", desc := "(LWalkingStones$How;II)V" } : Jvm.MethodName)) ∈ lw_tbl := lw_at lw_m4 121 rfl
theorem q947 : (Jvm.Cond.instanceMethod ({ cls := "WalkingStones", name := "goes", desc := "(LWalkingStones$How;II)V" } : Jvm.MethodName)) ∈ lw_all := lw_g (lw_at lw_m4 122 rfl) rfl
theorem q948 : (Jvm.Cond.code ({ cls := "WalkingStones", name := "goes", desc := "(LWalkingStones$How;II)V" } : Jvm.MethodName) prog_1_method_40_code (8 : Nat) (Option.none : Option Jvm.ClassFile.FieldType)) ∈ lw_all := lw_g (lw_at lw_m4 123 rfl) rfl
theorem q949 : (Jvm.Cond.methodLink "WalkingStones" (358 : Nat) ({ cls := "WalkingStones$How", name := "way", desc := "(I)I" } : Jvm.MethodName)) ∈ lw_all := lw_g (lw_at lw_m4 124 rfl) rfl
theorem q961 : (Jvm.Cond.methodLink "WalkingStones" (361 : Nat) ({ cls := "WalkingStones", name := "nextAt", desc := "(II)I" } : Jvm.MethodName)) ∈ lw_all := lw_g (lw_at lw_m4 136 rfl) rfl
theorem q962 : (Jvm.Cond.privateMethod ({ cls := "WalkingStones", name := "nextAt", desc := "(II)I" } : Jvm.MethodName)) ∈ lw_tbl := lw_at lw_m4 137 rfl
theorem q963 : (Jvm.Cond.instanceMethod ({ cls := "WalkingStones", name := "nextAt", desc := "(II)I" } : Jvm.MethodName)) ∈ lw_all := lw_g (lw_at lw_m4 138 rfl) rfl
theorem q964 : (Jvm.Cond.code ({ cls := "WalkingStones", name := "nextAt", desc := "(II)I" } : Jvm.MethodName) prog_1_method_39_code (6 : Nat) (Option.some Jvm.ClassFile.FieldType.int)) ∈ lw_all := lw_g (lw_at lw_m4 139 rfl) rfl
theorem q965 : (Jvm.Cond.fieldLink "WalkingStones" (350 : Nat) "WalkingStones" "DX" "[I") ∈ lw_all := lw_g (lw_at lw_m4 140 rfl) rfl
theorem q966 : (Jvm.Cond.laysStatic "WalkingStones" "DX" "[I") ∈ lw_tbl := lw_at lw_m4 141 rfl
theorem q967 : (Jvm.Cond.fieldLink "WalkingStones" (353 : Nat) "WalkingStones" "DY" "[I") ∈ lw_all := lw_g (lw_at lw_m4 142 rfl) rfl
theorem q968 : (Jvm.Cond.laysStatic "WalkingStones" "DY" "[I") ∈ lw_tbl := lw_at lw_m4 143 rfl
theorem q969 : (Jvm.Cond.constantLong "WalkingStones" (356 : Nat) (63 : Int64)) ∈ lw_all := lw_g (lw_at lw_m4 144 rfl) rfl
theorem q970 : (Jvm.Cond.methodLink "WalkingStones" (383 : Nat) ({ cls := "WalkingStones", name := "laysBack", desc := "()V" } : Jvm.MethodName)) ∈ lw_all := lw_g (lw_at lw_m4 145 rfl) rfl
theorem q971 : (Jvm.Cond.privateMethod ({ cls := "WalkingStones", name := "laysBack", desc := "()V" } : Jvm.MethodName)) ∈ lw_tbl := lw_at lw_m4 146 rfl
theorem q972 : (Jvm.Cond.instanceMethod ({ cls := "WalkingStones", name := "laysBack", desc := "()V" } : Jvm.MethodName)) ∈ lw_all := lw_g (lw_at lw_m4 147 rfl) rfl
theorem q973 : (Jvm.Cond.code ({ cls := "WalkingStones", name := "laysBack", desc := "()V" } : Jvm.MethodName) prog_1_method_43_code (1 : Nat) (Option.none : Option Jvm.ClassFile.FieldType)) ∈ lw_all := lw_g (lw_at lw_m4 148 rfl) rfl
theorem q975 : (Jvm.Cond.instanceMethod ({ cls := "WalkingStones", name := "lay", desc := "(II)I" } : Jvm.MethodName)) ∈ lw_all := lw_g (lw_at lw_m4 150 rfl) rfl
theorem q976 : (Jvm.Cond.selects "WalkingStones" ({ cls := "WalkingStones", name := "lay", desc := "(II)I" } : Jvm.MethodName) ({ cls := "WalkingStones", name := "lay", desc := "(II)I" } : Jvm.MethodName)) ∈ lw_all := lw_g (lw_at lw_m4 151 rfl) rfl
theorem q977 : (Jvm.Cond.code ({ cls := "WalkingStones", name := "lay", desc := "(II)I" } : Jvm.MethodName) prog_1_method_46_code (5 : Nat) (Option.some Jvm.ClassFile.FieldType.int)) ∈ lw_all := lw_g (lw_at lw_m4 152 rfl) rfl
theorem q979 : (Jvm.Cond.instanceMethod ({ cls := "WalkingStones", name := "track", desc := "(III)I" } : Jvm.MethodName)) ∈ lw_all := lw_g (lw_at lw_m4 154 rfl) rfl
theorem q980 : (Jvm.Cond.selects "WalkingStones" ({ cls := "WalkingStones", name := "track", desc := "(III)I" } : Jvm.MethodName) ({ cls := "WalkingStones", name := "track", desc := "(III)I" } : Jvm.MethodName)) ∈ lw_all := lw_g (lw_at lw_m4 155 rfl) rfl
theorem q981 : (Jvm.Cond.code ({ cls := "WalkingStones", name := "track", desc := "(III)I" } : Jvm.MethodName) prog_1_method_48_code (4 : Nat) (Option.some Jvm.ClassFile.FieldType.int)) ∈ lw_all := lw_g (lw_at lw_m4 156 rfl) rfl
theorem q982 : (Jvm.Cond.constantLong "WalkingStones" (389 : Nat) (999 : Int64)) ∈ lw_all := lw_g (lw_at lw_m4 157 rfl) rfl
theorem q984 : (Jvm.Cond.instanceMethod ({ cls := "WalkingStones", name := "together", desc := "(III)I" } : Jvm.MethodName)) ∈ lw_all := lw_g (lw_at lw_m4 159 rfl) rfl
theorem q985 : (Jvm.Cond.selects "WalkingStones" ({ cls := "WalkingStones", name := "together", desc := "(III)I" } : Jvm.MethodName) ({ cls := "WalkingStones", name := "together", desc := "(III)I" } : Jvm.MethodName)) ∈ lw_all := lw_g (lw_at lw_m4 160 rfl) rfl
theorem q986 : (Jvm.Cond.code ({ cls := "WalkingStones", name := "together", desc := "(III)I" } : Jvm.MethodName) prog_1_method_50_code (4 : Nat) (Option.some Jvm.ClassFile.FieldType.int)) ∈ lw_all := lw_g (lw_at lw_m4 161 rfl) rfl
theorem q987 : (Jvm.Cond.methodLink "WalkingStones" (394 : Nat) ({ cls := "WalkingStones", name := "isTrack", desc := "(I)Z" } : Jvm.MethodName)) ∈ lw_all := lw_g (lw_at lw_m4 162 rfl) rfl
theorem q988 : (Jvm.Cond.privateMethod ({ cls := "WalkingStones", name := "isTrack", desc := "(I)Z" } : Jvm.MethodName)) ∈ lw_tbl := lw_at lw_m4 163 rfl
theorem q989 : (Jvm.Cond.instanceMethod ({ cls := "WalkingStones", name := "isTrack", desc := "(I)Z" } : Jvm.MethodName)) ∈ lw_all := lw_g (lw_at lw_m4 164 rfl) rfl
theorem q990 : (Jvm.Cond.code ({ cls := "WalkingStones", name := "isTrack", desc := "(I)Z" } : Jvm.MethodName) prog_1_method_47_code (2 : Nat) (Option.some Jvm.ClassFile.FieldType.boolean)) ∈ lw_all := lw_g (lw_at lw_m4 165 rfl) rfl
theorem q991 : (Jvm.Cond.methodLink "WalkingStones" (397 : Nat) ({ cls := "WalkingStones", name := "areTogether", desc := "(III)Z" } : Jvm.MethodName)) ∈ lw_all := lw_g (lw_at lw_m4 166 rfl) rfl
theorem q992 : (Jvm.Cond.privateMethod ({ cls := "WalkingStones", name := "areTogether", desc := "(III)Z" } : Jvm.MethodName)) ∈ lw_tbl := lw_at lw_m4 167 rfl
theorem q993 : (Jvm.Cond.instanceMethod ({ cls := "WalkingStones", name := "areTogether", desc := "(III)Z" } : Jvm.MethodName)) ∈ lw_all := lw_g (lw_at lw_m4 168 rfl) rfl
theorem q994 : (Jvm.Cond.code ({ cls := "WalkingStones", name := "areTogether", desc := "(III)Z" } : Jvm.MethodName) prog_1_method_49_code (4 : Nat) (Option.some Jvm.ClassFile.FieldType.boolean)) ∈ lw_all := lw_g (lw_at lw_m4 169 rfl) rfl
theorem q995 : (Jvm.Cond.methodLink "WalkingStones" (391 : Nat) ({ cls := "java/lang/Math", name := "abs", desc := "(I)I" } : Jvm.MethodName)) ∈ lw_all := lw_g (lw_at lw_m4 170 rfl) rfl
theorem q999 : (Jvm.Cond.instanceMethod ({ cls := "WalkingStones", name := "groups", desc := "(I)I" } : Jvm.MethodName)) ∈ lw_all := lw_g (lw_at lw_m4 174 rfl) rfl
theorem q1000 : (Jvm.Cond.selects "WalkingStones" ({ cls := "WalkingStones", name := "groups", desc := "(I)I" } : Jvm.MethodName) ({ cls := "WalkingStones", name := "groups", desc := "(I)I" } : Jvm.MethodName)) ∈ lw_all := lw_g (lw_at lw_m4 175 rfl) rfl
theorem q1001 : (Jvm.Cond.code ({ cls := "WalkingStones", name := "groups", desc := "(I)I" } : Jvm.MethodName) prog_1_method_52_code (5 : Nat) (Option.some Jvm.ClassFile.FieldType.int)) ∈ lw_all := lw_g (lw_at lw_m4 176 rfl) rfl
theorem q1002 : (Jvm.Cond.methodLink "WalkingStones" (401 : Nat) ({ cls := "WalkingStones", name := "spreads", desc := "(II)I" } : Jvm.MethodName)) ∈ lw_all := lw_g (lw_at lw_m4 177 rfl) rfl
theorem q1003 : (Jvm.Cond.privateMethod ({ cls := "WalkingStones", name := "spreads", desc := "(II)I" } : Jvm.MethodName)) ∈ lw_tbl := lw_at lw_m4 178 rfl
theorem q1004 : (Jvm.Cond.instanceMethod ({ cls := "WalkingStones", name := "spreads", desc := "(II)I" } : Jvm.MethodName)) ∈ lw_all := lw_g (lw_at lw_m4 179 rfl) rfl
theorem q1005 : (Jvm.Cond.code ({ cls := "WalkingStones", name := "spreads", desc := "(II)I" } : Jvm.MethodName) prog_1_method_51_code (6 : Nat) (Option.some Jvm.ClassFile.FieldType.int)) ∈ lw_all := lw_g (lw_at lw_m4 180 rfl) rfl
theorem q1007 : (Jvm.Cond.instanceMethod ({ cls := "WalkingStones", name := "fits", desc := "(II)I" } : Jvm.MethodName)) ∈ lw_all := lw_g (lw_at lw_m4 182 rfl) rfl
theorem q1008 : (Jvm.Cond.selects "WalkingStones" ({ cls := "WalkingStones", name := "fits", desc := "(II)I" } : Jvm.MethodName) ({ cls := "WalkingStones", name := "fits", desc := "(II)I" } : Jvm.MethodName)) ∈ lw_all := lw_g (lw_at lw_m4 183 rfl) rfl
theorem q1009 : (Jvm.Cond.codeWith ({ cls := "WalkingStones", name := "fits", desc := "(II)I" } : Jvm.MethodName) prog_1_method_54_code (5 : Nat) (Option.some Jvm.ClassFile.FieldType.int) [((23 : Nat), (46 : Nat), (52 : Nat), (0 : Nat)), ((52 : Nat), (54 : Nat), (52 : Nat), (0 : Nat))]) ∈ lw_all := lw_g (lw_at lw_m4 184 rfl) rfl
theorem q1010 : (Jvm.Cond.methodLink "WalkingStones" (404 : Nat) ({ cls := "WalkingStones", name := "fitsNow", desc := "(I)I" } : Jvm.MethodName)) ∈ lw_all := lw_g (lw_at lw_m4 185 rfl) rfl
theorem q1011 : (Jvm.Cond.privateMethod ({ cls := "WalkingStones", name := "fitsNow", desc := "(I)I" } : Jvm.MethodName)) ∈ lw_tbl := lw_at lw_m4 186 rfl
theorem q1012 : (Jvm.Cond.instanceMethod ({ cls := "WalkingStones", name := "fitsNow", desc := "(I)I" } : Jvm.MethodName)) ∈ lw_all := lw_g (lw_at lw_m4 187 rfl) rfl
theorem q1013 : (Jvm.Cond.code ({ cls := "WalkingStones", name := "fitsNow", desc := "(I)I" } : Jvm.MethodName) prog_1_method_53_code (3 : Nat) (Option.some Jvm.ClassFile.FieldType.int)) ∈ lw_all := lw_g (lw_at lw_m4 188 rfl) rfl
theorem q1015 : (Jvm.Cond.instanceMethod ({ cls := "WalkingStones", name := "odds", desc := "(III)J" } : Jvm.MethodName)) ∈ lw_all := lw_g (lw_at lw_m4 190 rfl) rfl
theorem q1016 : (Jvm.Cond.selects "WalkingStones" ({ cls := "WalkingStones", name := "odds", desc := "(III)J" } : Jvm.MethodName) ({ cls := "WalkingStones", name := "odds", desc := "(III)J" } : Jvm.MethodName)) ∈ lw_all := lw_g (lw_at lw_m4 191 rfl) rfl
theorem q1017 : (Jvm.Cond.code ({ cls := "WalkingStones", name := "odds", desc := "(III)J" } : Jvm.MethodName) prog_1_method_57_code (7 : Nat) (Option.some Jvm.ClassFile.FieldType.long)) ∈ lw_all := lw_g (lw_at lw_m4 192 rfl) rfl
theorem q1018 : (Jvm.Cond.constantLong "WalkingStones" (407 : Nat) (-4611686018427387904 : Int64)) ∈ lw_all := lw_g (lw_at lw_m4 193 rfl) rfl
theorem q1019 : (Jvm.Cond.methodLink "WalkingStones" (409 : Nat) ({ cls := "WalkingStones", name := "productOf", desc := "(II)J" } : Jvm.MethodName)) ∈ lw_all := lw_g (lw_at lw_m4 194 rfl) rfl
theorem q1020 : (Jvm.Cond.privateMethod ({ cls := "WalkingStones", name := "productOf", desc := "(II)J" } : Jvm.MethodName)) ∈ lw_tbl := lw_at lw_m4 195 rfl
theorem q1021 : (Jvm.Cond.instanceMethod ({ cls := "WalkingStones", name := "productOf", desc := "(II)J" } : Jvm.MethodName)) ∈ lw_all := lw_g (lw_at lw_m4 196 rfl) rfl
theorem q1022 : (Jvm.Cond.codeWith ({ cls := "WalkingStones", name := "productOf", desc := "(II)J" } : Jvm.MethodName) prog_1_method_55_code (8 : Nat) (Option.some Jvm.ClassFile.FieldType.long) [((4 : Nat), (75 : Nat), (82 : Nat), (0 : Nat)), ((82 : Nat), (84 : Nat), (82 : Nat), (0 : Nat))]) ∈ lw_all := lw_g (lw_at lw_m4 197 rfl) rfl
theorem q1023 : (Jvm.Cond.methodLink "WalkingStones" (413 : Nat) ({ cls := "WalkingStones", name := "lowest", desc := "(JJI)J" } : Jvm.MethodName)) ∈ lw_all := lw_g (lw_at lw_m4 198 rfl) rfl
theorem q1024 : (Jvm.Cond.static ({ cls := "WalkingStones", name := "lowest", desc := "(JJI)J" } : Jvm.MethodName)) ∈ lw_all := lw_g (lw_at lw_m4 199 rfl) rfl
theorem q1025 : (Jvm.Cond.code ({ cls := "WalkingStones", name := "lowest", desc := "(JJI)J" } : Jvm.MethodName) prog_1_method_56_code (11 : Nat) (Option.some Jvm.ClassFile.FieldType.long)) ∈ lw_all := lw_g (lw_at lw_m4 200 rfl) rfl
theorem q1027 : (Jvm.Cond.instanceMethod ({ cls := "WalkingStones", name := "peg", desc := "(I)I" } : Jvm.MethodName)) ∈ lw_all := lw_g (lw_at lw_m4 202 rfl) rfl
theorem q1028 : (Jvm.Cond.selects "WalkingStones" ({ cls := "WalkingStones", name := "peg", desc := "(I)I" } : Jvm.MethodName) ({ cls := "WalkingStones", name := "peg", desc := "(I)I" } : Jvm.MethodName)) ∈ lw_all := lw_g (lw_at lw_m4 203 rfl) rfl
theorem q1029 : (Jvm.Cond.code ({ cls := "WalkingStones", name := "peg", desc := "(I)I" } : Jvm.MethodName) prog_1_method_58_code (2 : Nat) (Option.some Jvm.ClassFile.FieldType.int)) ∈ lw_all := lw_g (lw_at lw_m4 204 rfl) rfl
theorem q1031 : (Jvm.Cond.instanceMethod ({ cls := "WalkingStones", name := "holds", desc := "(II)I" } : Jvm.MethodName)) ∈ lw_all := lw_g (lw_at lw_m4 206 rfl) rfl
theorem q1032 : (Jvm.Cond.selects "WalkingStones" ({ cls := "WalkingStones", name := "holds", desc := "(II)I" } : Jvm.MethodName) ({ cls := "WalkingStones", name := "holds", desc := "(II)I" } : Jvm.MethodName)) ∈ lw_all := lw_g (lw_at lw_m4 207 rfl) rfl
theorem q1033 : (Jvm.Cond.code ({ cls := "WalkingStones", name := "holds", desc := "(II)I" } : Jvm.MethodName) prog_1_method_60_code (3 : Nat) (Option.some Jvm.ClassFile.FieldType.int)) ∈ lw_all := lw_g (lw_at lw_m4 208 rfl) rfl
theorem q1034 : (Jvm.Cond.methodLink "WalkingStones" (420 : Nat) ({ cls := "WalkingStones", name := "doHold", desc := "(II)Z" } : Jvm.MethodName)) ∈ lw_all := lw_g (lw_at lw_m4 209 rfl) rfl
theorem q1035 : (Jvm.Cond.privateMethod ({ cls := "WalkingStones", name := "doHold", desc := "(II)Z" } : Jvm.MethodName)) ∈ lw_tbl := lw_at lw_m4 210 rfl
theorem q1036 : (Jvm.Cond.instanceMethod ({ cls := "WalkingStones", name := "doHold", desc := "(II)Z" } : Jvm.MethodName)) ∈ lw_all := lw_g (lw_at lw_m4 211 rfl) rfl
theorem q1037 : (Jvm.Cond.code ({ cls := "WalkingStones", name := "doHold", desc := "(II)Z" } : Jvm.MethodName) prog_1_method_59_code (7 : Nat) (Option.some Jvm.ClassFile.FieldType.boolean)) ∈ lw_all := lw_g (lw_at lw_m4 212 rfl) rfl
theorem q1039 : (Jvm.Cond.instanceMethod ({ cls := "WalkingStones", name := "bars", desc := "(II)I" } : Jvm.MethodName)) ∈ lw_all := lw_g (lw_at lw_m4 214 rfl) rfl
theorem q1040 : (Jvm.Cond.selects "WalkingStones" ({ cls := "WalkingStones", name := "bars", desc := "(II)I" } : Jvm.MethodName) ({ cls := "WalkingStones", name := "bars", desc := "(II)I" } : Jvm.MethodName)) ∈ lw_all := lw_g (lw_at lw_m4 215 rfl) rfl
theorem q1041 : (Jvm.Cond.codeWith ({ cls := "WalkingStones", name := "bars", desc := "(II)I" } : Jvm.MethodName) prog_1_method_62_code (6 : Nat) (Option.some Jvm.ClassFile.FieldType.int) [((27 : Nat), (104 : Nat), (111 : Nat), (0 : Nat)), ((111 : Nat), (113 : Nat), (111 : Nat), (0 : Nat))]) ∈ lw_all := lw_g (lw_at lw_m4 216 rfl) rfl
theorem q1042 : (Jvm.Cond.methodLink "WalkingStones" (424 : Nat) ({ cls := "WalkingStones", name := "isOut", desc := "(I)Z" } : Jvm.MethodName)) ∈ lw_all := lw_g (lw_at lw_m4 217 rfl) rfl
theorem q1043 : (Jvm.Cond.privateMethod ({ cls := "WalkingStones", name := "isOut", desc := "(I)Z" } : Jvm.MethodName)) ∈ lw_tbl := lw_at lw_m4 218 rfl
theorem q1044 : (Jvm.Cond.instanceMethod ({ cls := "WalkingStones", name := "isOut", desc := "(I)Z" } : Jvm.MethodName)) ∈ lw_all := lw_g (lw_at lw_m4 219 rfl) rfl
theorem q1045 : (Jvm.Cond.code ({ cls := "WalkingStones", name := "isOut", desc := "(I)Z" } : Jvm.MethodName) prog_1_method_61_code (5 : Nat) (Option.some Jvm.ClassFile.FieldType.boolean)) ∈ lw_all := lw_g (lw_at lw_m4 220 rfl) rfl
theorem q1047 : (Jvm.Cond.instanceMethod ({ cls := "WalkingStones", name := "seldom", desc := "(II)J" } : Jvm.MethodName)) ∈ lw_all := lw_g (lw_at lw_m4 222 rfl) rfl
theorem q1048 : (Jvm.Cond.selects "WalkingStones" ({ cls := "WalkingStones", name := "seldom", desc := "(II)J" } : Jvm.MethodName) ({ cls := "WalkingStones", name := "seldom", desc := "(II)J" } : Jvm.MethodName)) ∈ lw_all := lw_g (lw_at lw_m4 223 rfl) rfl
theorem q1049 : (Jvm.Cond.code ({ cls := "WalkingStones", name := "seldom", desc := "(II)J" } : Jvm.MethodName) prog_1_method_66_code (10 : Nat) (Option.some Jvm.ClassFile.FieldType.long)) ∈ lw_all := lw_g (lw_at lw_m4 224 rfl) rfl
theorem q1050 : (Jvm.Cond.methodLink "WalkingStones" (437 : Nat) ({ cls := "WalkingStones", name := "pushesSome", desc := "(LWalkingStones$How;I)Z" } : Jvm.MethodName)) ∈ lw_all := lw_g (lw_at lw_m4 225 rfl) rfl
theorem q1051 : (Jvm.Cond.privateMethod ({ cls := "WalkingStones", name := "pushesSome", desc := "(LWalkingStones$How;I)Z" } : Jvm.MethodName)) ∈ lw_tbl := lw_at lw_m4 226 rfl
theorem q1052 : (Jvm.Cond.instanceMethod ({ cls := "WalkingStones", name := "pushesSome", desc := "(LWalkingStones$How;I)Z" } : Jvm.MethodName)) ∈ lw_all := lw_g (lw_at lw_m4 227 rfl) rfl
theorem q1053 : (Jvm.Cond.code ({ cls := "WalkingStones", name := "pushesSome", desc := "(LWalkingStones$How;I)Z" } : Jvm.MethodName) prog_1_method_63_code (4 : Nat) (Option.some Jvm.ClassFile.FieldType.boolean)) ∈ lw_all := lw_g (lw_at lw_m4 228 rfl) rfl
theorem q1054 : (Jvm.Cond.methodLink "WalkingStones" (441 : Nat) ({ cls := "WalkingStones", name := "isCalled", desc := "(LWalkingStones$How;I)Z" } : Jvm.MethodName)) ∈ lw_all := lw_g (lw_at lw_m4 229 rfl) rfl
theorem q1055 : (Jvm.Cond.privateMethod ({ cls := "WalkingStones", name := "isCalled", desc := "(LWalkingStones$How;I)Z" } : Jvm.MethodName)) ∈ lw_tbl := lw_at lw_m4 230 rfl
theorem q1056 : (Jvm.Cond.instanceMethod ({ cls := "WalkingStones", name := "isCalled", desc := "(LWalkingStones$How;I)Z" } : Jvm.MethodName)) ∈ lw_all := lw_g (lw_at lw_m4 231 rfl) rfl
theorem q1057 : (Jvm.Cond.code ({ cls := "WalkingStones", name := "isCalled", desc := "(LWalkingStones$How;I)Z" } : Jvm.MethodName) prog_1_method_64_code (5 : Nat) (Option.some Jvm.ClassFile.FieldType.boolean)) ∈ lw_all := lw_g (lw_at lw_m4 232 rfl) rfl
theorem q1058 : (Jvm.Cond.constant "WalkingStones" (431 : Nat) (-2147483648 : Int32)) ∈ lw_all := lw_g (lw_at lw_m4 233 rfl) rfl
theorem q1059 : (Jvm.Cond.constant "WalkingStones" (432 : Nat) (2147483647 : Int32)) ∈ lw_all := lw_g (lw_at lw_m4 234 rfl) rfl
theorem q1060 : (Jvm.Cond.methodLink "WalkingStones" (433 : Nat) ({ cls := "WalkingStones", name := "asks", desc := "(IIIIII)I" } : Jvm.MethodName)) ∈ lw_all := lw_g (lw_at lw_m4 235 rfl) rfl
theorem q1061 : (Jvm.Cond.methodLink "WalkingStones" (444 : Nat) ({ cls := "WalkingStones", name := "longest", desc := "(LWalkingStones$How;)I" } : Jvm.MethodName)) ∈ lw_all := lw_g (lw_at lw_m4 236 rfl) rfl
theorem q1062 : (Jvm.Cond.privateMethod ({ cls := "WalkingStones", name := "longest", desc := "(LWalkingStones$How;)I" } : Jvm.MethodName)) ∈ lw_tbl := lw_at lw_m4 237 rfl
theorem q1063 : (Jvm.Cond.instanceMethod ({ cls := "WalkingStones", name := "longest", desc := "(LWalkingStones$How;)I" } : Jvm.MethodName)) ∈ lw_all := lw_g (lw_at lw_m4 238 rfl) rfl
theorem q1064 : (Jvm.Cond.code ({ cls := "WalkingStones", name := "longest", desc := "(LWalkingStones$How;)I" } : Jvm.MethodName) prog_1_method_65_code (5 : Nat) (Option.some Jvm.ClassFile.FieldType.int)) ∈ lw_all := lw_g (lw_at lw_m4 239 rfl) rfl
theorem q1066 : (Jvm.Cond.instanceMethod ({ cls := "WalkingStones", name := "when", desc := "(II)J" } : Jvm.MethodName)) ∈ lw_all := lw_g (lw_at lw_m5 1 rfl) rfl
theorem q1067 : (Jvm.Cond.selects "WalkingStones" ({ cls := "WalkingStones", name := "when", desc := "(II)J" } : Jvm.MethodName) ({ cls := "WalkingStones", name := "when", desc := "(II)J" } : Jvm.MethodName)) ∈ lw_all := lw_g (lw_at lw_m5 2 rfl) rfl
theorem q1068 : (Jvm.Cond.code ({ cls := "WalkingStones", name := "when", desc := "(II)J" } : Jvm.MethodName) prog_1_method_68_code (6 : Nat) (Option.some Jvm.ClassFile.FieldType.long)) ∈ lw_all := lw_g (lw_at lw_m5 3 rfl) rfl
theorem q1069 : (Jvm.Cond.methodLink "WalkingStones" (448 : Nat) ({ cls := "WalkingStones", name := "willGo", desc := "(LWalkingStones$How;II)Z" } : Jvm.MethodName)) ∈ lw_all := lw_g (lw_at lw_m5 4 rfl) rfl
theorem q1070 : (Jvm.Cond.privateMethod ({ cls := "WalkingStones", name := "willGo", desc := "(LWalkingStones$How;II)Z" } : Jvm.MethodName)) ∈ lw_tbl := lw_at lw_m5 5 rfl
theorem q1071 : (Jvm.Cond.instanceMethod ({ cls := "WalkingStones", name := "willGo", desc := "(LWalkingStones$How;II)Z" } : Jvm.MethodName)) ∈ lw_all := lw_g (lw_at lw_m5 6 rfl) rfl
theorem q1072 : (Jvm.Cond.code ({ cls := "WalkingStones", name := "willGo", desc := "(LWalkingStones$How;II)Z" } : Jvm.MethodName) prog_1_method_67_code (4 : Nat) (Option.some Jvm.ClassFile.FieldType.boolean)) ∈ lw_all := lw_g (lw_at lw_m5 7 rfl) rfl
theorem q1074 : (Jvm.Cond.instanceMethod ({ cls := "WalkingStones", name := "foretold", desc := "(II)I" } : Jvm.MethodName)) ∈ lw_all := lw_g (lw_at lw_m5 9 rfl) rfl
theorem q1075 : (Jvm.Cond.selects "WalkingStones" ({ cls := "WalkingStones", name := "foretold", desc := "(II)I" } : Jvm.MethodName) ({ cls := "WalkingStones", name := "foretold", desc := "(II)I" } : Jvm.MethodName)) ∈ lw_all := lw_g (lw_at lw_m5 10 rfl) rfl
theorem q1076 : (Jvm.Cond.code ({ cls := "WalkingStones", name := "foretold", desc := "(II)I" } : Jvm.MethodName) prog_1_method_70_code (3 : Nat) (Option.some Jvm.ClassFile.FieldType.int)) ∈ lw_all := lw_g (lw_at lw_m5 11 rfl) rfl
theorem q1077 : (Jvm.Cond.methodLink "WalkingStones" (452 : Nat) ({ cls := "WalkingStones", name := "goers", desc := "(II)I" } : Jvm.MethodName)) ∈ lw_all := lw_g (lw_at lw_m5 12 rfl) rfl
theorem q1078 : (Jvm.Cond.privateMethod ({ cls := "WalkingStones", name := "goers", desc := "(II)I" } : Jvm.MethodName)) ∈ lw_tbl := lw_at lw_m5 13 rfl
theorem q1079 : (Jvm.Cond.instanceMethod ({ cls := "WalkingStones", name := "goers", desc := "(II)I" } : Jvm.MethodName)) ∈ lw_all := lw_g (lw_at lw_m5 14 rfl) rfl
theorem q1080 : (Jvm.Cond.code ({ cls := "WalkingStones", name := "goers", desc := "(II)I" } : Jvm.MethodName) prog_1_method_69_code (5 : Nat) (Option.some Jvm.ClassFile.FieldType.int)) ∈ lw_all := lw_g (lw_at lw_m5 15 rfl) rfl
theorem q1082 : (Jvm.Cond.instanceMethod ({ cls := "WalkingStones", name := "held", desc := "(III)I" } : Jvm.MethodName)) ∈ lw_all := lw_g (lw_at lw_m5 17 rfl) rfl
theorem q1083 : (Jvm.Cond.selects "WalkingStones" ({ cls := "WalkingStones", name := "held", desc := "(III)I" } : Jvm.MethodName) ({ cls := "WalkingStones", name := "held", desc := "(III)I" } : Jvm.MethodName)) ∈ lw_all := lw_g (lw_at lw_m5 18 rfl) rfl
theorem q1084 : (Jvm.Cond.code ({ cls := "WalkingStones", name := "held", desc := "(III)I" } : Jvm.MethodName) prog_1_method_71_code (7 : Nat) (Option.some Jvm.ClassFile.FieldType.int)) ∈ lw_all := lw_g (lw_at lw_m5 19 rfl) rfl
theorem q1085 : (Jvm.Cond.methodLink "WalkingStones" (455 : Nat) ({ cls := "WalkingStones", name := "isSheet", desc := "(I)Z" } : Jvm.MethodName)) ∈ lw_all := lw_g (lw_at lw_m5 20 rfl) rfl
theorem q1086 : (Jvm.Cond.static ({ cls := "WalkingStones", name := "isSheet", desc := "(I)Z" } : Jvm.MethodName)) ∈ lw_all := lw_g (lw_at lw_m5 21 rfl) rfl
theorem q1087 : (Jvm.Cond.code ({ cls := "WalkingStones", name := "isSheet", desc := "(I)Z" } : Jvm.MethodName) prog_1_method_80_code (1 : Nat) (Option.some Jvm.ClassFile.FieldType.boolean)) ∈ lw_all := lw_g (lw_at lw_m5 22 rfl) rfl
theorem q1088 : (Jvm.Cond.constantLong "WalkingStones" (492 : Nat) (3 : Int64)) ∈ lw_all := lw_g (lw_at lw_m5 23 rfl) rfl
theorem q1089 : (Jvm.Cond.methodLink "WalkingStones" (458 : Nat) ({ cls := "WalkingStones", name := "sizeOf", desc := "(I)I" } : Jvm.MethodName)) ∈ lw_all := lw_g (lw_at lw_m5 24 rfl) rfl
theorem q1090 : (Jvm.Cond.privateMethod ({ cls := "WalkingStones", name := "sizeOf", desc := "(I)I" } : Jvm.MethodName)) ∈ lw_tbl := lw_at lw_m5 25 rfl
theorem q1091 : (Jvm.Cond.instanceMethod ({ cls := "WalkingStones", name := "sizeOf", desc := "(I)I" } : Jvm.MethodName)) ∈ lw_all := lw_g (lw_at lw_m5 26 rfl) rfl
theorem q1092 : (Jvm.Cond.code ({ cls := "WalkingStones", name := "sizeOf", desc := "(I)I" } : Jvm.MethodName) prog_1_method_89_code (3 : Nat) (Option.some Jvm.ClassFile.FieldType.int)) ∈ lw_all := lw_g (lw_at lw_m5 27 rfl) rfl
theorem q1093 : (Jvm.Cond.methodLink "WalkingStones" (523 : Nat) ({ cls := "WalkingStones", name := "sortOf", desc := "(Ljava/lang/Object;)I" } : Jvm.MethodName)) ∈ lw_all := lw_g (lw_at lw_m5 28 rfl) rfl
theorem q1094 : (Jvm.Cond.static ({ cls := "WalkingStones", name := "sortOf", desc := "(Ljava/lang/Object;)I" } : Jvm.MethodName)) ∈ lw_all := lw_g (lw_at lw_m5 29 rfl) rfl
theorem q1095 : (Jvm.Cond.code ({ cls := "WalkingStones", name := "sortOf", desc := "(Ljava/lang/Object;)I" } : Jvm.MethodName) prog_1_method_88_code (1 : Nat) (Option.some Jvm.ClassFile.FieldType.int)) ∈ lw_all := lw_g (lw_at lw_m5 30 rfl) rfl
theorem q1096 : (Jvm.Cond.classLink "WalkingStones" (506 : Nat) "[B") ∈ lw_all := lw_g (lw_at lw_m5 31 rfl) rfl
theorem q1097 : (Jvm.Cond.classLink "WalkingStones" (511 : Nat) "[S") ∈ lw_all := lw_g (lw_at lw_m5 32 rfl) rfl
theorem q1098 : (Jvm.Cond.methodLink "WalkingStones" (527 : Nat) ({ cls := "WalkingStones", name := "lengthOf", desc := "(Ljava/lang/Object;I)I" } : Jvm.MethodName)) ∈ lw_all := lw_g (lw_at lw_m5 33 rfl) rfl
theorem q1099 : (Jvm.Cond.static ({ cls := "WalkingStones", name := "lengthOf", desc := "(Ljava/lang/Object;I)I" } : Jvm.MethodName)) ∈ lw_all := lw_g (lw_at lw_m5 34 rfl) rfl
theorem q1100 : (Jvm.Cond.code ({ cls := "WalkingStones", name := "lengthOf", desc := "(Ljava/lang/Object;I)I" } : Jvm.MethodName) prog_1_method_86_code (2 : Nat) (Option.some Jvm.ClassFile.FieldType.int)) ∈ lw_all := lw_g (lw_at lw_m5 35 rfl) rfl
theorem q1101 : (Jvm.Cond.classLink "WalkingStones" (513 : Nat) "[I") ∈ lw_all := lw_g (lw_at lw_m5 36 rfl) rfl
theorem q1102 : (Jvm.Cond.methodLink "WalkingStones" (461 : Nat) ({ cls := "WalkingStones", name := "numberOf", desc := "(II)I" } : Jvm.MethodName)) ∈ lw_all := lw_g (lw_at lw_m5 37 rfl) rfl
theorem q1103 : (Jvm.Cond.privateMethod ({ cls := "WalkingStones", name := "numberOf", desc := "(II)I" } : Jvm.MethodName)) ∈ lw_tbl := lw_at lw_m5 38 rfl
theorem q1104 : (Jvm.Cond.instanceMethod ({ cls := "WalkingStones", name := "numberOf", desc := "(II)I" } : Jvm.MethodName)) ∈ lw_all := lw_g (lw_at lw_m5 39 rfl) rfl
theorem q1105 : (Jvm.Cond.code ({ cls := "WalkingStones", name := "numberOf", desc := "(II)I" } : Jvm.MethodName) prog_1_method_90_code (4 : Nat) (Option.some Jvm.ClassFile.FieldType.int)) ∈ lw_all := lw_g (lw_at lw_m5 40 rfl) rfl
theorem q1106 : (Jvm.Cond.methodLink "WalkingStones" (531 : Nat) ({ cls := "WalkingStones", name := "item", desc := "(Ljava/lang/Object;II)I" } : Jvm.MethodName)) ∈ lw_all := lw_g (lw_at lw_m5 41 rfl) rfl
theorem q1107 : (Jvm.Cond.static ({ cls := "WalkingStones", name := "item", desc := "(Ljava/lang/Object;II)I" } : Jvm.MethodName)) ∈ lw_all := lw_g (lw_at lw_m5 42 rfl) rfl
theorem q1108 : (Jvm.Cond.code ({ cls := "WalkingStones", name := "item", desc := "(Ljava/lang/Object;II)I" } : Jvm.MethodName) prog_1_method_85_code (3 : Nat) (Option.some Jvm.ClassFile.FieldType.int)) ∈ lw_all := lw_g (lw_at lw_m5 43 rfl) rfl
theorem q1109 : (Jvm.Cond.methodLink "WalkingStones" (507 : Nat) ({ cls := "WalkingStones", name := "asksPlace", desc := "(II)V" } : Jvm.MethodName)) ∈ lw_all := lw_g (lw_at lw_m5 44 rfl) rfl
theorem q1110 : (Jvm.Cond.static ({ cls := "WalkingStones", name := "asksPlace", desc := "(II)V" } : Jvm.MethodName)) ∈ lw_all := lw_g (lw_at lw_m5 45 rfl) rfl
theorem q1111 : (Jvm.Cond.code ({ cls := "WalkingStones", name := "asksPlace", desc := "(II)V" } : Jvm.MethodName) prog_1_method_87_code (2 : Nat) (Option.none : Option Jvm.ClassFile.FieldType)) ∈ lw_all := lw_g (lw_at lw_m5 46 rfl) rfl
theorem q1112 : (Jvm.Cond.classLink "WalkingStones" (520 : Nat) "java/lang/IndexOutOfBoundsException") ∈ lw_all := lw_g (lw_at lw_m5 47 rfl) rfl
theorem q1121 : (Jvm.Cond.methodLink "WalkingStones" (522 : Nat) ({ cls := "java/lang/IndexOutOfBoundsException", name := "<init>", desc := "()V" } : Jvm.MethodName)) ∈ lw_all := lw_g (lw_at lw_m5 56 rfl) rfl
theorem q1134 : (Jvm.Cond.instanceMethod ({ cls := "WalkingStones", name := "cross", desc := "(II)I" } : Jvm.MethodName)) ∈ lw_all := lw_g (lw_at lw_m5 69 rfl) rfl
theorem q1135 : (Jvm.Cond.selects "WalkingStones" ({ cls := "WalkingStones", name := "cross", desc := "(II)I" } : Jvm.MethodName) ({ cls := "WalkingStones", name := "cross", desc := "(II)I" } : Jvm.MethodName)) ∈ lw_all := lw_g (lw_at lw_m5 70 rfl) rfl
theorem q1136 : (Jvm.Cond.code ({ cls := "WalkingStones", name := "cross", desc := "(II)I" } : Jvm.MethodName) prog_1_method_72_code (3 : Nat) (Option.some Jvm.ClassFile.FieldType.int)) ∈ lw_all := lw_g (lw_at lw_m5 71 rfl) rfl
theorem q1138 : (Jvm.Cond.instanceMethod ({ cls := "WalkingStones", name := "order", desc := "(I)I" } : Jvm.MethodName)) ∈ lw_all := lw_g (lw_at lw_m5 73 rfl) rfl
theorem q1139 : (Jvm.Cond.selects "WalkingStones" ({ cls := "WalkingStones", name := "order", desc := "(I)I" } : Jvm.MethodName) ({ cls := "WalkingStones", name := "order", desc := "(I)I" } : Jvm.MethodName)) ∈ lw_all := lw_g (lw_at lw_m5 74 rfl) rfl
theorem q1140 : (Jvm.Cond.code ({ cls := "WalkingStones", name := "order", desc := "(I)I" } : Jvm.MethodName) prog_1_method_75_code (5 : Nat) (Option.some Jvm.ClassFile.FieldType.int)) ∈ lw_all := lw_g (lw_at lw_m5 75 rfl) rfl
theorem q1141 : (Jvm.Cond.methodLink "WalkingStones" (470 : Nat) ({ cls := "WalkingStones", name := "nextTrack", desc := "(I)I" } : Jvm.MethodName)) ∈ lw_all := lw_g (lw_at lw_m5 76 rfl) rfl
theorem q1142 : (Jvm.Cond.privateMethod ({ cls := "WalkingStones", name := "nextTrack", desc := "(I)I" } : Jvm.MethodName)) ∈ lw_tbl := lw_at lw_m5 77 rfl
theorem q1143 : (Jvm.Cond.instanceMethod ({ cls := "WalkingStones", name := "nextTrack", desc := "(I)I" } : Jvm.MethodName)) ∈ lw_all := lw_g (lw_at lw_m5 78 rfl) rfl
theorem q1144 : (Jvm.Cond.code ({ cls := "WalkingStones", name := "nextTrack", desc := "(I)I" } : Jvm.MethodName) prog_1_method_74_code (3 : Nat) (Option.some Jvm.ClassFile.FieldType.int)) ∈ lw_all := lw_g (lw_at lw_m5 79 rfl) rfl
theorem q1145 : (Jvm.Cond.methodLink "WalkingStones" (467 : Nat) ({ cls := "WalkingStones", name := "isEldest", desc := "(II)Z" } : Jvm.MethodName)) ∈ lw_all := lw_g (lw_at lw_m5 80 rfl) rfl
theorem q1146 : (Jvm.Cond.privateMethod ({ cls := "WalkingStones", name := "isEldest", desc := "(II)Z" } : Jvm.MethodName)) ∈ lw_tbl := lw_at lw_m5 81 rfl
theorem q1147 : (Jvm.Cond.instanceMethod ({ cls := "WalkingStones", name := "isEldest", desc := "(II)Z" } : Jvm.MethodName)) ∈ lw_all := lw_g (lw_at lw_m5 82 rfl) rfl
theorem q1148 : (Jvm.Cond.code ({ cls := "WalkingStones", name := "isEldest", desc := "(II)Z" } : Jvm.MethodName) prog_1_method_73_code (4 : Nat) (Option.some Jvm.ClassFile.FieldType.boolean)) ∈ lw_all := lw_g (lw_at lw_m5 83 rfl) rfl
theorem q1150 : (Jvm.Cond.instanceMethod ({ cls := "WalkingStones", name := "look", desc := "(II)I" } : Jvm.MethodName)) ∈ lw_all := lw_g (lw_at lw_m5 85 rfl) rfl
theorem q1151 : (Jvm.Cond.selects "WalkingStones" ({ cls := "WalkingStones", name := "look", desc := "(II)I" } : Jvm.MethodName) ({ cls := "WalkingStones", name := "look", desc := "(II)I" } : Jvm.MethodName)) ∈ lw_all := lw_g (lw_at lw_m5 86 rfl) rfl
theorem q1152 : (Jvm.Cond.code ({ cls := "WalkingStones", name := "look", desc := "(II)I" } : Jvm.MethodName) prog_1_method_76_code (11 : Nat) (Option.some Jvm.ClassFile.FieldType.int)) ∈ lw_all := lw_g (lw_at lw_m5 87 rfl) rfl
theorem q1154 : (Jvm.Cond.instanceMethod ({ cls := "WalkingStones", name := "image", desc := "()I" } : Jvm.MethodName)) ∈ lw_all := lw_g (lw_at lw_m5 89 rfl) rfl
theorem q1155 : (Jvm.Cond.selects "WalkingStones" ({ cls := "WalkingStones", name := "image", desc := "()I" } : Jvm.MethodName) ({ cls := "WalkingStones", name := "image", desc := "()I" } : Jvm.MethodName)) ∈ lw_all := lw_g (lw_at lw_m5 90 rfl) rfl
theorem q1156 : (Jvm.Cond.code ({ cls := "WalkingStones", name := "image", desc := "()I" } : Jvm.MethodName) prog_1_method_77_code (1 : Nat) (Option.some Jvm.ClassFile.FieldType.int)) ∈ lw_all := lw_g (lw_at lw_m5 91 rfl) rfl
theorem q1158 : (Jvm.Cond.instanceMethod ({ cls := "WalkingStones", name := "back", desc := "()I" } : Jvm.MethodName)) ∈ lw_all := lw_g (lw_at lw_m5 93 rfl) rfl
theorem q1159 : (Jvm.Cond.selects "WalkingStones" ({ cls := "WalkingStones", name := "back", desc := "()I" } : Jvm.MethodName) ({ cls := "WalkingStones", name := "back", desc := "()I" } : Jvm.MethodName)) ∈ lw_all := lw_g (lw_at lw_m5 94 rfl) rfl
theorem q1160 : (Jvm.Cond.code ({ cls := "WalkingStones", name := "back", desc := "()I" } : Jvm.MethodName) prog_1_method_78_code (1 : Nat) (Option.some Jvm.ClassFile.FieldType.int)) ∈ lw_all := lw_g (lw_at lw_m5 95 rfl) rfl
theorem q1162 : (Jvm.Cond.instanceMethod ({ cls := "WalkingStones", name := "count", desc := "(I)I" } : Jvm.MethodName)) ∈ lw_all := lw_g (lw_at lw_m5 97 rfl) rfl
theorem q1163 : (Jvm.Cond.selects "WalkingStones" ({ cls := "WalkingStones", name := "count", desc := "(I)I" } : Jvm.MethodName) ({ cls := "WalkingStones", name := "count", desc := "(I)I" } : Jvm.MethodName)) ∈ lw_all := lw_g (lw_at lw_m5 98 rfl) rfl
theorem q1164 : (Jvm.Cond.code ({ cls := "WalkingStones", name := "count", desc := "(I)I" } : Jvm.MethodName) prog_1_method_79_code (2 : Nat) (Option.some Jvm.ClassFile.FieldType.int)) ∈ lw_all := lw_g (lw_at lw_m5 99 rfl) rfl
theorem q1166 : (Jvm.Cond.instanceMethod ({ cls := "WalkingStones", name := "sheet", desc := "(III)I" } : Jvm.MethodName)) ∈ lw_all := lw_g (lw_at lw_m5 101 rfl) rfl
theorem q1167 : (Jvm.Cond.selects "WalkingStones" ({ cls := "WalkingStones", name := "sheet", desc := "(III)I" } : Jvm.MethodName) ({ cls := "WalkingStones", name := "sheet", desc := "(III)I" } : Jvm.MethodName)) ∈ lw_all := lw_g (lw_at lw_m5 102 rfl) rfl
theorem q1168 : (Jvm.Cond.codeWith ({ cls := "WalkingStones", name := "sheet", desc := "(III)I" } : Jvm.MethodName) prog_1_method_82_code (5 : Nat) (Option.some Jvm.ClassFile.FieldType.int) [((52 : Nat), (67 : Nat), (68 : Nat), (504 : Nat))]) ∈ lw_all := lw_g (lw_at lw_m5 103 rfl) rfl
theorem q1169 : (Jvm.Cond.classLink "WalkingStones" (504 : Nat) "java/lang/NegativeArraySizeException") ∈ lw_all := lw_g (lw_at lw_m5 104 rfl) rfl
theorem q1196 : (Jvm.Cond.constantLong "WalkingStones" (494 : Nat) (-1 : Int64)) ∈ lw_all := lw_g (lw_at lw_m5 131 rfl) rfl
theorem q1197 : (Jvm.Cond.methodLink "WalkingStones" (500 : Nat) ({ cls := "WalkingStones", name := "rowOf", desc := "(II)Ljava/lang/Object;" } : Jvm.MethodName)) ∈ lw_all := lw_g (lw_at lw_m5 132 rfl) rfl
theorem q1198 : (Jvm.Cond.static ({ cls := "WalkingStones", name := "rowOf", desc := "(II)Ljava/lang/Object;" } : Jvm.MethodName)) ∈ lw_all := lw_g (lw_at lw_m5 133 rfl) rfl
theorem q1199 : (Jvm.Cond.code ({ cls := "WalkingStones", name := "rowOf", desc := "(II)Ljava/lang/Object;" } : Jvm.MethodName) prog_1_method_81_code (2 : Nat) (Option.some (Jvm.ClassFile.FieldType.object "java/lang/Object"))) ∈ lw_all := lw_g (lw_at lw_m5 134 rfl) rfl
theorem q1202 : (Jvm.Cond.instanceMethod ({ cls := "WalkingStones", name := "cell", desc := "(III)I" } : Jvm.MethodName)) ∈ lw_all := lw_g (lw_at lw_m5 137 rfl) rfl
theorem q1203 : (Jvm.Cond.selects "WalkingStones" ({ cls := "WalkingStones", name := "cell", desc := "(III)I" } : Jvm.MethodName) ({ cls := "WalkingStones", name := "cell", desc := "(III)I" } : Jvm.MethodName)) ∈ lw_all := lw_g (lw_at lw_m5 138 rfl) rfl
theorem q1204 : (Jvm.Cond.codeWith ({ cls := "WalkingStones", name := "cell", desc := "(III)I" } : Jvm.MethodName) prog_1_method_84_code (5 : Nat) (Option.some Jvm.ClassFile.FieldType.int) [((10 : Nat), (24 : Nat), (25 : Nat), (518 : Nat)), ((10 : Nat), (24 : Nat), (30 : Nat), (520 : Nat))]) ∈ lw_all := lw_g (lw_at lw_m5 139 rfl) rfl
theorem q1205 : (Jvm.Cond.classLink "WalkingStones" (518 : Nat) "java/lang/NullPointerException") ∈ lw_all := lw_g (lw_at lw_m5 140 rfl) rfl
theorem q1242 : (Jvm.Cond.methodLink "WalkingStones" (514 : Nat) ({ cls := "WalkingStones", name := "put", desc := "(Ljava/lang/Object;II)I" } : Jvm.MethodName)) ∈ lw_all := lw_g (lw_at lw_m5 177 rfl) rfl
theorem q1243 : (Jvm.Cond.static ({ cls := "WalkingStones", name := "put", desc := "(Ljava/lang/Object;II)I" } : Jvm.MethodName)) ∈ lw_all := lw_g (lw_at lw_m5 178 rfl) rfl
theorem q1244 : (Jvm.Cond.code ({ cls := "WalkingStones", name := "put", desc := "(Ljava/lang/Object;II)I" } : Jvm.MethodName) prog_1_method_83_code (3 : Nat) (Option.some Jvm.ClassFile.FieldType.int)) ∈ lw_all := lw_g (lw_at lw_m5 179 rfl) rfl
theorem q1246 : (Jvm.Cond.instanceMethod ({ cls := "WalkingStones", name := "copy", desc := "(IIIII)I" } : Jvm.MethodName)) ∈ lw_all := lw_g (lw_at lw_m5 181 rfl) rfl
theorem q1247 : (Jvm.Cond.selects "WalkingStones" ({ cls := "WalkingStones", name := "copy", desc := "(IIIII)I" } : Jvm.MethodName) ({ cls := "WalkingStones", name := "copy", desc := "(IIIII)I" } : Jvm.MethodName)) ∈ lw_all := lw_g (lw_at lw_m5 182 rfl) rfl
theorem q1248 : (Jvm.Cond.code ({ cls := "WalkingStones", name := "copy", desc := "(IIIII)I" } : Jvm.MethodName) prog_1_method_91_code (10 : Nat) (Option.some Jvm.ClassFile.FieldType.int)) ∈ lw_all := lw_g (lw_at lw_m5 183 rfl) rfl
theorem q1250 : (Jvm.Cond.instanceMethod ({ cls := "WalkingStones", name := "nights", desc := "(IIII)I" } : Jvm.MethodName)) ∈ lw_all := lw_g (lw_at lw_m5 185 rfl) rfl
theorem q1251 : (Jvm.Cond.selects "WalkingStones" ({ cls := "WalkingStones", name := "nights", desc := "(IIII)I" } : Jvm.MethodName) ({ cls := "WalkingStones", name := "nights", desc := "(IIII)I" } : Jvm.MethodName)) ∈ lw_all := lw_g (lw_at lw_m5 186 rfl) rfl
theorem q1252 : (Jvm.Cond.codeWith ({ cls := "WalkingStones", name := "nights", desc := "(IIII)I" } : Jvm.MethodName) prog_1_method_93_code (6 : Nat) (Option.some Jvm.ClassFile.FieldType.int) [((35 : Nat), (52 : Nat), (53 : Nat), (540 : Nat)), ((35 : Nat), (52 : Nat), (58 : Nat), (518 : Nat)), ((35 : Nat), (52 : Nat), (63 : Nat), (520 : Nat))]) ∈ lw_all := lw_g (lw_at lw_m5 187 rfl) rfl
theorem q1253 : (Jvm.Cond.classLink "WalkingStones" (540 : Nat) "java/lang/ClassCastException") ∈ lw_all := lw_g (lw_at lw_m5 188 rfl) rfl
theorem q1267 : (Jvm.Cond.methodLink "WalkingStones" (536 : Nat) ({ cls := "WalkingStones", name := "came", desc := "(Ljava/lang/Object;III)I" } : Jvm.MethodName)) ∈ lw_all := lw_g (lw_at lw_m5 202 rfl) rfl
theorem q1268 : (Jvm.Cond.privateMethod ({ cls := "WalkingStones", name := "came", desc := "(Ljava/lang/Object;III)I" } : Jvm.MethodName)) ∈ lw_tbl := lw_at lw_m5 203 rfl
theorem q1269 : (Jvm.Cond.instanceMethod ({ cls := "WalkingStones", name := "came", desc := "(Ljava/lang/Object;III)I" } : Jvm.MethodName)) ∈ lw_all := lw_g (lw_at lw_m5 204 rfl) rfl
theorem q1270 : (Jvm.Cond.code ({ cls := "WalkingStones", name := "came", desc := "(Ljava/lang/Object;III)I" } : Jvm.MethodName) prog_1_method_92_code (8 : Nat) (Option.some Jvm.ClassFile.FieldType.int)) ∈ lw_all := lw_g (lw_at lw_m5 205 rfl) rfl
theorem q1271 : (Jvm.Cond.methodLink "WalkingStones" (534 : Nat) ({ cls := "WalkingStones", name := "night", desc := "(I)I" } : Jvm.MethodName)) ∈ lw_all := lw_g (lw_at lw_m5 206 rfl) rfl
theorem q1273 : (Jvm.Cond.instanceMethod ({ cls := "WalkingStones", name := "taken", desc := "(II)I" } : Jvm.MethodName)) ∈ lw_all := lw_g (lw_at lw_m5 208 rfl) rfl
theorem q1274 : (Jvm.Cond.selects "WalkingStones" ({ cls := "WalkingStones", name := "taken", desc := "(II)I" } : Jvm.MethodName) ({ cls := "WalkingStones", name := "taken", desc := "(II)I" } : Jvm.MethodName)) ∈ lw_all := lw_g (lw_at lw_m5 209 rfl) rfl
theorem q1275 : (Jvm.Cond.codeWith ({ cls := "WalkingStones", name := "taken", desc := "(II)I" } : Jvm.MethodName) prog_1_method_95_code (4 : Nat) (Option.some Jvm.ClassFile.FieldType.int) [((15 : Nat), (40 : Nat), (41 : Nat), (518 : Nat)), ((15 : Nat), (40 : Nat), (45 : Nat), (540 : Nat))]) ∈ lw_all := lw_g (lw_at lw_m5 210 rfl) rfl
theorem q1276 : (Jvm.Cond.methodLink "WalkingStones" (542 : Nat) ({ cls := "WalkingStones", name := "as", desc := "(LWalkingStones$How;I)LWalkingStones$How;" } : Jvm.MethodName)) ∈ lw_all := lw_g (lw_at lw_m5 211 rfl) rfl
theorem q1277 : (Jvm.Cond.static ({ cls := "WalkingStones", name := "as", desc := "(LWalkingStones$How;I)LWalkingStones$How;" } : Jvm.MethodName)) ∈ lw_all := lw_g (lw_at lw_m5 212 rfl) rfl
theorem q1278 : (Jvm.Cond.code ({ cls := "WalkingStones", name := "as", desc := "(LWalkingStones$How;I)LWalkingStones$How;" } : Jvm.MethodName) prog_1_method_94_code (2 : Nat) (Option.some (Jvm.ClassFile.FieldType.object "WalkingStones$How"))) ∈ lw_all := lw_g (lw_at lw_m5 213 rfl) rfl
theorem in_X0 : ∀ w ∈ wsX00, w ∈ lw_all := lw_in wsX00 [819, 821, 823, 825, 827, 829, 831, 833, 835, 837, 839, 841, 843, 845, 847, 849, 851, 853, 855, 857, 859, 861, 863, 865, 867, 869, 871, 873, 875, 877, 879, 881, 883, 885, 887, 889, 891, 893, 895, 897, 899, 901, 903, 905, 907, 909, 911, 913, 915] (by decide +kernel) (by decide +kernel)
