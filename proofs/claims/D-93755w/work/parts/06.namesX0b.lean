set_option maxRecDepth 100000
abbrev cX0_firstText : ByteArray := prog_1_method_32_code
def yX0_firstText : MethodName := ⟨RX0, "firstText", "(Ljava/lang/String;)V"⟩
def dkwX0_firstText_1 : List UInt8 := [132, 2, 1, 167, 255, 233, 42, 43, 182, 0, 156, 181, 0, 230, 42, 182, 0, 244, 61, 177]
abbrev dktX0_firstText_1 : List UInt8 := dkwX0_firstText_1 ++ []
def dkwX0_firstText_0 : List UInt8 := [3, 61, 28, 43, 182, 0, 156, 162, 0, 21, 42, 180, 0, 105, 28, 43, 28, 182, 0, 159, 145, 84]
abbrev dktX0_firstText_0 : List UInt8 := dkwX0_firstText_0 ++ dktX0_firstText_1
theorem dksX0_firstText_0 : cX0_firstText.data.toList.drop 0 = dktX0_firstText_0 := by decide +kernel
theorem dksX0_firstText_1 : cX0_firstText.data.toList.drop 22 = dktX0_firstText_1 := dk_seg dksX0_firstText_0 22 rfl rfl
theorem dX0_firstText_0 : decode cX0_firstText 0 = .ok (.iconst 0, 1) := dk_3 (dk_at dksX0_firstText_0 0 rfl rfl)
theorem dX0_firstText_1 : decode cX0_firstText 1 = .ok (.istore_n 2, 1) := dk_61 (dk_at dksX0_firstText_0 1 rfl rfl)
theorem dX0_firstText_2 : decode cX0_firstText 2 = .ok (.iload_n 2, 1) := dk_28 (dk_at dksX0_firstText_0 2 rfl rfl)
theorem dX0_firstText_3 : decode cX0_firstText 3 = .ok (.aload_n 1, 1) := dk_43 (dk_at dksX0_firstText_0 3 rfl rfl)
theorem dX0_firstText_4 : decode cX0_firstText 4 = .ok (.invokevirtual 156, 3) := dk_182 0 156 (dk_at dksX0_firstText_0 4 rfl rfl)
theorem dX0_firstText_7 : decode cX0_firstText 7 = .ok (.if_icmp .ge 21, 3) := dk_162 0 21 (dk_at dksX0_firstText_0 7 rfl rfl)
theorem dX0_firstText_10 : decode cX0_firstText 10 = .ok (.aload_n 0, 1) := dk_42 (dk_at dksX0_firstText_0 10 rfl rfl)
theorem dX0_firstText_11 : decode cX0_firstText 11 = .ok (.getfield 105, 3) := dk_180 0 105 (dk_at dksX0_firstText_0 11 rfl rfl)
theorem dX0_firstText_14 : decode cX0_firstText 14 = .ok (.iload_n 2, 1) := dk_28 (dk_at dksX0_firstText_0 14 rfl rfl)
theorem dX0_firstText_15 : decode cX0_firstText 15 = .ok (.aload_n 1, 1) := dk_43 (dk_at dksX0_firstText_0 15 rfl rfl)
theorem dX0_firstText_16 : decode cX0_firstText 16 = .ok (.iload_n 2, 1) := dk_28 (dk_at dksX0_firstText_0 16 rfl rfl)
theorem dX0_firstText_17 : decode cX0_firstText 17 = .ok (.invokevirtual 159, 3) := dk_182 0 159 (dk_at dksX0_firstText_0 17 rfl rfl)
theorem dX0_firstText_20 : decode cX0_firstText 20 = .ok (.i2b, 1) := dk_145 (dk_at dksX0_firstText_0 20 rfl rfl)
theorem dX0_firstText_21 : decode cX0_firstText 21 = .ok (.bastore, 1) := dk_84 (dk_at dksX0_firstText_0 21 rfl rfl)
theorem dX0_firstText_22 : decode cX0_firstText 22 = .ok (.iinc 2 1, 3) := dk_132 2 1 (dk_at dksX0_firstText_1 0 rfl rfl)
theorem dX0_firstText_25 : decode cX0_firstText 25 = .ok (.goto (-23), 3) := dk_167 255 233 (dk_at dksX0_firstText_1 3 rfl rfl)
theorem dX0_firstText_28 : decode cX0_firstText 28 = .ok (.aload_n 0, 1) := dk_42 (dk_at dksX0_firstText_1 6 rfl rfl)
theorem dX0_firstText_29 : decode cX0_firstText 29 = .ok (.aload_n 1, 1) := dk_43 (dk_at dksX0_firstText_1 7 rfl rfl)
theorem dX0_firstText_30 : decode cX0_firstText 30 = .ok (.invokevirtual 156, 3) := dk_182 0 156 (dk_at dksX0_firstText_1 8 rfl rfl)
theorem dX0_firstText_33 : decode cX0_firstText 33 = .ok (.putfield 230, 3) := dk_181 0 230 (dk_at dksX0_firstText_1 11 rfl rfl)
theorem dX0_firstText_36 : decode cX0_firstText 36 = .ok (.aload_n 0, 1) := dk_42 (dk_at dksX0_firstText_1 14 rfl rfl)
theorem dX0_firstText_37 : decode cX0_firstText 37 = .ok (.invokevirtual 244, 3) := dk_182 0 244 (dk_at dksX0_firstText_1 15 rfl rfl)
theorem dX0_firstText_40 : decode cX0_firstText 40 = .ok (.istore_n 2, 1) := dk_61 (dk_at dksX0_firstText_1 18 rfl rfl)
theorem dX0_firstText_41 : decode cX0_firstText 41 = .ok (.return_, 1) := dk_177 (dk_at dksX0_firstText_1 19 rfl rfl)
abbrev cX0_force : ByteArray := prog_1_method_37_code
def yX0_force : MethodName := ⟨RX0, "force", "(I)I"⟩
def dkwX0_force_0 : List UInt8 := [42, 27, 182, 1, 69, 154, 0, 6, 16, 254, 172, 42, 180, 1, 72, 61, 42, 27, 181, 1, 72, 28, 172]
abbrev dktX0_force_0 : List UInt8 := dkwX0_force_0 ++ []
theorem dksX0_force_0 : cX0_force.data.toList.drop 0 = dktX0_force_0 := by decide +kernel
theorem dX0_force_0 : decode cX0_force 0 = .ok (.aload_n 0, 1) := dk_42 (dk_at dksX0_force_0 0 rfl rfl)
theorem dX0_force_1 : decode cX0_force 1 = .ok (.iload_n 1, 1) := dk_27 (dk_at dksX0_force_0 1 rfl rfl)
theorem dX0_force_2 : decode cX0_force 2 = .ok (.invokevirtual 325, 3) := dk_182 1 69 (dk_at dksX0_force_0 2 rfl rfl)
theorem dX0_force_5 : decode cX0_force 5 = .ok (.ifCond .ne 6, 3) := dk_154 0 6 (dk_at dksX0_force_0 5 rfl rfl)
theorem dX0_force_8 : decode cX0_force 8 = .ok (.bipush (-2), 2) := dk_16 254 (dk_at dksX0_force_0 8 rfl rfl)
theorem dX0_force_10 : decode cX0_force 10 = .ok (.ireturn, 1) := dk_172 (dk_at dksX0_force_0 10 rfl rfl)
theorem dX0_force_11 : decode cX0_force 11 = .ok (.aload_n 0, 1) := dk_42 (dk_at dksX0_force_0 11 rfl rfl)
theorem dX0_force_12 : decode cX0_force 12 = .ok (.getfield 328, 3) := dk_180 1 72 (dk_at dksX0_force_0 12 rfl rfl)
theorem dX0_force_15 : decode cX0_force 15 = .ok (.istore_n 2, 1) := dk_61 (dk_at dksX0_force_0 15 rfl rfl)
theorem dX0_force_16 : decode cX0_force 16 = .ok (.aload_n 0, 1) := dk_42 (dk_at dksX0_force_0 16 rfl rfl)
theorem dX0_force_17 : decode cX0_force 17 = .ok (.iload_n 1, 1) := dk_27 (dk_at dksX0_force_0 17 rfl rfl)
theorem dX0_force_18 : decode cX0_force 18 = .ok (.putfield 328, 3) := dk_181 1 72 (dk_at dksX0_force_0 18 rfl rfl)
theorem dX0_force_21 : decode cX0_force 21 = .ok (.iload_n 2, 1) := dk_28 (dk_at dksX0_force_0 21 rfl rfl)
theorem dX0_force_22 : decode cX0_force 22 = .ok (.ireturn, 1) := dk_172 (dk_at dksX0_force_0 22 rfl rfl)
abbrev cX0_isText : ByteArray := prog_1_method_35_code
def yX0_isText : MethodName := ⟨RX0, "isText", "(I)Z"⟩
def dkwX0_isText_0 : List UInt8 := [27, 133, 9, 42, 180, 0, 241, 4, 100, 133, 184, 0, 5, 172]
abbrev dktX0_isText_0 : List UInt8 := dkwX0_isText_0 ++ []
theorem dksX0_isText_0 : cX0_isText.data.toList.drop 0 = dktX0_isText_0 := by decide +kernel
theorem dX0_isText_0 : decode cX0_isText 0 = .ok (.iload_n 1, 1) := dk_27 (dk_at dksX0_isText_0 0 rfl rfl)
theorem dX0_isText_1 : decode cX0_isText 1 = .ok (.i2l, 1) := dk_133 (dk_at dksX0_isText_0 1 rfl rfl)
theorem dX0_isText_2 : decode cX0_isText 2 = .ok (.lconst 0, 1) := dk_9 (dk_at dksX0_isText_0 2 rfl rfl)
theorem dX0_isText_3 : decode cX0_isText 3 = .ok (.aload_n 0, 1) := dk_42 (dk_at dksX0_isText_0 3 rfl rfl)
theorem dX0_isText_4 : decode cX0_isText 4 = .ok (.getfield 241, 3) := dk_180 0 241 (dk_at dksX0_isText_0 4 rfl rfl)
theorem dX0_isText_7 : decode cX0_isText 7 = .ok (.iconst 1, 1) := dk_4 (dk_at dksX0_isText_0 7 rfl rfl)
theorem dX0_isText_8 : decode cX0_isText 8 = .ok (.isub, 1) := dk_100 (dk_at dksX0_isText_0 8 rfl rfl)
theorem dX0_isText_9 : decode cX0_isText 9 = .ok (.i2l, 1) := dk_133 (dk_at dksX0_isText_0 9 rfl rfl)
theorem dX0_isText_10 : decode cX0_isText 10 = .ok (.invokestatic 5, 3) := dk_184 0 5 (dk_at dksX0_isText_0 10 rfl rfl)
theorem dX0_isText_13 : decode cX0_isText 13 = .ok (.ireturn, 1) := dk_172 (dk_at dksX0_isText_0 13 rfl rfl)
abbrev cX0_run : ByteArray := prog_1_method_45_code
def yX0_run : MethodName := ⟨RX0, "run", "(IIII)I"⟩
def dkwX0_run_4 : List UInt8 := [180, 1, 26, 29, 46, 54, 5, 42, 182, 1, 127, 21, 5, 172, 58, 6, 42, 182, 1, 127, 25, 6, 191]
abbrev dktX0_run_4 : List UInt8 := dkwX0_run_4 ++ []
def dkwX0_run_3 : List UInt8 := [180, 1, 23, 29, 46, 167, 0, 24, 21, 4, 4, 160, 0, 12, 42, 180, 0, 16, 29, 46, 167, 0, 9, 42]
abbrev dktX0_run_3 : List UInt8 := dkwX0_run_3 ++ dktX0_run_4
def dkwX0_run_2 : List UInt8 := [180, 0, 75, 27, 50, 28, 16, 100, 108, 28, 16, 100, 112, 182, 1, 124, 21, 4, 154, 0, 12, 42]
abbrev dktX0_run_2 : List UInt8 := dkwX0_run_2 ++ dktX0_run_3
def dkwX0_run_1 : List UInt8 := [21, 4, 133, 9, 20, 0, 89, 184, 0, 5, 154, 0, 6, 16, 254, 172, 42, 182, 1, 121, 42, 42]
abbrev dktX0_run_1 : List UInt8 := dkwX0_run_1 ++ dktX0_run_2
def dkwX0_run_0 : List UInt8 := [42, 27, 182, 0, 83, 153, 0, 32, 42, 28, 182, 1, 118, 153, 0, 24, 42, 29, 182, 0, 44, 153, 0, 16]
abbrev dktX0_run_0 : List UInt8 := dkwX0_run_0 ++ dktX0_run_1
theorem dksX0_run_0 : cX0_run.data.toList.drop 0 = dktX0_run_0 := by decide +kernel
theorem dksX0_run_1 : cX0_run.data.toList.drop 24 = dktX0_run_1 := dk_seg dksX0_run_0 24 rfl rfl
theorem dksX0_run_2 : cX0_run.data.toList.drop 46 = dktX0_run_2 := dk_seg dksX0_run_1 22 rfl rfl
theorem dksX0_run_3 : cX0_run.data.toList.drop 68 = dktX0_run_3 := dk_seg dksX0_run_2 22 rfl rfl
theorem dksX0_run_4 : cX0_run.data.toList.drop 92 = dktX0_run_4 := dk_seg dksX0_run_3 24 rfl rfl
theorem dX0_run_0 : decode cX0_run 0 = .ok (.aload_n 0, 1) := dk_42 (dk_at dksX0_run_0 0 rfl rfl)
theorem dX0_run_1 : decode cX0_run 1 = .ok (.iload_n 1, 1) := dk_27 (dk_at dksX0_run_0 1 rfl rfl)
theorem dX0_run_2 : decode cX0_run 2 = .ok (.invokevirtual 83, 3) := dk_182 0 83 (dk_at dksX0_run_0 2 rfl rfl)
theorem dX0_run_5 : decode cX0_run 5 = .ok (.ifCond .eq 32, 3) := dk_153 0 32 (dk_at dksX0_run_0 5 rfl rfl)
theorem dX0_run_8 : decode cX0_run 8 = .ok (.aload_n 0, 1) := dk_42 (dk_at dksX0_run_0 8 rfl rfl)
theorem dX0_run_9 : decode cX0_run 9 = .ok (.iload_n 2, 1) := dk_28 (dk_at dksX0_run_0 9 rfl rfl)
theorem dX0_run_10 : decode cX0_run 10 = .ok (.invokevirtual 374, 3) := dk_182 1 118 (dk_at dksX0_run_0 10 rfl rfl)
theorem dX0_run_13 : decode cX0_run 13 = .ok (.ifCond .eq 24, 3) := dk_153 0 24 (dk_at dksX0_run_0 13 rfl rfl)
theorem dX0_run_16 : decode cX0_run 16 = .ok (.aload_n 0, 1) := dk_42 (dk_at dksX0_run_0 16 rfl rfl)
theorem dX0_run_17 : decode cX0_run 17 = .ok (.iload_n 3, 1) := dk_29 (dk_at dksX0_run_0 17 rfl rfl)
theorem dX0_run_18 : decode cX0_run 18 = .ok (.invokevirtual 44, 3) := dk_182 0 44 (dk_at dksX0_run_0 18 rfl rfl)
theorem dX0_run_21 : decode cX0_run 21 = .ok (.ifCond .eq 16, 3) := dk_153 0 16 (dk_at dksX0_run_0 21 rfl rfl)
theorem dX0_run_24 : decode cX0_run 24 = .ok (.iload 4, 2) := dk_21 4 (dk_at dksX0_run_1 0 rfl rfl)
theorem dX0_run_26 : decode cX0_run 26 = .ok (.i2l, 1) := dk_133 (dk_at dksX0_run_1 2 rfl rfl)
theorem dX0_run_27 : decode cX0_run 27 = .ok (.lconst 0, 1) := dk_9 (dk_at dksX0_run_1 3 rfl rfl)
theorem dX0_run_28 : decode cX0_run 28 = .ok (.ldc2_w 89, 3) := dk_20 0 89 (dk_at dksX0_run_1 4 rfl rfl)
theorem dX0_run_31 : decode cX0_run 31 = .ok (.invokestatic 5, 3) := dk_184 0 5 (dk_at dksX0_run_1 7 rfl rfl)
theorem dX0_run_34 : decode cX0_run 34 = .ok (.ifCond .ne 6, 3) := dk_154 0 6 (dk_at dksX0_run_1 10 rfl rfl)
theorem dX0_run_37 : decode cX0_run 37 = .ok (.bipush (-2), 2) := dk_16 254 (dk_at dksX0_run_1 13 rfl rfl)
theorem dX0_run_39 : decode cX0_run 39 = .ok (.ireturn, 1) := dk_172 (dk_at dksX0_run_1 15 rfl rfl)
theorem dX0_run_40 : decode cX0_run 40 = .ok (.aload_n 0, 1) := dk_42 (dk_at dksX0_run_1 16 rfl rfl)
theorem dX0_run_41 : decode cX0_run 41 = .ok (.invokevirtual 377, 3) := dk_182 1 121 (dk_at dksX0_run_1 17 rfl rfl)
theorem dX0_run_44 : decode cX0_run 44 = .ok (.aload_n 0, 1) := dk_42 (dk_at dksX0_run_1 20 rfl rfl)
theorem dX0_run_45 : decode cX0_run 45 = .ok (.aload_n 0, 1) := dk_42 (dk_at dksX0_run_1 21 rfl rfl)
theorem dX0_run_46 : decode cX0_run 46 = .ok (.getfield 75, 3) := dk_180 0 75 (dk_at dksX0_run_2 0 rfl rfl)
theorem dX0_run_49 : decode cX0_run 49 = .ok (.iload_n 1, 1) := dk_27 (dk_at dksX0_run_2 3 rfl rfl)
theorem dX0_run_50 : decode cX0_run 50 = .ok (.aaload, 1) := dk_50 (dk_at dksX0_run_2 4 rfl rfl)
theorem dX0_run_51 : decode cX0_run 51 = .ok (.iload_n 2, 1) := dk_28 (dk_at dksX0_run_2 5 rfl rfl)
theorem dX0_run_52 : decode cX0_run 52 = .ok (.bipush 100, 2) := dk_16 100 (dk_at dksX0_run_2 6 rfl rfl)
theorem dX0_run_54 : decode cX0_run 54 = .ok (.idiv, 1) := dk_108 (dk_at dksX0_run_2 8 rfl rfl)
theorem dX0_run_55 : decode cX0_run 55 = .ok (.iload_n 2, 1) := dk_28 (dk_at dksX0_run_2 9 rfl rfl)
theorem dX0_run_56 : decode cX0_run 56 = .ok (.bipush 100, 2) := dk_16 100 (dk_at dksX0_run_2 10 rfl rfl)
theorem dX0_run_58 : decode cX0_run 58 = .ok (.irem, 1) := dk_112 (dk_at dksX0_run_2 12 rfl rfl)
theorem dX0_run_59 : decode cX0_run 59 = .ok (.invokevirtual 380, 3) := dk_182 1 124 (dk_at dksX0_run_2 13 rfl rfl)
theorem dX0_run_62 : decode cX0_run 62 = .ok (.iload 4, 2) := dk_21 4 (dk_at dksX0_run_2 16 rfl rfl)
theorem dX0_run_64 : decode cX0_run 64 = .ok (.ifCond .ne 12, 3) := dk_154 0 12 (dk_at dksX0_run_2 18 rfl rfl)
theorem dX0_run_67 : decode cX0_run 67 = .ok (.aload_n 0, 1) := dk_42 (dk_at dksX0_run_2 21 rfl rfl)
theorem dX0_run_68 : decode cX0_run 68 = .ok (.getfield 279, 3) := dk_180 1 23 (dk_at dksX0_run_3 0 rfl rfl)
theorem dX0_run_71 : decode cX0_run 71 = .ok (.iload_n 3, 1) := dk_29 (dk_at dksX0_run_3 3 rfl rfl)
theorem dX0_run_72 : decode cX0_run 72 = .ok (.iaload, 1) := dk_46 (dk_at dksX0_run_3 4 rfl rfl)
theorem dX0_run_73 : decode cX0_run 73 = .ok (.goto 24, 3) := dk_167 0 24 (dk_at dksX0_run_3 5 rfl rfl)
theorem dX0_run_76 : decode cX0_run 76 = .ok (.iload 4, 2) := dk_21 4 (dk_at dksX0_run_3 8 rfl rfl)
theorem dX0_run_78 : decode cX0_run 78 = .ok (.iconst 1, 1) := dk_4 (dk_at dksX0_run_3 10 rfl rfl)
theorem dX0_run_79 : decode cX0_run 79 = .ok (.if_icmp .ne 12, 3) := dk_160 0 12 (dk_at dksX0_run_3 11 rfl rfl)
theorem dX0_run_82 : decode cX0_run 82 = .ok (.aload_n 0, 1) := dk_42 (dk_at dksX0_run_3 14 rfl rfl)
theorem dX0_run_83 : decode cX0_run 83 = .ok (.getfield 16, 3) := dk_180 0 16 (dk_at dksX0_run_3 15 rfl rfl)
theorem dX0_run_86 : decode cX0_run 86 = .ok (.iload_n 3, 1) := dk_29 (dk_at dksX0_run_3 18 rfl rfl)
theorem dX0_run_87 : decode cX0_run 87 = .ok (.iaload, 1) := dk_46 (dk_at dksX0_run_3 19 rfl rfl)
theorem dX0_run_88 : decode cX0_run 88 = .ok (.goto 9, 3) := dk_167 0 9 (dk_at dksX0_run_3 20 rfl rfl)
theorem dX0_run_91 : decode cX0_run 91 = .ok (.aload_n 0, 1) := dk_42 (dk_at dksX0_run_3 23 rfl rfl)
theorem dX0_run_92 : decode cX0_run 92 = .ok (.getfield 282, 3) := dk_180 1 26 (dk_at dksX0_run_4 0 rfl rfl)
theorem dX0_run_95 : decode cX0_run 95 = .ok (.iload_n 3, 1) := dk_29 (dk_at dksX0_run_4 3 rfl rfl)
theorem dX0_run_96 : decode cX0_run 96 = .ok (.iaload, 1) := dk_46 (dk_at dksX0_run_4 4 rfl rfl)
theorem dX0_run_97 : decode cX0_run 97 = .ok (.istore 5, 2) := dk_54 5 (dk_at dksX0_run_4 5 rfl rfl)
theorem dX0_run_99 : decode cX0_run 99 = .ok (.aload_n 0, 1) := dk_42 (dk_at dksX0_run_4 7 rfl rfl)
theorem dX0_run_100 : decode cX0_run 100 = .ok (.invokevirtual 383, 3) := dk_182 1 127 (dk_at dksX0_run_4 8 rfl rfl)
theorem dX0_run_103 : decode cX0_run 103 = .ok (.iload 5, 2) := dk_21 5 (dk_at dksX0_run_4 11 rfl rfl)
theorem dX0_run_105 : decode cX0_run 105 = .ok (.ireturn, 1) := dk_172 (dk_at dksX0_run_4 13 rfl rfl)
theorem dX0_run_106 : decode cX0_run 106 = .ok (.astore 6, 2) := dk_58 6 (dk_at dksX0_run_4 14 rfl rfl)
theorem dX0_run_108 : decode cX0_run 108 = .ok (.aload_n 0, 1) := dk_42 (dk_at dksX0_run_4 16 rfl rfl)
theorem dX0_run_109 : decode cX0_run 109 = .ok (.invokevirtual 383, 3) := dk_182 1 127 (dk_at dksX0_run_4 17 rfl rfl)
theorem dX0_run_112 : decode cX0_run 112 = .ok (.aload 6, 2) := dk_25 6 (dk_at dksX0_run_4 20 rfl rfl)
theorem dX0_run_114 : decode cX0_run 114 = .ok (.athrow, 1) := dk_191 (dk_at dksX0_run_4 22 rfl rfl)
abbrev cX0_areNights : ByteArray := prog_1_method_44_code
def yX0_areNights : MethodName := ⟨RX0, "areNights", "(I)Z"⟩
def dkwX0_areNights_1 : List UInt8 := [153, 0, 18, 27, 16, 100, 108, 27, 16, 100, 112, 163, 0, 7, 4, 167, 0, 4, 3, 172]
abbrev dktX0_areNights_1 : List UInt8 := dkwX0_areNights_1 ++ []
def dkwX0_areNights_0 : List UInt8 := [27, 155, 0, 40, 42, 27, 16, 100, 108, 182, 0, 86, 153, 0, 29, 42, 27, 16, 100, 112, 182, 0, 86]
abbrev dktX0_areNights_0 : List UInt8 := dkwX0_areNights_0 ++ dktX0_areNights_1
theorem dksX0_areNights_0 : cX0_areNights.data.toList.drop 0 = dktX0_areNights_0 := by decide +kernel
theorem dksX0_areNights_1 : cX0_areNights.data.toList.drop 23 = dktX0_areNights_1 := dk_seg dksX0_areNights_0 23 rfl rfl
theorem dX0_areNights_0 : decode cX0_areNights 0 = .ok (.iload_n 1, 1) := dk_27 (dk_at dksX0_areNights_0 0 rfl rfl)
theorem dX0_areNights_1 : decode cX0_areNights 1 = .ok (.ifCond .lt 40, 3) := dk_155 0 40 (dk_at dksX0_areNights_0 1 rfl rfl)
theorem dX0_areNights_4 : decode cX0_areNights 4 = .ok (.aload_n 0, 1) := dk_42 (dk_at dksX0_areNights_0 4 rfl rfl)
theorem dX0_areNights_5 : decode cX0_areNights 5 = .ok (.iload_n 1, 1) := dk_27 (dk_at dksX0_areNights_0 5 rfl rfl)
theorem dX0_areNights_6 : decode cX0_areNights 6 = .ok (.bipush 100, 2) := dk_16 100 (dk_at dksX0_areNights_0 6 rfl rfl)
theorem dX0_areNights_8 : decode cX0_areNights 8 = .ok (.idiv, 1) := dk_108 (dk_at dksX0_areNights_0 8 rfl rfl)
theorem dX0_areNights_9 : decode cX0_areNights 9 = .ok (.invokevirtual 86, 3) := dk_182 0 86 (dk_at dksX0_areNights_0 9 rfl rfl)
theorem dX0_areNights_12 : decode cX0_areNights 12 = .ok (.ifCond .eq 29, 3) := dk_153 0 29 (dk_at dksX0_areNights_0 12 rfl rfl)
theorem dX0_areNights_15 : decode cX0_areNights 15 = .ok (.aload_n 0, 1) := dk_42 (dk_at dksX0_areNights_0 15 rfl rfl)
theorem dX0_areNights_16 : decode cX0_areNights 16 = .ok (.iload_n 1, 1) := dk_27 (dk_at dksX0_areNights_0 16 rfl rfl)
theorem dX0_areNights_17 : decode cX0_areNights 17 = .ok (.bipush 100, 2) := dk_16 100 (dk_at dksX0_areNights_0 17 rfl rfl)
theorem dX0_areNights_19 : decode cX0_areNights 19 = .ok (.irem, 1) := dk_112 (dk_at dksX0_areNights_0 19 rfl rfl)
theorem dX0_areNights_20 : decode cX0_areNights 20 = .ok (.invokevirtual 86, 3) := dk_182 0 86 (dk_at dksX0_areNights_0 20 rfl rfl)
theorem dX0_areNights_23 : decode cX0_areNights 23 = .ok (.ifCond .eq 18, 3) := dk_153 0 18 (dk_at dksX0_areNights_1 0 rfl rfl)
theorem dX0_areNights_26 : decode cX0_areNights 26 = .ok (.iload_n 1, 1) := dk_27 (dk_at dksX0_areNights_1 3 rfl rfl)
theorem dX0_areNights_27 : decode cX0_areNights 27 = .ok (.bipush 100, 2) := dk_16 100 (dk_at dksX0_areNights_1 4 rfl rfl)
theorem dX0_areNights_29 : decode cX0_areNights 29 = .ok (.idiv, 1) := dk_108 (dk_at dksX0_areNights_1 6 rfl rfl)
theorem dX0_areNights_30 : decode cX0_areNights 30 = .ok (.iload_n 1, 1) := dk_27 (dk_at dksX0_areNights_1 7 rfl rfl)
theorem dX0_areNights_31 : decode cX0_areNights 31 = .ok (.bipush 100, 2) := dk_16 100 (dk_at dksX0_areNights_1 8 rfl rfl)
theorem dX0_areNights_33 : decode cX0_areNights 33 = .ok (.irem, 1) := dk_112 (dk_at dksX0_areNights_1 10 rfl rfl)
theorem dX0_areNights_34 : decode cX0_areNights 34 = .ok (.if_icmp .gt 7, 3) := dk_163 0 7 (dk_at dksX0_areNights_1 11 rfl rfl)
theorem dX0_areNights_37 : decode cX0_areNights 37 = .ok (.iconst 1, 1) := dk_4 (dk_at dksX0_areNights_1 14 rfl rfl)
theorem dX0_areNights_38 : decode cX0_areNights 38 = .ok (.goto 4, 3) := dk_167 0 4 (dk_at dksX0_areNights_1 15 rfl rfl)
theorem dX0_areNights_41 : decode cX0_areNights 41 = .ok (.iconst 0, 1) := dk_3 (dk_at dksX0_areNights_1 18 rfl rfl)
theorem dX0_areNights_42 : decode cX0_areNights 42 = .ok (.ireturn, 1) := dk_172 (dk_at dksX0_areNights_1 19 rfl rfl)
abbrev cX0_keeps : ByteArray := prog_1_method_42_code
def yX0_keeps : MethodName := ⟨RX0, "keeps", "()V"⟩
def dkwX0_keeps_0 : List UInt8 := [42, 180, 0, 16, 3, 42, 180, 1, 20, 3, 16, 10, 184, 1, 112, 177]
abbrev dktX0_keeps_0 : List UInt8 := dkwX0_keeps_0 ++ []
theorem dksX0_keeps_0 : cX0_keeps.data.toList.drop 0 = dktX0_keeps_0 := by decide +kernel
theorem dX0_keeps_0 : decode cX0_keeps 0 = .ok (.aload_n 0, 1) := dk_42 (dk_at dksX0_keeps_0 0 rfl rfl)
theorem dX0_keeps_1 : decode cX0_keeps 1 = .ok (.getfield 16, 3) := dk_180 0 16 (dk_at dksX0_keeps_0 1 rfl rfl)
theorem dX0_keeps_4 : decode cX0_keeps 4 = .ok (.iconst 0, 1) := dk_3 (dk_at dksX0_keeps_0 4 rfl rfl)
theorem dX0_keeps_5 : decode cX0_keeps 5 = .ok (.aload_n 0, 1) := dk_42 (dk_at dksX0_keeps_0 5 rfl rfl)
theorem dX0_keeps_6 : decode cX0_keeps 6 = .ok (.getfield 276, 3) := dk_180 1 20 (dk_at dksX0_keeps_0 6 rfl rfl)
theorem dX0_keeps_9 : decode cX0_keeps 9 = .ok (.iconst 0, 1) := dk_3 (dk_at dksX0_keeps_0 9 rfl rfl)
theorem dX0_keeps_10 : decode cX0_keeps 10 = .ok (.bipush 10, 2) := dk_16 10 (dk_at dksX0_keeps_0 10 rfl rfl)
theorem dX0_keeps_12 : decode cX0_keeps 12 = .ok (.invokestatic 368, 3) := dk_184 1 112 (dk_at dksX0_keeps_0 12 rfl rfl)
theorem dX0_keeps_15 : decode cX0_keeps 15 = .ok (.return_, 1) := dk_177 (dk_at dksX0_keeps_0 15 rfl rfl)
abbrev cX0_runs : ByteArray := prog_1_method_41_code
def yX0_runs : MethodName := ⟨RX0, "runs", "(LWalkingStones$How;II)V"⟩
def dkwX0_runs_3 : List UInt8 := [132, 5, 1, 167, 255, 235, 132, 4, 1, 167, 255, 220, 177]
abbrev dktX0_runs_3 : List UInt8 := dkwX0_runs_3 ++ []
def dkwX0_runs_2 : List UInt8 := [163, 0, 36, 3, 54, 5, 21, 5, 42, 180, 0, 9, 162, 0, 18, 42, 43, 21, 5, 21, 4, 182, 1, 108]
abbrev dktX0_runs_2 : List UInt8 := dkwX0_runs_2 ++ dktX0_runs_3
def dkwX0_runs_1 : List UInt8 := [21, 4, 3, 79, 42, 180, 1, 29, 21, 4, 2, 79, 132, 4, 1, 167, 255, 220, 28, 54, 4, 21, 4, 29]
abbrev dktX0_runs_1 : List UInt8 := dkwX0_runs_1 ++ dktX0_runs_2
def dkwX0_runs_0 : List UInt8 := [3, 54, 4, 21, 4, 42, 180, 0, 9, 162, 0, 33, 42, 180, 1, 23, 21, 4, 3, 79, 42, 180, 1, 26]
abbrev dktX0_runs_0 : List UInt8 := dkwX0_runs_0 ++ dktX0_runs_1
theorem dksX0_runs_0 : cX0_runs.data.toList.drop 0 = dktX0_runs_0 := by decide +kernel
theorem dksX0_runs_1 : cX0_runs.data.toList.drop 24 = dktX0_runs_1 := dk_seg dksX0_runs_0 24 rfl rfl
theorem dksX0_runs_2 : cX0_runs.data.toList.drop 48 = dktX0_runs_2 := dk_seg dksX0_runs_1 24 rfl rfl
theorem dksX0_runs_3 : cX0_runs.data.toList.drop 72 = dktX0_runs_3 := dk_seg dksX0_runs_2 24 rfl rfl
theorem dX0_runs_0 : decode cX0_runs 0 = .ok (.iconst 0, 1) := dk_3 (dk_at dksX0_runs_0 0 rfl rfl)
theorem dX0_runs_1 : decode cX0_runs 1 = .ok (.istore 4, 2) := dk_54 4 (dk_at dksX0_runs_0 1 rfl rfl)
theorem dX0_runs_3 : decode cX0_runs 3 = .ok (.iload 4, 2) := dk_21 4 (dk_at dksX0_runs_0 3 rfl rfl)
theorem dX0_runs_5 : decode cX0_runs 5 = .ok (.aload_n 0, 1) := dk_42 (dk_at dksX0_runs_0 5 rfl rfl)
theorem dX0_runs_6 : decode cX0_runs 6 = .ok (.getfield 9, 3) := dk_180 0 9 (dk_at dksX0_runs_0 6 rfl rfl)
theorem dX0_runs_9 : decode cX0_runs 9 = .ok (.if_icmp .ge 33, 3) := dk_162 0 33 (dk_at dksX0_runs_0 9 rfl rfl)
theorem dX0_runs_12 : decode cX0_runs 12 = .ok (.aload_n 0, 1) := dk_42 (dk_at dksX0_runs_0 12 rfl rfl)
theorem dX0_runs_13 : decode cX0_runs 13 = .ok (.getfield 279, 3) := dk_180 1 23 (dk_at dksX0_runs_0 13 rfl rfl)
theorem dX0_runs_16 : decode cX0_runs 16 = .ok (.iload 4, 2) := dk_21 4 (dk_at dksX0_runs_0 16 rfl rfl)
theorem dX0_runs_18 : decode cX0_runs 18 = .ok (.iconst 0, 1) := dk_3 (dk_at dksX0_runs_0 18 rfl rfl)
theorem dX0_runs_19 : decode cX0_runs 19 = .ok (.iastore, 1) := dk_79 (dk_at dksX0_runs_0 19 rfl rfl)
theorem dX0_runs_20 : decode cX0_runs 20 = .ok (.aload_n 0, 1) := dk_42 (dk_at dksX0_runs_0 20 rfl rfl)
theorem dX0_runs_21 : decode cX0_runs 21 = .ok (.getfield 282, 3) := dk_180 1 26 (dk_at dksX0_runs_0 21 rfl rfl)
theorem dX0_runs_24 : decode cX0_runs 24 = .ok (.iload 4, 2) := dk_21 4 (dk_at dksX0_runs_1 0 rfl rfl)
theorem dX0_runs_26 : decode cX0_runs 26 = .ok (.iconst 0, 1) := dk_3 (dk_at dksX0_runs_1 2 rfl rfl)
theorem dX0_runs_27 : decode cX0_runs 27 = .ok (.iastore, 1) := dk_79 (dk_at dksX0_runs_1 3 rfl rfl)
theorem dX0_runs_28 : decode cX0_runs 28 = .ok (.aload_n 0, 1) := dk_42 (dk_at dksX0_runs_1 4 rfl rfl)
theorem dX0_runs_29 : decode cX0_runs 29 = .ok (.getfield 285, 3) := dk_180 1 29 (dk_at dksX0_runs_1 5 rfl rfl)
theorem dX0_runs_32 : decode cX0_runs 32 = .ok (.iload 4, 2) := dk_21 4 (dk_at dksX0_runs_1 8 rfl rfl)
theorem dX0_runs_34 : decode cX0_runs 34 = .ok (.iconst (-1), 1) := dk_2 (dk_at dksX0_runs_1 10 rfl rfl)
theorem dX0_runs_35 : decode cX0_runs 35 = .ok (.iastore, 1) := dk_79 (dk_at dksX0_runs_1 11 rfl rfl)
theorem dX0_runs_36 : decode cX0_runs 36 = .ok (.iinc 4 1, 3) := dk_132 4 1 (dk_at dksX0_runs_1 12 rfl rfl)
theorem dX0_runs_39 : decode cX0_runs 39 = .ok (.goto (-36), 3) := dk_167 255 220 (dk_at dksX0_runs_1 15 rfl rfl)
theorem dX0_runs_42 : decode cX0_runs 42 = .ok (.iload_n 2, 1) := dk_28 (dk_at dksX0_runs_1 18 rfl rfl)
theorem dX0_runs_43 : decode cX0_runs 43 = .ok (.istore 4, 2) := dk_54 4 (dk_at dksX0_runs_1 19 rfl rfl)
theorem dX0_runs_45 : decode cX0_runs 45 = .ok (.iload 4, 2) := dk_21 4 (dk_at dksX0_runs_1 21 rfl rfl)
theorem dX0_runs_47 : decode cX0_runs 47 = .ok (.iload_n 3, 1) := dk_29 (dk_at dksX0_runs_1 23 rfl rfl)
theorem dX0_runs_48 : decode cX0_runs 48 = .ok (.if_icmp .gt 36, 3) := dk_163 0 36 (dk_at dksX0_runs_2 0 rfl rfl)
theorem dX0_runs_51 : decode cX0_runs 51 = .ok (.iconst 0, 1) := dk_3 (dk_at dksX0_runs_2 3 rfl rfl)
theorem dX0_runs_52 : decode cX0_runs 52 = .ok (.istore 5, 2) := dk_54 5 (dk_at dksX0_runs_2 4 rfl rfl)
theorem dX0_runs_54 : decode cX0_runs 54 = .ok (.iload 5, 2) := dk_21 5 (dk_at dksX0_runs_2 6 rfl rfl)
theorem dX0_runs_56 : decode cX0_runs 56 = .ok (.aload_n 0, 1) := dk_42 (dk_at dksX0_runs_2 8 rfl rfl)
theorem dX0_runs_57 : decode cX0_runs 57 = .ok (.getfield 9, 3) := dk_180 0 9 (dk_at dksX0_runs_2 9 rfl rfl)
theorem dX0_runs_60 : decode cX0_runs 60 = .ok (.if_icmp .ge 18, 3) := dk_162 0 18 (dk_at dksX0_runs_2 12 rfl rfl)
theorem dX0_runs_63 : decode cX0_runs 63 = .ok (.aload_n 0, 1) := dk_42 (dk_at dksX0_runs_2 15 rfl rfl)
theorem dX0_runs_64 : decode cX0_runs 64 = .ok (.aload_n 1, 1) := dk_43 (dk_at dksX0_runs_2 16 rfl rfl)
theorem dX0_runs_65 : decode cX0_runs 65 = .ok (.iload 5, 2) := dk_21 5 (dk_at dksX0_runs_2 17 rfl rfl)
theorem dX0_runs_67 : decode cX0_runs 67 = .ok (.iload 4, 2) := dk_21 4 (dk_at dksX0_runs_2 19 rfl rfl)
theorem dX0_runs_69 : decode cX0_runs 69 = .ok (.invokevirtual 364, 3) := dk_182 1 108 (dk_at dksX0_runs_2 21 rfl rfl)
theorem dX0_runs_72 : decode cX0_runs 72 = .ok (.iinc 5 1, 3) := dk_132 5 1 (dk_at dksX0_runs_3 0 rfl rfl)
theorem dX0_runs_75 : decode cX0_runs 75 = .ok (.goto (-21), 3) := dk_167 255 235 (dk_at dksX0_runs_3 3 rfl rfl)
theorem dX0_runs_78 : decode cX0_runs 78 = .ok (.iinc 4 1, 3) := dk_132 4 1 (dk_at dksX0_runs_3 6 rfl rfl)
theorem dX0_runs_81 : decode cX0_runs 81 = .ok (.goto (-36), 3) := dk_167 255 220 (dk_at dksX0_runs_3 9 rfl rfl)
theorem dX0_runs_84 : decode cX0_runs 84 = .ok (.return_, 1) := dk_177 (dk_at dksX0_runs_3 12 rfl rfl)
abbrev cX0_goes : ByteArray := prog_1_method_40_code
def yX0_goes : MethodName := ⟨RX0, "goes", "(LWalkingStones$How;II)V"⟩
def dkwX0_goes_6 : List UInt8 := [79, 42, 180, 1, 23, 28, 92, 46, 21, 6, 96, 79, 177]
abbrev dktX0_goes_6 : List UInt8 := dkwX0_goes_6 ++ []
def dkwX0_goes_5 : List UInt8 := [180, 1, 29, 28, 46, 21, 5, 159, 0, 7, 4, 167, 0, 4, 3, 96, 79, 42, 180, 1, 29, 28, 21, 5]
abbrev dktX0_goes_5 : List UInt8 := dkwX0_goes_5 ++ dktX0_goes_6
def dkwX0_goes_4 : List UInt8 := [21, 6, 158, 0, 57, 42, 180, 1, 26, 28, 92, 46, 42, 180, 1, 29, 28, 46, 2, 159, 0, 18, 42]
abbrev dktX0_goes_4 : List UInt8 := dkwX0_goes_4 ++ dktX0_goes_5
def dkwX0_goes_3 : List UInt8 := [162, 0, 18, 42, 42, 180, 0, 16, 28, 46, 21, 5, 182, 1, 105, 167, 0, 4, 2, 54, 7, 167, 255, 214]
abbrev dktX0_goes_3 : List UInt8 := dkwX0_goes_3 ++ dktX0_goes_4
def dkwX0_goes_2 : List UInt8 := [54, 7, 21, 7, 2, 159, 0, 42, 42, 180, 0, 16, 28, 21, 7, 79, 132, 6, 1, 21, 6, 21, 4]
abbrev dktX0_goes_2 : List UInt8 := dkwX0_goes_2 ++ dktX0_goes_3
def dkwX0_goes_1 : List UInt8 := [21, 6, 21, 4, 162, 0, 18, 42, 42, 180, 0, 16, 28, 46, 21, 5, 182, 1, 105, 167, 0, 4, 2]
abbrev dktX0_goes_1 : List UInt8 := dkwX0_goes_1 ++ dktX0_goes_2
def dkwX0_goes_0 : List UInt8 := [43, 42, 180, 0, 29, 28, 46, 29, 182, 0, 98, 54, 4, 43, 29, 182, 1, 102, 54, 5, 3, 54, 6]
abbrev dktX0_goes_0 : List UInt8 := dkwX0_goes_0 ++ dktX0_goes_1
theorem dksX0_goes_0 : cX0_goes.data.toList.drop 0 = dktX0_goes_0 := by decide +kernel
theorem dksX0_goes_1 : cX0_goes.data.toList.drop 23 = dktX0_goes_1 := dk_seg dksX0_goes_0 23 rfl rfl
theorem dksX0_goes_2 : cX0_goes.data.toList.drop 46 = dktX0_goes_2 := dk_seg dksX0_goes_1 23 rfl rfl
theorem dksX0_goes_3 : cX0_goes.data.toList.drop 69 = dktX0_goes_3 := dk_seg dksX0_goes_2 23 rfl rfl
theorem dksX0_goes_4 : cX0_goes.data.toList.drop 93 = dktX0_goes_4 := dk_seg dksX0_goes_3 24 rfl rfl
theorem dksX0_goes_5 : cX0_goes.data.toList.drop 116 = dktX0_goes_5 := dk_seg dksX0_goes_4 23 rfl rfl
theorem dksX0_goes_6 : cX0_goes.data.toList.drop 140 = dktX0_goes_6 := dk_seg dksX0_goes_5 24 rfl rfl
theorem dX0_goes_0 : decode cX0_goes 0 = .ok (.aload_n 1, 1) := dk_43 (dk_at dksX0_goes_0 0 rfl rfl)
theorem dX0_goes_1 : decode cX0_goes 1 = .ok (.aload_n 0, 1) := dk_42 (dk_at dksX0_goes_0 1 rfl rfl)
theorem dX0_goes_2 : decode cX0_goes 2 = .ok (.getfield 29, 3) := dk_180 0 29 (dk_at dksX0_goes_0 2 rfl rfl)
theorem dX0_goes_5 : decode cX0_goes 5 = .ok (.iload_n 2, 1) := dk_28 (dk_at dksX0_goes_0 5 rfl rfl)
theorem dX0_goes_6 : decode cX0_goes 6 = .ok (.iaload, 1) := dk_46 (dk_at dksX0_goes_0 6 rfl rfl)
theorem dX0_goes_7 : decode cX0_goes 7 = .ok (.iload_n 3, 1) := dk_29 (dk_at dksX0_goes_0 7 rfl rfl)
theorem dX0_goes_8 : decode cX0_goes 8 = .ok (.invokevirtual 98, 3) := dk_182 0 98 (dk_at dksX0_goes_0 8 rfl rfl)
theorem dX0_goes_11 : decode cX0_goes 11 = .ok (.istore 4, 2) := dk_54 4 (dk_at dksX0_goes_0 11 rfl rfl)
theorem dX0_goes_13 : decode cX0_goes 13 = .ok (.aload_n 1, 1) := dk_43 (dk_at dksX0_goes_0 13 rfl rfl)
theorem dX0_goes_14 : decode cX0_goes 14 = .ok (.iload_n 3, 1) := dk_29 (dk_at dksX0_goes_0 14 rfl rfl)
theorem dX0_goes_15 : decode cX0_goes 15 = .ok (.invokevirtual 358, 3) := dk_182 1 102 (dk_at dksX0_goes_0 15 rfl rfl)
theorem dX0_goes_18 : decode cX0_goes 18 = .ok (.istore 5, 2) := dk_54 5 (dk_at dksX0_goes_0 18 rfl rfl)
theorem dX0_goes_20 : decode cX0_goes 20 = .ok (.iconst 0, 1) := dk_3 (dk_at dksX0_goes_0 20 rfl rfl)
theorem dX0_goes_21 : decode cX0_goes 21 = .ok (.istore 6, 2) := dk_54 6 (dk_at dksX0_goes_0 21 rfl rfl)
theorem dX0_goes_23 : decode cX0_goes 23 = .ok (.iload 6, 2) := dk_21 6 (dk_at dksX0_goes_1 0 rfl rfl)
theorem dX0_goes_25 : decode cX0_goes 25 = .ok (.iload 4, 2) := dk_21 4 (dk_at dksX0_goes_1 2 rfl rfl)
theorem dX0_goes_27 : decode cX0_goes 27 = .ok (.if_icmp .ge 18, 3) := dk_162 0 18 (dk_at dksX0_goes_1 4 rfl rfl)
theorem dX0_goes_30 : decode cX0_goes 30 = .ok (.aload_n 0, 1) := dk_42 (dk_at dksX0_goes_1 7 rfl rfl)
theorem dX0_goes_31 : decode cX0_goes 31 = .ok (.aload_n 0, 1) := dk_42 (dk_at dksX0_goes_1 8 rfl rfl)
theorem dX0_goes_32 : decode cX0_goes 32 = .ok (.getfield 16, 3) := dk_180 0 16 (dk_at dksX0_goes_1 9 rfl rfl)
theorem dX0_goes_35 : decode cX0_goes 35 = .ok (.iload_n 2, 1) := dk_28 (dk_at dksX0_goes_1 12 rfl rfl)
theorem dX0_goes_36 : decode cX0_goes 36 = .ok (.iaload, 1) := dk_46 (dk_at dksX0_goes_1 13 rfl rfl)
theorem dX0_goes_37 : decode cX0_goes 37 = .ok (.iload 5, 2) := dk_21 5 (dk_at dksX0_goes_1 14 rfl rfl)
theorem dX0_goes_39 : decode cX0_goes 39 = .ok (.invokevirtual 361, 3) := dk_182 1 105 (dk_at dksX0_goes_1 16 rfl rfl)
theorem dX0_goes_42 : decode cX0_goes 42 = .ok (.goto 4, 3) := dk_167 0 4 (dk_at dksX0_goes_1 19 rfl rfl)
theorem dX0_goes_45 : decode cX0_goes 45 = .ok (.iconst (-1), 1) := dk_2 (dk_at dksX0_goes_1 22 rfl rfl)
theorem dX0_goes_46 : decode cX0_goes 46 = .ok (.istore 7, 2) := dk_54 7 (dk_at dksX0_goes_2 0 rfl rfl)
theorem dX0_goes_48 : decode cX0_goes 48 = .ok (.iload 7, 2) := dk_21 7 (dk_at dksX0_goes_2 2 rfl rfl)
theorem dX0_goes_50 : decode cX0_goes 50 = .ok (.iconst (-1), 1) := dk_2 (dk_at dksX0_goes_2 4 rfl rfl)
theorem dX0_goes_51 : decode cX0_goes 51 = .ok (.if_icmp .eq 42, 3) := dk_159 0 42 (dk_at dksX0_goes_2 5 rfl rfl)
theorem dX0_goes_54 : decode cX0_goes 54 = .ok (.aload_n 0, 1) := dk_42 (dk_at dksX0_goes_2 8 rfl rfl)
theorem dX0_goes_55 : decode cX0_goes 55 = .ok (.getfield 16, 3) := dk_180 0 16 (dk_at dksX0_goes_2 9 rfl rfl)
theorem dX0_goes_58 : decode cX0_goes 58 = .ok (.iload_n 2, 1) := dk_28 (dk_at dksX0_goes_2 12 rfl rfl)
theorem dX0_goes_59 : decode cX0_goes 59 = .ok (.iload 7, 2) := dk_21 7 (dk_at dksX0_goes_2 13 rfl rfl)
theorem dX0_goes_61 : decode cX0_goes 61 = .ok (.iastore, 1) := dk_79 (dk_at dksX0_goes_2 15 rfl rfl)
theorem dX0_goes_62 : decode cX0_goes 62 = .ok (.iinc 6 1, 3) := dk_132 6 1 (dk_at dksX0_goes_2 16 rfl rfl)
theorem dX0_goes_65 : decode cX0_goes 65 = .ok (.iload 6, 2) := dk_21 6 (dk_at dksX0_goes_2 19 rfl rfl)
theorem dX0_goes_67 : decode cX0_goes 67 = .ok (.iload 4, 2) := dk_21 4 (dk_at dksX0_goes_2 21 rfl rfl)
theorem dX0_goes_69 : decode cX0_goes 69 = .ok (.if_icmp .ge 18, 3) := dk_162 0 18 (dk_at dksX0_goes_3 0 rfl rfl)
theorem dX0_goes_72 : decode cX0_goes 72 = .ok (.aload_n 0, 1) := dk_42 (dk_at dksX0_goes_3 3 rfl rfl)
theorem dX0_goes_73 : decode cX0_goes 73 = .ok (.aload_n 0, 1) := dk_42 (dk_at dksX0_goes_3 4 rfl rfl)
theorem dX0_goes_74 : decode cX0_goes 74 = .ok (.getfield 16, 3) := dk_180 0 16 (dk_at dksX0_goes_3 5 rfl rfl)
theorem dX0_goes_77 : decode cX0_goes 77 = .ok (.iload_n 2, 1) := dk_28 (dk_at dksX0_goes_3 8 rfl rfl)
theorem dX0_goes_78 : decode cX0_goes 78 = .ok (.iaload, 1) := dk_46 (dk_at dksX0_goes_3 9 rfl rfl)
theorem dX0_goes_79 : decode cX0_goes 79 = .ok (.iload 5, 2) := dk_21 5 (dk_at dksX0_goes_3 10 rfl rfl)
theorem dX0_goes_81 : decode cX0_goes 81 = .ok (.invokevirtual 361, 3) := dk_182 1 105 (dk_at dksX0_goes_3 12 rfl rfl)
theorem dX0_goes_84 : decode cX0_goes 84 = .ok (.goto 4, 3) := dk_167 0 4 (dk_at dksX0_goes_3 15 rfl rfl)
theorem dX0_goes_87 : decode cX0_goes 87 = .ok (.iconst (-1), 1) := dk_2 (dk_at dksX0_goes_3 18 rfl rfl)
theorem dX0_goes_88 : decode cX0_goes 88 = .ok (.istore 7, 2) := dk_54 7 (dk_at dksX0_goes_3 19 rfl rfl)
theorem dX0_goes_90 : decode cX0_goes 90 = .ok (.goto (-42), 3) := dk_167 255 214 (dk_at dksX0_goes_3 21 rfl rfl)
theorem dX0_goes_93 : decode cX0_goes 93 = .ok (.iload 6, 2) := dk_21 6 (dk_at dksX0_goes_4 0 rfl rfl)
theorem dX0_goes_95 : decode cX0_goes 95 = .ok (.ifCond .le 57, 3) := dk_158 0 57 (dk_at dksX0_goes_4 2 rfl rfl)
theorem dX0_goes_98 : decode cX0_goes 98 = .ok (.aload_n 0, 1) := dk_42 (dk_at dksX0_goes_4 5 rfl rfl)
theorem dX0_goes_99 : decode cX0_goes 99 = .ok (.getfield 282, 3) := dk_180 1 26 (dk_at dksX0_goes_4 6 rfl rfl)
theorem dX0_goes_102 : decode cX0_goes 102 = .ok (.iload_n 2, 1) := dk_28 (dk_at dksX0_goes_4 9 rfl rfl)
theorem dX0_goes_103 : decode cX0_goes 103 = .ok (.dup2, 1) := dk_92 (dk_at dksX0_goes_4 10 rfl rfl)
theorem dX0_goes_104 : decode cX0_goes 104 = .ok (.iaload, 1) := dk_46 (dk_at dksX0_goes_4 11 rfl rfl)
theorem dX0_goes_105 : decode cX0_goes 105 = .ok (.aload_n 0, 1) := dk_42 (dk_at dksX0_goes_4 12 rfl rfl)
theorem dX0_goes_106 : decode cX0_goes 106 = .ok (.getfield 285, 3) := dk_180 1 29 (dk_at dksX0_goes_4 13 rfl rfl)
theorem dX0_goes_109 : decode cX0_goes 109 = .ok (.iload_n 2, 1) := dk_28 (dk_at dksX0_goes_4 16 rfl rfl)
theorem dX0_goes_110 : decode cX0_goes 110 = .ok (.iaload, 1) := dk_46 (dk_at dksX0_goes_4 17 rfl rfl)
theorem dX0_goes_111 : decode cX0_goes 111 = .ok (.iconst (-1), 1) := dk_2 (dk_at dksX0_goes_4 18 rfl rfl)
theorem dX0_goes_112 : decode cX0_goes 112 = .ok (.if_icmp .eq 18, 3) := dk_159 0 18 (dk_at dksX0_goes_4 19 rfl rfl)
theorem dX0_goes_115 : decode cX0_goes 115 = .ok (.aload_n 0, 1) := dk_42 (dk_at dksX0_goes_4 22 rfl rfl)
theorem dX0_goes_116 : decode cX0_goes 116 = .ok (.getfield 285, 3) := dk_180 1 29 (dk_at dksX0_goes_5 0 rfl rfl)
theorem dX0_goes_119 : decode cX0_goes 119 = .ok (.iload_n 2, 1) := dk_28 (dk_at dksX0_goes_5 3 rfl rfl)
theorem dX0_goes_120 : decode cX0_goes 120 = .ok (.iaload, 1) := dk_46 (dk_at dksX0_goes_5 4 rfl rfl)
theorem dX0_goes_121 : decode cX0_goes 121 = .ok (.iload 5, 2) := dk_21 5 (dk_at dksX0_goes_5 5 rfl rfl)
theorem dX0_goes_123 : decode cX0_goes 123 = .ok (.if_icmp .eq 7, 3) := dk_159 0 7 (dk_at dksX0_goes_5 7 rfl rfl)
theorem dX0_goes_126 : decode cX0_goes 126 = .ok (.iconst 1, 1) := dk_4 (dk_at dksX0_goes_5 10 rfl rfl)
theorem dX0_goes_127 : decode cX0_goes 127 = .ok (.goto 4, 3) := dk_167 0 4 (dk_at dksX0_goes_5 11 rfl rfl)
theorem dX0_goes_130 : decode cX0_goes 130 = .ok (.iconst 0, 1) := dk_3 (dk_at dksX0_goes_5 14 rfl rfl)
theorem dX0_goes_131 : decode cX0_goes 131 = .ok (.iadd, 1) := dk_96 (dk_at dksX0_goes_5 15 rfl rfl)
theorem dX0_goes_132 : decode cX0_goes 132 = .ok (.iastore, 1) := dk_79 (dk_at dksX0_goes_5 16 rfl rfl)
theorem dX0_goes_133 : decode cX0_goes 133 = .ok (.aload_n 0, 1) := dk_42 (dk_at dksX0_goes_5 17 rfl rfl)
theorem dX0_goes_134 : decode cX0_goes 134 = .ok (.getfield 285, 3) := dk_180 1 29 (dk_at dksX0_goes_5 18 rfl rfl)
theorem dX0_goes_137 : decode cX0_goes 137 = .ok (.iload_n 2, 1) := dk_28 (dk_at dksX0_goes_5 21 rfl rfl)
theorem dX0_goes_138 : decode cX0_goes 138 = .ok (.iload 5, 2) := dk_21 5 (dk_at dksX0_goes_5 22 rfl rfl)
theorem dX0_goes_140 : decode cX0_goes 140 = .ok (.iastore, 1) := dk_79 (dk_at dksX0_goes_6 0 rfl rfl)
theorem dX0_goes_141 : decode cX0_goes 141 = .ok (.aload_n 0, 1) := dk_42 (dk_at dksX0_goes_6 1 rfl rfl)
theorem dX0_goes_142 : decode cX0_goes 142 = .ok (.getfield 279, 3) := dk_180 1 23 (dk_at dksX0_goes_6 2 rfl rfl)
theorem dX0_goes_145 : decode cX0_goes 145 = .ok (.iload_n 2, 1) := dk_28 (dk_at dksX0_goes_6 5 rfl rfl)
theorem dX0_goes_146 : decode cX0_goes 146 = .ok (.dup2, 1) := dk_92 (dk_at dksX0_goes_6 6 rfl rfl)
theorem dX0_goes_147 : decode cX0_goes 147 = .ok (.iaload, 1) := dk_46 (dk_at dksX0_goes_6 7 rfl rfl)
theorem dX0_goes_148 : decode cX0_goes 148 = .ok (.iload 6, 2) := dk_21 6 (dk_at dksX0_goes_6 8 rfl rfl)
theorem dX0_goes_150 : decode cX0_goes 150 = .ok (.iadd, 1) := dk_96 (dk_at dksX0_goes_6 10 rfl rfl)
theorem dX0_goes_151 : decode cX0_goes 151 = .ok (.iastore, 1) := dk_79 (dk_at dksX0_goes_6 11 rfl rfl)
theorem dX0_goes_152 : decode cX0_goes 152 = .ok (.return_, 1) := dk_177 (dk_at dksX0_goes_6 12 rfl rfl)
abbrev cX0_nextAt : ByteArray := prog_1_method_39_code
def yX0_nextAt : MethodName := ⟨RX0, "nextAt", "(II)I"⟩
def dkwX0_nextAt_3 : List UInt8 := [154, 0, 13, 16, 64, 21, 4, 104, 29, 96, 167, 0, 4, 2, 172]
abbrev dktX0_nextAt_3 : List UInt8 := dkwX0_nextAt_3 ++ []
def dkwX0_nextAt_2 : List UInt8 := [4, 167, 0, 4, 3, 54, 5, 21, 5, 153, 0, 27, 42, 16, 64, 21, 4, 104, 29, 96, 182, 0, 26]
abbrev dktX0_nextAt_2 : List UInt8 := dkwX0_nextAt_2 ++ dktX0_nextAt_3
def dkwX0_nextAt_1 : List UInt8 := [133, 9, 20, 1, 100, 184, 0, 5, 153, 0, 20, 21, 4, 133, 9, 20, 1, 100, 184, 0, 5, 153, 0, 7]
abbrev dktX0_nextAt_1 : List UInt8 := dkwX0_nextAt_1 ++ dktX0_nextAt_2
def dkwX0_nextAt_0 : List UInt8 := [27, 16, 64, 112, 178, 1, 94, 28, 46, 96, 62, 27, 16, 64, 108, 178, 1, 97, 28, 46, 96, 54, 4, 29]
abbrev dktX0_nextAt_0 : List UInt8 := dkwX0_nextAt_0 ++ dktX0_nextAt_1
theorem dksX0_nextAt_0 : cX0_nextAt.data.toList.drop 0 = dktX0_nextAt_0 := by decide +kernel
theorem dksX0_nextAt_1 : cX0_nextAt.data.toList.drop 24 = dktX0_nextAt_1 := dk_seg dksX0_nextAt_0 24 rfl rfl
theorem dksX0_nextAt_2 : cX0_nextAt.data.toList.drop 48 = dktX0_nextAt_2 := dk_seg dksX0_nextAt_1 24 rfl rfl
theorem dksX0_nextAt_3 : cX0_nextAt.data.toList.drop 71 = dktX0_nextAt_3 := dk_seg dksX0_nextAt_2 23 rfl rfl
theorem dX0_nextAt_0 : decode cX0_nextAt 0 = .ok (.iload_n 1, 1) := dk_27 (dk_at dksX0_nextAt_0 0 rfl rfl)
theorem dX0_nextAt_1 : decode cX0_nextAt 1 = .ok (.bipush 64, 2) := dk_16 64 (dk_at dksX0_nextAt_0 1 rfl rfl)
theorem dX0_nextAt_3 : decode cX0_nextAt 3 = .ok (.irem, 1) := dk_112 (dk_at dksX0_nextAt_0 3 rfl rfl)
theorem dX0_nextAt_4 : decode cX0_nextAt 4 = .ok (.getstatic 350, 3) := dk_178 1 94 (dk_at dksX0_nextAt_0 4 rfl rfl)
theorem dX0_nextAt_7 : decode cX0_nextAt 7 = .ok (.iload_n 2, 1) := dk_28 (dk_at dksX0_nextAt_0 7 rfl rfl)
theorem dX0_nextAt_8 : decode cX0_nextAt 8 = .ok (.iaload, 1) := dk_46 (dk_at dksX0_nextAt_0 8 rfl rfl)
theorem dX0_nextAt_9 : decode cX0_nextAt 9 = .ok (.iadd, 1) := dk_96 (dk_at dksX0_nextAt_0 9 rfl rfl)
theorem dX0_nextAt_10 : decode cX0_nextAt 10 = .ok (.istore_n 3, 1) := dk_62 (dk_at dksX0_nextAt_0 10 rfl rfl)
theorem dX0_nextAt_11 : decode cX0_nextAt 11 = .ok (.iload_n 1, 1) := dk_27 (dk_at dksX0_nextAt_0 11 rfl rfl)
theorem dX0_nextAt_12 : decode cX0_nextAt 12 = .ok (.bipush 64, 2) := dk_16 64 (dk_at dksX0_nextAt_0 12 rfl rfl)
theorem dX0_nextAt_14 : decode cX0_nextAt 14 = .ok (.idiv, 1) := dk_108 (dk_at dksX0_nextAt_0 14 rfl rfl)
theorem dX0_nextAt_15 : decode cX0_nextAt 15 = .ok (.getstatic 353, 3) := dk_178 1 97 (dk_at dksX0_nextAt_0 15 rfl rfl)
theorem dX0_nextAt_18 : decode cX0_nextAt 18 = .ok (.iload_n 2, 1) := dk_28 (dk_at dksX0_nextAt_0 18 rfl rfl)
theorem dX0_nextAt_19 : decode cX0_nextAt 19 = .ok (.iaload, 1) := dk_46 (dk_at dksX0_nextAt_0 19 rfl rfl)
theorem dX0_nextAt_20 : decode cX0_nextAt 20 = .ok (.iadd, 1) := dk_96 (dk_at dksX0_nextAt_0 20 rfl rfl)
theorem dX0_nextAt_21 : decode cX0_nextAt 21 = .ok (.istore 4, 2) := dk_54 4 (dk_at dksX0_nextAt_0 21 rfl rfl)
theorem dX0_nextAt_23 : decode cX0_nextAt 23 = .ok (.iload_n 3, 1) := dk_29 (dk_at dksX0_nextAt_0 23 rfl rfl)
theorem dX0_nextAt_24 : decode cX0_nextAt 24 = .ok (.i2l, 1) := dk_133 (dk_at dksX0_nextAt_1 0 rfl rfl)
theorem dX0_nextAt_25 : decode cX0_nextAt 25 = .ok (.lconst 0, 1) := dk_9 (dk_at dksX0_nextAt_1 1 rfl rfl)
theorem dX0_nextAt_26 : decode cX0_nextAt 26 = .ok (.ldc2_w 356, 3) := dk_20 1 100 (dk_at dksX0_nextAt_1 2 rfl rfl)
theorem dX0_nextAt_29 : decode cX0_nextAt 29 = .ok (.invokestatic 5, 3) := dk_184 0 5 (dk_at dksX0_nextAt_1 5 rfl rfl)
theorem dX0_nextAt_32 : decode cX0_nextAt 32 = .ok (.ifCond .eq 20, 3) := dk_153 0 20 (dk_at dksX0_nextAt_1 8 rfl rfl)
theorem dX0_nextAt_35 : decode cX0_nextAt 35 = .ok (.iload 4, 2) := dk_21 4 (dk_at dksX0_nextAt_1 11 rfl rfl)
theorem dX0_nextAt_37 : decode cX0_nextAt 37 = .ok (.i2l, 1) := dk_133 (dk_at dksX0_nextAt_1 13 rfl rfl)
theorem dX0_nextAt_38 : decode cX0_nextAt 38 = .ok (.lconst 0, 1) := dk_9 (dk_at dksX0_nextAt_1 14 rfl rfl)
theorem dX0_nextAt_39 : decode cX0_nextAt 39 = .ok (.ldc2_w 356, 3) := dk_20 1 100 (dk_at dksX0_nextAt_1 15 rfl rfl)
theorem dX0_nextAt_42 : decode cX0_nextAt 42 = .ok (.invokestatic 5, 3) := dk_184 0 5 (dk_at dksX0_nextAt_1 18 rfl rfl)
theorem dX0_nextAt_45 : decode cX0_nextAt 45 = .ok (.ifCond .eq 7, 3) := dk_153 0 7 (dk_at dksX0_nextAt_1 21 rfl rfl)
theorem dX0_nextAt_48 : decode cX0_nextAt 48 = .ok (.iconst 1, 1) := dk_4 (dk_at dksX0_nextAt_2 0 rfl rfl)
theorem dX0_nextAt_49 : decode cX0_nextAt 49 = .ok (.goto 4, 3) := dk_167 0 4 (dk_at dksX0_nextAt_2 1 rfl rfl)
theorem dX0_nextAt_52 : decode cX0_nextAt 52 = .ok (.iconst 0, 1) := dk_3 (dk_at dksX0_nextAt_2 4 rfl rfl)
theorem dX0_nextAt_53 : decode cX0_nextAt 53 = .ok (.istore 5, 2) := dk_54 5 (dk_at dksX0_nextAt_2 5 rfl rfl)
theorem dX0_nextAt_55 : decode cX0_nextAt 55 = .ok (.iload 5, 2) := dk_21 5 (dk_at dksX0_nextAt_2 7 rfl rfl)
theorem dX0_nextAt_57 : decode cX0_nextAt 57 = .ok (.ifCond .eq 27, 3) := dk_153 0 27 (dk_at dksX0_nextAt_2 9 rfl rfl)
theorem dX0_nextAt_60 : decode cX0_nextAt 60 = .ok (.aload_n 0, 1) := dk_42 (dk_at dksX0_nextAt_2 12 rfl rfl)
theorem dX0_nextAt_61 : decode cX0_nextAt 61 = .ok (.bipush 64, 2) := dk_16 64 (dk_at dksX0_nextAt_2 13 rfl rfl)
theorem dX0_nextAt_63 : decode cX0_nextAt 63 = .ok (.iload 4, 2) := dk_21 4 (dk_at dksX0_nextAt_2 15 rfl rfl)
theorem dX0_nextAt_65 : decode cX0_nextAt 65 = .ok (.imul, 1) := dk_104 (dk_at dksX0_nextAt_2 17 rfl rfl)
theorem dX0_nextAt_66 : decode cX0_nextAt 66 = .ok (.iload_n 3, 1) := dk_29 (dk_at dksX0_nextAt_2 18 rfl rfl)
theorem dX0_nextAt_67 : decode cX0_nextAt 67 = .ok (.iadd, 1) := dk_96 (dk_at dksX0_nextAt_2 19 rfl rfl)
theorem dX0_nextAt_68 : decode cX0_nextAt 68 = .ok (.invokevirtual 26, 3) := dk_182 0 26 (dk_at dksX0_nextAt_2 20 rfl rfl)
theorem dX0_nextAt_71 : decode cX0_nextAt 71 = .ok (.ifCond .ne 13, 3) := dk_154 0 13 (dk_at dksX0_nextAt_3 0 rfl rfl)
theorem dX0_nextAt_74 : decode cX0_nextAt 74 = .ok (.bipush 64, 2) := dk_16 64 (dk_at dksX0_nextAt_3 3 rfl rfl)
theorem dX0_nextAt_76 : decode cX0_nextAt 76 = .ok (.iload 4, 2) := dk_21 4 (dk_at dksX0_nextAt_3 5 rfl rfl)
theorem dX0_nextAt_78 : decode cX0_nextAt 78 = .ok (.imul, 1) := dk_104 (dk_at dksX0_nextAt_3 7 rfl rfl)
theorem dX0_nextAt_79 : decode cX0_nextAt 79 = .ok (.iload_n 3, 1) := dk_29 (dk_at dksX0_nextAt_3 8 rfl rfl)
theorem dX0_nextAt_80 : decode cX0_nextAt 80 = .ok (.iadd, 1) := dk_96 (dk_at dksX0_nextAt_3 9 rfl rfl)
theorem dX0_nextAt_81 : decode cX0_nextAt 81 = .ok (.goto 4, 3) := dk_167 0 4 (dk_at dksX0_nextAt_3 10 rfl rfl)
theorem dX0_nextAt_84 : decode cX0_nextAt 84 = .ok (.iconst (-1), 1) := dk_2 (dk_at dksX0_nextAt_3 13 rfl rfl)
theorem dX0_nextAt_85 : decode cX0_nextAt 85 = .ok (.ireturn, 1) := dk_172 (dk_at dksX0_nextAt_3 14 rfl rfl)
abbrev cX0_laysBack : ByteArray := prog_1_method_43_code
def yX0_laysBack : MethodName := ⟨RX0, "laysBack", "()V"⟩
def dkwX0_laysBack_0 : List UInt8 := [42, 180, 1, 20, 3, 42, 180, 0, 16, 3, 16, 10, 184, 1, 112, 177]
abbrev dktX0_laysBack_0 : List UInt8 := dkwX0_laysBack_0 ++ []
theorem dksX0_laysBack_0 : cX0_laysBack.data.toList.drop 0 = dktX0_laysBack_0 := by decide +kernel
theorem dX0_laysBack_0 : decode cX0_laysBack 0 = .ok (.aload_n 0, 1) := dk_42 (dk_at dksX0_laysBack_0 0 rfl rfl)
theorem dX0_laysBack_1 : decode cX0_laysBack 1 = .ok (.getfield 276, 3) := dk_180 1 20 (dk_at dksX0_laysBack_0 1 rfl rfl)
theorem dX0_laysBack_4 : decode cX0_laysBack 4 = .ok (.iconst 0, 1) := dk_3 (dk_at dksX0_laysBack_0 4 rfl rfl)
theorem dX0_laysBack_5 : decode cX0_laysBack 5 = .ok (.aload_n 0, 1) := dk_42 (dk_at dksX0_laysBack_0 5 rfl rfl)
theorem dX0_laysBack_6 : decode cX0_laysBack 6 = .ok (.getfield 16, 3) := dk_180 0 16 (dk_at dksX0_laysBack_0 6 rfl rfl)
theorem dX0_laysBack_9 : decode cX0_laysBack 9 = .ok (.iconst 0, 1) := dk_3 (dk_at dksX0_laysBack_0 9 rfl rfl)
theorem dX0_laysBack_10 : decode cX0_laysBack 10 = .ok (.bipush 10, 2) := dk_16 10 (dk_at dksX0_laysBack_0 10 rfl rfl)
theorem dX0_laysBack_12 : decode cX0_laysBack 12 = .ok (.invokestatic 368, 3) := dk_184 1 112 (dk_at dksX0_laysBack_0 12 rfl rfl)
theorem dX0_laysBack_15 : decode cX0_laysBack 15 = .ok (.return_, 1) := dk_177 (dk_at dksX0_laysBack_0 15 rfl rfl)
abbrev cX0_lay : ByteArray := prog_1_method_46_code
def yX0_lay : MethodName := ⟨RX0, "lay", "(II)I"⟩
def dkwX0_lay_2 : List UInt8 := [162, 0, 19, 29, 42, 180, 1, 23, 21, 4, 46, 96, 62, 132, 4, 1, 167, 255, 234, 29, 172]
abbrev dktX0_lay_2 : List UInt8 := dkwX0_lay_2 ++ []
def dkwX0_lay_1 : List UInt8 := [27, 50, 28, 16, 100, 108, 28, 16, 100, 112, 182, 1, 124, 3, 62, 3, 54, 4, 21, 4, 42, 180, 0, 9]
abbrev dktX0_lay_1 : List UInt8 := dkwX0_lay_1 ++ dktX0_lay_2
def dkwX0_lay_0 : List UInt8 := [42, 27, 182, 0, 83, 153, 0, 11, 42, 28, 182, 1, 118, 154, 0, 6, 16, 254, 172, 42, 42, 180, 0, 75]
abbrev dktX0_lay_0 : List UInt8 := dkwX0_lay_0 ++ dktX0_lay_1
theorem dksX0_lay_0 : cX0_lay.data.toList.drop 0 = dktX0_lay_0 := by decide +kernel
theorem dksX0_lay_1 : cX0_lay.data.toList.drop 24 = dktX0_lay_1 := dk_seg dksX0_lay_0 24 rfl rfl
theorem dksX0_lay_2 : cX0_lay.data.toList.drop 48 = dktX0_lay_2 := dk_seg dksX0_lay_1 24 rfl rfl
theorem dX0_lay_0 : decode cX0_lay 0 = .ok (.aload_n 0, 1) := dk_42 (dk_at dksX0_lay_0 0 rfl rfl)
theorem dX0_lay_1 : decode cX0_lay 1 = .ok (.iload_n 1, 1) := dk_27 (dk_at dksX0_lay_0 1 rfl rfl)
theorem dX0_lay_2 : decode cX0_lay 2 = .ok (.invokevirtual 83, 3) := dk_182 0 83 (dk_at dksX0_lay_0 2 rfl rfl)
theorem dX0_lay_5 : decode cX0_lay 5 = .ok (.ifCond .eq 11, 3) := dk_153 0 11 (dk_at dksX0_lay_0 5 rfl rfl)
theorem dX0_lay_8 : decode cX0_lay 8 = .ok (.aload_n 0, 1) := dk_42 (dk_at dksX0_lay_0 8 rfl rfl)
theorem dX0_lay_9 : decode cX0_lay 9 = .ok (.iload_n 2, 1) := dk_28 (dk_at dksX0_lay_0 9 rfl rfl)
theorem dX0_lay_10 : decode cX0_lay 10 = .ok (.invokevirtual 374, 3) := dk_182 1 118 (dk_at dksX0_lay_0 10 rfl rfl)
theorem dX0_lay_13 : decode cX0_lay 13 = .ok (.ifCond .ne 6, 3) := dk_154 0 6 (dk_at dksX0_lay_0 13 rfl rfl)
theorem dX0_lay_16 : decode cX0_lay 16 = .ok (.bipush (-2), 2) := dk_16 254 (dk_at dksX0_lay_0 16 rfl rfl)
theorem dX0_lay_18 : decode cX0_lay 18 = .ok (.ireturn, 1) := dk_172 (dk_at dksX0_lay_0 18 rfl rfl)
theorem dX0_lay_19 : decode cX0_lay 19 = .ok (.aload_n 0, 1) := dk_42 (dk_at dksX0_lay_0 19 rfl rfl)
theorem dX0_lay_20 : decode cX0_lay 20 = .ok (.aload_n 0, 1) := dk_42 (dk_at dksX0_lay_0 20 rfl rfl)
theorem dX0_lay_21 : decode cX0_lay 21 = .ok (.getfield 75, 3) := dk_180 0 75 (dk_at dksX0_lay_0 21 rfl rfl)
theorem dX0_lay_24 : decode cX0_lay 24 = .ok (.iload_n 1, 1) := dk_27 (dk_at dksX0_lay_1 0 rfl rfl)
theorem dX0_lay_25 : decode cX0_lay 25 = .ok (.aaload, 1) := dk_50 (dk_at dksX0_lay_1 1 rfl rfl)
theorem dX0_lay_26 : decode cX0_lay 26 = .ok (.iload_n 2, 1) := dk_28 (dk_at dksX0_lay_1 2 rfl rfl)
theorem dX0_lay_27 : decode cX0_lay 27 = .ok (.bipush 100, 2) := dk_16 100 (dk_at dksX0_lay_1 3 rfl rfl)
theorem dX0_lay_29 : decode cX0_lay 29 = .ok (.idiv, 1) := dk_108 (dk_at dksX0_lay_1 5 rfl rfl)
theorem dX0_lay_30 : decode cX0_lay 30 = .ok (.iload_n 2, 1) := dk_28 (dk_at dksX0_lay_1 6 rfl rfl)
theorem dX0_lay_31 : decode cX0_lay 31 = .ok (.bipush 100, 2) := dk_16 100 (dk_at dksX0_lay_1 7 rfl rfl)
theorem dX0_lay_33 : decode cX0_lay 33 = .ok (.irem, 1) := dk_112 (dk_at dksX0_lay_1 9 rfl rfl)
theorem dX0_lay_34 : decode cX0_lay 34 = .ok (.invokevirtual 380, 3) := dk_182 1 124 (dk_at dksX0_lay_1 10 rfl rfl)
theorem dX0_lay_37 : decode cX0_lay 37 = .ok (.iconst 0, 1) := dk_3 (dk_at dksX0_lay_1 13 rfl rfl)
theorem dX0_lay_38 : decode cX0_lay 38 = .ok (.istore_n 3, 1) := dk_62 (dk_at dksX0_lay_1 14 rfl rfl)
theorem dX0_lay_39 : decode cX0_lay 39 = .ok (.iconst 0, 1) := dk_3 (dk_at dksX0_lay_1 15 rfl rfl)
theorem dX0_lay_40 : decode cX0_lay 40 = .ok (.istore 4, 2) := dk_54 4 (dk_at dksX0_lay_1 16 rfl rfl)
theorem dX0_lay_42 : decode cX0_lay 42 = .ok (.iload 4, 2) := dk_21 4 (dk_at dksX0_lay_1 18 rfl rfl)
theorem dX0_lay_44 : decode cX0_lay 44 = .ok (.aload_n 0, 1) := dk_42 (dk_at dksX0_lay_1 20 rfl rfl)
theorem dX0_lay_45 : decode cX0_lay 45 = .ok (.getfield 9, 3) := dk_180 0 9 (dk_at dksX0_lay_1 21 rfl rfl)
theorem dX0_lay_48 : decode cX0_lay 48 = .ok (.if_icmp .ge 19, 3) := dk_162 0 19 (dk_at dksX0_lay_2 0 rfl rfl)
theorem dX0_lay_51 : decode cX0_lay 51 = .ok (.iload_n 3, 1) := dk_29 (dk_at dksX0_lay_2 3 rfl rfl)
theorem dX0_lay_52 : decode cX0_lay 52 = .ok (.aload_n 0, 1) := dk_42 (dk_at dksX0_lay_2 4 rfl rfl)
theorem dX0_lay_53 : decode cX0_lay 53 = .ok (.getfield 279, 3) := dk_180 1 23 (dk_at dksX0_lay_2 5 rfl rfl)
theorem dX0_lay_56 : decode cX0_lay 56 = .ok (.iload 4, 2) := dk_21 4 (dk_at dksX0_lay_2 8 rfl rfl)
theorem dX0_lay_58 : decode cX0_lay 58 = .ok (.iaload, 1) := dk_46 (dk_at dksX0_lay_2 10 rfl rfl)
theorem dX0_lay_59 : decode cX0_lay 59 = .ok (.iadd, 1) := dk_96 (dk_at dksX0_lay_2 11 rfl rfl)
theorem dX0_lay_60 : decode cX0_lay 60 = .ok (.istore_n 3, 1) := dk_62 (dk_at dksX0_lay_2 12 rfl rfl)
theorem dX0_lay_61 : decode cX0_lay 61 = .ok (.iinc 4 1, 3) := dk_132 4 1 (dk_at dksX0_lay_2 13 rfl rfl)
theorem dX0_lay_64 : decode cX0_lay 64 = .ok (.goto (-22), 3) := dk_167 255 234 (dk_at dksX0_lay_2 16 rfl rfl)
theorem dX0_lay_67 : decode cX0_lay 67 = .ok (.iload_n 3, 1) := dk_29 (dk_at dksX0_lay_2 19 rfl rfl)
theorem dX0_lay_68 : decode cX0_lay 68 = .ok (.ireturn, 1) := dk_172 (dk_at dksX0_lay_2 20 rfl rfl)
abbrev cX0_track : ByteArray := prog_1_method_48_code
def yX0_track : MethodName := ⟨RX0, "track", "(III)I"⟩
def dkwX0_track_3 : List UInt8 := [42, 180, 1, 130, 29, 79, 42, 89, 180, 1, 130, 4, 96, 181, 1, 130, 42, 180, 1, 130, 4, 100, 172]
abbrev dktX0_track_3 : List UInt8 := dkwX0_track_3 ++ []
def dkwX0_track_2 : List UInt8 := [42, 180, 1, 32, 42, 180, 1, 130, 27, 79, 42, 180, 1, 35, 42, 180, 1, 130, 28, 79, 42, 180, 1, 38]
abbrev dktX0_track_2 : List UInt8 := dkwX0_track_2 ++ dktX0_track_3
def dkwX0_track_1 : List UInt8 := [20, 0, 20, 184, 0, 5, 154, 0, 6, 16, 254, 172, 42, 180, 1, 130, 16, 24, 160, 0, 6, 16, 252, 172]
abbrev dktX0_track_1 : List UInt8 := dkwX0_track_1 ++ dktX0_track_2
def dkwX0_track_0 : List UInt8 := [42, 27, 182, 0, 44, 153, 0, 27, 28, 133, 9, 20, 1, 133, 184, 0, 5, 153, 0, 15, 29, 133, 9]
abbrev dktX0_track_0 : List UInt8 := dkwX0_track_0 ++ dktX0_track_1
theorem dksX0_track_0 : cX0_track.data.toList.drop 0 = dktX0_track_0 := by decide +kernel
theorem dksX0_track_1 : cX0_track.data.toList.drop 23 = dktX0_track_1 := dk_seg dksX0_track_0 23 rfl rfl
theorem dksX0_track_2 : cX0_track.data.toList.drop 47 = dktX0_track_2 := dk_seg dksX0_track_1 24 rfl rfl
theorem dksX0_track_3 : cX0_track.data.toList.drop 71 = dktX0_track_3 := dk_seg dksX0_track_2 24 rfl rfl
theorem dX0_track_0 : decode cX0_track 0 = .ok (.aload_n 0, 1) := dk_42 (dk_at dksX0_track_0 0 rfl rfl)
theorem dX0_track_1 : decode cX0_track 1 = .ok (.iload_n 1, 1) := dk_27 (dk_at dksX0_track_0 1 rfl rfl)
theorem dX0_track_2 : decode cX0_track 2 = .ok (.invokevirtual 44, 3) := dk_182 0 44 (dk_at dksX0_track_0 2 rfl rfl)
theorem dX0_track_5 : decode cX0_track 5 = .ok (.ifCond .eq 27, 3) := dk_153 0 27 (dk_at dksX0_track_0 5 rfl rfl)
theorem dX0_track_8 : decode cX0_track 8 = .ok (.iload_n 2, 1) := dk_28 (dk_at dksX0_track_0 8 rfl rfl)
theorem dX0_track_9 : decode cX0_track 9 = .ok (.i2l, 1) := dk_133 (dk_at dksX0_track_0 9 rfl rfl)
theorem dX0_track_10 : decode cX0_track 10 = .ok (.lconst 0, 1) := dk_9 (dk_at dksX0_track_0 10 rfl rfl)
theorem dX0_track_11 : decode cX0_track 11 = .ok (.ldc2_w 389, 3) := dk_20 1 133 (dk_at dksX0_track_0 11 rfl rfl)
theorem dX0_track_14 : decode cX0_track 14 = .ok (.invokestatic 5, 3) := dk_184 0 5 (dk_at dksX0_track_0 14 rfl rfl)
theorem dX0_track_17 : decode cX0_track 17 = .ok (.ifCond .eq 15, 3) := dk_153 0 15 (dk_at dksX0_track_0 17 rfl rfl)
theorem dX0_track_20 : decode cX0_track 20 = .ok (.iload_n 3, 1) := dk_29 (dk_at dksX0_track_0 20 rfl rfl)
theorem dX0_track_21 : decode cX0_track 21 = .ok (.i2l, 1) := dk_133 (dk_at dksX0_track_0 21 rfl rfl)
theorem dX0_track_22 : decode cX0_track 22 = .ok (.lconst 0, 1) := dk_9 (dk_at dksX0_track_0 22 rfl rfl)
theorem dX0_track_23 : decode cX0_track 23 = .ok (.ldc2_w 20, 3) := dk_20 0 20 (dk_at dksX0_track_1 0 rfl rfl)
theorem dX0_track_26 : decode cX0_track 26 = .ok (.invokestatic 5, 3) := dk_184 0 5 (dk_at dksX0_track_1 3 rfl rfl)
theorem dX0_track_29 : decode cX0_track 29 = .ok (.ifCond .ne 6, 3) := dk_154 0 6 (dk_at dksX0_track_1 6 rfl rfl)
theorem dX0_track_32 : decode cX0_track 32 = .ok (.bipush (-2), 2) := dk_16 254 (dk_at dksX0_track_1 9 rfl rfl)
theorem dX0_track_34 : decode cX0_track 34 = .ok (.ireturn, 1) := dk_172 (dk_at dksX0_track_1 11 rfl rfl)
theorem dX0_track_35 : decode cX0_track 35 = .ok (.aload_n 0, 1) := dk_42 (dk_at dksX0_track_1 12 rfl rfl)
theorem dX0_track_36 : decode cX0_track 36 = .ok (.getfield 386, 3) := dk_180 1 130 (dk_at dksX0_track_1 13 rfl rfl)
theorem dX0_track_39 : decode cX0_track 39 = .ok (.bipush 24, 2) := dk_16 24 (dk_at dksX0_track_1 16 rfl rfl)
theorem dX0_track_41 : decode cX0_track 41 = .ok (.if_icmp .ne 6, 3) := dk_160 0 6 (dk_at dksX0_track_1 18 rfl rfl)
theorem dX0_track_44 : decode cX0_track 44 = .ok (.bipush (-4), 2) := dk_16 252 (dk_at dksX0_track_1 21 rfl rfl)
theorem dX0_track_46 : decode cX0_track 46 = .ok (.ireturn, 1) := dk_172 (dk_at dksX0_track_1 23 rfl rfl)
theorem dX0_track_47 : decode cX0_track 47 = .ok (.aload_n 0, 1) := dk_42 (dk_at dksX0_track_2 0 rfl rfl)
theorem dX0_track_48 : decode cX0_track 48 = .ok (.getfield 288, 3) := dk_180 1 32 (dk_at dksX0_track_2 1 rfl rfl)
theorem dX0_track_51 : decode cX0_track 51 = .ok (.aload_n 0, 1) := dk_42 (dk_at dksX0_track_2 4 rfl rfl)
theorem dX0_track_52 : decode cX0_track 52 = .ok (.getfield 386, 3) := dk_180 1 130 (dk_at dksX0_track_2 5 rfl rfl)
theorem dX0_track_55 : decode cX0_track 55 = .ok (.iload_n 1, 1) := dk_27 (dk_at dksX0_track_2 8 rfl rfl)
theorem dX0_track_56 : decode cX0_track 56 = .ok (.iastore, 1) := dk_79 (dk_at dksX0_track_2 9 rfl rfl)
theorem dX0_track_57 : decode cX0_track 57 = .ok (.aload_n 0, 1) := dk_42 (dk_at dksX0_track_2 10 rfl rfl)
theorem dX0_track_58 : decode cX0_track 58 = .ok (.getfield 291, 3) := dk_180 1 35 (dk_at dksX0_track_2 11 rfl rfl)
theorem dX0_track_61 : decode cX0_track 61 = .ok (.aload_n 0, 1) := dk_42 (dk_at dksX0_track_2 14 rfl rfl)
theorem dX0_track_62 : decode cX0_track 62 = .ok (.getfield 386, 3) := dk_180 1 130 (dk_at dksX0_track_2 15 rfl rfl)
theorem dX0_track_65 : decode cX0_track 65 = .ok (.iload_n 2, 1) := dk_28 (dk_at dksX0_track_2 18 rfl rfl)
theorem dX0_track_66 : decode cX0_track 66 = .ok (.iastore, 1) := dk_79 (dk_at dksX0_track_2 19 rfl rfl)
theorem dX0_track_67 : decode cX0_track 67 = .ok (.aload_n 0, 1) := dk_42 (dk_at dksX0_track_2 20 rfl rfl)
theorem dX0_track_68 : decode cX0_track 68 = .ok (.getfield 294, 3) := dk_180 1 38 (dk_at dksX0_track_2 21 rfl rfl)
theorem dX0_track_71 : decode cX0_track 71 = .ok (.aload_n 0, 1) := dk_42 (dk_at dksX0_track_3 0 rfl rfl)
theorem dX0_track_72 : decode cX0_track 72 = .ok (.getfield 386, 3) := dk_180 1 130 (dk_at dksX0_track_3 1 rfl rfl)
theorem dX0_track_75 : decode cX0_track 75 = .ok (.iload_n 3, 1) := dk_29 (dk_at dksX0_track_3 4 rfl rfl)
theorem dX0_track_76 : decode cX0_track 76 = .ok (.iastore, 1) := dk_79 (dk_at dksX0_track_3 5 rfl rfl)
theorem dX0_track_77 : decode cX0_track 77 = .ok (.aload_n 0, 1) := dk_42 (dk_at dksX0_track_3 6 rfl rfl)
theorem dX0_track_78 : decode cX0_track 78 = .ok (.dup, 1) := dk_89 (dk_at dksX0_track_3 7 rfl rfl)
theorem dX0_track_79 : decode cX0_track 79 = .ok (.getfield 386, 3) := dk_180 1 130 (dk_at dksX0_track_3 8 rfl rfl)
theorem dX0_track_82 : decode cX0_track 82 = .ok (.iconst 1, 1) := dk_4 (dk_at dksX0_track_3 11 rfl rfl)
theorem dX0_track_83 : decode cX0_track 83 = .ok (.iadd, 1) := dk_96 (dk_at dksX0_track_3 12 rfl rfl)
theorem dX0_track_84 : decode cX0_track 84 = .ok (.putfield 386, 3) := dk_181 1 130 (dk_at dksX0_track_3 13 rfl rfl)
theorem dX0_track_87 : decode cX0_track 87 = .ok (.aload_n 0, 1) := dk_42 (dk_at dksX0_track_3 16 rfl rfl)
theorem dX0_track_88 : decode cX0_track 88 = .ok (.getfield 386, 3) := dk_180 1 130 (dk_at dksX0_track_3 17 rfl rfl)
theorem dX0_track_91 : decode cX0_track 91 = .ok (.iconst 1, 1) := dk_4 (dk_at dksX0_track_3 20 rfl rfl)
theorem dX0_track_92 : decode cX0_track 92 = .ok (.isub, 1) := dk_100 (dk_at dksX0_track_3 21 rfl rfl)
theorem dX0_track_93 : decode cX0_track 93 = .ok (.ireturn, 1) := dk_172 (dk_at dksX0_track_3 22 rfl rfl)
abbrev cX0_together : ByteArray := prog_1_method_50_code
def yX0_together : MethodName := ⟨RX0, "together", "(III)I"⟩
def dkwX0_together_2 : List UInt8 := [167, 0, 4, 3, 172]
abbrev dktX0_together_2 : List UInt8 := dkwX0_together_2 ++ []
def dkwX0_together_1 : List UInt8 := [20, 0, 20, 184, 0, 5, 154, 0, 6, 16, 254, 172, 42, 27, 28, 29, 182, 1, 141, 153, 0, 7, 4]
abbrev dktX0_together_1 : List UInt8 := dkwX0_together_1 ++ dktX0_together_2
def dkwX0_together_0 : List UInt8 := [42, 27, 182, 1, 138, 153, 0, 28, 42, 28, 182, 1, 138, 153, 0, 20, 27, 28, 159, 0, 15, 29, 133, 9]
abbrev dktX0_together_0 : List UInt8 := dkwX0_together_0 ++ dktX0_together_1
theorem dksX0_together_0 : cX0_together.data.toList.drop 0 = dktX0_together_0 := by decide +kernel
theorem dksX0_together_1 : cX0_together.data.toList.drop 24 = dktX0_together_1 := dk_seg dksX0_together_0 24 rfl rfl
theorem dksX0_together_2 : cX0_together.data.toList.drop 47 = dktX0_together_2 := dk_seg dksX0_together_1 23 rfl rfl
theorem dX0_together_0 : decode cX0_together 0 = .ok (.aload_n 0, 1) := dk_42 (dk_at dksX0_together_0 0 rfl rfl)
theorem dX0_together_1 : decode cX0_together 1 = .ok (.iload_n 1, 1) := dk_27 (dk_at dksX0_together_0 1 rfl rfl)
theorem dX0_together_2 : decode cX0_together 2 = .ok (.invokevirtual 394, 3) := dk_182 1 138 (dk_at dksX0_together_0 2 rfl rfl)
theorem dX0_together_5 : decode cX0_together 5 = .ok (.ifCond .eq 28, 3) := dk_153 0 28 (dk_at dksX0_together_0 5 rfl rfl)
theorem dX0_together_8 : decode cX0_together 8 = .ok (.aload_n 0, 1) := dk_42 (dk_at dksX0_together_0 8 rfl rfl)
theorem dX0_together_9 : decode cX0_together 9 = .ok (.iload_n 2, 1) := dk_28 (dk_at dksX0_together_0 9 rfl rfl)
theorem dX0_together_10 : decode cX0_together 10 = .ok (.invokevirtual 394, 3) := dk_182 1 138 (dk_at dksX0_together_0 10 rfl rfl)
theorem dX0_together_13 : decode cX0_together 13 = .ok (.ifCond .eq 20, 3) := dk_153 0 20 (dk_at dksX0_together_0 13 rfl rfl)
theorem dX0_together_16 : decode cX0_together 16 = .ok (.iload_n 1, 1) := dk_27 (dk_at dksX0_together_0 16 rfl rfl)
theorem dX0_together_17 : decode cX0_together 17 = .ok (.iload_n 2, 1) := dk_28 (dk_at dksX0_together_0 17 rfl rfl)
theorem dX0_together_18 : decode cX0_together 18 = .ok (.if_icmp .eq 15, 3) := dk_159 0 15 (dk_at dksX0_together_0 18 rfl rfl)
theorem dX0_together_21 : decode cX0_together 21 = .ok (.iload_n 3, 1) := dk_29 (dk_at dksX0_together_0 21 rfl rfl)
theorem dX0_together_22 : decode cX0_together 22 = .ok (.i2l, 1) := dk_133 (dk_at dksX0_together_0 22 rfl rfl)
theorem dX0_together_23 : decode cX0_together 23 = .ok (.lconst 0, 1) := dk_9 (dk_at dksX0_together_0 23 rfl rfl)
theorem dX0_together_24 : decode cX0_together 24 = .ok (.ldc2_w 20, 3) := dk_20 0 20 (dk_at dksX0_together_1 0 rfl rfl)
theorem dX0_together_27 : decode cX0_together 27 = .ok (.invokestatic 5, 3) := dk_184 0 5 (dk_at dksX0_together_1 3 rfl rfl)
theorem dX0_together_30 : decode cX0_together 30 = .ok (.ifCond .ne 6, 3) := dk_154 0 6 (dk_at dksX0_together_1 6 rfl rfl)
theorem dX0_together_33 : decode cX0_together 33 = .ok (.bipush (-2), 2) := dk_16 254 (dk_at dksX0_together_1 9 rfl rfl)
theorem dX0_together_35 : decode cX0_together 35 = .ok (.ireturn, 1) := dk_172 (dk_at dksX0_together_1 11 rfl rfl)
theorem dX0_together_36 : decode cX0_together 36 = .ok (.aload_n 0, 1) := dk_42 (dk_at dksX0_together_1 12 rfl rfl)
theorem dX0_together_37 : decode cX0_together 37 = .ok (.iload_n 1, 1) := dk_27 (dk_at dksX0_together_1 13 rfl rfl)
theorem dX0_together_38 : decode cX0_together 38 = .ok (.iload_n 2, 1) := dk_28 (dk_at dksX0_together_1 14 rfl rfl)
theorem dX0_together_39 : decode cX0_together 39 = .ok (.iload_n 3, 1) := dk_29 (dk_at dksX0_together_1 15 rfl rfl)
theorem dX0_together_40 : decode cX0_together 40 = .ok (.invokevirtual 397, 3) := dk_182 1 141 (dk_at dksX0_together_1 16 rfl rfl)
theorem dX0_together_43 : decode cX0_together 43 = .ok (.ifCond .eq 7, 3) := dk_153 0 7 (dk_at dksX0_together_1 19 rfl rfl)
theorem dX0_together_46 : decode cX0_together 46 = .ok (.iconst 1, 1) := dk_4 (dk_at dksX0_together_1 22 rfl rfl)
theorem dX0_together_47 : decode cX0_together 47 = .ok (.goto 4, 3) := dk_167 0 4 (dk_at dksX0_together_2 0 rfl rfl)
theorem dX0_together_50 : decode cX0_together 50 = .ok (.iconst 0, 1) := dk_3 (dk_at dksX0_together_2 3 rfl rfl)
theorem dX0_together_51 : decode cX0_together 51 = .ok (.ireturn, 1) := dk_172 (dk_at dksX0_together_2 4 rfl rfl)
abbrev cX0_isTrack : ByteArray := prog_1_method_47_code
def yX0_isTrack : MethodName := ⟨RX0, "isTrack", "(I)Z"⟩
def dkwX0_isTrack_0 : List UInt8 := [27, 133, 9, 42, 180, 1, 130, 4, 100, 133, 184, 0, 5, 172]
abbrev dktX0_isTrack_0 : List UInt8 := dkwX0_isTrack_0 ++ []
theorem dksX0_isTrack_0 : cX0_isTrack.data.toList.drop 0 = dktX0_isTrack_0 := by decide +kernel
theorem dX0_isTrack_0 : decode cX0_isTrack 0 = .ok (.iload_n 1, 1) := dk_27 (dk_at dksX0_isTrack_0 0 rfl rfl)
theorem dX0_isTrack_1 : decode cX0_isTrack 1 = .ok (.i2l, 1) := dk_133 (dk_at dksX0_isTrack_0 1 rfl rfl)
theorem dX0_isTrack_2 : decode cX0_isTrack 2 = .ok (.lconst 0, 1) := dk_9 (dk_at dksX0_isTrack_0 2 rfl rfl)
theorem dX0_isTrack_3 : decode cX0_isTrack 3 = .ok (.aload_n 0, 1) := dk_42 (dk_at dksX0_isTrack_0 3 rfl rfl)
theorem dX0_isTrack_4 : decode cX0_isTrack 4 = .ok (.getfield 386, 3) := dk_180 1 130 (dk_at dksX0_isTrack_0 4 rfl rfl)
theorem dX0_isTrack_7 : decode cX0_isTrack 7 = .ok (.iconst 1, 1) := dk_4 (dk_at dksX0_isTrack_0 7 rfl rfl)
theorem dX0_isTrack_8 : decode cX0_isTrack 8 = .ok (.isub, 1) := dk_100 (dk_at dksX0_isTrack_0 8 rfl rfl)
theorem dX0_isTrack_9 : decode cX0_isTrack 9 = .ok (.i2l, 1) := dk_133 (dk_at dksX0_isTrack_0 9 rfl rfl)
theorem dX0_isTrack_10 : decode cX0_isTrack 10 = .ok (.invokestatic 5, 3) := dk_184 0 5 (dk_at dksX0_isTrack_0 10 rfl rfl)
theorem dX0_isTrack_13 : decode cX0_isTrack 13 = .ok (.ireturn, 1) := dk_172 (dk_at dksX0_isTrack_0 13 rfl rfl)
abbrev cX0_areTogether : ByteArray := prog_1_method_49_code
def yX0_areTogether : MethodName := ⟨RX0, "areTogether", "(III)Z"⟩
def dkwX0_areTogether_1 : List UInt8 := [180, 1, 35, 28, 46, 100, 184, 1, 135, 29, 163, 0, 7, 4, 167, 0, 4, 3, 172]
abbrev dktX0_areTogether_1 : List UInt8 := dkwX0_areTogether_1 ++ []
def dkwX0_areTogether_0 : List UInt8 := [42, 180, 1, 38, 27, 46, 42, 180, 1, 38, 28, 46, 160, 0, 27, 42, 180, 1, 35, 27, 46, 42]
abbrev dktX0_areTogether_0 : List UInt8 := dkwX0_areTogether_0 ++ dktX0_areTogether_1
theorem dksX0_areTogether_0 : cX0_areTogether.data.toList.drop 0 = dktX0_areTogether_0 := by decide +kernel
theorem dksX0_areTogether_1 : cX0_areTogether.data.toList.drop 22 = dktX0_areTogether_1 := dk_seg dksX0_areTogether_0 22 rfl rfl
theorem dX0_areTogether_0 : decode cX0_areTogether 0 = .ok (.aload_n 0, 1) := dk_42 (dk_at dksX0_areTogether_0 0 rfl rfl)
theorem dX0_areTogether_1 : decode cX0_areTogether 1 = .ok (.getfield 294, 3) := dk_180 1 38 (dk_at dksX0_areTogether_0 1 rfl rfl)
theorem dX0_areTogether_4 : decode cX0_areTogether 4 = .ok (.iload_n 1, 1) := dk_27 (dk_at dksX0_areTogether_0 4 rfl rfl)
theorem dX0_areTogether_5 : decode cX0_areTogether 5 = .ok (.iaload, 1) := dk_46 (dk_at dksX0_areTogether_0 5 rfl rfl)
theorem dX0_areTogether_6 : decode cX0_areTogether 6 = .ok (.aload_n 0, 1) := dk_42 (dk_at dksX0_areTogether_0 6 rfl rfl)
theorem dX0_areTogether_7 : decode cX0_areTogether 7 = .ok (.getfield 294, 3) := dk_180 1 38 (dk_at dksX0_areTogether_0 7 rfl rfl)
theorem dX0_areTogether_10 : decode cX0_areTogether 10 = .ok (.iload_n 2, 1) := dk_28 (dk_at dksX0_areTogether_0 10 rfl rfl)
theorem dX0_areTogether_11 : decode cX0_areTogether 11 = .ok (.iaload, 1) := dk_46 (dk_at dksX0_areTogether_0 11 rfl rfl)
theorem dX0_areTogether_12 : decode cX0_areTogether 12 = .ok (.if_icmp .ne 27, 3) := dk_160 0 27 (dk_at dksX0_areTogether_0 12 rfl rfl)
theorem dX0_areTogether_15 : decode cX0_areTogether 15 = .ok (.aload_n 0, 1) := dk_42 (dk_at dksX0_areTogether_0 15 rfl rfl)
theorem dX0_areTogether_16 : decode cX0_areTogether 16 = .ok (.getfield 291, 3) := dk_180 1 35 (dk_at dksX0_areTogether_0 16 rfl rfl)
theorem dX0_areTogether_19 : decode cX0_areTogether 19 = .ok (.iload_n 1, 1) := dk_27 (dk_at dksX0_areTogether_0 19 rfl rfl)
theorem dX0_areTogether_20 : decode cX0_areTogether 20 = .ok (.iaload, 1) := dk_46 (dk_at dksX0_areTogether_0 20 rfl rfl)
theorem dX0_areTogether_21 : decode cX0_areTogether 21 = .ok (.aload_n 0, 1) := dk_42 (dk_at dksX0_areTogether_0 21 rfl rfl)
theorem dX0_areTogether_22 : decode cX0_areTogether 22 = .ok (.getfield 291, 3) := dk_180 1 35 (dk_at dksX0_areTogether_1 0 rfl rfl)
theorem dX0_areTogether_25 : decode cX0_areTogether 25 = .ok (.iload_n 2, 1) := dk_28 (dk_at dksX0_areTogether_1 3 rfl rfl)
theorem dX0_areTogether_26 : decode cX0_areTogether 26 = .ok (.iaload, 1) := dk_46 (dk_at dksX0_areTogether_1 4 rfl rfl)
theorem dX0_areTogether_27 : decode cX0_areTogether 27 = .ok (.isub, 1) := dk_100 (dk_at dksX0_areTogether_1 5 rfl rfl)
theorem dX0_areTogether_28 : decode cX0_areTogether 28 = .ok (.invokestatic 391, 3) := dk_184 1 135 (dk_at dksX0_areTogether_1 6 rfl rfl)
theorem dX0_areTogether_31 : decode cX0_areTogether 31 = .ok (.iload_n 3, 1) := dk_29 (dk_at dksX0_areTogether_1 9 rfl rfl)
theorem dX0_areTogether_32 : decode cX0_areTogether 32 = .ok (.if_icmp .gt 7, 3) := dk_163 0 7 (dk_at dksX0_areTogether_1 10 rfl rfl)
theorem dX0_areTogether_35 : decode cX0_areTogether 35 = .ok (.iconst 1, 1) := dk_4 (dk_at dksX0_areTogether_1 13 rfl rfl)
theorem dX0_areTogether_36 : decode cX0_areTogether 36 = .ok (.goto 4, 3) := dk_167 0 4 (dk_at dksX0_areTogether_1 14 rfl rfl)
theorem dX0_areTogether_39 : decode cX0_areTogether 39 = .ok (.iconst 0, 1) := dk_3 (dk_at dksX0_areTogether_1 17 rfl rfl)
theorem dX0_areTogether_40 : decode cX0_areTogether 40 = .ok (.ireturn, 1) := dk_172 (dk_at dksX0_areTogether_1 18 rfl rfl)
abbrev cX0_groups : ByteArray := prog_1_method_52_code
def yX0_groups : MethodName := ⟨RX0, "groups", "(I)I"⟩
def dkwX0_groups_2 : List UInt8 := [21, 4, 120, 27, 182, 1, 145, 128, 62, 132, 2, 1, 132, 4, 1, 167, 255, 216, 28, 172]
abbrev dktX0_groups_2 : List UInt8 := dkwX0_groups_2 ++ []
def dkwX0_groups_1 : List UInt8 := [42, 180, 1, 130, 162, 0, 37, 29, 21, 4, 122, 4, 126, 4, 160, 0, 6, 167, 0, 18, 29, 42, 4]
abbrev dktX0_groups_1 : List UInt8 := dkwX0_groups_1 ++ dktX0_groups_2
def dkwX0_groups_0 : List UInt8 := [27, 133, 9, 20, 0, 20, 184, 0, 5, 154, 0, 6, 16, 254, 172, 3, 61, 3, 62, 3, 54, 4, 21, 4]
abbrev dktX0_groups_0 : List UInt8 := dkwX0_groups_0 ++ dktX0_groups_1
theorem dksX0_groups_0 : cX0_groups.data.toList.drop 0 = dktX0_groups_0 := by decide +kernel
theorem dksX0_groups_1 : cX0_groups.data.toList.drop 24 = dktX0_groups_1 := dk_seg dksX0_groups_0 24 rfl rfl
theorem dksX0_groups_2 : cX0_groups.data.toList.drop 47 = dktX0_groups_2 := dk_seg dksX0_groups_1 23 rfl rfl
theorem dX0_groups_0 : decode cX0_groups 0 = .ok (.iload_n 1, 1) := dk_27 (dk_at dksX0_groups_0 0 rfl rfl)
theorem dX0_groups_1 : decode cX0_groups 1 = .ok (.i2l, 1) := dk_133 (dk_at dksX0_groups_0 1 rfl rfl)
theorem dX0_groups_2 : decode cX0_groups 2 = .ok (.lconst 0, 1) := dk_9 (dk_at dksX0_groups_0 2 rfl rfl)
theorem dX0_groups_3 : decode cX0_groups 3 = .ok (.ldc2_w 20, 3) := dk_20 0 20 (dk_at dksX0_groups_0 3 rfl rfl)
theorem dX0_groups_6 : decode cX0_groups 6 = .ok (.invokestatic 5, 3) := dk_184 0 5 (dk_at dksX0_groups_0 6 rfl rfl)
theorem dX0_groups_9 : decode cX0_groups 9 = .ok (.ifCond .ne 6, 3) := dk_154 0 6 (dk_at dksX0_groups_0 9 rfl rfl)
theorem dX0_groups_12 : decode cX0_groups 12 = .ok (.bipush (-2), 2) := dk_16 254 (dk_at dksX0_groups_0 12 rfl rfl)
theorem dX0_groups_14 : decode cX0_groups 14 = .ok (.ireturn, 1) := dk_172 (dk_at dksX0_groups_0 14 rfl rfl)
theorem dX0_groups_15 : decode cX0_groups 15 = .ok (.iconst 0, 1) := dk_3 (dk_at dksX0_groups_0 15 rfl rfl)
theorem dX0_groups_16 : decode cX0_groups 16 = .ok (.istore_n 2, 1) := dk_61 (dk_at dksX0_groups_0 16 rfl rfl)
theorem dX0_groups_17 : decode cX0_groups 17 = .ok (.iconst 0, 1) := dk_3 (dk_at dksX0_groups_0 17 rfl rfl)
theorem dX0_groups_18 : decode cX0_groups 18 = .ok (.istore_n 3, 1) := dk_62 (dk_at dksX0_groups_0 18 rfl rfl)
theorem dX0_groups_19 : decode cX0_groups 19 = .ok (.iconst 0, 1) := dk_3 (dk_at dksX0_groups_0 19 rfl rfl)
theorem dX0_groups_20 : decode cX0_groups 20 = .ok (.istore 4, 2) := dk_54 4 (dk_at dksX0_groups_0 20 rfl rfl)
theorem dX0_groups_22 : decode cX0_groups 22 = .ok (.iload 4, 2) := dk_21 4 (dk_at dksX0_groups_0 22 rfl rfl)
theorem dX0_groups_24 : decode cX0_groups 24 = .ok (.aload_n 0, 1) := dk_42 (dk_at dksX0_groups_1 0 rfl rfl)
theorem dX0_groups_25 : decode cX0_groups 25 = .ok (.getfield 386, 3) := dk_180 1 130 (dk_at dksX0_groups_1 1 rfl rfl)
theorem dX0_groups_28 : decode cX0_groups 28 = .ok (.if_icmp .ge 37, 3) := dk_162 0 37 (dk_at dksX0_groups_1 4 rfl rfl)
theorem dX0_groups_31 : decode cX0_groups 31 = .ok (.iload_n 3, 1) := dk_29 (dk_at dksX0_groups_1 7 rfl rfl)
theorem dX0_groups_32 : decode cX0_groups 32 = .ok (.iload 4, 2) := dk_21 4 (dk_at dksX0_groups_1 8 rfl rfl)
theorem dX0_groups_34 : decode cX0_groups 34 = .ok (.ishr, 1) := dk_122 (dk_at dksX0_groups_1 10 rfl rfl)
theorem dX0_groups_35 : decode cX0_groups 35 = .ok (.iconst 1, 1) := dk_4 (dk_at dksX0_groups_1 11 rfl rfl)
theorem dX0_groups_36 : decode cX0_groups 36 = .ok (.iand, 1) := dk_126 (dk_at dksX0_groups_1 12 rfl rfl)
theorem dX0_groups_37 : decode cX0_groups 37 = .ok (.iconst 1, 1) := dk_4 (dk_at dksX0_groups_1 13 rfl rfl)
theorem dX0_groups_38 : decode cX0_groups 38 = .ok (.if_icmp .ne 6, 3) := dk_160 0 6 (dk_at dksX0_groups_1 14 rfl rfl)
theorem dX0_groups_41 : decode cX0_groups 41 = .ok (.goto 18, 3) := dk_167 0 18 (dk_at dksX0_groups_1 17 rfl rfl)
theorem dX0_groups_44 : decode cX0_groups 44 = .ok (.iload_n 3, 1) := dk_29 (dk_at dksX0_groups_1 20 rfl rfl)
theorem dX0_groups_45 : decode cX0_groups 45 = .ok (.aload_n 0, 1) := dk_42 (dk_at dksX0_groups_1 21 rfl rfl)
theorem dX0_groups_46 : decode cX0_groups 46 = .ok (.iconst 1, 1) := dk_4 (dk_at dksX0_groups_1 22 rfl rfl)
theorem dX0_groups_47 : decode cX0_groups 47 = .ok (.iload 4, 2) := dk_21 4 (dk_at dksX0_groups_2 0 rfl rfl)
theorem dX0_groups_49 : decode cX0_groups 49 = .ok (.ishl, 1) := dk_120 (dk_at dksX0_groups_2 2 rfl rfl)
theorem dX0_groups_50 : decode cX0_groups 50 = .ok (.iload_n 1, 1) := dk_27 (dk_at dksX0_groups_2 3 rfl rfl)
theorem dX0_groups_51 : decode cX0_groups 51 = .ok (.invokevirtual 401, 3) := dk_182 1 145 (dk_at dksX0_groups_2 4 rfl rfl)
theorem dX0_groups_54 : decode cX0_groups 54 = .ok (.ior, 1) := dk_128 (dk_at dksX0_groups_2 7 rfl rfl)
theorem dX0_groups_55 : decode cX0_groups 55 = .ok (.istore_n 3, 1) := dk_62 (dk_at dksX0_groups_2 8 rfl rfl)
theorem dX0_groups_56 : decode cX0_groups 56 = .ok (.iinc 2 1, 3) := dk_132 2 1 (dk_at dksX0_groups_2 9 rfl rfl)
theorem dX0_groups_59 : decode cX0_groups 59 = .ok (.iinc 4 1, 3) := dk_132 4 1 (dk_at dksX0_groups_2 12 rfl rfl)
theorem dX0_groups_62 : decode cX0_groups 62 = .ok (.goto (-40), 3) := dk_167 255 216 (dk_at dksX0_groups_2 15 rfl rfl)
theorem dX0_groups_65 : decode cX0_groups 65 = .ok (.iload_n 2, 1) := dk_28 (dk_at dksX0_groups_2 18 rfl rfl)
theorem dX0_groups_66 : decode cX0_groups 66 = .ok (.ireturn, 1) := dk_172 (dk_at dksX0_groups_2 19 rfl rfl)
abbrev cX0_spreads : ByteArray := prog_1_method_51_code
def yX0_spreads : MethodName := ⟨RX0, "spreads", "(II)I"⟩
def dkwX0_spreads_3 : List UInt8 := [167, 255, 193, 29, 27, 160, 0, 7, 27, 167, 0, 9, 42, 29, 28, 182, 1, 145, 172]
abbrev dktX0_spreads_3 : List UInt8 := dkwX0_spreads_3 ++ []
def dkwX0_spreads_2 : List UInt8 := [153, 0, 10, 4, 21, 5, 120, 167, 0, 4, 3, 128, 62, 132, 5, 1, 167, 255, 211, 132, 4, 1]
abbrev dktX0_spreads_2 : List UInt8 := dkwX0_spreads_2 ++ dktX0_spreads_3
def dkwX0_spreads_1 : List UInt8 := [162, 0, 42, 27, 21, 4, 122, 4, 126, 4, 160, 0, 32, 29, 42, 21, 4, 21, 5, 28, 182, 1, 141]
abbrev dktX0_spreads_1 : List UInt8 := dkwX0_spreads_1 ++ dktX0_spreads_2
def dkwX0_spreads_0 : List UInt8 := [27, 62, 3, 54, 4, 21, 4, 42, 180, 1, 130, 162, 0, 60, 3, 54, 5, 21, 5, 42, 180, 1, 130]
abbrev dktX0_spreads_0 : List UInt8 := dkwX0_spreads_0 ++ dktX0_spreads_1
theorem dksX0_spreads_0 : cX0_spreads.data.toList.drop 0 = dktX0_spreads_0 := by decide +kernel
theorem dksX0_spreads_1 : cX0_spreads.data.toList.drop 23 = dktX0_spreads_1 := dk_seg dksX0_spreads_0 23 rfl rfl
theorem dksX0_spreads_2 : cX0_spreads.data.toList.drop 46 = dktX0_spreads_2 := dk_seg dksX0_spreads_1 23 rfl rfl
theorem dksX0_spreads_3 : cX0_spreads.data.toList.drop 68 = dktX0_spreads_3 := dk_seg dksX0_spreads_2 22 rfl rfl
theorem dX0_spreads_0 : decode cX0_spreads 0 = .ok (.iload_n 1, 1) := dk_27 (dk_at dksX0_spreads_0 0 rfl rfl)
theorem dX0_spreads_1 : decode cX0_spreads 1 = .ok (.istore_n 3, 1) := dk_62 (dk_at dksX0_spreads_0 1 rfl rfl)
theorem dX0_spreads_2 : decode cX0_spreads 2 = .ok (.iconst 0, 1) := dk_3 (dk_at dksX0_spreads_0 2 rfl rfl)
theorem dX0_spreads_3 : decode cX0_spreads 3 = .ok (.istore 4, 2) := dk_54 4 (dk_at dksX0_spreads_0 3 rfl rfl)
theorem dX0_spreads_5 : decode cX0_spreads 5 = .ok (.iload 4, 2) := dk_21 4 (dk_at dksX0_spreads_0 5 rfl rfl)
theorem dX0_spreads_7 : decode cX0_spreads 7 = .ok (.aload_n 0, 1) := dk_42 (dk_at dksX0_spreads_0 7 rfl rfl)
theorem dX0_spreads_8 : decode cX0_spreads 8 = .ok (.getfield 386, 3) := dk_180 1 130 (dk_at dksX0_spreads_0 8 rfl rfl)
theorem dX0_spreads_11 : decode cX0_spreads 11 = .ok (.if_icmp .ge 60, 3) := dk_162 0 60 (dk_at dksX0_spreads_0 11 rfl rfl)
theorem dX0_spreads_14 : decode cX0_spreads 14 = .ok (.iconst 0, 1) := dk_3 (dk_at dksX0_spreads_0 14 rfl rfl)
theorem dX0_spreads_15 : decode cX0_spreads 15 = .ok (.istore 5, 2) := dk_54 5 (dk_at dksX0_spreads_0 15 rfl rfl)
theorem dX0_spreads_17 : decode cX0_spreads 17 = .ok (.iload 5, 2) := dk_21 5 (dk_at dksX0_spreads_0 17 rfl rfl)
theorem dX0_spreads_19 : decode cX0_spreads 19 = .ok (.aload_n 0, 1) := dk_42 (dk_at dksX0_spreads_0 19 rfl rfl)
theorem dX0_spreads_20 : decode cX0_spreads 20 = .ok (.getfield 386, 3) := dk_180 1 130 (dk_at dksX0_spreads_0 20 rfl rfl)
theorem dX0_spreads_23 : decode cX0_spreads 23 = .ok (.if_icmp .ge 42, 3) := dk_162 0 42 (dk_at dksX0_spreads_1 0 rfl rfl)
theorem dX0_spreads_26 : decode cX0_spreads 26 = .ok (.iload_n 1, 1) := dk_27 (dk_at dksX0_spreads_1 3 rfl rfl)
theorem dX0_spreads_27 : decode cX0_spreads 27 = .ok (.iload 4, 2) := dk_21 4 (dk_at dksX0_spreads_1 4 rfl rfl)
theorem dX0_spreads_29 : decode cX0_spreads 29 = .ok (.ishr, 1) := dk_122 (dk_at dksX0_spreads_1 6 rfl rfl)
theorem dX0_spreads_30 : decode cX0_spreads 30 = .ok (.iconst 1, 1) := dk_4 (dk_at dksX0_spreads_1 7 rfl rfl)
theorem dX0_spreads_31 : decode cX0_spreads 31 = .ok (.iand, 1) := dk_126 (dk_at dksX0_spreads_1 8 rfl rfl)
theorem dX0_spreads_32 : decode cX0_spreads 32 = .ok (.iconst 1, 1) := dk_4 (dk_at dksX0_spreads_1 9 rfl rfl)
theorem dX0_spreads_33 : decode cX0_spreads 33 = .ok (.if_icmp .ne 32, 3) := dk_160 0 32 (dk_at dksX0_spreads_1 10 rfl rfl)
theorem dX0_spreads_36 : decode cX0_spreads 36 = .ok (.iload_n 3, 1) := dk_29 (dk_at dksX0_spreads_1 13 rfl rfl)
theorem dX0_spreads_37 : decode cX0_spreads 37 = .ok (.aload_n 0, 1) := dk_42 (dk_at dksX0_spreads_1 14 rfl rfl)
theorem dX0_spreads_38 : decode cX0_spreads 38 = .ok (.iload 4, 2) := dk_21 4 (dk_at dksX0_spreads_1 15 rfl rfl)
theorem dX0_spreads_40 : decode cX0_spreads 40 = .ok (.iload 5, 2) := dk_21 5 (dk_at dksX0_spreads_1 17 rfl rfl)
theorem dX0_spreads_42 : decode cX0_spreads 42 = .ok (.iload_n 2, 1) := dk_28 (dk_at dksX0_spreads_1 19 rfl rfl)
theorem dX0_spreads_43 : decode cX0_spreads 43 = .ok (.invokevirtual 397, 3) := dk_182 1 141 (dk_at dksX0_spreads_1 20 rfl rfl)
theorem dX0_spreads_46 : decode cX0_spreads 46 = .ok (.ifCond .eq 10, 3) := dk_153 0 10 (dk_at dksX0_spreads_2 0 rfl rfl)
theorem dX0_spreads_49 : decode cX0_spreads 49 = .ok (.iconst 1, 1) := dk_4 (dk_at dksX0_spreads_2 3 rfl rfl)
theorem dX0_spreads_50 : decode cX0_spreads 50 = .ok (.iload 5, 2) := dk_21 5 (dk_at dksX0_spreads_2 4 rfl rfl)
theorem dX0_spreads_52 : decode cX0_spreads 52 = .ok (.ishl, 1) := dk_120 (dk_at dksX0_spreads_2 6 rfl rfl)
theorem dX0_spreads_53 : decode cX0_spreads 53 = .ok (.goto 4, 3) := dk_167 0 4 (dk_at dksX0_spreads_2 7 rfl rfl)
theorem dX0_spreads_56 : decode cX0_spreads 56 = .ok (.iconst 0, 1) := dk_3 (dk_at dksX0_spreads_2 10 rfl rfl)
theorem dX0_spreads_57 : decode cX0_spreads 57 = .ok (.ior, 1) := dk_128 (dk_at dksX0_spreads_2 11 rfl rfl)
theorem dX0_spreads_58 : decode cX0_spreads 58 = .ok (.istore_n 3, 1) := dk_62 (dk_at dksX0_spreads_2 12 rfl rfl)
theorem dX0_spreads_59 : decode cX0_spreads 59 = .ok (.iinc 5 1, 3) := dk_132 5 1 (dk_at dksX0_spreads_2 13 rfl rfl)
theorem dX0_spreads_62 : decode cX0_spreads 62 = .ok (.goto (-45), 3) := dk_167 255 211 (dk_at dksX0_spreads_2 16 rfl rfl)
theorem dX0_spreads_65 : decode cX0_spreads 65 = .ok (.iinc 4 1, 3) := dk_132 4 1 (dk_at dksX0_spreads_2 19 rfl rfl)
theorem dX0_spreads_68 : decode cX0_spreads 68 = .ok (.goto (-63), 3) := dk_167 255 193 (dk_at dksX0_spreads_3 0 rfl rfl)
theorem dX0_spreads_71 : decode cX0_spreads 71 = .ok (.iload_n 3, 1) := dk_29 (dk_at dksX0_spreads_3 3 rfl rfl)
theorem dX0_spreads_72 : decode cX0_spreads 72 = .ok (.iload_n 1, 1) := dk_27 (dk_at dksX0_spreads_3 4 rfl rfl)
theorem dX0_spreads_73 : decode cX0_spreads 73 = .ok (.if_icmp .ne 7, 3) := dk_160 0 7 (dk_at dksX0_spreads_3 5 rfl rfl)
theorem dX0_spreads_76 : decode cX0_spreads 76 = .ok (.iload_n 1, 1) := dk_27 (dk_at dksX0_spreads_3 8 rfl rfl)
theorem dX0_spreads_77 : decode cX0_spreads 77 = .ok (.goto 9, 3) := dk_167 0 9 (dk_at dksX0_spreads_3 9 rfl rfl)
theorem dX0_spreads_80 : decode cX0_spreads 80 = .ok (.aload_n 0, 1) := dk_42 (dk_at dksX0_spreads_3 12 rfl rfl)
theorem dX0_spreads_81 : decode cX0_spreads 81 = .ok (.iload_n 3, 1) := dk_29 (dk_at dksX0_spreads_3 13 rfl rfl)
theorem dX0_spreads_82 : decode cX0_spreads 82 = .ok (.iload_n 2, 1) := dk_28 (dk_at dksX0_spreads_3 14 rfl rfl)
theorem dX0_spreads_83 : decode cX0_spreads 83 = .ok (.invokevirtual 401, 3) := dk_182 1 145 (dk_at dksX0_spreads_3 15 rfl rfl)
theorem dX0_spreads_86 : decode cX0_spreads 86 = .ok (.ireturn, 1) := dk_172 (dk_at dksX0_spreads_3 18 rfl rfl)
abbrev cX0_fits : ByteArray := prog_1_method_54_code
def yX0_fits : MethodName := ⟨RX0, "fits", "(II)I"⟩
def dkwX0_fits_2 : List UInt8 := [182, 1, 127, 29, 172, 58, 4, 42, 182, 1, 127, 25, 4, 191]
abbrev dktX0_fits_2 : List UInt8 := dkwX0_fits_2 ++ []
def dkwX0_fits_1 : List UInt8 := [42, 180, 0, 75, 28, 50, 3, 42, 180, 0, 13, 4, 100, 182, 1, 124, 42, 27, 182, 1, 148, 62, 42]
abbrev dktX0_fits_1 : List UInt8 := dkwX0_fits_1 ++ dktX0_fits_2
def dkwX0_fits_0 : List UInt8 := [42, 27, 182, 1, 138, 153, 0, 11, 42, 28, 182, 0, 83, 154, 0, 6, 16, 254, 172, 42, 182, 1, 121, 42]
abbrev dktX0_fits_0 : List UInt8 := dkwX0_fits_0 ++ dktX0_fits_1
theorem dksX0_fits_0 : cX0_fits.data.toList.drop 0 = dktX0_fits_0 := by decide +kernel
theorem dksX0_fits_1 : cX0_fits.data.toList.drop 24 = dktX0_fits_1 := dk_seg dksX0_fits_0 24 rfl rfl
theorem dksX0_fits_2 : cX0_fits.data.toList.drop 47 = dktX0_fits_2 := dk_seg dksX0_fits_1 23 rfl rfl
theorem dX0_fits_0 : decode cX0_fits 0 = .ok (.aload_n 0, 1) := dk_42 (dk_at dksX0_fits_0 0 rfl rfl)
theorem dX0_fits_1 : decode cX0_fits 1 = .ok (.iload_n 1, 1) := dk_27 (dk_at dksX0_fits_0 1 rfl rfl)
theorem dX0_fits_2 : decode cX0_fits 2 = .ok (.invokevirtual 394, 3) := dk_182 1 138 (dk_at dksX0_fits_0 2 rfl rfl)
theorem dX0_fits_5 : decode cX0_fits 5 = .ok (.ifCond .eq 11, 3) := dk_153 0 11 (dk_at dksX0_fits_0 5 rfl rfl)
theorem dX0_fits_8 : decode cX0_fits 8 = .ok (.aload_n 0, 1) := dk_42 (dk_at dksX0_fits_0 8 rfl rfl)
theorem dX0_fits_9 : decode cX0_fits 9 = .ok (.iload_n 2, 1) := dk_28 (dk_at dksX0_fits_0 9 rfl rfl)
theorem dX0_fits_10 : decode cX0_fits 10 = .ok (.invokevirtual 83, 3) := dk_182 0 83 (dk_at dksX0_fits_0 10 rfl rfl)
theorem dX0_fits_13 : decode cX0_fits 13 = .ok (.ifCond .ne 6, 3) := dk_154 0 6 (dk_at dksX0_fits_0 13 rfl rfl)
theorem dX0_fits_16 : decode cX0_fits 16 = .ok (.bipush (-2), 2) := dk_16 254 (dk_at dksX0_fits_0 16 rfl rfl)
theorem dX0_fits_18 : decode cX0_fits 18 = .ok (.ireturn, 1) := dk_172 (dk_at dksX0_fits_0 18 rfl rfl)
theorem dX0_fits_19 : decode cX0_fits 19 = .ok (.aload_n 0, 1) := dk_42 (dk_at dksX0_fits_0 19 rfl rfl)
theorem dX0_fits_20 : decode cX0_fits 20 = .ok (.invokevirtual 377, 3) := dk_182 1 121 (dk_at dksX0_fits_0 20 rfl rfl)
theorem dX0_fits_23 : decode cX0_fits 23 = .ok (.aload_n 0, 1) := dk_42 (dk_at dksX0_fits_0 23 rfl rfl)
theorem dX0_fits_24 : decode cX0_fits 24 = .ok (.aload_n 0, 1) := dk_42 (dk_at dksX0_fits_1 0 rfl rfl)
theorem dX0_fits_25 : decode cX0_fits 25 = .ok (.getfield 75, 3) := dk_180 0 75 (dk_at dksX0_fits_1 1 rfl rfl)
theorem dX0_fits_28 : decode cX0_fits 28 = .ok (.iload_n 2, 1) := dk_28 (dk_at dksX0_fits_1 4 rfl rfl)
theorem dX0_fits_29 : decode cX0_fits 29 = .ok (.aaload, 1) := dk_50 (dk_at dksX0_fits_1 5 rfl rfl)
theorem dX0_fits_30 : decode cX0_fits 30 = .ok (.iconst 0, 1) := dk_3 (dk_at dksX0_fits_1 6 rfl rfl)
theorem dX0_fits_31 : decode cX0_fits 31 = .ok (.aload_n 0, 1) := dk_42 (dk_at dksX0_fits_1 7 rfl rfl)
theorem dX0_fits_32 : decode cX0_fits 32 = .ok (.getfield 13, 3) := dk_180 0 13 (dk_at dksX0_fits_1 8 rfl rfl)
theorem dX0_fits_35 : decode cX0_fits 35 = .ok (.iconst 1, 1) := dk_4 (dk_at dksX0_fits_1 11 rfl rfl)
theorem dX0_fits_36 : decode cX0_fits 36 = .ok (.isub, 1) := dk_100 (dk_at dksX0_fits_1 12 rfl rfl)
theorem dX0_fits_37 : decode cX0_fits 37 = .ok (.invokevirtual 380, 3) := dk_182 1 124 (dk_at dksX0_fits_1 13 rfl rfl)
theorem dX0_fits_40 : decode cX0_fits 40 = .ok (.aload_n 0, 1) := dk_42 (dk_at dksX0_fits_1 16 rfl rfl)
theorem dX0_fits_41 : decode cX0_fits 41 = .ok (.iload_n 1, 1) := dk_27 (dk_at dksX0_fits_1 17 rfl rfl)
theorem dX0_fits_42 : decode cX0_fits 42 = .ok (.invokevirtual 404, 3) := dk_182 1 148 (dk_at dksX0_fits_1 18 rfl rfl)
theorem dX0_fits_45 : decode cX0_fits 45 = .ok (.istore_n 3, 1) := dk_62 (dk_at dksX0_fits_1 21 rfl rfl)
theorem dX0_fits_46 : decode cX0_fits 46 = .ok (.aload_n 0, 1) := dk_42 (dk_at dksX0_fits_1 22 rfl rfl)
theorem dX0_fits_47 : decode cX0_fits 47 = .ok (.invokevirtual 383, 3) := dk_182 1 127 (dk_at dksX0_fits_2 0 rfl rfl)
theorem dX0_fits_50 : decode cX0_fits 50 = .ok (.iload_n 3, 1) := dk_29 (dk_at dksX0_fits_2 3 rfl rfl)
theorem dX0_fits_51 : decode cX0_fits 51 = .ok (.ireturn, 1) := dk_172 (dk_at dksX0_fits_2 4 rfl rfl)
theorem dX0_fits_52 : decode cX0_fits 52 = .ok (.astore 4, 2) := dk_58 4 (dk_at dksX0_fits_2 5 rfl rfl)
theorem dX0_fits_54 : decode cX0_fits 54 = .ok (.aload_n 0, 1) := dk_42 (dk_at dksX0_fits_2 7 rfl rfl)
theorem dX0_fits_55 : decode cX0_fits 55 = .ok (.invokevirtual 383, 3) := dk_182 1 127 (dk_at dksX0_fits_2 8 rfl rfl)
theorem dX0_fits_58 : decode cX0_fits 58 = .ok (.aload 4, 2) := dk_25 4 (dk_at dksX0_fits_2 11 rfl rfl)
theorem dX0_fits_60 : decode cX0_fits 60 = .ok (.athrow, 1) := dk_191 (dk_at dksX0_fits_2 13 rfl rfl)
abbrev cX0_fitsNow : ByteArray := prog_1_method_53_code
def yX0_fitsNow : MethodName := ⟨RX0, "fitsNow", "(I)I"⟩
def dkwX0_fitsNow_2 : List UInt8 := [184, 1, 91, 172]
abbrev dktX0_fitsNow_2 : List UInt8 := dkwX0_fitsNow_2 ++ []
def dkwX0_fitsNow_1 : List UInt8 := [184, 1, 135, 100, 6, 42, 180, 1, 38, 27, 46, 42, 180, 1, 26, 28, 46, 100, 184, 1, 135, 104, 100]
abbrev dktX0_fitsNow_1 : List UInt8 := dkwX0_fitsNow_1 ++ dktX0_fitsNow_2
def dkwX0_fitsNow_0 : List UInt8 := [42, 180, 1, 32, 27, 46, 61, 4, 16, 9, 42, 180, 1, 35, 27, 46, 42, 180, 1, 23, 28, 46, 100]
abbrev dktX0_fitsNow_0 : List UInt8 := dkwX0_fitsNow_0 ++ dktX0_fitsNow_1
theorem dksX0_fitsNow_0 : cX0_fitsNow.data.toList.drop 0 = dktX0_fitsNow_0 := by decide +kernel
theorem dksX0_fitsNow_1 : cX0_fitsNow.data.toList.drop 23 = dktX0_fitsNow_1 := dk_seg dksX0_fitsNow_0 23 rfl rfl
theorem dksX0_fitsNow_2 : cX0_fitsNow.data.toList.drop 46 = dktX0_fitsNow_2 := dk_seg dksX0_fitsNow_1 23 rfl rfl
theorem dX0_fitsNow_0 : decode cX0_fitsNow 0 = .ok (.aload_n 0, 1) := dk_42 (dk_at dksX0_fitsNow_0 0 rfl rfl)
theorem dX0_fitsNow_1 : decode cX0_fitsNow 1 = .ok (.getfield 288, 3) := dk_180 1 32 (dk_at dksX0_fitsNow_0 1 rfl rfl)
theorem dX0_fitsNow_4 : decode cX0_fitsNow 4 = .ok (.iload_n 1, 1) := dk_27 (dk_at dksX0_fitsNow_0 4 rfl rfl)
theorem dX0_fitsNow_5 : decode cX0_fitsNow 5 = .ok (.iaload, 1) := dk_46 (dk_at dksX0_fitsNow_0 5 rfl rfl)
theorem dX0_fitsNow_6 : decode cX0_fitsNow 6 = .ok (.istore_n 2, 1) := dk_61 (dk_at dksX0_fitsNow_0 6 rfl rfl)
theorem dX0_fitsNow_7 : decode cX0_fitsNow 7 = .ok (.iconst 1, 1) := dk_4 (dk_at dksX0_fitsNow_0 7 rfl rfl)
theorem dX0_fitsNow_8 : decode cX0_fitsNow 8 = .ok (.bipush 9, 2) := dk_16 9 (dk_at dksX0_fitsNow_0 8 rfl rfl)
theorem dX0_fitsNow_10 : decode cX0_fitsNow 10 = .ok (.aload_n 0, 1) := dk_42 (dk_at dksX0_fitsNow_0 10 rfl rfl)
theorem dX0_fitsNow_11 : decode cX0_fitsNow 11 = .ok (.getfield 291, 3) := dk_180 1 35 (dk_at dksX0_fitsNow_0 11 rfl rfl)
theorem dX0_fitsNow_14 : decode cX0_fitsNow 14 = .ok (.iload_n 1, 1) := dk_27 (dk_at dksX0_fitsNow_0 14 rfl rfl)
theorem dX0_fitsNow_15 : decode cX0_fitsNow 15 = .ok (.iaload, 1) := dk_46 (dk_at dksX0_fitsNow_0 15 rfl rfl)
theorem dX0_fitsNow_16 : decode cX0_fitsNow 16 = .ok (.aload_n 0, 1) := dk_42 (dk_at dksX0_fitsNow_0 16 rfl rfl)
theorem dX0_fitsNow_17 : decode cX0_fitsNow 17 = .ok (.getfield 279, 3) := dk_180 1 23 (dk_at dksX0_fitsNow_0 17 rfl rfl)
theorem dX0_fitsNow_20 : decode cX0_fitsNow 20 = .ok (.iload_n 2, 1) := dk_28 (dk_at dksX0_fitsNow_0 20 rfl rfl)
theorem dX0_fitsNow_21 : decode cX0_fitsNow 21 = .ok (.iaload, 1) := dk_46 (dk_at dksX0_fitsNow_0 21 rfl rfl)
theorem dX0_fitsNow_22 : decode cX0_fitsNow 22 = .ok (.isub, 1) := dk_100 (dk_at dksX0_fitsNow_0 22 rfl rfl)
theorem dX0_fitsNow_23 : decode cX0_fitsNow 23 = .ok (.invokestatic 391, 3) := dk_184 1 135 (dk_at dksX0_fitsNow_1 0 rfl rfl)
theorem dX0_fitsNow_26 : decode cX0_fitsNow 26 = .ok (.isub, 1) := dk_100 (dk_at dksX0_fitsNow_1 3 rfl rfl)
theorem dX0_fitsNow_27 : decode cX0_fitsNow 27 = .ok (.iconst 3, 1) := dk_6 (dk_at dksX0_fitsNow_1 4 rfl rfl)
theorem dX0_fitsNow_28 : decode cX0_fitsNow 28 = .ok (.aload_n 0, 1) := dk_42 (dk_at dksX0_fitsNow_1 5 rfl rfl)
theorem dX0_fitsNow_29 : decode cX0_fitsNow 29 = .ok (.getfield 294, 3) := dk_180 1 38 (dk_at dksX0_fitsNow_1 6 rfl rfl)
theorem dX0_fitsNow_32 : decode cX0_fitsNow 32 = .ok (.iload_n 1, 1) := dk_27 (dk_at dksX0_fitsNow_1 9 rfl rfl)
theorem dX0_fitsNow_33 : decode cX0_fitsNow 33 = .ok (.iaload, 1) := dk_46 (dk_at dksX0_fitsNow_1 10 rfl rfl)
theorem dX0_fitsNow_34 : decode cX0_fitsNow 34 = .ok (.aload_n 0, 1) := dk_42 (dk_at dksX0_fitsNow_1 11 rfl rfl)
theorem dX0_fitsNow_35 : decode cX0_fitsNow 35 = .ok (.getfield 282, 3) := dk_180 1 26 (dk_at dksX0_fitsNow_1 12 rfl rfl)
theorem dX0_fitsNow_38 : decode cX0_fitsNow 38 = .ok (.iload_n 2, 1) := dk_28 (dk_at dksX0_fitsNow_1 15 rfl rfl)
theorem dX0_fitsNow_39 : decode cX0_fitsNow 39 = .ok (.iaload, 1) := dk_46 (dk_at dksX0_fitsNow_1 16 rfl rfl)
theorem dX0_fitsNow_40 : decode cX0_fitsNow 40 = .ok (.isub, 1) := dk_100 (dk_at dksX0_fitsNow_1 17 rfl rfl)
theorem dX0_fitsNow_41 : decode cX0_fitsNow 41 = .ok (.invokestatic 391, 3) := dk_184 1 135 (dk_at dksX0_fitsNow_1 18 rfl rfl)
theorem dX0_fitsNow_44 : decode cX0_fitsNow 44 = .ok (.imul, 1) := dk_104 (dk_at dksX0_fitsNow_1 21 rfl rfl)
theorem dX0_fitsNow_45 : decode cX0_fitsNow 45 = .ok (.isub, 1) := dk_100 (dk_at dksX0_fitsNow_1 22 rfl rfl)
theorem dX0_fitsNow_46 : decode cX0_fitsNow 46 = .ok (.invokestatic 347, 3) := dk_184 1 91 (dk_at dksX0_fitsNow_2 0 rfl rfl)
theorem dX0_fitsNow_49 : decode cX0_fitsNow 49 = .ok (.ireturn, 1) := dk_172 (dk_at dksX0_fitsNow_2 3 rfl rfl)
abbrev cX0_odds : ByteArray := prog_1_method_57_code
def yX0_odds : MethodName := ⟨RX0, "odds", "(III)J"⟩
def dkwX0_odds_3 : List UInt8 := [132, 6, 1, 167, 255, 232, 42, 27, 28, 182, 1, 153, 22, 4, 29, 184, 1, 157, 173]
abbrev dktX0_odds_3 : List UInt8 := dkwX0_odds_3 ++ []
def dkwX0_odds_2 : List UInt8 := [3, 54, 6, 21, 6, 42, 180, 0, 47, 162, 0, 21, 22, 4, 42, 21, 6, 28, 182, 1, 153, 97, 55, 4]
abbrev dktX0_odds_2 : List UInt8 := dkwX0_odds_2 ++ dktX0_odds_3
def dkwX0_odds_1 : List UInt8 := [133, 184, 0, 5, 153, 0, 13, 29, 133, 9, 10, 184, 0, 5, 154, 0, 7, 20, 1, 151, 173, 9, 55, 4]
abbrev dktX0_odds_1 : List UInt8 := dkwX0_odds_1 ++ dktX0_odds_2
def dkwX0_odds_0 : List UInt8 := [42, 27, 182, 0, 83, 153, 0, 36, 28, 133, 9, 4, 16, 16, 42, 180, 1, 130, 184, 1, 86, 120, 4, 100]
abbrev dktX0_odds_0 : List UInt8 := dkwX0_odds_0 ++ dktX0_odds_1
theorem dksX0_odds_0 : cX0_odds.data.toList.drop 0 = dktX0_odds_0 := by decide +kernel
theorem dksX0_odds_1 : cX0_odds.data.toList.drop 24 = dktX0_odds_1 := dk_seg dksX0_odds_0 24 rfl rfl
theorem dksX0_odds_2 : cX0_odds.data.toList.drop 48 = dktX0_odds_2 := dk_seg dksX0_odds_1 24 rfl rfl
theorem dksX0_odds_3 : cX0_odds.data.toList.drop 72 = dktX0_odds_3 := dk_seg dksX0_odds_2 24 rfl rfl
theorem dX0_odds_0 : decode cX0_odds 0 = .ok (.aload_n 0, 1) := dk_42 (dk_at dksX0_odds_0 0 rfl rfl)
theorem dX0_odds_1 : decode cX0_odds 1 = .ok (.iload_n 1, 1) := dk_27 (dk_at dksX0_odds_0 1 rfl rfl)
theorem dX0_odds_2 : decode cX0_odds 2 = .ok (.invokevirtual 83, 3) := dk_182 0 83 (dk_at dksX0_odds_0 2 rfl rfl)
theorem dX0_odds_5 : decode cX0_odds 5 = .ok (.ifCond .eq 36, 3) := dk_153 0 36 (dk_at dksX0_odds_0 5 rfl rfl)
theorem dX0_odds_8 : decode cX0_odds 8 = .ok (.iload_n 2, 1) := dk_28 (dk_at dksX0_odds_0 8 rfl rfl)
theorem dX0_odds_9 : decode cX0_odds 9 = .ok (.i2l, 1) := dk_133 (dk_at dksX0_odds_0 9 rfl rfl)
theorem dX0_odds_10 : decode cX0_odds 10 = .ok (.lconst 0, 1) := dk_9 (dk_at dksX0_odds_0 10 rfl rfl)
theorem dX0_odds_11 : decode cX0_odds 11 = .ok (.iconst 1, 1) := dk_4 (dk_at dksX0_odds_0 11 rfl rfl)
theorem dX0_odds_12 : decode cX0_odds 12 = .ok (.bipush 16, 2) := dk_16 16 (dk_at dksX0_odds_0 12 rfl rfl)
theorem dX0_odds_14 : decode cX0_odds 14 = .ok (.aload_n 0, 1) := dk_42 (dk_at dksX0_odds_0 14 rfl rfl)
theorem dX0_odds_15 : decode cX0_odds 15 = .ok (.getfield 386, 3) := dk_180 1 130 (dk_at dksX0_odds_0 15 rfl rfl)
theorem dX0_odds_18 : decode cX0_odds 18 = .ok (.invokestatic 342, 3) := dk_184 1 86 (dk_at dksX0_odds_0 18 rfl rfl)
theorem dX0_odds_21 : decode cX0_odds 21 = .ok (.ishl, 1) := dk_120 (dk_at dksX0_odds_0 21 rfl rfl)
theorem dX0_odds_22 : decode cX0_odds 22 = .ok (.iconst 1, 1) := dk_4 (dk_at dksX0_odds_0 22 rfl rfl)
theorem dX0_odds_23 : decode cX0_odds 23 = .ok (.isub, 1) := dk_100 (dk_at dksX0_odds_0 23 rfl rfl)
theorem dX0_odds_24 : decode cX0_odds 24 = .ok (.i2l, 1) := dk_133 (dk_at dksX0_odds_1 0 rfl rfl)
theorem dX0_odds_25 : decode cX0_odds 25 = .ok (.invokestatic 5, 3) := dk_184 0 5 (dk_at dksX0_odds_1 1 rfl rfl)
theorem dX0_odds_28 : decode cX0_odds 28 = .ok (.ifCond .eq 13, 3) := dk_153 0 13 (dk_at dksX0_odds_1 4 rfl rfl)
theorem dX0_odds_31 : decode cX0_odds 31 = .ok (.iload_n 3, 1) := dk_29 (dk_at dksX0_odds_1 7 rfl rfl)
theorem dX0_odds_32 : decode cX0_odds 32 = .ok (.i2l, 1) := dk_133 (dk_at dksX0_odds_1 8 rfl rfl)
theorem dX0_odds_33 : decode cX0_odds 33 = .ok (.lconst 0, 1) := dk_9 (dk_at dksX0_odds_1 9 rfl rfl)
theorem dX0_odds_34 : decode cX0_odds 34 = .ok (.lconst 1, 1) := dk_10 (dk_at dksX0_odds_1 10 rfl rfl)
theorem dX0_odds_35 : decode cX0_odds 35 = .ok (.invokestatic 5, 3) := dk_184 0 5 (dk_at dksX0_odds_1 11 rfl rfl)
theorem dX0_odds_38 : decode cX0_odds 38 = .ok (.ifCond .ne 7, 3) := dk_154 0 7 (dk_at dksX0_odds_1 14 rfl rfl)
theorem dX0_odds_41 : decode cX0_odds 41 = .ok (.ldc2_w 407, 3) := dk_20 1 151 (dk_at dksX0_odds_1 17 rfl rfl)
theorem dX0_odds_44 : decode cX0_odds 44 = .ok (.lreturn, 1) := dk_173 (dk_at dksX0_odds_1 20 rfl rfl)
theorem dX0_odds_45 : decode cX0_odds 45 = .ok (.lconst 0, 1) := dk_9 (dk_at dksX0_odds_1 21 rfl rfl)
theorem dX0_odds_46 : decode cX0_odds 46 = .ok (.lstore 4, 2) := dk_55 4 (dk_at dksX0_odds_1 22 rfl rfl)
theorem dX0_odds_48 : decode cX0_odds 48 = .ok (.iconst 0, 1) := dk_3 (dk_at dksX0_odds_2 0 rfl rfl)
theorem dX0_odds_49 : decode cX0_odds 49 = .ok (.istore 6, 2) := dk_54 6 (dk_at dksX0_odds_2 1 rfl rfl)
theorem dX0_odds_51 : decode cX0_odds 51 = .ok (.iload 6, 2) := dk_21 6 (dk_at dksX0_odds_2 3 rfl rfl)
theorem dX0_odds_53 : decode cX0_odds 53 = .ok (.aload_n 0, 1) := dk_42 (dk_at dksX0_odds_2 5 rfl rfl)
theorem dX0_odds_54 : decode cX0_odds 54 = .ok (.getfield 47, 3) := dk_180 0 47 (dk_at dksX0_odds_2 6 rfl rfl)
theorem dX0_odds_57 : decode cX0_odds 57 = .ok (.if_icmp .ge 21, 3) := dk_162 0 21 (dk_at dksX0_odds_2 9 rfl rfl)
theorem dX0_odds_60 : decode cX0_odds 60 = .ok (.lload 4, 2) := dk_22 4 (dk_at dksX0_odds_2 12 rfl rfl)
theorem dX0_odds_62 : decode cX0_odds 62 = .ok (.aload_n 0, 1) := dk_42 (dk_at dksX0_odds_2 14 rfl rfl)
theorem dX0_odds_63 : decode cX0_odds 63 = .ok (.iload 6, 2) := dk_21 6 (dk_at dksX0_odds_2 15 rfl rfl)
theorem dX0_odds_65 : decode cX0_odds 65 = .ok (.iload_n 2, 1) := dk_28 (dk_at dksX0_odds_2 17 rfl rfl)
theorem dX0_odds_66 : decode cX0_odds 66 = .ok (.invokevirtual 409, 3) := dk_182 1 153 (dk_at dksX0_odds_2 18 rfl rfl)
theorem dX0_odds_69 : decode cX0_odds 69 = .ok (.ladd, 1) := dk_97 (dk_at dksX0_odds_2 21 rfl rfl)
theorem dX0_odds_70 : decode cX0_odds 70 = .ok (.lstore 4, 2) := dk_55 4 (dk_at dksX0_odds_2 22 rfl rfl)
theorem dX0_odds_72 : decode cX0_odds 72 = .ok (.iinc 6 1, 3) := dk_132 6 1 (dk_at dksX0_odds_3 0 rfl rfl)
theorem dX0_odds_75 : decode cX0_odds 75 = .ok (.goto (-24), 3) := dk_167 255 232 (dk_at dksX0_odds_3 3 rfl rfl)
theorem dX0_odds_78 : decode cX0_odds 78 = .ok (.aload_n 0, 1) := dk_42 (dk_at dksX0_odds_3 6 rfl rfl)
theorem dX0_odds_79 : decode cX0_odds 79 = .ok (.iload_n 1, 1) := dk_27 (dk_at dksX0_odds_3 7 rfl rfl)
theorem dX0_odds_80 : decode cX0_odds 80 = .ok (.iload_n 2, 1) := dk_28 (dk_at dksX0_odds_3 8 rfl rfl)
theorem dX0_odds_81 : decode cX0_odds 81 = .ok (.invokevirtual 409, 3) := dk_182 1 153 (dk_at dksX0_odds_3 9 rfl rfl)
theorem dX0_odds_84 : decode cX0_odds 84 = .ok (.lload 4, 2) := dk_22 4 (dk_at dksX0_odds_3 12 rfl rfl)
theorem dX0_odds_86 : decode cX0_odds 86 = .ok (.iload_n 3, 1) := dk_29 (dk_at dksX0_odds_3 14 rfl rfl)
theorem dX0_odds_87 : decode cX0_odds 87 = .ok (.invokestatic 413, 3) := dk_184 1 157 (dk_at dksX0_odds_3 15 rfl rfl)
theorem dX0_odds_90 : decode cX0_odds 90 = .ok (.lreturn, 1) := dk_173 (dk_at dksX0_odds_3 18 rfl rfl)
abbrev cX0_productOf : ByteArray := prog_1_method_55_code
def yX0_productOf : MethodName := ⟨RX0, "productOf", "(II)J"⟩
def dkwX0_productOf_3 : List UInt8 := [33, 55, 5, 42, 182, 1, 127, 22, 5, 173, 58, 7, 42, 182, 1, 127, 25, 7, 191]
abbrev dktX0_productOf_3 : List UInt8 := dkwX0_productOf_3 ++ []
def dkwX0_productOf_2 : List UInt8 := [126, 4, 160, 0, 13, 42, 21, 5, 182, 1, 148, 133, 167, 0, 4, 10, 105, 66, 132, 5, 1, 167, 255, 213]
abbrev dktX0_productOf_2 : List UInt8 := dkwX0_productOf_2 ++ dktX0_productOf_3
def dkwX0_productOf_1 : List UInt8 := [54, 5, 21, 5, 42, 180, 1, 130, 162, 0, 40, 21, 5, 16, 16, 162, 0, 33, 33, 28, 21, 5, 122, 4]
abbrev dktX0_productOf_1 : List UInt8 := dkwX0_productOf_1 ++ dktX0_productOf_2
def dkwX0_productOf_0 : List UInt8 := [42, 182, 1, 121, 42, 42, 180, 0, 75, 27, 50, 3, 42, 180, 0, 13, 4, 100, 182, 1, 124, 10, 66, 3]
abbrev dktX0_productOf_0 : List UInt8 := dkwX0_productOf_0 ++ dktX0_productOf_1
theorem dksX0_productOf_0 : cX0_productOf.data.toList.drop 0 = dktX0_productOf_0 := by decide +kernel
theorem dksX0_productOf_1 : cX0_productOf.data.toList.drop 24 = dktX0_productOf_1 := dk_seg dksX0_productOf_0 24 rfl rfl
theorem dksX0_productOf_2 : cX0_productOf.data.toList.drop 48 = dktX0_productOf_2 := dk_seg dksX0_productOf_1 24 rfl rfl
theorem dksX0_productOf_3 : cX0_productOf.data.toList.drop 72 = dktX0_productOf_3 := dk_seg dksX0_productOf_2 24 rfl rfl
theorem dX0_productOf_0 : decode cX0_productOf 0 = .ok (.aload_n 0, 1) := dk_42 (dk_at dksX0_productOf_0 0 rfl rfl)
theorem dX0_productOf_1 : decode cX0_productOf 1 = .ok (.invokevirtual 377, 3) := dk_182 1 121 (dk_at dksX0_productOf_0 1 rfl rfl)
theorem dX0_productOf_4 : decode cX0_productOf 4 = .ok (.aload_n 0, 1) := dk_42 (dk_at dksX0_productOf_0 4 rfl rfl)
theorem dX0_productOf_5 : decode cX0_productOf 5 = .ok (.aload_n 0, 1) := dk_42 (dk_at dksX0_productOf_0 5 rfl rfl)
theorem dX0_productOf_6 : decode cX0_productOf 6 = .ok (.getfield 75, 3) := dk_180 0 75 (dk_at dksX0_productOf_0 6 rfl rfl)
theorem dX0_productOf_9 : decode cX0_productOf 9 = .ok (.iload_n 1, 1) := dk_27 (dk_at dksX0_productOf_0 9 rfl rfl)
theorem dX0_productOf_10 : decode cX0_productOf 10 = .ok (.aaload, 1) := dk_50 (dk_at dksX0_productOf_0 10 rfl rfl)
theorem dX0_productOf_11 : decode cX0_productOf 11 = .ok (.iconst 0, 1) := dk_3 (dk_at dksX0_productOf_0 11 rfl rfl)
theorem dX0_productOf_12 : decode cX0_productOf 12 = .ok (.aload_n 0, 1) := dk_42 (dk_at dksX0_productOf_0 12 rfl rfl)
theorem dX0_productOf_13 : decode cX0_productOf 13 = .ok (.getfield 13, 3) := dk_180 0 13 (dk_at dksX0_productOf_0 13 rfl rfl)
theorem dX0_productOf_16 : decode cX0_productOf 16 = .ok (.iconst 1, 1) := dk_4 (dk_at dksX0_productOf_0 16 rfl rfl)
theorem dX0_productOf_17 : decode cX0_productOf 17 = .ok (.isub, 1) := dk_100 (dk_at dksX0_productOf_0 17 rfl rfl)
theorem dX0_productOf_18 : decode cX0_productOf 18 = .ok (.invokevirtual 380, 3) := dk_182 1 124 (dk_at dksX0_productOf_0 18 rfl rfl)
theorem dX0_productOf_21 : decode cX0_productOf 21 = .ok (.lconst 1, 1) := dk_10 (dk_at dksX0_productOf_0 21 rfl rfl)
theorem dX0_productOf_22 : decode cX0_productOf 22 = .ok (.lstore_n 3, 1) := dk_66 (dk_at dksX0_productOf_0 22 rfl rfl)
theorem dX0_productOf_23 : decode cX0_productOf 23 = .ok (.iconst 0, 1) := dk_3 (dk_at dksX0_productOf_0 23 rfl rfl)
theorem dX0_productOf_24 : decode cX0_productOf 24 = .ok (.istore 5, 2) := dk_54 5 (dk_at dksX0_productOf_1 0 rfl rfl)
theorem dX0_productOf_26 : decode cX0_productOf 26 = .ok (.iload 5, 2) := dk_21 5 (dk_at dksX0_productOf_1 2 rfl rfl)
theorem dX0_productOf_28 : decode cX0_productOf 28 = .ok (.aload_n 0, 1) := dk_42 (dk_at dksX0_productOf_1 4 rfl rfl)
theorem dX0_productOf_29 : decode cX0_productOf 29 = .ok (.getfield 386, 3) := dk_180 1 130 (dk_at dksX0_productOf_1 5 rfl rfl)
theorem dX0_productOf_32 : decode cX0_productOf 32 = .ok (.if_icmp .ge 40, 3) := dk_162 0 40 (dk_at dksX0_productOf_1 8 rfl rfl)
theorem dX0_productOf_35 : decode cX0_productOf 35 = .ok (.iload 5, 2) := dk_21 5 (dk_at dksX0_productOf_1 11 rfl rfl)
theorem dX0_productOf_37 : decode cX0_productOf 37 = .ok (.bipush 16, 2) := dk_16 16 (dk_at dksX0_productOf_1 13 rfl rfl)
theorem dX0_productOf_39 : decode cX0_productOf 39 = .ok (.if_icmp .ge 33, 3) := dk_162 0 33 (dk_at dksX0_productOf_1 15 rfl rfl)
theorem dX0_productOf_42 : decode cX0_productOf 42 = .ok (.lload_n 3, 1) := dk_33 (dk_at dksX0_productOf_1 18 rfl rfl)
theorem dX0_productOf_43 : decode cX0_productOf 43 = .ok (.iload_n 2, 1) := dk_28 (dk_at dksX0_productOf_1 19 rfl rfl)
theorem dX0_productOf_44 : decode cX0_productOf 44 = .ok (.iload 5, 2) := dk_21 5 (dk_at dksX0_productOf_1 20 rfl rfl)
theorem dX0_productOf_46 : decode cX0_productOf 46 = .ok (.ishr, 1) := dk_122 (dk_at dksX0_productOf_1 22 rfl rfl)
theorem dX0_productOf_47 : decode cX0_productOf 47 = .ok (.iconst 1, 1) := dk_4 (dk_at dksX0_productOf_1 23 rfl rfl)
theorem dX0_productOf_48 : decode cX0_productOf 48 = .ok (.iand, 1) := dk_126 (dk_at dksX0_productOf_2 0 rfl rfl)
theorem dX0_productOf_49 : decode cX0_productOf 49 = .ok (.iconst 1, 1) := dk_4 (dk_at dksX0_productOf_2 1 rfl rfl)
theorem dX0_productOf_50 : decode cX0_productOf 50 = .ok (.if_icmp .ne 13, 3) := dk_160 0 13 (dk_at dksX0_productOf_2 2 rfl rfl)
theorem dX0_productOf_53 : decode cX0_productOf 53 = .ok (.aload_n 0, 1) := dk_42 (dk_at dksX0_productOf_2 5 rfl rfl)
theorem dX0_productOf_54 : decode cX0_productOf 54 = .ok (.iload 5, 2) := dk_21 5 (dk_at dksX0_productOf_2 6 rfl rfl)
theorem dX0_productOf_56 : decode cX0_productOf 56 = .ok (.invokevirtual 404, 3) := dk_182 1 148 (dk_at dksX0_productOf_2 8 rfl rfl)
theorem dX0_productOf_59 : decode cX0_productOf 59 = .ok (.i2l, 1) := dk_133 (dk_at dksX0_productOf_2 11 rfl rfl)
theorem dX0_productOf_60 : decode cX0_productOf 60 = .ok (.goto 4, 3) := dk_167 0 4 (dk_at dksX0_productOf_2 12 rfl rfl)
theorem dX0_productOf_63 : decode cX0_productOf 63 = .ok (.lconst 1, 1) := dk_10 (dk_at dksX0_productOf_2 15 rfl rfl)
theorem dX0_productOf_64 : decode cX0_productOf 64 = .ok (.lmul, 1) := dk_105 (dk_at dksX0_productOf_2 16 rfl rfl)
theorem dX0_productOf_65 : decode cX0_productOf 65 = .ok (.lstore_n 3, 1) := dk_66 (dk_at dksX0_productOf_2 17 rfl rfl)
theorem dX0_productOf_66 : decode cX0_productOf 66 = .ok (.iinc 5 1, 3) := dk_132 5 1 (dk_at dksX0_productOf_2 18 rfl rfl)
theorem dX0_productOf_69 : decode cX0_productOf 69 = .ok (.goto (-43), 3) := dk_167 255 213 (dk_at dksX0_productOf_2 21 rfl rfl)
theorem dX0_productOf_72 : decode cX0_productOf 72 = .ok (.lload_n 3, 1) := dk_33 (dk_at dksX0_productOf_3 0 rfl rfl)
theorem dX0_productOf_73 : decode cX0_productOf 73 = .ok (.lstore 5, 2) := dk_55 5 (dk_at dksX0_productOf_3 1 rfl rfl)
theorem dX0_productOf_75 : decode cX0_productOf 75 = .ok (.aload_n 0, 1) := dk_42 (dk_at dksX0_productOf_3 3 rfl rfl)
theorem dX0_productOf_76 : decode cX0_productOf 76 = .ok (.invokevirtual 383, 3) := dk_182 1 127 (dk_at dksX0_productOf_3 4 rfl rfl)
theorem dX0_productOf_79 : decode cX0_productOf 79 = .ok (.lload 5, 2) := dk_22 5 (dk_at dksX0_productOf_3 7 rfl rfl)
theorem dX0_productOf_81 : decode cX0_productOf 81 = .ok (.lreturn, 1) := dk_173 (dk_at dksX0_productOf_3 9 rfl rfl)
theorem dX0_productOf_82 : decode cX0_productOf 82 = .ok (.astore 7, 2) := dk_58 7 (dk_at dksX0_productOf_3 10 rfl rfl)
theorem dX0_productOf_84 : decode cX0_productOf 84 = .ok (.aload_n 0, 1) := dk_42 (dk_at dksX0_productOf_3 12 rfl rfl)
theorem dX0_productOf_85 : decode cX0_productOf 85 = .ok (.invokevirtual 383, 3) := dk_182 1 127 (dk_at dksX0_productOf_3 13 rfl rfl)
theorem dX0_productOf_88 : decode cX0_productOf 88 = .ok (.aload 7, 2) := dk_25 7 (dk_at dksX0_productOf_3 16 rfl rfl)
theorem dX0_productOf_90 : decode cX0_productOf 90 = .ok (.athrow, 1) := dk_191 (dk_at dksX0_productOf_3 18 rfl rfl)
abbrev cX0_lowest : ByteArray := prog_1_method_56_code
def yX0_lowest : MethodName := ⟨RX0, "lowest", "(JJI)J"⟩
def dkwX0_lowest_2 : List UInt8 := [30, 167, 0, 4, 32, 22, 5, 109, 173]
abbrev dktX0_lowest_2 : List UInt8 := dkwX0_lowest_2 ++ []
def dkwX0_lowest_1 : List UInt8 := [22, 9, 55, 7, 167, 255, 234, 32, 9, 148, 154, 0, 9, 21, 4, 133, 167, 0, 16, 21, 4, 154, 0, 7]
abbrev dktX0_lowest_1 : List UInt8 := dkwX0_lowest_1 ++ dktX0_lowest_2
def dkwX0_lowest_0 : List UInt8 := [30, 55, 5, 32, 55, 7, 22, 7, 9, 148, 153, 0, 21, 22, 5, 22, 7, 113, 55, 9, 22, 7, 55, 5]
abbrev dktX0_lowest_0 : List UInt8 := dkwX0_lowest_0 ++ dktX0_lowest_1
theorem dksX0_lowest_0 : cX0_lowest.data.toList.drop 0 = dktX0_lowest_0 := by decide +kernel
theorem dksX0_lowest_1 : cX0_lowest.data.toList.drop 24 = dktX0_lowest_1 := dk_seg dksX0_lowest_0 24 rfl rfl
theorem dksX0_lowest_2 : cX0_lowest.data.toList.drop 48 = dktX0_lowest_2 := dk_seg dksX0_lowest_1 24 rfl rfl
theorem dX0_lowest_0 : decode cX0_lowest 0 = .ok (.lload_n 0, 1) := dk_30 (dk_at dksX0_lowest_0 0 rfl rfl)
theorem dX0_lowest_1 : decode cX0_lowest 1 = .ok (.lstore 5, 2) := dk_55 5 (dk_at dksX0_lowest_0 1 rfl rfl)
theorem dX0_lowest_3 : decode cX0_lowest 3 = .ok (.lload_n 2, 1) := dk_32 (dk_at dksX0_lowest_0 3 rfl rfl)
theorem dX0_lowest_4 : decode cX0_lowest 4 = .ok (.lstore 7, 2) := dk_55 7 (dk_at dksX0_lowest_0 4 rfl rfl)
theorem dX0_lowest_6 : decode cX0_lowest 6 = .ok (.lload 7, 2) := dk_22 7 (dk_at dksX0_lowest_0 6 rfl rfl)
theorem dX0_lowest_8 : decode cX0_lowest 8 = .ok (.lconst 0, 1) := dk_9 (dk_at dksX0_lowest_0 8 rfl rfl)
theorem dX0_lowest_9 : decode cX0_lowest 9 = .ok (.lcmp, 1) := dk_148 (dk_at dksX0_lowest_0 9 rfl rfl)
theorem dX0_lowest_10 : decode cX0_lowest 10 = .ok (.ifCond .eq 21, 3) := dk_153 0 21 (dk_at dksX0_lowest_0 10 rfl rfl)
theorem dX0_lowest_13 : decode cX0_lowest 13 = .ok (.lload 5, 2) := dk_22 5 (dk_at dksX0_lowest_0 13 rfl rfl)
theorem dX0_lowest_15 : decode cX0_lowest 15 = .ok (.lload 7, 2) := dk_22 7 (dk_at dksX0_lowest_0 15 rfl rfl)
theorem dX0_lowest_17 : decode cX0_lowest 17 = .ok (.lrem, 1) := dk_113 (dk_at dksX0_lowest_0 17 rfl rfl)
theorem dX0_lowest_18 : decode cX0_lowest 18 = .ok (.lstore 9, 2) := dk_55 9 (dk_at dksX0_lowest_0 18 rfl rfl)
theorem dX0_lowest_20 : decode cX0_lowest 20 = .ok (.lload 7, 2) := dk_22 7 (dk_at dksX0_lowest_0 20 rfl rfl)
theorem dX0_lowest_22 : decode cX0_lowest 22 = .ok (.lstore 5, 2) := dk_55 5 (dk_at dksX0_lowest_0 22 rfl rfl)
theorem dX0_lowest_24 : decode cX0_lowest 24 = .ok (.lload 9, 2) := dk_22 9 (dk_at dksX0_lowest_1 0 rfl rfl)
theorem dX0_lowest_26 : decode cX0_lowest 26 = .ok (.lstore 7, 2) := dk_55 7 (dk_at dksX0_lowest_1 2 rfl rfl)
theorem dX0_lowest_28 : decode cX0_lowest 28 = .ok (.goto (-22), 3) := dk_167 255 234 (dk_at dksX0_lowest_1 4 rfl rfl)
theorem dX0_lowest_31 : decode cX0_lowest 31 = .ok (.lload_n 2, 1) := dk_32 (dk_at dksX0_lowest_1 7 rfl rfl)
theorem dX0_lowest_32 : decode cX0_lowest 32 = .ok (.lconst 0, 1) := dk_9 (dk_at dksX0_lowest_1 8 rfl rfl)
theorem dX0_lowest_33 : decode cX0_lowest 33 = .ok (.lcmp, 1) := dk_148 (dk_at dksX0_lowest_1 9 rfl rfl)
theorem dX0_lowest_34 : decode cX0_lowest 34 = .ok (.ifCond .ne 9, 3) := dk_154 0 9 (dk_at dksX0_lowest_1 10 rfl rfl)
theorem dX0_lowest_37 : decode cX0_lowest 37 = .ok (.iload 4, 2) := dk_21 4 (dk_at dksX0_lowest_1 13 rfl rfl)
theorem dX0_lowest_39 : decode cX0_lowest 39 = .ok (.i2l, 1) := dk_133 (dk_at dksX0_lowest_1 15 rfl rfl)
theorem dX0_lowest_40 : decode cX0_lowest 40 = .ok (.goto 16, 3) := dk_167 0 16 (dk_at dksX0_lowest_1 16 rfl rfl)
theorem dX0_lowest_43 : decode cX0_lowest 43 = .ok (.iload 4, 2) := dk_21 4 (dk_at dksX0_lowest_1 19 rfl rfl)
theorem dX0_lowest_45 : decode cX0_lowest 45 = .ok (.ifCond .ne 7, 3) := dk_154 0 7 (dk_at dksX0_lowest_1 21 rfl rfl)
theorem dX0_lowest_48 : decode cX0_lowest 48 = .ok (.lload_n 0, 1) := dk_30 (dk_at dksX0_lowest_2 0 rfl rfl)
theorem dX0_lowest_49 : decode cX0_lowest 49 = .ok (.goto 4, 3) := dk_167 0 4 (dk_at dksX0_lowest_2 1 rfl rfl)
theorem dX0_lowest_52 : decode cX0_lowest 52 = .ok (.lload_n 2, 1) := dk_32 (dk_at dksX0_lowest_2 4 rfl rfl)
theorem dX0_lowest_53 : decode cX0_lowest 53 = .ok (.lload 5, 2) := dk_22 5 (dk_at dksX0_lowest_2 5 rfl rfl)
theorem dX0_lowest_55 : decode cX0_lowest 55 = .ok (.ldiv, 1) := dk_109 (dk_at dksX0_lowest_2 7 rfl rfl)
theorem dX0_lowest_56 : decode cX0_lowest 56 = .ok (.lreturn, 1) := dk_173 (dk_at dksX0_lowest_2 8 rfl rfl)
abbrev cX0_peg : ByteArray := prog_1_method_58_code
def yX0_peg : MethodName := ⟨RX0, "peg", "(I)I"⟩
def dkwX0_peg_1 : List UInt8 := [180, 1, 41, 42, 180, 1, 161, 27, 79, 42, 89, 180, 1, 161, 4, 96, 181, 1, 161, 42, 180, 1, 161, 172]
abbrev dktX0_peg_1 : List UInt8 := dkwX0_peg_1 ++ []
def dkwX0_peg_0 : List UInt8 := [27, 184, 0, 22, 154, 0, 6, 16, 254, 172, 42, 180, 1, 161, 16, 8, 160, 0, 6, 16, 252, 172, 42]
abbrev dktX0_peg_0 : List UInt8 := dkwX0_peg_0 ++ dktX0_peg_1
theorem dksX0_peg_0 : cX0_peg.data.toList.drop 0 = dktX0_peg_0 := by decide +kernel
theorem dksX0_peg_1 : cX0_peg.data.toList.drop 23 = dktX0_peg_1 := dk_seg dksX0_peg_0 23 rfl rfl
theorem dX0_peg_0 : decode cX0_peg 0 = .ok (.iload_n 1, 1) := dk_27 (dk_at dksX0_peg_0 0 rfl rfl)
theorem dX0_peg_1 : decode cX0_peg 1 = .ok (.invokestatic 22, 3) := dk_184 0 22 (dk_at dksX0_peg_0 1 rfl rfl)
theorem dX0_peg_4 : decode cX0_peg 4 = .ok (.ifCond .ne 6, 3) := dk_154 0 6 (dk_at dksX0_peg_0 4 rfl rfl)
theorem dX0_peg_7 : decode cX0_peg 7 = .ok (.bipush (-2), 2) := dk_16 254 (dk_at dksX0_peg_0 7 rfl rfl)
theorem dX0_peg_9 : decode cX0_peg 9 = .ok (.ireturn, 1) := dk_172 (dk_at dksX0_peg_0 9 rfl rfl)
theorem dX0_peg_10 : decode cX0_peg 10 = .ok (.aload_n 0, 1) := dk_42 (dk_at dksX0_peg_0 10 rfl rfl)
theorem dX0_peg_11 : decode cX0_peg 11 = .ok (.getfield 417, 3) := dk_180 1 161 (dk_at dksX0_peg_0 11 rfl rfl)
theorem dX0_peg_14 : decode cX0_peg 14 = .ok (.bipush 8, 2) := dk_16 8 (dk_at dksX0_peg_0 14 rfl rfl)
theorem dX0_peg_16 : decode cX0_peg 16 = .ok (.if_icmp .ne 6, 3) := dk_160 0 6 (dk_at dksX0_peg_0 16 rfl rfl)
theorem dX0_peg_19 : decode cX0_peg 19 = .ok (.bipush (-4), 2) := dk_16 252 (dk_at dksX0_peg_0 19 rfl rfl)
theorem dX0_peg_21 : decode cX0_peg 21 = .ok (.ireturn, 1) := dk_172 (dk_at dksX0_peg_0 21 rfl rfl)
theorem dX0_peg_22 : decode cX0_peg 22 = .ok (.aload_n 0, 1) := dk_42 (dk_at dksX0_peg_0 22 rfl rfl)
theorem dX0_peg_23 : decode cX0_peg 23 = .ok (.getfield 297, 3) := dk_180 1 41 (dk_at dksX0_peg_1 0 rfl rfl)
theorem dX0_peg_26 : decode cX0_peg 26 = .ok (.aload_n 0, 1) := dk_42 (dk_at dksX0_peg_1 3 rfl rfl)
theorem dX0_peg_27 : decode cX0_peg 27 = .ok (.getfield 417, 3) := dk_180 1 161 (dk_at dksX0_peg_1 4 rfl rfl)
theorem dX0_peg_30 : decode cX0_peg 30 = .ok (.iload_n 1, 1) := dk_27 (dk_at dksX0_peg_1 7 rfl rfl)
theorem dX0_peg_31 : decode cX0_peg 31 = .ok (.iastore, 1) := dk_79 (dk_at dksX0_peg_1 8 rfl rfl)
theorem dX0_peg_32 : decode cX0_peg 32 = .ok (.aload_n 0, 1) := dk_42 (dk_at dksX0_peg_1 9 rfl rfl)
theorem dX0_peg_33 : decode cX0_peg 33 = .ok (.dup, 1) := dk_89 (dk_at dksX0_peg_1 10 rfl rfl)
theorem dX0_peg_34 : decode cX0_peg 34 = .ok (.getfield 417, 3) := dk_180 1 161 (dk_at dksX0_peg_1 11 rfl rfl)
theorem dX0_peg_37 : decode cX0_peg 37 = .ok (.iconst 1, 1) := dk_4 (dk_at dksX0_peg_1 14 rfl rfl)
theorem dX0_peg_38 : decode cX0_peg 38 = .ok (.iadd, 1) := dk_96 (dk_at dksX0_peg_1 15 rfl rfl)
theorem dX0_peg_39 : decode cX0_peg 39 = .ok (.putfield 417, 3) := dk_181 1 161 (dk_at dksX0_peg_1 16 rfl rfl)
theorem dX0_peg_42 : decode cX0_peg 42 = .ok (.aload_n 0, 1) := dk_42 (dk_at dksX0_peg_1 19 rfl rfl)
theorem dX0_peg_43 : decode cX0_peg 43 = .ok (.getfield 417, 3) := dk_180 1 161 (dk_at dksX0_peg_1 20 rfl rfl)
theorem dX0_peg_46 : decode cX0_peg 46 = .ok (.ireturn, 1) := dk_172 (dk_at dksX0_peg_1 23 rfl rfl)
abbrev cX0_holds : ByteArray := prog_1_method_60_code
def yX0_holds : MethodName := ⟨RX0, "holds", "(II)I"⟩
def dkwX0_holds_1 : List UInt8 := [180, 0, 16, 27, 46, 28, 182, 1, 164, 153, 0, 7, 4, 167, 0, 9, 3, 167, 0, 5, 16, 254, 172]
abbrev dktX0_holds_1 : List UInt8 := dkwX0_holds_1 ++ []
def dkwX0_holds_0 : List UInt8 := [42, 27, 182, 0, 44, 153, 0, 37, 28, 133, 9, 20, 1, 100, 184, 0, 5, 153, 0, 25, 42, 42]
abbrev dktX0_holds_0 : List UInt8 := dkwX0_holds_0 ++ dktX0_holds_1
theorem dksX0_holds_0 : cX0_holds.data.toList.drop 0 = dktX0_holds_0 := by decide +kernel
theorem dksX0_holds_1 : cX0_holds.data.toList.drop 22 = dktX0_holds_1 := dk_seg dksX0_holds_0 22 rfl rfl
theorem dX0_holds_0 : decode cX0_holds 0 = .ok (.aload_n 0, 1) := dk_42 (dk_at dksX0_holds_0 0 rfl rfl)
theorem dX0_holds_1 : decode cX0_holds 1 = .ok (.iload_n 1, 1) := dk_27 (dk_at dksX0_holds_0 1 rfl rfl)
theorem dX0_holds_2 : decode cX0_holds 2 = .ok (.invokevirtual 44, 3) := dk_182 0 44 (dk_at dksX0_holds_0 2 rfl rfl)
theorem dX0_holds_5 : decode cX0_holds 5 = .ok (.ifCond .eq 37, 3) := dk_153 0 37 (dk_at dksX0_holds_0 5 rfl rfl)
theorem dX0_holds_8 : decode cX0_holds 8 = .ok (.iload_n 2, 1) := dk_28 (dk_at dksX0_holds_0 8 rfl rfl)
theorem dX0_holds_9 : decode cX0_holds 9 = .ok (.i2l, 1) := dk_133 (dk_at dksX0_holds_0 9 rfl rfl)
theorem dX0_holds_10 : decode cX0_holds 10 = .ok (.lconst 0, 1) := dk_9 (dk_at dksX0_holds_0 10 rfl rfl)
theorem dX0_holds_11 : decode cX0_holds 11 = .ok (.ldc2_w 356, 3) := dk_20 1 100 (dk_at dksX0_holds_0 11 rfl rfl)
theorem dX0_holds_14 : decode cX0_holds 14 = .ok (.invokestatic 5, 3) := dk_184 0 5 (dk_at dksX0_holds_0 14 rfl rfl)
theorem dX0_holds_17 : decode cX0_holds 17 = .ok (.ifCond .eq 25, 3) := dk_153 0 25 (dk_at dksX0_holds_0 17 rfl rfl)
theorem dX0_holds_20 : decode cX0_holds 20 = .ok (.aload_n 0, 1) := dk_42 (dk_at dksX0_holds_0 20 rfl rfl)
theorem dX0_holds_21 : decode cX0_holds 21 = .ok (.aload_n 0, 1) := dk_42 (dk_at dksX0_holds_0 21 rfl rfl)
theorem dX0_holds_22 : decode cX0_holds 22 = .ok (.getfield 16, 3) := dk_180 0 16 (dk_at dksX0_holds_1 0 rfl rfl)
theorem dX0_holds_25 : decode cX0_holds 25 = .ok (.iload_n 1, 1) := dk_27 (dk_at dksX0_holds_1 3 rfl rfl)
theorem dX0_holds_26 : decode cX0_holds 26 = .ok (.iaload, 1) := dk_46 (dk_at dksX0_holds_1 4 rfl rfl)
theorem dX0_holds_27 : decode cX0_holds 27 = .ok (.iload_n 2, 1) := dk_28 (dk_at dksX0_holds_1 5 rfl rfl)
theorem dX0_holds_28 : decode cX0_holds 28 = .ok (.invokevirtual 420, 3) := dk_182 1 164 (dk_at dksX0_holds_1 6 rfl rfl)
theorem dX0_holds_31 : decode cX0_holds 31 = .ok (.ifCond .eq 7, 3) := dk_153 0 7 (dk_at dksX0_holds_1 9 rfl rfl)
theorem dX0_holds_34 : decode cX0_holds 34 = .ok (.iconst 1, 1) := dk_4 (dk_at dksX0_holds_1 12 rfl rfl)
theorem dX0_holds_35 : decode cX0_holds 35 = .ok (.goto 9, 3) := dk_167 0 9 (dk_at dksX0_holds_1 13 rfl rfl)
theorem dX0_holds_38 : decode cX0_holds 38 = .ok (.iconst 0, 1) := dk_3 (dk_at dksX0_holds_1 16 rfl rfl)
theorem dX0_holds_39 : decode cX0_holds 39 = .ok (.goto 5, 3) := dk_167 0 5 (dk_at dksX0_holds_1 17 rfl rfl)
theorem dX0_holds_42 : decode cX0_holds 42 = .ok (.bipush (-2), 2) := dk_16 254 (dk_at dksX0_holds_1 20 rfl rfl)
theorem dX0_holds_44 : decode cX0_holds 44 = .ok (.ireturn, 1) := dk_172 (dk_at dksX0_holds_1 22 rfl rfl)
abbrev cX0_doHold : ByteArray := prog_1_method_59_code
def yX0_doHold : MethodName := ⟨RX0, "doHold", "(II)Z"⟩
def dkwX0_doHold_6 : List UInt8 := [167, 0, 4, 3, 172]
abbrev dktX0_doHold_6 : List UInt8 := dkwX0_doHold_6 ++ []
def dkwX0_doHold_5 : List UInt8 := [153, 0, 8, 16, 8, 167, 0, 4, 3, 128, 62, 132, 4, 1, 167, 255, 127, 29, 16, 15, 160, 0, 7, 4]
abbrev dktX0_doHold_5 : List UInt8 := dkwX0_doHold_5 ++ dktX0_doHold_6
def dkwX0_doHold_4 : List UInt8 := [133, 184, 0, 5, 153, 0, 7, 7, 167, 0, 4, 3, 128, 62, 29, 21, 5, 133, 10, 28, 133, 184, 0, 5]
abbrev dktX0_doHold_4 : List UInt8 := dkwX0_doHold_4 ++ dktX0_doHold_5
def dkwX0_doHold_3 : List UInt8 := [133, 10, 28, 133, 184, 0, 5, 153, 0, 7, 5, 167, 0, 4, 3, 128, 62, 29, 21, 5, 116, 133, 10, 28]
abbrev dktX0_doHold_3 : List UInt8 := dkwX0_doHold_3 ++ dktX0_doHold_4
def dkwX0_doHold_2 : List UInt8 := [29, 21, 6, 116, 133, 10, 28, 133, 184, 0, 5, 153, 0, 7, 4, 167, 0, 4, 3, 128, 62, 29, 21, 6]
abbrev dktX0_doHold_2 : List UInt8 := dkwX0_doHold_2 ++ dktX0_doHold_3
def dkwX0_doHold_1 : List UInt8 := [27, 16, 64, 112, 100, 54, 5, 42, 180, 1, 41, 21, 4, 46, 16, 64, 108, 27, 16, 64, 108, 100, 54, 6]
abbrev dktX0_doHold_1 : List UInt8 := dkwX0_doHold_1 ++ dktX0_doHold_2
def dkwX0_doHold_0 : List UInt8 := [3, 62, 3, 54, 4, 21, 4, 42, 180, 1, 161, 162, 0, 126, 42, 180, 1, 41, 21, 4, 46, 16, 64, 112]
abbrev dktX0_doHold_0 : List UInt8 := dkwX0_doHold_0 ++ dktX0_doHold_1
theorem dksX0_doHold_0 : cX0_doHold.data.toList.drop 0 = dktX0_doHold_0 := by decide +kernel
theorem dksX0_doHold_1 : cX0_doHold.data.toList.drop 24 = dktX0_doHold_1 := dk_seg dksX0_doHold_0 24 rfl rfl
theorem dksX0_doHold_2 : cX0_doHold.data.toList.drop 48 = dktX0_doHold_2 := dk_seg dksX0_doHold_1 24 rfl rfl
theorem dksX0_doHold_3 : cX0_doHold.data.toList.drop 72 = dktX0_doHold_3 := dk_seg dksX0_doHold_2 24 rfl rfl
theorem dksX0_doHold_4 : cX0_doHold.data.toList.drop 96 = dktX0_doHold_4 := dk_seg dksX0_doHold_3 24 rfl rfl
theorem dksX0_doHold_5 : cX0_doHold.data.toList.drop 120 = dktX0_doHold_5 := dk_seg dksX0_doHold_4 24 rfl rfl
theorem dksX0_doHold_6 : cX0_doHold.data.toList.drop 144 = dktX0_doHold_6 := dk_seg dksX0_doHold_5 24 rfl rfl
theorem dX0_doHold_0 : decode cX0_doHold 0 = .ok (.iconst 0, 1) := dk_3 (dk_at dksX0_doHold_0 0 rfl rfl)
theorem dX0_doHold_1 : decode cX0_doHold 1 = .ok (.istore_n 3, 1) := dk_62 (dk_at dksX0_doHold_0 1 rfl rfl)
theorem dX0_doHold_2 : decode cX0_doHold 2 = .ok (.iconst 0, 1) := dk_3 (dk_at dksX0_doHold_0 2 rfl rfl)
theorem dX0_doHold_3 : decode cX0_doHold 3 = .ok (.istore 4, 2) := dk_54 4 (dk_at dksX0_doHold_0 3 rfl rfl)
theorem dX0_doHold_5 : decode cX0_doHold 5 = .ok (.iload 4, 2) := dk_21 4 (dk_at dksX0_doHold_0 5 rfl rfl)
theorem dX0_doHold_7 : decode cX0_doHold 7 = .ok (.aload_n 0, 1) := dk_42 (dk_at dksX0_doHold_0 7 rfl rfl)
theorem dX0_doHold_8 : decode cX0_doHold 8 = .ok (.getfield 417, 3) := dk_180 1 161 (dk_at dksX0_doHold_0 8 rfl rfl)
theorem dX0_doHold_11 : decode cX0_doHold 11 = .ok (.if_icmp .ge 126, 3) := dk_162 0 126 (dk_at dksX0_doHold_0 11 rfl rfl)
theorem dX0_doHold_14 : decode cX0_doHold 14 = .ok (.aload_n 0, 1) := dk_42 (dk_at dksX0_doHold_0 14 rfl rfl)
theorem dX0_doHold_15 : decode cX0_doHold 15 = .ok (.getfield 297, 3) := dk_180 1 41 (dk_at dksX0_doHold_0 15 rfl rfl)
theorem dX0_doHold_18 : decode cX0_doHold 18 = .ok (.iload 4, 2) := dk_21 4 (dk_at dksX0_doHold_0 18 rfl rfl)
theorem dX0_doHold_20 : decode cX0_doHold 20 = .ok (.iaload, 1) := dk_46 (dk_at dksX0_doHold_0 20 rfl rfl)
theorem dX0_doHold_21 : decode cX0_doHold 21 = .ok (.bipush 64, 2) := dk_16 64 (dk_at dksX0_doHold_0 21 rfl rfl)
theorem dX0_doHold_23 : decode cX0_doHold 23 = .ok (.irem, 1) := dk_112 (dk_at dksX0_doHold_0 23 rfl rfl)
theorem dX0_doHold_24 : decode cX0_doHold 24 = .ok (.iload_n 1, 1) := dk_27 (dk_at dksX0_doHold_1 0 rfl rfl)
theorem dX0_doHold_25 : decode cX0_doHold 25 = .ok (.bipush 64, 2) := dk_16 64 (dk_at dksX0_doHold_1 1 rfl rfl)
theorem dX0_doHold_27 : decode cX0_doHold 27 = .ok (.irem, 1) := dk_112 (dk_at dksX0_doHold_1 3 rfl rfl)
theorem dX0_doHold_28 : decode cX0_doHold 28 = .ok (.isub, 1) := dk_100 (dk_at dksX0_doHold_1 4 rfl rfl)
theorem dX0_doHold_29 : decode cX0_doHold 29 = .ok (.istore 5, 2) := dk_54 5 (dk_at dksX0_doHold_1 5 rfl rfl)
theorem dX0_doHold_31 : decode cX0_doHold 31 = .ok (.aload_n 0, 1) := dk_42 (dk_at dksX0_doHold_1 7 rfl rfl)
theorem dX0_doHold_32 : decode cX0_doHold 32 = .ok (.getfield 297, 3) := dk_180 1 41 (dk_at dksX0_doHold_1 8 rfl rfl)
theorem dX0_doHold_35 : decode cX0_doHold 35 = .ok (.iload 4, 2) := dk_21 4 (dk_at dksX0_doHold_1 11 rfl rfl)
theorem dX0_doHold_37 : decode cX0_doHold 37 = .ok (.iaload, 1) := dk_46 (dk_at dksX0_doHold_1 13 rfl rfl)
theorem dX0_doHold_38 : decode cX0_doHold 38 = .ok (.bipush 64, 2) := dk_16 64 (dk_at dksX0_doHold_1 14 rfl rfl)
theorem dX0_doHold_40 : decode cX0_doHold 40 = .ok (.idiv, 1) := dk_108 (dk_at dksX0_doHold_1 16 rfl rfl)
theorem dX0_doHold_41 : decode cX0_doHold 41 = .ok (.iload_n 1, 1) := dk_27 (dk_at dksX0_doHold_1 17 rfl rfl)
theorem dX0_doHold_42 : decode cX0_doHold 42 = .ok (.bipush 64, 2) := dk_16 64 (dk_at dksX0_doHold_1 18 rfl rfl)
theorem dX0_doHold_44 : decode cX0_doHold 44 = .ok (.idiv, 1) := dk_108 (dk_at dksX0_doHold_1 20 rfl rfl)
theorem dX0_doHold_45 : decode cX0_doHold 45 = .ok (.isub, 1) := dk_100 (dk_at dksX0_doHold_1 21 rfl rfl)
theorem dX0_doHold_46 : decode cX0_doHold 46 = .ok (.istore 6, 2) := dk_54 6 (dk_at dksX0_doHold_1 22 rfl rfl)
theorem dX0_doHold_48 : decode cX0_doHold 48 = .ok (.iload_n 3, 1) := dk_29 (dk_at dksX0_doHold_2 0 rfl rfl)
theorem dX0_doHold_49 : decode cX0_doHold 49 = .ok (.iload 6, 2) := dk_21 6 (dk_at dksX0_doHold_2 1 rfl rfl)
theorem dX0_doHold_51 : decode cX0_doHold 51 = .ok (.ineg, 1) := dk_116 (dk_at dksX0_doHold_2 3 rfl rfl)
theorem dX0_doHold_52 : decode cX0_doHold 52 = .ok (.i2l, 1) := dk_133 (dk_at dksX0_doHold_2 4 rfl rfl)
theorem dX0_doHold_53 : decode cX0_doHold 53 = .ok (.lconst 1, 1) := dk_10 (dk_at dksX0_doHold_2 5 rfl rfl)
theorem dX0_doHold_54 : decode cX0_doHold 54 = .ok (.iload_n 2, 1) := dk_28 (dk_at dksX0_doHold_2 6 rfl rfl)
theorem dX0_doHold_55 : decode cX0_doHold 55 = .ok (.i2l, 1) := dk_133 (dk_at dksX0_doHold_2 7 rfl rfl)
theorem dX0_doHold_56 : decode cX0_doHold 56 = .ok (.invokestatic 5, 3) := dk_184 0 5 (dk_at dksX0_doHold_2 8 rfl rfl)
theorem dX0_doHold_59 : decode cX0_doHold 59 = .ok (.ifCond .eq 7, 3) := dk_153 0 7 (dk_at dksX0_doHold_2 11 rfl rfl)
theorem dX0_doHold_62 : decode cX0_doHold 62 = .ok (.iconst 1, 1) := dk_4 (dk_at dksX0_doHold_2 14 rfl rfl)
theorem dX0_doHold_63 : decode cX0_doHold 63 = .ok (.goto 4, 3) := dk_167 0 4 (dk_at dksX0_doHold_2 15 rfl rfl)
theorem dX0_doHold_66 : decode cX0_doHold 66 = .ok (.iconst 0, 1) := dk_3 (dk_at dksX0_doHold_2 18 rfl rfl)
theorem dX0_doHold_67 : decode cX0_doHold 67 = .ok (.ior, 1) := dk_128 (dk_at dksX0_doHold_2 19 rfl rfl)
theorem dX0_doHold_68 : decode cX0_doHold 68 = .ok (.istore_n 3, 1) := dk_62 (dk_at dksX0_doHold_2 20 rfl rfl)
theorem dX0_doHold_69 : decode cX0_doHold 69 = .ok (.iload_n 3, 1) := dk_29 (dk_at dksX0_doHold_2 21 rfl rfl)
theorem dX0_doHold_70 : decode cX0_doHold 70 = .ok (.iload 6, 2) := dk_21 6 (dk_at dksX0_doHold_2 22 rfl rfl)
theorem dX0_doHold_72 : decode cX0_doHold 72 = .ok (.i2l, 1) := dk_133 (dk_at dksX0_doHold_3 0 rfl rfl)
theorem dX0_doHold_73 : decode cX0_doHold 73 = .ok (.lconst 1, 1) := dk_10 (dk_at dksX0_doHold_3 1 rfl rfl)
theorem dX0_doHold_74 : decode cX0_doHold 74 = .ok (.iload_n 2, 1) := dk_28 (dk_at dksX0_doHold_3 2 rfl rfl)
theorem dX0_doHold_75 : decode cX0_doHold 75 = .ok (.i2l, 1) := dk_133 (dk_at dksX0_doHold_3 3 rfl rfl)
theorem dX0_doHold_76 : decode cX0_doHold 76 = .ok (.invokestatic 5, 3) := dk_184 0 5 (dk_at dksX0_doHold_3 4 rfl rfl)
theorem dX0_doHold_79 : decode cX0_doHold 79 = .ok (.ifCond .eq 7, 3) := dk_153 0 7 (dk_at dksX0_doHold_3 7 rfl rfl)
theorem dX0_doHold_82 : decode cX0_doHold 82 = .ok (.iconst 2, 1) := dk_5 (dk_at dksX0_doHold_3 10 rfl rfl)
theorem dX0_doHold_83 : decode cX0_doHold 83 = .ok (.goto 4, 3) := dk_167 0 4 (dk_at dksX0_doHold_3 11 rfl rfl)
theorem dX0_doHold_86 : decode cX0_doHold 86 = .ok (.iconst 0, 1) := dk_3 (dk_at dksX0_doHold_3 14 rfl rfl)
theorem dX0_doHold_87 : decode cX0_doHold 87 = .ok (.ior, 1) := dk_128 (dk_at dksX0_doHold_3 15 rfl rfl)
theorem dX0_doHold_88 : decode cX0_doHold 88 = .ok (.istore_n 3, 1) := dk_62 (dk_at dksX0_doHold_3 16 rfl rfl)
theorem dX0_doHold_89 : decode cX0_doHold 89 = .ok (.iload_n 3, 1) := dk_29 (dk_at dksX0_doHold_3 17 rfl rfl)
theorem dX0_doHold_90 : decode cX0_doHold 90 = .ok (.iload 5, 2) := dk_21 5 (dk_at dksX0_doHold_3 18 rfl rfl)
theorem dX0_doHold_92 : decode cX0_doHold 92 = .ok (.ineg, 1) := dk_116 (dk_at dksX0_doHold_3 20 rfl rfl)
theorem dX0_doHold_93 : decode cX0_doHold 93 = .ok (.i2l, 1) := dk_133 (dk_at dksX0_doHold_3 21 rfl rfl)
theorem dX0_doHold_94 : decode cX0_doHold 94 = .ok (.lconst 1, 1) := dk_10 (dk_at dksX0_doHold_3 22 rfl rfl)
theorem dX0_doHold_95 : decode cX0_doHold 95 = .ok (.iload_n 2, 1) := dk_28 (dk_at dksX0_doHold_3 23 rfl rfl)
theorem dX0_doHold_96 : decode cX0_doHold 96 = .ok (.i2l, 1) := dk_133 (dk_at dksX0_doHold_4 0 rfl rfl)
theorem dX0_doHold_97 : decode cX0_doHold 97 = .ok (.invokestatic 5, 3) := dk_184 0 5 (dk_at dksX0_doHold_4 1 rfl rfl)
theorem dX0_doHold_100 : decode cX0_doHold 100 = .ok (.ifCond .eq 7, 3) := dk_153 0 7 (dk_at dksX0_doHold_4 4 rfl rfl)
theorem dX0_doHold_103 : decode cX0_doHold 103 = .ok (.iconst 4, 1) := dk_7 (dk_at dksX0_doHold_4 7 rfl rfl)
theorem dX0_doHold_104 : decode cX0_doHold 104 = .ok (.goto 4, 3) := dk_167 0 4 (dk_at dksX0_doHold_4 8 rfl rfl)
theorem dX0_doHold_107 : decode cX0_doHold 107 = .ok (.iconst 0, 1) := dk_3 (dk_at dksX0_doHold_4 11 rfl rfl)
theorem dX0_doHold_108 : decode cX0_doHold 108 = .ok (.ior, 1) := dk_128 (dk_at dksX0_doHold_4 12 rfl rfl)
theorem dX0_doHold_109 : decode cX0_doHold 109 = .ok (.istore_n 3, 1) := dk_62 (dk_at dksX0_doHold_4 13 rfl rfl)
theorem dX0_doHold_110 : decode cX0_doHold 110 = .ok (.iload_n 3, 1) := dk_29 (dk_at dksX0_doHold_4 14 rfl rfl)
theorem dX0_doHold_111 : decode cX0_doHold 111 = .ok (.iload 5, 2) := dk_21 5 (dk_at dksX0_doHold_4 15 rfl rfl)
theorem dX0_doHold_113 : decode cX0_doHold 113 = .ok (.i2l, 1) := dk_133 (dk_at dksX0_doHold_4 17 rfl rfl)
theorem dX0_doHold_114 : decode cX0_doHold 114 = .ok (.lconst 1, 1) := dk_10 (dk_at dksX0_doHold_4 18 rfl rfl)
theorem dX0_doHold_115 : decode cX0_doHold 115 = .ok (.iload_n 2, 1) := dk_28 (dk_at dksX0_doHold_4 19 rfl rfl)
theorem dX0_doHold_116 : decode cX0_doHold 116 = .ok (.i2l, 1) := dk_133 (dk_at dksX0_doHold_4 20 rfl rfl)
theorem dX0_doHold_117 : decode cX0_doHold 117 = .ok (.invokestatic 5, 3) := dk_184 0 5 (dk_at dksX0_doHold_4 21 rfl rfl)
theorem dX0_doHold_120 : decode cX0_doHold 120 = .ok (.ifCond .eq 8, 3) := dk_153 0 8 (dk_at dksX0_doHold_5 0 rfl rfl)
theorem dX0_doHold_123 : decode cX0_doHold 123 = .ok (.bipush 8, 2) := dk_16 8 (dk_at dksX0_doHold_5 3 rfl rfl)
theorem dX0_doHold_125 : decode cX0_doHold 125 = .ok (.goto 4, 3) := dk_167 0 4 (dk_at dksX0_doHold_5 5 rfl rfl)
theorem dX0_doHold_128 : decode cX0_doHold 128 = .ok (.iconst 0, 1) := dk_3 (dk_at dksX0_doHold_5 8 rfl rfl)
theorem dX0_doHold_129 : decode cX0_doHold 129 = .ok (.ior, 1) := dk_128 (dk_at dksX0_doHold_5 9 rfl rfl)
theorem dX0_doHold_130 : decode cX0_doHold 130 = .ok (.istore_n 3, 1) := dk_62 (dk_at dksX0_doHold_5 10 rfl rfl)
theorem dX0_doHold_131 : decode cX0_doHold 131 = .ok (.iinc 4 1, 3) := dk_132 4 1 (dk_at dksX0_doHold_5 11 rfl rfl)
theorem dX0_doHold_134 : decode cX0_doHold 134 = .ok (.goto (-129), 3) := dk_167 255 127 (dk_at dksX0_doHold_5 14 rfl rfl)
theorem dX0_doHold_137 : decode cX0_doHold 137 = .ok (.iload_n 3, 1) := dk_29 (dk_at dksX0_doHold_5 17 rfl rfl)
theorem dX0_doHold_138 : decode cX0_doHold 138 = .ok (.bipush 15, 2) := dk_16 15 (dk_at dksX0_doHold_5 18 rfl rfl)
theorem dX0_doHold_140 : decode cX0_doHold 140 = .ok (.if_icmp .ne 7, 3) := dk_160 0 7 (dk_at dksX0_doHold_5 20 rfl rfl)
theorem dX0_doHold_143 : decode cX0_doHold 143 = .ok (.iconst 1, 1) := dk_4 (dk_at dksX0_doHold_5 23 rfl rfl)
theorem dX0_doHold_144 : decode cX0_doHold 144 = .ok (.goto 4, 3) := dk_167 0 4 (dk_at dksX0_doHold_6 0 rfl rfl)
theorem dX0_doHold_147 : decode cX0_doHold 147 = .ok (.iconst 0, 1) := dk_3 (dk_at dksX0_doHold_6 3 rfl rfl)
theorem dX0_doHold_148 : decode cX0_doHold 148 = .ok (.ireturn, 1) := dk_172 (dk_at dksX0_doHold_6 4 rfl rfl)
abbrev cX0_bars : ByteArray := prog_1_method_62_code
def yX0_bars : MethodName := ⟨RX0, "bars", "(II)I"⟩
def dkwX0_bars_5 : List UInt8 := [191]
abbrev dktX0_bars_5 : List UInt8 := dkwX0_bars_5 ++ []
def dkwX0_bars_4 : List UInt8 := [132, 4, 1, 167, 255, 207, 29, 54, 4, 42, 182, 1, 127, 21, 4, 172, 58, 5, 42, 182, 1, 127, 25, 5]
abbrev dktX0_bars_4 : List UInt8 := dkwX0_bars_4 ++ dktX0_bars_5
def dkwX0_bars_3 : List UInt8 := [153, 0, 21, 42, 42, 180, 0, 16, 21, 4, 46, 182, 1, 168, 153, 0, 7, 4, 167, 0, 4, 3, 96, 62]
abbrev dktX0_bars_3 : List UInt8 := dkwX0_bars_3 ++ dktX0_bars_4
def dkwX0_bars_2 : List UInt8 := [54, 4, 21, 4, 42, 180, 0, 9, 162, 0, 46, 29, 42, 42, 180, 1, 20, 21, 4, 46, 28, 182, 1, 164]
abbrev dktX0_bars_2 : List UInt8 := dkwX0_bars_2 ++ dktX0_bars_3
def dkwX0_bars_1 : List UInt8 := [182, 1, 121, 42, 42, 180, 0, 75, 27, 50, 3, 42, 180, 0, 13, 4, 100, 182, 1, 124, 3, 62, 3]
abbrev dktX0_bars_1 : List UInt8 := dkwX0_bars_1 ++ dktX0_bars_2
def dkwX0_bars_0 : List UInt8 := [42, 27, 182, 0, 83, 153, 0, 15, 28, 133, 9, 20, 1, 100, 184, 0, 5, 154, 0, 6, 16, 254, 172, 42]
abbrev dktX0_bars_0 : List UInt8 := dkwX0_bars_0 ++ dktX0_bars_1
theorem dksX0_bars_0 : cX0_bars.data.toList.drop 0 = dktX0_bars_0 := by decide +kernel
theorem dksX0_bars_1 : cX0_bars.data.toList.drop 24 = dktX0_bars_1 := dk_seg dksX0_bars_0 24 rfl rfl
theorem dksX0_bars_2 : cX0_bars.data.toList.drop 47 = dktX0_bars_2 := dk_seg dksX0_bars_1 23 rfl rfl
theorem dksX0_bars_3 : cX0_bars.data.toList.drop 71 = dktX0_bars_3 := dk_seg dksX0_bars_2 24 rfl rfl
theorem dksX0_bars_4 : cX0_bars.data.toList.drop 95 = dktX0_bars_4 := dk_seg dksX0_bars_3 24 rfl rfl
theorem dksX0_bars_5 : cX0_bars.data.toList.drop 119 = dktX0_bars_5 := dk_seg dksX0_bars_4 24 rfl rfl
theorem dX0_bars_0 : decode cX0_bars 0 = .ok (.aload_n 0, 1) := dk_42 (dk_at dksX0_bars_0 0 rfl rfl)
theorem dX0_bars_1 : decode cX0_bars 1 = .ok (.iload_n 1, 1) := dk_27 (dk_at dksX0_bars_0 1 rfl rfl)
theorem dX0_bars_2 : decode cX0_bars 2 = .ok (.invokevirtual 83, 3) := dk_182 0 83 (dk_at dksX0_bars_0 2 rfl rfl)
theorem dX0_bars_5 : decode cX0_bars 5 = .ok (.ifCond .eq 15, 3) := dk_153 0 15 (dk_at dksX0_bars_0 5 rfl rfl)
theorem dX0_bars_8 : decode cX0_bars 8 = .ok (.iload_n 2, 1) := dk_28 (dk_at dksX0_bars_0 8 rfl rfl)
theorem dX0_bars_9 : decode cX0_bars 9 = .ok (.i2l, 1) := dk_133 (dk_at dksX0_bars_0 9 rfl rfl)
theorem dX0_bars_10 : decode cX0_bars 10 = .ok (.lconst 0, 1) := dk_9 (dk_at dksX0_bars_0 10 rfl rfl)
theorem dX0_bars_11 : decode cX0_bars 11 = .ok (.ldc2_w 356, 3) := dk_20 1 100 (dk_at dksX0_bars_0 11 rfl rfl)
theorem dX0_bars_14 : decode cX0_bars 14 = .ok (.invokestatic 5, 3) := dk_184 0 5 (dk_at dksX0_bars_0 14 rfl rfl)
theorem dX0_bars_17 : decode cX0_bars 17 = .ok (.ifCond .ne 6, 3) := dk_154 0 6 (dk_at dksX0_bars_0 17 rfl rfl)
theorem dX0_bars_20 : decode cX0_bars 20 = .ok (.bipush (-2), 2) := dk_16 254 (dk_at dksX0_bars_0 20 rfl rfl)
theorem dX0_bars_22 : decode cX0_bars 22 = .ok (.ireturn, 1) := dk_172 (dk_at dksX0_bars_0 22 rfl rfl)
theorem dX0_bars_23 : decode cX0_bars 23 = .ok (.aload_n 0, 1) := dk_42 (dk_at dksX0_bars_0 23 rfl rfl)
theorem dX0_bars_24 : decode cX0_bars 24 = .ok (.invokevirtual 377, 3) := dk_182 1 121 (dk_at dksX0_bars_1 0 rfl rfl)
theorem dX0_bars_27 : decode cX0_bars 27 = .ok (.aload_n 0, 1) := dk_42 (dk_at dksX0_bars_1 3 rfl rfl)
theorem dX0_bars_28 : decode cX0_bars 28 = .ok (.aload_n 0, 1) := dk_42 (dk_at dksX0_bars_1 4 rfl rfl)
theorem dX0_bars_29 : decode cX0_bars 29 = .ok (.getfield 75, 3) := dk_180 0 75 (dk_at dksX0_bars_1 5 rfl rfl)
theorem dX0_bars_32 : decode cX0_bars 32 = .ok (.iload_n 1, 1) := dk_27 (dk_at dksX0_bars_1 8 rfl rfl)
theorem dX0_bars_33 : decode cX0_bars 33 = .ok (.aaload, 1) := dk_50 (dk_at dksX0_bars_1 9 rfl rfl)
theorem dX0_bars_34 : decode cX0_bars 34 = .ok (.iconst 0, 1) := dk_3 (dk_at dksX0_bars_1 10 rfl rfl)
theorem dX0_bars_35 : decode cX0_bars 35 = .ok (.aload_n 0, 1) := dk_42 (dk_at dksX0_bars_1 11 rfl rfl)
theorem dX0_bars_36 : decode cX0_bars 36 = .ok (.getfield 13, 3) := dk_180 0 13 (dk_at dksX0_bars_1 12 rfl rfl)
theorem dX0_bars_39 : decode cX0_bars 39 = .ok (.iconst 1, 1) := dk_4 (dk_at dksX0_bars_1 15 rfl rfl)
theorem dX0_bars_40 : decode cX0_bars 40 = .ok (.isub, 1) := dk_100 (dk_at dksX0_bars_1 16 rfl rfl)
theorem dX0_bars_41 : decode cX0_bars 41 = .ok (.invokevirtual 380, 3) := dk_182 1 124 (dk_at dksX0_bars_1 17 rfl rfl)
theorem dX0_bars_44 : decode cX0_bars 44 = .ok (.iconst 0, 1) := dk_3 (dk_at dksX0_bars_1 20 rfl rfl)
theorem dX0_bars_45 : decode cX0_bars 45 = .ok (.istore_n 3, 1) := dk_62 (dk_at dksX0_bars_1 21 rfl rfl)
theorem dX0_bars_46 : decode cX0_bars 46 = .ok (.iconst 0, 1) := dk_3 (dk_at dksX0_bars_1 22 rfl rfl)
theorem dX0_bars_47 : decode cX0_bars 47 = .ok (.istore 4, 2) := dk_54 4 (dk_at dksX0_bars_2 0 rfl rfl)
theorem dX0_bars_49 : decode cX0_bars 49 = .ok (.iload 4, 2) := dk_21 4 (dk_at dksX0_bars_2 2 rfl rfl)
theorem dX0_bars_51 : decode cX0_bars 51 = .ok (.aload_n 0, 1) := dk_42 (dk_at dksX0_bars_2 4 rfl rfl)
theorem dX0_bars_52 : decode cX0_bars 52 = .ok (.getfield 9, 3) := dk_180 0 9 (dk_at dksX0_bars_2 5 rfl rfl)
theorem dX0_bars_55 : decode cX0_bars 55 = .ok (.if_icmp .ge 46, 3) := dk_162 0 46 (dk_at dksX0_bars_2 8 rfl rfl)
theorem dX0_bars_58 : decode cX0_bars 58 = .ok (.iload_n 3, 1) := dk_29 (dk_at dksX0_bars_2 11 rfl rfl)
theorem dX0_bars_59 : decode cX0_bars 59 = .ok (.aload_n 0, 1) := dk_42 (dk_at dksX0_bars_2 12 rfl rfl)
theorem dX0_bars_60 : decode cX0_bars 60 = .ok (.aload_n 0, 1) := dk_42 (dk_at dksX0_bars_2 13 rfl rfl)
theorem dX0_bars_61 : decode cX0_bars 61 = .ok (.getfield 276, 3) := dk_180 1 20 (dk_at dksX0_bars_2 14 rfl rfl)
theorem dX0_bars_64 : decode cX0_bars 64 = .ok (.iload 4, 2) := dk_21 4 (dk_at dksX0_bars_2 17 rfl rfl)
theorem dX0_bars_66 : decode cX0_bars 66 = .ok (.iaload, 1) := dk_46 (dk_at dksX0_bars_2 19 rfl rfl)
theorem dX0_bars_67 : decode cX0_bars 67 = .ok (.iload_n 2, 1) := dk_28 (dk_at dksX0_bars_2 20 rfl rfl)
theorem dX0_bars_68 : decode cX0_bars 68 = .ok (.invokevirtual 420, 3) := dk_182 1 164 (dk_at dksX0_bars_2 21 rfl rfl)
theorem dX0_bars_71 : decode cX0_bars 71 = .ok (.ifCond .eq 21, 3) := dk_153 0 21 (dk_at dksX0_bars_3 0 rfl rfl)
theorem dX0_bars_74 : decode cX0_bars 74 = .ok (.aload_n 0, 1) := dk_42 (dk_at dksX0_bars_3 3 rfl rfl)
theorem dX0_bars_75 : decode cX0_bars 75 = .ok (.aload_n 0, 1) := dk_42 (dk_at dksX0_bars_3 4 rfl rfl)
theorem dX0_bars_76 : decode cX0_bars 76 = .ok (.getfield 16, 3) := dk_180 0 16 (dk_at dksX0_bars_3 5 rfl rfl)
theorem dX0_bars_79 : decode cX0_bars 79 = .ok (.iload 4, 2) := dk_21 4 (dk_at dksX0_bars_3 8 rfl rfl)
theorem dX0_bars_81 : decode cX0_bars 81 = .ok (.iaload, 1) := dk_46 (dk_at dksX0_bars_3 10 rfl rfl)
theorem dX0_bars_82 : decode cX0_bars 82 = .ok (.invokevirtual 424, 3) := dk_182 1 168 (dk_at dksX0_bars_3 11 rfl rfl)
theorem dX0_bars_85 : decode cX0_bars 85 = .ok (.ifCond .eq 7, 3) := dk_153 0 7 (dk_at dksX0_bars_3 14 rfl rfl)
theorem dX0_bars_88 : decode cX0_bars 88 = .ok (.iconst 1, 1) := dk_4 (dk_at dksX0_bars_3 17 rfl rfl)
theorem dX0_bars_89 : decode cX0_bars 89 = .ok (.goto 4, 3) := dk_167 0 4 (dk_at dksX0_bars_3 18 rfl rfl)
theorem dX0_bars_92 : decode cX0_bars 92 = .ok (.iconst 0, 1) := dk_3 (dk_at dksX0_bars_3 21 rfl rfl)
theorem dX0_bars_93 : decode cX0_bars 93 = .ok (.iadd, 1) := dk_96 (dk_at dksX0_bars_3 22 rfl rfl)
theorem dX0_bars_94 : decode cX0_bars 94 = .ok (.istore_n 3, 1) := dk_62 (dk_at dksX0_bars_3 23 rfl rfl)
theorem dX0_bars_95 : decode cX0_bars 95 = .ok (.iinc 4 1, 3) := dk_132 4 1 (dk_at dksX0_bars_4 0 rfl rfl)
theorem dX0_bars_98 : decode cX0_bars 98 = .ok (.goto (-49), 3) := dk_167 255 207 (dk_at dksX0_bars_4 3 rfl rfl)
theorem dX0_bars_101 : decode cX0_bars 101 = .ok (.iload_n 3, 1) := dk_29 (dk_at dksX0_bars_4 6 rfl rfl)
theorem dX0_bars_102 : decode cX0_bars 102 = .ok (.istore 4, 2) := dk_54 4 (dk_at dksX0_bars_4 7 rfl rfl)
theorem dX0_bars_104 : decode cX0_bars 104 = .ok (.aload_n 0, 1) := dk_42 (dk_at dksX0_bars_4 9 rfl rfl)
theorem dX0_bars_105 : decode cX0_bars 105 = .ok (.invokevirtual 383, 3) := dk_182 1 127 (dk_at dksX0_bars_4 10 rfl rfl)
theorem dX0_bars_108 : decode cX0_bars 108 = .ok (.iload 4, 2) := dk_21 4 (dk_at dksX0_bars_4 13 rfl rfl)
theorem dX0_bars_110 : decode cX0_bars 110 = .ok (.ireturn, 1) := dk_172 (dk_at dksX0_bars_4 15 rfl rfl)
theorem dX0_bars_111 : decode cX0_bars 111 = .ok (.astore 5, 2) := dk_58 5 (dk_at dksX0_bars_4 16 rfl rfl)
theorem dX0_bars_113 : decode cX0_bars 113 = .ok (.aload_n 0, 1) := dk_42 (dk_at dksX0_bars_4 18 rfl rfl)
theorem dX0_bars_114 : decode cX0_bars 114 = .ok (.invokevirtual 383, 3) := dk_182 1 127 (dk_at dksX0_bars_4 19 rfl rfl)
theorem dX0_bars_117 : decode cX0_bars 117 = .ok (.aload 5, 2) := dk_25 5 (dk_at dksX0_bars_4 22 rfl rfl)
theorem dX0_bars_119 : decode cX0_bars 119 = .ok (.athrow, 1) := dk_191 (dk_at dksX0_bars_5 0 rfl rfl)
abbrev cX0_isOut : ByteArray := prog_1_method_61_code
def yX0_isOut : MethodName := ⟨RX0, "isOut", "(I)Z"⟩
def dkwX0_isOut_5 : List UInt8 := [160, 0, 8, 29, 6, 159, 0, 7, 4, 167, 0, 4, 3, 172]
abbrev dktX0_isOut_5 : List UInt8 := dkwX0_isOut_5 ++ []
def dkwX0_isOut_4 : List UInt8 := [108, 27, 16, 64, 108, 161, 0, 7, 5, 167, 0, 4, 3, 128, 128, 62, 132, 4, 1, 167, 255, 148, 28, 6]
abbrev dktX0_isOut_4 : List UInt8 := dkwX0_isOut_4 ++ dktX0_isOut_5
def dkwX0_isOut_3 : List UInt8 := [16, 64, 112, 27, 16, 64, 112, 161, 0, 7, 4, 167, 0, 4, 3, 42, 180, 1, 41, 21, 4, 46, 16, 64]
abbrev dktX0_isOut_3 : List UInt8 := dkwX0_isOut_3 ++ dktX0_isOut_4
def dkwX0_isOut_2 : List UInt8 := [108, 27, 16, 64, 108, 163, 0, 7, 5, 167, 0, 4, 3, 128, 128, 61, 29, 42, 180, 1, 41, 21, 4, 46]
abbrev dktX0_isOut_2 : List UInt8 := dkwX0_isOut_2 ++ dktX0_isOut_3
def dkwX0_isOut_1 : List UInt8 := [16, 64, 112, 27, 16, 64, 112, 163, 0, 7, 4, 167, 0, 4, 3, 42, 180, 1, 41, 21, 4, 46, 16, 64]
abbrev dktX0_isOut_1 : List UInt8 := dkwX0_isOut_1 ++ dktX0_isOut_2
def dkwX0_isOut_0 : List UInt8 := [3, 61, 3, 62, 3, 54, 4, 21, 4, 42, 180, 1, 161, 162, 0, 105, 28, 42, 180, 1, 41, 21, 4, 46]
abbrev dktX0_isOut_0 : List UInt8 := dkwX0_isOut_0 ++ dktX0_isOut_1
theorem dksX0_isOut_0 : cX0_isOut.data.toList.drop 0 = dktX0_isOut_0 := by decide +kernel
theorem dksX0_isOut_1 : cX0_isOut.data.toList.drop 24 = dktX0_isOut_1 := dk_seg dksX0_isOut_0 24 rfl rfl
theorem dksX0_isOut_2 : cX0_isOut.data.toList.drop 48 = dktX0_isOut_2 := dk_seg dksX0_isOut_1 24 rfl rfl
theorem dksX0_isOut_3 : cX0_isOut.data.toList.drop 72 = dktX0_isOut_3 := dk_seg dksX0_isOut_2 24 rfl rfl
theorem dksX0_isOut_4 : cX0_isOut.data.toList.drop 96 = dktX0_isOut_4 := dk_seg dksX0_isOut_3 24 rfl rfl
theorem dksX0_isOut_5 : cX0_isOut.data.toList.drop 120 = dktX0_isOut_5 := dk_seg dksX0_isOut_4 24 rfl rfl
theorem dX0_isOut_0 : decode cX0_isOut 0 = .ok (.iconst 0, 1) := dk_3 (dk_at dksX0_isOut_0 0 rfl rfl)
theorem dX0_isOut_1 : decode cX0_isOut 1 = .ok (.istore_n 2, 1) := dk_61 (dk_at dksX0_isOut_0 1 rfl rfl)
theorem dX0_isOut_2 : decode cX0_isOut 2 = .ok (.iconst 0, 1) := dk_3 (dk_at dksX0_isOut_0 2 rfl rfl)
theorem dX0_isOut_3 : decode cX0_isOut 3 = .ok (.istore_n 3, 1) := dk_62 (dk_at dksX0_isOut_0 3 rfl rfl)
theorem dX0_isOut_4 : decode cX0_isOut 4 = .ok (.iconst 0, 1) := dk_3 (dk_at dksX0_isOut_0 4 rfl rfl)
theorem dX0_isOut_5 : decode cX0_isOut 5 = .ok (.istore 4, 2) := dk_54 4 (dk_at dksX0_isOut_0 5 rfl rfl)
theorem dX0_isOut_7 : decode cX0_isOut 7 = .ok (.iload 4, 2) := dk_21 4 (dk_at dksX0_isOut_0 7 rfl rfl)
theorem dX0_isOut_9 : decode cX0_isOut 9 = .ok (.aload_n 0, 1) := dk_42 (dk_at dksX0_isOut_0 9 rfl rfl)
theorem dX0_isOut_10 : decode cX0_isOut 10 = .ok (.getfield 417, 3) := dk_180 1 161 (dk_at dksX0_isOut_0 10 rfl rfl)
theorem dX0_isOut_13 : decode cX0_isOut 13 = .ok (.if_icmp .ge 105, 3) := dk_162 0 105 (dk_at dksX0_isOut_0 13 rfl rfl)
theorem dX0_isOut_16 : decode cX0_isOut 16 = .ok (.iload_n 2, 1) := dk_28 (dk_at dksX0_isOut_0 16 rfl rfl)
theorem dX0_isOut_17 : decode cX0_isOut 17 = .ok (.aload_n 0, 1) := dk_42 (dk_at dksX0_isOut_0 17 rfl rfl)
theorem dX0_isOut_18 : decode cX0_isOut 18 = .ok (.getfield 297, 3) := dk_180 1 41 (dk_at dksX0_isOut_0 18 rfl rfl)
theorem dX0_isOut_21 : decode cX0_isOut 21 = .ok (.iload 4, 2) := dk_21 4 (dk_at dksX0_isOut_0 21 rfl rfl)
theorem dX0_isOut_23 : decode cX0_isOut 23 = .ok (.iaload, 1) := dk_46 (dk_at dksX0_isOut_0 23 rfl rfl)
theorem dX0_isOut_24 : decode cX0_isOut 24 = .ok (.bipush 64, 2) := dk_16 64 (dk_at dksX0_isOut_1 0 rfl rfl)
theorem dX0_isOut_26 : decode cX0_isOut 26 = .ok (.irem, 1) := dk_112 (dk_at dksX0_isOut_1 2 rfl rfl)
theorem dX0_isOut_27 : decode cX0_isOut 27 = .ok (.iload_n 1, 1) := dk_27 (dk_at dksX0_isOut_1 3 rfl rfl)
theorem dX0_isOut_28 : decode cX0_isOut 28 = .ok (.bipush 64, 2) := dk_16 64 (dk_at dksX0_isOut_1 4 rfl rfl)
theorem dX0_isOut_30 : decode cX0_isOut 30 = .ok (.irem, 1) := dk_112 (dk_at dksX0_isOut_1 6 rfl rfl)
theorem dX0_isOut_31 : decode cX0_isOut 31 = .ok (.if_icmp .gt 7, 3) := dk_163 0 7 (dk_at dksX0_isOut_1 7 rfl rfl)
theorem dX0_isOut_34 : decode cX0_isOut 34 = .ok (.iconst 1, 1) := dk_4 (dk_at dksX0_isOut_1 10 rfl rfl)
theorem dX0_isOut_35 : decode cX0_isOut 35 = .ok (.goto 4, 3) := dk_167 0 4 (dk_at dksX0_isOut_1 11 rfl rfl)
theorem dX0_isOut_38 : decode cX0_isOut 38 = .ok (.iconst 0, 1) := dk_3 (dk_at dksX0_isOut_1 14 rfl rfl)
theorem dX0_isOut_39 : decode cX0_isOut 39 = .ok (.aload_n 0, 1) := dk_42 (dk_at dksX0_isOut_1 15 rfl rfl)
theorem dX0_isOut_40 : decode cX0_isOut 40 = .ok (.getfield 297, 3) := dk_180 1 41 (dk_at dksX0_isOut_1 16 rfl rfl)
theorem dX0_isOut_43 : decode cX0_isOut 43 = .ok (.iload 4, 2) := dk_21 4 (dk_at dksX0_isOut_1 19 rfl rfl)
theorem dX0_isOut_45 : decode cX0_isOut 45 = .ok (.iaload, 1) := dk_46 (dk_at dksX0_isOut_1 21 rfl rfl)
theorem dX0_isOut_46 : decode cX0_isOut 46 = .ok (.bipush 64, 2) := dk_16 64 (dk_at dksX0_isOut_1 22 rfl rfl)
theorem dX0_isOut_48 : decode cX0_isOut 48 = .ok (.idiv, 1) := dk_108 (dk_at dksX0_isOut_2 0 rfl rfl)
theorem dX0_isOut_49 : decode cX0_isOut 49 = .ok (.iload_n 1, 1) := dk_27 (dk_at dksX0_isOut_2 1 rfl rfl)
theorem dX0_isOut_50 : decode cX0_isOut 50 = .ok (.bipush 64, 2) := dk_16 64 (dk_at dksX0_isOut_2 2 rfl rfl)
theorem dX0_isOut_52 : decode cX0_isOut 52 = .ok (.idiv, 1) := dk_108 (dk_at dksX0_isOut_2 4 rfl rfl)
theorem dX0_isOut_53 : decode cX0_isOut 53 = .ok (.if_icmp .gt 7, 3) := dk_163 0 7 (dk_at dksX0_isOut_2 5 rfl rfl)
theorem dX0_isOut_56 : decode cX0_isOut 56 = .ok (.iconst 2, 1) := dk_5 (dk_at dksX0_isOut_2 8 rfl rfl)
theorem dX0_isOut_57 : decode cX0_isOut 57 = .ok (.goto 4, 3) := dk_167 0 4 (dk_at dksX0_isOut_2 9 rfl rfl)
theorem dX0_isOut_60 : decode cX0_isOut 60 = .ok (.iconst 0, 1) := dk_3 (dk_at dksX0_isOut_2 12 rfl rfl)
theorem dX0_isOut_61 : decode cX0_isOut 61 = .ok (.ior, 1) := dk_128 (dk_at dksX0_isOut_2 13 rfl rfl)
theorem dX0_isOut_62 : decode cX0_isOut 62 = .ok (.ior, 1) := dk_128 (dk_at dksX0_isOut_2 14 rfl rfl)
theorem dX0_isOut_63 : decode cX0_isOut 63 = .ok (.istore_n 2, 1) := dk_61 (dk_at dksX0_isOut_2 15 rfl rfl)
theorem dX0_isOut_64 : decode cX0_isOut 64 = .ok (.iload_n 3, 1) := dk_29 (dk_at dksX0_isOut_2 16 rfl rfl)
theorem dX0_isOut_65 : decode cX0_isOut 65 = .ok (.aload_n 0, 1) := dk_42 (dk_at dksX0_isOut_2 17 rfl rfl)
theorem dX0_isOut_66 : decode cX0_isOut 66 = .ok (.getfield 297, 3) := dk_180 1 41 (dk_at dksX0_isOut_2 18 rfl rfl)
theorem dX0_isOut_69 : decode cX0_isOut 69 = .ok (.iload 4, 2) := dk_21 4 (dk_at dksX0_isOut_2 21 rfl rfl)
theorem dX0_isOut_71 : decode cX0_isOut 71 = .ok (.iaload, 1) := dk_46 (dk_at dksX0_isOut_2 23 rfl rfl)
theorem dX0_isOut_72 : decode cX0_isOut 72 = .ok (.bipush 64, 2) := dk_16 64 (dk_at dksX0_isOut_3 0 rfl rfl)
theorem dX0_isOut_74 : decode cX0_isOut 74 = .ok (.irem, 1) := dk_112 (dk_at dksX0_isOut_3 2 rfl rfl)
theorem dX0_isOut_75 : decode cX0_isOut 75 = .ok (.iload_n 1, 1) := dk_27 (dk_at dksX0_isOut_3 3 rfl rfl)
theorem dX0_isOut_76 : decode cX0_isOut 76 = .ok (.bipush 64, 2) := dk_16 64 (dk_at dksX0_isOut_3 4 rfl rfl)
theorem dX0_isOut_78 : decode cX0_isOut 78 = .ok (.irem, 1) := dk_112 (dk_at dksX0_isOut_3 6 rfl rfl)
theorem dX0_isOut_79 : decode cX0_isOut 79 = .ok (.if_icmp .lt 7, 3) := dk_161 0 7 (dk_at dksX0_isOut_3 7 rfl rfl)
theorem dX0_isOut_82 : decode cX0_isOut 82 = .ok (.iconst 1, 1) := dk_4 (dk_at dksX0_isOut_3 10 rfl rfl)
theorem dX0_isOut_83 : decode cX0_isOut 83 = .ok (.goto 4, 3) := dk_167 0 4 (dk_at dksX0_isOut_3 11 rfl rfl)
theorem dX0_isOut_86 : decode cX0_isOut 86 = .ok (.iconst 0, 1) := dk_3 (dk_at dksX0_isOut_3 14 rfl rfl)
theorem dX0_isOut_87 : decode cX0_isOut 87 = .ok (.aload_n 0, 1) := dk_42 (dk_at dksX0_isOut_3 15 rfl rfl)
theorem dX0_isOut_88 : decode cX0_isOut 88 = .ok (.getfield 297, 3) := dk_180 1 41 (dk_at dksX0_isOut_3 16 rfl rfl)
theorem dX0_isOut_91 : decode cX0_isOut 91 = .ok (.iload 4, 2) := dk_21 4 (dk_at dksX0_isOut_3 19 rfl rfl)
theorem dX0_isOut_93 : decode cX0_isOut 93 = .ok (.iaload, 1) := dk_46 (dk_at dksX0_isOut_3 21 rfl rfl)
theorem dX0_isOut_94 : decode cX0_isOut 94 = .ok (.bipush 64, 2) := dk_16 64 (dk_at dksX0_isOut_3 22 rfl rfl)
theorem dX0_isOut_96 : decode cX0_isOut 96 = .ok (.idiv, 1) := dk_108 (dk_at dksX0_isOut_4 0 rfl rfl)
theorem dX0_isOut_97 : decode cX0_isOut 97 = .ok (.iload_n 1, 1) := dk_27 (dk_at dksX0_isOut_4 1 rfl rfl)
theorem dX0_isOut_98 : decode cX0_isOut 98 = .ok (.bipush 64, 2) := dk_16 64 (dk_at dksX0_isOut_4 2 rfl rfl)
theorem dX0_isOut_100 : decode cX0_isOut 100 = .ok (.idiv, 1) := dk_108 (dk_at dksX0_isOut_4 4 rfl rfl)
theorem dX0_isOut_101 : decode cX0_isOut 101 = .ok (.if_icmp .lt 7, 3) := dk_161 0 7 (dk_at dksX0_isOut_4 5 rfl rfl)
theorem dX0_isOut_104 : decode cX0_isOut 104 = .ok (.iconst 2, 1) := dk_5 (dk_at dksX0_isOut_4 8 rfl rfl)
theorem dX0_isOut_105 : decode cX0_isOut 105 = .ok (.goto 4, 3) := dk_167 0 4 (dk_at dksX0_isOut_4 9 rfl rfl)
theorem dX0_isOut_108 : decode cX0_isOut 108 = .ok (.iconst 0, 1) := dk_3 (dk_at dksX0_isOut_4 12 rfl rfl)
theorem dX0_isOut_109 : decode cX0_isOut 109 = .ok (.ior, 1) := dk_128 (dk_at dksX0_isOut_4 13 rfl rfl)
theorem dX0_isOut_110 : decode cX0_isOut 110 = .ok (.ior, 1) := dk_128 (dk_at dksX0_isOut_4 14 rfl rfl)
theorem dX0_isOut_111 : decode cX0_isOut 111 = .ok (.istore_n 3, 1) := dk_62 (dk_at dksX0_isOut_4 15 rfl rfl)
theorem dX0_isOut_112 : decode cX0_isOut 112 = .ok (.iinc 4 1, 3) := dk_132 4 1 (dk_at dksX0_isOut_4 16 rfl rfl)
theorem dX0_isOut_115 : decode cX0_isOut 115 = .ok (.goto (-108), 3) := dk_167 255 148 (dk_at dksX0_isOut_4 19 rfl rfl)
theorem dX0_isOut_118 : decode cX0_isOut 118 = .ok (.iload_n 2, 1) := dk_28 (dk_at dksX0_isOut_4 22 rfl rfl)
theorem dX0_isOut_119 : decode cX0_isOut 119 = .ok (.iconst 3, 1) := dk_6 (dk_at dksX0_isOut_4 23 rfl rfl)
theorem dX0_isOut_120 : decode cX0_isOut 120 = .ok (.if_icmp .ne 8, 3) := dk_160 0 8 (dk_at dksX0_isOut_5 0 rfl rfl)
theorem dX0_isOut_123 : decode cX0_isOut 123 = .ok (.iload_n 3, 1) := dk_29 (dk_at dksX0_isOut_5 3 rfl rfl)
theorem dX0_isOut_124 : decode cX0_isOut 124 = .ok (.iconst 3, 1) := dk_6 (dk_at dksX0_isOut_5 4 rfl rfl)
theorem dX0_isOut_125 : decode cX0_isOut 125 = .ok (.if_icmp .eq 7, 3) := dk_159 0 7 (dk_at dksX0_isOut_5 5 rfl rfl)
theorem dX0_isOut_128 : decode cX0_isOut 128 = .ok (.iconst 1, 1) := dk_4 (dk_at dksX0_isOut_5 8 rfl rfl)
theorem dX0_isOut_129 : decode cX0_isOut 129 = .ok (.goto 4, 3) := dk_167 0 4 (dk_at dksX0_isOut_5 9 rfl rfl)
theorem dX0_isOut_132 : decode cX0_isOut 132 = .ok (.iconst 0, 1) := dk_3 (dk_at dksX0_isOut_5 12 rfl rfl)
theorem dX0_isOut_133 : decode cX0_isOut 133 = .ok (.ireturn, 1) := dk_172 (dk_at dksX0_isOut_5 13 rfl rfl)
abbrev cX0_seldom : ByteArray := prog_1_method_66_code
def yX0_seldom : MethodName := ⟨RX0, "seldom", "(II)J"⟩
def dkwX0_seldom_8 : List UInt8 := [180, 0, 13, 133, 21, 4, 133, 28, 5, 100, 184, 1, 157, 173, 21, 5, 133, 173, 21, 6, 133, 173]
abbrev dktX0_seldom_8 : List UInt8 := dkwX0_seldom_8 ++ []
def dkwX0_seldom_7 : List UInt8 := [21, 4, 133, 173, 42, 45, 182, 1, 188, 133, 173, 21, 4, 154, 0, 10, 28, 5, 100, 133, 167, 0, 17, 42]
abbrev dktX0_seldom_7 : List UInt8 := dkwX0_seldom_7 ++ dktX0_seldom_8
def dkwX0_seldom_6 : List UInt8 := [170, 0, 0, 0, 75, 0, 0, 0, 0, 0, 0, 0, 4, 0, 0, 0, 33, 0, 0, 0, 37, 0, 0, 0, 44, 0, 0, 0, 44, 0, 0, 0, 71]
abbrev dktX0_seldom_6 : List UInt8 := dkwX0_seldom_6 ++ dktX0_seldom_7
def dkwX0_seldom_5 : List UInt8 := [96, 54, 6, 132, 7, 1, 167, 255, 176, 28]
abbrev dktX0_seldom_5 : List UInt8 := dkwX0_seldom_5 ++ dktX0_seldom_6
def dkwX0_seldom_4 : List UInt8 := [167, 0, 4, 3, 96, 54, 5, 21, 6, 21, 8, 153, 0, 12, 21, 9, 153, 0, 7, 4, 167, 0, 4, 3]
abbrev dktX0_seldom_4 : List UInt8 := dkwX0_seldom_4 ++ dktX0_seldom_5
def dkwX0_seldom_3 : List UInt8 := [21, 4, 21, 8, 153, 0, 7, 4, 167, 0, 4, 3, 96, 54, 4, 21, 5, 21, 9, 153, 0, 7, 4]
abbrev dktX0_seldom_3 : List UInt8 := dkwX0_seldom_3 ++ dktX0_seldom_4
def dkwX0_seldom_2 : List UInt8 := [180, 0, 13, 162, 0, 77, 42, 45, 21, 7, 182, 1, 181, 54, 8, 42, 45, 21, 7, 182, 1, 185, 54, 9]
abbrev dktX0_seldom_2 : List UInt8 := dkwX0_seldom_2 ++ dktX0_seldom_3
def dkwX0_seldom_1 : List UInt8 := [42, 180, 0, 75, 27, 50, 78, 3, 54, 4, 3, 54, 5, 3, 54, 6, 3, 54, 7, 21, 7, 42]
abbrev dktX0_seldom_1 : List UInt8 := dkwX0_seldom_1 ++ dktX0_seldom_2
def dkwX0_seldom_0 : List UInt8 := [42, 27, 182, 0, 83, 153, 0, 15, 28, 133, 9, 20, 0, 71, 184, 0, 5, 154, 0, 7, 20, 1, 151, 173]
abbrev dktX0_seldom_0 : List UInt8 := dkwX0_seldom_0 ++ dktX0_seldom_1
theorem dksX0_seldom_0 : cX0_seldom.data.toList.drop 0 = dktX0_seldom_0 := by decide +kernel
theorem dksX0_seldom_1 : cX0_seldom.data.toList.drop 24 = dktX0_seldom_1 := dk_seg dksX0_seldom_0 24 rfl rfl
theorem dksX0_seldom_2 : cX0_seldom.data.toList.drop 46 = dktX0_seldom_2 := dk_seg dksX0_seldom_1 22 rfl rfl
theorem dksX0_seldom_3 : cX0_seldom.data.toList.drop 70 = dktX0_seldom_3 := dk_seg dksX0_seldom_2 24 rfl rfl
theorem dksX0_seldom_4 : cX0_seldom.data.toList.drop 93 = dktX0_seldom_4 := dk_seg dksX0_seldom_3 23 rfl rfl
theorem dksX0_seldom_5 : cX0_seldom.data.toList.drop 117 = dktX0_seldom_5 := dk_seg dksX0_seldom_4 24 rfl rfl
theorem dksX0_seldom_6 : cX0_seldom.data.toList.drop 127 = dktX0_seldom_6 := dk_seg dksX0_seldom_5 10 rfl rfl
theorem dksX0_seldom_7 : cX0_seldom.data.toList.drop 160 = dktX0_seldom_7 := dk_seg dksX0_seldom_6 33 rfl rfl
theorem dksX0_seldom_8 : cX0_seldom.data.toList.drop 184 = dktX0_seldom_8 := dk_seg dksX0_seldom_7 24 rfl rfl
theorem dX0_seldom_0 : decode cX0_seldom 0 = .ok (.aload_n 0, 1) := dk_42 (dk_at dksX0_seldom_0 0 rfl rfl)
theorem dX0_seldom_1 : decode cX0_seldom 1 = .ok (.iload_n 1, 1) := dk_27 (dk_at dksX0_seldom_0 1 rfl rfl)
theorem dX0_seldom_2 : decode cX0_seldom 2 = .ok (.invokevirtual 83, 3) := dk_182 0 83 (dk_at dksX0_seldom_0 2 rfl rfl)
theorem dX0_seldom_5 : decode cX0_seldom 5 = .ok (.ifCond .eq 15, 3) := dk_153 0 15 (dk_at dksX0_seldom_0 5 rfl rfl)
theorem dX0_seldom_8 : decode cX0_seldom 8 = .ok (.iload_n 2, 1) := dk_28 (dk_at dksX0_seldom_0 8 rfl rfl)
theorem dX0_seldom_9 : decode cX0_seldom 9 = .ok (.i2l, 1) := dk_133 (dk_at dksX0_seldom_0 9 rfl rfl)
theorem dX0_seldom_10 : decode cX0_seldom 10 = .ok (.lconst 0, 1) := dk_9 (dk_at dksX0_seldom_0 10 rfl rfl)
theorem dX0_seldom_11 : decode cX0_seldom 11 = .ok (.ldc2_w 71, 3) := dk_20 0 71 (dk_at dksX0_seldom_0 11 rfl rfl)
theorem dX0_seldom_14 : decode cX0_seldom 14 = .ok (.invokestatic 5, 3) := dk_184 0 5 (dk_at dksX0_seldom_0 14 rfl rfl)
theorem dX0_seldom_17 : decode cX0_seldom 17 = .ok (.ifCond .ne 7, 3) := dk_154 0 7 (dk_at dksX0_seldom_0 17 rfl rfl)
theorem dX0_seldom_20 : decode cX0_seldom 20 = .ok (.ldc2_w 407, 3) := dk_20 1 151 (dk_at dksX0_seldom_0 20 rfl rfl)
theorem dX0_seldom_23 : decode cX0_seldom 23 = .ok (.lreturn, 1) := dk_173 (dk_at dksX0_seldom_0 23 rfl rfl)
theorem dX0_seldom_24 : decode cX0_seldom 24 = .ok (.aload_n 0, 1) := dk_42 (dk_at dksX0_seldom_1 0 rfl rfl)
theorem dX0_seldom_25 : decode cX0_seldom 25 = .ok (.getfield 75, 3) := dk_180 0 75 (dk_at dksX0_seldom_1 1 rfl rfl)
theorem dX0_seldom_28 : decode cX0_seldom 28 = .ok (.iload_n 1, 1) := dk_27 (dk_at dksX0_seldom_1 4 rfl rfl)
theorem dX0_seldom_29 : decode cX0_seldom 29 = .ok (.aaload, 1) := dk_50 (dk_at dksX0_seldom_1 5 rfl rfl)
theorem dX0_seldom_30 : decode cX0_seldom 30 = .ok (.astore_n 3, 1) := dk_78 (dk_at dksX0_seldom_1 6 rfl rfl)
theorem dX0_seldom_31 : decode cX0_seldom 31 = .ok (.iconst 0, 1) := dk_3 (dk_at dksX0_seldom_1 7 rfl rfl)
theorem dX0_seldom_32 : decode cX0_seldom 32 = .ok (.istore 4, 2) := dk_54 4 (dk_at dksX0_seldom_1 8 rfl rfl)
theorem dX0_seldom_34 : decode cX0_seldom 34 = .ok (.iconst 0, 1) := dk_3 (dk_at dksX0_seldom_1 10 rfl rfl)
theorem dX0_seldom_35 : decode cX0_seldom 35 = .ok (.istore 5, 2) := dk_54 5 (dk_at dksX0_seldom_1 11 rfl rfl)
theorem dX0_seldom_37 : decode cX0_seldom 37 = .ok (.iconst 0, 1) := dk_3 (dk_at dksX0_seldom_1 13 rfl rfl)
theorem dX0_seldom_38 : decode cX0_seldom 38 = .ok (.istore 6, 2) := dk_54 6 (dk_at dksX0_seldom_1 14 rfl rfl)
theorem dX0_seldom_40 : decode cX0_seldom 40 = .ok (.iconst 0, 1) := dk_3 (dk_at dksX0_seldom_1 16 rfl rfl)
theorem dX0_seldom_41 : decode cX0_seldom 41 = .ok (.istore 7, 2) := dk_54 7 (dk_at dksX0_seldom_1 17 rfl rfl)
theorem dX0_seldom_43 : decode cX0_seldom 43 = .ok (.iload 7, 2) := dk_21 7 (dk_at dksX0_seldom_1 19 rfl rfl)
theorem dX0_seldom_45 : decode cX0_seldom 45 = .ok (.aload_n 0, 1) := dk_42 (dk_at dksX0_seldom_1 21 rfl rfl)
theorem dX0_seldom_46 : decode cX0_seldom 46 = .ok (.getfield 13, 3) := dk_180 0 13 (dk_at dksX0_seldom_2 0 rfl rfl)
theorem dX0_seldom_49 : decode cX0_seldom 49 = .ok (.if_icmp .ge 77, 3) := dk_162 0 77 (dk_at dksX0_seldom_2 3 rfl rfl)
theorem dX0_seldom_52 : decode cX0_seldom 52 = .ok (.aload_n 0, 1) := dk_42 (dk_at dksX0_seldom_2 6 rfl rfl)
theorem dX0_seldom_53 : decode cX0_seldom 53 = .ok (.aload_n 3, 1) := dk_45 (dk_at dksX0_seldom_2 7 rfl rfl)
theorem dX0_seldom_54 : decode cX0_seldom 54 = .ok (.iload 7, 2) := dk_21 7 (dk_at dksX0_seldom_2 8 rfl rfl)
theorem dX0_seldom_56 : decode cX0_seldom 56 = .ok (.invokevirtual 437, 3) := dk_182 1 181 (dk_at dksX0_seldom_2 10 rfl rfl)
theorem dX0_seldom_59 : decode cX0_seldom 59 = .ok (.istore 8, 2) := dk_54 8 (dk_at dksX0_seldom_2 13 rfl rfl)
theorem dX0_seldom_61 : decode cX0_seldom 61 = .ok (.aload_n 0, 1) := dk_42 (dk_at dksX0_seldom_2 15 rfl rfl)
theorem dX0_seldom_62 : decode cX0_seldom 62 = .ok (.aload_n 3, 1) := dk_45 (dk_at dksX0_seldom_2 16 rfl rfl)
theorem dX0_seldom_63 : decode cX0_seldom 63 = .ok (.iload 7, 2) := dk_21 7 (dk_at dksX0_seldom_2 17 rfl rfl)
theorem dX0_seldom_65 : decode cX0_seldom 65 = .ok (.invokevirtual 441, 3) := dk_182 1 185 (dk_at dksX0_seldom_2 19 rfl rfl)
theorem dX0_seldom_68 : decode cX0_seldom 68 = .ok (.istore 9, 2) := dk_54 9 (dk_at dksX0_seldom_2 22 rfl rfl)
theorem dX0_seldom_70 : decode cX0_seldom 70 = .ok (.iload 4, 2) := dk_21 4 (dk_at dksX0_seldom_3 0 rfl rfl)
theorem dX0_seldom_72 : decode cX0_seldom 72 = .ok (.iload 8, 2) := dk_21 8 (dk_at dksX0_seldom_3 2 rfl rfl)
theorem dX0_seldom_74 : decode cX0_seldom 74 = .ok (.ifCond .eq 7, 3) := dk_153 0 7 (dk_at dksX0_seldom_3 4 rfl rfl)
theorem dX0_seldom_77 : decode cX0_seldom 77 = .ok (.iconst 1, 1) := dk_4 (dk_at dksX0_seldom_3 7 rfl rfl)
theorem dX0_seldom_78 : decode cX0_seldom 78 = .ok (.goto 4, 3) := dk_167 0 4 (dk_at dksX0_seldom_3 8 rfl rfl)
theorem dX0_seldom_81 : decode cX0_seldom 81 = .ok (.iconst 0, 1) := dk_3 (dk_at dksX0_seldom_3 11 rfl rfl)
theorem dX0_seldom_82 : decode cX0_seldom 82 = .ok (.iadd, 1) := dk_96 (dk_at dksX0_seldom_3 12 rfl rfl)
theorem dX0_seldom_83 : decode cX0_seldom 83 = .ok (.istore 4, 2) := dk_54 4 (dk_at dksX0_seldom_3 13 rfl rfl)
theorem dX0_seldom_85 : decode cX0_seldom 85 = .ok (.iload 5, 2) := dk_21 5 (dk_at dksX0_seldom_3 15 rfl rfl)
theorem dX0_seldom_87 : decode cX0_seldom 87 = .ok (.iload 9, 2) := dk_21 9 (dk_at dksX0_seldom_3 17 rfl rfl)
theorem dX0_seldom_89 : decode cX0_seldom 89 = .ok (.ifCond .eq 7, 3) := dk_153 0 7 (dk_at dksX0_seldom_3 19 rfl rfl)
theorem dX0_seldom_92 : decode cX0_seldom 92 = .ok (.iconst 1, 1) := dk_4 (dk_at dksX0_seldom_3 22 rfl rfl)
theorem dX0_seldom_93 : decode cX0_seldom 93 = .ok (.goto 4, 3) := dk_167 0 4 (dk_at dksX0_seldom_4 0 rfl rfl)
theorem dX0_seldom_96 : decode cX0_seldom 96 = .ok (.iconst 0, 1) := dk_3 (dk_at dksX0_seldom_4 3 rfl rfl)
theorem dX0_seldom_97 : decode cX0_seldom 97 = .ok (.iadd, 1) := dk_96 (dk_at dksX0_seldom_4 4 rfl rfl)
theorem dX0_seldom_98 : decode cX0_seldom 98 = .ok (.istore 5, 2) := dk_54 5 (dk_at dksX0_seldom_4 5 rfl rfl)
theorem dX0_seldom_100 : decode cX0_seldom 100 = .ok (.iload 6, 2) := dk_21 6 (dk_at dksX0_seldom_4 7 rfl rfl)
theorem dX0_seldom_102 : decode cX0_seldom 102 = .ok (.iload 8, 2) := dk_21 8 (dk_at dksX0_seldom_4 9 rfl rfl)
theorem dX0_seldom_104 : decode cX0_seldom 104 = .ok (.ifCond .eq 12, 3) := dk_153 0 12 (dk_at dksX0_seldom_4 11 rfl rfl)
theorem dX0_seldom_107 : decode cX0_seldom 107 = .ok (.iload 9, 2) := dk_21 9 (dk_at dksX0_seldom_4 14 rfl rfl)
theorem dX0_seldom_109 : decode cX0_seldom 109 = .ok (.ifCond .eq 7, 3) := dk_153 0 7 (dk_at dksX0_seldom_4 16 rfl rfl)
theorem dX0_seldom_112 : decode cX0_seldom 112 = .ok (.iconst 1, 1) := dk_4 (dk_at dksX0_seldom_4 19 rfl rfl)
theorem dX0_seldom_113 : decode cX0_seldom 113 = .ok (.goto 4, 3) := dk_167 0 4 (dk_at dksX0_seldom_4 20 rfl rfl)
theorem dX0_seldom_116 : decode cX0_seldom 116 = .ok (.iconst 0, 1) := dk_3 (dk_at dksX0_seldom_4 23 rfl rfl)
theorem dX0_seldom_117 : decode cX0_seldom 117 = .ok (.iadd, 1) := dk_96 (dk_at dksX0_seldom_5 0 rfl rfl)
theorem dX0_seldom_118 : decode cX0_seldom 118 = .ok (.istore 6, 2) := dk_54 6 (dk_at dksX0_seldom_5 1 rfl rfl)
theorem dX0_seldom_120 : decode cX0_seldom 120 = .ok (.iinc 7 1, 3) := dk_132 7 1 (dk_at dksX0_seldom_5 3 rfl rfl)
theorem dX0_seldom_123 : decode cX0_seldom 123 = .ok (.goto (-80), 3) := dk_167 255 176 (dk_at dksX0_seldom_5 6 rfl rfl)
theorem dX0_seldom_126 : decode cX0_seldom 126 = .ok (.iload_n 2, 1) := dk_28 (dk_at dksX0_seldom_5 9 rfl rfl)
theorem dX0_seldom_127 : decode cX0_seldom 127 = .ok (.tableswitch 75 0 4 #[33, 37, 44, 44, 71], 33) := by decide +kernel
theorem dX0_seldom_160 : decode cX0_seldom 160 = .ok (.iload 4, 2) := dk_21 4 (dk_at dksX0_seldom_7 0 rfl rfl)
theorem dX0_seldom_162 : decode cX0_seldom 162 = .ok (.i2l, 1) := dk_133 (dk_at dksX0_seldom_7 2 rfl rfl)
theorem dX0_seldom_163 : decode cX0_seldom 163 = .ok (.lreturn, 1) := dk_173 (dk_at dksX0_seldom_7 3 rfl rfl)
theorem dX0_seldom_164 : decode cX0_seldom 164 = .ok (.aload_n 0, 1) := dk_42 (dk_at dksX0_seldom_7 4 rfl rfl)
theorem dX0_seldom_165 : decode cX0_seldom 165 = .ok (.aload_n 3, 1) := dk_45 (dk_at dksX0_seldom_7 5 rfl rfl)
theorem dX0_seldom_166 : decode cX0_seldom 166 = .ok (.invokevirtual 444, 3) := dk_182 1 188 (dk_at dksX0_seldom_7 6 rfl rfl)
theorem dX0_seldom_169 : decode cX0_seldom 169 = .ok (.i2l, 1) := dk_133 (dk_at dksX0_seldom_7 9 rfl rfl)
theorem dX0_seldom_170 : decode cX0_seldom 170 = .ok (.lreturn, 1) := dk_173 (dk_at dksX0_seldom_7 10 rfl rfl)
theorem dX0_seldom_171 : decode cX0_seldom 171 = .ok (.iload 4, 2) := dk_21 4 (dk_at dksX0_seldom_7 11 rfl rfl)
theorem dX0_seldom_173 : decode cX0_seldom 173 = .ok (.ifCond .ne 10, 3) := dk_154 0 10 (dk_at dksX0_seldom_7 13 rfl rfl)
theorem dX0_seldom_176 : decode cX0_seldom 176 = .ok (.iload_n 2, 1) := dk_28 (dk_at dksX0_seldom_7 16 rfl rfl)
theorem dX0_seldom_177 : decode cX0_seldom 177 = .ok (.iconst 2, 1) := dk_5 (dk_at dksX0_seldom_7 17 rfl rfl)
theorem dX0_seldom_178 : decode cX0_seldom 178 = .ok (.isub, 1) := dk_100 (dk_at dksX0_seldom_7 18 rfl rfl)
theorem dX0_seldom_179 : decode cX0_seldom 179 = .ok (.i2l, 1) := dk_133 (dk_at dksX0_seldom_7 19 rfl rfl)
theorem dX0_seldom_180 : decode cX0_seldom 180 = .ok (.goto 17, 3) := dk_167 0 17 (dk_at dksX0_seldom_7 20 rfl rfl)
theorem dX0_seldom_183 : decode cX0_seldom 183 = .ok (.aload_n 0, 1) := dk_42 (dk_at dksX0_seldom_7 23 rfl rfl)
theorem dX0_seldom_184 : decode cX0_seldom 184 = .ok (.getfield 13, 3) := dk_180 0 13 (dk_at dksX0_seldom_8 0 rfl rfl)
theorem dX0_seldom_187 : decode cX0_seldom 187 = .ok (.i2l, 1) := dk_133 (dk_at dksX0_seldom_8 3 rfl rfl)
theorem dX0_seldom_188 : decode cX0_seldom 188 = .ok (.iload 4, 2) := dk_21 4 (dk_at dksX0_seldom_8 4 rfl rfl)
theorem dX0_seldom_190 : decode cX0_seldom 190 = .ok (.i2l, 1) := dk_133 (dk_at dksX0_seldom_8 6 rfl rfl)
theorem dX0_seldom_191 : decode cX0_seldom 191 = .ok (.iload_n 2, 1) := dk_28 (dk_at dksX0_seldom_8 7 rfl rfl)
theorem dX0_seldom_192 : decode cX0_seldom 192 = .ok (.iconst 2, 1) := dk_5 (dk_at dksX0_seldom_8 8 rfl rfl)
theorem dX0_seldom_193 : decode cX0_seldom 193 = .ok (.isub, 1) := dk_100 (dk_at dksX0_seldom_8 9 rfl rfl)
theorem dX0_seldom_194 : decode cX0_seldom 194 = .ok (.invokestatic 413, 3) := dk_184 1 157 (dk_at dksX0_seldom_8 10 rfl rfl)
theorem dX0_seldom_197 : decode cX0_seldom 197 = .ok (.lreturn, 1) := dk_173 (dk_at dksX0_seldom_8 13 rfl rfl)
theorem dX0_seldom_198 : decode cX0_seldom 198 = .ok (.iload 5, 2) := dk_21 5 (dk_at dksX0_seldom_8 14 rfl rfl)
theorem dX0_seldom_200 : decode cX0_seldom 200 = .ok (.i2l, 1) := dk_133 (dk_at dksX0_seldom_8 16 rfl rfl)
theorem dX0_seldom_201 : decode cX0_seldom 201 = .ok (.lreturn, 1) := dk_173 (dk_at dksX0_seldom_8 17 rfl rfl)
theorem dX0_seldom_202 : decode cX0_seldom 202 = .ok (.iload 6, 2) := dk_21 6 (dk_at dksX0_seldom_8 18 rfl rfl)
theorem dX0_seldom_204 : decode cX0_seldom 204 = .ok (.i2l, 1) := dk_133 (dk_at dksX0_seldom_8 20 rfl rfl)
theorem dX0_seldom_205 : decode cX0_seldom 205 = .ok (.lreturn, 1) := dk_173 (dk_at dksX0_seldom_8 21 rfl rfl)
abbrev cX0_pushesSome : ByteArray := prog_1_method_63_code
def yX0_pushesSome : MethodName := ⟨RX0, "pushesSome", "(LWalkingStones$How;I)Z"⟩
def dkwX0_pushesSome_1 : List UInt8 := [4, 172, 132, 3, 1, 167, 255, 229, 3, 172]
abbrev dktX0_pushesSome_1 : List UInt8 := dkwX0_pushesSome_1 ++ []
def dkwX0_pushesSome_0 : List UInt8 := [3, 62, 29, 42, 180, 0, 9, 162, 0, 25, 43, 42, 180, 0, 29, 29, 46, 28, 182, 0, 98, 158, 0, 5]
abbrev dktX0_pushesSome_0 : List UInt8 := dkwX0_pushesSome_0 ++ dktX0_pushesSome_1
theorem dksX0_pushesSome_0 : cX0_pushesSome.data.toList.drop 0 = dktX0_pushesSome_0 := by decide +kernel
theorem dksX0_pushesSome_1 : cX0_pushesSome.data.toList.drop 24 = dktX0_pushesSome_1 := dk_seg dksX0_pushesSome_0 24 rfl rfl
theorem dX0_pushesSome_0 : decode cX0_pushesSome 0 = .ok (.iconst 0, 1) := dk_3 (dk_at dksX0_pushesSome_0 0 rfl rfl)
theorem dX0_pushesSome_1 : decode cX0_pushesSome 1 = .ok (.istore_n 3, 1) := dk_62 (dk_at dksX0_pushesSome_0 1 rfl rfl)
theorem dX0_pushesSome_2 : decode cX0_pushesSome 2 = .ok (.iload_n 3, 1) := dk_29 (dk_at dksX0_pushesSome_0 2 rfl rfl)
theorem dX0_pushesSome_3 : decode cX0_pushesSome 3 = .ok (.aload_n 0, 1) := dk_42 (dk_at dksX0_pushesSome_0 3 rfl rfl)
theorem dX0_pushesSome_4 : decode cX0_pushesSome 4 = .ok (.getfield 9, 3) := dk_180 0 9 (dk_at dksX0_pushesSome_0 4 rfl rfl)
theorem dX0_pushesSome_7 : decode cX0_pushesSome 7 = .ok (.if_icmp .ge 25, 3) := dk_162 0 25 (dk_at dksX0_pushesSome_0 7 rfl rfl)
theorem dX0_pushesSome_10 : decode cX0_pushesSome 10 = .ok (.aload_n 1, 1) := dk_43 (dk_at dksX0_pushesSome_0 10 rfl rfl)
theorem dX0_pushesSome_11 : decode cX0_pushesSome 11 = .ok (.aload_n 0, 1) := dk_42 (dk_at dksX0_pushesSome_0 11 rfl rfl)
theorem dX0_pushesSome_12 : decode cX0_pushesSome 12 = .ok (.getfield 29, 3) := dk_180 0 29 (dk_at dksX0_pushesSome_0 12 rfl rfl)
theorem dX0_pushesSome_15 : decode cX0_pushesSome 15 = .ok (.iload_n 3, 1) := dk_29 (dk_at dksX0_pushesSome_0 15 rfl rfl)
theorem dX0_pushesSome_16 : decode cX0_pushesSome 16 = .ok (.iaload, 1) := dk_46 (dk_at dksX0_pushesSome_0 16 rfl rfl)
theorem dX0_pushesSome_17 : decode cX0_pushesSome 17 = .ok (.iload_n 2, 1) := dk_28 (dk_at dksX0_pushesSome_0 17 rfl rfl)
theorem dX0_pushesSome_18 : decode cX0_pushesSome 18 = .ok (.invokevirtual 98, 3) := dk_182 0 98 (dk_at dksX0_pushesSome_0 18 rfl rfl)
theorem dX0_pushesSome_21 : decode cX0_pushesSome 21 = .ok (.ifCond .le 5, 3) := dk_158 0 5 (dk_at dksX0_pushesSome_0 21 rfl rfl)
theorem dX0_pushesSome_24 : decode cX0_pushesSome 24 = .ok (.iconst 1, 1) := dk_4 (dk_at dksX0_pushesSome_1 0 rfl rfl)
theorem dX0_pushesSome_25 : decode cX0_pushesSome 25 = .ok (.ireturn, 1) := dk_172 (dk_at dksX0_pushesSome_1 1 rfl rfl)
theorem dX0_pushesSome_26 : decode cX0_pushesSome 26 = .ok (.iinc 3 1, 3) := dk_132 3 1 (dk_at dksX0_pushesSome_1 2 rfl rfl)
theorem dX0_pushesSome_29 : decode cX0_pushesSome 29 = .ok (.goto (-27), 3) := dk_167 255 229 (dk_at dksX0_pushesSome_1 5 rfl rfl)
theorem dX0_pushesSome_32 : decode cX0_pushesSome 32 = .ok (.iconst 0, 1) := dk_3 (dk_at dksX0_pushesSome_1 8 rfl rfl)
theorem dX0_pushesSome_33 : decode cX0_pushesSome 33 = .ok (.ireturn, 1) := dk_172 (dk_at dksX0_pushesSome_1 9 rfl rfl)
abbrev cX0_isCalled : ByteArray := prog_1_method_64_code
def yX0_isCalled : MethodName := ⟨RX0, "isCalled", "(LWalkingStones$How;I)Z"⟩
def dkwX0_isCalled_3 : List UInt8 := [172]
abbrev dktX0_isCalled_3 : List UInt8 := dkwX0_isCalled_3 ++ []
def dkwX0_isCalled_2 : List UInt8 := [4, 28, 29, 43, 180, 1, 171, 19, 1, 175, 19, 1, 176, 182, 1, 177, 153, 0, 7, 4, 167, 0, 4, 3]
abbrev dktX0_isCalled_2 : List UInt8 := dkwX0_isCalled_2 ++ dktX0_isCalled_3
def dkwX0_isCalled_1 : List UInt8 := [46, 29, 162, 0, 13, 42, 180, 0, 29, 21, 4, 46, 167, 0, 4, 29, 62, 132, 4, 1, 167, 255, 217, 42]
abbrev dktX0_isCalled_1 : List UInt8 := dkwX0_isCalled_1 ++ dktX0_isCalled_2
def dkwX0_isCalled_0 : List UInt8 := [3, 62, 3, 54, 4, 21, 4, 42, 180, 0, 9, 162, 0, 36, 29, 153, 0, 14, 42, 180, 0, 29, 21, 4]
abbrev dktX0_isCalled_0 : List UInt8 := dkwX0_isCalled_0 ++ dktX0_isCalled_1
theorem dksX0_isCalled_0 : cX0_isCalled.data.toList.drop 0 = dktX0_isCalled_0 := by decide +kernel
theorem dksX0_isCalled_1 : cX0_isCalled.data.toList.drop 24 = dktX0_isCalled_1 := dk_seg dksX0_isCalled_0 24 rfl rfl
theorem dksX0_isCalled_2 : cX0_isCalled.data.toList.drop 48 = dktX0_isCalled_2 := dk_seg dksX0_isCalled_1 24 rfl rfl
theorem dksX0_isCalled_3 : cX0_isCalled.data.toList.drop 72 = dktX0_isCalled_3 := dk_seg dksX0_isCalled_2 24 rfl rfl
theorem dX0_isCalled_0 : decode cX0_isCalled 0 = .ok (.iconst 0, 1) := dk_3 (dk_at dksX0_isCalled_0 0 rfl rfl)
theorem dX0_isCalled_1 : decode cX0_isCalled 1 = .ok (.istore_n 3, 1) := dk_62 (dk_at dksX0_isCalled_0 1 rfl rfl)
theorem dX0_isCalled_2 : decode cX0_isCalled 2 = .ok (.iconst 0, 1) := dk_3 (dk_at dksX0_isCalled_0 2 rfl rfl)
theorem dX0_isCalled_3 : decode cX0_isCalled 3 = .ok (.istore 4, 2) := dk_54 4 (dk_at dksX0_isCalled_0 3 rfl rfl)
theorem dX0_isCalled_5 : decode cX0_isCalled 5 = .ok (.iload 4, 2) := dk_21 4 (dk_at dksX0_isCalled_0 5 rfl rfl)
theorem dX0_isCalled_7 : decode cX0_isCalled 7 = .ok (.aload_n 0, 1) := dk_42 (dk_at dksX0_isCalled_0 7 rfl rfl)
theorem dX0_isCalled_8 : decode cX0_isCalled 8 = .ok (.getfield 9, 3) := dk_180 0 9 (dk_at dksX0_isCalled_0 8 rfl rfl)
theorem dX0_isCalled_11 : decode cX0_isCalled 11 = .ok (.if_icmp .ge 36, 3) := dk_162 0 36 (dk_at dksX0_isCalled_0 11 rfl rfl)
theorem dX0_isCalled_14 : decode cX0_isCalled 14 = .ok (.iload_n 3, 1) := dk_29 (dk_at dksX0_isCalled_0 14 rfl rfl)
theorem dX0_isCalled_15 : decode cX0_isCalled 15 = .ok (.ifCond .eq 14, 3) := dk_153 0 14 (dk_at dksX0_isCalled_0 15 rfl rfl)
theorem dX0_isCalled_18 : decode cX0_isCalled 18 = .ok (.aload_n 0, 1) := dk_42 (dk_at dksX0_isCalled_0 18 rfl rfl)
theorem dX0_isCalled_19 : decode cX0_isCalled 19 = .ok (.getfield 29, 3) := dk_180 0 29 (dk_at dksX0_isCalled_0 19 rfl rfl)
theorem dX0_isCalled_22 : decode cX0_isCalled 22 = .ok (.iload 4, 2) := dk_21 4 (dk_at dksX0_isCalled_0 22 rfl rfl)
theorem dX0_isCalled_24 : decode cX0_isCalled 24 = .ok (.iaload, 1) := dk_46 (dk_at dksX0_isCalled_1 0 rfl rfl)
theorem dX0_isCalled_25 : decode cX0_isCalled 25 = .ok (.iload_n 3, 1) := dk_29 (dk_at dksX0_isCalled_1 1 rfl rfl)
theorem dX0_isCalled_26 : decode cX0_isCalled 26 = .ok (.if_icmp .ge 13, 3) := dk_162 0 13 (dk_at dksX0_isCalled_1 2 rfl rfl)
theorem dX0_isCalled_29 : decode cX0_isCalled 29 = .ok (.aload_n 0, 1) := dk_42 (dk_at dksX0_isCalled_1 5 rfl rfl)
theorem dX0_isCalled_30 : decode cX0_isCalled 30 = .ok (.getfield 29, 3) := dk_180 0 29 (dk_at dksX0_isCalled_1 6 rfl rfl)
theorem dX0_isCalled_33 : decode cX0_isCalled 33 = .ok (.iload 4, 2) := dk_21 4 (dk_at dksX0_isCalled_1 9 rfl rfl)
theorem dX0_isCalled_35 : decode cX0_isCalled 35 = .ok (.iaload, 1) := dk_46 (dk_at dksX0_isCalled_1 11 rfl rfl)
theorem dX0_isCalled_36 : decode cX0_isCalled 36 = .ok (.goto 4, 3) := dk_167 0 4 (dk_at dksX0_isCalled_1 12 rfl rfl)
theorem dX0_isCalled_39 : decode cX0_isCalled 39 = .ok (.iload_n 3, 1) := dk_29 (dk_at dksX0_isCalled_1 15 rfl rfl)
theorem dX0_isCalled_40 : decode cX0_isCalled 40 = .ok (.istore_n 3, 1) := dk_62 (dk_at dksX0_isCalled_1 16 rfl rfl)
theorem dX0_isCalled_41 : decode cX0_isCalled 41 = .ok (.iinc 4 1, 3) := dk_132 4 1 (dk_at dksX0_isCalled_1 17 rfl rfl)
theorem dX0_isCalled_44 : decode cX0_isCalled 44 = .ok (.goto (-39), 3) := dk_167 255 217 (dk_at dksX0_isCalled_1 20 rfl rfl)
theorem dX0_isCalled_47 : decode cX0_isCalled 47 = .ok (.aload_n 0, 1) := dk_42 (dk_at dksX0_isCalled_1 23 rfl rfl)
theorem dX0_isCalled_48 : decode cX0_isCalled 48 = .ok (.iconst 1, 1) := dk_4 (dk_at dksX0_isCalled_2 0 rfl rfl)
theorem dX0_isCalled_49 : decode cX0_isCalled 49 = .ok (.iload_n 2, 1) := dk_28 (dk_at dksX0_isCalled_2 1 rfl rfl)
theorem dX0_isCalled_50 : decode cX0_isCalled 50 = .ok (.iload_n 3, 1) := dk_29 (dk_at dksX0_isCalled_2 2 rfl rfl)
theorem dX0_isCalled_51 : decode cX0_isCalled 51 = .ok (.aload_n 1, 1) := dk_43 (dk_at dksX0_isCalled_2 3 rfl rfl)
theorem dX0_isCalled_52 : decode cX0_isCalled 52 = .ok (.getfield 427, 3) := dk_180 1 171 (dk_at dksX0_isCalled_2 4 rfl rfl)
theorem dX0_isCalled_55 : decode cX0_isCalled 55 = .ok (.ldc_w 431, 3) := dk_19 1 175 (dk_at dksX0_isCalled_2 7 rfl rfl)
theorem dX0_isCalled_58 : decode cX0_isCalled 58 = .ok (.ldc_w 432, 3) := dk_19 1 176 (dk_at dksX0_isCalled_2 10 rfl rfl)
theorem dX0_isCalled_61 : decode cX0_isCalled 61 = .ok (.invokevirtual 433, 3) := dk_182 1 177 (dk_at dksX0_isCalled_2 13 rfl rfl)
theorem dX0_isCalled_64 : decode cX0_isCalled 64 = .ok (.ifCond .eq 7, 3) := dk_153 0 7 (dk_at dksX0_isCalled_2 16 rfl rfl)
theorem dX0_isCalled_67 : decode cX0_isCalled 67 = .ok (.iconst 1, 1) := dk_4 (dk_at dksX0_isCalled_2 19 rfl rfl)
theorem dX0_isCalled_68 : decode cX0_isCalled 68 = .ok (.goto 4, 3) := dk_167 0 4 (dk_at dksX0_isCalled_2 20 rfl rfl)
theorem dX0_isCalled_71 : decode cX0_isCalled 71 = .ok (.iconst 0, 1) := dk_3 (dk_at dksX0_isCalled_2 23 rfl rfl)
theorem dX0_isCalled_72 : decode cX0_isCalled 72 = .ok (.ireturn, 1) := dk_172 (dk_at dksX0_isCalled_3 0 rfl rfl)
abbrev cX0_longest : ByteArray := prog_1_method_65_code
def yX0_longest : MethodName := ⟨RX0, "longest", "(LWalkingStones$How;)I"⟩
def dkwX0_longest_2 : List UInt8 := [172]
abbrev dktX0_longest_2 : List UInt8 := dkwX0_longest_2 ++ []
def dkwX0_longest_1 : List UInt8 := [153, 0, 7, 3, 167, 0, 6, 29, 4, 96, 62, 28, 29, 184, 1, 91, 61, 132, 4, 1, 167, 255, 220, 28]
abbrev dktX0_longest_1 : List UInt8 := dkwX0_longest_1 ++ dktX0_longest_2
def dkwX0_longest_0 : List UInt8 := [3, 61, 3, 62, 3, 54, 4, 21, 4, 42, 180, 0, 13, 162, 0, 33, 42, 43, 21, 4, 182, 1, 181]
abbrev dktX0_longest_0 : List UInt8 := dkwX0_longest_0 ++ dktX0_longest_1
theorem dksX0_longest_0 : cX0_longest.data.toList.drop 0 = dktX0_longest_0 := by decide +kernel
theorem dksX0_longest_1 : cX0_longest.data.toList.drop 23 = dktX0_longest_1 := dk_seg dksX0_longest_0 23 rfl rfl
theorem dksX0_longest_2 : cX0_longest.data.toList.drop 47 = dktX0_longest_2 := dk_seg dksX0_longest_1 24 rfl rfl
theorem dX0_longest_0 : decode cX0_longest 0 = .ok (.iconst 0, 1) := dk_3 (dk_at dksX0_longest_0 0 rfl rfl)
theorem dX0_longest_1 : decode cX0_longest 1 = .ok (.istore_n 2, 1) := dk_61 (dk_at dksX0_longest_0 1 rfl rfl)
theorem dX0_longest_2 : decode cX0_longest 2 = .ok (.iconst 0, 1) := dk_3 (dk_at dksX0_longest_0 2 rfl rfl)
theorem dX0_longest_3 : decode cX0_longest 3 = .ok (.istore_n 3, 1) := dk_62 (dk_at dksX0_longest_0 3 rfl rfl)
theorem dX0_longest_4 : decode cX0_longest 4 = .ok (.iconst 0, 1) := dk_3 (dk_at dksX0_longest_0 4 rfl rfl)
theorem dX0_longest_5 : decode cX0_longest 5 = .ok (.istore 4, 2) := dk_54 4 (dk_at dksX0_longest_0 5 rfl rfl)
theorem dX0_longest_7 : decode cX0_longest 7 = .ok (.iload 4, 2) := dk_21 4 (dk_at dksX0_longest_0 7 rfl rfl)
theorem dX0_longest_9 : decode cX0_longest 9 = .ok (.aload_n 0, 1) := dk_42 (dk_at dksX0_longest_0 9 rfl rfl)
theorem dX0_longest_10 : decode cX0_longest 10 = .ok (.getfield 13, 3) := dk_180 0 13 (dk_at dksX0_longest_0 10 rfl rfl)
theorem dX0_longest_13 : decode cX0_longest 13 = .ok (.if_icmp .ge 33, 3) := dk_162 0 33 (dk_at dksX0_longest_0 13 rfl rfl)
theorem dX0_longest_16 : decode cX0_longest 16 = .ok (.aload_n 0, 1) := dk_42 (dk_at dksX0_longest_0 16 rfl rfl)
theorem dX0_longest_17 : decode cX0_longest 17 = .ok (.aload_n 1, 1) := dk_43 (dk_at dksX0_longest_0 17 rfl rfl)
theorem dX0_longest_18 : decode cX0_longest 18 = .ok (.iload 4, 2) := dk_21 4 (dk_at dksX0_longest_0 18 rfl rfl)
theorem dX0_longest_20 : decode cX0_longest 20 = .ok (.invokevirtual 437, 3) := dk_182 1 181 (dk_at dksX0_longest_0 20 rfl rfl)
theorem dX0_longest_23 : decode cX0_longest 23 = .ok (.ifCond .eq 7, 3) := dk_153 0 7 (dk_at dksX0_longest_1 0 rfl rfl)
theorem dX0_longest_26 : decode cX0_longest 26 = .ok (.iconst 0, 1) := dk_3 (dk_at dksX0_longest_1 3 rfl rfl)
theorem dX0_longest_27 : decode cX0_longest 27 = .ok (.goto 6, 3) := dk_167 0 6 (dk_at dksX0_longest_1 4 rfl rfl)
theorem dX0_longest_30 : decode cX0_longest 30 = .ok (.iload_n 3, 1) := dk_29 (dk_at dksX0_longest_1 7 rfl rfl)
theorem dX0_longest_31 : decode cX0_longest 31 = .ok (.iconst 1, 1) := dk_4 (dk_at dksX0_longest_1 8 rfl rfl)
theorem dX0_longest_32 : decode cX0_longest 32 = .ok (.iadd, 1) := dk_96 (dk_at dksX0_longest_1 9 rfl rfl)
theorem dX0_longest_33 : decode cX0_longest 33 = .ok (.istore_n 3, 1) := dk_62 (dk_at dksX0_longest_1 10 rfl rfl)
theorem dX0_longest_34 : decode cX0_longest 34 = .ok (.iload_n 2, 1) := dk_28 (dk_at dksX0_longest_1 11 rfl rfl)
theorem dX0_longest_35 : decode cX0_longest 35 = .ok (.iload_n 3, 1) := dk_29 (dk_at dksX0_longest_1 12 rfl rfl)
theorem dX0_longest_36 : decode cX0_longest 36 = .ok (.invokestatic 347, 3) := dk_184 1 91 (dk_at dksX0_longest_1 13 rfl rfl)
theorem dX0_longest_39 : decode cX0_longest 39 = .ok (.istore_n 2, 1) := dk_61 (dk_at dksX0_longest_1 16 rfl rfl)
theorem dX0_longest_40 : decode cX0_longest 40 = .ok (.iinc 4 1, 3) := dk_132 4 1 (dk_at dksX0_longest_1 17 rfl rfl)
theorem dX0_longest_43 : decode cX0_longest 43 = .ok (.goto (-36), 3) := dk_167 255 220 (dk_at dksX0_longest_1 20 rfl rfl)
theorem dX0_longest_46 : decode cX0_longest 46 = .ok (.iload_n 2, 1) := dk_28 (dk_at dksX0_longest_1 23 rfl rfl)
theorem dX0_longest_47 : decode cX0_longest 47 = .ok (.ireturn, 1) := dk_172 (dk_at dksX0_longest_2 0 rfl rfl)
abbrev cX0_when : ByteArray := prog_1_method_68_code
def yX0_when : MethodName := ⟨RX0, "when", "(II)J"⟩
def dkwX0_when_2 : List UInt8 := [182, 1, 192, 153, 0, 10, 10, 21, 5, 121, 167, 0, 4, 9, 129, 66, 132, 5, 1, 167, 255, 217, 33, 173]
abbrev dktX0_when_2 : List UInt8 := dkwX0_when_2 ++ []
def dkwX0_when_1 : List UInt8 := [54, 5, 21, 5, 42, 180, 0, 13, 162, 0, 36, 33, 42, 42, 180, 0, 75, 27, 50, 28, 21, 5]
abbrev dktX0_when_1 : List UInt8 := dkwX0_when_1 ++ dktX0_when_2
def dkwX0_when_0 : List UInt8 := [42, 27, 182, 0, 83, 153, 0, 11, 42, 28, 182, 0, 44, 154, 0, 7, 20, 1, 151, 173, 9, 66, 3]
abbrev dktX0_when_0 : List UInt8 := dkwX0_when_0 ++ dktX0_when_1
theorem dksX0_when_0 : cX0_when.data.toList.drop 0 = dktX0_when_0 := by decide +kernel
theorem dksX0_when_1 : cX0_when.data.toList.drop 23 = dktX0_when_1 := dk_seg dksX0_when_0 23 rfl rfl
theorem dksX0_when_2 : cX0_when.data.toList.drop 45 = dktX0_when_2 := dk_seg dksX0_when_1 22 rfl rfl
theorem dX0_when_0 : decode cX0_when 0 = .ok (.aload_n 0, 1) := dk_42 (dk_at dksX0_when_0 0 rfl rfl)
theorem dX0_when_1 : decode cX0_when 1 = .ok (.iload_n 1, 1) := dk_27 (dk_at dksX0_when_0 1 rfl rfl)
theorem dX0_when_2 : decode cX0_when 2 = .ok (.invokevirtual 83, 3) := dk_182 0 83 (dk_at dksX0_when_0 2 rfl rfl)
theorem dX0_when_5 : decode cX0_when 5 = .ok (.ifCond .eq 11, 3) := dk_153 0 11 (dk_at dksX0_when_0 5 rfl rfl)
theorem dX0_when_8 : decode cX0_when 8 = .ok (.aload_n 0, 1) := dk_42 (dk_at dksX0_when_0 8 rfl rfl)
theorem dX0_when_9 : decode cX0_when 9 = .ok (.iload_n 2, 1) := dk_28 (dk_at dksX0_when_0 9 rfl rfl)
theorem dX0_when_10 : decode cX0_when 10 = .ok (.invokevirtual 44, 3) := dk_182 0 44 (dk_at dksX0_when_0 10 rfl rfl)
theorem dX0_when_13 : decode cX0_when 13 = .ok (.ifCond .ne 7, 3) := dk_154 0 7 (dk_at dksX0_when_0 13 rfl rfl)
theorem dX0_when_16 : decode cX0_when 16 = .ok (.ldc2_w 407, 3) := dk_20 1 151 (dk_at dksX0_when_0 16 rfl rfl)
theorem dX0_when_19 : decode cX0_when 19 = .ok (.lreturn, 1) := dk_173 (dk_at dksX0_when_0 19 rfl rfl)
theorem dX0_when_20 : decode cX0_when 20 = .ok (.lconst 0, 1) := dk_9 (dk_at dksX0_when_0 20 rfl rfl)
theorem dX0_when_21 : decode cX0_when 21 = .ok (.lstore_n 3, 1) := dk_66 (dk_at dksX0_when_0 21 rfl rfl)
theorem dX0_when_22 : decode cX0_when 22 = .ok (.iconst 0, 1) := dk_3 (dk_at dksX0_when_0 22 rfl rfl)
theorem dX0_when_23 : decode cX0_when 23 = .ok (.istore 5, 2) := dk_54 5 (dk_at dksX0_when_1 0 rfl rfl)
theorem dX0_when_25 : decode cX0_when 25 = .ok (.iload 5, 2) := dk_21 5 (dk_at dksX0_when_1 2 rfl rfl)
theorem dX0_when_27 : decode cX0_when 27 = .ok (.aload_n 0, 1) := dk_42 (dk_at dksX0_when_1 4 rfl rfl)
theorem dX0_when_28 : decode cX0_when 28 = .ok (.getfield 13, 3) := dk_180 0 13 (dk_at dksX0_when_1 5 rfl rfl)
theorem dX0_when_31 : decode cX0_when 31 = .ok (.if_icmp .ge 36, 3) := dk_162 0 36 (dk_at dksX0_when_1 8 rfl rfl)
theorem dX0_when_34 : decode cX0_when 34 = .ok (.lload_n 3, 1) := dk_33 (dk_at dksX0_when_1 11 rfl rfl)
theorem dX0_when_35 : decode cX0_when 35 = .ok (.aload_n 0, 1) := dk_42 (dk_at dksX0_when_1 12 rfl rfl)
theorem dX0_when_36 : decode cX0_when 36 = .ok (.aload_n 0, 1) := dk_42 (dk_at dksX0_when_1 13 rfl rfl)
theorem dX0_when_37 : decode cX0_when 37 = .ok (.getfield 75, 3) := dk_180 0 75 (dk_at dksX0_when_1 14 rfl rfl)
theorem dX0_when_40 : decode cX0_when 40 = .ok (.iload_n 1, 1) := dk_27 (dk_at dksX0_when_1 17 rfl rfl)
theorem dX0_when_41 : decode cX0_when 41 = .ok (.aaload, 1) := dk_50 (dk_at dksX0_when_1 18 rfl rfl)
theorem dX0_when_42 : decode cX0_when 42 = .ok (.iload_n 2, 1) := dk_28 (dk_at dksX0_when_1 19 rfl rfl)
theorem dX0_when_43 : decode cX0_when 43 = .ok (.iload 5, 2) := dk_21 5 (dk_at dksX0_when_1 20 rfl rfl)
theorem dX0_when_45 : decode cX0_when 45 = .ok (.invokevirtual 448, 3) := dk_182 1 192 (dk_at dksX0_when_2 0 rfl rfl)
theorem dX0_when_48 : decode cX0_when 48 = .ok (.ifCond .eq 10, 3) := dk_153 0 10 (dk_at dksX0_when_2 3 rfl rfl)
theorem dX0_when_51 : decode cX0_when 51 = .ok (.lconst 1, 1) := dk_10 (dk_at dksX0_when_2 6 rfl rfl)
theorem dX0_when_52 : decode cX0_when 52 = .ok (.iload 5, 2) := dk_21 5 (dk_at dksX0_when_2 7 rfl rfl)
theorem dX0_when_54 : decode cX0_when 54 = .ok (.lshl, 1) := dk_121 (dk_at dksX0_when_2 9 rfl rfl)
theorem dX0_when_55 : decode cX0_when 55 = .ok (.goto 4, 3) := dk_167 0 4 (dk_at dksX0_when_2 10 rfl rfl)
theorem dX0_when_58 : decode cX0_when 58 = .ok (.lconst 0, 1) := dk_9 (dk_at dksX0_when_2 13 rfl rfl)
theorem dX0_when_59 : decode cX0_when 59 = .ok (.lor, 1) := dk_129 (dk_at dksX0_when_2 14 rfl rfl)
theorem dX0_when_60 : decode cX0_when 60 = .ok (.lstore_n 3, 1) := dk_66 (dk_at dksX0_when_2 15 rfl rfl)
theorem dX0_when_61 : decode cX0_when 61 = .ok (.iinc 5 1, 3) := dk_132 5 1 (dk_at dksX0_when_2 16 rfl rfl)
theorem dX0_when_64 : decode cX0_when 64 = .ok (.goto (-39), 3) := dk_167 255 217 (dk_at dksX0_when_2 19 rfl rfl)
theorem dX0_when_67 : decode cX0_when 67 = .ok (.lload_n 3, 1) := dk_33 (dk_at dksX0_when_2 22 rfl rfl)
theorem dX0_when_68 : decode cX0_when 68 = .ok (.lreturn, 1) := dk_173 (dk_at dksX0_when_2 23 rfl rfl)
abbrev cX0_willGo : ByteArray := prog_1_method_67_code
def yX0_willGo : MethodName := ⟨RX0, "willGo", "(LWalkingStones$How;II)Z"⟩
def dkwX0_willGo_1 : List UInt8 := [182, 1, 102, 182, 1, 105, 2, 159, 0, 7, 4, 167, 0, 4, 3, 172]
abbrev dktX0_willGo_1 : List UInt8 := dkwX0_willGo_1 ++ []
def dkwX0_willGo_0 : List UInt8 := [43, 42, 180, 0, 29, 28, 46, 29, 182, 0, 98, 158, 0, 26, 42, 42, 180, 0, 16, 28, 46, 43, 29]
abbrev dktX0_willGo_0 : List UInt8 := dkwX0_willGo_0 ++ dktX0_willGo_1
theorem dksX0_willGo_0 : cX0_willGo.data.toList.drop 0 = dktX0_willGo_0 := by decide +kernel
theorem dksX0_willGo_1 : cX0_willGo.data.toList.drop 23 = dktX0_willGo_1 := dk_seg dksX0_willGo_0 23 rfl rfl
theorem dX0_willGo_0 : decode cX0_willGo 0 = .ok (.aload_n 1, 1) := dk_43 (dk_at dksX0_willGo_0 0 rfl rfl)
theorem dX0_willGo_1 : decode cX0_willGo 1 = .ok (.aload_n 0, 1) := dk_42 (dk_at dksX0_willGo_0 1 rfl rfl)
theorem dX0_willGo_2 : decode cX0_willGo 2 = .ok (.getfield 29, 3) := dk_180 0 29 (dk_at dksX0_willGo_0 2 rfl rfl)
theorem dX0_willGo_5 : decode cX0_willGo 5 = .ok (.iload_n 2, 1) := dk_28 (dk_at dksX0_willGo_0 5 rfl rfl)
theorem dX0_willGo_6 : decode cX0_willGo 6 = .ok (.iaload, 1) := dk_46 (dk_at dksX0_willGo_0 6 rfl rfl)
theorem dX0_willGo_7 : decode cX0_willGo 7 = .ok (.iload_n 3, 1) := dk_29 (dk_at dksX0_willGo_0 7 rfl rfl)
theorem dX0_willGo_8 : decode cX0_willGo 8 = .ok (.invokevirtual 98, 3) := dk_182 0 98 (dk_at dksX0_willGo_0 8 rfl rfl)
theorem dX0_willGo_11 : decode cX0_willGo 11 = .ok (.ifCond .le 26, 3) := dk_158 0 26 (dk_at dksX0_willGo_0 11 rfl rfl)
theorem dX0_willGo_14 : decode cX0_willGo 14 = .ok (.aload_n 0, 1) := dk_42 (dk_at dksX0_willGo_0 14 rfl rfl)
theorem dX0_willGo_15 : decode cX0_willGo 15 = .ok (.aload_n 0, 1) := dk_42 (dk_at dksX0_willGo_0 15 rfl rfl)
theorem dX0_willGo_16 : decode cX0_willGo 16 = .ok (.getfield 16, 3) := dk_180 0 16 (dk_at dksX0_willGo_0 16 rfl rfl)
theorem dX0_willGo_19 : decode cX0_willGo 19 = .ok (.iload_n 2, 1) := dk_28 (dk_at dksX0_willGo_0 19 rfl rfl)
theorem dX0_willGo_20 : decode cX0_willGo 20 = .ok (.iaload, 1) := dk_46 (dk_at dksX0_willGo_0 20 rfl rfl)
theorem dX0_willGo_21 : decode cX0_willGo 21 = .ok (.aload_n 1, 1) := dk_43 (dk_at dksX0_willGo_0 21 rfl rfl)
theorem dX0_willGo_22 : decode cX0_willGo 22 = .ok (.iload_n 3, 1) := dk_29 (dk_at dksX0_willGo_0 22 rfl rfl)
theorem dX0_willGo_23 : decode cX0_willGo 23 = .ok (.invokevirtual 358, 3) := dk_182 1 102 (dk_at dksX0_willGo_1 0 rfl rfl)
theorem dX0_willGo_26 : decode cX0_willGo 26 = .ok (.invokevirtual 361, 3) := dk_182 1 105 (dk_at dksX0_willGo_1 3 rfl rfl)
theorem dX0_willGo_29 : decode cX0_willGo 29 = .ok (.iconst (-1), 1) := dk_2 (dk_at dksX0_willGo_1 6 rfl rfl)
theorem dX0_willGo_30 : decode cX0_willGo 30 = .ok (.if_icmp .eq 7, 3) := dk_159 0 7 (dk_at dksX0_willGo_1 7 rfl rfl)
theorem dX0_willGo_33 : decode cX0_willGo 33 = .ok (.iconst 1, 1) := dk_4 (dk_at dksX0_willGo_1 10 rfl rfl)
theorem dX0_willGo_34 : decode cX0_willGo 34 = .ok (.goto 4, 3) := dk_167 0 4 (dk_at dksX0_willGo_1 11 rfl rfl)
theorem dX0_willGo_37 : decode cX0_willGo 37 = .ok (.iconst 0, 1) := dk_3 (dk_at dksX0_willGo_1 14 rfl rfl)
theorem dX0_willGo_38 : decode cX0_willGo 38 = .ok (.ireturn, 1) := dk_172 (dk_at dksX0_willGo_1 15 rfl rfl)
abbrev cX0_foretold : ByteArray := prog_1_method_70_code
def yX0_foretold : MethodName := ⟨RX0, "foretold", "(II)I"⟩
def dkwX0_foretold_1 : List UInt8 := [167, 0, 5, 16, 254, 172]
abbrev dktX0_foretold_1 : List UInt8 := dkwX0_foretold_1 ++ []
def dkwX0_foretold_0 : List UInt8 := [42, 27, 182, 0, 83, 153, 0, 20, 42, 28, 182, 0, 86, 153, 0, 12, 42, 27, 28, 182, 1, 196]
abbrev dktX0_foretold_0 : List UInt8 := dkwX0_foretold_0 ++ dktX0_foretold_1
theorem dksX0_foretold_0 : cX0_foretold.data.toList.drop 0 = dktX0_foretold_0 := by decide +kernel
theorem dksX0_foretold_1 : cX0_foretold.data.toList.drop 22 = dktX0_foretold_1 := dk_seg dksX0_foretold_0 22 rfl rfl
theorem dX0_foretold_0 : decode cX0_foretold 0 = .ok (.aload_n 0, 1) := dk_42 (dk_at dksX0_foretold_0 0 rfl rfl)
theorem dX0_foretold_1 : decode cX0_foretold 1 = .ok (.iload_n 1, 1) := dk_27 (dk_at dksX0_foretold_0 1 rfl rfl)
theorem dX0_foretold_2 : decode cX0_foretold 2 = .ok (.invokevirtual 83, 3) := dk_182 0 83 (dk_at dksX0_foretold_0 2 rfl rfl)
theorem dX0_foretold_5 : decode cX0_foretold 5 = .ok (.ifCond .eq 20, 3) := dk_153 0 20 (dk_at dksX0_foretold_0 5 rfl rfl)
theorem dX0_foretold_8 : decode cX0_foretold 8 = .ok (.aload_n 0, 1) := dk_42 (dk_at dksX0_foretold_0 8 rfl rfl)
theorem dX0_foretold_9 : decode cX0_foretold 9 = .ok (.iload_n 2, 1) := dk_28 (dk_at dksX0_foretold_0 9 rfl rfl)
theorem dX0_foretold_10 : decode cX0_foretold 10 = .ok (.invokevirtual 86, 3) := dk_182 0 86 (dk_at dksX0_foretold_0 10 rfl rfl)
theorem dX0_foretold_13 : decode cX0_foretold 13 = .ok (.ifCond .eq 12, 3) := dk_153 0 12 (dk_at dksX0_foretold_0 13 rfl rfl)
theorem dX0_foretold_16 : decode cX0_foretold 16 = .ok (.aload_n 0, 1) := dk_42 (dk_at dksX0_foretold_0 16 rfl rfl)
theorem dX0_foretold_17 : decode cX0_foretold 17 = .ok (.iload_n 1, 1) := dk_27 (dk_at dksX0_foretold_0 17 rfl rfl)
theorem dX0_foretold_18 : decode cX0_foretold 18 = .ok (.iload_n 2, 1) := dk_28 (dk_at dksX0_foretold_0 18 rfl rfl)
theorem dX0_foretold_19 : decode cX0_foretold 19 = .ok (.invokevirtual 452, 3) := dk_182 1 196 (dk_at dksX0_foretold_0 19 rfl rfl)
theorem dX0_foretold_22 : decode cX0_foretold 22 = .ok (.goto 5, 3) := dk_167 0 5 (dk_at dksX0_foretold_1 0 rfl rfl)
theorem dX0_foretold_25 : decode cX0_foretold 25 = .ok (.bipush (-2), 2) := dk_16 254 (dk_at dksX0_foretold_1 3 rfl rfl)
theorem dX0_foretold_27 : decode cX0_foretold 27 = .ok (.ireturn, 1) := dk_172 (dk_at dksX0_foretold_1 5 rfl rfl)
