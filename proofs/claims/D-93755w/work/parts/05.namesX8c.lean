set_option maxRecDepth 100000
abbrev cX8_seldom : ByteArray := prog_16_method_71_code
def yX8_seldom : MethodName := ⟨RX8, "seldom", "(II)J"⟩
def dkwX8_seldom_11 : List UInt8 := [21, 7, 133, 173]
abbrev dktX8_seldom_11 : List UInt8 := dkwX8_seldom_11 ++ []
def dkwX8_seldom_10 : List UInt8 := [29, 133, 173, 21, 5, 133, 173, 22, 8, 22, 12, 109, 173, 22, 10, 22, 12, 109, 173, 21, 6, 133, 173]
abbrev dktX8_seldom_10 : List UInt8 := dkwX8_seldom_10 ++ dktX8_seldom_11
def dkwX8_seldom_9 : List UInt8 := [170, 0, 0, 0, 0, 57, 0, 0, 0, 0, 0, 0, 0, 4, 0, 0, 0, 34, 0, 0, 0, 37, 0, 0, 0, 41, 0, 0, 0, 47, 0, 0, 0, 53]
abbrev dktX8_seldom_9 : List UInt8 := dkwX8_seldom_9 ++ dktX8_seldom_10
def dkwX8_seldom_8 : List UInt8 := [133, 55, 10, 42, 22, 8, 22, 10, 182, 1, 76, 55, 12, 28]
abbrev dktX8_seldom_8 : List UInt8 := dkwX8_seldom_8 ++ dktX8_seldom_9
def dkwX8_seldom_7 : List UInt8 := [29, 154, 0, 7, 9, 167, 0, 8, 42, 180, 0, 11, 133, 55, 8, 29, 154, 0, 7, 10, 167, 0, 5, 29]
abbrev dktX8_seldom_7 : List UInt8 := dkwX8_seldom_7 ++ dktX8_seldom_8
def dkwX8_seldom_6 : List UInt8 := [21, 10, 153, 0, 12, 21, 9, 153, 0, 7, 4, 167, 0, 4, 3, 96, 54, 7, 132, 8, 1, 167, 255, 134]
abbrev dktX8_seldom_6 : List UInt8 := dkwX8_seldom_6 ++ dktX8_seldom_7
def dkwX8_seldom_5 : List UInt8 := [167, 0, 5, 21, 5, 54, 5, 21, 6, 21, 10, 153, 0, 7, 4, 167, 0, 4, 3, 96, 54, 6, 21, 7]
abbrev dktX8_seldom_5 : List UInt8 := dkwX8_seldom_5 ++ dktX8_seldom_6
def dkwX8_seldom_4 : List UInt8 := [153, 0, 7, 3, 167, 0, 7, 21, 4, 4, 96, 54, 4, 21, 4, 21, 5, 164, 0, 8, 21, 4]
abbrev dktX8_seldom_4 : List UInt8 := dkwX8_seldom_4 ++ dktX8_seldom_5
def dkwX8_seldom_3 : List UInt8 := [4, 167, 0, 4, 3, 54, 10, 29, 21, 9, 153, 0, 7, 4, 167, 0, 4, 3, 96, 62, 21, 9]
abbrev dktX8_seldom_3 : List UInt8 := dkwX8_seldom_3 ++ dktX8_seldom_4
def dkwX8_seldom_2 : List UInt8 := [42, 27, 21, 8, 182, 1, 86, 54, 9, 42, 4, 42, 182, 1, 89, 21, 8, 27, 182, 1, 22, 153, 0, 7]
abbrev dktX8_seldom_2 : List UInt8 := dkwX8_seldom_2 ++ dktX8_seldom_3
def dkwX8_seldom_1 : List UInt8 := [3, 54, 4, 3, 54, 5, 3, 54, 6, 3, 54, 7, 3, 54, 8, 21, 8, 42, 180, 0, 11, 162, 0, 119]
abbrev dktX8_seldom_1 : List UInt8 := dkwX8_seldom_1 ++ dktX8_seldom_2
def dkwX8_seldom_0 : List UInt8 := [42, 27, 182, 1, 25, 153, 0, 13, 42, 28, 3, 8, 182, 0, 7, 154, 0, 7, 20, 1, 70, 173, 3, 62]
abbrev dktX8_seldom_0 : List UInt8 := dkwX8_seldom_0 ++ dktX8_seldom_1
theorem dksX8_seldom_0 : cX8_seldom.data.toList.drop 0 = dktX8_seldom_0 := by decide +kernel
theorem dksX8_seldom_1 : cX8_seldom.data.toList.drop 24 = dktX8_seldom_1 := dk_seg dksX8_seldom_0 24 rfl rfl
theorem dksX8_seldom_2 : cX8_seldom.data.toList.drop 48 = dktX8_seldom_2 := dk_seg dksX8_seldom_1 24 rfl rfl
theorem dksX8_seldom_3 : cX8_seldom.data.toList.drop 72 = dktX8_seldom_3 := dk_seg dksX8_seldom_2 24 rfl rfl
theorem dksX8_seldom_4 : cX8_seldom.data.toList.drop 94 = dktX8_seldom_4 := dk_seg dksX8_seldom_3 22 rfl rfl
theorem dksX8_seldom_5 : cX8_seldom.data.toList.drop 116 = dktX8_seldom_5 := dk_seg dksX8_seldom_4 22 rfl rfl
theorem dksX8_seldom_6 : cX8_seldom.data.toList.drop 140 = dktX8_seldom_6 := dk_seg dksX8_seldom_5 24 rfl rfl
theorem dksX8_seldom_7 : cX8_seldom.data.toList.drop 164 = dktX8_seldom_7 := dk_seg dksX8_seldom_6 24 rfl rfl
theorem dksX8_seldom_8 : cX8_seldom.data.toList.drop 188 = dktX8_seldom_8 := dk_seg dksX8_seldom_7 24 rfl rfl
theorem dksX8_seldom_9 : cX8_seldom.data.toList.drop 202 = dktX8_seldom_9 := dk_seg dksX8_seldom_8 14 rfl rfl
theorem dksX8_seldom_10 : cX8_seldom.data.toList.drop 236 = dktX8_seldom_10 := dk_seg dksX8_seldom_9 34 rfl rfl
theorem dksX8_seldom_11 : cX8_seldom.data.toList.drop 259 = dktX8_seldom_11 := dk_seg dksX8_seldom_10 23 rfl rfl
theorem dX8_seldom_0 : decode cX8_seldom 0 = .ok (.aload_n 0, 1) := dk_42 (dk_at dksX8_seldom_0 0 rfl rfl)
theorem dX8_seldom_1 : decode cX8_seldom 1 = .ok (.iload_n 1, 1) := dk_27 (dk_at dksX8_seldom_0 1 rfl rfl)
theorem dX8_seldom_2 : decode cX8_seldom 2 = .ok (.invokevirtual 281, 3) := dk_182 1 25 (dk_at dksX8_seldom_0 2 rfl rfl)
theorem dX8_seldom_5 : decode cX8_seldom 5 = .ok (.ifCond .eq 13, 3) := dk_153 0 13 (dk_at dksX8_seldom_0 5 rfl rfl)
theorem dX8_seldom_8 : decode cX8_seldom 8 = .ok (.aload_n 0, 1) := dk_42 (dk_at dksX8_seldom_0 8 rfl rfl)
theorem dX8_seldom_9 : decode cX8_seldom 9 = .ok (.iload_n 2, 1) := dk_28 (dk_at dksX8_seldom_0 9 rfl rfl)
theorem dX8_seldom_10 : decode cX8_seldom 10 = .ok (.iconst 0, 1) := dk_3 (dk_at dksX8_seldom_0 10 rfl rfl)
theorem dX8_seldom_11 : decode cX8_seldom 11 = .ok (.iconst 5, 1) := dk_8 (dk_at dksX8_seldom_0 11 rfl rfl)
theorem dX8_seldom_12 : decode cX8_seldom 12 = .ok (.invokevirtual 7, 3) := dk_182 0 7 (dk_at dksX8_seldom_0 12 rfl rfl)
theorem dX8_seldom_15 : decode cX8_seldom 15 = .ok (.ifCond .ne 7, 3) := dk_154 0 7 (dk_at dksX8_seldom_0 15 rfl rfl)
theorem dX8_seldom_18 : decode cX8_seldom 18 = .ok (.ldc2_w 326, 3) := dk_20 1 70 (dk_at dksX8_seldom_0 18 rfl rfl)
theorem dX8_seldom_21 : decode cX8_seldom 21 = .ok (.lreturn, 1) := dk_173 (dk_at dksX8_seldom_0 21 rfl rfl)
theorem dX8_seldom_22 : decode cX8_seldom 22 = .ok (.iconst 0, 1) := dk_3 (dk_at dksX8_seldom_0 22 rfl rfl)
theorem dX8_seldom_23 : decode cX8_seldom 23 = .ok (.istore_n 3, 1) := dk_62 (dk_at dksX8_seldom_0 23 rfl rfl)
theorem dX8_seldom_24 : decode cX8_seldom 24 = .ok (.iconst 0, 1) := dk_3 (dk_at dksX8_seldom_1 0 rfl rfl)
theorem dX8_seldom_25 : decode cX8_seldom 25 = .ok (.istore 4, 2) := dk_54 4 (dk_at dksX8_seldom_1 1 rfl rfl)
theorem dX8_seldom_27 : decode cX8_seldom 27 = .ok (.iconst 0, 1) := dk_3 (dk_at dksX8_seldom_1 3 rfl rfl)
theorem dX8_seldom_28 : decode cX8_seldom 28 = .ok (.istore 5, 2) := dk_54 5 (dk_at dksX8_seldom_1 4 rfl rfl)
theorem dX8_seldom_30 : decode cX8_seldom 30 = .ok (.iconst 0, 1) := dk_3 (dk_at dksX8_seldom_1 6 rfl rfl)
theorem dX8_seldom_31 : decode cX8_seldom 31 = .ok (.istore 6, 2) := dk_54 6 (dk_at dksX8_seldom_1 7 rfl rfl)
theorem dX8_seldom_33 : decode cX8_seldom 33 = .ok (.iconst 0, 1) := dk_3 (dk_at dksX8_seldom_1 9 rfl rfl)
theorem dX8_seldom_34 : decode cX8_seldom 34 = .ok (.istore 7, 2) := dk_54 7 (dk_at dksX8_seldom_1 10 rfl rfl)
theorem dX8_seldom_36 : decode cX8_seldom 36 = .ok (.iconst 0, 1) := dk_3 (dk_at dksX8_seldom_1 12 rfl rfl)
theorem dX8_seldom_37 : decode cX8_seldom 37 = .ok (.istore 8, 2) := dk_54 8 (dk_at dksX8_seldom_1 13 rfl rfl)
theorem dX8_seldom_39 : decode cX8_seldom 39 = .ok (.iload 8, 2) := dk_21 8 (dk_at dksX8_seldom_1 15 rfl rfl)
theorem dX8_seldom_41 : decode cX8_seldom 41 = .ok (.aload_n 0, 1) := dk_42 (dk_at dksX8_seldom_1 17 rfl rfl)
theorem dX8_seldom_42 : decode cX8_seldom 42 = .ok (.getfield 11, 3) := dk_180 0 11 (dk_at dksX8_seldom_1 18 rfl rfl)
theorem dX8_seldom_45 : decode cX8_seldom 45 = .ok (.if_icmp .ge 119, 3) := dk_162 0 119 (dk_at dksX8_seldom_1 21 rfl rfl)
theorem dX8_seldom_48 : decode cX8_seldom 48 = .ok (.aload_n 0, 1) := dk_42 (dk_at dksX8_seldom_2 0 rfl rfl)
theorem dX8_seldom_49 : decode cX8_seldom 49 = .ok (.iload_n 1, 1) := dk_27 (dk_at dksX8_seldom_2 1 rfl rfl)
theorem dX8_seldom_50 : decode cX8_seldom 50 = .ok (.iload 8, 2) := dk_21 8 (dk_at dksX8_seldom_2 2 rfl rfl)
theorem dX8_seldom_52 : decode cX8_seldom 52 = .ok (.invokevirtual 342, 3) := dk_182 1 86 (dk_at dksX8_seldom_2 4 rfl rfl)
theorem dX8_seldom_55 : decode cX8_seldom 55 = .ok (.istore 9, 2) := dk_54 9 (dk_at dksX8_seldom_2 7 rfl rfl)
theorem dX8_seldom_57 : decode cX8_seldom 57 = .ok (.aload_n 0, 1) := dk_42 (dk_at dksX8_seldom_2 9 rfl rfl)
theorem dX8_seldom_58 : decode cX8_seldom 58 = .ok (.iconst 1, 1) := dk_4 (dk_at dksX8_seldom_2 10 rfl rfl)
theorem dX8_seldom_59 : decode cX8_seldom 59 = .ok (.aload_n 0, 1) := dk_42 (dk_at dksX8_seldom_2 11 rfl rfl)
theorem dX8_seldom_60 : decode cX8_seldom 60 = .ok (.invokevirtual 345, 3) := dk_182 1 89 (dk_at dksX8_seldom_2 12 rfl rfl)
theorem dX8_seldom_63 : decode cX8_seldom 63 = .ok (.iload 8, 2) := dk_21 8 (dk_at dksX8_seldom_2 15 rfl rfl)
theorem dX8_seldom_65 : decode cX8_seldom 65 = .ok (.iload_n 1, 1) := dk_27 (dk_at dksX8_seldom_2 17 rfl rfl)
theorem dX8_seldom_66 : decode cX8_seldom 66 = .ok (.invokevirtual 278, 3) := dk_182 1 22 (dk_at dksX8_seldom_2 18 rfl rfl)
theorem dX8_seldom_69 : decode cX8_seldom 69 = .ok (.ifCond .eq 7, 3) := dk_153 0 7 (dk_at dksX8_seldom_2 21 rfl rfl)
theorem dX8_seldom_72 : decode cX8_seldom 72 = .ok (.iconst 1, 1) := dk_4 (dk_at dksX8_seldom_3 0 rfl rfl)
theorem dX8_seldom_73 : decode cX8_seldom 73 = .ok (.goto 4, 3) := dk_167 0 4 (dk_at dksX8_seldom_3 1 rfl rfl)
theorem dX8_seldom_76 : decode cX8_seldom 76 = .ok (.iconst 0, 1) := dk_3 (dk_at dksX8_seldom_3 4 rfl rfl)
theorem dX8_seldom_77 : decode cX8_seldom 77 = .ok (.istore 10, 2) := dk_54 10 (dk_at dksX8_seldom_3 5 rfl rfl)
theorem dX8_seldom_79 : decode cX8_seldom 79 = .ok (.iload_n 3, 1) := dk_29 (dk_at dksX8_seldom_3 7 rfl rfl)
theorem dX8_seldom_80 : decode cX8_seldom 80 = .ok (.iload 9, 2) := dk_21 9 (dk_at dksX8_seldom_3 8 rfl rfl)
theorem dX8_seldom_82 : decode cX8_seldom 82 = .ok (.ifCond .eq 7, 3) := dk_153 0 7 (dk_at dksX8_seldom_3 10 rfl rfl)
theorem dX8_seldom_85 : decode cX8_seldom 85 = .ok (.iconst 1, 1) := dk_4 (dk_at dksX8_seldom_3 13 rfl rfl)
theorem dX8_seldom_86 : decode cX8_seldom 86 = .ok (.goto 4, 3) := dk_167 0 4 (dk_at dksX8_seldom_3 14 rfl rfl)
theorem dX8_seldom_89 : decode cX8_seldom 89 = .ok (.iconst 0, 1) := dk_3 (dk_at dksX8_seldom_3 17 rfl rfl)
theorem dX8_seldom_90 : decode cX8_seldom 90 = .ok (.iadd, 1) := dk_96 (dk_at dksX8_seldom_3 18 rfl rfl)
theorem dX8_seldom_91 : decode cX8_seldom 91 = .ok (.istore_n 3, 1) := dk_62 (dk_at dksX8_seldom_3 19 rfl rfl)
theorem dX8_seldom_92 : decode cX8_seldom 92 = .ok (.iload 9, 2) := dk_21 9 (dk_at dksX8_seldom_3 20 rfl rfl)
theorem dX8_seldom_94 : decode cX8_seldom 94 = .ok (.ifCond .eq 7, 3) := dk_153 0 7 (dk_at dksX8_seldom_4 0 rfl rfl)
theorem dX8_seldom_97 : decode cX8_seldom 97 = .ok (.iconst 0, 1) := dk_3 (dk_at dksX8_seldom_4 3 rfl rfl)
theorem dX8_seldom_98 : decode cX8_seldom 98 = .ok (.goto 7, 3) := dk_167 0 7 (dk_at dksX8_seldom_4 4 rfl rfl)
theorem dX8_seldom_101 : decode cX8_seldom 101 = .ok (.iload 4, 2) := dk_21 4 (dk_at dksX8_seldom_4 7 rfl rfl)
theorem dX8_seldom_103 : decode cX8_seldom 103 = .ok (.iconst 1, 1) := dk_4 (dk_at dksX8_seldom_4 9 rfl rfl)
theorem dX8_seldom_104 : decode cX8_seldom 104 = .ok (.iadd, 1) := dk_96 (dk_at dksX8_seldom_4 10 rfl rfl)
theorem dX8_seldom_105 : decode cX8_seldom 105 = .ok (.istore 4, 2) := dk_54 4 (dk_at dksX8_seldom_4 11 rfl rfl)
theorem dX8_seldom_107 : decode cX8_seldom 107 = .ok (.iload 4, 2) := dk_21 4 (dk_at dksX8_seldom_4 13 rfl rfl)
theorem dX8_seldom_109 : decode cX8_seldom 109 = .ok (.iload 5, 2) := dk_21 5 (dk_at dksX8_seldom_4 15 rfl rfl)
theorem dX8_seldom_111 : decode cX8_seldom 111 = .ok (.if_icmp .le 8, 3) := dk_164 0 8 (dk_at dksX8_seldom_4 17 rfl rfl)
theorem dX8_seldom_114 : decode cX8_seldom 114 = .ok (.iload 4, 2) := dk_21 4 (dk_at dksX8_seldom_4 20 rfl rfl)
theorem dX8_seldom_116 : decode cX8_seldom 116 = .ok (.goto 5, 3) := dk_167 0 5 (dk_at dksX8_seldom_5 0 rfl rfl)
theorem dX8_seldom_119 : decode cX8_seldom 119 = .ok (.iload 5, 2) := dk_21 5 (dk_at dksX8_seldom_5 3 rfl rfl)
theorem dX8_seldom_121 : decode cX8_seldom 121 = .ok (.istore 5, 2) := dk_54 5 (dk_at dksX8_seldom_5 5 rfl rfl)
theorem dX8_seldom_123 : decode cX8_seldom 123 = .ok (.iload 6, 2) := dk_21 6 (dk_at dksX8_seldom_5 7 rfl rfl)
theorem dX8_seldom_125 : decode cX8_seldom 125 = .ok (.iload 10, 2) := dk_21 10 (dk_at dksX8_seldom_5 9 rfl rfl)
theorem dX8_seldom_127 : decode cX8_seldom 127 = .ok (.ifCond .eq 7, 3) := dk_153 0 7 (dk_at dksX8_seldom_5 11 rfl rfl)
theorem dX8_seldom_130 : decode cX8_seldom 130 = .ok (.iconst 1, 1) := dk_4 (dk_at dksX8_seldom_5 14 rfl rfl)
theorem dX8_seldom_131 : decode cX8_seldom 131 = .ok (.goto 4, 3) := dk_167 0 4 (dk_at dksX8_seldom_5 15 rfl rfl)
theorem dX8_seldom_134 : decode cX8_seldom 134 = .ok (.iconst 0, 1) := dk_3 (dk_at dksX8_seldom_5 18 rfl rfl)
theorem dX8_seldom_135 : decode cX8_seldom 135 = .ok (.iadd, 1) := dk_96 (dk_at dksX8_seldom_5 19 rfl rfl)
theorem dX8_seldom_136 : decode cX8_seldom 136 = .ok (.istore 6, 2) := dk_54 6 (dk_at dksX8_seldom_5 20 rfl rfl)
theorem dX8_seldom_138 : decode cX8_seldom 138 = .ok (.iload 7, 2) := dk_21 7 (dk_at dksX8_seldom_5 22 rfl rfl)
theorem dX8_seldom_140 : decode cX8_seldom 140 = .ok (.iload 10, 2) := dk_21 10 (dk_at dksX8_seldom_6 0 rfl rfl)
theorem dX8_seldom_142 : decode cX8_seldom 142 = .ok (.ifCond .eq 12, 3) := dk_153 0 12 (dk_at dksX8_seldom_6 2 rfl rfl)
theorem dX8_seldom_145 : decode cX8_seldom 145 = .ok (.iload 9, 2) := dk_21 9 (dk_at dksX8_seldom_6 5 rfl rfl)
theorem dX8_seldom_147 : decode cX8_seldom 147 = .ok (.ifCond .eq 7, 3) := dk_153 0 7 (dk_at dksX8_seldom_6 7 rfl rfl)
theorem dX8_seldom_150 : decode cX8_seldom 150 = .ok (.iconst 1, 1) := dk_4 (dk_at dksX8_seldom_6 10 rfl rfl)
theorem dX8_seldom_151 : decode cX8_seldom 151 = .ok (.goto 4, 3) := dk_167 0 4 (dk_at dksX8_seldom_6 11 rfl rfl)
theorem dX8_seldom_154 : decode cX8_seldom 154 = .ok (.iconst 0, 1) := dk_3 (dk_at dksX8_seldom_6 14 rfl rfl)
theorem dX8_seldom_155 : decode cX8_seldom 155 = .ok (.iadd, 1) := dk_96 (dk_at dksX8_seldom_6 15 rfl rfl)
theorem dX8_seldom_156 : decode cX8_seldom 156 = .ok (.istore 7, 2) := dk_54 7 (dk_at dksX8_seldom_6 16 rfl rfl)
theorem dX8_seldom_158 : decode cX8_seldom 158 = .ok (.iinc 8 1, 3) := dk_132 8 1 (dk_at dksX8_seldom_6 18 rfl rfl)
theorem dX8_seldom_161 : decode cX8_seldom 161 = .ok (.goto (-122), 3) := dk_167 255 134 (dk_at dksX8_seldom_6 21 rfl rfl)
theorem dX8_seldom_164 : decode cX8_seldom 164 = .ok (.iload_n 3, 1) := dk_29 (dk_at dksX8_seldom_7 0 rfl rfl)
theorem dX8_seldom_165 : decode cX8_seldom 165 = .ok (.ifCond .ne 7, 3) := dk_154 0 7 (dk_at dksX8_seldom_7 1 rfl rfl)
theorem dX8_seldom_168 : decode cX8_seldom 168 = .ok (.lconst 0, 1) := dk_9 (dk_at dksX8_seldom_7 4 rfl rfl)
theorem dX8_seldom_169 : decode cX8_seldom 169 = .ok (.goto 8, 3) := dk_167 0 8 (dk_at dksX8_seldom_7 5 rfl rfl)
theorem dX8_seldom_172 : decode cX8_seldom 172 = .ok (.aload_n 0, 1) := dk_42 (dk_at dksX8_seldom_7 8 rfl rfl)
theorem dX8_seldom_173 : decode cX8_seldom 173 = .ok (.getfield 11, 3) := dk_180 0 11 (dk_at dksX8_seldom_7 9 rfl rfl)
theorem dX8_seldom_176 : decode cX8_seldom 176 = .ok (.i2l, 1) := dk_133 (dk_at dksX8_seldom_7 12 rfl rfl)
theorem dX8_seldom_177 : decode cX8_seldom 177 = .ok (.lstore 8, 2) := dk_55 8 (dk_at dksX8_seldom_7 13 rfl rfl)
theorem dX8_seldom_179 : decode cX8_seldom 179 = .ok (.iload_n 3, 1) := dk_29 (dk_at dksX8_seldom_7 15 rfl rfl)
theorem dX8_seldom_180 : decode cX8_seldom 180 = .ok (.ifCond .ne 7, 3) := dk_154 0 7 (dk_at dksX8_seldom_7 16 rfl rfl)
theorem dX8_seldom_183 : decode cX8_seldom 183 = .ok (.lconst 1, 1) := dk_10 (dk_at dksX8_seldom_7 19 rfl rfl)
theorem dX8_seldom_184 : decode cX8_seldom 184 = .ok (.goto 5, 3) := dk_167 0 5 (dk_at dksX8_seldom_7 20 rfl rfl)
theorem dX8_seldom_187 : decode cX8_seldom 187 = .ok (.iload_n 3, 1) := dk_29 (dk_at dksX8_seldom_7 23 rfl rfl)
theorem dX8_seldom_188 : decode cX8_seldom 188 = .ok (.i2l, 1) := dk_133 (dk_at dksX8_seldom_8 0 rfl rfl)
theorem dX8_seldom_189 : decode cX8_seldom 189 = .ok (.lstore 10, 2) := dk_55 10 (dk_at dksX8_seldom_8 1 rfl rfl)
theorem dX8_seldom_191 : decode cX8_seldom 191 = .ok (.aload_n 0, 1) := dk_42 (dk_at dksX8_seldom_8 3 rfl rfl)
theorem dX8_seldom_192 : decode cX8_seldom 192 = .ok (.lload 8, 2) := dk_22 8 (dk_at dksX8_seldom_8 4 rfl rfl)
theorem dX8_seldom_194 : decode cX8_seldom 194 = .ok (.lload 10, 2) := dk_22 10 (dk_at dksX8_seldom_8 6 rfl rfl)
theorem dX8_seldom_196 : decode cX8_seldom 196 = .ok (.invokevirtual 332, 3) := dk_182 1 76 (dk_at dksX8_seldom_8 8 rfl rfl)
theorem dX8_seldom_199 : decode cX8_seldom 199 = .ok (.lstore 12, 2) := dk_55 12 (dk_at dksX8_seldom_8 11 rfl rfl)
theorem dX8_seldom_201 : decode cX8_seldom 201 = .ok (.iload_n 2, 1) := dk_28 (dk_at dksX8_seldom_8 13 rfl rfl)
theorem dX8_seldom_202 : decode cX8_seldom 202 = .ok (.tableswitch 57 0 4 #[34, 37, 41, 47, 53], 34) := by decide +kernel
theorem dX8_seldom_236 : decode cX8_seldom 236 = .ok (.iload_n 3, 1) := dk_29 (dk_at dksX8_seldom_10 0 rfl rfl)
theorem dX8_seldom_237 : decode cX8_seldom 237 = .ok (.i2l, 1) := dk_133 (dk_at dksX8_seldom_10 1 rfl rfl)
theorem dX8_seldom_238 : decode cX8_seldom 238 = .ok (.lreturn, 1) := dk_173 (dk_at dksX8_seldom_10 2 rfl rfl)
theorem dX8_seldom_239 : decode cX8_seldom 239 = .ok (.iload 5, 2) := dk_21 5 (dk_at dksX8_seldom_10 3 rfl rfl)
theorem dX8_seldom_241 : decode cX8_seldom 241 = .ok (.i2l, 1) := dk_133 (dk_at dksX8_seldom_10 5 rfl rfl)
theorem dX8_seldom_242 : decode cX8_seldom 242 = .ok (.lreturn, 1) := dk_173 (dk_at dksX8_seldom_10 6 rfl rfl)
theorem dX8_seldom_243 : decode cX8_seldom 243 = .ok (.lload 8, 2) := dk_22 8 (dk_at dksX8_seldom_10 7 rfl rfl)
theorem dX8_seldom_245 : decode cX8_seldom 245 = .ok (.lload 12, 2) := dk_22 12 (dk_at dksX8_seldom_10 9 rfl rfl)
theorem dX8_seldom_247 : decode cX8_seldom 247 = .ok (.ldiv, 1) := dk_109 (dk_at dksX8_seldom_10 11 rfl rfl)
theorem dX8_seldom_248 : decode cX8_seldom 248 = .ok (.lreturn, 1) := dk_173 (dk_at dksX8_seldom_10 12 rfl rfl)
theorem dX8_seldom_249 : decode cX8_seldom 249 = .ok (.lload 10, 2) := dk_22 10 (dk_at dksX8_seldom_10 13 rfl rfl)
theorem dX8_seldom_251 : decode cX8_seldom 251 = .ok (.lload 12, 2) := dk_22 12 (dk_at dksX8_seldom_10 15 rfl rfl)
theorem dX8_seldom_253 : decode cX8_seldom 253 = .ok (.ldiv, 1) := dk_109 (dk_at dksX8_seldom_10 17 rfl rfl)
theorem dX8_seldom_254 : decode cX8_seldom 254 = .ok (.lreturn, 1) := dk_173 (dk_at dksX8_seldom_10 18 rfl rfl)
theorem dX8_seldom_255 : decode cX8_seldom 255 = .ok (.iload 6, 2) := dk_21 6 (dk_at dksX8_seldom_10 19 rfl rfl)
theorem dX8_seldom_257 : decode cX8_seldom 257 = .ok (.i2l, 1) := dk_133 (dk_at dksX8_seldom_10 21 rfl rfl)
theorem dX8_seldom_258 : decode cX8_seldom 258 = .ok (.lreturn, 1) := dk_173 (dk_at dksX8_seldom_10 22 rfl rfl)
theorem dX8_seldom_259 : decode cX8_seldom 259 = .ok (.iload 7, 2) := dk_21 7 (dk_at dksX8_seldom_11 0 rfl rfl)
theorem dX8_seldom_261 : decode cX8_seldom 261 = .ok (.i2l, 1) := dk_133 (dk_at dksX8_seldom_11 2 rfl rfl)
theorem dX8_seldom_262 : decode cX8_seldom 262 = .ok (.lreturn, 1) := dk_173 (dk_at dksX8_seldom_11 3 rfl rfl)
abbrev cX8_pushesSome : ByteArray := prog_16_method_69_code
def yX8_pushesSome : MethodName := ⟨RX8, "pushesSome", "(II)Z"⟩
def dkwX8_pushesSome_1 : List UInt8 := [132, 3, 1, 167, 255, 233, 3, 172]
abbrev dktX8_pushesSome_1 : List UInt8 := dkwX8_pushesSome_1 ++ []
def dkwX8_pushesSome_0 : List UInt8 := [3, 62, 29, 42, 180, 0, 1, 162, 0, 21, 42, 27, 29, 28, 182, 1, 31, 158, 0, 5, 4, 172]
abbrev dktX8_pushesSome_0 : List UInt8 := dkwX8_pushesSome_0 ++ dktX8_pushesSome_1
theorem dksX8_pushesSome_0 : cX8_pushesSome.data.toList.drop 0 = dktX8_pushesSome_0 := by decide +kernel
theorem dksX8_pushesSome_1 : cX8_pushesSome.data.toList.drop 22 = dktX8_pushesSome_1 := dk_seg dksX8_pushesSome_0 22 rfl rfl
theorem dX8_pushesSome_0 : decode cX8_pushesSome 0 = .ok (.iconst 0, 1) := dk_3 (dk_at dksX8_pushesSome_0 0 rfl rfl)
theorem dX8_pushesSome_1 : decode cX8_pushesSome 1 = .ok (.istore_n 3, 1) := dk_62 (dk_at dksX8_pushesSome_0 1 rfl rfl)
theorem dX8_pushesSome_2 : decode cX8_pushesSome 2 = .ok (.iload_n 3, 1) := dk_29 (dk_at dksX8_pushesSome_0 2 rfl rfl)
theorem dX8_pushesSome_3 : decode cX8_pushesSome 3 = .ok (.aload_n 0, 1) := dk_42 (dk_at dksX8_pushesSome_0 3 rfl rfl)
theorem dX8_pushesSome_4 : decode cX8_pushesSome 4 = .ok (.getfield 1, 3) := dk_180 0 1 (dk_at dksX8_pushesSome_0 4 rfl rfl)
theorem dX8_pushesSome_7 : decode cX8_pushesSome 7 = .ok (.if_icmp .ge 21, 3) := dk_162 0 21 (dk_at dksX8_pushesSome_0 7 rfl rfl)
theorem dX8_pushesSome_10 : decode cX8_pushesSome 10 = .ok (.aload_n 0, 1) := dk_42 (dk_at dksX8_pushesSome_0 10 rfl rfl)
theorem dX8_pushesSome_11 : decode cX8_pushesSome 11 = .ok (.iload_n 1, 1) := dk_27 (dk_at dksX8_pushesSome_0 11 rfl rfl)
theorem dX8_pushesSome_12 : decode cX8_pushesSome 12 = .ok (.iload_n 3, 1) := dk_29 (dk_at dksX8_pushesSome_0 12 rfl rfl)
theorem dX8_pushesSome_13 : decode cX8_pushesSome 13 = .ok (.iload_n 2, 1) := dk_28 (dk_at dksX8_pushesSome_0 13 rfl rfl)
theorem dX8_pushesSome_14 : decode cX8_pushesSome 14 = .ok (.invokevirtual 287, 3) := dk_182 1 31 (dk_at dksX8_pushesSome_0 14 rfl rfl)
theorem dX8_pushesSome_17 : decode cX8_pushesSome 17 = .ok (.ifCond .le 5, 3) := dk_158 0 5 (dk_at dksX8_pushesSome_0 17 rfl rfl)
theorem dX8_pushesSome_20 : decode cX8_pushesSome 20 = .ok (.iconst 1, 1) := dk_4 (dk_at dksX8_pushesSome_0 20 rfl rfl)
theorem dX8_pushesSome_21 : decode cX8_pushesSome 21 = .ok (.ireturn, 1) := dk_172 (dk_at dksX8_pushesSome_0 21 rfl rfl)
theorem dX8_pushesSome_22 : decode cX8_pushesSome 22 = .ok (.iinc 3 1, 3) := dk_132 3 1 (dk_at dksX8_pushesSome_1 0 rfl rfl)
theorem dX8_pushesSome_25 : decode cX8_pushesSome 25 = .ok (.goto (-23), 3) := dk_167 255 233 (dk_at dksX8_pushesSome_1 3 rfl rfl)
theorem dX8_pushesSome_28 : decode cX8_pushesSome 28 = .ok (.iconst 0, 1) := dk_3 (dk_at dksX8_pushesSome_1 6 rfl rfl)
theorem dX8_pushesSome_29 : decode cX8_pushesSome 29 = .ok (.ireturn, 1) := dk_172 (dk_at dksX8_pushesSome_1 7 rfl rfl)
abbrev cX8_lightest : ByteArray := prog_16_method_70_code
def yX8_lightest : MethodName := ⟨RX8, "lightest", "()I"⟩
def dkwX8_lightest_1 : List UInt8 := [162, 0, 12, 42, 180, 0, 21, 28, 46, 167, 0, 4, 27, 60, 132, 2, 1, 167, 255, 220, 27, 172]
abbrev dktX8_lightest_1 : List UInt8 := dkwX8_lightest_1 ++ []
def dkwX8_lightest_0 : List UInt8 := [3, 60, 3, 61, 28, 42, 180, 0, 1, 162, 0, 34, 27, 153, 0, 13, 42, 180, 0, 21, 28, 46, 27]
abbrev dktX8_lightest_0 : List UInt8 := dkwX8_lightest_0 ++ dktX8_lightest_1
theorem dksX8_lightest_0 : cX8_lightest.data.toList.drop 0 = dktX8_lightest_0 := by decide +kernel
theorem dksX8_lightest_1 : cX8_lightest.data.toList.drop 23 = dktX8_lightest_1 := dk_seg dksX8_lightest_0 23 rfl rfl
theorem dX8_lightest_0 : decode cX8_lightest 0 = .ok (.iconst 0, 1) := dk_3 (dk_at dksX8_lightest_0 0 rfl rfl)
theorem dX8_lightest_1 : decode cX8_lightest 1 = .ok (.istore_n 1, 1) := dk_60 (dk_at dksX8_lightest_0 1 rfl rfl)
theorem dX8_lightest_2 : decode cX8_lightest 2 = .ok (.iconst 0, 1) := dk_3 (dk_at dksX8_lightest_0 2 rfl rfl)
theorem dX8_lightest_3 : decode cX8_lightest 3 = .ok (.istore_n 2, 1) := dk_61 (dk_at dksX8_lightest_0 3 rfl rfl)
theorem dX8_lightest_4 : decode cX8_lightest 4 = .ok (.iload_n 2, 1) := dk_28 (dk_at dksX8_lightest_0 4 rfl rfl)
theorem dX8_lightest_5 : decode cX8_lightest 5 = .ok (.aload_n 0, 1) := dk_42 (dk_at dksX8_lightest_0 5 rfl rfl)
theorem dX8_lightest_6 : decode cX8_lightest 6 = .ok (.getfield 1, 3) := dk_180 0 1 (dk_at dksX8_lightest_0 6 rfl rfl)
theorem dX8_lightest_9 : decode cX8_lightest 9 = .ok (.if_icmp .ge 34, 3) := dk_162 0 34 (dk_at dksX8_lightest_0 9 rfl rfl)
theorem dX8_lightest_12 : decode cX8_lightest 12 = .ok (.iload_n 1, 1) := dk_27 (dk_at dksX8_lightest_0 12 rfl rfl)
theorem dX8_lightest_13 : decode cX8_lightest 13 = .ok (.ifCond .eq 13, 3) := dk_153 0 13 (dk_at dksX8_lightest_0 13 rfl rfl)
theorem dX8_lightest_16 : decode cX8_lightest 16 = .ok (.aload_n 0, 1) := dk_42 (dk_at dksX8_lightest_0 16 rfl rfl)
theorem dX8_lightest_17 : decode cX8_lightest 17 = .ok (.getfield 21, 3) := dk_180 0 21 (dk_at dksX8_lightest_0 17 rfl rfl)
theorem dX8_lightest_20 : decode cX8_lightest 20 = .ok (.iload_n 2, 1) := dk_28 (dk_at dksX8_lightest_0 20 rfl rfl)
theorem dX8_lightest_21 : decode cX8_lightest 21 = .ok (.iaload, 1) := dk_46 (dk_at dksX8_lightest_0 21 rfl rfl)
theorem dX8_lightest_22 : decode cX8_lightest 22 = .ok (.iload_n 1, 1) := dk_27 (dk_at dksX8_lightest_0 22 rfl rfl)
theorem dX8_lightest_23 : decode cX8_lightest 23 = .ok (.if_icmp .ge 12, 3) := dk_162 0 12 (dk_at dksX8_lightest_1 0 rfl rfl)
theorem dX8_lightest_26 : decode cX8_lightest 26 = .ok (.aload_n 0, 1) := dk_42 (dk_at dksX8_lightest_1 3 rfl rfl)
theorem dX8_lightest_27 : decode cX8_lightest 27 = .ok (.getfield 21, 3) := dk_180 0 21 (dk_at dksX8_lightest_1 4 rfl rfl)
theorem dX8_lightest_30 : decode cX8_lightest 30 = .ok (.iload_n 2, 1) := dk_28 (dk_at dksX8_lightest_1 7 rfl rfl)
theorem dX8_lightest_31 : decode cX8_lightest 31 = .ok (.iaload, 1) := dk_46 (dk_at dksX8_lightest_1 8 rfl rfl)
theorem dX8_lightest_32 : decode cX8_lightest 32 = .ok (.goto 4, 3) := dk_167 0 4 (dk_at dksX8_lightest_1 9 rfl rfl)
theorem dX8_lightest_35 : decode cX8_lightest 35 = .ok (.iload_n 1, 1) := dk_27 (dk_at dksX8_lightest_1 12 rfl rfl)
theorem dX8_lightest_36 : decode cX8_lightest 36 = .ok (.istore_n 1, 1) := dk_60 (dk_at dksX8_lightest_1 13 rfl rfl)
theorem dX8_lightest_37 : decode cX8_lightest 37 = .ok (.iinc 2 1, 3) := dk_132 2 1 (dk_at dksX8_lightest_1 14 rfl rfl)
theorem dX8_lightest_40 : decode cX8_lightest 40 = .ok (.goto (-36), 3) := dk_167 255 220 (dk_at dksX8_lightest_1 17 rfl rfl)
theorem dX8_lightest_43 : decode cX8_lightest 43 = .ok (.iload_n 1, 1) := dk_27 (dk_at dksX8_lightest_1 20 rfl rfl)
theorem dX8_lightest_44 : decode cX8_lightest 44 = .ok (.ireturn, 1) := dk_172 (dk_at dksX8_lightest_1 21 rfl rfl)
abbrev cX8_when : ByteArray := prog_16_method_73_code
def yX8_when : MethodName := ⟨RX8, "when", "(II)J"⟩
def dkwX8_when_2 : List UInt8 := [153, 0, 10, 10, 21, 5, 121, 167, 0, 4, 9, 129, 66, 132, 5, 1, 167, 255, 222, 33, 173]
abbrev dktX8_when_2 : List UInt8 := dkwX8_when_2 ++ []
def dkwX8_when_1 : List UInt8 := [9, 66, 3, 54, 5, 21, 5, 42, 180, 0, 11, 162, 0, 31, 33, 42, 27, 28, 21, 5, 182, 1, 92]
abbrev dktX8_when_1 : List UInt8 := dkwX8_when_1 ++ dktX8_when_2
def dkwX8_when_0 : List UInt8 := [42, 27, 182, 1, 25, 153, 0, 11, 42, 28, 182, 0, 51, 154, 0, 7, 20, 1, 70, 173, 42, 182, 1, 43]
abbrev dktX8_when_0 : List UInt8 := dkwX8_when_0 ++ dktX8_when_1
theorem dksX8_when_0 : cX8_when.data.toList.drop 0 = dktX8_when_0 := by decide +kernel
theorem dksX8_when_1 : cX8_when.data.toList.drop 24 = dktX8_when_1 := dk_seg dksX8_when_0 24 rfl rfl
theorem dksX8_when_2 : cX8_when.data.toList.drop 47 = dktX8_when_2 := dk_seg dksX8_when_1 23 rfl rfl
theorem dX8_when_0 : decode cX8_when 0 = .ok (.aload_n 0, 1) := dk_42 (dk_at dksX8_when_0 0 rfl rfl)
theorem dX8_when_1 : decode cX8_when 1 = .ok (.iload_n 1, 1) := dk_27 (dk_at dksX8_when_0 1 rfl rfl)
theorem dX8_when_2 : decode cX8_when 2 = .ok (.invokevirtual 281, 3) := dk_182 1 25 (dk_at dksX8_when_0 2 rfl rfl)
theorem dX8_when_5 : decode cX8_when 5 = .ok (.ifCond .eq 11, 3) := dk_153 0 11 (dk_at dksX8_when_0 5 rfl rfl)
theorem dX8_when_8 : decode cX8_when 8 = .ok (.aload_n 0, 1) := dk_42 (dk_at dksX8_when_0 8 rfl rfl)
theorem dX8_when_9 : decode cX8_when 9 = .ok (.iload_n 2, 1) := dk_28 (dk_at dksX8_when_0 9 rfl rfl)
theorem dX8_when_10 : decode cX8_when 10 = .ok (.invokevirtual 51, 3) := dk_182 0 51 (dk_at dksX8_when_0 10 rfl rfl)
theorem dX8_when_13 : decode cX8_when 13 = .ok (.ifCond .ne 7, 3) := dk_154 0 7 (dk_at dksX8_when_0 13 rfl rfl)
theorem dX8_when_16 : decode cX8_when 16 = .ok (.ldc2_w 326, 3) := dk_20 1 70 (dk_at dksX8_when_0 16 rfl rfl)
theorem dX8_when_19 : decode cX8_when 19 = .ok (.lreturn, 1) := dk_173 (dk_at dksX8_when_0 19 rfl rfl)
theorem dX8_when_20 : decode cX8_when 20 = .ok (.aload_n 0, 1) := dk_42 (dk_at dksX8_when_0 20 rfl rfl)
theorem dX8_when_21 : decode cX8_when 21 = .ok (.invokevirtual 299, 3) := dk_182 1 43 (dk_at dksX8_when_0 21 rfl rfl)
theorem dX8_when_24 : decode cX8_when 24 = .ok (.lconst 0, 1) := dk_9 (dk_at dksX8_when_1 0 rfl rfl)
theorem dX8_when_25 : decode cX8_when 25 = .ok (.lstore_n 3, 1) := dk_66 (dk_at dksX8_when_1 1 rfl rfl)
theorem dX8_when_26 : decode cX8_when 26 = .ok (.iconst 0, 1) := dk_3 (dk_at dksX8_when_1 2 rfl rfl)
theorem dX8_when_27 : decode cX8_when 27 = .ok (.istore 5, 2) := dk_54 5 (dk_at dksX8_when_1 3 rfl rfl)
theorem dX8_when_29 : decode cX8_when 29 = .ok (.iload 5, 2) := dk_21 5 (dk_at dksX8_when_1 5 rfl rfl)
theorem dX8_when_31 : decode cX8_when 31 = .ok (.aload_n 0, 1) := dk_42 (dk_at dksX8_when_1 7 rfl rfl)
theorem dX8_when_32 : decode cX8_when 32 = .ok (.getfield 11, 3) := dk_180 0 11 (dk_at dksX8_when_1 8 rfl rfl)
theorem dX8_when_35 : decode cX8_when 35 = .ok (.if_icmp .ge 31, 3) := dk_162 0 31 (dk_at dksX8_when_1 11 rfl rfl)
theorem dX8_when_38 : decode cX8_when 38 = .ok (.lload_n 3, 1) := dk_33 (dk_at dksX8_when_1 14 rfl rfl)
theorem dX8_when_39 : decode cX8_when 39 = .ok (.aload_n 0, 1) := dk_42 (dk_at dksX8_when_1 15 rfl rfl)
theorem dX8_when_40 : decode cX8_when 40 = .ok (.iload_n 1, 1) := dk_27 (dk_at dksX8_when_1 16 rfl rfl)
theorem dX8_when_41 : decode cX8_when 41 = .ok (.iload_n 2, 1) := dk_28 (dk_at dksX8_when_1 17 rfl rfl)
theorem dX8_when_42 : decode cX8_when 42 = .ok (.iload 5, 2) := dk_21 5 (dk_at dksX8_when_1 18 rfl rfl)
theorem dX8_when_44 : decode cX8_when 44 = .ok (.invokevirtual 348, 3) := dk_182 1 92 (dk_at dksX8_when_1 20 rfl rfl)
theorem dX8_when_47 : decode cX8_when 47 = .ok (.ifCond .eq 10, 3) := dk_153 0 10 (dk_at dksX8_when_2 0 rfl rfl)
theorem dX8_when_50 : decode cX8_when 50 = .ok (.lconst 1, 1) := dk_10 (dk_at dksX8_when_2 3 rfl rfl)
theorem dX8_when_51 : decode cX8_when 51 = .ok (.iload 5, 2) := dk_21 5 (dk_at dksX8_when_2 4 rfl rfl)
theorem dX8_when_53 : decode cX8_when 53 = .ok (.lshl, 1) := dk_121 (dk_at dksX8_when_2 6 rfl rfl)
theorem dX8_when_54 : decode cX8_when 54 = .ok (.goto 4, 3) := dk_167 0 4 (dk_at dksX8_when_2 7 rfl rfl)
theorem dX8_when_57 : decode cX8_when 57 = .ok (.lconst 0, 1) := dk_9 (dk_at dksX8_when_2 10 rfl rfl)
theorem dX8_when_58 : decode cX8_when 58 = .ok (.lor, 1) := dk_129 (dk_at dksX8_when_2 11 rfl rfl)
theorem dX8_when_59 : decode cX8_when 59 = .ok (.lstore_n 3, 1) := dk_66 (dk_at dksX8_when_2 12 rfl rfl)
theorem dX8_when_60 : decode cX8_when 60 = .ok (.iinc 5 1, 3) := dk_132 5 1 (dk_at dksX8_when_2 13 rfl rfl)
theorem dX8_when_63 : decode cX8_when 63 = .ok (.goto (-34), 3) := dk_167 255 222 (dk_at dksX8_when_2 16 rfl rfl)
theorem dX8_when_66 : decode cX8_when 66 = .ok (.lload_n 3, 1) := dk_33 (dk_at dksX8_when_2 19 rfl rfl)
theorem dX8_when_67 : decode cX8_when 67 = .ok (.lreturn, 1) := dk_173 (dk_at dksX8_when_2 20 rfl rfl)
abbrev cX8_canGo : ByteArray := prog_16_method_72_code
def yX8_canGo : MethodName := ⟨RX8, "canGo", "(III)Z"⟩
def dkwX8_canGo_2 : List UInt8 := [3, 172]
abbrev dktX8_canGo_2 : List UInt8 := dkwX8_canGo_2 ++ []
def dkwX8_canGo_1 : List UInt8 := [182, 1, 31, 158, 0, 21, 21, 4, 155, 0, 16, 42, 21, 4, 182, 1, 40, 153, 0, 7, 4, 167, 0, 4]
abbrev dktX8_canGo_1 : List UInt8 := dkwX8_canGo_1 ++ dktX8_canGo_2
def dkwX8_canGo_0 : List UInt8 := [42, 42, 180, 0, 17, 28, 46, 42, 27, 29, 182, 1, 34, 182, 1, 37, 54, 4, 42, 27, 28, 29]
abbrev dktX8_canGo_0 : List UInt8 := dkwX8_canGo_0 ++ dktX8_canGo_1
theorem dksX8_canGo_0 : cX8_canGo.data.toList.drop 0 = dktX8_canGo_0 := by decide +kernel
theorem dksX8_canGo_1 : cX8_canGo.data.toList.drop 22 = dktX8_canGo_1 := dk_seg dksX8_canGo_0 22 rfl rfl
theorem dksX8_canGo_2 : cX8_canGo.data.toList.drop 46 = dktX8_canGo_2 := dk_seg dksX8_canGo_1 24 rfl rfl
theorem dX8_canGo_0 : decode cX8_canGo 0 = .ok (.aload_n 0, 1) := dk_42 (dk_at dksX8_canGo_0 0 rfl rfl)
theorem dX8_canGo_1 : decode cX8_canGo 1 = .ok (.aload_n 0, 1) := dk_42 (dk_at dksX8_canGo_0 1 rfl rfl)
theorem dX8_canGo_2 : decode cX8_canGo 2 = .ok (.getfield 17, 3) := dk_180 0 17 (dk_at dksX8_canGo_0 2 rfl rfl)
theorem dX8_canGo_5 : decode cX8_canGo 5 = .ok (.iload_n 2, 1) := dk_28 (dk_at dksX8_canGo_0 5 rfl rfl)
theorem dX8_canGo_6 : decode cX8_canGo 6 = .ok (.iaload, 1) := dk_46 (dk_at dksX8_canGo_0 6 rfl rfl)
theorem dX8_canGo_7 : decode cX8_canGo 7 = .ok (.aload_n 0, 1) := dk_42 (dk_at dksX8_canGo_0 7 rfl rfl)
theorem dX8_canGo_8 : decode cX8_canGo 8 = .ok (.iload_n 1, 1) := dk_27 (dk_at dksX8_canGo_0 8 rfl rfl)
theorem dX8_canGo_9 : decode cX8_canGo 9 = .ok (.iload_n 3, 1) := dk_29 (dk_at dksX8_canGo_0 9 rfl rfl)
theorem dX8_canGo_10 : decode cX8_canGo 10 = .ok (.invokevirtual 290, 3) := dk_182 1 34 (dk_at dksX8_canGo_0 10 rfl rfl)
theorem dX8_canGo_13 : decode cX8_canGo 13 = .ok (.invokevirtual 293, 3) := dk_182 1 37 (dk_at dksX8_canGo_0 13 rfl rfl)
theorem dX8_canGo_16 : decode cX8_canGo 16 = .ok (.istore 4, 2) := dk_54 4 (dk_at dksX8_canGo_0 16 rfl rfl)
theorem dX8_canGo_18 : decode cX8_canGo 18 = .ok (.aload_n 0, 1) := dk_42 (dk_at dksX8_canGo_0 18 rfl rfl)
theorem dX8_canGo_19 : decode cX8_canGo 19 = .ok (.iload_n 1, 1) := dk_27 (dk_at dksX8_canGo_0 19 rfl rfl)
theorem dX8_canGo_20 : decode cX8_canGo 20 = .ok (.iload_n 2, 1) := dk_28 (dk_at dksX8_canGo_0 20 rfl rfl)
theorem dX8_canGo_21 : decode cX8_canGo 21 = .ok (.iload_n 3, 1) := dk_29 (dk_at dksX8_canGo_0 21 rfl rfl)
theorem dX8_canGo_22 : decode cX8_canGo 22 = .ok (.invokevirtual 287, 3) := dk_182 1 31 (dk_at dksX8_canGo_1 0 rfl rfl)
theorem dX8_canGo_25 : decode cX8_canGo 25 = .ok (.ifCond .le 21, 3) := dk_158 0 21 (dk_at dksX8_canGo_1 3 rfl rfl)
theorem dX8_canGo_28 : decode cX8_canGo 28 = .ok (.iload 4, 2) := dk_21 4 (dk_at dksX8_canGo_1 6 rfl rfl)
theorem dX8_canGo_30 : decode cX8_canGo 30 = .ok (.ifCond .lt 16, 3) := dk_155 0 16 (dk_at dksX8_canGo_1 8 rfl rfl)
theorem dX8_canGo_33 : decode cX8_canGo 33 = .ok (.aload_n 0, 1) := dk_42 (dk_at dksX8_canGo_1 11 rfl rfl)
theorem dX8_canGo_34 : decode cX8_canGo 34 = .ok (.iload 4, 2) := dk_21 4 (dk_at dksX8_canGo_1 12 rfl rfl)
theorem dX8_canGo_36 : decode cX8_canGo 36 = .ok (.invokevirtual 296, 3) := dk_182 1 40 (dk_at dksX8_canGo_1 14 rfl rfl)
theorem dX8_canGo_39 : decode cX8_canGo 39 = .ok (.ifCond .eq 7, 3) := dk_153 0 7 (dk_at dksX8_canGo_1 17 rfl rfl)
theorem dX8_canGo_42 : decode cX8_canGo 42 = .ok (.iconst 1, 1) := dk_4 (dk_at dksX8_canGo_1 20 rfl rfl)
theorem dX8_canGo_43 : decode cX8_canGo 43 = .ok (.goto 4, 3) := dk_167 0 4 (dk_at dksX8_canGo_1 21 rfl rfl)
theorem dX8_canGo_46 : decode cX8_canGo 46 = .ok (.iconst 0, 1) := dk_3 (dk_at dksX8_canGo_2 0 rfl rfl)
theorem dX8_canGo_47 : decode cX8_canGo 47 = .ok (.ireturn, 1) := dk_172 (dk_at dksX8_canGo_2 1 rfl rfl)
abbrev cX8_cross : ByteArray := prog_16_method_74_code
def yX8_cross : MethodName := ⟨RX8, "cross", "(II)I"⟩
def dkwX8_cross_2 : List UInt8 := [180, 0, 150, 42, 180, 0, 144, 28, 79, 42, 89, 180, 0, 144, 4, 96, 181, 0, 144, 42, 180, 0, 144, 172]
abbrev dktX8_cross_2 : List UInt8 := dkwX8_cross_2 ++ []
def dkwX8_cross_1 : List UInt8 := [42, 180, 0, 144, 16, 20, 160, 0, 6, 16, 252, 172, 42, 180, 0, 147, 42, 180, 0, 144, 27, 79, 42]
abbrev dktX8_cross_1 : List UInt8 := dkwX8_cross_1 ++ dktX8_cross_2
def dkwX8_cross_0 : List UInt8 := [42, 27, 182, 1, 58, 153, 0, 16, 42, 28, 182, 1, 58, 153, 0, 8, 27, 28, 160, 0, 6, 16, 254, 172]
abbrev dktX8_cross_0 : List UInt8 := dkwX8_cross_0 ++ dktX8_cross_1
theorem dksX8_cross_0 : cX8_cross.data.toList.drop 0 = dktX8_cross_0 := by decide +kernel
theorem dksX8_cross_1 : cX8_cross.data.toList.drop 24 = dktX8_cross_1 := dk_seg dksX8_cross_0 24 rfl rfl
theorem dksX8_cross_2 : cX8_cross.data.toList.drop 47 = dktX8_cross_2 := dk_seg dksX8_cross_1 23 rfl rfl
theorem dX8_cross_0 : decode cX8_cross 0 = .ok (.aload_n 0, 1) := dk_42 (dk_at dksX8_cross_0 0 rfl rfl)
theorem dX8_cross_1 : decode cX8_cross 1 = .ok (.iload_n 1, 1) := dk_27 (dk_at dksX8_cross_0 1 rfl rfl)
theorem dX8_cross_2 : decode cX8_cross 2 = .ok (.invokevirtual 314, 3) := dk_182 1 58 (dk_at dksX8_cross_0 2 rfl rfl)
theorem dX8_cross_5 : decode cX8_cross 5 = .ok (.ifCond .eq 16, 3) := dk_153 0 16 (dk_at dksX8_cross_0 5 rfl rfl)
theorem dX8_cross_8 : decode cX8_cross 8 = .ok (.aload_n 0, 1) := dk_42 (dk_at dksX8_cross_0 8 rfl rfl)
theorem dX8_cross_9 : decode cX8_cross 9 = .ok (.iload_n 2, 1) := dk_28 (dk_at dksX8_cross_0 9 rfl rfl)
theorem dX8_cross_10 : decode cX8_cross 10 = .ok (.invokevirtual 314, 3) := dk_182 1 58 (dk_at dksX8_cross_0 10 rfl rfl)
theorem dX8_cross_13 : decode cX8_cross 13 = .ok (.ifCond .eq 8, 3) := dk_153 0 8 (dk_at dksX8_cross_0 13 rfl rfl)
theorem dX8_cross_16 : decode cX8_cross 16 = .ok (.iload_n 1, 1) := dk_27 (dk_at dksX8_cross_0 16 rfl rfl)
theorem dX8_cross_17 : decode cX8_cross 17 = .ok (.iload_n 2, 1) := dk_28 (dk_at dksX8_cross_0 17 rfl rfl)
theorem dX8_cross_18 : decode cX8_cross 18 = .ok (.if_icmp .ne 6, 3) := dk_160 0 6 (dk_at dksX8_cross_0 18 rfl rfl)
theorem dX8_cross_21 : decode cX8_cross 21 = .ok (.bipush (-2), 2) := dk_16 254 (dk_at dksX8_cross_0 21 rfl rfl)
theorem dX8_cross_23 : decode cX8_cross 23 = .ok (.ireturn, 1) := dk_172 (dk_at dksX8_cross_0 23 rfl rfl)
theorem dX8_cross_24 : decode cX8_cross 24 = .ok (.aload_n 0, 1) := dk_42 (dk_at dksX8_cross_1 0 rfl rfl)
theorem dX8_cross_25 : decode cX8_cross 25 = .ok (.getfield 144, 3) := dk_180 0 144 (dk_at dksX8_cross_1 1 rfl rfl)
theorem dX8_cross_28 : decode cX8_cross 28 = .ok (.bipush 20, 2) := dk_16 20 (dk_at dksX8_cross_1 4 rfl rfl)
theorem dX8_cross_30 : decode cX8_cross 30 = .ok (.if_icmp .ne 6, 3) := dk_160 0 6 (dk_at dksX8_cross_1 6 rfl rfl)
theorem dX8_cross_33 : decode cX8_cross 33 = .ok (.bipush (-4), 2) := dk_16 252 (dk_at dksX8_cross_1 9 rfl rfl)
theorem dX8_cross_35 : decode cX8_cross 35 = .ok (.ireturn, 1) := dk_172 (dk_at dksX8_cross_1 11 rfl rfl)
theorem dX8_cross_36 : decode cX8_cross 36 = .ok (.aload_n 0, 1) := dk_42 (dk_at dksX8_cross_1 12 rfl rfl)
theorem dX8_cross_37 : decode cX8_cross 37 = .ok (.getfield 147, 3) := dk_180 0 147 (dk_at dksX8_cross_1 13 rfl rfl)
theorem dX8_cross_40 : decode cX8_cross 40 = .ok (.aload_n 0, 1) := dk_42 (dk_at dksX8_cross_1 16 rfl rfl)
theorem dX8_cross_41 : decode cX8_cross 41 = .ok (.getfield 144, 3) := dk_180 0 144 (dk_at dksX8_cross_1 17 rfl rfl)
theorem dX8_cross_44 : decode cX8_cross 44 = .ok (.iload_n 1, 1) := dk_27 (dk_at dksX8_cross_1 20 rfl rfl)
theorem dX8_cross_45 : decode cX8_cross 45 = .ok (.iastore, 1) := dk_79 (dk_at dksX8_cross_1 21 rfl rfl)
theorem dX8_cross_46 : decode cX8_cross 46 = .ok (.aload_n 0, 1) := dk_42 (dk_at dksX8_cross_1 22 rfl rfl)
theorem dX8_cross_47 : decode cX8_cross 47 = .ok (.getfield 150, 3) := dk_180 0 150 (dk_at dksX8_cross_2 0 rfl rfl)
theorem dX8_cross_50 : decode cX8_cross 50 = .ok (.aload_n 0, 1) := dk_42 (dk_at dksX8_cross_2 3 rfl rfl)
theorem dX8_cross_51 : decode cX8_cross 51 = .ok (.getfield 144, 3) := dk_180 0 144 (dk_at dksX8_cross_2 4 rfl rfl)
theorem dX8_cross_54 : decode cX8_cross 54 = .ok (.iload_n 2, 1) := dk_28 (dk_at dksX8_cross_2 7 rfl rfl)
theorem dX8_cross_55 : decode cX8_cross 55 = .ok (.iastore, 1) := dk_79 (dk_at dksX8_cross_2 8 rfl rfl)
theorem dX8_cross_56 : decode cX8_cross 56 = .ok (.aload_n 0, 1) := dk_42 (dk_at dksX8_cross_2 9 rfl rfl)
theorem dX8_cross_57 : decode cX8_cross 57 = .ok (.dup, 1) := dk_89 (dk_at dksX8_cross_2 10 rfl rfl)
theorem dX8_cross_58 : decode cX8_cross 58 = .ok (.getfield 144, 3) := dk_180 0 144 (dk_at dksX8_cross_2 11 rfl rfl)
theorem dX8_cross_61 : decode cX8_cross 61 = .ok (.iconst 1, 1) := dk_4 (dk_at dksX8_cross_2 14 rfl rfl)
theorem dX8_cross_62 : decode cX8_cross 62 = .ok (.iadd, 1) := dk_96 (dk_at dksX8_cross_2 15 rfl rfl)
theorem dX8_cross_63 : decode cX8_cross 63 = .ok (.putfield 144, 3) := dk_181 0 144 (dk_at dksX8_cross_2 16 rfl rfl)
theorem dX8_cross_66 : decode cX8_cross 66 = .ok (.aload_n 0, 1) := dk_42 (dk_at dksX8_cross_2 19 rfl rfl)
theorem dX8_cross_67 : decode cX8_cross 67 = .ok (.getfield 144, 3) := dk_180 0 144 (dk_at dksX8_cross_2 20 rfl rfl)
theorem dX8_cross_70 : decode cX8_cross 70 = .ok (.ireturn, 1) := dk_172 (dk_at dksX8_cross_2 23 rfl rfl)
abbrev cX8_order : ByteArray := prog_16_method_76_code
def yX8_order : MethodName := ⟨RX8, "order", "(I)I"⟩
def dkwX8_order_2 : List UInt8 := [29, 172]
abbrev dktX8_order_2 : List UInt8 := dkwX8_order_2 ++ []
def dkwX8_order_1 : List UInt8 := [42, 28, 182, 1, 95, 62, 29, 156, 0, 5, 2, 172, 28, 4, 29, 120, 128, 61, 132, 4, 1, 167, 255, 229]
abbrev dktX8_order_1 : List UInt8 := dkwX8_order_1 ++ dktX8_order_2
def dkwX8_order_0 : List UInt8 := [42, 27, 182, 1, 58, 154, 0, 6, 16, 254, 172, 3, 61, 2, 62, 3, 54, 4, 21, 4, 27, 163, 0, 27]
abbrev dktX8_order_0 : List UInt8 := dkwX8_order_0 ++ dktX8_order_1
theorem dksX8_order_0 : cX8_order.data.toList.drop 0 = dktX8_order_0 := by decide +kernel
theorem dksX8_order_1 : cX8_order.data.toList.drop 24 = dktX8_order_1 := dk_seg dksX8_order_0 24 rfl rfl
theorem dksX8_order_2 : cX8_order.data.toList.drop 48 = dktX8_order_2 := dk_seg dksX8_order_1 24 rfl rfl
theorem dX8_order_0 : decode cX8_order 0 = .ok (.aload_n 0, 1) := dk_42 (dk_at dksX8_order_0 0 rfl rfl)
theorem dX8_order_1 : decode cX8_order 1 = .ok (.iload_n 1, 1) := dk_27 (dk_at dksX8_order_0 1 rfl rfl)
theorem dX8_order_2 : decode cX8_order 2 = .ok (.invokevirtual 314, 3) := dk_182 1 58 (dk_at dksX8_order_0 2 rfl rfl)
theorem dX8_order_5 : decode cX8_order 5 = .ok (.ifCond .ne 6, 3) := dk_154 0 6 (dk_at dksX8_order_0 5 rfl rfl)
theorem dX8_order_8 : decode cX8_order 8 = .ok (.bipush (-2), 2) := dk_16 254 (dk_at dksX8_order_0 8 rfl rfl)
theorem dX8_order_10 : decode cX8_order 10 = .ok (.ireturn, 1) := dk_172 (dk_at dksX8_order_0 10 rfl rfl)
theorem dX8_order_11 : decode cX8_order 11 = .ok (.iconst 0, 1) := dk_3 (dk_at dksX8_order_0 11 rfl rfl)
theorem dX8_order_12 : decode cX8_order 12 = .ok (.istore_n 2, 1) := dk_61 (dk_at dksX8_order_0 12 rfl rfl)
theorem dX8_order_13 : decode cX8_order 13 = .ok (.iconst (-1), 1) := dk_2 (dk_at dksX8_order_0 13 rfl rfl)
theorem dX8_order_14 : decode cX8_order 14 = .ok (.istore_n 3, 1) := dk_62 (dk_at dksX8_order_0 14 rfl rfl)
theorem dX8_order_15 : decode cX8_order 15 = .ok (.iconst 0, 1) := dk_3 (dk_at dksX8_order_0 15 rfl rfl)
theorem dX8_order_16 : decode cX8_order 16 = .ok (.istore 4, 2) := dk_54 4 (dk_at dksX8_order_0 16 rfl rfl)
theorem dX8_order_18 : decode cX8_order 18 = .ok (.iload 4, 2) := dk_21 4 (dk_at dksX8_order_0 18 rfl rfl)
theorem dX8_order_20 : decode cX8_order 20 = .ok (.iload_n 1, 1) := dk_27 (dk_at dksX8_order_0 20 rfl rfl)
theorem dX8_order_21 : decode cX8_order 21 = .ok (.if_icmp .gt 27, 3) := dk_163 0 27 (dk_at dksX8_order_0 21 rfl rfl)
theorem dX8_order_24 : decode cX8_order 24 = .ok (.aload_n 0, 1) := dk_42 (dk_at dksX8_order_1 0 rfl rfl)
theorem dX8_order_25 : decode cX8_order 25 = .ok (.iload_n 2, 1) := dk_28 (dk_at dksX8_order_1 1 rfl rfl)
theorem dX8_order_26 : decode cX8_order 26 = .ok (.invokevirtual 351, 3) := dk_182 1 95 (dk_at dksX8_order_1 2 rfl rfl)
theorem dX8_order_29 : decode cX8_order 29 = .ok (.istore_n 3, 1) := dk_62 (dk_at dksX8_order_1 5 rfl rfl)
theorem dX8_order_30 : decode cX8_order 30 = .ok (.iload_n 3, 1) := dk_29 (dk_at dksX8_order_1 6 rfl rfl)
theorem dX8_order_31 : decode cX8_order 31 = .ok (.ifCond .ge 5, 3) := dk_156 0 5 (dk_at dksX8_order_1 7 rfl rfl)
theorem dX8_order_34 : decode cX8_order 34 = .ok (.iconst (-1), 1) := dk_2 (dk_at dksX8_order_1 10 rfl rfl)
theorem dX8_order_35 : decode cX8_order 35 = .ok (.ireturn, 1) := dk_172 (dk_at dksX8_order_1 11 rfl rfl)
theorem dX8_order_36 : decode cX8_order 36 = .ok (.iload_n 2, 1) := dk_28 (dk_at dksX8_order_1 12 rfl rfl)
theorem dX8_order_37 : decode cX8_order 37 = .ok (.iconst 1, 1) := dk_4 (dk_at dksX8_order_1 13 rfl rfl)
theorem dX8_order_38 : decode cX8_order 38 = .ok (.iload_n 3, 1) := dk_29 (dk_at dksX8_order_1 14 rfl rfl)
theorem dX8_order_39 : decode cX8_order 39 = .ok (.ishl, 1) := dk_120 (dk_at dksX8_order_1 15 rfl rfl)
theorem dX8_order_40 : decode cX8_order 40 = .ok (.ior, 1) := dk_128 (dk_at dksX8_order_1 16 rfl rfl)
theorem dX8_order_41 : decode cX8_order 41 = .ok (.istore_n 2, 1) := dk_61 (dk_at dksX8_order_1 17 rfl rfl)
theorem dX8_order_42 : decode cX8_order 42 = .ok (.iinc 4 1, 3) := dk_132 4 1 (dk_at dksX8_order_1 18 rfl rfl)
theorem dX8_order_45 : decode cX8_order 45 = .ok (.goto (-27), 3) := dk_167 255 229 (dk_at dksX8_order_1 21 rfl rfl)
theorem dX8_order_48 : decode cX8_order 48 = .ok (.iload_n 3, 1) := dk_29 (dk_at dksX8_order_2 0 rfl rfl)
theorem dX8_order_49 : decode cX8_order 49 = .ok (.ireturn, 1) := dk_172 (dk_at dksX8_order_2 1 rfl rfl)
abbrev cX8_eldest : ByteArray := prog_16_method_75_code
def yX8_eldest : MethodName := ⟨RX8, "eldest", "(I)I"⟩
def dkwX8_eldest_3 : List UInt8 := [132, 4, 1, 167, 255, 209, 29, 153, 0, 5, 28, 172, 132, 2, 1, 167, 255, 172, 2, 172]
abbrev dktX8_eldest_3 : List UInt8 := dkwX8_eldest_3 ++ []
def dkwX8_eldest_2 : List UInt8 := [160, 0, 17, 27, 42, 180, 0, 150, 21, 4, 46, 122, 4, 126, 153, 0, 7, 4, 167, 0, 4, 3, 62]
abbrev dktX8_eldest_2 : List UInt8 := dkwX8_eldest_2 ++ dktX8_eldest_3
def dkwX8_eldest_1 : List UInt8 := [3, 54, 4, 21, 4, 42, 180, 0, 144, 162, 0, 44, 29, 153, 0, 32, 42, 180, 0, 147, 21, 4, 46, 28]
abbrev dktX8_eldest_1 : List UInt8 := dkwX8_eldest_1 ++ dktX8_eldest_2
def dkwX8_eldest_0 : List UInt8 := [3, 61, 28, 42, 180, 0, 123, 162, 0, 82, 27, 28, 122, 4, 126, 154, 0, 7, 4, 167, 0, 4, 3, 62]
abbrev dktX8_eldest_0 : List UInt8 := dkwX8_eldest_0 ++ dktX8_eldest_1
theorem dksX8_eldest_0 : cX8_eldest.data.toList.drop 0 = dktX8_eldest_0 := by decide +kernel
theorem dksX8_eldest_1 : cX8_eldest.data.toList.drop 24 = dktX8_eldest_1 := dk_seg dksX8_eldest_0 24 rfl rfl
theorem dksX8_eldest_2 : cX8_eldest.data.toList.drop 48 = dktX8_eldest_2 := dk_seg dksX8_eldest_1 24 rfl rfl
theorem dksX8_eldest_3 : cX8_eldest.data.toList.drop 71 = dktX8_eldest_3 := dk_seg dksX8_eldest_2 23 rfl rfl
theorem dX8_eldest_0 : decode cX8_eldest 0 = .ok (.iconst 0, 1) := dk_3 (dk_at dksX8_eldest_0 0 rfl rfl)
theorem dX8_eldest_1 : decode cX8_eldest 1 = .ok (.istore_n 2, 1) := dk_61 (dk_at dksX8_eldest_0 1 rfl rfl)
theorem dX8_eldest_2 : decode cX8_eldest 2 = .ok (.iload_n 2, 1) := dk_28 (dk_at dksX8_eldest_0 2 rfl rfl)
theorem dX8_eldest_3 : decode cX8_eldest 3 = .ok (.aload_n 0, 1) := dk_42 (dk_at dksX8_eldest_0 3 rfl rfl)
theorem dX8_eldest_4 : decode cX8_eldest 4 = .ok (.getfield 123, 3) := dk_180 0 123 (dk_at dksX8_eldest_0 4 rfl rfl)
theorem dX8_eldest_7 : decode cX8_eldest 7 = .ok (.if_icmp .ge 82, 3) := dk_162 0 82 (dk_at dksX8_eldest_0 7 rfl rfl)
theorem dX8_eldest_10 : decode cX8_eldest 10 = .ok (.iload_n 1, 1) := dk_27 (dk_at dksX8_eldest_0 10 rfl rfl)
theorem dX8_eldest_11 : decode cX8_eldest 11 = .ok (.iload_n 2, 1) := dk_28 (dk_at dksX8_eldest_0 11 rfl rfl)
theorem dX8_eldest_12 : decode cX8_eldest 12 = .ok (.ishr, 1) := dk_122 (dk_at dksX8_eldest_0 12 rfl rfl)
theorem dX8_eldest_13 : decode cX8_eldest 13 = .ok (.iconst 1, 1) := dk_4 (dk_at dksX8_eldest_0 13 rfl rfl)
theorem dX8_eldest_14 : decode cX8_eldest 14 = .ok (.iand, 1) := dk_126 (dk_at dksX8_eldest_0 14 rfl rfl)
theorem dX8_eldest_15 : decode cX8_eldest 15 = .ok (.ifCond .ne 7, 3) := dk_154 0 7 (dk_at dksX8_eldest_0 15 rfl rfl)
theorem dX8_eldest_18 : decode cX8_eldest 18 = .ok (.iconst 1, 1) := dk_4 (dk_at dksX8_eldest_0 18 rfl rfl)
theorem dX8_eldest_19 : decode cX8_eldest 19 = .ok (.goto 4, 3) := dk_167 0 4 (dk_at dksX8_eldest_0 19 rfl rfl)
theorem dX8_eldest_22 : decode cX8_eldest 22 = .ok (.iconst 0, 1) := dk_3 (dk_at dksX8_eldest_0 22 rfl rfl)
theorem dX8_eldest_23 : decode cX8_eldest 23 = .ok (.istore_n 3, 1) := dk_62 (dk_at dksX8_eldest_0 23 rfl rfl)
theorem dX8_eldest_24 : decode cX8_eldest 24 = .ok (.iconst 0, 1) := dk_3 (dk_at dksX8_eldest_1 0 rfl rfl)
theorem dX8_eldest_25 : decode cX8_eldest 25 = .ok (.istore 4, 2) := dk_54 4 (dk_at dksX8_eldest_1 1 rfl rfl)
theorem dX8_eldest_27 : decode cX8_eldest 27 = .ok (.iload 4, 2) := dk_21 4 (dk_at dksX8_eldest_1 3 rfl rfl)
theorem dX8_eldest_29 : decode cX8_eldest 29 = .ok (.aload_n 0, 1) := dk_42 (dk_at dksX8_eldest_1 5 rfl rfl)
theorem dX8_eldest_30 : decode cX8_eldest 30 = .ok (.getfield 144, 3) := dk_180 0 144 (dk_at dksX8_eldest_1 6 rfl rfl)
theorem dX8_eldest_33 : decode cX8_eldest 33 = .ok (.if_icmp .ge 44, 3) := dk_162 0 44 (dk_at dksX8_eldest_1 9 rfl rfl)
theorem dX8_eldest_36 : decode cX8_eldest 36 = .ok (.iload_n 3, 1) := dk_29 (dk_at dksX8_eldest_1 12 rfl rfl)
theorem dX8_eldest_37 : decode cX8_eldest 37 = .ok (.ifCond .eq 32, 3) := dk_153 0 32 (dk_at dksX8_eldest_1 13 rfl rfl)
theorem dX8_eldest_40 : decode cX8_eldest 40 = .ok (.aload_n 0, 1) := dk_42 (dk_at dksX8_eldest_1 16 rfl rfl)
theorem dX8_eldest_41 : decode cX8_eldest 41 = .ok (.getfield 147, 3) := dk_180 0 147 (dk_at dksX8_eldest_1 17 rfl rfl)
theorem dX8_eldest_44 : decode cX8_eldest 44 = .ok (.iload 4, 2) := dk_21 4 (dk_at dksX8_eldest_1 20 rfl rfl)
theorem dX8_eldest_46 : decode cX8_eldest 46 = .ok (.iaload, 1) := dk_46 (dk_at dksX8_eldest_1 22 rfl rfl)
theorem dX8_eldest_47 : decode cX8_eldest 47 = .ok (.iload_n 2, 1) := dk_28 (dk_at dksX8_eldest_1 23 rfl rfl)
theorem dX8_eldest_48 : decode cX8_eldest 48 = .ok (.if_icmp .ne 17, 3) := dk_160 0 17 (dk_at dksX8_eldest_2 0 rfl rfl)
theorem dX8_eldest_51 : decode cX8_eldest 51 = .ok (.iload_n 1, 1) := dk_27 (dk_at dksX8_eldest_2 3 rfl rfl)
theorem dX8_eldest_52 : decode cX8_eldest 52 = .ok (.aload_n 0, 1) := dk_42 (dk_at dksX8_eldest_2 4 rfl rfl)
theorem dX8_eldest_53 : decode cX8_eldest 53 = .ok (.getfield 150, 3) := dk_180 0 150 (dk_at dksX8_eldest_2 5 rfl rfl)
theorem dX8_eldest_56 : decode cX8_eldest 56 = .ok (.iload 4, 2) := dk_21 4 (dk_at dksX8_eldest_2 8 rfl rfl)
theorem dX8_eldest_58 : decode cX8_eldest 58 = .ok (.iaload, 1) := dk_46 (dk_at dksX8_eldest_2 10 rfl rfl)
theorem dX8_eldest_59 : decode cX8_eldest 59 = .ok (.ishr, 1) := dk_122 (dk_at dksX8_eldest_2 11 rfl rfl)
theorem dX8_eldest_60 : decode cX8_eldest 60 = .ok (.iconst 1, 1) := dk_4 (dk_at dksX8_eldest_2 12 rfl rfl)
theorem dX8_eldest_61 : decode cX8_eldest 61 = .ok (.iand, 1) := dk_126 (dk_at dksX8_eldest_2 13 rfl rfl)
theorem dX8_eldest_62 : decode cX8_eldest 62 = .ok (.ifCond .eq 7, 3) := dk_153 0 7 (dk_at dksX8_eldest_2 14 rfl rfl)
theorem dX8_eldest_65 : decode cX8_eldest 65 = .ok (.iconst 1, 1) := dk_4 (dk_at dksX8_eldest_2 17 rfl rfl)
theorem dX8_eldest_66 : decode cX8_eldest 66 = .ok (.goto 4, 3) := dk_167 0 4 (dk_at dksX8_eldest_2 18 rfl rfl)
theorem dX8_eldest_69 : decode cX8_eldest 69 = .ok (.iconst 0, 1) := dk_3 (dk_at dksX8_eldest_2 21 rfl rfl)
theorem dX8_eldest_70 : decode cX8_eldest 70 = .ok (.istore_n 3, 1) := dk_62 (dk_at dksX8_eldest_2 22 rfl rfl)
theorem dX8_eldest_71 : decode cX8_eldest 71 = .ok (.iinc 4 1, 3) := dk_132 4 1 (dk_at dksX8_eldest_3 0 rfl rfl)
theorem dX8_eldest_74 : decode cX8_eldest 74 = .ok (.goto (-47), 3) := dk_167 255 209 (dk_at dksX8_eldest_3 3 rfl rfl)
theorem dX8_eldest_77 : decode cX8_eldest 77 = .ok (.iload_n 3, 1) := dk_29 (dk_at dksX8_eldest_3 6 rfl rfl)
theorem dX8_eldest_78 : decode cX8_eldest 78 = .ok (.ifCond .eq 5, 3) := dk_153 0 5 (dk_at dksX8_eldest_3 7 rfl rfl)
theorem dX8_eldest_81 : decode cX8_eldest 81 = .ok (.iload_n 2, 1) := dk_28 (dk_at dksX8_eldest_3 10 rfl rfl)
theorem dX8_eldest_82 : decode cX8_eldest 82 = .ok (.ireturn, 1) := dk_172 (dk_at dksX8_eldest_3 11 rfl rfl)
theorem dX8_eldest_83 : decode cX8_eldest 83 = .ok (.iinc 2 1, 3) := dk_132 2 1 (dk_at dksX8_eldest_3 12 rfl rfl)
theorem dX8_eldest_86 : decode cX8_eldest 86 = .ok (.goto (-84), 3) := dk_167 255 172 (dk_at dksX8_eldest_3 15 rfl rfl)
theorem dX8_eldest_89 : decode cX8_eldest 89 = .ok (.iconst (-1), 1) := dk_2 (dk_at dksX8_eldest_3 18 rfl rfl)
theorem dX8_eldest_90 : decode cX8_eldest 90 = .ok (.ireturn, 1) := dk_172 (dk_at dksX8_eldest_3 19 rfl rfl)
abbrev cX8_look_2 : ByteArray := prog_16_method_78_code
def yX8_look_2 : MethodName := ⟨RX8, "look", "(II)I"⟩
def dkwX8_look_2_9 : List UInt8 := [21, 5, 167, 0, 5, 21, 6, 172]
abbrev dktX8_look_2_9 : List UInt8 := dkwX8_look_2_9 ++ []
def dkwX8_look_2_8 : List UInt8 := [21, 8, 54, 6, 132, 7, 1, 167, 255, 143, 28, 154, 0, 8, 21, 4, 167, 0, 15, 28, 4, 160, 0, 8]
abbrev dktX8_look_2_8 : List UInt8 := dkwX8_look_2_8 ++ dktX8_look_2_9
def dkwX8_look_2_7 : List UInt8 := [21, 5, 160, 0, 13, 21, 8, 21, 6, 161, 0, 6, 167, 0, 15, 21, 7, 54, 4, 21, 9, 54, 5]
abbrev dktX8_look_2_7 : List UInt8 := dkwX8_look_2_7 ++ dktX8_look_2_8
def dkwX8_look_2_6 : List UInt8 := [54, 9, 132, 10, 1, 167, 255, 208, 21, 8, 27, 163, 0, 39, 21, 9, 21, 5, 161, 0, 32, 21, 9]
abbrev dktX8_look_2_6 : List UInt8 := dkwX8_look_2_6 ++ dktX8_look_2_7
def dkwX8_look_2_5 : List UInt8 := [21, 8, 6, 42, 180, 0, 28, 21, 10, 46, 96, 96, 54, 8, 21, 9, 42, 180, 0, 187, 21, 10, 46, 96]
abbrev dktX8_look_2_5 : List UInt8 := dkwX8_look_2_5 ++ dktX8_look_2_6
def dkwX8_look_2_4 : List UInt8 := [54, 9, 3, 54, 10, 21, 10, 29, 162, 0, 48, 21, 7, 21, 10, 122, 4, 126, 154, 0, 6, 167, 0, 29]
abbrev dktX8_look_2_4 : List UInt8 := dkwX8_look_2_4 ++ dktX8_look_2_5
def dkwX8_look_2_3 : List UInt8 := [54, 4, 3, 54, 5, 3, 54, 6, 4, 54, 7, 21, 7, 4, 29, 120, 162, 0, 111, 3, 54, 8, 3]
abbrev dktX8_look_2_3 : List UInt8 := dkwX8_look_2_3 ++ dktX8_look_2_4
def dkwX8_look_2_2 : List UInt8 := [29, 162, 0, 22, 42, 180, 0, 187, 21, 4, 42, 21, 4, 182, 1, 98, 79, 132, 4, 1, 167, 255, 234, 3]
abbrev dktX8_look_2_2 : List UInt8 := dkwX8_look_2_2 ++ dktX8_look_2_3
def dkwX8_look_2_1 : List UInt8 := [42, 180, 0, 11, 16, 12, 162, 0, 10, 42, 180, 0, 11, 167, 0, 5, 16, 12, 62, 3, 54, 4, 21, 4]
abbrev dktX8_look_2_1 : List UInt8 := dkwX8_look_2_1 ++ dktX8_look_2_2
def dkwX8_look_2_0 : List UInt8 := [42, 27, 3, 16, 99, 182, 0, 7, 153, 0, 13, 42, 28, 3, 5, 182, 0, 7, 154, 0, 6, 16, 254, 172]
abbrev dktX8_look_2_0 : List UInt8 := dkwX8_look_2_0 ++ dktX8_look_2_1
theorem dksX8_look_2_0 : cX8_look_2.data.toList.drop 0 = dktX8_look_2_0 := by decide +kernel
theorem dksX8_look_2_1 : cX8_look_2.data.toList.drop 24 = dktX8_look_2_1 := dk_seg dksX8_look_2_0 24 rfl rfl
theorem dksX8_look_2_2 : cX8_look_2.data.toList.drop 48 = dktX8_look_2_2 := dk_seg dksX8_look_2_1 24 rfl rfl
theorem dksX8_look_2_3 : cX8_look_2.data.toList.drop 72 = dktX8_look_2_3 := dk_seg dksX8_look_2_2 24 rfl rfl
theorem dksX8_look_2_4 : cX8_look_2.data.toList.drop 95 = dktX8_look_2_4 := dk_seg dksX8_look_2_3 23 rfl rfl
theorem dksX8_look_2_5 : cX8_look_2.data.toList.drop 119 = dktX8_look_2_5 := dk_seg dksX8_look_2_4 24 rfl rfl
theorem dksX8_look_2_6 : cX8_look_2.data.toList.drop 143 = dktX8_look_2_6 := dk_seg dksX8_look_2_5 24 rfl rfl
theorem dksX8_look_2_7 : cX8_look_2.data.toList.drop 166 = dktX8_look_2_7 := dk_seg dksX8_look_2_6 23 rfl rfl
theorem dksX8_look_2_8 : cX8_look_2.data.toList.drop 189 = dktX8_look_2_8 := dk_seg dksX8_look_2_7 23 rfl rfl
theorem dksX8_look_2_9 : cX8_look_2.data.toList.drop 213 = dktX8_look_2_9 := dk_seg dksX8_look_2_8 24 rfl rfl
theorem dX8_look_2_0 : decode cX8_look_2 0 = .ok (.aload_n 0, 1) := dk_42 (dk_at dksX8_look_2_0 0 rfl rfl)
theorem dX8_look_2_1 : decode cX8_look_2 1 = .ok (.iload_n 1, 1) := dk_27 (dk_at dksX8_look_2_0 1 rfl rfl)
theorem dX8_look_2_2 : decode cX8_look_2 2 = .ok (.iconst 0, 1) := dk_3 (dk_at dksX8_look_2_0 2 rfl rfl)
theorem dX8_look_2_3 : decode cX8_look_2 3 = .ok (.bipush 99, 2) := dk_16 99 (dk_at dksX8_look_2_0 3 rfl rfl)
theorem dX8_look_2_5 : decode cX8_look_2 5 = .ok (.invokevirtual 7, 3) := dk_182 0 7 (dk_at dksX8_look_2_0 5 rfl rfl)
theorem dX8_look_2_8 : decode cX8_look_2 8 = .ok (.ifCond .eq 13, 3) := dk_153 0 13 (dk_at dksX8_look_2_0 8 rfl rfl)
theorem dX8_look_2_11 : decode cX8_look_2 11 = .ok (.aload_n 0, 1) := dk_42 (dk_at dksX8_look_2_0 11 rfl rfl)
theorem dX8_look_2_12 : decode cX8_look_2 12 = .ok (.iload_n 2, 1) := dk_28 (dk_at dksX8_look_2_0 12 rfl rfl)
theorem dX8_look_2_13 : decode cX8_look_2 13 = .ok (.iconst 0, 1) := dk_3 (dk_at dksX8_look_2_0 13 rfl rfl)
theorem dX8_look_2_14 : decode cX8_look_2 14 = .ok (.iconst 2, 1) := dk_5 (dk_at dksX8_look_2_0 14 rfl rfl)
theorem dX8_look_2_15 : decode cX8_look_2 15 = .ok (.invokevirtual 7, 3) := dk_182 0 7 (dk_at dksX8_look_2_0 15 rfl rfl)
theorem dX8_look_2_18 : decode cX8_look_2 18 = .ok (.ifCond .ne 6, 3) := dk_154 0 6 (dk_at dksX8_look_2_0 18 rfl rfl)
theorem dX8_look_2_21 : decode cX8_look_2 21 = .ok (.bipush (-2), 2) := dk_16 254 (dk_at dksX8_look_2_0 21 rfl rfl)
theorem dX8_look_2_23 : decode cX8_look_2 23 = .ok (.ireturn, 1) := dk_172 (dk_at dksX8_look_2_0 23 rfl rfl)
theorem dX8_look_2_24 : decode cX8_look_2 24 = .ok (.aload_n 0, 1) := dk_42 (dk_at dksX8_look_2_1 0 rfl rfl)
theorem dX8_look_2_25 : decode cX8_look_2 25 = .ok (.getfield 11, 3) := dk_180 0 11 (dk_at dksX8_look_2_1 1 rfl rfl)
theorem dX8_look_2_28 : decode cX8_look_2 28 = .ok (.bipush 12, 2) := dk_16 12 (dk_at dksX8_look_2_1 4 rfl rfl)
theorem dX8_look_2_30 : decode cX8_look_2 30 = .ok (.if_icmp .ge 10, 3) := dk_162 0 10 (dk_at dksX8_look_2_1 6 rfl rfl)
theorem dX8_look_2_33 : decode cX8_look_2 33 = .ok (.aload_n 0, 1) := dk_42 (dk_at dksX8_look_2_1 9 rfl rfl)
theorem dX8_look_2_34 : decode cX8_look_2 34 = .ok (.getfield 11, 3) := dk_180 0 11 (dk_at dksX8_look_2_1 10 rfl rfl)
theorem dX8_look_2_37 : decode cX8_look_2 37 = .ok (.goto 5, 3) := dk_167 0 5 (dk_at dksX8_look_2_1 13 rfl rfl)
theorem dX8_look_2_40 : decode cX8_look_2 40 = .ok (.bipush 12, 2) := dk_16 12 (dk_at dksX8_look_2_1 16 rfl rfl)
theorem dX8_look_2_42 : decode cX8_look_2 42 = .ok (.istore_n 3, 1) := dk_62 (dk_at dksX8_look_2_1 18 rfl rfl)
theorem dX8_look_2_43 : decode cX8_look_2 43 = .ok (.iconst 0, 1) := dk_3 (dk_at dksX8_look_2_1 19 rfl rfl)
theorem dX8_look_2_44 : decode cX8_look_2 44 = .ok (.istore 4, 2) := dk_54 4 (dk_at dksX8_look_2_1 20 rfl rfl)
theorem dX8_look_2_46 : decode cX8_look_2 46 = .ok (.iload 4, 2) := dk_21 4 (dk_at dksX8_look_2_1 22 rfl rfl)
theorem dX8_look_2_48 : decode cX8_look_2 48 = .ok (.iload_n 3, 1) := dk_29 (dk_at dksX8_look_2_2 0 rfl rfl)
theorem dX8_look_2_49 : decode cX8_look_2 49 = .ok (.if_icmp .ge 22, 3) := dk_162 0 22 (dk_at dksX8_look_2_2 1 rfl rfl)
theorem dX8_look_2_52 : decode cX8_look_2 52 = .ok (.aload_n 0, 1) := dk_42 (dk_at dksX8_look_2_2 4 rfl rfl)
theorem dX8_look_2_53 : decode cX8_look_2 53 = .ok (.getfield 187, 3) := dk_180 0 187 (dk_at dksX8_look_2_2 5 rfl rfl)
theorem dX8_look_2_56 : decode cX8_look_2 56 = .ok (.iload 4, 2) := dk_21 4 (dk_at dksX8_look_2_2 8 rfl rfl)
theorem dX8_look_2_58 : decode cX8_look_2 58 = .ok (.aload_n 0, 1) := dk_42 (dk_at dksX8_look_2_2 10 rfl rfl)
theorem dX8_look_2_59 : decode cX8_look_2 59 = .ok (.iload 4, 2) := dk_21 4 (dk_at dksX8_look_2_2 11 rfl rfl)
theorem dX8_look_2_61 : decode cX8_look_2 61 = .ok (.invokevirtual 354, 3) := dk_182 1 98 (dk_at dksX8_look_2_2 13 rfl rfl)
theorem dX8_look_2_64 : decode cX8_look_2 64 = .ok (.iastore, 1) := dk_79 (dk_at dksX8_look_2_2 16 rfl rfl)
theorem dX8_look_2_65 : decode cX8_look_2 65 = .ok (.iinc 4 1, 3) := dk_132 4 1 (dk_at dksX8_look_2_2 17 rfl rfl)
theorem dX8_look_2_68 : decode cX8_look_2 68 = .ok (.goto (-22), 3) := dk_167 255 234 (dk_at dksX8_look_2_2 20 rfl rfl)
theorem dX8_look_2_71 : decode cX8_look_2 71 = .ok (.iconst 0, 1) := dk_3 (dk_at dksX8_look_2_2 23 rfl rfl)
theorem dX8_look_2_72 : decode cX8_look_2 72 = .ok (.istore 4, 2) := dk_54 4 (dk_at dksX8_look_2_3 0 rfl rfl)
theorem dX8_look_2_74 : decode cX8_look_2 74 = .ok (.iconst 0, 1) := dk_3 (dk_at dksX8_look_2_3 2 rfl rfl)
theorem dX8_look_2_75 : decode cX8_look_2 75 = .ok (.istore 5, 2) := dk_54 5 (dk_at dksX8_look_2_3 3 rfl rfl)
theorem dX8_look_2_77 : decode cX8_look_2 77 = .ok (.iconst 0, 1) := dk_3 (dk_at dksX8_look_2_3 5 rfl rfl)
theorem dX8_look_2_78 : decode cX8_look_2 78 = .ok (.istore 6, 2) := dk_54 6 (dk_at dksX8_look_2_3 6 rfl rfl)
theorem dX8_look_2_80 : decode cX8_look_2 80 = .ok (.iconst 1, 1) := dk_4 (dk_at dksX8_look_2_3 8 rfl rfl)
theorem dX8_look_2_81 : decode cX8_look_2 81 = .ok (.istore 7, 2) := dk_54 7 (dk_at dksX8_look_2_3 9 rfl rfl)
theorem dX8_look_2_83 : decode cX8_look_2 83 = .ok (.iload 7, 2) := dk_21 7 (dk_at dksX8_look_2_3 11 rfl rfl)
theorem dX8_look_2_85 : decode cX8_look_2 85 = .ok (.iconst 1, 1) := dk_4 (dk_at dksX8_look_2_3 13 rfl rfl)
theorem dX8_look_2_86 : decode cX8_look_2 86 = .ok (.iload_n 3, 1) := dk_29 (dk_at dksX8_look_2_3 14 rfl rfl)
theorem dX8_look_2_87 : decode cX8_look_2 87 = .ok (.ishl, 1) := dk_120 (dk_at dksX8_look_2_3 15 rfl rfl)
theorem dX8_look_2_88 : decode cX8_look_2 88 = .ok (.if_icmp .ge 111, 3) := dk_162 0 111 (dk_at dksX8_look_2_3 16 rfl rfl)
theorem dX8_look_2_91 : decode cX8_look_2 91 = .ok (.iconst 0, 1) := dk_3 (dk_at dksX8_look_2_3 19 rfl rfl)
theorem dX8_look_2_92 : decode cX8_look_2 92 = .ok (.istore 8, 2) := dk_54 8 (dk_at dksX8_look_2_3 20 rfl rfl)
theorem dX8_look_2_94 : decode cX8_look_2 94 = .ok (.iconst 0, 1) := dk_3 (dk_at dksX8_look_2_3 22 rfl rfl)
theorem dX8_look_2_95 : decode cX8_look_2 95 = .ok (.istore 9, 2) := dk_54 9 (dk_at dksX8_look_2_4 0 rfl rfl)
theorem dX8_look_2_97 : decode cX8_look_2 97 = .ok (.iconst 0, 1) := dk_3 (dk_at dksX8_look_2_4 2 rfl rfl)
theorem dX8_look_2_98 : decode cX8_look_2 98 = .ok (.istore 10, 2) := dk_54 10 (dk_at dksX8_look_2_4 3 rfl rfl)
theorem dX8_look_2_100 : decode cX8_look_2 100 = .ok (.iload 10, 2) := dk_21 10 (dk_at dksX8_look_2_4 5 rfl rfl)
theorem dX8_look_2_102 : decode cX8_look_2 102 = .ok (.iload_n 3, 1) := dk_29 (dk_at dksX8_look_2_4 7 rfl rfl)
theorem dX8_look_2_103 : decode cX8_look_2 103 = .ok (.if_icmp .ge 48, 3) := dk_162 0 48 (dk_at dksX8_look_2_4 8 rfl rfl)
theorem dX8_look_2_106 : decode cX8_look_2 106 = .ok (.iload 7, 2) := dk_21 7 (dk_at dksX8_look_2_4 11 rfl rfl)
theorem dX8_look_2_108 : decode cX8_look_2 108 = .ok (.iload 10, 2) := dk_21 10 (dk_at dksX8_look_2_4 13 rfl rfl)
theorem dX8_look_2_110 : decode cX8_look_2 110 = .ok (.ishr, 1) := dk_122 (dk_at dksX8_look_2_4 15 rfl rfl)
theorem dX8_look_2_111 : decode cX8_look_2 111 = .ok (.iconst 1, 1) := dk_4 (dk_at dksX8_look_2_4 16 rfl rfl)
theorem dX8_look_2_112 : decode cX8_look_2 112 = .ok (.iand, 1) := dk_126 (dk_at dksX8_look_2_4 17 rfl rfl)
theorem dX8_look_2_113 : decode cX8_look_2 113 = .ok (.ifCond .ne 6, 3) := dk_154 0 6 (dk_at dksX8_look_2_4 18 rfl rfl)
theorem dX8_look_2_116 : decode cX8_look_2 116 = .ok (.goto 29, 3) := dk_167 0 29 (dk_at dksX8_look_2_4 21 rfl rfl)
theorem dX8_look_2_119 : decode cX8_look_2 119 = .ok (.iload 8, 2) := dk_21 8 (dk_at dksX8_look_2_5 0 rfl rfl)
theorem dX8_look_2_121 : decode cX8_look_2 121 = .ok (.iconst 3, 1) := dk_6 (dk_at dksX8_look_2_5 2 rfl rfl)
theorem dX8_look_2_122 : decode cX8_look_2 122 = .ok (.aload_n 0, 1) := dk_42 (dk_at dksX8_look_2_5 3 rfl rfl)
theorem dX8_look_2_123 : decode cX8_look_2 123 = .ok (.getfield 28, 3) := dk_180 0 28 (dk_at dksX8_look_2_5 4 rfl rfl)
theorem dX8_look_2_126 : decode cX8_look_2 126 = .ok (.iload 10, 2) := dk_21 10 (dk_at dksX8_look_2_5 7 rfl rfl)
theorem dX8_look_2_128 : decode cX8_look_2 128 = .ok (.iaload, 1) := dk_46 (dk_at dksX8_look_2_5 9 rfl rfl)
theorem dX8_look_2_129 : decode cX8_look_2 129 = .ok (.iadd, 1) := dk_96 (dk_at dksX8_look_2_5 10 rfl rfl)
theorem dX8_look_2_130 : decode cX8_look_2 130 = .ok (.iadd, 1) := dk_96 (dk_at dksX8_look_2_5 11 rfl rfl)
theorem dX8_look_2_131 : decode cX8_look_2 131 = .ok (.istore 8, 2) := dk_54 8 (dk_at dksX8_look_2_5 12 rfl rfl)
theorem dX8_look_2_133 : decode cX8_look_2 133 = .ok (.iload 9, 2) := dk_21 9 (dk_at dksX8_look_2_5 14 rfl rfl)
theorem dX8_look_2_135 : decode cX8_look_2 135 = .ok (.aload_n 0, 1) := dk_42 (dk_at dksX8_look_2_5 16 rfl rfl)
theorem dX8_look_2_136 : decode cX8_look_2 136 = .ok (.getfield 187, 3) := dk_180 0 187 (dk_at dksX8_look_2_5 17 rfl rfl)
theorem dX8_look_2_139 : decode cX8_look_2 139 = .ok (.iload 10, 2) := dk_21 10 (dk_at dksX8_look_2_5 20 rfl rfl)
theorem dX8_look_2_141 : decode cX8_look_2 141 = .ok (.iaload, 1) := dk_46 (dk_at dksX8_look_2_5 22 rfl rfl)
theorem dX8_look_2_142 : decode cX8_look_2 142 = .ok (.iadd, 1) := dk_96 (dk_at dksX8_look_2_5 23 rfl rfl)
theorem dX8_look_2_143 : decode cX8_look_2 143 = .ok (.istore 9, 2) := dk_54 9 (dk_at dksX8_look_2_6 0 rfl rfl)
theorem dX8_look_2_145 : decode cX8_look_2 145 = .ok (.iinc 10 1, 3) := dk_132 10 1 (dk_at dksX8_look_2_6 2 rfl rfl)
theorem dX8_look_2_148 : decode cX8_look_2 148 = .ok (.goto (-48), 3) := dk_167 255 208 (dk_at dksX8_look_2_6 5 rfl rfl)
theorem dX8_look_2_151 : decode cX8_look_2 151 = .ok (.iload 8, 2) := dk_21 8 (dk_at dksX8_look_2_6 8 rfl rfl)
theorem dX8_look_2_153 : decode cX8_look_2 153 = .ok (.iload_n 1, 1) := dk_27 (dk_at dksX8_look_2_6 10 rfl rfl)
theorem dX8_look_2_154 : decode cX8_look_2 154 = .ok (.if_icmp .gt 39, 3) := dk_163 0 39 (dk_at dksX8_look_2_6 11 rfl rfl)
theorem dX8_look_2_157 : decode cX8_look_2 157 = .ok (.iload 9, 2) := dk_21 9 (dk_at dksX8_look_2_6 14 rfl rfl)
theorem dX8_look_2_159 : decode cX8_look_2 159 = .ok (.iload 5, 2) := dk_21 5 (dk_at dksX8_look_2_6 16 rfl rfl)
theorem dX8_look_2_161 : decode cX8_look_2 161 = .ok (.if_icmp .lt 32, 3) := dk_161 0 32 (dk_at dksX8_look_2_6 18 rfl rfl)
theorem dX8_look_2_164 : decode cX8_look_2 164 = .ok (.iload 9, 2) := dk_21 9 (dk_at dksX8_look_2_6 21 rfl rfl)
theorem dX8_look_2_166 : decode cX8_look_2 166 = .ok (.iload 5, 2) := dk_21 5 (dk_at dksX8_look_2_7 0 rfl rfl)
theorem dX8_look_2_168 : decode cX8_look_2 168 = .ok (.if_icmp .ne 13, 3) := dk_160 0 13 (dk_at dksX8_look_2_7 2 rfl rfl)
theorem dX8_look_2_171 : decode cX8_look_2 171 = .ok (.iload 8, 2) := dk_21 8 (dk_at dksX8_look_2_7 5 rfl rfl)
theorem dX8_look_2_173 : decode cX8_look_2 173 = .ok (.iload 6, 2) := dk_21 6 (dk_at dksX8_look_2_7 7 rfl rfl)
theorem dX8_look_2_175 : decode cX8_look_2 175 = .ok (.if_icmp .lt 6, 3) := dk_161 0 6 (dk_at dksX8_look_2_7 9 rfl rfl)
theorem dX8_look_2_178 : decode cX8_look_2 178 = .ok (.goto 15, 3) := dk_167 0 15 (dk_at dksX8_look_2_7 12 rfl rfl)
theorem dX8_look_2_181 : decode cX8_look_2 181 = .ok (.iload 7, 2) := dk_21 7 (dk_at dksX8_look_2_7 15 rfl rfl)
theorem dX8_look_2_183 : decode cX8_look_2 183 = .ok (.istore 4, 2) := dk_54 4 (dk_at dksX8_look_2_7 17 rfl rfl)
theorem dX8_look_2_185 : decode cX8_look_2 185 = .ok (.iload 9, 2) := dk_21 9 (dk_at dksX8_look_2_7 19 rfl rfl)
theorem dX8_look_2_187 : decode cX8_look_2 187 = .ok (.istore 5, 2) := dk_54 5 (dk_at dksX8_look_2_7 21 rfl rfl)
theorem dX8_look_2_189 : decode cX8_look_2 189 = .ok (.iload 8, 2) := dk_21 8 (dk_at dksX8_look_2_8 0 rfl rfl)
theorem dX8_look_2_191 : decode cX8_look_2 191 = .ok (.istore 6, 2) := dk_54 6 (dk_at dksX8_look_2_8 2 rfl rfl)
theorem dX8_look_2_193 : decode cX8_look_2 193 = .ok (.iinc 7 1, 3) := dk_132 7 1 (dk_at dksX8_look_2_8 4 rfl rfl)
theorem dX8_look_2_196 : decode cX8_look_2 196 = .ok (.goto (-113), 3) := dk_167 255 143 (dk_at dksX8_look_2_8 7 rfl rfl)
theorem dX8_look_2_199 : decode cX8_look_2 199 = .ok (.iload_n 2, 1) := dk_28 (dk_at dksX8_look_2_8 10 rfl rfl)
theorem dX8_look_2_200 : decode cX8_look_2 200 = .ok (.ifCond .ne 8, 3) := dk_154 0 8 (dk_at dksX8_look_2_8 11 rfl rfl)
theorem dX8_look_2_203 : decode cX8_look_2 203 = .ok (.iload 4, 2) := dk_21 4 (dk_at dksX8_look_2_8 14 rfl rfl)
theorem dX8_look_2_205 : decode cX8_look_2 205 = .ok (.goto 15, 3) := dk_167 0 15 (dk_at dksX8_look_2_8 16 rfl rfl)
theorem dX8_look_2_208 : decode cX8_look_2 208 = .ok (.iload_n 2, 1) := dk_28 (dk_at dksX8_look_2_8 19 rfl rfl)
theorem dX8_look_2_209 : decode cX8_look_2 209 = .ok (.iconst 1, 1) := dk_4 (dk_at dksX8_look_2_8 20 rfl rfl)
theorem dX8_look_2_210 : decode cX8_look_2 210 = .ok (.if_icmp .ne 8, 3) := dk_160 0 8 (dk_at dksX8_look_2_8 21 rfl rfl)
theorem dX8_look_2_213 : decode cX8_look_2 213 = .ok (.iload 5, 2) := dk_21 5 (dk_at dksX8_look_2_9 0 rfl rfl)
theorem dX8_look_2_215 : decode cX8_look_2 215 = .ok (.goto 5, 3) := dk_167 0 5 (dk_at dksX8_look_2_9 2 rfl rfl)
theorem dX8_look_2_218 : decode cX8_look_2 218 = .ok (.iload 6, 2) := dk_21 6 (dk_at dksX8_look_2_9 5 rfl rfl)
theorem dX8_look_2_220 : decode cX8_look_2 220 = .ok (.ireturn, 1) := dk_172 (dk_at dksX8_look_2_9 7 rfl rfl)
abbrev cX8_worthOf : ByteArray := prog_16_method_77_code
def yX8_worthOf : MethodName := ⟨RX8, "worthOf", "(I)I"⟩
def dkwX8_worthOf_1 : List UInt8 := [16, 99, 167, 0, 4, 28, 172]
abbrev dktX8_worthOf_1 : List UInt8 := dkwX8_worthOf_1 ++ []
def dkwX8_worthOf_0 : List UInt8 := [42, 5, 3, 27, 2, 182, 1, 22, 61, 28, 156, 0, 7, 3, 167, 0, 15, 28, 16, 99, 164, 0, 8]
abbrev dktX8_worthOf_0 : List UInt8 := dkwX8_worthOf_0 ++ dktX8_worthOf_1
theorem dksX8_worthOf_0 : cX8_worthOf.data.toList.drop 0 = dktX8_worthOf_0 := by decide +kernel
theorem dksX8_worthOf_1 : cX8_worthOf.data.toList.drop 23 = dktX8_worthOf_1 := dk_seg dksX8_worthOf_0 23 rfl rfl
theorem dX8_worthOf_0 : decode cX8_worthOf 0 = .ok (.aload_n 0, 1) := dk_42 (dk_at dksX8_worthOf_0 0 rfl rfl)
theorem dX8_worthOf_1 : decode cX8_worthOf 1 = .ok (.iconst 2, 1) := dk_5 (dk_at dksX8_worthOf_0 1 rfl rfl)
theorem dX8_worthOf_2 : decode cX8_worthOf 2 = .ok (.iconst 0, 1) := dk_3 (dk_at dksX8_worthOf_0 2 rfl rfl)
theorem dX8_worthOf_3 : decode cX8_worthOf 3 = .ok (.iload_n 1, 1) := dk_27 (dk_at dksX8_worthOf_0 3 rfl rfl)
theorem dX8_worthOf_4 : decode cX8_worthOf 4 = .ok (.iconst (-1), 1) := dk_2 (dk_at dksX8_worthOf_0 4 rfl rfl)
theorem dX8_worthOf_5 : decode cX8_worthOf 5 = .ok (.invokevirtual 278, 3) := dk_182 1 22 (dk_at dksX8_worthOf_0 5 rfl rfl)
theorem dX8_worthOf_8 : decode cX8_worthOf 8 = .ok (.istore_n 2, 1) := dk_61 (dk_at dksX8_worthOf_0 8 rfl rfl)
theorem dX8_worthOf_9 : decode cX8_worthOf 9 = .ok (.iload_n 2, 1) := dk_28 (dk_at dksX8_worthOf_0 9 rfl rfl)
theorem dX8_worthOf_10 : decode cX8_worthOf 10 = .ok (.ifCond .ge 7, 3) := dk_156 0 7 (dk_at dksX8_worthOf_0 10 rfl rfl)
theorem dX8_worthOf_13 : decode cX8_worthOf 13 = .ok (.iconst 0, 1) := dk_3 (dk_at dksX8_worthOf_0 13 rfl rfl)
theorem dX8_worthOf_14 : decode cX8_worthOf 14 = .ok (.goto 15, 3) := dk_167 0 15 (dk_at dksX8_worthOf_0 14 rfl rfl)
theorem dX8_worthOf_17 : decode cX8_worthOf 17 = .ok (.iload_n 2, 1) := dk_28 (dk_at dksX8_worthOf_0 17 rfl rfl)
theorem dX8_worthOf_18 : decode cX8_worthOf 18 = .ok (.bipush 99, 2) := dk_16 99 (dk_at dksX8_worthOf_0 18 rfl rfl)
theorem dX8_worthOf_20 : decode cX8_worthOf 20 = .ok (.if_icmp .le 8, 3) := dk_164 0 8 (dk_at dksX8_worthOf_0 20 rfl rfl)
theorem dX8_worthOf_23 : decode cX8_worthOf 23 = .ok (.bipush 99, 2) := dk_16 99 (dk_at dksX8_worthOf_1 0 rfl rfl)
theorem dX8_worthOf_25 : decode cX8_worthOf 25 = .ok (.goto 4, 3) := dk_167 0 4 (dk_at dksX8_worthOf_1 2 rfl rfl)
theorem dX8_worthOf_28 : decode cX8_worthOf 28 = .ok (.iload_n 2, 1) := dk_28 (dk_at dksX8_worthOf_1 5 rfl rfl)
theorem dX8_worthOf_29 : decode cX8_worthOf 29 = .ok (.ireturn, 1) := dk_172 (dk_at dksX8_worthOf_1 6 rfl rfl)
abbrev cX8_foretold : ByteArray := prog_16_method_80_code
def yX8_foretold : MethodName := ⟨RX8, "foretold", "(II)I"⟩
def dkwX8_foretold_1 : List UInt8 := [167, 0, 5, 16, 254, 172]
abbrev dktX8_foretold_1 : List UInt8 := dkwX8_foretold_1 ++ []
def dkwX8_foretold_0 : List UInt8 := [42, 27, 182, 1, 25, 153, 0, 20, 42, 28, 182, 1, 28, 153, 0, 12, 42, 27, 28, 182, 1, 101]
abbrev dktX8_foretold_0 : List UInt8 := dkwX8_foretold_0 ++ dktX8_foretold_1
theorem dksX8_foretold_0 : cX8_foretold.data.toList.drop 0 = dktX8_foretold_0 := by decide +kernel
theorem dksX8_foretold_1 : cX8_foretold.data.toList.drop 22 = dktX8_foretold_1 := dk_seg dksX8_foretold_0 22 rfl rfl
theorem dX8_foretold_0 : decode cX8_foretold 0 = .ok (.aload_n 0, 1) := dk_42 (dk_at dksX8_foretold_0 0 rfl rfl)
theorem dX8_foretold_1 : decode cX8_foretold 1 = .ok (.iload_n 1, 1) := dk_27 (dk_at dksX8_foretold_0 1 rfl rfl)
theorem dX8_foretold_2 : decode cX8_foretold 2 = .ok (.invokevirtual 281, 3) := dk_182 1 25 (dk_at dksX8_foretold_0 2 rfl rfl)
theorem dX8_foretold_5 : decode cX8_foretold 5 = .ok (.ifCond .eq 20, 3) := dk_153 0 20 (dk_at dksX8_foretold_0 5 rfl rfl)
theorem dX8_foretold_8 : decode cX8_foretold 8 = .ok (.aload_n 0, 1) := dk_42 (dk_at dksX8_foretold_0 8 rfl rfl)
theorem dX8_foretold_9 : decode cX8_foretold 9 = .ok (.iload_n 2, 1) := dk_28 (dk_at dksX8_foretold_0 9 rfl rfl)
theorem dX8_foretold_10 : decode cX8_foretold 10 = .ok (.invokevirtual 284, 3) := dk_182 1 28 (dk_at dksX8_foretold_0 10 rfl rfl)
theorem dX8_foretold_13 : decode cX8_foretold 13 = .ok (.ifCond .eq 12, 3) := dk_153 0 12 (dk_at dksX8_foretold_0 13 rfl rfl)
theorem dX8_foretold_16 : decode cX8_foretold 16 = .ok (.aload_n 0, 1) := dk_42 (dk_at dksX8_foretold_0 16 rfl rfl)
theorem dX8_foretold_17 : decode cX8_foretold 17 = .ok (.iload_n 1, 1) := dk_27 (dk_at dksX8_foretold_0 17 rfl rfl)
theorem dX8_foretold_18 : decode cX8_foretold 18 = .ok (.iload_n 2, 1) := dk_28 (dk_at dksX8_foretold_0 18 rfl rfl)
theorem dX8_foretold_19 : decode cX8_foretold 19 = .ok (.invokevirtual 357, 3) := dk_182 1 101 (dk_at dksX8_foretold_0 19 rfl rfl)
theorem dX8_foretold_22 : decode cX8_foretold 22 = .ok (.goto 5, 3) := dk_167 0 5 (dk_at dksX8_foretold_1 0 rfl rfl)
theorem dX8_foretold_25 : decode cX8_foretold 25 = .ok (.bipush (-2), 2) := dk_16 254 (dk_at dksX8_foretold_1 3 rfl rfl)
theorem dX8_foretold_27 : decode cX8_foretold 27 = .ok (.ireturn, 1) := dk_172 (dk_at dksX8_foretold_1 5 rfl rfl)
abbrev cX8_goers : ByteArray := prog_16_method_79_code
def yX8_goers : MethodName := ⟨RX8, "goers", "(II)I"⟩
def dkwX8_goers_1 : List UInt8 := [182, 1, 92, 153, 0, 10, 4, 21, 4, 120, 167, 0, 4, 3, 128, 62, 132, 4, 1, 167, 255, 222, 29, 172]
abbrev dktX8_goers_1 : List UInt8 := dkwX8_goers_1 ++ []
def dkwX8_goers_0 : List UInt8 := [42, 182, 1, 43, 3, 62, 3, 54, 4, 21, 4, 42, 180, 0, 1, 162, 0, 31, 29, 42, 27, 21, 4, 28]
abbrev dktX8_goers_0 : List UInt8 := dkwX8_goers_0 ++ dktX8_goers_1
theorem dksX8_goers_0 : cX8_goers.data.toList.drop 0 = dktX8_goers_0 := by decide +kernel
theorem dksX8_goers_1 : cX8_goers.data.toList.drop 24 = dktX8_goers_1 := dk_seg dksX8_goers_0 24 rfl rfl
theorem dX8_goers_0 : decode cX8_goers 0 = .ok (.aload_n 0, 1) := dk_42 (dk_at dksX8_goers_0 0 rfl rfl)
theorem dX8_goers_1 : decode cX8_goers 1 = .ok (.invokevirtual 299, 3) := dk_182 1 43 (dk_at dksX8_goers_0 1 rfl rfl)
theorem dX8_goers_4 : decode cX8_goers 4 = .ok (.iconst 0, 1) := dk_3 (dk_at dksX8_goers_0 4 rfl rfl)
theorem dX8_goers_5 : decode cX8_goers 5 = .ok (.istore_n 3, 1) := dk_62 (dk_at dksX8_goers_0 5 rfl rfl)
theorem dX8_goers_6 : decode cX8_goers 6 = .ok (.iconst 0, 1) := dk_3 (dk_at dksX8_goers_0 6 rfl rfl)
theorem dX8_goers_7 : decode cX8_goers 7 = .ok (.istore 4, 2) := dk_54 4 (dk_at dksX8_goers_0 7 rfl rfl)
theorem dX8_goers_9 : decode cX8_goers 9 = .ok (.iload 4, 2) := dk_21 4 (dk_at dksX8_goers_0 9 rfl rfl)
theorem dX8_goers_11 : decode cX8_goers 11 = .ok (.aload_n 0, 1) := dk_42 (dk_at dksX8_goers_0 11 rfl rfl)
theorem dX8_goers_12 : decode cX8_goers 12 = .ok (.getfield 1, 3) := dk_180 0 1 (dk_at dksX8_goers_0 12 rfl rfl)
theorem dX8_goers_15 : decode cX8_goers 15 = .ok (.if_icmp .ge 31, 3) := dk_162 0 31 (dk_at dksX8_goers_0 15 rfl rfl)
theorem dX8_goers_18 : decode cX8_goers 18 = .ok (.iload_n 3, 1) := dk_29 (dk_at dksX8_goers_0 18 rfl rfl)
theorem dX8_goers_19 : decode cX8_goers 19 = .ok (.aload_n 0, 1) := dk_42 (dk_at dksX8_goers_0 19 rfl rfl)
theorem dX8_goers_20 : decode cX8_goers 20 = .ok (.iload_n 1, 1) := dk_27 (dk_at dksX8_goers_0 20 rfl rfl)
theorem dX8_goers_21 : decode cX8_goers 21 = .ok (.iload 4, 2) := dk_21 4 (dk_at dksX8_goers_0 21 rfl rfl)
theorem dX8_goers_23 : decode cX8_goers 23 = .ok (.iload_n 2, 1) := dk_28 (dk_at dksX8_goers_0 23 rfl rfl)
theorem dX8_goers_24 : decode cX8_goers 24 = .ok (.invokevirtual 348, 3) := dk_182 1 92 (dk_at dksX8_goers_1 0 rfl rfl)
theorem dX8_goers_27 : decode cX8_goers 27 = .ok (.ifCond .eq 10, 3) := dk_153 0 10 (dk_at dksX8_goers_1 3 rfl rfl)
theorem dX8_goers_30 : decode cX8_goers 30 = .ok (.iconst 1, 1) := dk_4 (dk_at dksX8_goers_1 6 rfl rfl)
theorem dX8_goers_31 : decode cX8_goers 31 = .ok (.iload 4, 2) := dk_21 4 (dk_at dksX8_goers_1 7 rfl rfl)
theorem dX8_goers_33 : decode cX8_goers 33 = .ok (.ishl, 1) := dk_120 (dk_at dksX8_goers_1 9 rfl rfl)
theorem dX8_goers_34 : decode cX8_goers 34 = .ok (.goto 4, 3) := dk_167 0 4 (dk_at dksX8_goers_1 10 rfl rfl)
theorem dX8_goers_37 : decode cX8_goers 37 = .ok (.iconst 0, 1) := dk_3 (dk_at dksX8_goers_1 13 rfl rfl)
theorem dX8_goers_38 : decode cX8_goers 38 = .ok (.ior, 1) := dk_128 (dk_at dksX8_goers_1 14 rfl rfl)
theorem dX8_goers_39 : decode cX8_goers 39 = .ok (.istore_n 3, 1) := dk_62 (dk_at dksX8_goers_1 15 rfl rfl)
theorem dX8_goers_40 : decode cX8_goers 40 = .ok (.iinc 4 1, 3) := dk_132 4 1 (dk_at dksX8_goers_1 16 rfl rfl)
theorem dX8_goers_43 : decode cX8_goers 43 = .ok (.goto (-34), 3) := dk_167 255 222 (dk_at dksX8_goers_1 19 rfl rfl)
theorem dX8_goers_46 : decode cX8_goers 46 = .ok (.iload_n 3, 1) := dk_29 (dk_at dksX8_goers_1 22 rfl rfl)
theorem dX8_goers_47 : decode cX8_goers 47 = .ok (.ireturn, 1) := dk_172 (dk_at dksX8_goers_1 23 rfl rfl)
abbrev cX8_held : ByteArray := prog_16_method_81_code
def yX8_held : MethodName := ⟨RX8, "held", "(III)I"⟩
def dkwX8_held_4 : List UInt8 := [126, 159, 0, 6, 21, 5, 172, 132, 5, 1, 167, 255, 219, 2, 172]
abbrev dktX8_held_4 : List UInt8 := dkwX8_held_4 ++ []
def dkwX8_held_3 : List UInt8 := [180, 0, 1, 162, 0, 34, 42, 180, 0, 181, 16, 40, 29, 104, 21, 5, 96, 46, 21, 4, 21, 5, 122, 4]
abbrev dktX8_held_3 : List UInt8 := dkwX8_held_3 ++ dktX8_held_4
def dkwX8_held_2 : List UInt8 := [180, 0, 1, 159, 0, 6, 16, 254, 172, 42, 27, 28, 182, 1, 101, 54, 4, 3, 54, 5, 21, 5, 42]
abbrev dktX8_held_2 : List UInt8 := dkwX8_held_2 ++ dktX8_held_3
def dkwX8_held_1 : List UInt8 := [16, 254, 172, 42, 180, 0, 175, 29, 46, 156, 0, 6, 16, 245, 172, 42, 180, 0, 178, 29, 46, 42]
abbrev dktX8_held_1 : List UInt8 := dkwX8_held_1 ++ dktX8_held_2
def dkwX8_held_0 : List UInt8 := [42, 27, 182, 1, 25, 153, 0, 19, 42, 28, 182, 1, 28, 153, 0, 11, 42, 29, 182, 1, 104, 154, 0, 6]
abbrev dktX8_held_0 : List UInt8 := dkwX8_held_0 ++ dktX8_held_1
theorem dksX8_held_0 : cX8_held.data.toList.drop 0 = dktX8_held_0 := by decide +kernel
theorem dksX8_held_1 : cX8_held.data.toList.drop 24 = dktX8_held_1 := dk_seg dksX8_held_0 24 rfl rfl
theorem dksX8_held_2 : cX8_held.data.toList.drop 46 = dktX8_held_2 := dk_seg dksX8_held_1 22 rfl rfl
theorem dksX8_held_3 : cX8_held.data.toList.drop 69 = dktX8_held_3 := dk_seg dksX8_held_2 23 rfl rfl
theorem dksX8_held_4 : cX8_held.data.toList.drop 93 = dktX8_held_4 := dk_seg dksX8_held_3 24 rfl rfl
theorem dX8_held_0 : decode cX8_held 0 = .ok (.aload_n 0, 1) := dk_42 (dk_at dksX8_held_0 0 rfl rfl)
theorem dX8_held_1 : decode cX8_held 1 = .ok (.iload_n 1, 1) := dk_27 (dk_at dksX8_held_0 1 rfl rfl)
theorem dX8_held_2 : decode cX8_held 2 = .ok (.invokevirtual 281, 3) := dk_182 1 25 (dk_at dksX8_held_0 2 rfl rfl)
theorem dX8_held_5 : decode cX8_held 5 = .ok (.ifCond .eq 19, 3) := dk_153 0 19 (dk_at dksX8_held_0 5 rfl rfl)
theorem dX8_held_8 : decode cX8_held 8 = .ok (.aload_n 0, 1) := dk_42 (dk_at dksX8_held_0 8 rfl rfl)
theorem dX8_held_9 : decode cX8_held 9 = .ok (.iload_n 2, 1) := dk_28 (dk_at dksX8_held_0 9 rfl rfl)
theorem dX8_held_10 : decode cX8_held 10 = .ok (.invokevirtual 284, 3) := dk_182 1 28 (dk_at dksX8_held_0 10 rfl rfl)
theorem dX8_held_13 : decode cX8_held 13 = .ok (.ifCond .eq 11, 3) := dk_153 0 11 (dk_at dksX8_held_0 13 rfl rfl)
theorem dX8_held_16 : decode cX8_held 16 = .ok (.aload_n 0, 1) := dk_42 (dk_at dksX8_held_0 16 rfl rfl)
theorem dX8_held_17 : decode cX8_held 17 = .ok (.iload_n 3, 1) := dk_29 (dk_at dksX8_held_0 17 rfl rfl)
theorem dX8_held_18 : decode cX8_held 18 = .ok (.invokevirtual 360, 3) := dk_182 1 104 (dk_at dksX8_held_0 18 rfl rfl)
theorem dX8_held_21 : decode cX8_held 21 = .ok (.ifCond .ne 6, 3) := dk_154 0 6 (dk_at dksX8_held_0 21 rfl rfl)
theorem dX8_held_24 : decode cX8_held 24 = .ok (.bipush (-2), 2) := dk_16 254 (dk_at dksX8_held_1 0 rfl rfl)
theorem dX8_held_26 : decode cX8_held 26 = .ok (.ireturn, 1) := dk_172 (dk_at dksX8_held_1 2 rfl rfl)
theorem dX8_held_27 : decode cX8_held 27 = .ok (.aload_n 0, 1) := dk_42 (dk_at dksX8_held_1 3 rfl rfl)
theorem dX8_held_28 : decode cX8_held 28 = .ok (.getfield 175, 3) := dk_180 0 175 (dk_at dksX8_held_1 4 rfl rfl)
theorem dX8_held_31 : decode cX8_held 31 = .ok (.iload_n 3, 1) := dk_29 (dk_at dksX8_held_1 7 rfl rfl)
theorem dX8_held_32 : decode cX8_held 32 = .ok (.iaload, 1) := dk_46 (dk_at dksX8_held_1 8 rfl rfl)
theorem dX8_held_33 : decode cX8_held 33 = .ok (.ifCond .ge 6, 3) := dk_156 0 6 (dk_at dksX8_held_1 9 rfl rfl)
theorem dX8_held_36 : decode cX8_held 36 = .ok (.bipush (-11), 2) := dk_16 245 (dk_at dksX8_held_1 12 rfl rfl)
theorem dX8_held_38 : decode cX8_held 38 = .ok (.ireturn, 1) := dk_172 (dk_at dksX8_held_1 14 rfl rfl)
theorem dX8_held_39 : decode cX8_held 39 = .ok (.aload_n 0, 1) := dk_42 (dk_at dksX8_held_1 15 rfl rfl)
theorem dX8_held_40 : decode cX8_held 40 = .ok (.getfield 178, 3) := dk_180 0 178 (dk_at dksX8_held_1 16 rfl rfl)
theorem dX8_held_43 : decode cX8_held 43 = .ok (.iload_n 3, 1) := dk_29 (dk_at dksX8_held_1 19 rfl rfl)
theorem dX8_held_44 : decode cX8_held 44 = .ok (.iaload, 1) := dk_46 (dk_at dksX8_held_1 20 rfl rfl)
theorem dX8_held_45 : decode cX8_held 45 = .ok (.aload_n 0, 1) := dk_42 (dk_at dksX8_held_1 21 rfl rfl)
theorem dX8_held_46 : decode cX8_held 46 = .ok (.getfield 1, 3) := dk_180 0 1 (dk_at dksX8_held_2 0 rfl rfl)
theorem dX8_held_49 : decode cX8_held 49 = .ok (.if_icmp .eq 6, 3) := dk_159 0 6 (dk_at dksX8_held_2 3 rfl rfl)
theorem dX8_held_52 : decode cX8_held 52 = .ok (.bipush (-2), 2) := dk_16 254 (dk_at dksX8_held_2 6 rfl rfl)
theorem dX8_held_54 : decode cX8_held 54 = .ok (.ireturn, 1) := dk_172 (dk_at dksX8_held_2 8 rfl rfl)
theorem dX8_held_55 : decode cX8_held 55 = .ok (.aload_n 0, 1) := dk_42 (dk_at dksX8_held_2 9 rfl rfl)
theorem dX8_held_56 : decode cX8_held 56 = .ok (.iload_n 1, 1) := dk_27 (dk_at dksX8_held_2 10 rfl rfl)
theorem dX8_held_57 : decode cX8_held 57 = .ok (.iload_n 2, 1) := dk_28 (dk_at dksX8_held_2 11 rfl rfl)
theorem dX8_held_58 : decode cX8_held 58 = .ok (.invokevirtual 357, 3) := dk_182 1 101 (dk_at dksX8_held_2 12 rfl rfl)
theorem dX8_held_61 : decode cX8_held 61 = .ok (.istore 4, 2) := dk_54 4 (dk_at dksX8_held_2 15 rfl rfl)
theorem dX8_held_63 : decode cX8_held 63 = .ok (.iconst 0, 1) := dk_3 (dk_at dksX8_held_2 17 rfl rfl)
theorem dX8_held_64 : decode cX8_held 64 = .ok (.istore 5, 2) := dk_54 5 (dk_at dksX8_held_2 18 rfl rfl)
theorem dX8_held_66 : decode cX8_held 66 = .ok (.iload 5, 2) := dk_21 5 (dk_at dksX8_held_2 20 rfl rfl)
theorem dX8_held_68 : decode cX8_held 68 = .ok (.aload_n 0, 1) := dk_42 (dk_at dksX8_held_2 22 rfl rfl)
theorem dX8_held_69 : decode cX8_held 69 = .ok (.getfield 1, 3) := dk_180 0 1 (dk_at dksX8_held_3 0 rfl rfl)
theorem dX8_held_72 : decode cX8_held 72 = .ok (.if_icmp .ge 34, 3) := dk_162 0 34 (dk_at dksX8_held_3 3 rfl rfl)
theorem dX8_held_75 : decode cX8_held 75 = .ok (.aload_n 0, 1) := dk_42 (dk_at dksX8_held_3 6 rfl rfl)
theorem dX8_held_76 : decode cX8_held 76 = .ok (.getfield 181, 3) := dk_180 0 181 (dk_at dksX8_held_3 7 rfl rfl)
theorem dX8_held_79 : decode cX8_held 79 = .ok (.bipush 40, 2) := dk_16 40 (dk_at dksX8_held_3 10 rfl rfl)
theorem dX8_held_81 : decode cX8_held 81 = .ok (.iload_n 3, 1) := dk_29 (dk_at dksX8_held_3 12 rfl rfl)
theorem dX8_held_82 : decode cX8_held 82 = .ok (.imul, 1) := dk_104 (dk_at dksX8_held_3 13 rfl rfl)
theorem dX8_held_83 : decode cX8_held 83 = .ok (.iload 5, 2) := dk_21 5 (dk_at dksX8_held_3 14 rfl rfl)
theorem dX8_held_85 : decode cX8_held 85 = .ok (.iadd, 1) := dk_96 (dk_at dksX8_held_3 16 rfl rfl)
theorem dX8_held_86 : decode cX8_held 86 = .ok (.iaload, 1) := dk_46 (dk_at dksX8_held_3 17 rfl rfl)
theorem dX8_held_87 : decode cX8_held 87 = .ok (.iload 4, 2) := dk_21 4 (dk_at dksX8_held_3 18 rfl rfl)
theorem dX8_held_89 : decode cX8_held 89 = .ok (.iload 5, 2) := dk_21 5 (dk_at dksX8_held_3 20 rfl rfl)
theorem dX8_held_91 : decode cX8_held 91 = .ok (.ishr, 1) := dk_122 (dk_at dksX8_held_3 22 rfl rfl)
theorem dX8_held_92 : decode cX8_held 92 = .ok (.iconst 1, 1) := dk_4 (dk_at dksX8_held_3 23 rfl rfl)
theorem dX8_held_93 : decode cX8_held 93 = .ok (.iand, 1) := dk_126 (dk_at dksX8_held_4 0 rfl rfl)
theorem dX8_held_94 : decode cX8_held 94 = .ok (.if_icmp .eq 6, 3) := dk_159 0 6 (dk_at dksX8_held_4 1 rfl rfl)
theorem dX8_held_97 : decode cX8_held 97 = .ok (.iload 5, 2) := dk_21 5 (dk_at dksX8_held_4 4 rfl rfl)
theorem dX8_held_99 : decode cX8_held 99 = .ok (.ireturn, 1) := dk_172 (dk_at dksX8_held_4 6 rfl rfl)
theorem dX8_held_100 : decode cX8_held 100 = .ok (.iinc 5 1, 3) := dk_132 5 1 (dk_at dksX8_held_4 7 rfl rfl)
theorem dX8_held_103 : decode cX8_held 103 = .ok (.goto (-37), 3) := dk_167 255 219 (dk_at dksX8_held_4 10 rfl rfl)
theorem dX8_held_106 : decode cX8_held 106 = .ok (.iconst (-1), 1) := dk_2 (dk_at dksX8_held_4 13 rfl rfl)
theorem dX8_held_107 : decode cX8_held 107 = .ok (.ireturn, 1) := dk_172 (dk_at dksX8_held_4 14 rfl rfl)
abbrev cX8_isSheet : ByteArray := prog_16_method_85_code
def yX8_isSheet : MethodName := ⟨RX8, "isSheet", "(I)Z"⟩
def dkwX8_isSheet_0 : List UInt8 := [42, 27, 3, 6, 182, 0, 7, 172]
abbrev dktX8_isSheet_0 : List UInt8 := dkwX8_isSheet_0 ++ []
theorem dksX8_isSheet_0 : cX8_isSheet.data.toList.drop 0 = dktX8_isSheet_0 := by decide +kernel
theorem dX8_isSheet_0 : decode cX8_isSheet 0 = .ok (.aload_n 0, 1) := dk_42 (dk_at dksX8_isSheet_0 0 rfl rfl)
theorem dX8_isSheet_1 : decode cX8_isSheet 1 = .ok (.iload_n 1, 1) := dk_27 (dk_at dksX8_isSheet_0 1 rfl rfl)
theorem dX8_isSheet_2 : decode cX8_isSheet 2 = .ok (.iconst 0, 1) := dk_3 (dk_at dksX8_isSheet_0 2 rfl rfl)
theorem dX8_isSheet_3 : decode cX8_isSheet 3 = .ok (.iconst 3, 1) := dk_6 (dk_at dksX8_isSheet_0 3 rfl rfl)
theorem dX8_isSheet_4 : decode cX8_isSheet 4 = .ok (.invokevirtual 7, 3) := dk_182 0 7 (dk_at dksX8_isSheet_0 4 rfl rfl)
theorem dX8_isSheet_7 : decode cX8_isSheet 7 = .ok (.ireturn, 1) := dk_172 (dk_at dksX8_isSheet_0 7 rfl rfl)
abbrev cX8_image : ByteArray := prog_16_method_82_code
def yX8_image : MethodName := ⟨RX8, "image", "()I"⟩
def dkwX8_image_3 : List UInt8 := [167, 255, 233, 42, 180, 0, 1, 172]
abbrev dktX8_image_3 : List UInt8 := dkwX8_image_3 ++ []
def dkwX8_image_2 : List UInt8 := [27, 42, 180, 0, 1, 162, 0, 21, 42, 180, 0, 172, 27, 42, 180, 0, 17, 27, 46, 79, 132, 1, 1]
abbrev dktX8_image_2 : List UInt8 := dkwX8_image_2 ++ dktX8_image_3
def dkwX8_image_1 : List UInt8 := [180, 0, 123, 181, 0, 163, 42, 42, 180, 0, 144, 181, 0, 166, 42, 42, 180, 0, 138, 181, 0, 169, 3, 60]
abbrev dktX8_image_1 : List UInt8 := dkwX8_image_1 ++ dktX8_image_2
def dkwX8_image_0 : List UInt8 := [42, 4, 181, 0, 153, 42, 42, 180, 0, 1, 181, 0, 157, 42, 42, 180, 0, 63, 181, 0, 160, 42, 42]
abbrev dktX8_image_0 : List UInt8 := dkwX8_image_0 ++ dktX8_image_1
theorem dksX8_image_0 : cX8_image.data.toList.drop 0 = dktX8_image_0 := by decide +kernel
theorem dksX8_image_1 : cX8_image.data.toList.drop 23 = dktX8_image_1 := dk_seg dksX8_image_0 23 rfl rfl
theorem dksX8_image_2 : cX8_image.data.toList.drop 47 = dktX8_image_2 := dk_seg dksX8_image_1 24 rfl rfl
theorem dksX8_image_3 : cX8_image.data.toList.drop 70 = dktX8_image_3 := dk_seg dksX8_image_2 23 rfl rfl
theorem dX8_image_0 : decode cX8_image 0 = .ok (.aload_n 0, 1) := dk_42 (dk_at dksX8_image_0 0 rfl rfl)
theorem dX8_image_1 : decode cX8_image 1 = .ok (.iconst 1, 1) := dk_4 (dk_at dksX8_image_0 1 rfl rfl)
theorem dX8_image_2 : decode cX8_image 2 = .ok (.putfield 153, 3) := dk_181 0 153 (dk_at dksX8_image_0 2 rfl rfl)
theorem dX8_image_5 : decode cX8_image 5 = .ok (.aload_n 0, 1) := dk_42 (dk_at dksX8_image_0 5 rfl rfl)
theorem dX8_image_6 : decode cX8_image 6 = .ok (.aload_n 0, 1) := dk_42 (dk_at dksX8_image_0 6 rfl rfl)
theorem dX8_image_7 : decode cX8_image 7 = .ok (.getfield 1, 3) := dk_180 0 1 (dk_at dksX8_image_0 7 rfl rfl)
theorem dX8_image_10 : decode cX8_image 10 = .ok (.putfield 157, 3) := dk_181 0 157 (dk_at dksX8_image_0 10 rfl rfl)
theorem dX8_image_13 : decode cX8_image 13 = .ok (.aload_n 0, 1) := dk_42 (dk_at dksX8_image_0 13 rfl rfl)
theorem dX8_image_14 : decode cX8_image 14 = .ok (.aload_n 0, 1) := dk_42 (dk_at dksX8_image_0 14 rfl rfl)
theorem dX8_image_15 : decode cX8_image 15 = .ok (.getfield 63, 3) := dk_180 0 63 (dk_at dksX8_image_0 15 rfl rfl)
theorem dX8_image_18 : decode cX8_image 18 = .ok (.putfield 160, 3) := dk_181 0 160 (dk_at dksX8_image_0 18 rfl rfl)
theorem dX8_image_21 : decode cX8_image 21 = .ok (.aload_n 0, 1) := dk_42 (dk_at dksX8_image_0 21 rfl rfl)
theorem dX8_image_22 : decode cX8_image 22 = .ok (.aload_n 0, 1) := dk_42 (dk_at dksX8_image_0 22 rfl rfl)
theorem dX8_image_23 : decode cX8_image 23 = .ok (.getfield 123, 3) := dk_180 0 123 (dk_at dksX8_image_1 0 rfl rfl)
theorem dX8_image_26 : decode cX8_image 26 = .ok (.putfield 163, 3) := dk_181 0 163 (dk_at dksX8_image_1 3 rfl rfl)
theorem dX8_image_29 : decode cX8_image 29 = .ok (.aload_n 0, 1) := dk_42 (dk_at dksX8_image_1 6 rfl rfl)
theorem dX8_image_30 : decode cX8_image 30 = .ok (.aload_n 0, 1) := dk_42 (dk_at dksX8_image_1 7 rfl rfl)
theorem dX8_image_31 : decode cX8_image 31 = .ok (.getfield 144, 3) := dk_180 0 144 (dk_at dksX8_image_1 8 rfl rfl)
theorem dX8_image_34 : decode cX8_image 34 = .ok (.putfield 166, 3) := dk_181 0 166 (dk_at dksX8_image_1 11 rfl rfl)
theorem dX8_image_37 : decode cX8_image 37 = .ok (.aload_n 0, 1) := dk_42 (dk_at dksX8_image_1 14 rfl rfl)
theorem dX8_image_38 : decode cX8_image 38 = .ok (.aload_n 0, 1) := dk_42 (dk_at dksX8_image_1 15 rfl rfl)
theorem dX8_image_39 : decode cX8_image 39 = .ok (.getfield 138, 3) := dk_180 0 138 (dk_at dksX8_image_1 16 rfl rfl)
theorem dX8_image_42 : decode cX8_image 42 = .ok (.putfield 169, 3) := dk_181 0 169 (dk_at dksX8_image_1 19 rfl rfl)
theorem dX8_image_45 : decode cX8_image 45 = .ok (.iconst 0, 1) := dk_3 (dk_at dksX8_image_1 22 rfl rfl)
theorem dX8_image_46 : decode cX8_image 46 = .ok (.istore_n 1, 1) := dk_60 (dk_at dksX8_image_1 23 rfl rfl)
theorem dX8_image_47 : decode cX8_image 47 = .ok (.iload_n 1, 1) := dk_27 (dk_at dksX8_image_2 0 rfl rfl)
theorem dX8_image_48 : decode cX8_image 48 = .ok (.aload_n 0, 1) := dk_42 (dk_at dksX8_image_2 1 rfl rfl)
theorem dX8_image_49 : decode cX8_image 49 = .ok (.getfield 1, 3) := dk_180 0 1 (dk_at dksX8_image_2 2 rfl rfl)
theorem dX8_image_52 : decode cX8_image 52 = .ok (.if_icmp .ge 21, 3) := dk_162 0 21 (dk_at dksX8_image_2 5 rfl rfl)
theorem dX8_image_55 : decode cX8_image 55 = .ok (.aload_n 0, 1) := dk_42 (dk_at dksX8_image_2 8 rfl rfl)
theorem dX8_image_56 : decode cX8_image 56 = .ok (.getfield 172, 3) := dk_180 0 172 (dk_at dksX8_image_2 9 rfl rfl)
theorem dX8_image_59 : decode cX8_image 59 = .ok (.iload_n 1, 1) := dk_27 (dk_at dksX8_image_2 12 rfl rfl)
theorem dX8_image_60 : decode cX8_image 60 = .ok (.aload_n 0, 1) := dk_42 (dk_at dksX8_image_2 13 rfl rfl)
theorem dX8_image_61 : decode cX8_image 61 = .ok (.getfield 17, 3) := dk_180 0 17 (dk_at dksX8_image_2 14 rfl rfl)
theorem dX8_image_64 : decode cX8_image 64 = .ok (.iload_n 1, 1) := dk_27 (dk_at dksX8_image_2 17 rfl rfl)
theorem dX8_image_65 : decode cX8_image 65 = .ok (.iaload, 1) := dk_46 (dk_at dksX8_image_2 18 rfl rfl)
theorem dX8_image_66 : decode cX8_image 66 = .ok (.iastore, 1) := dk_79 (dk_at dksX8_image_2 19 rfl rfl)
theorem dX8_image_67 : decode cX8_image 67 = .ok (.iinc 1 1, 3) := dk_132 1 1 (dk_at dksX8_image_2 20 rfl rfl)
theorem dX8_image_70 : decode cX8_image 70 = .ok (.goto (-23), 3) := dk_167 255 233 (dk_at dksX8_image_3 0 rfl rfl)
theorem dX8_image_73 : decode cX8_image 73 = .ok (.aload_n 0, 1) := dk_42 (dk_at dksX8_image_3 3 rfl rfl)
theorem dX8_image_74 : decode cX8_image 74 = .ok (.getfield 1, 3) := dk_180 0 1 (dk_at dksX8_image_3 4 rfl rfl)
theorem dX8_image_77 : decode cX8_image 77 = .ok (.ireturn, 1) := dk_172 (dk_at dksX8_image_3 7 rfl rfl)
abbrev cX8_back : ByteArray := prog_16_method_83_code
def yX8_back : MethodName := ⟨RX8, "back", "()I"⟩
def dkwX8_back_3 : List UInt8 := [42, 180, 0, 1, 172]
abbrev dktX8_back_3 : List UInt8 := dkwX8_back_3 ++ []
def dkwX8_back_2 : List UInt8 := [180, 0, 157, 162, 0, 21, 42, 180, 0, 17, 27, 42, 180, 0, 172, 27, 46, 79, 132, 1, 1, 167, 255, 233]
abbrev dktX8_back_2 : List UInt8 := dkwX8_back_2 ++ dktX8_back_3
def dkwX8_back_1 : List UInt8 := [181, 0, 123, 42, 42, 180, 0, 166, 181, 0, 144, 42, 42, 180, 0, 169, 181, 0, 138, 3, 60, 27, 42]
abbrev dktX8_back_1 : List UInt8 := dkwX8_back_1 ++ dktX8_back_2
def dkwX8_back_0 : List UInt8 := [42, 180, 0, 153, 154, 0, 6, 16, 253, 172, 42, 42, 180, 0, 160, 181, 0, 63, 42, 42, 180, 0, 163]
abbrev dktX8_back_0 : List UInt8 := dkwX8_back_0 ++ dktX8_back_1
theorem dksX8_back_0 : cX8_back.data.toList.drop 0 = dktX8_back_0 := by decide +kernel
theorem dksX8_back_1 : cX8_back.data.toList.drop 23 = dktX8_back_1 := dk_seg dksX8_back_0 23 rfl rfl
theorem dksX8_back_2 : cX8_back.data.toList.drop 46 = dktX8_back_2 := dk_seg dksX8_back_1 23 rfl rfl
theorem dksX8_back_3 : cX8_back.data.toList.drop 70 = dktX8_back_3 := dk_seg dksX8_back_2 24 rfl rfl
theorem dX8_back_0 : decode cX8_back 0 = .ok (.aload_n 0, 1) := dk_42 (dk_at dksX8_back_0 0 rfl rfl)
theorem dX8_back_1 : decode cX8_back 1 = .ok (.getfield 153, 3) := dk_180 0 153 (dk_at dksX8_back_0 1 rfl rfl)
theorem dX8_back_4 : decode cX8_back 4 = .ok (.ifCond .ne 6, 3) := dk_154 0 6 (dk_at dksX8_back_0 4 rfl rfl)
theorem dX8_back_7 : decode cX8_back 7 = .ok (.bipush (-3), 2) := dk_16 253 (dk_at dksX8_back_0 7 rfl rfl)
theorem dX8_back_9 : decode cX8_back 9 = .ok (.ireturn, 1) := dk_172 (dk_at dksX8_back_0 9 rfl rfl)
theorem dX8_back_10 : decode cX8_back 10 = .ok (.aload_n 0, 1) := dk_42 (dk_at dksX8_back_0 10 rfl rfl)
theorem dX8_back_11 : decode cX8_back 11 = .ok (.aload_n 0, 1) := dk_42 (dk_at dksX8_back_0 11 rfl rfl)
theorem dX8_back_12 : decode cX8_back 12 = .ok (.getfield 160, 3) := dk_180 0 160 (dk_at dksX8_back_0 12 rfl rfl)
theorem dX8_back_15 : decode cX8_back 15 = .ok (.putfield 63, 3) := dk_181 0 63 (dk_at dksX8_back_0 15 rfl rfl)
theorem dX8_back_18 : decode cX8_back 18 = .ok (.aload_n 0, 1) := dk_42 (dk_at dksX8_back_0 18 rfl rfl)
theorem dX8_back_19 : decode cX8_back 19 = .ok (.aload_n 0, 1) := dk_42 (dk_at dksX8_back_0 19 rfl rfl)
theorem dX8_back_20 : decode cX8_back 20 = .ok (.getfield 163, 3) := dk_180 0 163 (dk_at dksX8_back_0 20 rfl rfl)
theorem dX8_back_23 : decode cX8_back 23 = .ok (.putfield 123, 3) := dk_181 0 123 (dk_at dksX8_back_1 0 rfl rfl)
theorem dX8_back_26 : decode cX8_back 26 = .ok (.aload_n 0, 1) := dk_42 (dk_at dksX8_back_1 3 rfl rfl)
theorem dX8_back_27 : decode cX8_back 27 = .ok (.aload_n 0, 1) := dk_42 (dk_at dksX8_back_1 4 rfl rfl)
theorem dX8_back_28 : decode cX8_back 28 = .ok (.getfield 166, 3) := dk_180 0 166 (dk_at dksX8_back_1 5 rfl rfl)
theorem dX8_back_31 : decode cX8_back 31 = .ok (.putfield 144, 3) := dk_181 0 144 (dk_at dksX8_back_1 8 rfl rfl)
theorem dX8_back_34 : decode cX8_back 34 = .ok (.aload_n 0, 1) := dk_42 (dk_at dksX8_back_1 11 rfl rfl)
theorem dX8_back_35 : decode cX8_back 35 = .ok (.aload_n 0, 1) := dk_42 (dk_at dksX8_back_1 12 rfl rfl)
theorem dX8_back_36 : decode cX8_back 36 = .ok (.getfield 169, 3) := dk_180 0 169 (dk_at dksX8_back_1 13 rfl rfl)
theorem dX8_back_39 : decode cX8_back 39 = .ok (.putfield 138, 3) := dk_181 0 138 (dk_at dksX8_back_1 16 rfl rfl)
theorem dX8_back_42 : decode cX8_back 42 = .ok (.iconst 0, 1) := dk_3 (dk_at dksX8_back_1 19 rfl rfl)
theorem dX8_back_43 : decode cX8_back 43 = .ok (.istore_n 1, 1) := dk_60 (dk_at dksX8_back_1 20 rfl rfl)
theorem dX8_back_44 : decode cX8_back 44 = .ok (.iload_n 1, 1) := dk_27 (dk_at dksX8_back_1 21 rfl rfl)
theorem dX8_back_45 : decode cX8_back 45 = .ok (.aload_n 0, 1) := dk_42 (dk_at dksX8_back_1 22 rfl rfl)
theorem dX8_back_46 : decode cX8_back 46 = .ok (.getfield 157, 3) := dk_180 0 157 (dk_at dksX8_back_2 0 rfl rfl)
theorem dX8_back_49 : decode cX8_back 49 = .ok (.if_icmp .ge 21, 3) := dk_162 0 21 (dk_at dksX8_back_2 3 rfl rfl)
theorem dX8_back_52 : decode cX8_back 52 = .ok (.aload_n 0, 1) := dk_42 (dk_at dksX8_back_2 6 rfl rfl)
theorem dX8_back_53 : decode cX8_back 53 = .ok (.getfield 17, 3) := dk_180 0 17 (dk_at dksX8_back_2 7 rfl rfl)
theorem dX8_back_56 : decode cX8_back 56 = .ok (.iload_n 1, 1) := dk_27 (dk_at dksX8_back_2 10 rfl rfl)
theorem dX8_back_57 : decode cX8_back 57 = .ok (.aload_n 0, 1) := dk_42 (dk_at dksX8_back_2 11 rfl rfl)
theorem dX8_back_58 : decode cX8_back 58 = .ok (.getfield 172, 3) := dk_180 0 172 (dk_at dksX8_back_2 12 rfl rfl)
theorem dX8_back_61 : decode cX8_back 61 = .ok (.iload_n 1, 1) := dk_27 (dk_at dksX8_back_2 15 rfl rfl)
theorem dX8_back_62 : decode cX8_back 62 = .ok (.iaload, 1) := dk_46 (dk_at dksX8_back_2 16 rfl rfl)
theorem dX8_back_63 : decode cX8_back 63 = .ok (.iastore, 1) := dk_79 (dk_at dksX8_back_2 17 rfl rfl)
theorem dX8_back_64 : decode cX8_back 64 = .ok (.iinc 1 1, 3) := dk_132 1 1 (dk_at dksX8_back_2 18 rfl rfl)
theorem dX8_back_67 : decode cX8_back 67 = .ok (.goto (-23), 3) := dk_167 255 233 (dk_at dksX8_back_2 21 rfl rfl)
theorem dX8_back_70 : decode cX8_back 70 = .ok (.aload_n 0, 1) := dk_42 (dk_at dksX8_back_3 0 rfl rfl)
theorem dX8_back_71 : decode cX8_back 71 = .ok (.getfield 1, 3) := dk_180 0 1 (dk_at dksX8_back_3 1 rfl rfl)
theorem dX8_back_74 : decode cX8_back 74 = .ok (.ireturn, 1) := dk_172 (dk_at dksX8_back_3 4 rfl rfl)
abbrev cX8_count : ByteArray := prog_16_method_84_code
def yX8_count : MethodName := ⟨RX8, "count", "(I)I"⟩
def dkwX8_count_3 : List UInt8 := [172, 42, 180, 0, 144, 172, 42, 180, 0, 60, 172, 42, 180, 0, 66, 172, 42, 180, 0, 63, 172, 16, 254, 172]
abbrev dktX8_count_3 : List UInt8 := dkwX8_count_3 ++ []
def dkwX8_count_2 : List UInt8 := [42, 180, 0, 1, 172, 42, 180, 0, 11, 172, 42, 180, 0, 14, 172, 42, 180, 0, 123, 172, 42, 180, 0, 138]
abbrev dktX8_count_2 : List UInt8 := dkwX8_count_2 ++ dktX8_count_3
def dkwX8_count_1 : List UInt8 := [170, 0, 0, 0, 0, 0, 96, 0, 0, 0, 0, 0, 0, 0, 8, 0, 0, 0, 51, 0, 0, 0, 56, 0, 0, 0, 61, 0, 0, 0, 66, 0, 0, 0, 71, 0, 0, 0, 76, 0, 0, 0, 81, 0, 0, 0, 86, 0, 0, 0, 91]
abbrev dktX8_count_1 : List UInt8 := dkwX8_count_1 ++ dktX8_count_2
def dkwX8_count_0 : List UInt8 := [27]
abbrev dktX8_count_0 : List UInt8 := dkwX8_count_0 ++ dktX8_count_1
theorem dksX8_count_0 : cX8_count.data.toList.drop 0 = dktX8_count_0 := by decide +kernel
theorem dksX8_count_1 : cX8_count.data.toList.drop 1 = dktX8_count_1 := dk_seg dksX8_count_0 1 rfl rfl
theorem dksX8_count_2 : cX8_count.data.toList.drop 52 = dktX8_count_2 := dk_seg dksX8_count_1 51 rfl rfl
theorem dksX8_count_3 : cX8_count.data.toList.drop 76 = dktX8_count_3 := dk_seg dksX8_count_2 24 rfl rfl
theorem dX8_count_0 : decode cX8_count 0 = .ok (.iload_n 1, 1) := dk_27 (dk_at dksX8_count_0 0 rfl rfl)
theorem dX8_count_1 : decode cX8_count 1 = .ok (.tableswitch 96 0 8 #[51, 56, 61, 66, 71, 76, 81, 86, 91], 51) := by decide +kernel
theorem dX8_count_52 : decode cX8_count 52 = .ok (.aload_n 0, 1) := dk_42 (dk_at dksX8_count_2 0 rfl rfl)
theorem dX8_count_53 : decode cX8_count 53 = .ok (.getfield 1, 3) := dk_180 0 1 (dk_at dksX8_count_2 1 rfl rfl)
theorem dX8_count_56 : decode cX8_count 56 = .ok (.ireturn, 1) := dk_172 (dk_at dksX8_count_2 4 rfl rfl)
theorem dX8_count_57 : decode cX8_count 57 = .ok (.aload_n 0, 1) := dk_42 (dk_at dksX8_count_2 5 rfl rfl)
theorem dX8_count_58 : decode cX8_count 58 = .ok (.getfield 11, 3) := dk_180 0 11 (dk_at dksX8_count_2 6 rfl rfl)
theorem dX8_count_61 : decode cX8_count 61 = .ok (.ireturn, 1) := dk_172 (dk_at dksX8_count_2 9 rfl rfl)
theorem dX8_count_62 : decode cX8_count 62 = .ok (.aload_n 0, 1) := dk_42 (dk_at dksX8_count_2 10 rfl rfl)
theorem dX8_count_63 : decode cX8_count 63 = .ok (.getfield 14, 3) := dk_180 0 14 (dk_at dksX8_count_2 11 rfl rfl)
theorem dX8_count_66 : decode cX8_count 66 = .ok (.ireturn, 1) := dk_172 (dk_at dksX8_count_2 14 rfl rfl)
theorem dX8_count_67 : decode cX8_count 67 = .ok (.aload_n 0, 1) := dk_42 (dk_at dksX8_count_2 15 rfl rfl)
theorem dX8_count_68 : decode cX8_count 68 = .ok (.getfield 123, 3) := dk_180 0 123 (dk_at dksX8_count_2 16 rfl rfl)
theorem dX8_count_71 : decode cX8_count 71 = .ok (.ireturn, 1) := dk_172 (dk_at dksX8_count_2 19 rfl rfl)
theorem dX8_count_72 : decode cX8_count 72 = .ok (.aload_n 0, 1) := dk_42 (dk_at dksX8_count_2 20 rfl rfl)
theorem dX8_count_73 : decode cX8_count 73 = .ok (.getfield 138, 3) := dk_180 0 138 (dk_at dksX8_count_2 21 rfl rfl)
theorem dX8_count_76 : decode cX8_count 76 = .ok (.ireturn, 1) := dk_172 (dk_at dksX8_count_3 0 rfl rfl)
theorem dX8_count_77 : decode cX8_count 77 = .ok (.aload_n 0, 1) := dk_42 (dk_at dksX8_count_3 1 rfl rfl)
theorem dX8_count_78 : decode cX8_count 78 = .ok (.getfield 144, 3) := dk_180 0 144 (dk_at dksX8_count_3 2 rfl rfl)
theorem dX8_count_81 : decode cX8_count 81 = .ok (.ireturn, 1) := dk_172 (dk_at dksX8_count_3 5 rfl rfl)
theorem dX8_count_82 : decode cX8_count 82 = .ok (.aload_n 0, 1) := dk_42 (dk_at dksX8_count_3 6 rfl rfl)
theorem dX8_count_83 : decode cX8_count 83 = .ok (.getfield 60, 3) := dk_180 0 60 (dk_at dksX8_count_3 7 rfl rfl)
theorem dX8_count_86 : decode cX8_count 86 = .ok (.ireturn, 1) := dk_172 (dk_at dksX8_count_3 10 rfl rfl)
theorem dX8_count_87 : decode cX8_count 87 = .ok (.aload_n 0, 1) := dk_42 (dk_at dksX8_count_3 11 rfl rfl)
theorem dX8_count_88 : decode cX8_count 88 = .ok (.getfield 66, 3) := dk_180 0 66 (dk_at dksX8_count_3 12 rfl rfl)
theorem dX8_count_91 : decode cX8_count 91 = .ok (.ireturn, 1) := dk_172 (dk_at dksX8_count_3 15 rfl rfl)
theorem dX8_count_92 : decode cX8_count 92 = .ok (.aload_n 0, 1) := dk_42 (dk_at dksX8_count_3 16 rfl rfl)
theorem dX8_count_93 : decode cX8_count 93 = .ok (.getfield 63, 3) := dk_180 0 63 (dk_at dksX8_count_3 17 rfl rfl)
theorem dX8_count_96 : decode cX8_count 96 = .ok (.ireturn, 1) := dk_172 (dk_at dksX8_count_3 20 rfl rfl)
theorem dX8_count_97 : decode cX8_count 97 = .ok (.bipush (-2), 2) := dk_16 254 (dk_at dksX8_count_3 21 rfl rfl)
theorem dX8_count_99 : decode cX8_count 99 = .ok (.ireturn, 1) := dk_172 (dk_at dksX8_count_3 23 rfl rfl)
abbrev cX8_sheet : ByteArray := prog_16_method_86_code
def yX8_sheet : MethodName := ⟨RX8, "sheet", "(III)I"⟩
def dkwX8_sheet_3 : List UInt8 := [162, 0, 22, 42, 180, 0, 181, 16, 40, 27, 104, 21, 4, 96, 3, 79, 132, 4, 1, 167, 255, 233, 4, 172]
abbrev dktX8_sheet_3 : List UInt8 := dkwX8_sheet_3 ++ []
def dkwX8_sheet_2 : List UInt8 := [28, 79, 42, 180, 0, 178, 27, 28, 156, 0, 7, 3, 167, 0, 4, 29, 79, 3, 54, 4, 21, 4, 16, 40]
abbrev dktX8_sheet_2 : List UInt8 := dkwX8_sheet_2 ++ dktX8_sheet_3
def dkwX8_sheet_1 : List UInt8 := [16, 40, 164, 0, 6, 16, 254, 172, 28, 155, 0, 10, 29, 156, 0, 6, 16, 242, 172, 42, 180, 0, 175, 27]
abbrev dktX8_sheet_1 : List UInt8 := dkwX8_sheet_1 ++ dktX8_sheet_2
def dkwX8_sheet_0 : List UInt8 := [42, 27, 182, 1, 104, 153, 0, 23, 42, 28, 2, 5, 182, 0, 7, 153, 0, 13, 28, 155, 0, 12, 29]
abbrev dktX8_sheet_0 : List UInt8 := dkwX8_sheet_0 ++ dktX8_sheet_1
theorem dksX8_sheet_0 : cX8_sheet.data.toList.drop 0 = dktX8_sheet_0 := by decide +kernel
theorem dksX8_sheet_1 : cX8_sheet.data.toList.drop 23 = dktX8_sheet_1 := dk_seg dksX8_sheet_0 23 rfl rfl
theorem dksX8_sheet_2 : cX8_sheet.data.toList.drop 47 = dktX8_sheet_2 := dk_seg dksX8_sheet_1 24 rfl rfl
theorem dksX8_sheet_3 : cX8_sheet.data.toList.drop 71 = dktX8_sheet_3 := dk_seg dksX8_sheet_2 24 rfl rfl
theorem dX8_sheet_0 : decode cX8_sheet 0 = .ok (.aload_n 0, 1) := dk_42 (dk_at dksX8_sheet_0 0 rfl rfl)
theorem dX8_sheet_1 : decode cX8_sheet 1 = .ok (.iload_n 1, 1) := dk_27 (dk_at dksX8_sheet_0 1 rfl rfl)
theorem dX8_sheet_2 : decode cX8_sheet 2 = .ok (.invokevirtual 360, 3) := dk_182 1 104 (dk_at dksX8_sheet_0 2 rfl rfl)
theorem dX8_sheet_5 : decode cX8_sheet 5 = .ok (.ifCond .eq 23, 3) := dk_153 0 23 (dk_at dksX8_sheet_0 5 rfl rfl)
theorem dX8_sheet_8 : decode cX8_sheet 8 = .ok (.aload_n 0, 1) := dk_42 (dk_at dksX8_sheet_0 8 rfl rfl)
theorem dX8_sheet_9 : decode cX8_sheet 9 = .ok (.iload_n 2, 1) := dk_28 (dk_at dksX8_sheet_0 9 rfl rfl)
theorem dX8_sheet_10 : decode cX8_sheet 10 = .ok (.iconst (-1), 1) := dk_2 (dk_at dksX8_sheet_0 10 rfl rfl)
theorem dX8_sheet_11 : decode cX8_sheet 11 = .ok (.iconst 2, 1) := dk_5 (dk_at dksX8_sheet_0 11 rfl rfl)
theorem dX8_sheet_12 : decode cX8_sheet 12 = .ok (.invokevirtual 7, 3) := dk_182 0 7 (dk_at dksX8_sheet_0 12 rfl rfl)
theorem dX8_sheet_15 : decode cX8_sheet 15 = .ok (.ifCond .eq 13, 3) := dk_153 0 13 (dk_at dksX8_sheet_0 15 rfl rfl)
theorem dX8_sheet_18 : decode cX8_sheet 18 = .ok (.iload_n 2, 1) := dk_28 (dk_at dksX8_sheet_0 18 rfl rfl)
theorem dX8_sheet_19 : decode cX8_sheet 19 = .ok (.ifCond .lt 12, 3) := dk_155 0 12 (dk_at dksX8_sheet_0 19 rfl rfl)
theorem dX8_sheet_22 : decode cX8_sheet 22 = .ok (.iload_n 3, 1) := dk_29 (dk_at dksX8_sheet_0 22 rfl rfl)
theorem dX8_sheet_23 : decode cX8_sheet 23 = .ok (.bipush 40, 2) := dk_16 40 (dk_at dksX8_sheet_1 0 rfl rfl)
theorem dX8_sheet_25 : decode cX8_sheet 25 = .ok (.if_icmp .le 6, 3) := dk_164 0 6 (dk_at dksX8_sheet_1 2 rfl rfl)
theorem dX8_sheet_28 : decode cX8_sheet 28 = .ok (.bipush (-2), 2) := dk_16 254 (dk_at dksX8_sheet_1 5 rfl rfl)
theorem dX8_sheet_30 : decode cX8_sheet 30 = .ok (.ireturn, 1) := dk_172 (dk_at dksX8_sheet_1 7 rfl rfl)
theorem dX8_sheet_31 : decode cX8_sheet 31 = .ok (.iload_n 2, 1) := dk_28 (dk_at dksX8_sheet_1 8 rfl rfl)
theorem dX8_sheet_32 : decode cX8_sheet 32 = .ok (.ifCond .lt 10, 3) := dk_155 0 10 (dk_at dksX8_sheet_1 9 rfl rfl)
theorem dX8_sheet_35 : decode cX8_sheet 35 = .ok (.iload_n 3, 1) := dk_29 (dk_at dksX8_sheet_1 12 rfl rfl)
theorem dX8_sheet_36 : decode cX8_sheet 36 = .ok (.ifCond .ge 6, 3) := dk_156 0 6 (dk_at dksX8_sheet_1 13 rfl rfl)
theorem dX8_sheet_39 : decode cX8_sheet 39 = .ok (.bipush (-14), 2) := dk_16 242 (dk_at dksX8_sheet_1 16 rfl rfl)
theorem dX8_sheet_41 : decode cX8_sheet 41 = .ok (.ireturn, 1) := dk_172 (dk_at dksX8_sheet_1 18 rfl rfl)
theorem dX8_sheet_42 : decode cX8_sheet 42 = .ok (.aload_n 0, 1) := dk_42 (dk_at dksX8_sheet_1 19 rfl rfl)
theorem dX8_sheet_43 : decode cX8_sheet 43 = .ok (.getfield 175, 3) := dk_180 0 175 (dk_at dksX8_sheet_1 20 rfl rfl)
theorem dX8_sheet_46 : decode cX8_sheet 46 = .ok (.iload_n 1, 1) := dk_27 (dk_at dksX8_sheet_1 23 rfl rfl)
theorem dX8_sheet_47 : decode cX8_sheet 47 = .ok (.iload_n 2, 1) := dk_28 (dk_at dksX8_sheet_2 0 rfl rfl)
theorem dX8_sheet_48 : decode cX8_sheet 48 = .ok (.iastore, 1) := dk_79 (dk_at dksX8_sheet_2 1 rfl rfl)
theorem dX8_sheet_49 : decode cX8_sheet 49 = .ok (.aload_n 0, 1) := dk_42 (dk_at dksX8_sheet_2 2 rfl rfl)
theorem dX8_sheet_50 : decode cX8_sheet 50 = .ok (.getfield 178, 3) := dk_180 0 178 (dk_at dksX8_sheet_2 3 rfl rfl)
theorem dX8_sheet_53 : decode cX8_sheet 53 = .ok (.iload_n 1, 1) := dk_27 (dk_at dksX8_sheet_2 6 rfl rfl)
theorem dX8_sheet_54 : decode cX8_sheet 54 = .ok (.iload_n 2, 1) := dk_28 (dk_at dksX8_sheet_2 7 rfl rfl)
theorem dX8_sheet_55 : decode cX8_sheet 55 = .ok (.ifCond .ge 7, 3) := dk_156 0 7 (dk_at dksX8_sheet_2 8 rfl rfl)
theorem dX8_sheet_58 : decode cX8_sheet 58 = .ok (.iconst 0, 1) := dk_3 (dk_at dksX8_sheet_2 11 rfl rfl)
theorem dX8_sheet_59 : decode cX8_sheet 59 = .ok (.goto 4, 3) := dk_167 0 4 (dk_at dksX8_sheet_2 12 rfl rfl)
theorem dX8_sheet_62 : decode cX8_sheet 62 = .ok (.iload_n 3, 1) := dk_29 (dk_at dksX8_sheet_2 15 rfl rfl)
theorem dX8_sheet_63 : decode cX8_sheet 63 = .ok (.iastore, 1) := dk_79 (dk_at dksX8_sheet_2 16 rfl rfl)
theorem dX8_sheet_64 : decode cX8_sheet 64 = .ok (.iconst 0, 1) := dk_3 (dk_at dksX8_sheet_2 17 rfl rfl)
theorem dX8_sheet_65 : decode cX8_sheet 65 = .ok (.istore 4, 2) := dk_54 4 (dk_at dksX8_sheet_2 18 rfl rfl)
theorem dX8_sheet_67 : decode cX8_sheet 67 = .ok (.iload 4, 2) := dk_21 4 (dk_at dksX8_sheet_2 20 rfl rfl)
theorem dX8_sheet_69 : decode cX8_sheet 69 = .ok (.bipush 40, 2) := dk_16 40 (dk_at dksX8_sheet_2 22 rfl rfl)
theorem dX8_sheet_71 : decode cX8_sheet 71 = .ok (.if_icmp .ge 22, 3) := dk_162 0 22 (dk_at dksX8_sheet_3 0 rfl rfl)
theorem dX8_sheet_74 : decode cX8_sheet 74 = .ok (.aload_n 0, 1) := dk_42 (dk_at dksX8_sheet_3 3 rfl rfl)
theorem dX8_sheet_75 : decode cX8_sheet 75 = .ok (.getfield 181, 3) := dk_180 0 181 (dk_at dksX8_sheet_3 4 rfl rfl)
theorem dX8_sheet_78 : decode cX8_sheet 78 = .ok (.bipush 40, 2) := dk_16 40 (dk_at dksX8_sheet_3 7 rfl rfl)
theorem dX8_sheet_80 : decode cX8_sheet 80 = .ok (.iload_n 1, 1) := dk_27 (dk_at dksX8_sheet_3 9 rfl rfl)
theorem dX8_sheet_81 : decode cX8_sheet 81 = .ok (.imul, 1) := dk_104 (dk_at dksX8_sheet_3 10 rfl rfl)
theorem dX8_sheet_82 : decode cX8_sheet 82 = .ok (.iload 4, 2) := dk_21 4 (dk_at dksX8_sheet_3 11 rfl rfl)
theorem dX8_sheet_84 : decode cX8_sheet 84 = .ok (.iadd, 1) := dk_96 (dk_at dksX8_sheet_3 13 rfl rfl)
theorem dX8_sheet_85 : decode cX8_sheet 85 = .ok (.iconst 0, 1) := dk_3 (dk_at dksX8_sheet_3 14 rfl rfl)
theorem dX8_sheet_86 : decode cX8_sheet 86 = .ok (.iastore, 1) := dk_79 (dk_at dksX8_sheet_3 15 rfl rfl)
theorem dX8_sheet_87 : decode cX8_sheet 87 = .ok (.iinc 4 1, 3) := dk_132 4 1 (dk_at dksX8_sheet_3 16 rfl rfl)
theorem dX8_sheet_90 : decode cX8_sheet 90 = .ok (.goto (-23), 3) := dk_167 255 233 (dk_at dksX8_sheet_3 19 rfl rfl)
theorem dX8_sheet_93 : decode cX8_sheet 93 = .ok (.iconst 1, 1) := dk_4 (dk_at dksX8_sheet_3 22 rfl rfl)
theorem dX8_sheet_94 : decode cX8_sheet 94 = .ok (.ireturn, 1) := dk_172 (dk_at dksX8_sheet_3 23 rfl rfl)
abbrev cX8_cell : ByteArray := prog_16_method_87_code
def yX8_cell : MethodName := ⟨RX8, "cell", "(III)I"⟩
def dkwX8_cell_3 : List UInt8 := [27, 46, 4, 160, 0, 8, 29, 147, 167, 0, 4, 29, 79, 4, 172]
abbrev dktX8_cell_3 : List UInt8 := dkwX8_cell_3 ++ []
def dkwX8_cell_2 : List UInt8 := [16, 40, 27, 104, 28, 96, 42, 180, 0, 175, 27, 46, 154, 0, 8, 29, 145, 167, 0, 19, 42, 180, 0, 175]
abbrev dktX8_cell_2 : List UInt8 := dkwX8_cell_2 ++ dktX8_cell_3
def dkwX8_cell_1 : List UInt8 := [28, 3, 42, 180, 0, 178, 27, 46, 4, 100, 182, 0, 7, 154, 0, 6, 16, 244, 172, 42, 180, 0, 181]
abbrev dktX8_cell_1 : List UInt8 := dkwX8_cell_1 ++ dktX8_cell_2
def dkwX8_cell_0 : List UInt8 := [42, 27, 182, 1, 104, 154, 0, 6, 16, 254, 172, 42, 180, 0, 175, 27, 46, 156, 0, 6, 16, 245, 172, 42]
abbrev dktX8_cell_0 : List UInt8 := dkwX8_cell_0 ++ dktX8_cell_1
theorem dksX8_cell_0 : cX8_cell.data.toList.drop 0 = dktX8_cell_0 := by decide +kernel
theorem dksX8_cell_1 : cX8_cell.data.toList.drop 24 = dktX8_cell_1 := dk_seg dksX8_cell_0 24 rfl rfl
theorem dksX8_cell_2 : cX8_cell.data.toList.drop 47 = dktX8_cell_2 := dk_seg dksX8_cell_1 23 rfl rfl
theorem dksX8_cell_3 : cX8_cell.data.toList.drop 71 = dktX8_cell_3 := dk_seg dksX8_cell_2 24 rfl rfl
theorem dX8_cell_0 : decode cX8_cell 0 = .ok (.aload_n 0, 1) := dk_42 (dk_at dksX8_cell_0 0 rfl rfl)
theorem dX8_cell_1 : decode cX8_cell 1 = .ok (.iload_n 1, 1) := dk_27 (dk_at dksX8_cell_0 1 rfl rfl)
theorem dX8_cell_2 : decode cX8_cell 2 = .ok (.invokevirtual 360, 3) := dk_182 1 104 (dk_at dksX8_cell_0 2 rfl rfl)
theorem dX8_cell_5 : decode cX8_cell 5 = .ok (.ifCond .ne 6, 3) := dk_154 0 6 (dk_at dksX8_cell_0 5 rfl rfl)
theorem dX8_cell_8 : decode cX8_cell 8 = .ok (.bipush (-2), 2) := dk_16 254 (dk_at dksX8_cell_0 8 rfl rfl)
theorem dX8_cell_10 : decode cX8_cell 10 = .ok (.ireturn, 1) := dk_172 (dk_at dksX8_cell_0 10 rfl rfl)
theorem dX8_cell_11 : decode cX8_cell 11 = .ok (.aload_n 0, 1) := dk_42 (dk_at dksX8_cell_0 11 rfl rfl)
theorem dX8_cell_12 : decode cX8_cell 12 = .ok (.getfield 175, 3) := dk_180 0 175 (dk_at dksX8_cell_0 12 rfl rfl)
theorem dX8_cell_15 : decode cX8_cell 15 = .ok (.iload_n 1, 1) := dk_27 (dk_at dksX8_cell_0 15 rfl rfl)
theorem dX8_cell_16 : decode cX8_cell 16 = .ok (.iaload, 1) := dk_46 (dk_at dksX8_cell_0 16 rfl rfl)
theorem dX8_cell_17 : decode cX8_cell 17 = .ok (.ifCond .ge 6, 3) := dk_156 0 6 (dk_at dksX8_cell_0 17 rfl rfl)
theorem dX8_cell_20 : decode cX8_cell 20 = .ok (.bipush (-11), 2) := dk_16 245 (dk_at dksX8_cell_0 20 rfl rfl)
theorem dX8_cell_22 : decode cX8_cell 22 = .ok (.ireturn, 1) := dk_172 (dk_at dksX8_cell_0 22 rfl rfl)
theorem dX8_cell_23 : decode cX8_cell 23 = .ok (.aload_n 0, 1) := dk_42 (dk_at dksX8_cell_0 23 rfl rfl)
theorem dX8_cell_24 : decode cX8_cell 24 = .ok (.iload_n 2, 1) := dk_28 (dk_at dksX8_cell_1 0 rfl rfl)
theorem dX8_cell_25 : decode cX8_cell 25 = .ok (.iconst 0, 1) := dk_3 (dk_at dksX8_cell_1 1 rfl rfl)
theorem dX8_cell_26 : decode cX8_cell 26 = .ok (.aload_n 0, 1) := dk_42 (dk_at dksX8_cell_1 2 rfl rfl)
theorem dX8_cell_27 : decode cX8_cell 27 = .ok (.getfield 178, 3) := dk_180 0 178 (dk_at dksX8_cell_1 3 rfl rfl)
theorem dX8_cell_30 : decode cX8_cell 30 = .ok (.iload_n 1, 1) := dk_27 (dk_at dksX8_cell_1 6 rfl rfl)
theorem dX8_cell_31 : decode cX8_cell 31 = .ok (.iaload, 1) := dk_46 (dk_at dksX8_cell_1 7 rfl rfl)
theorem dX8_cell_32 : decode cX8_cell 32 = .ok (.iconst 1, 1) := dk_4 (dk_at dksX8_cell_1 8 rfl rfl)
theorem dX8_cell_33 : decode cX8_cell 33 = .ok (.isub, 1) := dk_100 (dk_at dksX8_cell_1 9 rfl rfl)
theorem dX8_cell_34 : decode cX8_cell 34 = .ok (.invokevirtual 7, 3) := dk_182 0 7 (dk_at dksX8_cell_1 10 rfl rfl)
theorem dX8_cell_37 : decode cX8_cell 37 = .ok (.ifCond .ne 6, 3) := dk_154 0 6 (dk_at dksX8_cell_1 13 rfl rfl)
theorem dX8_cell_40 : decode cX8_cell 40 = .ok (.bipush (-12), 2) := dk_16 244 (dk_at dksX8_cell_1 16 rfl rfl)
theorem dX8_cell_42 : decode cX8_cell 42 = .ok (.ireturn, 1) := dk_172 (dk_at dksX8_cell_1 18 rfl rfl)
theorem dX8_cell_43 : decode cX8_cell 43 = .ok (.aload_n 0, 1) := dk_42 (dk_at dksX8_cell_1 19 rfl rfl)
theorem dX8_cell_44 : decode cX8_cell 44 = .ok (.getfield 181, 3) := dk_180 0 181 (dk_at dksX8_cell_1 20 rfl rfl)
theorem dX8_cell_47 : decode cX8_cell 47 = .ok (.bipush 40, 2) := dk_16 40 (dk_at dksX8_cell_2 0 rfl rfl)
theorem dX8_cell_49 : decode cX8_cell 49 = .ok (.iload_n 1, 1) := dk_27 (dk_at dksX8_cell_2 2 rfl rfl)
theorem dX8_cell_50 : decode cX8_cell 50 = .ok (.imul, 1) := dk_104 (dk_at dksX8_cell_2 3 rfl rfl)
theorem dX8_cell_51 : decode cX8_cell 51 = .ok (.iload_n 2, 1) := dk_28 (dk_at dksX8_cell_2 4 rfl rfl)
theorem dX8_cell_52 : decode cX8_cell 52 = .ok (.iadd, 1) := dk_96 (dk_at dksX8_cell_2 5 rfl rfl)
theorem dX8_cell_53 : decode cX8_cell 53 = .ok (.aload_n 0, 1) := dk_42 (dk_at dksX8_cell_2 6 rfl rfl)
theorem dX8_cell_54 : decode cX8_cell 54 = .ok (.getfield 175, 3) := dk_180 0 175 (dk_at dksX8_cell_2 7 rfl rfl)
theorem dX8_cell_57 : decode cX8_cell 57 = .ok (.iload_n 1, 1) := dk_27 (dk_at dksX8_cell_2 10 rfl rfl)
theorem dX8_cell_58 : decode cX8_cell 58 = .ok (.iaload, 1) := dk_46 (dk_at dksX8_cell_2 11 rfl rfl)
theorem dX8_cell_59 : decode cX8_cell 59 = .ok (.ifCond .ne 8, 3) := dk_154 0 8 (dk_at dksX8_cell_2 12 rfl rfl)
theorem dX8_cell_62 : decode cX8_cell 62 = .ok (.iload_n 3, 1) := dk_29 (dk_at dksX8_cell_2 15 rfl rfl)
theorem dX8_cell_63 : decode cX8_cell 63 = .ok (.i2b, 1) := dk_145 (dk_at dksX8_cell_2 16 rfl rfl)
theorem dX8_cell_64 : decode cX8_cell 64 = .ok (.goto 19, 3) := dk_167 0 19 (dk_at dksX8_cell_2 17 rfl rfl)
theorem dX8_cell_67 : decode cX8_cell 67 = .ok (.aload_n 0, 1) := dk_42 (dk_at dksX8_cell_2 20 rfl rfl)
theorem dX8_cell_68 : decode cX8_cell 68 = .ok (.getfield 175, 3) := dk_180 0 175 (dk_at dksX8_cell_2 21 rfl rfl)
theorem dX8_cell_71 : decode cX8_cell 71 = .ok (.iload_n 1, 1) := dk_27 (dk_at dksX8_cell_3 0 rfl rfl)
theorem dX8_cell_72 : decode cX8_cell 72 = .ok (.iaload, 1) := dk_46 (dk_at dksX8_cell_3 1 rfl rfl)
theorem dX8_cell_73 : decode cX8_cell 73 = .ok (.iconst 1, 1) := dk_4 (dk_at dksX8_cell_3 2 rfl rfl)
theorem dX8_cell_74 : decode cX8_cell 74 = .ok (.if_icmp .ne 8, 3) := dk_160 0 8 (dk_at dksX8_cell_3 3 rfl rfl)
theorem dX8_cell_77 : decode cX8_cell 77 = .ok (.iload_n 3, 1) := dk_29 (dk_at dksX8_cell_3 6 rfl rfl)
theorem dX8_cell_78 : decode cX8_cell 78 = .ok (.i2s, 1) := dk_147 (dk_at dksX8_cell_3 7 rfl rfl)
theorem dX8_cell_79 : decode cX8_cell 79 = .ok (.goto 4, 3) := dk_167 0 4 (dk_at dksX8_cell_3 8 rfl rfl)
theorem dX8_cell_82 : decode cX8_cell 82 = .ok (.iload_n 3, 1) := dk_29 (dk_at dksX8_cell_3 11 rfl rfl)
theorem dX8_cell_83 : decode cX8_cell 83 = .ok (.iastore, 1) := dk_79 (dk_at dksX8_cell_3 12 rfl rfl)
theorem dX8_cell_84 : decode cX8_cell 84 = .ok (.iconst 1, 1) := dk_4 (dk_at dksX8_cell_3 13 rfl rfl)
theorem dX8_cell_85 : decode cX8_cell 85 = .ok (.ireturn, 1) := dk_172 (dk_at dksX8_cell_3 14 rfl rfl)
abbrev cX8_copy : ByteArray := prog_16_method_88_code
def yX8_copy : MethodName := ⟨RX8, "copy", "(IIIII)I"⟩
def dkwX8_copy_7 : List UInt8 := [180, 0, 184, 21, 6, 46, 79, 132, 6, 1, 167, 255, 224, 21, 5, 172]
abbrev dktX8_copy_7 : List UInt8 := dkwX8_copy_7 ++ []
def dkwX8_copy_6 : List UInt8 := [54, 6, 21, 6, 21, 5, 162, 0, 31, 42, 180, 0, 181, 16, 40, 29, 104, 21, 4, 96, 21, 6, 96, 42]
abbrev dktX8_copy_6 : List UInt8 := dkwX8_copy_6 ++ dktX8_copy_7
def dkwX8_copy_5 : List UInt8 := [21, 6, 42, 180, 0, 181, 16, 40, 27, 104, 28, 96, 21, 6, 96, 46, 79, 132, 6, 1, 167, 255, 225, 3]
abbrev dktX8_copy_5 : List UInt8 := dkwX8_copy_5 ++ dktX8_copy_6
def dkwX8_copy_4 : List UInt8 := [21, 5, 100, 164, 0, 6, 16, 244, 172, 3, 54, 6, 21, 6, 21, 5, 162, 0, 30, 42, 180, 0, 184]
abbrev dktX8_copy_4 : List UInt8 := dkwX8_copy_4 ++ dktX8_copy_5
def dkwX8_copy_3 : List UInt8 := [155, 0, 30, 28, 42, 180, 0, 178, 27, 46, 21, 5, 100, 163, 0, 17, 21, 4, 42, 180, 0, 178, 29, 46]
abbrev dktX8_copy_3 : List UInt8 := dkwX8_copy_3 ++ dktX8_copy_4
def dkwX8_copy_2 : List UInt8 := [180, 0, 175, 29, 46, 159, 0, 6, 16, 243, 172, 21, 5, 155, 0, 39, 28, 155, 0, 35, 21, 4]
abbrev dktX8_copy_2 : List UInt8 := dkwX8_copy_2 ++ dktX8_copy_3
def dkwX8_copy_1 : List UInt8 := [46, 155, 0, 12, 42, 180, 0, 175, 29, 46, 156, 0, 6, 16, 245, 172, 42, 180, 0, 175, 27, 46, 42]
abbrev dktX8_copy_1 : List UInt8 := dkwX8_copy_1 ++ dktX8_copy_2
def dkwX8_copy_0 : List UInt8 := [42, 27, 182, 1, 104, 153, 0, 11, 42, 29, 182, 1, 104, 154, 0, 6, 16, 254, 172, 42, 180, 0, 175, 27]
abbrev dktX8_copy_0 : List UInt8 := dkwX8_copy_0 ++ dktX8_copy_1
theorem dksX8_copy_0 : cX8_copy.data.toList.drop 0 = dktX8_copy_0 := by decide +kernel
theorem dksX8_copy_1 : cX8_copy.data.toList.drop 24 = dktX8_copy_1 := dk_seg dksX8_copy_0 24 rfl rfl
theorem dksX8_copy_2 : cX8_copy.data.toList.drop 47 = dktX8_copy_2 := dk_seg dksX8_copy_1 23 rfl rfl
theorem dksX8_copy_3 : cX8_copy.data.toList.drop 69 = dktX8_copy_3 := dk_seg dksX8_copy_2 22 rfl rfl
theorem dksX8_copy_4 : cX8_copy.data.toList.drop 93 = dktX8_copy_4 := dk_seg dksX8_copy_3 24 rfl rfl
theorem dksX8_copy_5 : cX8_copy.data.toList.drop 116 = dktX8_copy_5 := dk_seg dksX8_copy_4 23 rfl rfl
theorem dksX8_copy_6 : cX8_copy.data.toList.drop 140 = dktX8_copy_6 := dk_seg dksX8_copy_5 24 rfl rfl
theorem dksX8_copy_7 : cX8_copy.data.toList.drop 164 = dktX8_copy_7 := dk_seg dksX8_copy_6 24 rfl rfl
theorem dX8_copy_0 : decode cX8_copy 0 = .ok (.aload_n 0, 1) := dk_42 (dk_at dksX8_copy_0 0 rfl rfl)
theorem dX8_copy_1 : decode cX8_copy 1 = .ok (.iload_n 1, 1) := dk_27 (dk_at dksX8_copy_0 1 rfl rfl)
theorem dX8_copy_2 : decode cX8_copy 2 = .ok (.invokevirtual 360, 3) := dk_182 1 104 (dk_at dksX8_copy_0 2 rfl rfl)
theorem dX8_copy_5 : decode cX8_copy 5 = .ok (.ifCond .eq 11, 3) := dk_153 0 11 (dk_at dksX8_copy_0 5 rfl rfl)
theorem dX8_copy_8 : decode cX8_copy 8 = .ok (.aload_n 0, 1) := dk_42 (dk_at dksX8_copy_0 8 rfl rfl)
theorem dX8_copy_9 : decode cX8_copy 9 = .ok (.iload_n 3, 1) := dk_29 (dk_at dksX8_copy_0 9 rfl rfl)
theorem dX8_copy_10 : decode cX8_copy 10 = .ok (.invokevirtual 360, 3) := dk_182 1 104 (dk_at dksX8_copy_0 10 rfl rfl)
theorem dX8_copy_13 : decode cX8_copy 13 = .ok (.ifCond .ne 6, 3) := dk_154 0 6 (dk_at dksX8_copy_0 13 rfl rfl)
theorem dX8_copy_16 : decode cX8_copy 16 = .ok (.bipush (-2), 2) := dk_16 254 (dk_at dksX8_copy_0 16 rfl rfl)
theorem dX8_copy_18 : decode cX8_copy 18 = .ok (.ireturn, 1) := dk_172 (dk_at dksX8_copy_0 18 rfl rfl)
theorem dX8_copy_19 : decode cX8_copy 19 = .ok (.aload_n 0, 1) := dk_42 (dk_at dksX8_copy_0 19 rfl rfl)
theorem dX8_copy_20 : decode cX8_copy 20 = .ok (.getfield 175, 3) := dk_180 0 175 (dk_at dksX8_copy_0 20 rfl rfl)
theorem dX8_copy_23 : decode cX8_copy 23 = .ok (.iload_n 1, 1) := dk_27 (dk_at dksX8_copy_0 23 rfl rfl)
theorem dX8_copy_24 : decode cX8_copy 24 = .ok (.iaload, 1) := dk_46 (dk_at dksX8_copy_1 0 rfl rfl)
theorem dX8_copy_25 : decode cX8_copy 25 = .ok (.ifCond .lt 12, 3) := dk_155 0 12 (dk_at dksX8_copy_1 1 rfl rfl)
theorem dX8_copy_28 : decode cX8_copy 28 = .ok (.aload_n 0, 1) := dk_42 (dk_at dksX8_copy_1 4 rfl rfl)
theorem dX8_copy_29 : decode cX8_copy 29 = .ok (.getfield 175, 3) := dk_180 0 175 (dk_at dksX8_copy_1 5 rfl rfl)
theorem dX8_copy_32 : decode cX8_copy 32 = .ok (.iload_n 3, 1) := dk_29 (dk_at dksX8_copy_1 8 rfl rfl)
theorem dX8_copy_33 : decode cX8_copy 33 = .ok (.iaload, 1) := dk_46 (dk_at dksX8_copy_1 9 rfl rfl)
theorem dX8_copy_34 : decode cX8_copy 34 = .ok (.ifCond .ge 6, 3) := dk_156 0 6 (dk_at dksX8_copy_1 10 rfl rfl)
theorem dX8_copy_37 : decode cX8_copy 37 = .ok (.bipush (-11), 2) := dk_16 245 (dk_at dksX8_copy_1 13 rfl rfl)
theorem dX8_copy_39 : decode cX8_copy 39 = .ok (.ireturn, 1) := dk_172 (dk_at dksX8_copy_1 15 rfl rfl)
theorem dX8_copy_40 : decode cX8_copy 40 = .ok (.aload_n 0, 1) := dk_42 (dk_at dksX8_copy_1 16 rfl rfl)
theorem dX8_copy_41 : decode cX8_copy 41 = .ok (.getfield 175, 3) := dk_180 0 175 (dk_at dksX8_copy_1 17 rfl rfl)
theorem dX8_copy_44 : decode cX8_copy 44 = .ok (.iload_n 1, 1) := dk_27 (dk_at dksX8_copy_1 20 rfl rfl)
theorem dX8_copy_45 : decode cX8_copy 45 = .ok (.iaload, 1) := dk_46 (dk_at dksX8_copy_1 21 rfl rfl)
theorem dX8_copy_46 : decode cX8_copy 46 = .ok (.aload_n 0, 1) := dk_42 (dk_at dksX8_copy_1 22 rfl rfl)
theorem dX8_copy_47 : decode cX8_copy 47 = .ok (.getfield 175, 3) := dk_180 0 175 (dk_at dksX8_copy_2 0 rfl rfl)
theorem dX8_copy_50 : decode cX8_copy 50 = .ok (.iload_n 3, 1) := dk_29 (dk_at dksX8_copy_2 3 rfl rfl)
theorem dX8_copy_51 : decode cX8_copy 51 = .ok (.iaload, 1) := dk_46 (dk_at dksX8_copy_2 4 rfl rfl)
theorem dX8_copy_52 : decode cX8_copy 52 = .ok (.if_icmp .eq 6, 3) := dk_159 0 6 (dk_at dksX8_copy_2 5 rfl rfl)
theorem dX8_copy_55 : decode cX8_copy 55 = .ok (.bipush (-13), 2) := dk_16 243 (dk_at dksX8_copy_2 8 rfl rfl)
theorem dX8_copy_57 : decode cX8_copy 57 = .ok (.ireturn, 1) := dk_172 (dk_at dksX8_copy_2 10 rfl rfl)
theorem dX8_copy_58 : decode cX8_copy 58 = .ok (.iload 5, 2) := dk_21 5 (dk_at dksX8_copy_2 11 rfl rfl)
theorem dX8_copy_60 : decode cX8_copy 60 = .ok (.ifCond .lt 39, 3) := dk_155 0 39 (dk_at dksX8_copy_2 13 rfl rfl)
theorem dX8_copy_63 : decode cX8_copy 63 = .ok (.iload_n 2, 1) := dk_28 (dk_at dksX8_copy_2 16 rfl rfl)
theorem dX8_copy_64 : decode cX8_copy 64 = .ok (.ifCond .lt 35, 3) := dk_155 0 35 (dk_at dksX8_copy_2 17 rfl rfl)
theorem dX8_copy_67 : decode cX8_copy 67 = .ok (.iload 4, 2) := dk_21 4 (dk_at dksX8_copy_2 20 rfl rfl)
theorem dX8_copy_69 : decode cX8_copy 69 = .ok (.ifCond .lt 30, 3) := dk_155 0 30 (dk_at dksX8_copy_3 0 rfl rfl)
theorem dX8_copy_72 : decode cX8_copy 72 = .ok (.iload_n 2, 1) := dk_28 (dk_at dksX8_copy_3 3 rfl rfl)
theorem dX8_copy_73 : decode cX8_copy 73 = .ok (.aload_n 0, 1) := dk_42 (dk_at dksX8_copy_3 4 rfl rfl)
theorem dX8_copy_74 : decode cX8_copy 74 = .ok (.getfield 178, 3) := dk_180 0 178 (dk_at dksX8_copy_3 5 rfl rfl)
theorem dX8_copy_77 : decode cX8_copy 77 = .ok (.iload_n 1, 1) := dk_27 (dk_at dksX8_copy_3 8 rfl rfl)
theorem dX8_copy_78 : decode cX8_copy 78 = .ok (.iaload, 1) := dk_46 (dk_at dksX8_copy_3 9 rfl rfl)
theorem dX8_copy_79 : decode cX8_copy 79 = .ok (.iload 5, 2) := dk_21 5 (dk_at dksX8_copy_3 10 rfl rfl)
theorem dX8_copy_81 : decode cX8_copy 81 = .ok (.isub, 1) := dk_100 (dk_at dksX8_copy_3 12 rfl rfl)
theorem dX8_copy_82 : decode cX8_copy 82 = .ok (.if_icmp .gt 17, 3) := dk_163 0 17 (dk_at dksX8_copy_3 13 rfl rfl)
theorem dX8_copy_85 : decode cX8_copy 85 = .ok (.iload 4, 2) := dk_21 4 (dk_at dksX8_copy_3 16 rfl rfl)
theorem dX8_copy_87 : decode cX8_copy 87 = .ok (.aload_n 0, 1) := dk_42 (dk_at dksX8_copy_3 18 rfl rfl)
theorem dX8_copy_88 : decode cX8_copy 88 = .ok (.getfield 178, 3) := dk_180 0 178 (dk_at dksX8_copy_3 19 rfl rfl)
theorem dX8_copy_91 : decode cX8_copy 91 = .ok (.iload_n 3, 1) := dk_29 (dk_at dksX8_copy_3 22 rfl rfl)
theorem dX8_copy_92 : decode cX8_copy 92 = .ok (.iaload, 1) := dk_46 (dk_at dksX8_copy_3 23 rfl rfl)
theorem dX8_copy_93 : decode cX8_copy 93 = .ok (.iload 5, 2) := dk_21 5 (dk_at dksX8_copy_4 0 rfl rfl)
theorem dX8_copy_95 : decode cX8_copy 95 = .ok (.isub, 1) := dk_100 (dk_at dksX8_copy_4 2 rfl rfl)
theorem dX8_copy_96 : decode cX8_copy 96 = .ok (.if_icmp .le 6, 3) := dk_164 0 6 (dk_at dksX8_copy_4 3 rfl rfl)
theorem dX8_copy_99 : decode cX8_copy 99 = .ok (.bipush (-12), 2) := dk_16 244 (dk_at dksX8_copy_4 6 rfl rfl)
theorem dX8_copy_101 : decode cX8_copy 101 = .ok (.ireturn, 1) := dk_172 (dk_at dksX8_copy_4 8 rfl rfl)
theorem dX8_copy_102 : decode cX8_copy 102 = .ok (.iconst 0, 1) := dk_3 (dk_at dksX8_copy_4 9 rfl rfl)
theorem dX8_copy_103 : decode cX8_copy 103 = .ok (.istore 6, 2) := dk_54 6 (dk_at dksX8_copy_4 10 rfl rfl)
theorem dX8_copy_105 : decode cX8_copy 105 = .ok (.iload 6, 2) := dk_21 6 (dk_at dksX8_copy_4 12 rfl rfl)
theorem dX8_copy_107 : decode cX8_copy 107 = .ok (.iload 5, 2) := dk_21 5 (dk_at dksX8_copy_4 14 rfl rfl)
theorem dX8_copy_109 : decode cX8_copy 109 = .ok (.if_icmp .ge 30, 3) := dk_162 0 30 (dk_at dksX8_copy_4 16 rfl rfl)
theorem dX8_copy_112 : decode cX8_copy 112 = .ok (.aload_n 0, 1) := dk_42 (dk_at dksX8_copy_4 19 rfl rfl)
theorem dX8_copy_113 : decode cX8_copy 113 = .ok (.getfield 184, 3) := dk_180 0 184 (dk_at dksX8_copy_4 20 rfl rfl)
theorem dX8_copy_116 : decode cX8_copy 116 = .ok (.iload 6, 2) := dk_21 6 (dk_at dksX8_copy_5 0 rfl rfl)
theorem dX8_copy_118 : decode cX8_copy 118 = .ok (.aload_n 0, 1) := dk_42 (dk_at dksX8_copy_5 2 rfl rfl)
theorem dX8_copy_119 : decode cX8_copy 119 = .ok (.getfield 181, 3) := dk_180 0 181 (dk_at dksX8_copy_5 3 rfl rfl)
theorem dX8_copy_122 : decode cX8_copy 122 = .ok (.bipush 40, 2) := dk_16 40 (dk_at dksX8_copy_5 6 rfl rfl)
theorem dX8_copy_124 : decode cX8_copy 124 = .ok (.iload_n 1, 1) := dk_27 (dk_at dksX8_copy_5 8 rfl rfl)
theorem dX8_copy_125 : decode cX8_copy 125 = .ok (.imul, 1) := dk_104 (dk_at dksX8_copy_5 9 rfl rfl)
theorem dX8_copy_126 : decode cX8_copy 126 = .ok (.iload_n 2, 1) := dk_28 (dk_at dksX8_copy_5 10 rfl rfl)
theorem dX8_copy_127 : decode cX8_copy 127 = .ok (.iadd, 1) := dk_96 (dk_at dksX8_copy_5 11 rfl rfl)
theorem dX8_copy_128 : decode cX8_copy 128 = .ok (.iload 6, 2) := dk_21 6 (dk_at dksX8_copy_5 12 rfl rfl)
theorem dX8_copy_130 : decode cX8_copy 130 = .ok (.iadd, 1) := dk_96 (dk_at dksX8_copy_5 14 rfl rfl)
theorem dX8_copy_131 : decode cX8_copy 131 = .ok (.iaload, 1) := dk_46 (dk_at dksX8_copy_5 15 rfl rfl)
theorem dX8_copy_132 : decode cX8_copy 132 = .ok (.iastore, 1) := dk_79 (dk_at dksX8_copy_5 16 rfl rfl)
theorem dX8_copy_133 : decode cX8_copy 133 = .ok (.iinc 6 1, 3) := dk_132 6 1 (dk_at dksX8_copy_5 17 rfl rfl)
theorem dX8_copy_136 : decode cX8_copy 136 = .ok (.goto (-31), 3) := dk_167 255 225 (dk_at dksX8_copy_5 20 rfl rfl)
theorem dX8_copy_139 : decode cX8_copy 139 = .ok (.iconst 0, 1) := dk_3 (dk_at dksX8_copy_5 23 rfl rfl)
theorem dX8_copy_140 : decode cX8_copy 140 = .ok (.istore 6, 2) := dk_54 6 (dk_at dksX8_copy_6 0 rfl rfl)
theorem dX8_copy_142 : decode cX8_copy 142 = .ok (.iload 6, 2) := dk_21 6 (dk_at dksX8_copy_6 2 rfl rfl)
theorem dX8_copy_144 : decode cX8_copy 144 = .ok (.iload 5, 2) := dk_21 5 (dk_at dksX8_copy_6 4 rfl rfl)
theorem dX8_copy_146 : decode cX8_copy 146 = .ok (.if_icmp .ge 31, 3) := dk_162 0 31 (dk_at dksX8_copy_6 6 rfl rfl)
theorem dX8_copy_149 : decode cX8_copy 149 = .ok (.aload_n 0, 1) := dk_42 (dk_at dksX8_copy_6 9 rfl rfl)
theorem dX8_copy_150 : decode cX8_copy 150 = .ok (.getfield 181, 3) := dk_180 0 181 (dk_at dksX8_copy_6 10 rfl rfl)
theorem dX8_copy_153 : decode cX8_copy 153 = .ok (.bipush 40, 2) := dk_16 40 (dk_at dksX8_copy_6 13 rfl rfl)
theorem dX8_copy_155 : decode cX8_copy 155 = .ok (.iload_n 3, 1) := dk_29 (dk_at dksX8_copy_6 15 rfl rfl)
theorem dX8_copy_156 : decode cX8_copy 156 = .ok (.imul, 1) := dk_104 (dk_at dksX8_copy_6 16 rfl rfl)
theorem dX8_copy_157 : decode cX8_copy 157 = .ok (.iload 4, 2) := dk_21 4 (dk_at dksX8_copy_6 17 rfl rfl)
theorem dX8_copy_159 : decode cX8_copy 159 = .ok (.iadd, 1) := dk_96 (dk_at dksX8_copy_6 19 rfl rfl)
theorem dX8_copy_160 : decode cX8_copy 160 = .ok (.iload 6, 2) := dk_21 6 (dk_at dksX8_copy_6 20 rfl rfl)
theorem dX8_copy_162 : decode cX8_copy 162 = .ok (.iadd, 1) := dk_96 (dk_at dksX8_copy_6 22 rfl rfl)
theorem dX8_copy_163 : decode cX8_copy 163 = .ok (.aload_n 0, 1) := dk_42 (dk_at dksX8_copy_6 23 rfl rfl)
theorem dX8_copy_164 : decode cX8_copy 164 = .ok (.getfield 184, 3) := dk_180 0 184 (dk_at dksX8_copy_7 0 rfl rfl)
theorem dX8_copy_167 : decode cX8_copy 167 = .ok (.iload 6, 2) := dk_21 6 (dk_at dksX8_copy_7 3 rfl rfl)
theorem dX8_copy_169 : decode cX8_copy 169 = .ok (.iaload, 1) := dk_46 (dk_at dksX8_copy_7 5 rfl rfl)
theorem dX8_copy_170 : decode cX8_copy 170 = .ok (.iastore, 1) := dk_79 (dk_at dksX8_copy_7 6 rfl rfl)
theorem dX8_copy_171 : decode cX8_copy 171 = .ok (.iinc 6 1, 3) := dk_132 6 1 (dk_at dksX8_copy_7 7 rfl rfl)
theorem dX8_copy_174 : decode cX8_copy 174 = .ok (.goto (-32), 3) := dk_167 255 224 (dk_at dksX8_copy_7 10 rfl rfl)
theorem dX8_copy_177 : decode cX8_copy 177 = .ok (.iload 5, 2) := dk_21 5 (dk_at dksX8_copy_7 13 rfl rfl)
theorem dX8_copy_179 : decode cX8_copy 179 = .ok (.ireturn, 1) := dk_172 (dk_at dksX8_copy_7 15 rfl rfl)
abbrev cX8_nights : ByteArray := prog_16_method_89_code
def yX8_nights : MethodName := ⟨RX8, "nights", "(IIII)I"⟩
def dkwX8_nights_6 : List UInt8 := [132, 6, 1, 167, 255, 178, 21, 5, 172]
abbrev dktX8_nights_6 : List UInt8 := dkwX8_nights_6 ++ []
def dkwX8_nights_5 : List UInt8 := [153, 0, 24, 42, 180, 0, 11, 16, 60, 160, 0, 6, 167, 0, 12, 42, 21, 7, 182, 0, 41, 132, 5, 1]
abbrev dktX8_nights_5 : List UInt8 := dkwX8_nights_5 ++ dktX8_nights_6
def dkwX8_nights_4 : List UInt8 := [172, 42, 180, 0, 181, 16, 40, 27, 104, 29, 96, 21, 6, 96, 46, 54, 7, 42, 21, 7, 182, 0, 37]
abbrev dktX8_nights_4 : List UInt8 := dkwX8_nights_4 ++ dktX8_nights_5
def dkwX8_nights_3 : List UInt8 := [162, 0, 77, 29, 155, 0, 18, 29, 42, 180, 0, 178, 27, 46, 21, 6, 100, 4, 100, 164, 0, 6, 16, 244]
abbrev dktX8_nights_3 : List UInt8 := dkwX8_nights_3 ++ dktX8_nights_4
def dkwX8_nights_2 : List UInt8 := [180, 0, 175, 27, 46, 28, 159, 0, 6, 16, 243, 172, 3, 54, 5, 3, 54, 6, 21, 6, 21, 4]
abbrev dktX8_nights_2 : List UInt8 := dkwX8_nights_2 ++ dktX8_nights_3
def dkwX8_nights_1 : List UInt8 := [182, 0, 7, 154, 0, 6, 16, 254, 172, 42, 180, 0, 175, 27, 46, 156, 0, 6, 16, 245, 172, 42]
abbrev dktX8_nights_1 : List UInt8 := dkwX8_nights_1 ++ dktX8_nights_2
def dkwX8_nights_0 : List UInt8 := [42, 27, 182, 1, 104, 153, 0, 25, 42, 28, 3, 5, 182, 0, 7, 153, 0, 15, 42, 21, 4, 3, 16, 20]
abbrev dktX8_nights_0 : List UInt8 := dkwX8_nights_0 ++ dktX8_nights_1
theorem dksX8_nights_0 : cX8_nights.data.toList.drop 0 = dktX8_nights_0 := by decide +kernel
theorem dksX8_nights_1 : cX8_nights.data.toList.drop 24 = dktX8_nights_1 := dk_seg dksX8_nights_0 24 rfl rfl
theorem dksX8_nights_2 : cX8_nights.data.toList.drop 46 = dktX8_nights_2 := dk_seg dksX8_nights_1 22 rfl rfl
theorem dksX8_nights_3 : cX8_nights.data.toList.drop 68 = dktX8_nights_3 := dk_seg dksX8_nights_2 22 rfl rfl
theorem dksX8_nights_4 : cX8_nights.data.toList.drop 92 = dktX8_nights_4 := dk_seg dksX8_nights_3 24 rfl rfl
theorem dksX8_nights_5 : cX8_nights.data.toList.drop 115 = dktX8_nights_5 := dk_seg dksX8_nights_4 23 rfl rfl
theorem dksX8_nights_6 : cX8_nights.data.toList.drop 139 = dktX8_nights_6 := dk_seg dksX8_nights_5 24 rfl rfl
theorem dX8_nights_0 : decode cX8_nights 0 = .ok (.aload_n 0, 1) := dk_42 (dk_at dksX8_nights_0 0 rfl rfl)
theorem dX8_nights_1 : decode cX8_nights 1 = .ok (.iload_n 1, 1) := dk_27 (dk_at dksX8_nights_0 1 rfl rfl)
theorem dX8_nights_2 : decode cX8_nights 2 = .ok (.invokevirtual 360, 3) := dk_182 1 104 (dk_at dksX8_nights_0 2 rfl rfl)
theorem dX8_nights_5 : decode cX8_nights 5 = .ok (.ifCond .eq 25, 3) := dk_153 0 25 (dk_at dksX8_nights_0 5 rfl rfl)
theorem dX8_nights_8 : decode cX8_nights 8 = .ok (.aload_n 0, 1) := dk_42 (dk_at dksX8_nights_0 8 rfl rfl)
theorem dX8_nights_9 : decode cX8_nights 9 = .ok (.iload_n 2, 1) := dk_28 (dk_at dksX8_nights_0 9 rfl rfl)
theorem dX8_nights_10 : decode cX8_nights 10 = .ok (.iconst 0, 1) := dk_3 (dk_at dksX8_nights_0 10 rfl rfl)
theorem dX8_nights_11 : decode cX8_nights 11 = .ok (.iconst 2, 1) := dk_5 (dk_at dksX8_nights_0 11 rfl rfl)
theorem dX8_nights_12 : decode cX8_nights 12 = .ok (.invokevirtual 7, 3) := dk_182 0 7 (dk_at dksX8_nights_0 12 rfl rfl)
theorem dX8_nights_15 : decode cX8_nights 15 = .ok (.ifCond .eq 15, 3) := dk_153 0 15 (dk_at dksX8_nights_0 15 rfl rfl)
theorem dX8_nights_18 : decode cX8_nights 18 = .ok (.aload_n 0, 1) := dk_42 (dk_at dksX8_nights_0 18 rfl rfl)
theorem dX8_nights_19 : decode cX8_nights 19 = .ok (.iload 4, 2) := dk_21 4 (dk_at dksX8_nights_0 19 rfl rfl)
theorem dX8_nights_21 : decode cX8_nights 21 = .ok (.iconst 0, 1) := dk_3 (dk_at dksX8_nights_0 21 rfl rfl)
theorem dX8_nights_22 : decode cX8_nights 22 = .ok (.bipush 20, 2) := dk_16 20 (dk_at dksX8_nights_0 22 rfl rfl)
theorem dX8_nights_24 : decode cX8_nights 24 = .ok (.invokevirtual 7, 3) := dk_182 0 7 (dk_at dksX8_nights_1 0 rfl rfl)
theorem dX8_nights_27 : decode cX8_nights 27 = .ok (.ifCond .ne 6, 3) := dk_154 0 6 (dk_at dksX8_nights_1 3 rfl rfl)
theorem dX8_nights_30 : decode cX8_nights 30 = .ok (.bipush (-2), 2) := dk_16 254 (dk_at dksX8_nights_1 6 rfl rfl)
theorem dX8_nights_32 : decode cX8_nights 32 = .ok (.ireturn, 1) := dk_172 (dk_at dksX8_nights_1 8 rfl rfl)
theorem dX8_nights_33 : decode cX8_nights 33 = .ok (.aload_n 0, 1) := dk_42 (dk_at dksX8_nights_1 9 rfl rfl)
theorem dX8_nights_34 : decode cX8_nights 34 = .ok (.getfield 175, 3) := dk_180 0 175 (dk_at dksX8_nights_1 10 rfl rfl)
theorem dX8_nights_37 : decode cX8_nights 37 = .ok (.iload_n 1, 1) := dk_27 (dk_at dksX8_nights_1 13 rfl rfl)
theorem dX8_nights_38 : decode cX8_nights 38 = .ok (.iaload, 1) := dk_46 (dk_at dksX8_nights_1 14 rfl rfl)
theorem dX8_nights_39 : decode cX8_nights 39 = .ok (.ifCond .ge 6, 3) := dk_156 0 6 (dk_at dksX8_nights_1 15 rfl rfl)
theorem dX8_nights_42 : decode cX8_nights 42 = .ok (.bipush (-11), 2) := dk_16 245 (dk_at dksX8_nights_1 18 rfl rfl)
theorem dX8_nights_44 : decode cX8_nights 44 = .ok (.ireturn, 1) := dk_172 (dk_at dksX8_nights_1 20 rfl rfl)
theorem dX8_nights_45 : decode cX8_nights 45 = .ok (.aload_n 0, 1) := dk_42 (dk_at dksX8_nights_1 21 rfl rfl)
theorem dX8_nights_46 : decode cX8_nights 46 = .ok (.getfield 175, 3) := dk_180 0 175 (dk_at dksX8_nights_2 0 rfl rfl)
theorem dX8_nights_49 : decode cX8_nights 49 = .ok (.iload_n 1, 1) := dk_27 (dk_at dksX8_nights_2 3 rfl rfl)
theorem dX8_nights_50 : decode cX8_nights 50 = .ok (.iaload, 1) := dk_46 (dk_at dksX8_nights_2 4 rfl rfl)
theorem dX8_nights_51 : decode cX8_nights 51 = .ok (.iload_n 2, 1) := dk_28 (dk_at dksX8_nights_2 5 rfl rfl)
theorem dX8_nights_52 : decode cX8_nights 52 = .ok (.if_icmp .eq 6, 3) := dk_159 0 6 (dk_at dksX8_nights_2 6 rfl rfl)
theorem dX8_nights_55 : decode cX8_nights 55 = .ok (.bipush (-13), 2) := dk_16 243 (dk_at dksX8_nights_2 9 rfl rfl)
theorem dX8_nights_57 : decode cX8_nights 57 = .ok (.ireturn, 1) := dk_172 (dk_at dksX8_nights_2 11 rfl rfl)
theorem dX8_nights_58 : decode cX8_nights 58 = .ok (.iconst 0, 1) := dk_3 (dk_at dksX8_nights_2 12 rfl rfl)
theorem dX8_nights_59 : decode cX8_nights 59 = .ok (.istore 5, 2) := dk_54 5 (dk_at dksX8_nights_2 13 rfl rfl)
theorem dX8_nights_61 : decode cX8_nights 61 = .ok (.iconst 0, 1) := dk_3 (dk_at dksX8_nights_2 15 rfl rfl)
theorem dX8_nights_62 : decode cX8_nights 62 = .ok (.istore 6, 2) := dk_54 6 (dk_at dksX8_nights_2 16 rfl rfl)
theorem dX8_nights_64 : decode cX8_nights 64 = .ok (.iload 6, 2) := dk_21 6 (dk_at dksX8_nights_2 18 rfl rfl)
theorem dX8_nights_66 : decode cX8_nights 66 = .ok (.iload 4, 2) := dk_21 4 (dk_at dksX8_nights_2 20 rfl rfl)
theorem dX8_nights_68 : decode cX8_nights 68 = .ok (.if_icmp .ge 77, 3) := dk_162 0 77 (dk_at dksX8_nights_3 0 rfl rfl)
theorem dX8_nights_71 : decode cX8_nights 71 = .ok (.iload_n 3, 1) := dk_29 (dk_at dksX8_nights_3 3 rfl rfl)
theorem dX8_nights_72 : decode cX8_nights 72 = .ok (.ifCond .lt 18, 3) := dk_155 0 18 (dk_at dksX8_nights_3 4 rfl rfl)
theorem dX8_nights_75 : decode cX8_nights 75 = .ok (.iload_n 3, 1) := dk_29 (dk_at dksX8_nights_3 7 rfl rfl)
theorem dX8_nights_76 : decode cX8_nights 76 = .ok (.aload_n 0, 1) := dk_42 (dk_at dksX8_nights_3 8 rfl rfl)
theorem dX8_nights_77 : decode cX8_nights 77 = .ok (.getfield 178, 3) := dk_180 0 178 (dk_at dksX8_nights_3 9 rfl rfl)
theorem dX8_nights_80 : decode cX8_nights 80 = .ok (.iload_n 1, 1) := dk_27 (dk_at dksX8_nights_3 12 rfl rfl)
theorem dX8_nights_81 : decode cX8_nights 81 = .ok (.iaload, 1) := dk_46 (dk_at dksX8_nights_3 13 rfl rfl)
theorem dX8_nights_82 : decode cX8_nights 82 = .ok (.iload 6, 2) := dk_21 6 (dk_at dksX8_nights_3 14 rfl rfl)
theorem dX8_nights_84 : decode cX8_nights 84 = .ok (.isub, 1) := dk_100 (dk_at dksX8_nights_3 16 rfl rfl)
theorem dX8_nights_85 : decode cX8_nights 85 = .ok (.iconst 1, 1) := dk_4 (dk_at dksX8_nights_3 17 rfl rfl)
theorem dX8_nights_86 : decode cX8_nights 86 = .ok (.isub, 1) := dk_100 (dk_at dksX8_nights_3 18 rfl rfl)
theorem dX8_nights_87 : decode cX8_nights 87 = .ok (.if_icmp .le 6, 3) := dk_164 0 6 (dk_at dksX8_nights_3 19 rfl rfl)
theorem dX8_nights_90 : decode cX8_nights 90 = .ok (.bipush (-12), 2) := dk_16 244 (dk_at dksX8_nights_3 22 rfl rfl)
theorem dX8_nights_92 : decode cX8_nights 92 = .ok (.ireturn, 1) := dk_172 (dk_at dksX8_nights_4 0 rfl rfl)
theorem dX8_nights_93 : decode cX8_nights 93 = .ok (.aload_n 0, 1) := dk_42 (dk_at dksX8_nights_4 1 rfl rfl)
theorem dX8_nights_94 : decode cX8_nights 94 = .ok (.getfield 181, 3) := dk_180 0 181 (dk_at dksX8_nights_4 2 rfl rfl)
theorem dX8_nights_97 : decode cX8_nights 97 = .ok (.bipush 40, 2) := dk_16 40 (dk_at dksX8_nights_4 5 rfl rfl)
theorem dX8_nights_99 : decode cX8_nights 99 = .ok (.iload_n 1, 1) := dk_27 (dk_at dksX8_nights_4 7 rfl rfl)
theorem dX8_nights_100 : decode cX8_nights 100 = .ok (.imul, 1) := dk_104 (dk_at dksX8_nights_4 8 rfl rfl)
theorem dX8_nights_101 : decode cX8_nights 101 = .ok (.iload_n 3, 1) := dk_29 (dk_at dksX8_nights_4 9 rfl rfl)
theorem dX8_nights_102 : decode cX8_nights 102 = .ok (.iadd, 1) := dk_96 (dk_at dksX8_nights_4 10 rfl rfl)
theorem dX8_nights_103 : decode cX8_nights 103 = .ok (.iload 6, 2) := dk_21 6 (dk_at dksX8_nights_4 11 rfl rfl)
theorem dX8_nights_105 : decode cX8_nights 105 = .ok (.iadd, 1) := dk_96 (dk_at dksX8_nights_4 13 rfl rfl)
theorem dX8_nights_106 : decode cX8_nights 106 = .ok (.iaload, 1) := dk_46 (dk_at dksX8_nights_4 14 rfl rfl)
theorem dX8_nights_107 : decode cX8_nights 107 = .ok (.istore 7, 2) := dk_54 7 (dk_at dksX8_nights_4 15 rfl rfl)
theorem dX8_nights_109 : decode cX8_nights 109 = .ok (.aload_n 0, 1) := dk_42 (dk_at dksX8_nights_4 17 rfl rfl)
theorem dX8_nights_110 : decode cX8_nights 110 = .ok (.iload 7, 2) := dk_21 7 (dk_at dksX8_nights_4 18 rfl rfl)
theorem dX8_nights_112 : decode cX8_nights 112 = .ok (.invokevirtual 37, 3) := dk_182 0 37 (dk_at dksX8_nights_4 20 rfl rfl)
theorem dX8_nights_115 : decode cX8_nights 115 = .ok (.ifCond .eq 24, 3) := dk_153 0 24 (dk_at dksX8_nights_5 0 rfl rfl)
theorem dX8_nights_118 : decode cX8_nights 118 = .ok (.aload_n 0, 1) := dk_42 (dk_at dksX8_nights_5 3 rfl rfl)
theorem dX8_nights_119 : decode cX8_nights 119 = .ok (.getfield 11, 3) := dk_180 0 11 (dk_at dksX8_nights_5 4 rfl rfl)
theorem dX8_nights_122 : decode cX8_nights 122 = .ok (.bipush 60, 2) := dk_16 60 (dk_at dksX8_nights_5 7 rfl rfl)
theorem dX8_nights_124 : decode cX8_nights 124 = .ok (.if_icmp .ne 6, 3) := dk_160 0 6 (dk_at dksX8_nights_5 9 rfl rfl)
theorem dX8_nights_127 : decode cX8_nights 127 = .ok (.goto 12, 3) := dk_167 0 12 (dk_at dksX8_nights_5 12 rfl rfl)
theorem dX8_nights_130 : decode cX8_nights 130 = .ok (.aload_n 0, 1) := dk_42 (dk_at dksX8_nights_5 15 rfl rfl)
theorem dX8_nights_131 : decode cX8_nights 131 = .ok (.iload 7, 2) := dk_21 7 (dk_at dksX8_nights_5 16 rfl rfl)
theorem dX8_nights_133 : decode cX8_nights 133 = .ok (.invokevirtual 41, 3) := dk_182 0 41 (dk_at dksX8_nights_5 18 rfl rfl)
theorem dX8_nights_136 : decode cX8_nights 136 = .ok (.iinc 5 1, 3) := dk_132 5 1 (dk_at dksX8_nights_5 21 rfl rfl)
theorem dX8_nights_139 : decode cX8_nights 139 = .ok (.iinc 6 1, 3) := dk_132 6 1 (dk_at dksX8_nights_6 0 rfl rfl)
theorem dX8_nights_142 : decode cX8_nights 142 = .ok (.goto (-78), 3) := dk_167 255 178 (dk_at dksX8_nights_6 3 rfl rfl)
theorem dX8_nights_145 : decode cX8_nights 145 = .ok (.iload 5, 2) := dk_21 5 (dk_at dksX8_nights_6 6 rfl rfl)
theorem dX8_nights_147 : decode cX8_nights 147 = .ok (.ireturn, 1) := dk_172 (dk_at dksX8_nights_6 8 rfl rfl)
abbrev cX8_taken : ByteArray := prog_16_method_91_code
def yX8_taken : MethodName := ⟨RX8, "taken", "(II)I"⟩
def dkwX8_taken_2 : List UInt8 := [16, 243, 172]
abbrev dktX8_taken_2 : List UInt8 := dkwX8_taken_2 ++ []
def dkwX8_taken_1 : List UInt8 := [42, 42, 180, 0, 45, 27, 46, 28, 182, 1, 107, 153, 0, 12, 42, 180, 0, 48, 27, 46, 167, 0, 5]
abbrev dktX8_taken_1 : List UInt8 := dkwX8_taken_1 ++ dktX8_taken_2
def dkwX8_taken_0 : List UInt8 := [42, 28, 3, 8, 182, 0, 7, 154, 0, 6, 16, 254, 172, 42, 27, 182, 1, 25, 154, 0, 6, 16, 245, 172]
abbrev dktX8_taken_0 : List UInt8 := dkwX8_taken_0 ++ dktX8_taken_1
theorem dksX8_taken_0 : cX8_taken.data.toList.drop 0 = dktX8_taken_0 := by decide +kernel
theorem dksX8_taken_1 : cX8_taken.data.toList.drop 24 = dktX8_taken_1 := dk_seg dksX8_taken_0 24 rfl rfl
theorem dksX8_taken_2 : cX8_taken.data.toList.drop 47 = dktX8_taken_2 := dk_seg dksX8_taken_1 23 rfl rfl
theorem dX8_taken_0 : decode cX8_taken 0 = .ok (.aload_n 0, 1) := dk_42 (dk_at dksX8_taken_0 0 rfl rfl)
theorem dX8_taken_1 : decode cX8_taken 1 = .ok (.iload_n 2, 1) := dk_28 (dk_at dksX8_taken_0 1 rfl rfl)
theorem dX8_taken_2 : decode cX8_taken 2 = .ok (.iconst 0, 1) := dk_3 (dk_at dksX8_taken_0 2 rfl rfl)
theorem dX8_taken_3 : decode cX8_taken 3 = .ok (.iconst 5, 1) := dk_8 (dk_at dksX8_taken_0 3 rfl rfl)
theorem dX8_taken_4 : decode cX8_taken 4 = .ok (.invokevirtual 7, 3) := dk_182 0 7 (dk_at dksX8_taken_0 4 rfl rfl)
theorem dX8_taken_7 : decode cX8_taken 7 = .ok (.ifCond .ne 6, 3) := dk_154 0 6 (dk_at dksX8_taken_0 7 rfl rfl)
theorem dX8_taken_10 : decode cX8_taken 10 = .ok (.bipush (-2), 2) := dk_16 254 (dk_at dksX8_taken_0 10 rfl rfl)
theorem dX8_taken_12 : decode cX8_taken 12 = .ok (.ireturn, 1) := dk_172 (dk_at dksX8_taken_0 12 rfl rfl)
theorem dX8_taken_13 : decode cX8_taken 13 = .ok (.aload_n 0, 1) := dk_42 (dk_at dksX8_taken_0 13 rfl rfl)
theorem dX8_taken_14 : decode cX8_taken 14 = .ok (.iload_n 1, 1) := dk_27 (dk_at dksX8_taken_0 14 rfl rfl)
theorem dX8_taken_15 : decode cX8_taken 15 = .ok (.invokevirtual 281, 3) := dk_182 1 25 (dk_at dksX8_taken_0 15 rfl rfl)
theorem dX8_taken_18 : decode cX8_taken 18 = .ok (.ifCond .ne 6, 3) := dk_154 0 6 (dk_at dksX8_taken_0 18 rfl rfl)
theorem dX8_taken_21 : decode cX8_taken 21 = .ok (.bipush (-11), 2) := dk_16 245 (dk_at dksX8_taken_0 21 rfl rfl)
theorem dX8_taken_23 : decode cX8_taken 23 = .ok (.ireturn, 1) := dk_172 (dk_at dksX8_taken_0 23 rfl rfl)
theorem dX8_taken_24 : decode cX8_taken 24 = .ok (.aload_n 0, 1) := dk_42 (dk_at dksX8_taken_1 0 rfl rfl)
theorem dX8_taken_25 : decode cX8_taken 25 = .ok (.aload_n 0, 1) := dk_42 (dk_at dksX8_taken_1 1 rfl rfl)
theorem dX8_taken_26 : decode cX8_taken 26 = .ok (.getfield 45, 3) := dk_180 0 45 (dk_at dksX8_taken_1 2 rfl rfl)
theorem dX8_taken_29 : decode cX8_taken 29 = .ok (.iload_n 1, 1) := dk_27 (dk_at dksX8_taken_1 5 rfl rfl)
theorem dX8_taken_30 : decode cX8_taken 30 = .ok (.iaload, 1) := dk_46 (dk_at dksX8_taken_1 6 rfl rfl)
theorem dX8_taken_31 : decode cX8_taken 31 = .ok (.iload_n 2, 1) := dk_28 (dk_at dksX8_taken_1 7 rfl rfl)
theorem dX8_taken_32 : decode cX8_taken 32 = .ok (.invokevirtual 363, 3) := dk_182 1 107 (dk_at dksX8_taken_1 8 rfl rfl)
theorem dX8_taken_35 : decode cX8_taken 35 = .ok (.ifCond .eq 12, 3) := dk_153 0 12 (dk_at dksX8_taken_1 11 rfl rfl)
theorem dX8_taken_38 : decode cX8_taken 38 = .ok (.aload_n 0, 1) := dk_42 (dk_at dksX8_taken_1 14 rfl rfl)
theorem dX8_taken_39 : decode cX8_taken 39 = .ok (.getfield 48, 3) := dk_180 0 48 (dk_at dksX8_taken_1 15 rfl rfl)
theorem dX8_taken_42 : decode cX8_taken 42 = .ok (.iload_n 1, 1) := dk_27 (dk_at dksX8_taken_1 18 rfl rfl)
theorem dX8_taken_43 : decode cX8_taken 43 = .ok (.iaload, 1) := dk_46 (dk_at dksX8_taken_1 19 rfl rfl)
theorem dX8_taken_44 : decode cX8_taken 44 = .ok (.goto 5, 3) := dk_167 0 5 (dk_at dksX8_taken_1 20 rfl rfl)
theorem dX8_taken_47 : decode cX8_taken 47 = .ok (.bipush (-13), 2) := dk_16 243 (dk_at dksX8_taken_2 0 rfl rfl)
theorem dX8_taken_49 : decode cX8_taken 49 = .ok (.ireturn, 1) := dk_172 (dk_at dksX8_taken_2 2 rfl rfl)
abbrev cX8_isUnder : ByteArray := prog_16_method_90_code
def yX8_isUnder : MethodName := ⟨RX8, "isUnder", "(II)Z"⟩
def dkwX8_isUnder_1 : List UInt8 := [28, 5, 160, 0, 17, 42, 27, 6, 7, 182, 0, 7, 153, 0, 7, 4, 167, 0, 4, 3, 172]
abbrev dktX8_isUnder_1 : List UInt8 := dkwX8_isUnder_1 ++ []
def dkwX8_isUnder_0 : List UInt8 := [28, 153, 0, 8, 27, 28, 160, 0, 5, 4, 172, 28, 4, 160, 0, 11, 42, 27, 5, 7, 182, 0, 7, 172]
abbrev dktX8_isUnder_0 : List UInt8 := dkwX8_isUnder_0 ++ dktX8_isUnder_1
theorem dksX8_isUnder_0 : cX8_isUnder.data.toList.drop 0 = dktX8_isUnder_0 := by decide +kernel
theorem dksX8_isUnder_1 : cX8_isUnder.data.toList.drop 24 = dktX8_isUnder_1 := dk_seg dksX8_isUnder_0 24 rfl rfl
theorem dX8_isUnder_0 : decode cX8_isUnder 0 = .ok (.iload_n 2, 1) := dk_28 (dk_at dksX8_isUnder_0 0 rfl rfl)
theorem dX8_isUnder_1 : decode cX8_isUnder 1 = .ok (.ifCond .eq 8, 3) := dk_153 0 8 (dk_at dksX8_isUnder_0 1 rfl rfl)
theorem dX8_isUnder_4 : decode cX8_isUnder 4 = .ok (.iload_n 1, 1) := dk_27 (dk_at dksX8_isUnder_0 4 rfl rfl)
theorem dX8_isUnder_5 : decode cX8_isUnder 5 = .ok (.iload_n 2, 1) := dk_28 (dk_at dksX8_isUnder_0 5 rfl rfl)
theorem dX8_isUnder_6 : decode cX8_isUnder 6 = .ok (.if_icmp .ne 5, 3) := dk_160 0 5 (dk_at dksX8_isUnder_0 6 rfl rfl)
theorem dX8_isUnder_9 : decode cX8_isUnder 9 = .ok (.iconst 1, 1) := dk_4 (dk_at dksX8_isUnder_0 9 rfl rfl)
theorem dX8_isUnder_10 : decode cX8_isUnder 10 = .ok (.ireturn, 1) := dk_172 (dk_at dksX8_isUnder_0 10 rfl rfl)
theorem dX8_isUnder_11 : decode cX8_isUnder 11 = .ok (.iload_n 2, 1) := dk_28 (dk_at dksX8_isUnder_0 11 rfl rfl)
theorem dX8_isUnder_12 : decode cX8_isUnder 12 = .ok (.iconst 1, 1) := dk_4 (dk_at dksX8_isUnder_0 12 rfl rfl)
theorem dX8_isUnder_13 : decode cX8_isUnder 13 = .ok (.if_icmp .ne 11, 3) := dk_160 0 11 (dk_at dksX8_isUnder_0 13 rfl rfl)
theorem dX8_isUnder_16 : decode cX8_isUnder 16 = .ok (.aload_n 0, 1) := dk_42 (dk_at dksX8_isUnder_0 16 rfl rfl)
theorem dX8_isUnder_17 : decode cX8_isUnder 17 = .ok (.iload_n 1, 1) := dk_27 (dk_at dksX8_isUnder_0 17 rfl rfl)
theorem dX8_isUnder_18 : decode cX8_isUnder 18 = .ok (.iconst 2, 1) := dk_5 (dk_at dksX8_isUnder_0 18 rfl rfl)
theorem dX8_isUnder_19 : decode cX8_isUnder 19 = .ok (.iconst 4, 1) := dk_7 (dk_at dksX8_isUnder_0 19 rfl rfl)
theorem dX8_isUnder_20 : decode cX8_isUnder 20 = .ok (.invokevirtual 7, 3) := dk_182 0 7 (dk_at dksX8_isUnder_0 20 rfl rfl)
theorem dX8_isUnder_23 : decode cX8_isUnder 23 = .ok (.ireturn, 1) := dk_172 (dk_at dksX8_isUnder_0 23 rfl rfl)
theorem dX8_isUnder_24 : decode cX8_isUnder 24 = .ok (.iload_n 2, 1) := dk_28 (dk_at dksX8_isUnder_1 0 rfl rfl)
theorem dX8_isUnder_25 : decode cX8_isUnder 25 = .ok (.iconst 2, 1) := dk_5 (dk_at dksX8_isUnder_1 1 rfl rfl)
theorem dX8_isUnder_26 : decode cX8_isUnder 26 = .ok (.if_icmp .ne 17, 3) := dk_160 0 17 (dk_at dksX8_isUnder_1 2 rfl rfl)
theorem dX8_isUnder_29 : decode cX8_isUnder 29 = .ok (.aload_n 0, 1) := dk_42 (dk_at dksX8_isUnder_1 5 rfl rfl)
theorem dX8_isUnder_30 : decode cX8_isUnder 30 = .ok (.iload_n 1, 1) := dk_27 (dk_at dksX8_isUnder_1 6 rfl rfl)
theorem dX8_isUnder_31 : decode cX8_isUnder 31 = .ok (.iconst 3, 1) := dk_6 (dk_at dksX8_isUnder_1 7 rfl rfl)
theorem dX8_isUnder_32 : decode cX8_isUnder 32 = .ok (.iconst 4, 1) := dk_7 (dk_at dksX8_isUnder_1 8 rfl rfl)
theorem dX8_isUnder_33 : decode cX8_isUnder 33 = .ok (.invokevirtual 7, 3) := dk_182 0 7 (dk_at dksX8_isUnder_1 9 rfl rfl)
theorem dX8_isUnder_36 : decode cX8_isUnder 36 = .ok (.ifCond .eq 7, 3) := dk_153 0 7 (dk_at dksX8_isUnder_1 12 rfl rfl)
theorem dX8_isUnder_39 : decode cX8_isUnder 39 = .ok (.iconst 1, 1) := dk_4 (dk_at dksX8_isUnder_1 15 rfl rfl)
theorem dX8_isUnder_40 : decode cX8_isUnder 40 = .ok (.goto 4, 3) := dk_167 0 4 (dk_at dksX8_isUnder_1 16 rfl rfl)
theorem dX8_isUnder_43 : decode cX8_isUnder 43 = .ok (.iconst 0, 1) := dk_3 (dk_at dksX8_isUnder_1 19 rfl rfl)
theorem dX8_isUnder_44 : decode cX8_isUnder 44 = .ok (.ireturn, 1) := dk_172 (dk_at dksX8_isUnder_1 20 rfl rfl)
theorem q123 : (Jvm.Cond.initialized "WalkingStonesModel") ∈ lw_all := lw_g (lw_at lw_m1 18 rfl) rfl
theorem q1280 : (Jvm.Cond.instanceMethod ({ cls := "WalkingStonesModel", name := "stone", desc := "(II)I" } : Jvm.MethodName)) ∈ lw_all := lw_g (lw_at lw_m5 215 rfl) rfl
theorem q1281 : (Jvm.Cond.selects "WalkingStonesModel" ({ cls := "WalkingStonesModel", name := "stone", desc := "(II)I" } : Jvm.MethodName) ({ cls := "WalkingStonesModel", name := "stone", desc := "(II)I" } : Jvm.MethodName)) ∈ lw_all := lw_g (lw_at lw_m5 216 rfl) rfl
theorem q1282 : (Jvm.Cond.code ({ cls := "WalkingStonesModel", name := "stone", desc := "(II)I" } : Jvm.MethodName) prog_16_method_5_code (4 : Nat) (Option.some Jvm.ClassFile.FieldType.int)) ∈ lw_all := lw_g (lw_at lw_m5 217 rfl) rfl
theorem q1283 : (Jvm.Cond.methodLink "WalkingStonesModel" (7 : Nat) ({ cls := "WalkingStonesModel", name := "in", desc := "(III)Z" } : Jvm.MethodName)) ∈ lw_all := lw_g (lw_at lw_m5 218 rfl) rfl
theorem q1284 : (Jvm.Cond.privateMethod ({ cls := "WalkingStonesModel", name := "in", desc := "(III)Z" } : Jvm.MethodName)) ∈ lw_tbl := lw_at lw_m5 219 rfl
theorem q1285 : (Jvm.Cond.instanceMethod ({ cls := "WalkingStonesModel", name := "in", desc := "(III)Z" } : Jvm.MethodName)) ∈ lw_all := lw_g (lw_at lw_m5 220 rfl) rfl
theorem q1286 : (Jvm.Cond.instantiable "WalkingStonesModel" (54 : Nat)) ∈ lw_all := lw_g (lw_at lw_m5 221 rfl) rfl
theorem q1287 : (Jvm.Cond.code ({ cls := "WalkingStonesModel", name := "in", desc := "(III)Z" } : Jvm.MethodName) prog_16_method_1_code (4 : Nat) (Option.some Jvm.ClassFile.FieldType.boolean)) ∈ lw_all := lw_g (lw_at lw_m5 222 rfl) rfl
theorem q1289 : (Jvm.Cond.instanceMethod ({ cls := "WalkingStonesModel", name := "night", desc := "(I)I" } : Jvm.MethodName)) ∈ lw_all := lw_g (lw_at lw_m5 224 rfl) rfl
theorem q1290 : (Jvm.Cond.selects "WalkingStonesModel" ({ cls := "WalkingStonesModel", name := "night", desc := "(I)I" } : Jvm.MethodName) ({ cls := "WalkingStonesModel", name := "night", desc := "(I)I" } : Jvm.MethodName)) ∈ lw_all := lw_g (lw_at lw_m5 225 rfl) rfl
theorem q1291 : (Jvm.Cond.code ({ cls := "WalkingStonesModel", name := "night", desc := "(I)I" } : Jvm.MethodName) prog_16_method_8_code (2 : Nat) (Option.some Jvm.ClassFile.FieldType.int)) ∈ lw_all := lw_g (lw_at lw_m5 226 rfl) rfl
theorem q1292 : (Jvm.Cond.methodLink "WalkingStonesModel" (37 : Nat) ({ cls := "WalkingStonesModel", name := "isWeather", desc := "(I)Z" } : Jvm.MethodName)) ∈ lw_all := lw_g (lw_at lw_m5 227 rfl) rfl
theorem q1293 : (Jvm.Cond.privateMethod ({ cls := "WalkingStonesModel", name := "isWeather", desc := "(I)Z" } : Jvm.MethodName)) ∈ lw_tbl := lw_at lw_m5 228 rfl
theorem q1294 : (Jvm.Cond.instanceMethod ({ cls := "WalkingStonesModel", name := "isWeather", desc := "(I)Z" } : Jvm.MethodName)) ∈ lw_all := lw_g (lw_at lw_m5 229 rfl) rfl
theorem q1295 : (Jvm.Cond.code ({ cls := "WalkingStonesModel", name := "isWeather", desc := "(I)Z" } : Jvm.MethodName) prog_16_method_6_code (2 : Nat) (Option.some Jvm.ClassFile.FieldType.boolean)) ∈ lw_all := lw_g (lw_at lw_m5 230 rfl) rfl
theorem q1296 : (Jvm.Cond.constant "WalkingStonesModel" (24 : Nat) (99999 : Int32)) ∈ lw_all := lw_g (lw_at lw_m5 231 rfl) rfl
theorem q1297 : (Jvm.Cond.methodLink "WalkingStonesModel" (41 : Nat) ({ cls := "WalkingStonesModel", name := "comes", desc := "(I)V" } : Jvm.MethodName)) ∈ lw_all := lw_g (lw_at lw_m5 232 rfl) rfl
theorem q1298 : (Jvm.Cond.privateMethod ({ cls := "WalkingStonesModel", name := "comes", desc := "(I)V" } : Jvm.MethodName)) ∈ lw_tbl := lw_at lw_m5 233 rfl
theorem q1299 : (Jvm.Cond.instanceMethod ({ cls := "WalkingStonesModel", name := "comes", desc := "(I)V" } : Jvm.MethodName)) ∈ lw_all := lw_g (lw_at lw_m5 234 rfl) rfl
theorem q1300 : (Jvm.Cond.code ({ cls := "WalkingStonesModel", name := "comes", desc := "(I)V" } : Jvm.MethodName) prog_16_method_7_code (2 : Nat) (Option.none : Option Jvm.ClassFile.FieldType)) ∈ lw_all := lw_g (lw_at lw_m5 235 rfl) rfl
theorem q1302 : (Jvm.Cond.instanceMethod ({ cls := "WalkingStonesModel", name := "how", desc := "(II)I" } : Jvm.MethodName)) ∈ lw_all := lw_g (lw_at lw_m5 237 rfl) rfl
theorem q1303 : (Jvm.Cond.selects "WalkingStonesModel" ({ cls := "WalkingStonesModel", name := "how", desc := "(II)I" } : Jvm.MethodName) ({ cls := "WalkingStonesModel", name := "how", desc := "(II)I" } : Jvm.MethodName)) ∈ lw_all := lw_g (lw_at lw_m5 238 rfl) rfl
theorem q1304 : (Jvm.Cond.code ({ cls := "WalkingStonesModel", name := "how", desc := "(II)I" } : Jvm.MethodName) prog_16_method_9_code (3 : Nat) (Option.some Jvm.ClassFile.FieldType.int)) ∈ lw_all := lw_g (lw_at lw_m5 239 rfl) rfl
theorem q1306 : (Jvm.Cond.instanceMethod ({ cls := "WalkingStonesModel", name := "stoneTold", desc := "(II)I" } : Jvm.MethodName)) ∈ lw_all := lw_g (lw_at lw_m6 1 rfl) rfl
theorem q1307 : (Jvm.Cond.selects "WalkingStonesModel" ({ cls := "WalkingStonesModel", name := "stoneTold", desc := "(II)I" } : Jvm.MethodName) ({ cls := "WalkingStonesModel", name := "stoneTold", desc := "(II)I" } : Jvm.MethodName)) ∈ lw_all := lw_g (lw_at lw_m6 2 rfl) rfl
theorem q1308 : (Jvm.Cond.code ({ cls := "WalkingStonesModel", name := "stoneTold", desc := "(II)I" } : Jvm.MethodName) prog_16_method_10_code (3 : Nat) (Option.some Jvm.ClassFile.FieldType.int)) ∈ lw_all := lw_g (lw_at lw_m6 3 rfl) rfl
theorem q1309 : (Jvm.Cond.methodLink "WalkingStonesModel" (51 : Nat) ({ cls := "WalkingStonesModel", name := "isStone", desc := "(I)Z" } : Jvm.MethodName)) ∈ lw_all := lw_g (lw_at lw_m6 4 rfl) rfl
theorem q1310 : (Jvm.Cond.privateMethod ({ cls := "WalkingStonesModel", name := "isStone", desc := "(I)Z" } : Jvm.MethodName)) ∈ lw_tbl := lw_at lw_m6 5 rfl
theorem q1311 : (Jvm.Cond.instanceMethod ({ cls := "WalkingStonesModel", name := "isStone", desc := "(I)Z" } : Jvm.MethodName)) ∈ lw_all := lw_g (lw_at lw_m6 6 rfl) rfl
theorem q1312 : (Jvm.Cond.code ({ cls := "WalkingStonesModel", name := "isStone", desc := "(I)Z" } : Jvm.MethodName) prog_16_method_2_code (2 : Nat) (Option.some Jvm.ClassFile.FieldType.boolean)) ∈ lw_all := lw_g (lw_at lw_m6 7 rfl) rfl
theorem q1315 : (Jvm.Cond.instanceMethod ({ cls := "WalkingStonesModel", name := "<init>", desc := "()V" } : Jvm.MethodName)) ∈ lw_all := lw_g (lw_at lw_m6 10 rfl) rfl
theorem q1316 : (Jvm.Cond.code ({ cls := "WalkingStonesModel", name := "<init>", desc := "()V" } : Jvm.MethodName) prog_16_method_11_code (1 : Nat) (Option.none : Option Jvm.ClassFile.FieldType)) ∈ lw_all := lw_g (lw_at lw_m6 11 rfl) rfl
theorem q1317 : (Jvm.Cond.methodLink "WalkingStonesModel" (54 : Nat) ({ cls := "java/lang/Object", name := "<init>", desc := "()V" } : Jvm.MethodName)) ∈ lw_all := lw_g (lw_at lw_m6 12 rfl) rfl
theorem q1318 : (Jvm.Cond.fieldLink "WalkingStonesModel" (1 : Nat) "WalkingStonesModel" "stones" "I") ∈ lw_all := lw_g (lw_at lw_m6 13 rfl) rfl
theorem q1319 : (Jvm.Cond.fieldLink "WalkingStonesModel" (11 : Nat) "WalkingStonesModel" "nights" "I") ∈ lw_all := lw_g (lw_at lw_m6 14 rfl) rfl
theorem q1320 : (Jvm.Cond.fieldLink "WalkingStonesModel" (14 : Nat) "WalkingStonesModel" "hows" "I") ∈ lw_all := lw_g (lw_at lw_m6 15 rfl) rfl
theorem q1321 : (Jvm.Cond.fieldLink "WalkingStonesModel" (21 : Nat) "WalkingStonesModel" "weight" "[I") ∈ lw_all := lw_g (lw_at lw_m6 16 rfl) rfl
theorem q1322 : (Jvm.Cond.fieldLink "WalkingStonesModel" (17 : Nat) "WalkingStonesModel" "place" "[I") ∈ lw_all := lw_g (lw_at lw_m6 17 rfl) rfl
theorem q1323 : (Jvm.Cond.fieldLink "WalkingStonesModel" (25 : Nat) "WalkingStonesModel" "wet" "[I") ∈ lw_all := lw_g (lw_at lw_m6 18 rfl) rfl
theorem q1324 : (Jvm.Cond.fieldLink "WalkingStonesModel" (28 : Nat) "WalkingStonesModel" "ice" "[I") ∈ lw_all := lw_g (lw_at lw_m6 19 rfl) rfl
theorem q1325 : (Jvm.Cond.fieldLink "WalkingStonesModel" (31 : Nat) "WalkingStonesModel" "wind" "[I") ∈ lw_all := lw_g (lw_at lw_m6 20 rfl) rfl
theorem q1326 : (Jvm.Cond.fieldLink "WalkingStonesModel" (34 : Nat) "WalkingStonesModel" "way" "[I") ∈ lw_all := lw_g (lw_at lw_m6 21 rfl) rfl
theorem q1327 : (Jvm.Cond.fieldLink "WalkingStonesModel" (45 : Nat) "WalkingStonesModel" "kind" "[I") ∈ lw_all := lw_g (lw_at lw_m6 22 rfl) rfl
theorem q1328 : (Jvm.Cond.fieldLink "WalkingStonesModel" (48 : Nat) "WalkingStonesModel" "number" "[I") ∈ lw_all := lw_g (lw_at lw_m6 23 rfl) rfl
theorem q1329 : (Jvm.Cond.fieldLink "WalkingStonesModel" (60 : Nat) "WalkingStonesModel" "texts" "I") ∈ lw_all := lw_g (lw_at lw_m6 24 rfl) rfl
theorem q1330 : (Jvm.Cond.fieldLink "WalkingStonesModel" (63 : Nat) "WalkingStonesModel" "rule" "I") ∈ lw_all := lw_g (lw_at lw_m6 25 rfl) rfl
theorem q1331 : (Jvm.Cond.fieldLink "WalkingStonesModel" (66 : Nat) "WalkingStonesModel" "fed" "I") ∈ lw_all := lw_g (lw_at lw_m6 26 rfl) rfl
theorem q1332 : (Jvm.Cond.fieldLink "WalkingStonesModel" (69 : Nat) "WalkingStonesModel" "at" "I") ∈ lw_all := lw_g (lw_at lw_m6 27 rfl) rfl
theorem q1333 : (Jvm.Cond.fieldLink "WalkingStonesModel" (72 : Nat) "WalkingStonesModel" "token" "I") ∈ lw_all := lw_g (lw_at lw_m6 28 rfl) rfl
theorem q1334 : (Jvm.Cond.fieldLink "WalkingStonesModel" (75 : Nat) "WalkingStonesModel" "word" "I") ∈ lw_all := lw_g (lw_at lw_m6 29 rfl) rfl
theorem q1335 : (Jvm.Cond.fieldLink "WalkingStonesModel" (78 : Nat) "WalkingStonesModel" "size" "I") ∈ lw_all := lw_g (lw_at lw_m6 30 rfl) rfl
theorem q1336 : (Jvm.Cond.fieldLink "WalkingStonesModel" (81 : Nat) "WalkingStonesModel" "open" "I") ∈ lw_all := lw_g (lw_at lw_m6 31 rfl) rfl
theorem q1337 : (Jvm.Cond.fieldLink "WalkingStonesModel" (84 : Nat) "WalkingStonesModel" "waiting" "I") ∈ lw_all := lw_g (lw_at lw_m6 32 rfl) rfl
theorem q1338 : (Jvm.Cond.fieldLink "WalkingStonesModel" (87 : Nat) "WalkingStonesModel" "made" "I") ∈ lw_all := lw_g (lw_at lw_m6 33 rfl) rfl
theorem q1339 : (Jvm.Cond.fieldLink "WalkingStonesModel" (90 : Nat) "WalkingStonesModel" "tape" "[I") ∈ lw_all := lw_g (lw_at lw_m6 34 rfl) rfl
theorem q1340 : (Jvm.Cond.fieldLink "WalkingStonesModel" (93 : Nat) "WalkingStonesModel" "signs" "[I") ∈ lw_all := lw_g (lw_at lw_m6 35 rfl) rfl
theorem q1341 : (Jvm.Cond.fieldLink "WalkingStonesModel" (96 : Nat) "WalkingStonesModel" "tells" "[I") ∈ lw_all := lw_g (lw_at lw_m6 36 rfl) rfl
theorem q1342 : (Jvm.Cond.fieldLink "WalkingStonesModel" (99 : Nat) "WalkingStonesModel" "many" "[I") ∈ lw_all := lw_g (lw_at lw_m6 37 rfl) rfl
theorem q1343 : (Jvm.Cond.fieldLink "WalkingStonesModel" (102 : Nat) "WalkingStonesModel" "waits" "[I") ∈ lw_all := lw_g (lw_at lw_m6 38 rfl) rfl
theorem q1344 : (Jvm.Cond.fieldLink "WalkingStonesModel" (105 : Nat) "WalkingStonesModel" "pile" "[I") ∈ lw_all := lw_g (lw_at lw_m6 39 rfl) rfl
theorem q1345 : (Jvm.Cond.fieldLink "WalkingStonesModel" (108 : Nat) "WalkingStonesModel" "tried" "I") ∈ lw_all := lw_g (lw_at lw_m6 40 rfl) rfl
theorem q1346 : (Jvm.Cond.fieldLink "WalkingStonesModel" (111 : Nat) "WalkingStonesModel" "on" "[I") ∈ lw_all := lw_g (lw_at lw_m6 41 rfl) rfl
theorem q1347 : (Jvm.Cond.fieldLink "WalkingStonesModel" (114 : Nat) "WalkingStonesModel" "went" "[I") ∈ lw_all := lw_g (lw_at lw_m6 42 rfl) rfl
theorem q1348 : (Jvm.Cond.fieldLink "WalkingStonesModel" (117 : Nat) "WalkingStonesModel" "turns" "[I") ∈ lw_all := lw_g (lw_at lw_m6 43 rfl) rfl
theorem q1349 : (Jvm.Cond.fieldLink "WalkingStonesModel" (120 : Nat) "WalkingStonesModel" "lastWay" "[I") ∈ lw_all := lw_g (lw_at lw_m6 44 rfl) rfl
theorem q1350 : (Jvm.Cond.fieldLink "WalkingStonesModel" (123 : Nat) "WalkingStonesModel" "tracks" "I") ∈ lw_all := lw_g (lw_at lw_m6 45 rfl) rfl
theorem q1351 : (Jvm.Cond.fieldLink "WalkingStonesModel" (126 : Nat) "WalkingStonesModel" "trackStone" "[I") ∈ lw_all := lw_g (lw_at lw_m6 46 rfl) rfl
theorem q1352 : (Jvm.Cond.fieldLink "WalkingStonesModel" (129 : Nat) "WalkingStonesModel" "length" "[I") ∈ lw_all := lw_g (lw_at lw_m6 47 rfl) rfl
theorem q1353 : (Jvm.Cond.fieldLink "WalkingStonesModel" (132 : Nat) "WalkingStonesModel" "trackTurns" "[I") ∈ lw_all := lw_g (lw_at lw_m6 48 rfl) rfl
theorem q1354 : (Jvm.Cond.fieldLink "WalkingStonesModel" (135 : Nat) "WalkingStonesModel" "group" "[I") ∈ lw_all := lw_g (lw_at lw_m6 49 rfl) rfl
theorem q1355 : (Jvm.Cond.fieldLink "WalkingStonesModel" (138 : Nat) "WalkingStonesModel" "pegs" "I") ∈ lw_all := lw_g (lw_at lw_m6 50 rfl) rfl
theorem q1356 : (Jvm.Cond.fieldLink "WalkingStonesModel" (141 : Nat) "WalkingStonesModel" "peg" "[I") ∈ lw_all := lw_g (lw_at lw_m6 51 rfl) rfl
theorem q1357 : (Jvm.Cond.fieldLink "WalkingStonesModel" (144 : Nat) "WalkingStonesModel" "crosses" "I") ∈ lw_all := lw_g (lw_at lw_m6 52 rfl) rfl
theorem q1358 : (Jvm.Cond.fieldLink "WalkingStonesModel" (147 : Nat) "WalkingStonesModel" "over" "[I") ∈ lw_all := lw_g (lw_at lw_m6 53 rfl) rfl
theorem q1359 : (Jvm.Cond.fieldLink "WalkingStonesModel" (150 : Nat) "WalkingStonesModel" "under" "[I") ∈ lw_all := lw_g (lw_at lw_m6 54 rfl) rfl
theorem q1360 : (Jvm.Cond.fieldLink "WalkingStonesModel" (153 : Nat) "WalkingStonesModel" "hasImage" "Z") ∈ lw_all := lw_g (lw_at lw_m6 55 rfl) rfl
theorem q1361 : (Jvm.Cond.fieldLink "WalkingStonesModel" (157 : Nat) "WalkingStonesModel" "imageStones" "I") ∈ lw_all := lw_g (lw_at lw_m6 56 rfl) rfl
theorem q1362 : (Jvm.Cond.fieldLink "WalkingStonesModel" (160 : Nat) "WalkingStonesModel" "imageRule" "I") ∈ lw_all := lw_g (lw_at lw_m6 57 rfl) rfl
theorem q1363 : (Jvm.Cond.fieldLink "WalkingStonesModel" (163 : Nat) "WalkingStonesModel" "imageTracks" "I") ∈ lw_all := lw_g (lw_at lw_m6 58 rfl) rfl
theorem q1364 : (Jvm.Cond.fieldLink "WalkingStonesModel" (166 : Nat) "WalkingStonesModel" "imageCrosses" "I") ∈ lw_all := lw_g (lw_at lw_m6 59 rfl) rfl
theorem q1365 : (Jvm.Cond.fieldLink "WalkingStonesModel" (169 : Nat) "WalkingStonesModel" "imagePegs" "I") ∈ lw_all := lw_g (lw_at lw_m6 60 rfl) rfl
theorem q1366 : (Jvm.Cond.fieldLink "WalkingStonesModel" (172 : Nat) "WalkingStonesModel" "imagePlace" "[I") ∈ lw_all := lw_g (lw_at lw_m6 61 rfl) rfl
theorem q1367 : (Jvm.Cond.fieldLink "WalkingStonesModel" (175 : Nat) "WalkingStonesModel" "sort" "[I") ∈ lw_all := lw_g (lw_at lw_m6 62 rfl) rfl
theorem q1368 : (Jvm.Cond.fieldLink "WalkingStonesModel" (178 : Nat) "WalkingStonesModel" "rows" "[I") ∈ lw_all := lw_g (lw_at lw_m6 63 rfl) rfl
theorem q1369 : (Jvm.Cond.fieldLink "WalkingStonesModel" (181 : Nat) "WalkingStonesModel" "item" "[I") ∈ lw_all := lw_g (lw_at lw_m6 64 rfl) rfl
theorem q1370 : (Jvm.Cond.fieldLink "WalkingStonesModel" (184 : Nat) "WalkingStonesModel" "aside" "[I") ∈ lw_all := lw_g (lw_at lw_m6 65 rfl) rfl
theorem q1371 : (Jvm.Cond.fieldLink "WalkingStonesModel" (187 : Nat) "WalkingStonesModel" "worths" "[I") ∈ lw_all := lw_g (lw_at lw_m6 66 rfl) rfl
theorem q1372 : (Jvm.Cond.lays "WalkingStonesModel" "WalkingStonesModel" "stones" "I") ∈ lw_all := lw_g (lw_at lw_m6 67 rfl) rfl
theorem q1373 : (Jvm.Cond.soleField "WalkingStonesModel" "stones") ∈ lw_all := lw_g (lw_at lw_m6 68 rfl) rfl
theorem q1374 : (Jvm.Cond.lays "WalkingStonesModel" "WalkingStonesModel" "nights" "I") ∈ lw_all := lw_g (lw_at lw_m6 69 rfl) rfl
theorem q1375 : (Jvm.Cond.soleField "WalkingStonesModel" "nights") ∈ lw_all := lw_g (lw_at lw_m6 70 rfl) rfl
theorem q1376 : (Jvm.Cond.lays "WalkingStonesModel" "WalkingStonesModel" "hows" "I") ∈ lw_all := lw_g (lw_at lw_m6 71 rfl) rfl
theorem q1377 : (Jvm.Cond.soleField "WalkingStonesModel" "hows") ∈ lw_all := lw_g (lw_at lw_m6 72 rfl) rfl
theorem q1378 : (Jvm.Cond.laysFinal "WalkingStonesModel" "WalkingStonesModel" "weight" "[I") ∈ lw_all := lw_g (lw_at lw_m6 73 rfl) rfl
theorem q1379 : (Jvm.Cond.soleField "WalkingStonesModel" "weight") ∈ lw_all := lw_g (lw_at lw_m6 74 rfl) rfl
theorem q1380 : (Jvm.Cond.laysFinal "WalkingStonesModel" "WalkingStonesModel" "place" "[I") ∈ lw_all := lw_g (lw_at lw_m6 75 rfl) rfl
theorem q1381 : (Jvm.Cond.soleField "WalkingStonesModel" "place") ∈ lw_all := lw_g (lw_at lw_m6 76 rfl) rfl
theorem q1382 : (Jvm.Cond.laysFinal "WalkingStonesModel" "WalkingStonesModel" "wet" "[I") ∈ lw_all := lw_g (lw_at lw_m6 77 rfl) rfl
theorem q1383 : (Jvm.Cond.soleField "WalkingStonesModel" "wet") ∈ lw_all := lw_g (lw_at lw_m6 78 rfl) rfl
theorem q1384 : (Jvm.Cond.laysFinal "WalkingStonesModel" "WalkingStonesModel" "ice" "[I") ∈ lw_all := lw_g (lw_at lw_m6 79 rfl) rfl
theorem q1385 : (Jvm.Cond.soleField "WalkingStonesModel" "ice") ∈ lw_all := lw_g (lw_at lw_m6 80 rfl) rfl
theorem q1386 : (Jvm.Cond.laysFinal "WalkingStonesModel" "WalkingStonesModel" "wind" "[I") ∈ lw_all := lw_g (lw_at lw_m6 81 rfl) rfl
theorem q1387 : (Jvm.Cond.soleField "WalkingStonesModel" "wind") ∈ lw_all := lw_g (lw_at lw_m6 82 rfl) rfl
theorem q1388 : (Jvm.Cond.laysFinal "WalkingStonesModel" "WalkingStonesModel" "way" "[I") ∈ lw_all := lw_g (lw_at lw_m6 83 rfl) rfl
theorem q1389 : (Jvm.Cond.soleField "WalkingStonesModel" "way") ∈ lw_all := lw_g (lw_at lw_m6 84 rfl) rfl
theorem q1390 : (Jvm.Cond.laysFinal "WalkingStonesModel" "WalkingStonesModel" "kind" "[I") ∈ lw_all := lw_g (lw_at lw_m6 85 rfl) rfl
theorem q1391 : (Jvm.Cond.soleField "WalkingStonesModel" "kind") ∈ lw_all := lw_g (lw_at lw_m6 86 rfl) rfl
theorem q1392 : (Jvm.Cond.laysFinal "WalkingStonesModel" "WalkingStonesModel" "number" "[I") ∈ lw_all := lw_g (lw_at lw_m6 87 rfl) rfl
theorem q1393 : (Jvm.Cond.soleField "WalkingStonesModel" "number") ∈ lw_all := lw_g (lw_at lw_m6 88 rfl) rfl
theorem q1394 : (Jvm.Cond.lays "WalkingStonesModel" "WalkingStonesModel" "texts" "I") ∈ lw_all := lw_g (lw_at lw_m6 89 rfl) rfl
theorem q1395 : (Jvm.Cond.soleField "WalkingStonesModel" "texts") ∈ lw_all := lw_g (lw_at lw_m6 90 rfl) rfl
theorem q1396 : (Jvm.Cond.lays "WalkingStonesModel" "WalkingStonesModel" "rule" "I") ∈ lw_all := lw_g (lw_at lw_m6 91 rfl) rfl
theorem q1397 : (Jvm.Cond.soleField "WalkingStonesModel" "rule") ∈ lw_all := lw_g (lw_at lw_m6 92 rfl) rfl
theorem q1398 : (Jvm.Cond.lays "WalkingStonesModel" "WalkingStonesModel" "fed" "I") ∈ lw_all := lw_g (lw_at lw_m6 93 rfl) rfl
theorem q1399 : (Jvm.Cond.soleField "WalkingStonesModel" "fed") ∈ lw_all := lw_g (lw_at lw_m6 94 rfl) rfl
theorem q1400 : (Jvm.Cond.lays "WalkingStonesModel" "WalkingStonesModel" "at" "I") ∈ lw_all := lw_g (lw_at lw_m6 95 rfl) rfl
theorem q1401 : (Jvm.Cond.soleField "WalkingStonesModel" "at") ∈ lw_all := lw_g (lw_at lw_m6 96 rfl) rfl
theorem q1402 : (Jvm.Cond.lays "WalkingStonesModel" "WalkingStonesModel" "token" "I") ∈ lw_all := lw_g (lw_at lw_m6 97 rfl) rfl
theorem q1403 : (Jvm.Cond.soleField "WalkingStonesModel" "token") ∈ lw_all := lw_g (lw_at lw_m6 98 rfl) rfl
theorem q1404 : (Jvm.Cond.lays "WalkingStonesModel" "WalkingStonesModel" "word" "I") ∈ lw_all := lw_g (lw_at lw_m6 99 rfl) rfl
theorem q1405 : (Jvm.Cond.soleField "WalkingStonesModel" "word") ∈ lw_all := lw_g (lw_at lw_m6 100 rfl) rfl
theorem q1406 : (Jvm.Cond.lays "WalkingStonesModel" "WalkingStonesModel" "size" "I") ∈ lw_all := lw_g (lw_at lw_m6 101 rfl) rfl
theorem q1407 : (Jvm.Cond.soleField "WalkingStonesModel" "size") ∈ lw_all := lw_g (lw_at lw_m6 102 rfl) rfl
theorem q1408 : (Jvm.Cond.lays "WalkingStonesModel" "WalkingStonesModel" "open" "I") ∈ lw_all := lw_g (lw_at lw_m6 103 rfl) rfl
theorem q1409 : (Jvm.Cond.soleField "WalkingStonesModel" "open") ∈ lw_all := lw_g (lw_at lw_m6 104 rfl) rfl
theorem q1410 : (Jvm.Cond.lays "WalkingStonesModel" "WalkingStonesModel" "waiting" "I") ∈ lw_all := lw_g (lw_at lw_m6 105 rfl) rfl
theorem q1411 : (Jvm.Cond.soleField "WalkingStonesModel" "waiting") ∈ lw_all := lw_g (lw_at lw_m6 106 rfl) rfl
theorem q1412 : (Jvm.Cond.lays "WalkingStonesModel" "WalkingStonesModel" "made" "I") ∈ lw_all := lw_g (lw_at lw_m6 107 rfl) rfl
theorem q1413 : (Jvm.Cond.soleField "WalkingStonesModel" "made") ∈ lw_all := lw_g (lw_at lw_m6 108 rfl) rfl
theorem q1414 : (Jvm.Cond.laysFinal "WalkingStonesModel" "WalkingStonesModel" "tape" "[I") ∈ lw_all := lw_g (lw_at lw_m6 109 rfl) rfl
theorem q1415 : (Jvm.Cond.soleField "WalkingStonesModel" "tape") ∈ lw_all := lw_g (lw_at lw_m6 110 rfl) rfl
theorem q1416 : (Jvm.Cond.laysFinal "WalkingStonesModel" "WalkingStonesModel" "signs" "[I") ∈ lw_all := lw_g (lw_at lw_m6 111 rfl) rfl
theorem q1417 : (Jvm.Cond.soleField "WalkingStonesModel" "signs") ∈ lw_all := lw_g (lw_at lw_m6 112 rfl) rfl
theorem q1418 : (Jvm.Cond.laysFinal "WalkingStonesModel" "WalkingStonesModel" "tells" "[I") ∈ lw_all := lw_g (lw_at lw_m6 113 rfl) rfl
theorem q1419 : (Jvm.Cond.soleField "WalkingStonesModel" "tells") ∈ lw_all := lw_g (lw_at lw_m6 114 rfl) rfl
theorem q1420 : (Jvm.Cond.laysFinal "WalkingStonesModel" "WalkingStonesModel" "many" "[I") ∈ lw_all := lw_g (lw_at lw_m6 115 rfl) rfl
theorem q1421 : (Jvm.Cond.soleField "WalkingStonesModel" "many") ∈ lw_all := lw_g (lw_at lw_m6 116 rfl) rfl
theorem q1422 : (Jvm.Cond.laysFinal "WalkingStonesModel" "WalkingStonesModel" "waits" "[I") ∈ lw_all := lw_g (lw_at lw_m6 117 rfl) rfl
theorem q1423 : (Jvm.Cond.soleField "WalkingStonesModel" "waits") ∈ lw_all := lw_g (lw_at lw_m6 118 rfl) rfl
theorem q1424 : (Jvm.Cond.laysFinal "WalkingStonesModel" "WalkingStonesModel" "pile" "[I") ∈ lw_all := lw_g (lw_at lw_m6 119 rfl) rfl
theorem q1425 : (Jvm.Cond.soleField "WalkingStonesModel" "pile") ∈ lw_all := lw_g (lw_at lw_m6 120 rfl) rfl
theorem q1426 : (Jvm.Cond.lays "WalkingStonesModel" "WalkingStonesModel" "tried" "I") ∈ lw_all := lw_g (lw_at lw_m6 121 rfl) rfl
theorem q1427 : (Jvm.Cond.soleField "WalkingStonesModel" "tried") ∈ lw_all := lw_g (lw_at lw_m6 122 rfl) rfl
theorem q1428 : (Jvm.Cond.laysFinal "WalkingStonesModel" "WalkingStonesModel" "on" "[I") ∈ lw_all := lw_g (lw_at lw_m6 123 rfl) rfl
theorem q1429 : (Jvm.Cond.soleField "WalkingStonesModel" "on") ∈ lw_all := lw_g (lw_at lw_m6 124 rfl) rfl
theorem q1430 : (Jvm.Cond.laysFinal "WalkingStonesModel" "WalkingStonesModel" "went" "[I") ∈ lw_all := lw_g (lw_at lw_m6 125 rfl) rfl
theorem q1431 : (Jvm.Cond.soleField "WalkingStonesModel" "went") ∈ lw_all := lw_g (lw_at lw_m6 126 rfl) rfl
theorem q1432 : (Jvm.Cond.laysFinal "WalkingStonesModel" "WalkingStonesModel" "turns" "[I") ∈ lw_all := lw_g (lw_at lw_m6 127 rfl) rfl
theorem q1433 : (Jvm.Cond.soleField "WalkingStonesModel" "turns") ∈ lw_all := lw_g (lw_at lw_m6 128 rfl) rfl
theorem q1434 : (Jvm.Cond.laysFinal "WalkingStonesModel" "WalkingStonesModel" "lastWay" "[I") ∈ lw_all := lw_g (lw_at lw_m6 129 rfl) rfl
theorem q1435 : (Jvm.Cond.soleField "WalkingStonesModel" "lastWay") ∈ lw_all := lw_g (lw_at lw_m6 130 rfl) rfl
theorem q1436 : (Jvm.Cond.lays "WalkingStonesModel" "WalkingStonesModel" "tracks" "I") ∈ lw_all := lw_g (lw_at lw_m6 131 rfl) rfl
theorem q1437 : (Jvm.Cond.soleField "WalkingStonesModel" "tracks") ∈ lw_all := lw_g (lw_at lw_m6 132 rfl) rfl
theorem q1438 : (Jvm.Cond.laysFinal "WalkingStonesModel" "WalkingStonesModel" "trackStone" "[I") ∈ lw_all := lw_g (lw_at lw_m6 133 rfl) rfl
theorem q1439 : (Jvm.Cond.soleField "WalkingStonesModel" "trackStone") ∈ lw_all := lw_g (lw_at lw_m6 134 rfl) rfl
theorem q1440 : (Jvm.Cond.laysFinal "WalkingStonesModel" "WalkingStonesModel" "length" "[I") ∈ lw_all := lw_g (lw_at lw_m6 135 rfl) rfl
theorem q1441 : (Jvm.Cond.soleField "WalkingStonesModel" "length") ∈ lw_all := lw_g (lw_at lw_m6 136 rfl) rfl
theorem q1442 : (Jvm.Cond.laysFinal "WalkingStonesModel" "WalkingStonesModel" "trackTurns" "[I") ∈ lw_all := lw_g (lw_at lw_m6 137 rfl) rfl
theorem q1443 : (Jvm.Cond.soleField "WalkingStonesModel" "trackTurns") ∈ lw_all := lw_g (lw_at lw_m6 138 rfl) rfl
theorem q1444 : (Jvm.Cond.laysFinal "WalkingStonesModel" "WalkingStonesModel" "group" "[I") ∈ lw_all := lw_g (lw_at lw_m6 139 rfl) rfl
theorem q1445 : (Jvm.Cond.soleField "WalkingStonesModel" "group") ∈ lw_all := lw_g (lw_at lw_m6 140 rfl) rfl
theorem q1446 : (Jvm.Cond.lays "WalkingStonesModel" "WalkingStonesModel" "pegs" "I") ∈ lw_all := lw_g (lw_at lw_m6 141 rfl) rfl
theorem q1447 : (Jvm.Cond.soleField "WalkingStonesModel" "pegs") ∈ lw_all := lw_g (lw_at lw_m6 142 rfl) rfl
theorem q1448 : (Jvm.Cond.laysFinal "WalkingStonesModel" "WalkingStonesModel" "peg" "[I") ∈ lw_all := lw_g (lw_at lw_m6 143 rfl) rfl
theorem q1449 : (Jvm.Cond.soleField "WalkingStonesModel" "peg") ∈ lw_all := lw_g (lw_at lw_m6 144 rfl) rfl
theorem q1450 : (Jvm.Cond.lays "WalkingStonesModel" "WalkingStonesModel" "crosses" "I") ∈ lw_all := lw_g (lw_at lw_m6 145 rfl) rfl
theorem q1451 : (Jvm.Cond.soleField "WalkingStonesModel" "crosses") ∈ lw_all := lw_g (lw_at lw_m6 146 rfl) rfl
theorem q1452 : (Jvm.Cond.laysFinal "WalkingStonesModel" "WalkingStonesModel" "over" "[I") ∈ lw_all := lw_g (lw_at lw_m6 147 rfl) rfl
theorem q1453 : (Jvm.Cond.soleField "WalkingStonesModel" "over") ∈ lw_all := lw_g (lw_at lw_m6 148 rfl) rfl
theorem q1454 : (Jvm.Cond.laysFinal "WalkingStonesModel" "WalkingStonesModel" "under" "[I") ∈ lw_all := lw_g (lw_at lw_m6 149 rfl) rfl
theorem q1455 : (Jvm.Cond.soleField "WalkingStonesModel" "under") ∈ lw_all := lw_g (lw_at lw_m6 150 rfl) rfl
theorem q1456 : (Jvm.Cond.lays "WalkingStonesModel" "WalkingStonesModel" "hasImage" "Z") ∈ lw_all := lw_g (lw_at lw_m6 151 rfl) rfl
theorem q1457 : (Jvm.Cond.soleField "WalkingStonesModel" "hasImage") ∈ lw_all := lw_g (lw_at lw_m6 152 rfl) rfl
theorem q1458 : (Jvm.Cond.lays "WalkingStonesModel" "WalkingStonesModel" "imageStones" "I") ∈ lw_all := lw_g (lw_at lw_m6 153 rfl) rfl
theorem q1459 : (Jvm.Cond.soleField "WalkingStonesModel" "imageStones") ∈ lw_all := lw_g (lw_at lw_m6 154 rfl) rfl
theorem q1460 : (Jvm.Cond.lays "WalkingStonesModel" "WalkingStonesModel" "imageRule" "I") ∈ lw_all := lw_g (lw_at lw_m6 155 rfl) rfl
theorem q1461 : (Jvm.Cond.soleField "WalkingStonesModel" "imageRule") ∈ lw_all := lw_g (lw_at lw_m6 156 rfl) rfl
theorem q1462 : (Jvm.Cond.lays "WalkingStonesModel" "WalkingStonesModel" "imageTracks" "I") ∈ lw_all := lw_g (lw_at lw_m6 157 rfl) rfl
theorem q1463 : (Jvm.Cond.soleField "WalkingStonesModel" "imageTracks") ∈ lw_all := lw_g (lw_at lw_m6 158 rfl) rfl
theorem q1464 : (Jvm.Cond.lays "WalkingStonesModel" "WalkingStonesModel" "imageCrosses" "I") ∈ lw_all := lw_g (lw_at lw_m6 159 rfl) rfl
theorem q1465 : (Jvm.Cond.soleField "WalkingStonesModel" "imageCrosses") ∈ lw_all := lw_g (lw_at lw_m6 160 rfl) rfl
theorem q1466 : (Jvm.Cond.lays "WalkingStonesModel" "WalkingStonesModel" "imagePegs" "I") ∈ lw_all := lw_g (lw_at lw_m6 161 rfl) rfl
theorem q1467 : (Jvm.Cond.soleField "WalkingStonesModel" "imagePegs") ∈ lw_all := lw_g (lw_at lw_m6 162 rfl) rfl
theorem q1468 : (Jvm.Cond.laysFinal "WalkingStonesModel" "WalkingStonesModel" "imagePlace" "[I") ∈ lw_all := lw_g (lw_at lw_m6 163 rfl) rfl
theorem q1469 : (Jvm.Cond.soleField "WalkingStonesModel" "imagePlace") ∈ lw_all := lw_g (lw_at lw_m6 164 rfl) rfl
theorem q1470 : (Jvm.Cond.laysFinal "WalkingStonesModel" "WalkingStonesModel" "sort" "[I") ∈ lw_all := lw_g (lw_at lw_m6 165 rfl) rfl
theorem q1471 : (Jvm.Cond.soleField "WalkingStonesModel" "sort") ∈ lw_all := lw_g (lw_at lw_m6 166 rfl) rfl
theorem q1472 : (Jvm.Cond.laysFinal "WalkingStonesModel" "WalkingStonesModel" "rows" "[I") ∈ lw_all := lw_g (lw_at lw_m6 167 rfl) rfl
theorem q1473 : (Jvm.Cond.soleField "WalkingStonesModel" "rows") ∈ lw_all := lw_g (lw_at lw_m6 168 rfl) rfl
theorem q1474 : (Jvm.Cond.laysFinal "WalkingStonesModel" "WalkingStonesModel" "item" "[I") ∈ lw_all := lw_g (lw_at lw_m6 169 rfl) rfl
theorem q1475 : (Jvm.Cond.soleField "WalkingStonesModel" "item") ∈ lw_all := lw_g (lw_at lw_m6 170 rfl) rfl
theorem q1476 : (Jvm.Cond.laysFinal "WalkingStonesModel" "WalkingStonesModel" "aside" "[I") ∈ lw_all := lw_g (lw_at lw_m6 171 rfl) rfl
theorem q1477 : (Jvm.Cond.soleField "WalkingStonesModel" "aside") ∈ lw_all := lw_g (lw_at lw_m6 172 rfl) rfl
theorem q1478 : (Jvm.Cond.laysFinal "WalkingStonesModel" "WalkingStonesModel" "worths" "[I") ∈ lw_all := lw_g (lw_at lw_m6 173 rfl) rfl
theorem q1479 : (Jvm.Cond.soleField "WalkingStonesModel" "worths") ∈ lw_all := lw_g (lw_at lw_m6 174 rfl) rfl
theorem q1480 : (Jvm.Cond.superclass "WalkingStonesModel" "java/lang/Object") ∈ lw_all := lw_g (lw_at lw_m6 175 rfl) rfl
theorem q1482 : (Jvm.Cond.instanceMethod ({ cls := "WalkingStonesModel", name := "feed", desc := "(IJ)I" } : Jvm.MethodName)) ∈ lw_all := lw_g (lw_at lw_m6 177 rfl) rfl
theorem q1483 : (Jvm.Cond.selects "WalkingStonesModel" ({ cls := "WalkingStonesModel", name := "feed", desc := "(IJ)I" } : Jvm.MethodName) ({ cls := "WalkingStonesModel", name := "feed", desc := "(IJ)I" } : Jvm.MethodName)) ∈ lw_all := lw_g (lw_at lw_m6 178 rfl) rfl
theorem q1484 : (Jvm.Cond.code ({ cls := "WalkingStonesModel", name := "feed", desc := "(IJ)I" } : Jvm.MethodName) prog_16_method_12_code (5 : Nat) (Option.some Jvm.ClassFile.FieldType.int)) ∈ lw_all := lw_g (lw_at lw_m6 179 rfl) rfl
theorem q1485 : (Jvm.Cond.constantLong "WalkingStonesModel" (190 : Nat) (255 : Int64)) ∈ lw_all := lw_g (lw_at lw_m6 180 rfl) rfl
theorem q1487 : (Jvm.Cond.instanceMethod ({ cls := "WalkingStonesModel", name := "text", desc := "()I" } : Jvm.MethodName)) ∈ lw_all := lw_g (lw_at lw_m6 182 rfl) rfl
theorem q1488 : (Jvm.Cond.selects "WalkingStonesModel" ({ cls := "WalkingStonesModel", name := "text", desc := "()I" } : Jvm.MethodName) ({ cls := "WalkingStonesModel", name := "text", desc := "()I" } : Jvm.MethodName)) ∈ lw_all := lw_g (lw_at lw_m6 183 rfl) rfl
theorem q1489 : (Jvm.Cond.code ({ cls := "WalkingStonesModel", name := "text", desc := "()I" } : Jvm.MethodName) prog_16_method_31_code (2 : Nat) (Option.some Jvm.ClassFile.FieldType.int)) ∈ lw_all := lw_g (lw_at lw_m6 184 rfl) rfl
theorem q1490 : (Jvm.Cond.methodLink "WalkingStonesModel" (208 : Nat) ({ cls := "WalkingStonesModel", name := "look", desc := "()V" } : Jvm.MethodName)) ∈ lw_all := lw_g (lw_at lw_m6 185 rfl) rfl
theorem q1491 : (Jvm.Cond.privateMethod ({ cls := "WalkingStonesModel", name := "look", desc := "()V" } : Jvm.MethodName)) ∈ lw_tbl := lw_at lw_m6 186 rfl
theorem q1492 : (Jvm.Cond.instanceMethod ({ cls := "WalkingStonesModel", name := "look", desc := "()V" } : Jvm.MethodName)) ∈ lw_all := lw_g (lw_at lw_m6 187 rfl) rfl
theorem q1493 : (Jvm.Cond.code ({ cls := "WalkingStonesModel", name := "look", desc := "()V" } : Jvm.MethodName) prog_16_method_16_code (2 : Nat) (Option.none : Option Jvm.ClassFile.FieldType)) ∈ lw_all := lw_g (lw_at lw_m6 188 rfl) rfl
theorem q1494 : (Jvm.Cond.methodLink "WalkingStonesModel" (192 : Nat) ({ cls := "WalkingStonesModel", name := "byteAt", desc := "(I)I" } : Jvm.MethodName)) ∈ lw_all := lw_g (lw_at lw_m6 189 rfl) rfl
theorem q1495 : (Jvm.Cond.privateMethod ({ cls := "WalkingStonesModel", name := "byteAt", desc := "(I)I" } : Jvm.MethodName)) ∈ lw_tbl := lw_at lw_m6 190 rfl
theorem q1496 : (Jvm.Cond.instanceMethod ({ cls := "WalkingStonesModel", name := "byteAt", desc := "(I)I" } : Jvm.MethodName)) ∈ lw_all := lw_g (lw_at lw_m6 191 rfl) rfl
theorem q1497 : (Jvm.Cond.code ({ cls := "WalkingStonesModel", name := "byteAt", desc := "(I)I" } : Jvm.MethodName) prog_16_method_13_code (2 : Nat) (Option.some Jvm.ClassFile.FieldType.int)) ∈ lw_all := lw_g (lw_at lw_m6 192 rfl) rfl
theorem q1498 : (Jvm.Cond.methodLink "WalkingStonesModel" (196 : Nat) ({ cls := "WalkingStonesModel", name := "isDigit", desc := "(I)Z" } : Jvm.MethodName)) ∈ lw_all := lw_g (lw_at lw_m6 193 rfl) rfl
theorem q1499 : (Jvm.Cond.privateMethod ({ cls := "WalkingStonesModel", name := "isDigit", desc := "(I)Z" } : Jvm.MethodName)) ∈ lw_tbl := lw_at lw_m6 194 rfl
theorem q1500 : (Jvm.Cond.instanceMethod ({ cls := "WalkingStonesModel", name := "isDigit", desc := "(I)Z" } : Jvm.MethodName)) ∈ lw_all := lw_g (lw_at lw_m6 195 rfl) rfl
theorem q1501 : (Jvm.Cond.code ({ cls := "WalkingStonesModel", name := "isDigit", desc := "(I)Z" } : Jvm.MethodName) prog_16_method_15_code (2 : Nat) (Option.some Jvm.ClassFile.FieldType.boolean)) ∈ lw_all := lw_g (lw_at lw_m6 196 rfl) rfl
theorem q1502 : (Jvm.Cond.methodLink "WalkingStonesModel" (199 : Nat) ({ cls := "WalkingStonesModel", name := "isLetter", desc := "(I)Z" } : Jvm.MethodName)) ∈ lw_all := lw_g (lw_at lw_m6 197 rfl) rfl
theorem q1503 : (Jvm.Cond.privateMethod ({ cls := "WalkingStonesModel", name := "isLetter", desc := "(I)Z" } : Jvm.MethodName)) ∈ lw_tbl := lw_at lw_m6 198 rfl
theorem q1504 : (Jvm.Cond.instanceMethod ({ cls := "WalkingStonesModel", name := "isLetter", desc := "(I)Z" } : Jvm.MethodName)) ∈ lw_all := lw_g (lw_at lw_m6 199 rfl) rfl
theorem q1505 : (Jvm.Cond.code ({ cls := "WalkingStonesModel", name := "isLetter", desc := "(I)Z" } : Jvm.MethodName) prog_16_method_14_code (2 : Nat) (Option.some Jvm.ClassFile.FieldType.boolean)) ∈ lw_all := lw_g (lw_at lw_m6 200 rfl) rfl
theorem q1506 : (Jvm.Cond.methodLink "WalkingStonesModel" (202 : Nat) ({ cls := "WalkingStonesModel", name := "nameOf", desc := "(I)I" } : Jvm.MethodName)) ∈ lw_all := lw_g (lw_at lw_m6 201 rfl) rfl
theorem q1507 : (Jvm.Cond.privateMethod ({ cls := "WalkingStonesModel", name := "nameOf", desc := "(I)I" } : Jvm.MethodName)) ∈ lw_tbl := lw_at lw_m6 202 rfl
theorem q1508 : (Jvm.Cond.instanceMethod ({ cls := "WalkingStonesModel", name := "nameOf", desc := "(I)I" } : Jvm.MethodName)) ∈ lw_all := lw_g (lw_at lw_m6 203 rfl) rfl
theorem q1509 : (Jvm.Cond.code ({ cls := "WalkingStonesModel", name := "nameOf", desc := "(I)I" } : Jvm.MethodName) prog_16_method_20_code (2 : Nat) (Option.some Jvm.ClassFile.FieldType.int)) ∈ lw_all := lw_g (lw_at lw_m6 204 rfl) rfl
theorem q1510 : (Jvm.Cond.constant "WalkingStonesModel" (213 : Nat) (777297172 : Int32)) ∈ lw_all := lw_g (lw_at lw_m6 205 rfl) rfl
theorem q1511 : (Jvm.Cond.constant "WalkingStonesModel" (214 : Nat) (763332 : Int32)) ∈ lw_all := lw_g (lw_at lw_m6 206 rfl) rfl
theorem q1512 : (Jvm.Cond.constant "WalkingStonesModel" (215 : Nat) (492210354 : Int32)) ∈ lw_all := lw_g (lw_at lw_m6 207 rfl) rfl
theorem q1513 : (Jvm.Cond.constant "WalkingStonesModel" (216 : Nat) (14982420 : Int32)) ∈ lw_all := lw_g (lw_at lw_m6 208 rfl) rfl
theorem q1514 : (Jvm.Cond.methodLink "WalkingStonesModel" (205 : Nat) ({ cls := "WalkingStonesModel", name := "isKey", desc := "(I)Z" } : Jvm.MethodName)) ∈ lw_all := lw_g (lw_at lw_m6 209 rfl) rfl
theorem q1515 : (Jvm.Cond.privateMethod ({ cls := "WalkingStonesModel", name := "isKey", desc := "(I)Z" } : Jvm.MethodName)) ∈ lw_tbl := lw_at lw_m6 210 rfl
theorem q1516 : (Jvm.Cond.instanceMethod ({ cls := "WalkingStonesModel", name := "isKey", desc := "(I)Z" } : Jvm.MethodName)) ∈ lw_all := lw_g (lw_at lw_m6 211 rfl) rfl
theorem q1517 : (Jvm.Cond.code ({ cls := "WalkingStonesModel", name := "isKey", desc := "(I)Z" } : Jvm.MethodName) prog_16_method_19_code (2 : Nat) (Option.some Jvm.ClassFile.FieldType.boolean)) ∈ lw_all := lw_g (lw_at lw_m6 212 rfl) rfl
theorem q1518 : (Jvm.Cond.constant "WalkingStonesModel" (211 : Nat) (99724 : Int32)) ∈ lw_all := lw_g (lw_at lw_m6 213 rfl) rfl
theorem q1519 : (Jvm.Cond.constant "WalkingStonesModel" (212 : Nat) (24627848 : Int32)) ∈ lw_all := lw_g (lw_at lw_m6 214 rfl) rfl
theorem q1520 : (Jvm.Cond.methodLink "WalkingStonesModel" (253 : Nat) ({ cls := "WalkingStonesModel", name := "takesPart", desc := "(III)Z" } : Jvm.MethodName)) ∈ lw_all := lw_g (lw_at lw_m6 215 rfl) rfl
theorem q1521 : (Jvm.Cond.privateMethod ({ cls := "WalkingStonesModel", name := "takesPart", desc := "(III)Z" } : Jvm.MethodName)) ∈ lw_tbl := lw_at lw_m6 216 rfl
theorem q1522 : (Jvm.Cond.instanceMethod ({ cls := "WalkingStonesModel", name := "takesPart", desc := "(III)Z" } : Jvm.MethodName)) ∈ lw_all := lw_g (lw_at lw_m6 217 rfl) rfl
theorem q1523 : (Jvm.Cond.code ({ cls := "WalkingStonesModel", name := "takesPart", desc := "(III)Z" } : Jvm.MethodName) prog_16_method_30_code (5 : Nat) (Option.some Jvm.ClassFile.FieldType.boolean)) ∈ lw_all := lw_g (lw_at lw_m6 218 rfl) rfl
theorem q1524 : (Jvm.Cond.methodLink "WalkingStonesModel" (237 : Nat) ({ cls := "WalkingStonesModel", name := "isWord", desc := "(I)Z" } : Jvm.MethodName)) ∈ lw_all := lw_g (lw_at lw_m6 219 rfl) rfl
theorem q1525 : (Jvm.Cond.privateMethod ({ cls := "WalkingStonesModel", name := "isWord", desc := "(I)Z" } : Jvm.MethodName)) ∈ lw_tbl := lw_at lw_m6 220 rfl
theorem q1526 : (Jvm.Cond.instanceMethod ({ cls := "WalkingStonesModel", name := "isWord", desc := "(I)Z" } : Jvm.MethodName)) ∈ lw_all := lw_g (lw_at lw_m6 221 rfl) rfl
theorem q1527 : (Jvm.Cond.code ({ cls := "WalkingStonesModel", name := "isWord", desc := "(I)Z" } : Jvm.MethodName) prog_16_method_18_code (2 : Nat) (Option.some Jvm.ClassFile.FieldType.boolean)) ∈ lw_all := lw_g (lw_at lw_m6 222 rfl) rfl
theorem q1528 : (Jvm.Cond.methodLink "WalkingStonesModel" (247 : Nat) ({ cls := "WalkingStonesModel", name := "goOn", desc := "()V" } : Jvm.MethodName)) ∈ lw_all := lw_g (lw_at lw_m6 223 rfl) rfl
theorem q1529 : (Jvm.Cond.privateMethod ({ cls := "WalkingStonesModel", name := "goOn", desc := "()V" } : Jvm.MethodName)) ∈ lw_tbl := lw_at lw_m6 224 rfl
theorem q1530 : (Jvm.Cond.instanceMethod ({ cls := "WalkingStonesModel", name := "goOn", desc := "()V" } : Jvm.MethodName)) ∈ lw_all := lw_g (lw_at lw_m6 225 rfl) rfl
theorem q1531 : (Jvm.Cond.code ({ cls := "WalkingStonesModel", name := "goOn", desc := "()V" } : Jvm.MethodName) prog_16_method_17_code (1 : Nat) (Option.none : Option Jvm.ClassFile.FieldType)) ∈ lw_all := lw_g (lw_at lw_m6 226 rfl) rfl
theorem q1532 : (Jvm.Cond.methodLink "WalkingStonesModel" (250 : Nat) ({ cls := "WalkingStonesModel", name := "takesE", desc := "(I)Z" } : Jvm.MethodName)) ∈ lw_all := lw_g (lw_at lw_m6 227 rfl) rfl
theorem q1533 : (Jvm.Cond.privateMethod ({ cls := "WalkingStonesModel", name := "takesE", desc := "(I)Z" } : Jvm.MethodName)) ∈ lw_tbl := lw_at lw_m6 228 rfl
theorem q1534 : (Jvm.Cond.instanceMethod ({ cls := "WalkingStonesModel", name := "takesE", desc := "(I)Z" } : Jvm.MethodName)) ∈ lw_all := lw_g (lw_at lw_m6 229 rfl) rfl
theorem q1535 : (Jvm.Cond.code ({ cls := "WalkingStonesModel", name := "takesE", desc := "(I)Z" } : Jvm.MethodName) prog_16_method_29_code (8 : Nat) (Option.some Jvm.ClassFile.FieldType.boolean)) ∈ lw_all := lw_g (lw_at lw_m6 230 rfl) rfl
theorem q1536 : (Jvm.Cond.methodLink "WalkingStonesModel" (231 : Nat) ({ cls := "WalkingStonesModel", name := "settle", desc := "(I)V" } : Jvm.MethodName)) ∈ lw_all := lw_g (lw_at lw_m6 231 rfl) rfl
theorem q1537 : (Jvm.Cond.privateMethod ({ cls := "WalkingStonesModel", name := "settle", desc := "(I)V" } : Jvm.MethodName)) ∈ lw_tbl := lw_at lw_m6 232 rfl
theorem q1538 : (Jvm.Cond.instanceMethod ({ cls := "WalkingStonesModel", name := "settle", desc := "(I)V" } : Jvm.MethodName)) ∈ lw_all := lw_g (lw_at lw_m6 233 rfl) rfl
theorem q1539 : (Jvm.Cond.code ({ cls := "WalkingStonesModel", name := "settle", desc := "(I)V" } : Jvm.MethodName) prog_16_method_25_code (3 : Nat) (Option.none : Option Jvm.ClassFile.FieldType)) ∈ lw_all := lw_g (lw_at lw_m6 234 rfl) rfl
theorem q1540 : (Jvm.Cond.methodLink "WalkingStonesModel" (217 : Nat) ({ cls := "WalkingStonesModel", name := "top", desc := "()I" } : Jvm.MethodName)) ∈ lw_all := lw_g (lw_at lw_m6 235 rfl) rfl
theorem q1541 : (Jvm.Cond.privateMethod ({ cls := "WalkingStonesModel", name := "top", desc := "()I" } : Jvm.MethodName)) ∈ lw_tbl := lw_at lw_m6 236 rfl
theorem q1542 : (Jvm.Cond.instanceMethod ({ cls := "WalkingStonesModel", name := "top", desc := "()I" } : Jvm.MethodName)) ∈ lw_all := lw_g (lw_at lw_m6 237 rfl) rfl
theorem q1543 : (Jvm.Cond.code ({ cls := "WalkingStonesModel", name := "top", desc := "()I" } : Jvm.MethodName) prog_16_method_22_code (1 : Nat) (Option.some Jvm.ClassFile.FieldType.int)) ∈ lw_all := lw_g (lw_at lw_m6 238 rfl) rfl
theorem q1544 : (Jvm.Cond.methodLink "WalkingStonesModel" (221 : Nat) ({ cls := "WalkingStonesModel", name := "strength", desc := "(I)I" } : Jvm.MethodName)) ∈ lw_all := lw_g (lw_at lw_m6 239 rfl) rfl
theorem q1545 : (Jvm.Cond.privateMethod ({ cls := "WalkingStonesModel", name := "strength", desc := "(I)I" } : Jvm.MethodName)) ∈ lw_tbl := lw_at lw_m7 0 rfl
theorem q1546 : (Jvm.Cond.instanceMethod ({ cls := "WalkingStonesModel", name := "strength", desc := "(I)I" } : Jvm.MethodName)) ∈ lw_all := lw_g (lw_at lw_m7 1 rfl) rfl
theorem q1547 : (Jvm.Cond.code ({ cls := "WalkingStonesModel", name := "strength", desc := "(I)I" } : Jvm.MethodName) prog_16_method_24_code (2 : Nat) (Option.some Jvm.ClassFile.FieldType.int)) ∈ lw_all := lw_g (lw_at lw_m7 2 rfl) rfl
theorem q1548 : (Jvm.Cond.methodLink "WalkingStonesModel" (224 : Nat) ({ cls := "WalkingStonesModel", name := "put", desc := "(II)V" } : Jvm.MethodName)) ∈ lw_all := lw_g (lw_at lw_m7 3 rfl) rfl
theorem q1549 : (Jvm.Cond.privateMethod ({ cls := "WalkingStonesModel", name := "put", desc := "(II)V" } : Jvm.MethodName)) ∈ lw_tbl := lw_at lw_m7 4 rfl
theorem q1550 : (Jvm.Cond.instanceMethod ({ cls := "WalkingStonesModel", name := "put", desc := "(II)V" } : Jvm.MethodName)) ∈ lw_all := lw_g (lw_at lw_m7 5 rfl) rfl
theorem q1551 : (Jvm.Cond.code ({ cls := "WalkingStonesModel", name := "put", desc := "(II)V" } : Jvm.MethodName) prog_16_method_21_code (3 : Nat) (Option.none : Option Jvm.ClassFile.FieldType)) ∈ lw_all := lw_g (lw_at lw_m7 6 rfl) rfl
theorem q1552 : (Jvm.Cond.methodLink "WalkingStonesModel" (240 : Nat) ({ cls := "WalkingStonesModel", name := "takesOne", desc := "(Z)I" } : Jvm.MethodName)) ∈ lw_all := lw_g (lw_at lw_m7 7 rfl) rfl
theorem q1553 : (Jvm.Cond.privateMethod ({ cls := "WalkingStonesModel", name := "takesOne", desc := "(Z)I" } : Jvm.MethodName)) ∈ lw_tbl := lw_at lw_m7 8 rfl
theorem q1554 : (Jvm.Cond.instanceMethod ({ cls := "WalkingStonesModel", name := "takesOne", desc := "(Z)I" } : Jvm.MethodName)) ∈ lw_all := lw_g (lw_at lw_m7 9 rfl) rfl
theorem q1555 : (Jvm.Cond.code ({ cls := "WalkingStonesModel", name := "takesOne", desc := "(Z)I" } : Jvm.MethodName) prog_16_method_27_code (2 : Nat) (Option.some Jvm.ClassFile.FieldType.int)) ∈ lw_all := lw_g (lw_at lw_m7 10 rfl) rfl
theorem q1556 : (Jvm.Cond.methodLink "WalkingStonesModel" (234 : Nat) ({ cls := "WalkingStonesModel", name := "opens", desc := "(I)Z" } : Jvm.MethodName)) ∈ lw_all := lw_g (lw_at lw_m7 11 rfl) rfl
theorem q1557 : (Jvm.Cond.privateMethod ({ cls := "WalkingStonesModel", name := "opens", desc := "(I)Z" } : Jvm.MethodName)) ∈ lw_tbl := lw_at lw_m7 12 rfl
theorem q1558 : (Jvm.Cond.instanceMethod ({ cls := "WalkingStonesModel", name := "opens", desc := "(I)Z" } : Jvm.MethodName)) ∈ lw_all := lw_g (lw_at lw_m7 13 rfl) rfl
theorem q1559 : (Jvm.Cond.code ({ cls := "WalkingStonesModel", name := "opens", desc := "(I)Z" } : Jvm.MethodName) prog_16_method_26_code (2 : Nat) (Option.some Jvm.ClassFile.FieldType.boolean)) ∈ lw_all := lw_g (lw_at lw_m7 14 rfl) rfl
theorem q1560 : (Jvm.Cond.methodLink "WalkingStonesModel" (228 : Nat) ({ cls := "WalkingStonesModel", name := "pushSign", desc := "(I)V" } : Jvm.MethodName)) ∈ lw_all := lw_g (lw_at lw_m7 15 rfl) rfl
theorem q1561 : (Jvm.Cond.privateMethod ({ cls := "WalkingStonesModel", name := "pushSign", desc := "(I)V" } : Jvm.MethodName)) ∈ lw_tbl := lw_at lw_m7 16 rfl
theorem q1562 : (Jvm.Cond.instanceMethod ({ cls := "WalkingStonesModel", name := "pushSign", desc := "(I)V" } : Jvm.MethodName)) ∈ lw_all := lw_g (lw_at lw_m7 17 rfl) rfl
theorem q1563 : (Jvm.Cond.code ({ cls := "WalkingStonesModel", name := "pushSign", desc := "(I)V" } : Jvm.MethodName) prog_16_method_23_code (2 : Nat) (Option.none : Option Jvm.ClassFile.FieldType)) ∈ lw_all := lw_g (lw_at lw_m7 18 rfl) rfl
theorem q1564 : (Jvm.Cond.methodLink "WalkingStonesModel" (244 : Nat) ({ cls := "WalkingStonesModel", name := "takesSign", desc := "()I" } : Jvm.MethodName)) ∈ lw_all := lw_g (lw_at lw_m7 19 rfl) rfl
theorem q1565 : (Jvm.Cond.privateMethod ({ cls := "WalkingStonesModel", name := "takesSign", desc := "()I" } : Jvm.MethodName)) ∈ lw_tbl := lw_at lw_m7 20 rfl
theorem q1566 : (Jvm.Cond.instanceMethod ({ cls := "WalkingStonesModel", name := "takesSign", desc := "()I" } : Jvm.MethodName)) ∈ lw_all := lw_g (lw_at lw_m7 21 rfl) rfl
theorem q1567 : (Jvm.Cond.code ({ cls := "WalkingStonesModel", name := "takesSign", desc := "()I" } : Jvm.MethodName) prog_16_method_28_code (2 : Nat) (Option.some Jvm.ClassFile.FieldType.int)) ∈ lw_all := lw_g (lw_at lw_m7 22 rfl) rfl
theorem q1569 : (Jvm.Cond.instanceMethod ({ cls := "WalkingStonesModel", name := "force", desc := "(I)I" } : Jvm.MethodName)) ∈ lw_all := lw_g (lw_at lw_m7 24 rfl) rfl
theorem q1570 : (Jvm.Cond.selects "WalkingStonesModel" ({ cls := "WalkingStonesModel", name := "force", desc := "(I)I" } : Jvm.MethodName) ({ cls := "WalkingStonesModel", name := "force", desc := "(I)I" } : Jvm.MethodName)) ∈ lw_all := lw_g (lw_at lw_m7 25 rfl) rfl
theorem q1571 : (Jvm.Cond.code ({ cls := "WalkingStonesModel", name := "force", desc := "(I)I" } : Jvm.MethodName) prog_16_method_32_code (3 : Nat) (Option.some Jvm.ClassFile.FieldType.int)) ∈ lw_all := lw_g (lw_at lw_m7 26 rfl) rfl
theorem q1573 : (Jvm.Cond.instanceMethod ({ cls := "WalkingStonesModel", name := "told", desc := "(IIII)I" } : Jvm.MethodName)) ∈ lw_all := lw_g (lw_at lw_m7 28 rfl) rfl
theorem q1574 : (Jvm.Cond.selects "WalkingStonesModel" ({ cls := "WalkingStonesModel", name := "told", desc := "(IIII)I" } : Jvm.MethodName) ({ cls := "WalkingStonesModel", name := "told", desc := "(IIII)I" } : Jvm.MethodName)) ∈ lw_all := lw_g (lw_at lw_m7 29 rfl) rfl
theorem q1575 : (Jvm.Cond.code ({ cls := "WalkingStonesModel", name := "told", desc := "(IIII)I" } : Jvm.MethodName) prog_16_method_42_code (5 : Nat) (Option.some Jvm.ClassFile.FieldType.int)) ∈ lw_all := lw_g (lw_at lw_m7 30 rfl) rfl
theorem q1576 : (Jvm.Cond.methodLink "WalkingStonesModel" (281 : Nat) ({ cls := "WalkingStonesModel", name := "isHow", desc := "(I)Z" } : Jvm.MethodName)) ∈ lw_all := lw_g (lw_at lw_m7 31 rfl) rfl
theorem q1577 : (Jvm.Cond.privateMethod ({ cls := "WalkingStonesModel", name := "isHow", desc := "(I)Z" } : Jvm.MethodName)) ∈ lw_tbl := lw_at lw_m7 32 rfl
theorem q1578 : (Jvm.Cond.instanceMethod ({ cls := "WalkingStonesModel", name := "isHow", desc := "(I)Z" } : Jvm.MethodName)) ∈ lw_all := lw_g (lw_at lw_m7 33 rfl) rfl
theorem q1579 : (Jvm.Cond.code ({ cls := "WalkingStonesModel", name := "isHow", desc := "(I)Z" } : Jvm.MethodName) prog_16_method_4_code (2 : Nat) (Option.some Jvm.ClassFile.FieldType.boolean)) ∈ lw_all := lw_g (lw_at lw_m7 34 rfl) rfl
theorem q1580 : (Jvm.Cond.methodLink "WalkingStonesModel" (284 : Nat) ({ cls := "WalkingStonesModel", name := "isNight", desc := "(I)Z" } : Jvm.MethodName)) ∈ lw_all := lw_g (lw_at lw_m7 35 rfl) rfl
theorem q1581 : (Jvm.Cond.privateMethod ({ cls := "WalkingStonesModel", name := "isNight", desc := "(I)Z" } : Jvm.MethodName)) ∈ lw_tbl := lw_at lw_m7 36 rfl
theorem q1582 : (Jvm.Cond.instanceMethod ({ cls := "WalkingStonesModel", name := "isNight", desc := "(I)Z" } : Jvm.MethodName)) ∈ lw_all := lw_g (lw_at lw_m7 37 rfl) rfl
theorem q1583 : (Jvm.Cond.code ({ cls := "WalkingStonesModel", name := "isNight", desc := "(I)Z" } : Jvm.MethodName) prog_16_method_3_code (2 : Nat) (Option.some Jvm.ClassFile.FieldType.boolean)) ∈ lw_all := lw_g (lw_at lw_m7 38 rfl) rfl
theorem q1584 : (Jvm.Cond.methodLink "WalkingStonesModel" (267 : Nat) ({ cls := "WalkingStonesModel", name := "may", desc := "(II)Z" } : Jvm.MethodName)) ∈ lw_all := lw_g (lw_at lw_m7 39 rfl) rfl
theorem q1585 : (Jvm.Cond.privateMethod ({ cls := "WalkingStonesModel", name := "may", desc := "(II)Z" } : Jvm.MethodName)) ∈ lw_tbl := lw_at lw_m7 40 rfl
theorem q1586 : (Jvm.Cond.instanceMethod ({ cls := "WalkingStonesModel", name := "may", desc := "(II)Z" } : Jvm.MethodName)) ∈ lw_all := lw_g (lw_at lw_m7 41 rfl) rfl
theorem q1587 : (Jvm.Cond.code ({ cls := "WalkingStonesModel", name := "may", desc := "(II)Z" } : Jvm.MethodName) prog_16_method_37_code (3 : Nat) (Option.some Jvm.ClassFile.FieldType.boolean)) ∈ lw_all := lw_g (lw_at lw_m7 42 rfl) rfl
theorem q1588 : (Jvm.Cond.methodLink "WalkingStonesModel" (271 : Nat) ({ cls := "WalkingStonesModel", name := "drag", desc := "(II)I" } : Jvm.MethodName)) ∈ lw_all := lw_g (lw_at lw_m7 43 rfl) rfl
theorem q1589 : (Jvm.Cond.privateMethod ({ cls := "WalkingStonesModel", name := "drag", desc := "(II)I" } : Jvm.MethodName)) ∈ lw_tbl := lw_at lw_m7 44 rfl
theorem q1590 : (Jvm.Cond.instanceMethod ({ cls := "WalkingStonesModel", name := "drag", desc := "(II)I" } : Jvm.MethodName)) ∈ lw_all := lw_g (lw_at lw_m7 45 rfl) rfl
theorem q1591 : (Jvm.Cond.code ({ cls := "WalkingStonesModel", name := "drag", desc := "(II)I" } : Jvm.MethodName) prog_16_method_38_code (4 : Nat) (Option.some Jvm.ClassFile.FieldType.int)) ∈ lw_all := lw_g (lw_at lw_m7 46 rfl) rfl
theorem q1592 : (Jvm.Cond.methodLink "WalkingStonesModel" (287 : Nat) ({ cls := "WalkingStonesModel", name := "pushes", desc := "(III)I" } : Jvm.MethodName)) ∈ lw_all := lw_g (lw_at lw_m7 47 rfl) rfl
theorem q1593 : (Jvm.Cond.privateMethod ({ cls := "WalkingStonesModel", name := "pushes", desc := "(III)I" } : Jvm.MethodName)) ∈ lw_tbl := lw_at lw_m7 48 rfl
theorem q1594 : (Jvm.Cond.instanceMethod ({ cls := "WalkingStonesModel", name := "pushes", desc := "(III)I" } : Jvm.MethodName)) ∈ lw_all := lw_g (lw_at lw_m7 49 rfl) rfl
theorem q1595 : (Jvm.Cond.code ({ cls := "WalkingStonesModel", name := "pushes", desc := "(III)I" } : Jvm.MethodName) prog_16_method_40_code (6 : Nat) (Option.some Jvm.ClassFile.FieldType.int)) ∈ lw_all := lw_g (lw_at lw_m7 50 rfl) rfl
theorem q1596 : (Jvm.Cond.methodLink "WalkingStonesModel" (275 : Nat) ({ cls := "WalkingStonesModel", name := "plainPush", desc := "(III)I" } : Jvm.MethodName)) ∈ lw_all := lw_g (lw_at lw_m7 51 rfl) rfl
theorem q1597 : (Jvm.Cond.privateMethod ({ cls := "WalkingStonesModel", name := "plainPush", desc := "(III)I" } : Jvm.MethodName)) ∈ lw_tbl := lw_at lw_m7 52 rfl
theorem q1598 : (Jvm.Cond.instanceMethod ({ cls := "WalkingStonesModel", name := "plainPush", desc := "(III)I" } : Jvm.MethodName)) ∈ lw_all := lw_g (lw_at lw_m7 53 rfl) rfl
theorem q1599 : (Jvm.Cond.code ({ cls := "WalkingStonesModel", name := "plainPush", desc := "(III)I" } : Jvm.MethodName) prog_16_method_39_code (5 : Nat) (Option.some Jvm.ClassFile.FieldType.int)) ∈ lw_all := lw_g (lw_at lw_m7 54 rfl) rfl
theorem q1600 : (Jvm.Cond.methodLink "WalkingStonesModel" (256 : Nat) ({ cls := "WalkingStonesModel", name := "windNow", desc := "(I)I" } : Jvm.MethodName)) ∈ lw_all := lw_g (lw_at lw_m7 55 rfl) rfl
theorem q1601 : (Jvm.Cond.privateMethod ({ cls := "WalkingStonesModel", name := "windNow", desc := "(I)I" } : Jvm.MethodName)) ∈ lw_tbl := lw_at lw_m7 56 rfl
theorem q1602 : (Jvm.Cond.instanceMethod ({ cls := "WalkingStonesModel", name := "windNow", desc := "(I)I" } : Jvm.MethodName)) ∈ lw_all := lw_g (lw_at lw_m7 57 rfl) rfl
theorem q1603 : (Jvm.Cond.code ({ cls := "WalkingStonesModel", name := "windNow", desc := "(I)I" } : Jvm.MethodName) prog_16_method_36_code (2 : Nat) (Option.some Jvm.ClassFile.FieldType.int)) ∈ lw_all := lw_g (lw_at lw_m7 58 rfl) rfl
theorem q1604 : (Jvm.Cond.methodLink "WalkingStonesModel" (278 : Nat) ({ cls := "WalkingStonesModel", name := "tellsRule", desc := "(IIII)I" } : Jvm.MethodName)) ∈ lw_all := lw_g (lw_at lw_m7 59 rfl) rfl
theorem q1605 : (Jvm.Cond.privateMethod ({ cls := "WalkingStonesModel", name := "tellsRule", desc := "(IIII)I" } : Jvm.MethodName)) ∈ lw_tbl := lw_at lw_m7 60 rfl
theorem q1606 : (Jvm.Cond.instanceMethod ({ cls := "WalkingStonesModel", name := "tellsRule", desc := "(IIII)I" } : Jvm.MethodName)) ∈ lw_all := lw_g (lw_at lw_m7 61 rfl) rfl
theorem q1607 : (Jvm.Cond.code ({ cls := "WalkingStonesModel", name := "tellsRule", desc := "(IIII)I" } : Jvm.MethodName) prog_16_method_35_code (9 : Nat) (Option.some Jvm.ClassFile.FieldType.int)) ∈ lw_all := lw_g (lw_at lw_m7 62 rfl) rfl
theorem q1608 : (Jvm.Cond.methodLink "WalkingStonesModel" (259 : Nat) ({ cls := "WalkingStonesModel", name := "nameValue", desc := "(IIII)I" } : Jvm.MethodName)) ∈ lw_all := lw_g (lw_at lw_m7 63 rfl) rfl
theorem q1609 : (Jvm.Cond.privateMethod ({ cls := "WalkingStonesModel", name := "nameValue", desc := "(IIII)I" } : Jvm.MethodName)) ∈ lw_tbl := lw_at lw_m7 64 rfl
theorem q1610 : (Jvm.Cond.instanceMethod ({ cls := "WalkingStonesModel", name := "nameValue", desc := "(IIII)I" } : Jvm.MethodName)) ∈ lw_all := lw_g (lw_at lw_m7 65 rfl) rfl
theorem q1611 : (Jvm.Cond.code ({ cls := "WalkingStonesModel", name := "nameValue", desc := "(IIII)I" } : Jvm.MethodName) prog_16_method_33_code (5 : Nat) (Option.some Jvm.ClassFile.FieldType.int)) ∈ lw_all := lw_g (lw_at lw_m7 66 rfl) rfl
theorem q1612 : (Jvm.Cond.methodLink "WalkingStonesModel" (263 : Nat) ({ cls := "WalkingStonesModel", name := "done", desc := "(III)I" } : Jvm.MethodName)) ∈ lw_all := lw_g (lw_at lw_m7 67 rfl) rfl
theorem q1613 : (Jvm.Cond.privateMethod ({ cls := "WalkingStonesModel", name := "done", desc := "(III)I" } : Jvm.MethodName)) ∈ lw_tbl := lw_at lw_m7 68 rfl
theorem q1614 : (Jvm.Cond.instanceMethod ({ cls := "WalkingStonesModel", name := "done", desc := "(III)I" } : Jvm.MethodName)) ∈ lw_all := lw_g (lw_at lw_m7 69 rfl) rfl
theorem q1615 : (Jvm.Cond.code ({ cls := "WalkingStonesModel", name := "done", desc := "(III)I" } : Jvm.MethodName) prog_16_method_34_code (4 : Nat) (Option.some Jvm.ClassFile.FieldType.int)) ∈ lw_all := lw_g (lw_at lw_m7 70 rfl) rfl
theorem q1617 : (Jvm.Cond.instanceMethod ({ cls := "WalkingStonesModel", name := "needs", desc := "(III)I" } : Jvm.MethodName)) ∈ lw_all := lw_g (lw_at lw_m7 72 rfl) rfl
theorem q1618 : (Jvm.Cond.selects "WalkingStonesModel" ({ cls := "WalkingStonesModel", name := "needs", desc := "(III)I" } : Jvm.MethodName) ({ cls := "WalkingStonesModel", name := "needs", desc := "(III)I" } : Jvm.MethodName)) ∈ lw_all := lw_g (lw_at lw_m7 73 rfl) rfl
theorem q1619 : (Jvm.Cond.code ({ cls := "WalkingStonesModel", name := "needs", desc := "(III)I" } : Jvm.MethodName) prog_16_method_43_code (6 : Nat) (Option.some Jvm.ClassFile.FieldType.int)) ∈ lw_all := lw_g (lw_at lw_m7 74 rfl) rfl
theorem q1621 : (Jvm.Cond.instanceMethod ({ cls := "WalkingStonesModel", name := "run", desc := "(IIII)I" } : Jvm.MethodName)) ∈ lw_all := lw_g (lw_at lw_m7 76 rfl) rfl
theorem q1622 : (Jvm.Cond.selects "WalkingStonesModel" ({ cls := "WalkingStonesModel", name := "run", desc := "(IIII)I" } : Jvm.MethodName) ({ cls := "WalkingStonesModel", name := "run", desc := "(IIII)I" } : Jvm.MethodName)) ∈ lw_all := lw_g (lw_at lw_m7 77 rfl) rfl
theorem q1623 : (Jvm.Cond.code ({ cls := "WalkingStonesModel", name := "run", desc := "(IIII)I" } : Jvm.MethodName) prog_16_method_51_code (5 : Nat) (Option.some Jvm.ClassFile.FieldType.int)) ∈ lw_all := lw_g (lw_at lw_m7 78 rfl) rfl
theorem q1624 : (Jvm.Cond.methodLink "WalkingStonesModel" (305 : Nat) ({ cls := "WalkingStonesModel", name := "isRow", desc := "(I)Z" } : Jvm.MethodName)) ∈ lw_all := lw_g (lw_at lw_m7 79 rfl) rfl
theorem q1625 : (Jvm.Cond.privateMethod ({ cls := "WalkingStonesModel", name := "isRow", desc := "(I)Z" } : Jvm.MethodName)) ∈ lw_tbl := lw_at lw_m7 80 rfl
theorem q1626 : (Jvm.Cond.instanceMethod ({ cls := "WalkingStonesModel", name := "isRow", desc := "(I)Z" } : Jvm.MethodName)) ∈ lw_all := lw_g (lw_at lw_m7 81 rfl) rfl
theorem q1627 : (Jvm.Cond.code ({ cls := "WalkingStonesModel", name := "isRow", desc := "(I)Z" } : Jvm.MethodName) prog_16_method_49_code (2 : Nat) (Option.some Jvm.ClassFile.FieldType.boolean)) ∈ lw_all := lw_g (lw_at lw_m7 82 rfl) rfl
theorem q1628 : (Jvm.Cond.methodLink "WalkingStonesModel" (308 : Nat) ({ cls := "WalkingStonesModel", name := "goRow", desc := "(II)V" } : Jvm.MethodName)) ∈ lw_all := lw_g (lw_at lw_m7 83 rfl) rfl
theorem q1629 : (Jvm.Cond.privateMethod ({ cls := "WalkingStonesModel", name := "goRow", desc := "(II)V" } : Jvm.MethodName)) ∈ lw_tbl := lw_at lw_m7 84 rfl
theorem q1630 : (Jvm.Cond.instanceMethod ({ cls := "WalkingStonesModel", name := "goRow", desc := "(II)V" } : Jvm.MethodName)) ∈ lw_all := lw_g (lw_at lw_m7 85 rfl) rfl
theorem q1631 : (Jvm.Cond.code ({ cls := "WalkingStonesModel", name := "goRow", desc := "(II)V" } : Jvm.MethodName) prog_16_method_50_code (4 : Nat) (Option.none : Option Jvm.ClassFile.FieldType)) ∈ lw_all := lw_g (lw_at lw_m7 86 rfl) rfl
theorem q1632 : (Jvm.Cond.methodLink "WalkingStonesModel" (299 : Nat) ({ cls := "WalkingStonesModel", name := "begin", desc := "()V" } : Jvm.MethodName)) ∈ lw_all := lw_g (lw_at lw_m7 87 rfl) rfl
theorem q1633 : (Jvm.Cond.privateMethod ({ cls := "WalkingStonesModel", name := "begin", desc := "()V" } : Jvm.MethodName)) ∈ lw_tbl := lw_at lw_m7 88 rfl
theorem q1634 : (Jvm.Cond.instanceMethod ({ cls := "WalkingStonesModel", name := "begin", desc := "()V" } : Jvm.MethodName)) ∈ lw_all := lw_g (lw_at lw_m7 89 rfl) rfl
theorem q1635 : (Jvm.Cond.code ({ cls := "WalkingStonesModel", name := "begin", desc := "()V" } : Jvm.MethodName) prog_16_method_46_code (2 : Nat) (Option.none : Option Jvm.ClassFile.FieldType)) ∈ lw_all := lw_g (lw_at lw_m7 90 rfl) rfl
theorem q1636 : (Jvm.Cond.methodLink "WalkingStonesModel" (302 : Nat) ({ cls := "WalkingStonesModel", name := "goNight", desc := "(II)V" } : Jvm.MethodName)) ∈ lw_all := lw_g (lw_at lw_m7 91 rfl) rfl
theorem q1637 : (Jvm.Cond.privateMethod ({ cls := "WalkingStonesModel", name := "goNight", desc := "(II)V" } : Jvm.MethodName)) ∈ lw_tbl := lw_at lw_m7 92 rfl
theorem q1638 : (Jvm.Cond.instanceMethod ({ cls := "WalkingStonesModel", name := "goNight", desc := "(II)V" } : Jvm.MethodName)) ∈ lw_all := lw_g (lw_at lw_m7 93 rfl) rfl
theorem q1639 : (Jvm.Cond.code ({ cls := "WalkingStonesModel", name := "goNight", desc := "(II)V" } : Jvm.MethodName) prog_16_method_47_code (8 : Nat) (Option.none : Option Jvm.ClassFile.FieldType)) ∈ lw_all := lw_g (lw_at lw_m7 94 rfl) rfl
theorem q1640 : (Jvm.Cond.methodLink "WalkingStonesModel" (290 : Nat) ({ cls := "WalkingStonesModel", name := "wayOf", desc := "(II)I" } : Jvm.MethodName)) ∈ lw_all := lw_g (lw_at lw_m7 95 rfl) rfl
theorem q1641 : (Jvm.Cond.privateMethod ({ cls := "WalkingStonesModel", name := "wayOf", desc := "(II)I" } : Jvm.MethodName)) ∈ lw_tbl := lw_at lw_m7 96 rfl
theorem q1642 : (Jvm.Cond.instanceMethod ({ cls := "WalkingStonesModel", name := "wayOf", desc := "(II)I" } : Jvm.MethodName)) ∈ lw_all := lw_g (lw_at lw_m7 97 rfl) rfl
theorem q1643 : (Jvm.Cond.code ({ cls := "WalkingStonesModel", name := "wayOf", desc := "(II)I" } : Jvm.MethodName) prog_16_method_41_code (3 : Nat) (Option.some Jvm.ClassFile.FieldType.int)) ∈ lw_all := lw_g (lw_at lw_m7 98 rfl) rfl
theorem q1644 : (Jvm.Cond.methodLink "WalkingStonesModel" (293 : Nat) ({ cls := "WalkingStonesModel", name := "ahead", desc := "(II)I" } : Jvm.MethodName)) ∈ lw_all := lw_g (lw_at lw_m7 99 rfl) rfl
theorem q1645 : (Jvm.Cond.privateMethod ({ cls := "WalkingStonesModel", name := "ahead", desc := "(II)I" } : Jvm.MethodName)) ∈ lw_tbl := lw_at lw_m7 100 rfl
theorem q1646 : (Jvm.Cond.instanceMethod ({ cls := "WalkingStonesModel", name := "ahead", desc := "(II)I" } : Jvm.MethodName)) ∈ lw_all := lw_g (lw_at lw_m7 101 rfl) rfl
theorem q1647 : (Jvm.Cond.code ({ cls := "WalkingStonesModel", name := "ahead", desc := "(II)I" } : Jvm.MethodName) prog_16_method_45_code (5 : Nat) (Option.some Jvm.ClassFile.FieldType.int)) ∈ lw_all := lw_g (lw_at lw_m7 102 rfl) rfl
theorem q1648 : (Jvm.Cond.methodLink "WalkingStonesModel" (296 : Nat) ({ cls := "WalkingStonesModel", name := "isFree", desc := "(I)Z" } : Jvm.MethodName)) ∈ lw_all := lw_g (lw_at lw_m7 103 rfl) rfl
theorem q1649 : (Jvm.Cond.privateMethod ({ cls := "WalkingStonesModel", name := "isFree", desc := "(I)Z" } : Jvm.MethodName)) ∈ lw_tbl := lw_at lw_m7 104 rfl
theorem q1650 : (Jvm.Cond.instanceMethod ({ cls := "WalkingStonesModel", name := "isFree", desc := "(I)Z" } : Jvm.MethodName)) ∈ lw_all := lw_g (lw_at lw_m7 105 rfl) rfl
theorem q1651 : (Jvm.Cond.code ({ cls := "WalkingStonesModel", name := "isFree", desc := "(I)Z" } : Jvm.MethodName) prog_16_method_44_code (3 : Nat) (Option.some Jvm.ClassFile.FieldType.boolean)) ∈ lw_all := lw_g (lw_at lw_m7 106 rfl) rfl
theorem q1653 : (Jvm.Cond.instanceMethod ({ cls := "WalkingStonesModel", name := "lay", desc := "(II)I" } : Jvm.MethodName)) ∈ lw_all := lw_g (lw_at lw_m7 108 rfl) rfl
theorem q1654 : (Jvm.Cond.selects "WalkingStonesModel" ({ cls := "WalkingStonesModel", name := "lay", desc := "(II)I" } : Jvm.MethodName) ({ cls := "WalkingStonesModel", name := "lay", desc := "(II)I" } : Jvm.MethodName)) ∈ lw_all := lw_g (lw_at lw_m7 109 rfl) rfl
theorem q1655 : (Jvm.Cond.code ({ cls := "WalkingStonesModel", name := "lay", desc := "(II)I" } : Jvm.MethodName) prog_16_method_52_code (5 : Nat) (Option.some Jvm.ClassFile.FieldType.int)) ∈ lw_all := lw_g (lw_at lw_m7 110 rfl) rfl
theorem q1657 : (Jvm.Cond.instanceMethod ({ cls := "WalkingStonesModel", name := "track", desc := "(III)I" } : Jvm.MethodName)) ∈ lw_all := lw_g (lw_at lw_m7 112 rfl) rfl
theorem q1658 : (Jvm.Cond.selects "WalkingStonesModel" ({ cls := "WalkingStonesModel", name := "track", desc := "(III)I" } : Jvm.MethodName) ({ cls := "WalkingStonesModel", name := "track", desc := "(III)I" } : Jvm.MethodName)) ∈ lw_all := lw_g (lw_at lw_m7 113 rfl) rfl
theorem q1659 : (Jvm.Cond.code ({ cls := "WalkingStonesModel", name := "track", desc := "(III)I" } : Jvm.MethodName) prog_16_method_54_code (4 : Nat) (Option.some Jvm.ClassFile.FieldType.int)) ∈ lw_all := lw_g (lw_at lw_m7 114 rfl) rfl
theorem q1661 : (Jvm.Cond.instanceMethod ({ cls := "WalkingStonesModel", name := "together", desc := "(III)I" } : Jvm.MethodName)) ∈ lw_all := lw_g (lw_at lw_m7 116 rfl) rfl
theorem q1662 : (Jvm.Cond.selects "WalkingStonesModel" ({ cls := "WalkingStonesModel", name := "together", desc := "(III)I" } : Jvm.MethodName) ({ cls := "WalkingStonesModel", name := "together", desc := "(III)I" } : Jvm.MethodName)) ∈ lw_all := lw_g (lw_at lw_m7 117 rfl) rfl
theorem q1663 : (Jvm.Cond.code ({ cls := "WalkingStonesModel", name := "together", desc := "(III)I" } : Jvm.MethodName) prog_16_method_57_code (4 : Nat) (Option.some Jvm.ClassFile.FieldType.int)) ∈ lw_all := lw_g (lw_at lw_m7 118 rfl) rfl
theorem q1664 : (Jvm.Cond.methodLink "WalkingStonesModel" (314 : Nat) ({ cls := "WalkingStonesModel", name := "isTrack", desc := "(I)Z" } : Jvm.MethodName)) ∈ lw_all := lw_g (lw_at lw_m7 119 rfl) rfl
theorem q1665 : (Jvm.Cond.privateMethod ({ cls := "WalkingStonesModel", name := "isTrack", desc := "(I)Z" } : Jvm.MethodName)) ∈ lw_tbl := lw_at lw_m7 120 rfl
theorem q1666 : (Jvm.Cond.instanceMethod ({ cls := "WalkingStonesModel", name := "isTrack", desc := "(I)Z" } : Jvm.MethodName)) ∈ lw_all := lw_g (lw_at lw_m7 121 rfl) rfl
theorem q1667 : (Jvm.Cond.code ({ cls := "WalkingStonesModel", name := "isTrack", desc := "(I)Z" } : Jvm.MethodName) prog_16_method_53_code (2 : Nat) (Option.some Jvm.ClassFile.FieldType.boolean)) ∈ lw_all := lw_g (lw_at lw_m7 122 rfl) rfl
theorem q1668 : (Jvm.Cond.methodLink "WalkingStonesModel" (317 : Nat) ({ cls := "WalkingStonesModel", name := "areTogether", desc := "(III)Z" } : Jvm.MethodName)) ∈ lw_all := lw_g (lw_at lw_m7 123 rfl) rfl
theorem q1669 : (Jvm.Cond.privateMethod ({ cls := "WalkingStonesModel", name := "areTogether", desc := "(III)Z" } : Jvm.MethodName)) ∈ lw_tbl := lw_at lw_m7 124 rfl
theorem q1670 : (Jvm.Cond.instanceMethod ({ cls := "WalkingStonesModel", name := "areTogether", desc := "(III)Z" } : Jvm.MethodName)) ∈ lw_all := lw_g (lw_at lw_m7 125 rfl) rfl
theorem q1671 : (Jvm.Cond.code ({ cls := "WalkingStonesModel", name := "areTogether", desc := "(III)Z" } : Jvm.MethodName) prog_16_method_56_code (4 : Nat) (Option.some Jvm.ClassFile.FieldType.boolean)) ∈ lw_all := lw_g (lw_at lw_m7 126 rfl) rfl
theorem q1672 : (Jvm.Cond.methodLink "WalkingStonesModel" (311 : Nat) ({ cls := "WalkingStonesModel", name := "apart", desc := "(II)I" } : Jvm.MethodName)) ∈ lw_all := lw_g (lw_at lw_m7 127 rfl) rfl
theorem q1673 : (Jvm.Cond.privateMethod ({ cls := "WalkingStonesModel", name := "apart", desc := "(II)I" } : Jvm.MethodName)) ∈ lw_tbl := lw_at lw_m7 128 rfl
theorem q1674 : (Jvm.Cond.instanceMethod ({ cls := "WalkingStonesModel", name := "apart", desc := "(II)I" } : Jvm.MethodName)) ∈ lw_all := lw_g (lw_at lw_m7 129 rfl) rfl
theorem q1675 : (Jvm.Cond.code ({ cls := "WalkingStonesModel", name := "apart", desc := "(II)I" } : Jvm.MethodName) prog_16_method_55_code (3 : Nat) (Option.some Jvm.ClassFile.FieldType.int)) ∈ lw_all := lw_g (lw_at lw_m7 130 rfl) rfl
theorem q1677 : (Jvm.Cond.instanceMethod ({ cls := "WalkingStonesModel", name := "groups", desc := "(I)I" } : Jvm.MethodName)) ∈ lw_all := lw_g (lw_at lw_m7 132 rfl) rfl
theorem q1678 : (Jvm.Cond.selects "WalkingStonesModel" ({ cls := "WalkingStonesModel", name := "groups", desc := "(I)I" } : Jvm.MethodName) ({ cls := "WalkingStonesModel", name := "groups", desc := "(I)I" } : Jvm.MethodName)) ∈ lw_all := lw_g (lw_at lw_m7 133 rfl) rfl
theorem q1679 : (Jvm.Cond.code ({ cls := "WalkingStonesModel", name := "groups", desc := "(I)I" } : Jvm.MethodName) prog_16_method_58_code (7 : Nat) (Option.some Jvm.ClassFile.FieldType.int)) ∈ lw_all := lw_g (lw_at lw_m7 134 rfl) rfl
theorem q1681 : (Jvm.Cond.instanceMethod ({ cls := "WalkingStonesModel", name := "fits", desc := "(II)I" } : Jvm.MethodName)) ∈ lw_all := lw_g (lw_at lw_m7 136 rfl) rfl
theorem q1682 : (Jvm.Cond.selects "WalkingStonesModel" ({ cls := "WalkingStonesModel", name := "fits", desc := "(II)I" } : Jvm.MethodName) ({ cls := "WalkingStonesModel", name := "fits", desc := "(II)I" } : Jvm.MethodName)) ∈ lw_all := lw_g (lw_at lw_m7 137 rfl) rfl
theorem q1683 : (Jvm.Cond.code ({ cls := "WalkingStonesModel", name := "fits", desc := "(II)I" } : Jvm.MethodName) prog_16_method_60_code (3 : Nat) (Option.some Jvm.ClassFile.FieldType.int)) ∈ lw_all := lw_g (lw_at lw_m7 138 rfl) rfl
theorem q1684 : (Jvm.Cond.methodLink "WalkingStonesModel" (320 : Nat) ({ cls := "WalkingStonesModel", name := "goAll", desc := "(I)V" } : Jvm.MethodName)) ∈ lw_all := lw_g (lw_at lw_m7 139 rfl) rfl
theorem q1685 : (Jvm.Cond.privateMethod ({ cls := "WalkingStonesModel", name := "goAll", desc := "(I)V" } : Jvm.MethodName)) ∈ lw_tbl := lw_at lw_m7 140 rfl
theorem q1686 : (Jvm.Cond.instanceMethod ({ cls := "WalkingStonesModel", name := "goAll", desc := "(I)V" } : Jvm.MethodName)) ∈ lw_all := lw_g (lw_at lw_m7 141 rfl) rfl
theorem q1687 : (Jvm.Cond.code ({ cls := "WalkingStonesModel", name := "goAll", desc := "(I)V" } : Jvm.MethodName) prog_16_method_48_code (3 : Nat) (Option.none : Option Jvm.ClassFile.FieldType)) ∈ lw_all := lw_g (lw_at lw_m7 142 rfl) rfl
theorem q1688 : (Jvm.Cond.methodLink "WalkingStonesModel" (323 : Nat) ({ cls := "WalkingStonesModel", name := "fitting", desc := "(I)I" } : Jvm.MethodName)) ∈ lw_all := lw_g (lw_at lw_m7 143 rfl) rfl
theorem q1689 : (Jvm.Cond.privateMethod ({ cls := "WalkingStonesModel", name := "fitting", desc := "(I)I" } : Jvm.MethodName)) ∈ lw_tbl := lw_at lw_m7 144 rfl
theorem q1690 : (Jvm.Cond.instanceMethod ({ cls := "WalkingStonesModel", name := "fitting", desc := "(I)I" } : Jvm.MethodName)) ∈ lw_all := lw_g (lw_at lw_m7 145 rfl) rfl
theorem q1691 : (Jvm.Cond.code ({ cls := "WalkingStonesModel", name := "fitting", desc := "(I)I" } : Jvm.MethodName) prog_16_method_59_code (4 : Nat) (Option.some Jvm.ClassFile.FieldType.int)) ∈ lw_all := lw_g (lw_at lw_m7 146 rfl) rfl
theorem q1693 : (Jvm.Cond.instanceMethod ({ cls := "WalkingStonesModel", name := "odds", desc := "(III)J" } : Jvm.MethodName)) ∈ lw_all := lw_g (lw_at lw_m7 148 rfl) rfl
theorem q1694 : (Jvm.Cond.selects "WalkingStonesModel" ({ cls := "WalkingStonesModel", name := "odds", desc := "(III)J" } : Jvm.MethodName) ({ cls := "WalkingStonesModel", name := "odds", desc := "(III)J" } : Jvm.MethodName)) ∈ lw_all := lw_g (lw_at lw_m7 149 rfl) rfl
theorem q1695 : (Jvm.Cond.code ({ cls := "WalkingStonesModel", name := "odds", desc := "(III)J" } : Jvm.MethodName) prog_16_method_63_code (11 : Nat) (Option.some Jvm.ClassFile.FieldType.long)) ∈ lw_all := lw_g (lw_at lw_m7 150 rfl) rfl
theorem q1696 : (Jvm.Cond.constantLong "WalkingStonesModel" (326 : Nat) (-4611686018427387904 : Int64)) ∈ lw_all := lw_g (lw_at lw_m7 151 rfl) rfl
theorem q1697 : (Jvm.Cond.methodLink "WalkingStonesModel" (328 : Nat) ({ cls := "WalkingStonesModel", name := "product", desc := "(II)J" } : Jvm.MethodName)) ∈ lw_all := lw_g (lw_at lw_m7 152 rfl) rfl
theorem q1698 : (Jvm.Cond.privateMethod ({ cls := "WalkingStonesModel", name := "product", desc := "(II)J" } : Jvm.MethodName)) ∈ lw_tbl := lw_at lw_m7 153 rfl
theorem q1699 : (Jvm.Cond.instanceMethod ({ cls := "WalkingStonesModel", name := "product", desc := "(II)J" } : Jvm.MethodName)) ∈ lw_all := lw_g (lw_at lw_m7 154 rfl) rfl
theorem q1700 : (Jvm.Cond.code ({ cls := "WalkingStonesModel", name := "product", desc := "(II)J" } : Jvm.MethodName) prog_16_method_61_code (6 : Nat) (Option.some Jvm.ClassFile.FieldType.long)) ∈ lw_all := lw_g (lw_at lw_m7 155 rfl) rfl
theorem q1701 : (Jvm.Cond.methodLink "WalkingStonesModel" (332 : Nat) ({ cls := "WalkingStonesModel", name := "divisor", desc := "(JJ)J" } : Jvm.MethodName)) ∈ lw_all := lw_g (lw_at lw_m7 156 rfl) rfl
theorem q1702 : (Jvm.Cond.privateMethod ({ cls := "WalkingStonesModel", name := "divisor", desc := "(JJ)J" } : Jvm.MethodName)) ∈ lw_tbl := lw_at lw_m7 157 rfl
theorem q1703 : (Jvm.Cond.instanceMethod ({ cls := "WalkingStonesModel", name := "divisor", desc := "(JJ)J" } : Jvm.MethodName)) ∈ lw_all := lw_g (lw_at lw_m7 158 rfl) rfl
theorem q1704 : (Jvm.Cond.code ({ cls := "WalkingStonesModel", name := "divisor", desc := "(JJ)J" } : Jvm.MethodName) prog_16_method_62_code (11 : Nat) (Option.some Jvm.ClassFile.FieldType.long)) ∈ lw_all := lw_g (lw_at lw_m7 159 rfl) rfl
theorem q1706 : (Jvm.Cond.instanceMethod ({ cls := "WalkingStonesModel", name := "peg", desc := "(I)I" } : Jvm.MethodName)) ∈ lw_all := lw_g (lw_at lw_m7 161 rfl) rfl
theorem q1707 : (Jvm.Cond.selects "WalkingStonesModel" ({ cls := "WalkingStonesModel", name := "peg", desc := "(I)I" } : Jvm.MethodName) ({ cls := "WalkingStonesModel", name := "peg", desc := "(I)I" } : Jvm.MethodName)) ∈ lw_all := lw_g (lw_at lw_m7 162 rfl) rfl
theorem q1708 : (Jvm.Cond.code ({ cls := "WalkingStonesModel", name := "peg", desc := "(I)I" } : Jvm.MethodName) prog_16_method_64_code (2 : Nat) (Option.some Jvm.ClassFile.FieldType.int)) ∈ lw_all := lw_g (lw_at lw_m7 163 rfl) rfl
theorem q1710 : (Jvm.Cond.instanceMethod ({ cls := "WalkingStonesModel", name := "holds", desc := "(II)I" } : Jvm.MethodName)) ∈ lw_all := lw_g (lw_at lw_m7 165 rfl) rfl
theorem q1711 : (Jvm.Cond.selects "WalkingStonesModel" ({ cls := "WalkingStonesModel", name := "holds", desc := "(II)I" } : Jvm.MethodName) ({ cls := "WalkingStonesModel", name := "holds", desc := "(II)I" } : Jvm.MethodName)) ∈ lw_all := lw_g (lw_at lw_m7 166 rfl) rfl
theorem q1712 : (Jvm.Cond.code ({ cls := "WalkingStonesModel", name := "holds", desc := "(II)I" } : Jvm.MethodName) prog_16_method_66_code (3 : Nat) (Option.some Jvm.ClassFile.FieldType.int)) ∈ lw_all := lw_g (lw_at lw_m7 167 rfl) rfl
theorem q1713 : (Jvm.Cond.methodLink "WalkingStonesModel" (336 : Nat) ({ cls := "WalkingStonesModel", name := "isHeld", desc := "(II)Z" } : Jvm.MethodName)) ∈ lw_all := lw_g (lw_at lw_m7 168 rfl) rfl
theorem q1714 : (Jvm.Cond.privateMethod ({ cls := "WalkingStonesModel", name := "isHeld", desc := "(II)Z" } : Jvm.MethodName)) ∈ lw_tbl := lw_at lw_m7 169 rfl
theorem q1715 : (Jvm.Cond.instanceMethod ({ cls := "WalkingStonesModel", name := "isHeld", desc := "(II)Z" } : Jvm.MethodName)) ∈ lw_all := lw_g (lw_at lw_m7 170 rfl) rfl
theorem q1716 : (Jvm.Cond.code ({ cls := "WalkingStonesModel", name := "isHeld", desc := "(II)Z" } : Jvm.MethodName) prog_16_method_65_code (10 : Nat) (Option.some Jvm.ClassFile.FieldType.boolean)) ∈ lw_all := lw_g (lw_at lw_m7 171 rfl) rfl
theorem q1718 : (Jvm.Cond.instanceMethod ({ cls := "WalkingStonesModel", name := "bars", desc := "(II)I" } : Jvm.MethodName)) ∈ lw_all := lw_g (lw_at lw_m7 173 rfl) rfl
theorem q1719 : (Jvm.Cond.selects "WalkingStonesModel" ({ cls := "WalkingStonesModel", name := "bars", desc := "(II)I" } : Jvm.MethodName) ({ cls := "WalkingStonesModel", name := "bars", desc := "(II)I" } : Jvm.MethodName)) ∈ lw_all := lw_g (lw_at lw_m7 174 rfl) rfl
theorem q1720 : (Jvm.Cond.code ({ cls := "WalkingStonesModel", name := "bars", desc := "(II)I" } : Jvm.MethodName) prog_16_method_68_code (5 : Nat) (Option.some Jvm.ClassFile.FieldType.int)) ∈ lw_all := lw_g (lw_at lw_m7 175 rfl) rfl
theorem q1721 : (Jvm.Cond.methodLink "WalkingStonesModel" (339 : Nat) ({ cls := "WalkingStonesModel", name := "isOut", desc := "(I)Z" } : Jvm.MethodName)) ∈ lw_all := lw_g (lw_at lw_m7 176 rfl) rfl
theorem q1722 : (Jvm.Cond.privateMethod ({ cls := "WalkingStonesModel", name := "isOut", desc := "(I)Z" } : Jvm.MethodName)) ∈ lw_tbl := lw_at lw_m7 177 rfl
theorem q1723 : (Jvm.Cond.instanceMethod ({ cls := "WalkingStonesModel", name := "isOut", desc := "(I)Z" } : Jvm.MethodName)) ∈ lw_all := lw_g (lw_at lw_m7 178 rfl) rfl
theorem q1724 : (Jvm.Cond.code ({ cls := "WalkingStonesModel", name := "isOut", desc := "(I)Z" } : Jvm.MethodName) prog_16_method_67_code (7 : Nat) (Option.some Jvm.ClassFile.FieldType.boolean)) ∈ lw_all := lw_g (lw_at lw_m7 179 rfl) rfl
theorem q1726 : (Jvm.Cond.instanceMethod ({ cls := "WalkingStonesModel", name := "seldom", desc := "(II)J" } : Jvm.MethodName)) ∈ lw_all := lw_g (lw_at lw_m7 181 rfl) rfl
theorem q1727 : (Jvm.Cond.selects "WalkingStonesModel" ({ cls := "WalkingStonesModel", name := "seldom", desc := "(II)J" } : Jvm.MethodName) ({ cls := "WalkingStonesModel", name := "seldom", desc := "(II)J" } : Jvm.MethodName)) ∈ lw_all := lw_g (lw_at lw_m7 182 rfl) rfl
theorem q1728 : (Jvm.Cond.code ({ cls := "WalkingStonesModel", name := "seldom", desc := "(II)J" } : Jvm.MethodName) prog_16_method_71_code (14 : Nat) (Option.some Jvm.ClassFile.FieldType.long)) ∈ lw_all := lw_g (lw_at lw_m7 183 rfl) rfl
theorem q1729 : (Jvm.Cond.methodLink "WalkingStonesModel" (342 : Nat) ({ cls := "WalkingStonesModel", name := "pushesSome", desc := "(II)Z" } : Jvm.MethodName)) ∈ lw_all := lw_g (lw_at lw_m7 184 rfl) rfl
theorem q1730 : (Jvm.Cond.privateMethod ({ cls := "WalkingStonesModel", name := "pushesSome", desc := "(II)Z" } : Jvm.MethodName)) ∈ lw_tbl := lw_at lw_m7 185 rfl
theorem q1731 : (Jvm.Cond.instanceMethod ({ cls := "WalkingStonesModel", name := "pushesSome", desc := "(II)Z" } : Jvm.MethodName)) ∈ lw_all := lw_g (lw_at lw_m7 186 rfl) rfl
theorem q1732 : (Jvm.Cond.code ({ cls := "WalkingStonesModel", name := "pushesSome", desc := "(II)Z" } : Jvm.MethodName) prog_16_method_69_code (4 : Nat) (Option.some Jvm.ClassFile.FieldType.boolean)) ∈ lw_all := lw_g (lw_at lw_m7 187 rfl) rfl
theorem q1733 : (Jvm.Cond.methodLink "WalkingStonesModel" (345 : Nat) ({ cls := "WalkingStonesModel", name := "lightest", desc := "()I" } : Jvm.MethodName)) ∈ lw_all := lw_g (lw_at lw_m7 188 rfl) rfl
theorem q1734 : (Jvm.Cond.privateMethod ({ cls := "WalkingStonesModel", name := "lightest", desc := "()I" } : Jvm.MethodName)) ∈ lw_tbl := lw_at lw_m7 189 rfl
theorem q1735 : (Jvm.Cond.instanceMethod ({ cls := "WalkingStonesModel", name := "lightest", desc := "()I" } : Jvm.MethodName)) ∈ lw_all := lw_g (lw_at lw_m7 190 rfl) rfl
theorem q1736 : (Jvm.Cond.code ({ cls := "WalkingStonesModel", name := "lightest", desc := "()I" } : Jvm.MethodName) prog_16_method_70_code (3 : Nat) (Option.some Jvm.ClassFile.FieldType.int)) ∈ lw_all := lw_g (lw_at lw_m7 191 rfl) rfl
theorem q1738 : (Jvm.Cond.instanceMethod ({ cls := "WalkingStonesModel", name := "when", desc := "(II)J" } : Jvm.MethodName)) ∈ lw_all := lw_g (lw_at lw_m7 193 rfl) rfl
theorem q1739 : (Jvm.Cond.selects "WalkingStonesModel" ({ cls := "WalkingStonesModel", name := "when", desc := "(II)J" } : Jvm.MethodName) ({ cls := "WalkingStonesModel", name := "when", desc := "(II)J" } : Jvm.MethodName)) ∈ lw_all := lw_g (lw_at lw_m7 194 rfl) rfl
theorem q1740 : (Jvm.Cond.code ({ cls := "WalkingStonesModel", name := "when", desc := "(II)J" } : Jvm.MethodName) prog_16_method_73_code (6 : Nat) (Option.some Jvm.ClassFile.FieldType.long)) ∈ lw_all := lw_g (lw_at lw_m7 195 rfl) rfl
theorem q1741 : (Jvm.Cond.methodLink "WalkingStonesModel" (348 : Nat) ({ cls := "WalkingStonesModel", name := "canGo", desc := "(III)Z" } : Jvm.MethodName)) ∈ lw_all := lw_g (lw_at lw_m7 196 rfl) rfl
theorem q1742 : (Jvm.Cond.privateMethod ({ cls := "WalkingStonesModel", name := "canGo", desc := "(III)Z" } : Jvm.MethodName)) ∈ lw_tbl := lw_at lw_m7 197 rfl
theorem q1743 : (Jvm.Cond.instanceMethod ({ cls := "WalkingStonesModel", name := "canGo", desc := "(III)Z" } : Jvm.MethodName)) ∈ lw_all := lw_g (lw_at lw_m7 198 rfl) rfl
theorem q1744 : (Jvm.Cond.code ({ cls := "WalkingStonesModel", name := "canGo", desc := "(III)Z" } : Jvm.MethodName) prog_16_method_72_code (5 : Nat) (Option.some Jvm.ClassFile.FieldType.boolean)) ∈ lw_all := lw_g (lw_at lw_m7 199 rfl) rfl
theorem q1746 : (Jvm.Cond.instanceMethod ({ cls := "WalkingStonesModel", name := "cross", desc := "(II)I" } : Jvm.MethodName)) ∈ lw_all := lw_g (lw_at lw_m7 201 rfl) rfl
theorem q1747 : (Jvm.Cond.selects "WalkingStonesModel" ({ cls := "WalkingStonesModel", name := "cross", desc := "(II)I" } : Jvm.MethodName) ({ cls := "WalkingStonesModel", name := "cross", desc := "(II)I" } : Jvm.MethodName)) ∈ lw_all := lw_g (lw_at lw_m7 202 rfl) rfl
theorem q1748 : (Jvm.Cond.code ({ cls := "WalkingStonesModel", name := "cross", desc := "(II)I" } : Jvm.MethodName) prog_16_method_74_code (3 : Nat) (Option.some Jvm.ClassFile.FieldType.int)) ∈ lw_all := lw_g (lw_at lw_m7 203 rfl) rfl
theorem q1750 : (Jvm.Cond.instanceMethod ({ cls := "WalkingStonesModel", name := "order", desc := "(I)I" } : Jvm.MethodName)) ∈ lw_all := lw_g (lw_at lw_m7 205 rfl) rfl
theorem q1751 : (Jvm.Cond.selects "WalkingStonesModel" ({ cls := "WalkingStonesModel", name := "order", desc := "(I)I" } : Jvm.MethodName) ({ cls := "WalkingStonesModel", name := "order", desc := "(I)I" } : Jvm.MethodName)) ∈ lw_all := lw_g (lw_at lw_m7 206 rfl) rfl
theorem q1752 : (Jvm.Cond.code ({ cls := "WalkingStonesModel", name := "order", desc := "(I)I" } : Jvm.MethodName) prog_16_method_76_code (5 : Nat) (Option.some Jvm.ClassFile.FieldType.int)) ∈ lw_all := lw_g (lw_at lw_m7 207 rfl) rfl
theorem q1753 : (Jvm.Cond.methodLink "WalkingStonesModel" (351 : Nat) ({ cls := "WalkingStonesModel", name := "eldest", desc := "(I)I" } : Jvm.MethodName)) ∈ lw_all := lw_g (lw_at lw_m7 208 rfl) rfl
theorem q1754 : (Jvm.Cond.privateMethod ({ cls := "WalkingStonesModel", name := "eldest", desc := "(I)I" } : Jvm.MethodName)) ∈ lw_tbl := lw_at lw_m7 209 rfl
theorem q1755 : (Jvm.Cond.instanceMethod ({ cls := "WalkingStonesModel", name := "eldest", desc := "(I)I" } : Jvm.MethodName)) ∈ lw_all := lw_g (lw_at lw_m7 210 rfl) rfl
theorem q1756 : (Jvm.Cond.code ({ cls := "WalkingStonesModel", name := "eldest", desc := "(I)I" } : Jvm.MethodName) prog_16_method_75_code (5 : Nat) (Option.some Jvm.ClassFile.FieldType.int)) ∈ lw_all := lw_g (lw_at lw_m7 211 rfl) rfl
theorem q1758 : (Jvm.Cond.instanceMethod ({ cls := "WalkingStonesModel", name := "look", desc := "(II)I" } : Jvm.MethodName)) ∈ lw_all := lw_g (lw_at lw_m7 213 rfl) rfl
theorem q1759 : (Jvm.Cond.selects "WalkingStonesModel" ({ cls := "WalkingStonesModel", name := "look", desc := "(II)I" } : Jvm.MethodName) ({ cls := "WalkingStonesModel", name := "look", desc := "(II)I" } : Jvm.MethodName)) ∈ lw_all := lw_g (lw_at lw_m7 214 rfl) rfl
theorem q1760 : (Jvm.Cond.code ({ cls := "WalkingStonesModel", name := "look", desc := "(II)I" } : Jvm.MethodName) prog_16_method_78_code (11 : Nat) (Option.some Jvm.ClassFile.FieldType.int)) ∈ lw_all := lw_g (lw_at lw_m7 215 rfl) rfl
theorem q1761 : (Jvm.Cond.methodLink "WalkingStonesModel" (354 : Nat) ({ cls := "WalkingStonesModel", name := "worthOf", desc := "(I)I" } : Jvm.MethodName)) ∈ lw_all := lw_g (lw_at lw_m7 216 rfl) rfl
theorem q1762 : (Jvm.Cond.privateMethod ({ cls := "WalkingStonesModel", name := "worthOf", desc := "(I)I" } : Jvm.MethodName)) ∈ lw_tbl := lw_at lw_m7 217 rfl
theorem q1763 : (Jvm.Cond.instanceMethod ({ cls := "WalkingStonesModel", name := "worthOf", desc := "(I)I" } : Jvm.MethodName)) ∈ lw_all := lw_g (lw_at lw_m7 218 rfl) rfl
theorem q1764 : (Jvm.Cond.code ({ cls := "WalkingStonesModel", name := "worthOf", desc := "(I)I" } : Jvm.MethodName) prog_16_method_77_code (3 : Nat) (Option.some Jvm.ClassFile.FieldType.int)) ∈ lw_all := lw_g (lw_at lw_m7 219 rfl) rfl
theorem q1766 : (Jvm.Cond.instanceMethod ({ cls := "WalkingStonesModel", name := "foretold", desc := "(II)I" } : Jvm.MethodName)) ∈ lw_all := lw_g (lw_at lw_m7 221 rfl) rfl
theorem q1767 : (Jvm.Cond.selects "WalkingStonesModel" ({ cls := "WalkingStonesModel", name := "foretold", desc := "(II)I" } : Jvm.MethodName) ({ cls := "WalkingStonesModel", name := "foretold", desc := "(II)I" } : Jvm.MethodName)) ∈ lw_all := lw_g (lw_at lw_m7 222 rfl) rfl
theorem q1768 : (Jvm.Cond.code ({ cls := "WalkingStonesModel", name := "foretold", desc := "(II)I" } : Jvm.MethodName) prog_16_method_80_code (3 : Nat) (Option.some Jvm.ClassFile.FieldType.int)) ∈ lw_all := lw_g (lw_at lw_m7 223 rfl) rfl
theorem q1769 : (Jvm.Cond.methodLink "WalkingStonesModel" (357 : Nat) ({ cls := "WalkingStonesModel", name := "goers", desc := "(II)I" } : Jvm.MethodName)) ∈ lw_all := lw_g (lw_at lw_m7 224 rfl) rfl
theorem q1770 : (Jvm.Cond.privateMethod ({ cls := "WalkingStonesModel", name := "goers", desc := "(II)I" } : Jvm.MethodName)) ∈ lw_tbl := lw_at lw_m7 225 rfl
theorem q1771 : (Jvm.Cond.instanceMethod ({ cls := "WalkingStonesModel", name := "goers", desc := "(II)I" } : Jvm.MethodName)) ∈ lw_all := lw_g (lw_at lw_m7 226 rfl) rfl
theorem q1772 : (Jvm.Cond.code ({ cls := "WalkingStonesModel", name := "goers", desc := "(II)I" } : Jvm.MethodName) prog_16_method_79_code (5 : Nat) (Option.some Jvm.ClassFile.FieldType.int)) ∈ lw_all := lw_g (lw_at lw_m7 227 rfl) rfl
theorem q1774 : (Jvm.Cond.instanceMethod ({ cls := "WalkingStonesModel", name := "held", desc := "(III)I" } : Jvm.MethodName)) ∈ lw_all := lw_g (lw_at lw_m7 229 rfl) rfl
theorem q1775 : (Jvm.Cond.selects "WalkingStonesModel" ({ cls := "WalkingStonesModel", name := "held", desc := "(III)I" } : Jvm.MethodName) ({ cls := "WalkingStonesModel", name := "held", desc := "(III)I" } : Jvm.MethodName)) ∈ lw_all := lw_g (lw_at lw_m7 230 rfl) rfl
theorem q1776 : (Jvm.Cond.code ({ cls := "WalkingStonesModel", name := "held", desc := "(III)I" } : Jvm.MethodName) prog_16_method_81_code (6 : Nat) (Option.some Jvm.ClassFile.FieldType.int)) ∈ lw_all := lw_g (lw_at lw_m7 231 rfl) rfl
theorem q1777 : (Jvm.Cond.methodLink "WalkingStonesModel" (360 : Nat) ({ cls := "WalkingStonesModel", name := "isSheet", desc := "(I)Z" } : Jvm.MethodName)) ∈ lw_all := lw_g (lw_at lw_m7 232 rfl) rfl
theorem q1778 : (Jvm.Cond.privateMethod ({ cls := "WalkingStonesModel", name := "isSheet", desc := "(I)Z" } : Jvm.MethodName)) ∈ lw_tbl := lw_at lw_m7 233 rfl
theorem q1779 : (Jvm.Cond.instanceMethod ({ cls := "WalkingStonesModel", name := "isSheet", desc := "(I)Z" } : Jvm.MethodName)) ∈ lw_all := lw_g (lw_at lw_m7 234 rfl) rfl
theorem q1780 : (Jvm.Cond.code ({ cls := "WalkingStonesModel", name := "isSheet", desc := "(I)Z" } : Jvm.MethodName) prog_16_method_85_code (2 : Nat) (Option.some Jvm.ClassFile.FieldType.boolean)) ∈ lw_all := lw_g (lw_at lw_m7 235 rfl) rfl
theorem q1782 : (Jvm.Cond.instanceMethod ({ cls := "WalkingStonesModel", name := "image", desc := "()I" } : Jvm.MethodName)) ∈ lw_all := lw_g (lw_at lw_m7 237 rfl) rfl
theorem q1783 : (Jvm.Cond.selects "WalkingStonesModel" ({ cls := "WalkingStonesModel", name := "image", desc := "()I" } : Jvm.MethodName) ({ cls := "WalkingStonesModel", name := "image", desc := "()I" } : Jvm.MethodName)) ∈ lw_all := lw_g (lw_at lw_m7 238 rfl) rfl
theorem q1784 : (Jvm.Cond.code ({ cls := "WalkingStonesModel", name := "image", desc := "()I" } : Jvm.MethodName) prog_16_method_82_code (2 : Nat) (Option.some Jvm.ClassFile.FieldType.int)) ∈ lw_all := lw_g (lw_at lw_m7 239 rfl) rfl
theorem q1786 : (Jvm.Cond.instanceMethod ({ cls := "WalkingStonesModel", name := "back", desc := "()I" } : Jvm.MethodName)) ∈ lw_all := lw_g (lw_at lw_m8 1 rfl) rfl
theorem q1787 : (Jvm.Cond.selects "WalkingStonesModel" ({ cls := "WalkingStonesModel", name := "back", desc := "()I" } : Jvm.MethodName) ({ cls := "WalkingStonesModel", name := "back", desc := "()I" } : Jvm.MethodName)) ∈ lw_all := lw_g (lw_at lw_m8 2 rfl) rfl
theorem q1788 : (Jvm.Cond.code ({ cls := "WalkingStonesModel", name := "back", desc := "()I" } : Jvm.MethodName) prog_16_method_83_code (2 : Nat) (Option.some Jvm.ClassFile.FieldType.int)) ∈ lw_all := lw_g (lw_at lw_m8 3 rfl) rfl
theorem q1790 : (Jvm.Cond.instanceMethod ({ cls := "WalkingStonesModel", name := "count", desc := "(I)I" } : Jvm.MethodName)) ∈ lw_all := lw_g (lw_at lw_m8 5 rfl) rfl
theorem q1791 : (Jvm.Cond.selects "WalkingStonesModel" ({ cls := "WalkingStonesModel", name := "count", desc := "(I)I" } : Jvm.MethodName) ({ cls := "WalkingStonesModel", name := "count", desc := "(I)I" } : Jvm.MethodName)) ∈ lw_all := lw_g (lw_at lw_m8 6 rfl) rfl
theorem q1792 : (Jvm.Cond.code ({ cls := "WalkingStonesModel", name := "count", desc := "(I)I" } : Jvm.MethodName) prog_16_method_84_code (2 : Nat) (Option.some Jvm.ClassFile.FieldType.int)) ∈ lw_all := lw_g (lw_at lw_m8 7 rfl) rfl
theorem q1794 : (Jvm.Cond.instanceMethod ({ cls := "WalkingStonesModel", name := "sheet", desc := "(III)I" } : Jvm.MethodName)) ∈ lw_all := lw_g (lw_at lw_m8 9 rfl) rfl
theorem q1795 : (Jvm.Cond.selects "WalkingStonesModel" ({ cls := "WalkingStonesModel", name := "sheet", desc := "(III)I" } : Jvm.MethodName) ({ cls := "WalkingStonesModel", name := "sheet", desc := "(III)I" } : Jvm.MethodName)) ∈ lw_all := lw_g (lw_at lw_m8 10 rfl) rfl
theorem q1796 : (Jvm.Cond.code ({ cls := "WalkingStonesModel", name := "sheet", desc := "(III)I" } : Jvm.MethodName) prog_16_method_86_code (5 : Nat) (Option.some Jvm.ClassFile.FieldType.int)) ∈ lw_all := lw_g (lw_at lw_m8 11 rfl) rfl
theorem q1798 : (Jvm.Cond.instanceMethod ({ cls := "WalkingStonesModel", name := "cell", desc := "(III)I" } : Jvm.MethodName)) ∈ lw_all := lw_g (lw_at lw_m8 13 rfl) rfl
theorem q1799 : (Jvm.Cond.selects "WalkingStonesModel" ({ cls := "WalkingStonesModel", name := "cell", desc := "(III)I" } : Jvm.MethodName) ({ cls := "WalkingStonesModel", name := "cell", desc := "(III)I" } : Jvm.MethodName)) ∈ lw_all := lw_g (lw_at lw_m8 14 rfl) rfl
theorem q1800 : (Jvm.Cond.code ({ cls := "WalkingStonesModel", name := "cell", desc := "(III)I" } : Jvm.MethodName) prog_16_method_87_code (4 : Nat) (Option.some Jvm.ClassFile.FieldType.int)) ∈ lw_all := lw_g (lw_at lw_m8 15 rfl) rfl
theorem q1802 : (Jvm.Cond.instanceMethod ({ cls := "WalkingStonesModel", name := "copy", desc := "(IIIII)I" } : Jvm.MethodName)) ∈ lw_all := lw_g (lw_at lw_m8 17 rfl) rfl
theorem q1803 : (Jvm.Cond.selects "WalkingStonesModel" ({ cls := "WalkingStonesModel", name := "copy", desc := "(IIIII)I" } : Jvm.MethodName) ({ cls := "WalkingStonesModel", name := "copy", desc := "(IIIII)I" } : Jvm.MethodName)) ∈ lw_all := lw_g (lw_at lw_m8 18 rfl) rfl
theorem q1804 : (Jvm.Cond.code ({ cls := "WalkingStonesModel", name := "copy", desc := "(IIIII)I" } : Jvm.MethodName) prog_16_method_88_code (7 : Nat) (Option.some Jvm.ClassFile.FieldType.int)) ∈ lw_all := lw_g (lw_at lw_m8 19 rfl) rfl
theorem q1806 : (Jvm.Cond.instanceMethod ({ cls := "WalkingStonesModel", name := "nights", desc := "(IIII)I" } : Jvm.MethodName)) ∈ lw_all := lw_g (lw_at lw_m8 21 rfl) rfl
theorem q1807 : (Jvm.Cond.selects "WalkingStonesModel" ({ cls := "WalkingStonesModel", name := "nights", desc := "(IIII)I" } : Jvm.MethodName) ({ cls := "WalkingStonesModel", name := "nights", desc := "(IIII)I" } : Jvm.MethodName)) ∈ lw_all := lw_g (lw_at lw_m8 22 rfl) rfl
theorem q1808 : (Jvm.Cond.code ({ cls := "WalkingStonesModel", name := "nights", desc := "(IIII)I" } : Jvm.MethodName) prog_16_method_89_code (8 : Nat) (Option.some Jvm.ClassFile.FieldType.int)) ∈ lw_all := lw_g (lw_at lw_m8 23 rfl) rfl
theorem q1810 : (Jvm.Cond.instanceMethod ({ cls := "WalkingStonesModel", name := "taken", desc := "(II)I" } : Jvm.MethodName)) ∈ lw_all := lw_g (lw_at lw_m8 25 rfl) rfl
theorem q1811 : (Jvm.Cond.selects "WalkingStonesModel" ({ cls := "WalkingStonesModel", name := "taken", desc := "(II)I" } : Jvm.MethodName) ({ cls := "WalkingStonesModel", name := "taken", desc := "(II)I" } : Jvm.MethodName)) ∈ lw_all := lw_g (lw_at lw_m8 26 rfl) rfl
theorem q1812 : (Jvm.Cond.code ({ cls := "WalkingStonesModel", name := "taken", desc := "(II)I" } : Jvm.MethodName) prog_16_method_91_code (3 : Nat) (Option.some Jvm.ClassFile.FieldType.int)) ∈ lw_all := lw_g (lw_at lw_m8 27 rfl) rfl
theorem q1813 : (Jvm.Cond.methodLink "WalkingStonesModel" (363 : Nat) ({ cls := "WalkingStonesModel", name := "isUnder", desc := "(II)Z" } : Jvm.MethodName)) ∈ lw_all := lw_g (lw_at lw_m8 28 rfl) rfl
theorem q1814 : (Jvm.Cond.privateMethod ({ cls := "WalkingStonesModel", name := "isUnder", desc := "(II)Z" } : Jvm.MethodName)) ∈ lw_tbl := lw_at lw_m8 29 rfl
theorem q1815 : (Jvm.Cond.instanceMethod ({ cls := "WalkingStonesModel", name := "isUnder", desc := "(II)Z" } : Jvm.MethodName)) ∈ lw_all := lw_g (lw_at lw_m8 30 rfl) rfl
theorem q1816 : (Jvm.Cond.code ({ cls := "WalkingStonesModel", name := "isUnder", desc := "(II)Z" } : Jvm.MethodName) prog_16_method_90_code (3 : Nat) (Option.some Jvm.ClassFile.FieldType.boolean)) ∈ lw_all := lw_g (lw_at lw_m8 31 rfl) rfl
theorem in_X8 : ∀ w ∈ wsX80, w ∈ lw_all := lw_in wsX80 [1372, 1374, 1376, 1378, 1380, 1382, 1384, 1386, 1388, 1390, 1392, 1394, 1396, 1398, 1400, 1402, 1404, 1406, 1408, 1410, 1412, 1414, 1416, 1418, 1420, 1422, 1424, 1426, 1428, 1430, 1432, 1434, 1436, 1438, 1440, 1442, 1444, 1446, 1448, 1450, 1452, 1454, 1456, 1458, 1460, 1462, 1464, 1466, 1468, 1470, 1472, 1474, 1476, 1478] (by decide +kernel) (by decide +kernel)
