set_option maxRecDepth 100000
set_option maxHeartbeats 4000000
abbrev cJ25_binarySort : ByteArray := prog_76_method_3_code
def yJ25_binarySort : MethodName := ⟨RJ25, "binarySort", "([Ljava/lang/Object;IIILjava/util/Comparator;)V"⟩
def dkwJ25_binarySort_10 : List UInt8 := [132, 3, 1, 167, 255, 69, 177]
abbrev dktJ25_binarySort_10 : List UInt8 := dkwJ25_binarySort_10 ++ []
def dkwJ25_binarySort_9 : List UInt8 := [167, 0, 16, 42, 21, 6, 42, 21, 6, 4, 96, 21, 8, 184, 0, 95, 42, 21, 6, 25, 5, 83]
abbrev dktJ25_binarySort_9 : List UInt8 := dkwJ25_binarySort_9 ++ dktJ25_binarySort_10
def dkwJ25_binarySort_8 : List UInt8 := [42, 21, 6, 5, 96, 42, 21, 6, 4, 96, 50, 83, 42, 21, 6, 4, 96, 42, 21, 6, 50, 83]
abbrev dktJ25_binarySort_8 : List UInt8 := dkwJ25_binarySort_8 ++ dktJ25_binarySort_9
def dkwJ25_binarySort_7 : List UInt8 := [171, 0, 0, 0, 0, 51, 0, 0, 0, 2, 0, 0, 0, 1, 0, 0, 0, 38, 0, 0, 0, 2, 0, 0, 0, 26]
abbrev dktJ25_binarySort_7 : List UInt8 := dkwJ25_binarySort_7 ++ dktJ25_binarySort_8
def dkwJ25_binarySort_6 : List UInt8 := [100, 54, 8, 21, 8]
abbrev dktJ25_binarySort_6 : List UInt8 := dkwJ25_binarySort_6 ++ dktJ25_binarySort_7
def dkwJ25_binarySort_5 : List UInt8 := [178, 0, 57, 154, 0, 18, 21, 6, 21, 7, 159, 0, 11, 187, 0, 61, 89, 183, 0, 63, 191, 29, 21, 6]
abbrev dktJ25_binarySort_5 : List UInt8 := dkwJ25_binarySort_5 ++ dktJ25_binarySort_6
def dkwJ25_binarySort_4 : List UInt8 := [185, 0, 89, 3, 0, 156, 0, 10, 21, 8, 54, 7, 167, 0, 9, 21, 8, 4, 96, 54, 6, 167, 255, 211]
abbrev dktJ25_binarySort_4 : List UInt8 := dkwJ25_binarySort_4 ++ dktJ25_binarySort_5
def dkwJ25_binarySort_3 : List UInt8 := [21, 7, 162, 0, 44, 21, 6, 21, 7, 96, 4, 124, 54, 8, 25, 4, 25, 5, 42, 21, 8, 50]
abbrev dktJ25_binarySort_3 : List UInt8 := dkwJ25_binarySort_3 ++ dktJ25_binarySort_4
def dkwJ25_binarySort_2 : List UInt8 := [178, 0, 57, 154, 0, 18, 21, 6, 21, 7, 164, 0, 11, 187, 0, 61, 89, 183, 0, 63, 191, 21, 6]
abbrev dktJ25_binarySort_2 : List UInt8 := dkwJ25_binarySort_2 ++ dktJ25_binarySort_3
def dkwJ25_binarySort_1 : List UInt8 := [29, 27, 160, 0, 6, 132, 3, 1, 29, 28, 162, 0, 188, 42, 29, 50, 58, 5, 27, 54, 6, 29, 54, 7]
abbrev dktJ25_binarySort_1 : List UInt8 := dkwJ25_binarySort_1 ++ dktJ25_binarySort_2
def dkwJ25_binarySort_0 : List UInt8 := [178, 0, 57, 154, 0, 21, 27, 29, 163, 0, 8, 29, 28, 164, 0, 11, 187, 0, 61, 89, 183, 0, 63, 191]
abbrev dktJ25_binarySort_0 : List UInt8 := dkwJ25_binarySort_0 ++ dktJ25_binarySort_1
theorem dksJ25_binarySort_0 : cJ25_binarySort.data.toList.drop 0 = dktJ25_binarySort_0 := by decide +kernel
theorem dksJ25_binarySort_1 : cJ25_binarySort.data.toList.drop 24 = dktJ25_binarySort_1 := dk_seg dksJ25_binarySort_0 24 rfl rfl
theorem dksJ25_binarySort_2 : cJ25_binarySort.data.toList.drop 48 = dktJ25_binarySort_2 := dk_seg dksJ25_binarySort_1 24 rfl rfl
theorem dksJ25_binarySort_3 : cJ25_binarySort.data.toList.drop 71 = dktJ25_binarySort_3 := dk_seg dksJ25_binarySort_2 23 rfl rfl
theorem dksJ25_binarySort_4 : cJ25_binarySort.data.toList.drop 93 = dktJ25_binarySort_4 := dk_seg dksJ25_binarySort_3 22 rfl rfl
theorem dksJ25_binarySort_5 : cJ25_binarySort.data.toList.drop 117 = dktJ25_binarySort_5 := dk_seg dksJ25_binarySort_4 24 rfl rfl
theorem dksJ25_binarySort_6 : cJ25_binarySort.data.toList.drop 141 = dktJ25_binarySort_6 := dk_seg dksJ25_binarySort_5 24 rfl rfl
theorem dksJ25_binarySort_7 : cJ25_binarySort.data.toList.drop 146 = dktJ25_binarySort_7 := dk_seg dksJ25_binarySort_6 5 rfl rfl
theorem dksJ25_binarySort_8 : cJ25_binarySort.data.toList.drop 172 = dktJ25_binarySort_8 := dk_seg dksJ25_binarySort_7 26 rfl rfl
theorem dksJ25_binarySort_9 : cJ25_binarySort.data.toList.drop 194 = dktJ25_binarySort_9 := dk_seg dksJ25_binarySort_8 22 rfl rfl
theorem dksJ25_binarySort_10 : cJ25_binarySort.data.toList.drop 216 = dktJ25_binarySort_10 := dk_seg dksJ25_binarySort_9 22 rfl rfl
theorem dJ25_binarySort_0 : decode cJ25_binarySort 0 = .ok (.getstatic 57, 3) := dk_178 0 57 (dk_at dksJ25_binarySort_0 0 rfl rfl)
theorem dJ25_binarySort_3 : decode cJ25_binarySort 3 = .ok (.ifCond .ne 21, 3) := dk_154 0 21 (dk_at dksJ25_binarySort_0 3 rfl rfl)
theorem dJ25_binarySort_6 : decode cJ25_binarySort 6 = .ok (.iload_n 1, 1) := dk_27 (dk_at dksJ25_binarySort_0 6 rfl rfl)
theorem dJ25_binarySort_7 : decode cJ25_binarySort 7 = .ok (.iload_n 3, 1) := dk_29 (dk_at dksJ25_binarySort_0 7 rfl rfl)
theorem dJ25_binarySort_8 : decode cJ25_binarySort 8 = .ok (.if_icmp .gt 8, 3) := dk_163 0 8 (dk_at dksJ25_binarySort_0 8 rfl rfl)
theorem dJ25_binarySort_11 : decode cJ25_binarySort 11 = .ok (.iload_n 3, 1) := dk_29 (dk_at dksJ25_binarySort_0 11 rfl rfl)
theorem dJ25_binarySort_12 : decode cJ25_binarySort 12 = .ok (.iload_n 2, 1) := dk_28 (dk_at dksJ25_binarySort_0 12 rfl rfl)
theorem dJ25_binarySort_13 : decode cJ25_binarySort 13 = .ok (.if_icmp .le 11, 3) := dk_164 0 11 (dk_at dksJ25_binarySort_0 13 rfl rfl)
theorem dJ25_binarySort_16 : decode cJ25_binarySort 16 = .ok (.new 61, 3) := dk_187 0 61 (dk_at dksJ25_binarySort_0 16 rfl rfl)
theorem dJ25_binarySort_19 : decode cJ25_binarySort 19 = .ok (.dup, 1) := dk_89 (dk_at dksJ25_binarySort_0 19 rfl rfl)
theorem dJ25_binarySort_20 : decode cJ25_binarySort 20 = .ok (.invokespecial 63, 3) := dk_183 0 63 (dk_at dksJ25_binarySort_0 20 rfl rfl)
theorem dJ25_binarySort_23 : decode cJ25_binarySort 23 = .ok (.athrow, 1) := dk_191 (dk_at dksJ25_binarySort_0 23 rfl rfl)
theorem dJ25_binarySort_24 : decode cJ25_binarySort 24 = .ok (.iload_n 3, 1) := dk_29 (dk_at dksJ25_binarySort_1 0 rfl rfl)
theorem dJ25_binarySort_25 : decode cJ25_binarySort 25 = .ok (.iload_n 1, 1) := dk_27 (dk_at dksJ25_binarySort_1 1 rfl rfl)
theorem dJ25_binarySort_26 : decode cJ25_binarySort 26 = .ok (.if_icmp .ne 6, 3) := dk_160 0 6 (dk_at dksJ25_binarySort_1 2 rfl rfl)
theorem dJ25_binarySort_29 : decode cJ25_binarySort 29 = .ok (.iinc 3 1, 3) := dk_132 3 1 (dk_at dksJ25_binarySort_1 5 rfl rfl)
theorem dJ25_binarySort_32 : decode cJ25_binarySort 32 = .ok (.iload_n 3, 1) := dk_29 (dk_at dksJ25_binarySort_1 8 rfl rfl)
theorem dJ25_binarySort_33 : decode cJ25_binarySort 33 = .ok (.iload_n 2, 1) := dk_28 (dk_at dksJ25_binarySort_1 9 rfl rfl)
theorem dJ25_binarySort_34 : decode cJ25_binarySort 34 = .ok (.if_icmp .ge 188, 3) := dk_162 0 188 (dk_at dksJ25_binarySort_1 10 rfl rfl)
theorem dJ25_binarySort_37 : decode cJ25_binarySort 37 = .ok (.aload_n 0, 1) := dk_42 (dk_at dksJ25_binarySort_1 13 rfl rfl)
theorem dJ25_binarySort_38 : decode cJ25_binarySort 38 = .ok (.iload_n 3, 1) := dk_29 (dk_at dksJ25_binarySort_1 14 rfl rfl)
theorem dJ25_binarySort_39 : decode cJ25_binarySort 39 = .ok (.aaload, 1) := dk_50 (dk_at dksJ25_binarySort_1 15 rfl rfl)
theorem dJ25_binarySort_40 : decode cJ25_binarySort 40 = .ok (.astore 5, 2) := dk_58 5 (dk_at dksJ25_binarySort_1 16 rfl rfl)
theorem dJ25_binarySort_42 : decode cJ25_binarySort 42 = .ok (.iload_n 1, 1) := dk_27 (dk_at dksJ25_binarySort_1 18 rfl rfl)
theorem dJ25_binarySort_43 : decode cJ25_binarySort 43 = .ok (.istore 6, 2) := dk_54 6 (dk_at dksJ25_binarySort_1 19 rfl rfl)
theorem dJ25_binarySort_45 : decode cJ25_binarySort 45 = .ok (.iload_n 3, 1) := dk_29 (dk_at dksJ25_binarySort_1 21 rfl rfl)
theorem dJ25_binarySort_46 : decode cJ25_binarySort 46 = .ok (.istore 7, 2) := dk_54 7 (dk_at dksJ25_binarySort_1 22 rfl rfl)
theorem dJ25_binarySort_48 : decode cJ25_binarySort 48 = .ok (.getstatic 57, 3) := dk_178 0 57 (dk_at dksJ25_binarySort_2 0 rfl rfl)
theorem dJ25_binarySort_51 : decode cJ25_binarySort 51 = .ok (.ifCond .ne 18, 3) := dk_154 0 18 (dk_at dksJ25_binarySort_2 3 rfl rfl)
theorem dJ25_binarySort_54 : decode cJ25_binarySort 54 = .ok (.iload 6, 2) := dk_21 6 (dk_at dksJ25_binarySort_2 6 rfl rfl)
theorem dJ25_binarySort_56 : decode cJ25_binarySort 56 = .ok (.iload 7, 2) := dk_21 7 (dk_at dksJ25_binarySort_2 8 rfl rfl)
theorem dJ25_binarySort_58 : decode cJ25_binarySort 58 = .ok (.if_icmp .le 11, 3) := dk_164 0 11 (dk_at dksJ25_binarySort_2 10 rfl rfl)
theorem dJ25_binarySort_61 : decode cJ25_binarySort 61 = .ok (.new 61, 3) := dk_187 0 61 (dk_at dksJ25_binarySort_2 13 rfl rfl)
theorem dJ25_binarySort_64 : decode cJ25_binarySort 64 = .ok (.dup, 1) := dk_89 (dk_at dksJ25_binarySort_2 16 rfl rfl)
theorem dJ25_binarySort_65 : decode cJ25_binarySort 65 = .ok (.invokespecial 63, 3) := dk_183 0 63 (dk_at dksJ25_binarySort_2 17 rfl rfl)
theorem dJ25_binarySort_68 : decode cJ25_binarySort 68 = .ok (.athrow, 1) := dk_191 (dk_at dksJ25_binarySort_2 20 rfl rfl)
theorem dJ25_binarySort_69 : decode cJ25_binarySort 69 = .ok (.iload 6, 2) := dk_21 6 (dk_at dksJ25_binarySort_2 21 rfl rfl)
theorem dJ25_binarySort_71 : decode cJ25_binarySort 71 = .ok (.iload 7, 2) := dk_21 7 (dk_at dksJ25_binarySort_3 0 rfl rfl)
theorem dJ25_binarySort_73 : decode cJ25_binarySort 73 = .ok (.if_icmp .ge 44, 3) := dk_162 0 44 (dk_at dksJ25_binarySort_3 2 rfl rfl)
theorem dJ25_binarySort_76 : decode cJ25_binarySort 76 = .ok (.iload 6, 2) := dk_21 6 (dk_at dksJ25_binarySort_3 5 rfl rfl)
theorem dJ25_binarySort_78 : decode cJ25_binarySort 78 = .ok (.iload 7, 2) := dk_21 7 (dk_at dksJ25_binarySort_3 7 rfl rfl)
theorem dJ25_binarySort_80 : decode cJ25_binarySort 80 = .ok (.iadd, 1) := dk_96 (dk_at dksJ25_binarySort_3 9 rfl rfl)
theorem dJ25_binarySort_81 : decode cJ25_binarySort 81 = .ok (.iconst 1, 1) := dk_4 (dk_at dksJ25_binarySort_3 10 rfl rfl)
theorem dJ25_binarySort_82 : decode cJ25_binarySort 82 = .ok (.iushr, 1) := dk_124 (dk_at dksJ25_binarySort_3 11 rfl rfl)
theorem dJ25_binarySort_83 : decode cJ25_binarySort 83 = .ok (.istore 8, 2) := dk_54 8 (dk_at dksJ25_binarySort_3 12 rfl rfl)
theorem dJ25_binarySort_85 : decode cJ25_binarySort 85 = .ok (.aload 4, 2) := dk_25 4 (dk_at dksJ25_binarySort_3 14 rfl rfl)
theorem dJ25_binarySort_87 : decode cJ25_binarySort 87 = .ok (.aload 5, 2) := dk_25 5 (dk_at dksJ25_binarySort_3 16 rfl rfl)
theorem dJ25_binarySort_89 : decode cJ25_binarySort 89 = .ok (.aload_n 0, 1) := dk_42 (dk_at dksJ25_binarySort_3 18 rfl rfl)
theorem dJ25_binarySort_90 : decode cJ25_binarySort 90 = .ok (.iload 8, 2) := dk_21 8 (dk_at dksJ25_binarySort_3 19 rfl rfl)
theorem dJ25_binarySort_92 : decode cJ25_binarySort 92 = .ok (.aaload, 1) := dk_50 (dk_at dksJ25_binarySort_3 21 rfl rfl)
theorem dJ25_binarySort_93 : decode cJ25_binarySort 93 = .ok (.invokeinterface 89 3, 5) := by decide +kernel
theorem dJ25_binarySort_98 : decode cJ25_binarySort 98 = .ok (.ifCond .ge 10, 3) := dk_156 0 10 (dk_at dksJ25_binarySort_4 5 rfl rfl)
theorem dJ25_binarySort_101 : decode cJ25_binarySort 101 = .ok (.iload 8, 2) := dk_21 8 (dk_at dksJ25_binarySort_4 8 rfl rfl)
theorem dJ25_binarySort_103 : decode cJ25_binarySort 103 = .ok (.istore 7, 2) := dk_54 7 (dk_at dksJ25_binarySort_4 10 rfl rfl)
theorem dJ25_binarySort_105 : decode cJ25_binarySort 105 = .ok (.goto 9, 3) := dk_167 0 9 (dk_at dksJ25_binarySort_4 12 rfl rfl)
theorem dJ25_binarySort_108 : decode cJ25_binarySort 108 = .ok (.iload 8, 2) := dk_21 8 (dk_at dksJ25_binarySort_4 15 rfl rfl)
theorem dJ25_binarySort_110 : decode cJ25_binarySort 110 = .ok (.iconst 1, 1) := dk_4 (dk_at dksJ25_binarySort_4 17 rfl rfl)
theorem dJ25_binarySort_111 : decode cJ25_binarySort 111 = .ok (.iadd, 1) := dk_96 (dk_at dksJ25_binarySort_4 18 rfl rfl)
theorem dJ25_binarySort_112 : decode cJ25_binarySort 112 = .ok (.istore 6, 2) := dk_54 6 (dk_at dksJ25_binarySort_4 19 rfl rfl)
theorem dJ25_binarySort_114 : decode cJ25_binarySort 114 = .ok (.goto (-45), 3) := dk_167 255 211 (dk_at dksJ25_binarySort_4 21 rfl rfl)
theorem dJ25_binarySort_117 : decode cJ25_binarySort 117 = .ok (.getstatic 57, 3) := dk_178 0 57 (dk_at dksJ25_binarySort_5 0 rfl rfl)
theorem dJ25_binarySort_120 : decode cJ25_binarySort 120 = .ok (.ifCond .ne 18, 3) := dk_154 0 18 (dk_at dksJ25_binarySort_5 3 rfl rfl)
theorem dJ25_binarySort_123 : decode cJ25_binarySort 123 = .ok (.iload 6, 2) := dk_21 6 (dk_at dksJ25_binarySort_5 6 rfl rfl)
theorem dJ25_binarySort_125 : decode cJ25_binarySort 125 = .ok (.iload 7, 2) := dk_21 7 (dk_at dksJ25_binarySort_5 8 rfl rfl)
theorem dJ25_binarySort_127 : decode cJ25_binarySort 127 = .ok (.if_icmp .eq 11, 3) := dk_159 0 11 (dk_at dksJ25_binarySort_5 10 rfl rfl)
theorem dJ25_binarySort_130 : decode cJ25_binarySort 130 = .ok (.new 61, 3) := dk_187 0 61 (dk_at dksJ25_binarySort_5 13 rfl rfl)
theorem dJ25_binarySort_133 : decode cJ25_binarySort 133 = .ok (.dup, 1) := dk_89 (dk_at dksJ25_binarySort_5 16 rfl rfl)
theorem dJ25_binarySort_134 : decode cJ25_binarySort 134 = .ok (.invokespecial 63, 3) := dk_183 0 63 (dk_at dksJ25_binarySort_5 17 rfl rfl)
theorem dJ25_binarySort_137 : decode cJ25_binarySort 137 = .ok (.athrow, 1) := dk_191 (dk_at dksJ25_binarySort_5 20 rfl rfl)
theorem dJ25_binarySort_138 : decode cJ25_binarySort 138 = .ok (.iload_n 3, 1) := dk_29 (dk_at dksJ25_binarySort_5 21 rfl rfl)
theorem dJ25_binarySort_139 : decode cJ25_binarySort 139 = .ok (.iload 6, 2) := dk_21 6 (dk_at dksJ25_binarySort_5 22 rfl rfl)
theorem dJ25_binarySort_141 : decode cJ25_binarySort 141 = .ok (.isub, 1) := dk_100 (dk_at dksJ25_binarySort_6 0 rfl rfl)
theorem dJ25_binarySort_142 : decode cJ25_binarySort 142 = .ok (.istore 8, 2) := dk_54 8 (dk_at dksJ25_binarySort_6 1 rfl rfl)
theorem dJ25_binarySort_144 : decode cJ25_binarySort 144 = .ok (.iload 8, 2) := dk_21 8 (dk_at dksJ25_binarySort_6 3 rfl rfl)
theorem dJ25_binarySort_146 : decode cJ25_binarySort 146 = .ok (.lookupswitch 51 #[(1, 38), (2, 26)], 26) := by decide +kernel
theorem dJ25_binarySort_172 : decode cJ25_binarySort 172 = .ok (.aload_n 0, 1) := dk_42 (dk_at dksJ25_binarySort_8 0 rfl rfl)
theorem dJ25_binarySort_173 : decode cJ25_binarySort 173 = .ok (.iload 6, 2) := dk_21 6 (dk_at dksJ25_binarySort_8 1 rfl rfl)
theorem dJ25_binarySort_175 : decode cJ25_binarySort 175 = .ok (.iconst 2, 1) := dk_5 (dk_at dksJ25_binarySort_8 3 rfl rfl)
theorem dJ25_binarySort_176 : decode cJ25_binarySort 176 = .ok (.iadd, 1) := dk_96 (dk_at dksJ25_binarySort_8 4 rfl rfl)
theorem dJ25_binarySort_177 : decode cJ25_binarySort 177 = .ok (.aload_n 0, 1) := dk_42 (dk_at dksJ25_binarySort_8 5 rfl rfl)
theorem dJ25_binarySort_178 : decode cJ25_binarySort 178 = .ok (.iload 6, 2) := dk_21 6 (dk_at dksJ25_binarySort_8 6 rfl rfl)
theorem dJ25_binarySort_180 : decode cJ25_binarySort 180 = .ok (.iconst 1, 1) := dk_4 (dk_at dksJ25_binarySort_8 8 rfl rfl)
theorem dJ25_binarySort_181 : decode cJ25_binarySort 181 = .ok (.iadd, 1) := dk_96 (dk_at dksJ25_binarySort_8 9 rfl rfl)
theorem dJ25_binarySort_182 : decode cJ25_binarySort 182 = .ok (.aaload, 1) := dk_50 (dk_at dksJ25_binarySort_8 10 rfl rfl)
theorem dJ25_binarySort_183 : decode cJ25_binarySort 183 = .ok (.aastore, 1) := dk_83 (dk_at dksJ25_binarySort_8 11 rfl rfl)
theorem dJ25_binarySort_184 : decode cJ25_binarySort 184 = .ok (.aload_n 0, 1) := dk_42 (dk_at dksJ25_binarySort_8 12 rfl rfl)
theorem dJ25_binarySort_185 : decode cJ25_binarySort 185 = .ok (.iload 6, 2) := dk_21 6 (dk_at dksJ25_binarySort_8 13 rfl rfl)
theorem dJ25_binarySort_187 : decode cJ25_binarySort 187 = .ok (.iconst 1, 1) := dk_4 (dk_at dksJ25_binarySort_8 15 rfl rfl)
theorem dJ25_binarySort_188 : decode cJ25_binarySort 188 = .ok (.iadd, 1) := dk_96 (dk_at dksJ25_binarySort_8 16 rfl rfl)
theorem dJ25_binarySort_189 : decode cJ25_binarySort 189 = .ok (.aload_n 0, 1) := dk_42 (dk_at dksJ25_binarySort_8 17 rfl rfl)
theorem dJ25_binarySort_190 : decode cJ25_binarySort 190 = .ok (.iload 6, 2) := dk_21 6 (dk_at dksJ25_binarySort_8 18 rfl rfl)
theorem dJ25_binarySort_192 : decode cJ25_binarySort 192 = .ok (.aaload, 1) := dk_50 (dk_at dksJ25_binarySort_8 20 rfl rfl)
theorem dJ25_binarySort_193 : decode cJ25_binarySort 193 = .ok (.aastore, 1) := dk_83 (dk_at dksJ25_binarySort_8 21 rfl rfl)
theorem dJ25_binarySort_194 : decode cJ25_binarySort 194 = .ok (.goto 16, 3) := dk_167 0 16 (dk_at dksJ25_binarySort_9 0 rfl rfl)
theorem dJ25_binarySort_197 : decode cJ25_binarySort 197 = .ok (.aload_n 0, 1) := dk_42 (dk_at dksJ25_binarySort_9 3 rfl rfl)
theorem dJ25_binarySort_198 : decode cJ25_binarySort 198 = .ok (.iload 6, 2) := dk_21 6 (dk_at dksJ25_binarySort_9 4 rfl rfl)
theorem dJ25_binarySort_200 : decode cJ25_binarySort 200 = .ok (.aload_n 0, 1) := dk_42 (dk_at dksJ25_binarySort_9 6 rfl rfl)
theorem dJ25_binarySort_201 : decode cJ25_binarySort 201 = .ok (.iload 6, 2) := dk_21 6 (dk_at dksJ25_binarySort_9 7 rfl rfl)
theorem dJ25_binarySort_203 : decode cJ25_binarySort 203 = .ok (.iconst 1, 1) := dk_4 (dk_at dksJ25_binarySort_9 9 rfl rfl)
theorem dJ25_binarySort_204 : decode cJ25_binarySort 204 = .ok (.iadd, 1) := dk_96 (dk_at dksJ25_binarySort_9 10 rfl rfl)
theorem dJ25_binarySort_205 : decode cJ25_binarySort 205 = .ok (.iload 8, 2) := dk_21 8 (dk_at dksJ25_binarySort_9 11 rfl rfl)
theorem dJ25_binarySort_207 : decode cJ25_binarySort 207 = .ok (.invokestatic 95, 3) := dk_184 0 95 (dk_at dksJ25_binarySort_9 13 rfl rfl)
theorem dJ25_binarySort_210 : decode cJ25_binarySort 210 = .ok (.aload_n 0, 1) := dk_42 (dk_at dksJ25_binarySort_9 16 rfl rfl)
theorem dJ25_binarySort_211 : decode cJ25_binarySort 211 = .ok (.iload 6, 2) := dk_21 6 (dk_at dksJ25_binarySort_9 17 rfl rfl)
theorem dJ25_binarySort_213 : decode cJ25_binarySort 213 = .ok (.aload 5, 2) := dk_25 5 (dk_at dksJ25_binarySort_9 19 rfl rfl)
theorem dJ25_binarySort_215 : decode cJ25_binarySort 215 = .ok (.aastore, 1) := dk_83 (dk_at dksJ25_binarySort_9 21 rfl rfl)
theorem dJ25_binarySort_216 : decode cJ25_binarySort 216 = .ok (.iinc 3 1, 3) := dk_132 3 1 (dk_at dksJ25_binarySort_10 0 rfl rfl)
theorem dJ25_binarySort_219 : decode cJ25_binarySort 219 = .ok (.goto (-187), 3) := dk_167 255 69 (dk_at dksJ25_binarySort_10 3 rfl rfl)
theorem dJ25_binarySort_222 : decode cJ25_binarySort 222 = .ok (.return_, 1) := dk_177 (dk_at dksJ25_binarySort_10 6 rfl rfl)
theorem md_J25_binarySort : xMd yJ25_binarySort cJ25_binarySort 9 (Option.none : Option Jvm.ClassFile.FieldType) 5 := ⟨q1720, q162, by decide, by decide +kernel, by decide +kernel, by decide +kernel⟩
def f_J25_binarySort_210  (k32 : Option Nat × Int32 × Int32 × Int32 × Option Nat × PH → Option (xO × PH)) (v0 : Option Nat) (v1 : Int32) (v2 : Int32) (v3 : Int32) (v4 : Option Nat) (v5 : Option Nat) (v6 : Int32) (p0 : PH) : Option (xO × PH) :=
  (xnul v0 none fun b7 =>
  (xsR p0 b7 4 v6 (v5) fun p8 =>
  (bnd (v3 + 1) fun x9 =>
  (k32 (((some b7)), v1, v2, x9, v4, p8)))))
def f_J25_binarySort_184  (k32 : Option Nat × Int32 × Int32 × Int32 × Option Nat × PH → Option (xO × PH)) (v0 : Option Nat) (v1 : Int32) (v2 : Int32) (v3 : Int32) (v4 : Option Nat) (v5 : Option Nat) (v6 : Int32) (p0 : PH) : Option (xO × PH) :=
  (xnul v0 none fun b4 =>
  (xaR p0 b4 4 v6 fun x5 =>
  (xsR p0 b4 4 (v6 + 1) (x5) fun p6 =>
  (f_J25_binarySort_210 k32 ((some b4)) v1 v2 v3 v4 v5 v6 p6))))
def f_J25_binarySort_138  (k32 : Option Nat × Int32 × Int32 × Int32 × Option Nat × PH → Option (xO × PH)) (v0 : Option Nat) (v1 : Int32) (v2 : Int32) (v3 : Int32) (v4 : Option Nat) (v5 : Option Nat) (v6 : Int32) (p0 : PH) : Option (xO × PH) :=
  (bnd (v3 - v6) fun x3 =>
  (if x3 = 1 then
  (f_J25_binarySort_184 k32 v0 v1 v2 v3 v4 v5 v6 p0) else
  (if x3 = 2 then
  (xnul v0 none fun b10 =>
  (xaR p0 b10 4 (v6 + 1) fun x11 =>
  (xsR p0 b10 4 (v6 + 2) (x11) fun p12 =>
  (f_J25_binarySort_184 k32 ((some b10)) v1 v2 v3 v4 v5 v6 p12)))) else
  (xnul v0 none fun b13 =>
  (xcpR p0 b13 b13 v6 (v6 + 1) x3 fun p14 =>
  (f_J25_binarySort_210 k32 ((some b13)) v1 v2 v3 v4 v5 v6 p14))))))
def f_J25_binarySort_114  (k69 : Option Nat × Int32 × Int32 × Int32 × Option Nat × Option Nat × Int32 × Int32 × PH → Option (xO × PH)) (v0 : Option Nat) (v1 : Int32) (v2 : Int32) (v3 : Int32) (v4 : Option Nat) (v5 : Option Nat) (v6 : Int32) (v7 : Int32) (p0 : PH) : Option (xO × PH) :=
  (k69 (v0, v1, v2, v3, v4, v5, v6, v7, p0))
def f_J25_binarySort_69F  (k32 : Option Nat × Int32 × Int32 × Int32 × Option Nat × PH → Option (xO × PH)) (k69 : Option Nat × Int32 × Int32 × Int32 × Option Nat × Option Nat × Int32 × Int32 × PH → Option (xO × PH)) (p : Option Nat × Int32 × Int32 × Int32 × Option Nat × Option Nat × Int32 × Int32 × PH) : Option (xO × PH) := match p with
  | (v0, v1, v2, v3, v4, v5, v6, v7, p0) => (if v7 ≤ v6 then
  (if (1 : Int32) = 0 then
  (if v6 = v7 then
  (f_J25_binarySort_138 k32 v0 v1 v2 v3 v4 v5 v6 p0) else
  none) else
  (f_J25_binarySort_138 k32 v0 v1 v2 v3 v4 v5 v6 p0)) else
  (bnd (((v6 + v7).toUInt32 >>> ((1 : Int32).toUInt32 &&& Int32.toUInt32 31)).toInt32) fun x15 =>
  (xnul v0 none fun b16 =>
  (xaR p0 b16 4 x15 fun x17 =>
  (xnul v4 none fun b18 =>
  (xsw p0 b18 fun c20 =>
  (if c20 = 9 then
  (xcI (f_X10_compare p0 b18 v5 x17) fun x23 p22 =>
  (if 0 ≤ x23 then
  (bnd (x15 + 1) fun x24 =>
  (f_J25_binarySort_114 k69 ((some b16)) v1 v2 v3 ((some b18)) v5 x24 v7 p22)) else
  (f_J25_binarySort_114 k69 ((some b16)) v1 v2 v3 ((some b18)) v5 v6 x15 p22))) else
  (if c20 = 12 then
  (xcI (f_X13_compare p0 b18 v5 x17) fun x26 p25 =>
  (if 0 ≤ x26 then
  (bnd (x15 + 1) fun x27 =>
  (f_J25_binarySort_114 k69 ((some b16)) v1 v2 v3 ((some b18)) v5 x27 v7 p25)) else
  (f_J25_binarySort_114 k69 ((some b16)) v1 v2 v3 ((some b18)) v5 v6 x15 p25))) else
  none))))))))
def f_J25_binarySort_32F   (k32 : Option Nat × Int32 × Int32 × Int32 × Option Nat × PH → Option (xO × PH)) (p : Option Nat × Int32 × Int32 × Int32 × Option Nat × PH) : Option (xO × PH) := match p with
  | (v0, v1, v2, v3, v4, p0) => (if v2 ≤ v3 then
  (rV p0) else
  (xnul v0 none fun b1 =>
  (xaR p0 b1 4 v3 fun x2 =>
  (if (1 : Int32) = 0 then
  (if v1 ≤ v3 then
  (lp (f_J25_binarySort_69F k32) FU (((some b1)), v1, v2, v3, v4, x2, v1, v3, p0)) else
  none) else
  (lp (f_J25_binarySort_69F k32) FU (((some b1)), v1, v2, v3, v4, x2, v1, v3, p0))))))
def f_J25_binarySort_24   (v0 : Option Nat) (v1 : Int32) (v2 : Int32) (v3 : Int32) (v4 : Option Nat) (p0 : PH) : Option (xO × PH) :=
  (if v3 = v1 then
  (bnd (v3 + 1) fun x28 =>
  (lp (f_J25_binarySort_32F) FU (v0, v1, v2, x28, v4, p0))) else
  (lp (f_J25_binarySort_32F) FU (v0, v1, v2, v3, v4, p0)))
def f_J25_binarySort_16    (p0 : PH) : Option (xO × PH) :=
  none
def f_J25_binarySort (p0 : PH) (a0 : Option Nat) (a1 : Int32) (a2 : Int32) (a3 : Int32) (a4 : Option Nat) : Option (xO × PH) :=
  (if (1 : Int32) = 0 then
  (if a3 < a1 then
  (f_J25_binarySort_16  p0) else
  (if a3 ≤ a2 then
  (f_J25_binarySort_24 a0 a1 a2 a3 a4 p0) else
  (f_J25_binarySort_16  p0))) else
  (f_J25_binarySort_24 a0 a1 a2 a3 a4 p0))
theorem f_J25_binarySort_210_ok {G : xG} (hO : xOK G)  {k32 : Option Nat × Int32 × Int32 × Int32 × Option Nat × PH → Option (xO × PH)} (hk32 : ∀ (v0 : Option Nat) (v1 : Int32) (v2 : Int32) (v3 : Int32) (v4 : Option Nat) (p0 : PH), X G "java/util/TimSort" "binarySort" cJ25_binarySort 9 (Option.none : Option Jvm.ClassFile.FieldType) 5 32 [(0, va_rf v0), (1, .int v1), (2, .int v2), (3, .int v3), (4, va_rf v4)] [] p0 (k32 (v0, v1, v2, v3, v4, p0))) (v0 : Option Nat) (v1 : Int32) (v2 : Int32) (v3 : Int32) (v4 : Option Nat) (v5 : Option Nat) (v6 : Int32) (p0 : PH) : X G "java/util/TimSort" "binarySort" cJ25_binarySort 9 (Option.none : Option Jvm.ClassFile.FieldType) 5 210 [(0, va_rf v0), (1, .int v1), (2, .int v2), (3, .int v3), (4, va_rf v4), (5, va_rf v5), (6, .int v6)] [] p0 (f_J25_binarySort_210 k32 v0 v1 v2 v3 v4 v5 v6 p0) := by
  unfold f_J25_binarySort_210
  refine x_aload_n 0 dJ25_binarySort_210 rfl rfl (n := 211) rfl ?_
  refine x_iload 6 dJ25_binarySort_211 rfl (n := 213) rfl ?_
  refine x_aload 5 dJ25_binarySort_213 rfl (n := 215) rfl ?_
  refine x_sm (fun b7 e => ?_)
  subst e
  refine x_aast (t := 4) (x := v5) rfl (by decide) dJ25_binarySort_215 (n := 216) rfl (fun p8 => ?_)
  refine x_iincB 3 (fun x9 => [(3, .int x9), (0, .ref b7), (1, .int v1), (2, .int v2), (4, va_rf v4), (5, va_rf v5), (6, .int v6)]) dJ25_binarySort_216 rfl rfl (by decide) (fun _ => rfl) (n := 219) rfl (fun x9 => ?_)
  refine x_goto dJ25_binarySort_219 (n := 32) (by decide) ?_
  refine x_sub [1, 2, 3, 0, 4] [(0, .ref b7), (1, .int v1), (2, .int v2), (3, .int x9), (4, va_rf v4)] rfl ?_
  exact hk32 ((some b7)) v1 v2 x9 v4 p8
theorem f_J25_binarySort_184_ok {G : xG} (hO : xOK G)  {k32 : Option Nat × Int32 × Int32 × Int32 × Option Nat × PH → Option (xO × PH)} (hk32 : ∀ (v0 : Option Nat) (v1 : Int32) (v2 : Int32) (v3 : Int32) (v4 : Option Nat) (p0 : PH), X G "java/util/TimSort" "binarySort" cJ25_binarySort 9 (Option.none : Option Jvm.ClassFile.FieldType) 5 32 [(0, va_rf v0), (1, .int v1), (2, .int v2), (3, .int v3), (4, va_rf v4)] [] p0 (k32 (v0, v1, v2, v3, v4, p0))) (v0 : Option Nat) (v1 : Int32) (v2 : Int32) (v3 : Int32) (v4 : Option Nat) (v5 : Option Nat) (v6 : Int32) (p0 : PH) : X G "java/util/TimSort" "binarySort" cJ25_binarySort 9 (Option.none : Option Jvm.ClassFile.FieldType) 5 184 [(0, va_rf v0), (1, .int v1), (2, .int v2), (3, .int v3), (4, va_rf v4), (5, va_rf v5), (6, .int v6)] [] p0 (f_J25_binarySort_184 k32 v0 v1 v2 v3 v4 v5 v6 p0) := by
  unfold f_J25_binarySort_184
  refine x_aload_n 0 dJ25_binarySort_184 rfl rfl (n := 185) rfl ?_
  refine x_iload 6 dJ25_binarySort_185 rfl (n := 187) rfl ?_
  refine x_iconst 1 dJ25_binarySort_187 rfl (n := 188) rfl ?_
  refine x_iadd dJ25_binarySort_188 (n := 189) rfl ?_
  refine x_aload_n 0 dJ25_binarySort_189 rfl rfl (n := 190) rfl ?_
  refine x_iload 6 dJ25_binarySort_190 rfl (n := 192) rfl ?_
  refine x_sm (fun b4 e => ?_)
  subst e
  refine x_aald (t := 4) rfl rfl dJ25_binarySort_192 (n := 193) rfl (fun x5 => ?_)
  refine x_aast (t := 4) (x := x5) rfl (by decide) dJ25_binarySort_193 (n := 194) rfl (fun p6 => ?_)
  refine x_goto dJ25_binarySort_194 (n := 210) (by decide) ?_
  exact f_J25_binarySort_210_ok hO hk32 ((some b4)) v1 v2 v3 v4 v5 v6 p6
theorem f_J25_binarySort_138_ok {G : xG} (hO : xOK G)  {k32 : Option Nat × Int32 × Int32 × Int32 × Option Nat × PH → Option (xO × PH)} (hk32 : ∀ (v0 : Option Nat) (v1 : Int32) (v2 : Int32) (v3 : Int32) (v4 : Option Nat) (p0 : PH), X G "java/util/TimSort" "binarySort" cJ25_binarySort 9 (Option.none : Option Jvm.ClassFile.FieldType) 5 32 [(0, va_rf v0), (1, .int v1), (2, .int v2), (3, .int v3), (4, va_rf v4)] [] p0 (k32 (v0, v1, v2, v3, v4, p0))) (v0 : Option Nat) (v1 : Int32) (v2 : Int32) (v3 : Int32) (v4 : Option Nat) (v5 : Option Nat) (v6 : Int32) (p0 : PH) : X G "java/util/TimSort" "binarySort" cJ25_binarySort 9 (Option.none : Option Jvm.ClassFile.FieldType) 5 138 [(0, va_rf v0), (1, .int v1), (2, .int v2), (3, .int v3), (4, va_rf v4), (5, va_rf v5), (6, .int v6)] [] p0 (f_J25_binarySort_138 k32 v0 v1 v2 v3 v4 v5 v6 p0) := by
  unfold f_J25_binarySort_138
  refine x_iload_n 3 dJ25_binarySort_138 rfl rfl (n := 139) rfl ?_
  refine x_iload 6 dJ25_binarySort_139 rfl (n := 141) rfl ?_
  refine x_isub dJ25_binarySort_141 (n := 142) rfl ?_
  refine x_nm (fun x3 => ?_)
  refine x_istore [(8, .int x3), (0, va_rf v0), (1, .int v1), (2, .int v2), (3, .int v3), (4, va_rf v4), (5, va_rf v5), (6, .int v6)] dJ25_binarySort_142 (by decide) rfl (n := 144) rfl ?_
  refine x_iload 0 dJ25_binarySort_144 rfl (n := 146) rfl ?_
  refine x_ite (fun h1 => ?_) (fun h1 => ?_)
  · refine x_lk (n := 184) dJ25_binarySort_146 rfl (by rw [h1] <;> rfl) (by decide) ?_
    refine x_sub [1, 2, 3, 4, 5, 6, 7] [(0, va_rf v0), (1, .int v1), (2, .int v2), (3, .int v3), (4, va_rf v4), (5, va_rf v5), (6, .int v6)] rfl ?_
    exact f_J25_binarySort_184_ok hO hk32 v0 v1 v2 v3 v4 v5 v6 p0
  refine x_ite (fun h2 => ?_) (fun h2 => ?_)
  · refine x_lk (n := 172) dJ25_binarySort_146 rfl (by rw [h2] <;> rfl) (by decide) ?_
    refine x_aload_n 1 dJ25_binarySort_172 rfl rfl (n := 173) rfl ?_
    refine x_iload 7 dJ25_binarySort_173 rfl (n := 175) rfl ?_
    refine x_iconst 2 dJ25_binarySort_175 rfl (n := 176) rfl ?_
    refine x_iadd dJ25_binarySort_176 (n := 177) rfl ?_
    refine x_aload_n 1 dJ25_binarySort_177 rfl rfl (n := 178) rfl ?_
    refine x_iload 7 dJ25_binarySort_178 rfl (n := 180) rfl ?_
    refine x_iconst 1 dJ25_binarySort_180 rfl (n := 181) rfl ?_
    refine x_iadd dJ25_binarySort_181 (n := 182) rfl ?_
    refine x_sm (fun b10 e => ?_)
    subst e
    refine x_aald (t := 4) rfl rfl dJ25_binarySort_182 (n := 183) rfl (fun x11 => ?_)
    refine x_aast (t := 4) (x := x11) rfl (by decide) dJ25_binarySort_183 (n := 184) rfl (fun p12 => ?_)
    refine x_sub [1, 2, 3, 4, 5, 6, 7] [(0, .ref b10), (1, .int v1), (2, .int v2), (3, .int v3), (4, va_rf v4), (5, va_rf v5), (6, .int v6)] rfl ?_
    exact f_J25_binarySort_184_ok hO hk32 ((some b10)) v1 v2 v3 v4 v5 v6 p12
  refine x_lk (n := 197) dJ25_binarySort_146 rfl (by show Op.lookupswitch.offset [(1, 38), (2, 26)] 51 _ = 51; rw [lv_osw (a := 1) h1 rfl]; rw [lv_osw (a := 2) h2 rfl]; rfl) (by decide) ?_
  refine x_aload_n 1 dJ25_binarySort_197 rfl rfl (n := 198) rfl ?_
  refine x_iload 7 dJ25_binarySort_198 rfl (n := 200) rfl ?_
  refine x_aload_n 1 dJ25_binarySort_200 rfl rfl (n := 201) rfl ?_
  refine x_iload 7 dJ25_binarySort_201 rfl (n := 203) rfl ?_
  refine x_iconst 1 dJ25_binarySort_203 rfl (n := 204) rfl ?_
  refine x_iadd dJ25_binarySort_204 (n := 205) rfl ?_
  refine x_iload 0 dJ25_binarySort_205 rfl (n := 207) rfl ?_
  refine x_sm (fun b13 e => ?_)
  subst e
  refine x_cpR arc_J25_95 dJ25_binarySort_207 (by decide) (Nat.le_of_ble_eq_true rfl) (n := 210) rfl (fun p14 => ?_)
  refine x_sub [1, 2, 3, 4, 5, 6, 7] [(0, .ref b13), (1, .int v1), (2, .int v2), (3, .int v3), (4, va_rf v4), (5, va_rf v5), (6, .int v6)] rfl ?_
  exact f_J25_binarySort_210_ok hO hk32 ((some b13)) v1 v2 v3 v4 v5 v6 p14
theorem f_J25_binarySort_114_ok {G : xG} (hO : xOK G)  {k69 : Option Nat × Int32 × Int32 × Int32 × Option Nat × Option Nat × Int32 × Int32 × PH → Option (xO × PH)} (hk69 : ∀ (v0 : Option Nat) (v1 : Int32) (v2 : Int32) (v3 : Int32) (v4 : Option Nat) (v5 : Option Nat) (v6 : Int32) (v7 : Int32) (p0 : PH), X G "java/util/TimSort" "binarySort" cJ25_binarySort 9 (Option.none : Option Jvm.ClassFile.FieldType) 5 69 [(0, va_rf v0), (1, .int v1), (2, .int v2), (3, .int v3), (4, va_rf v4), (5, va_rf v5), (6, .int v6), (7, .int v7)] [] p0 (k69 (v0, v1, v2, v3, v4, v5, v6, v7, p0))) (v0 : Option Nat) (v1 : Int32) (v2 : Int32) (v3 : Int32) (v4 : Option Nat) (v5 : Option Nat) (v6 : Int32) (v7 : Int32) (p0 : PH) : X G "java/util/TimSort" "binarySort" cJ25_binarySort 9 (Option.none : Option Jvm.ClassFile.FieldType) 5 114 [(0, va_rf v0), (1, .int v1), (2, .int v2), (3, .int v3), (4, va_rf v4), (5, va_rf v5), (6, .int v6), (7, .int v7)] [] p0 (f_J25_binarySort_114 k69 v0 v1 v2 v3 v4 v5 v6 v7 p0) := by
  unfold f_J25_binarySort_114
  refine x_goto dJ25_binarySort_114 (n := 69) (by decide) ?_
  exact hk69 v0 v1 v2 v3 v4 v5 v6 v7 p0
theorem f_J25_binarySort_69F_ok {G : xG} (hO : xOK G)  {k32 : Option Nat × Int32 × Int32 × Int32 × Option Nat × PH → Option (xO × PH)} (hk32 : ∀ (v0 : Option Nat) (v1 : Int32) (v2 : Int32) (v3 : Int32) (v4 : Option Nat) (p0 : PH), X G "java/util/TimSort" "binarySort" cJ25_binarySort 9 (Option.none : Option Jvm.ClassFile.FieldType) 5 32 [(0, va_rf v0), (1, .int v1), (2, .int v2), (3, .int v3), (4, va_rf v4)] [] p0 (k32 (v0, v1, v2, v3, v4, p0))) {k69 : Option Nat × Int32 × Int32 × Int32 × Option Nat × Option Nat × Int32 × Int32 × PH → Option (xO × PH)} (hk69 : ∀ (v0 : Option Nat) (v1 : Int32) (v2 : Int32) (v3 : Int32) (v4 : Option Nat) (v5 : Option Nat) (v6 : Int32) (v7 : Int32) (p0 : PH), X G "java/util/TimSort" "binarySort" cJ25_binarySort 9 (Option.none : Option Jvm.ClassFile.FieldType) 5 69 [(0, va_rf v0), (1, .int v1), (2, .int v2), (3, .int v3), (4, va_rf v4), (5, va_rf v5), (6, .int v6), (7, .int v7)] [] p0 (k69 (v0, v1, v2, v3, v4, v5, v6, v7, p0))) (v0 : Option Nat) (v1 : Int32) (v2 : Int32) (v3 : Int32) (v4 : Option Nat) (v5 : Option Nat) (v6 : Int32) (v7 : Int32) (p0 : PH) : X G "java/util/TimSort" "binarySort" cJ25_binarySort 9 (Option.none : Option Jvm.ClassFile.FieldType) 5 69 [(0, va_rf v0), (1, .int v1), (2, .int v2), (3, .int v3), (4, va_rf v4), (5, va_rf v5), (6, .int v6), (7, .int v7)] [] p0 (f_J25_binarySort_69F k32 k69 (v0, v1, v2, v3, v4, v5, v6, v7, p0)) := by
  unfold f_J25_binarySort_69F
  refine x_iload 6 dJ25_binarySort_69 rfl (n := 71) rfl ?_
  refine x_iload 7 dJ25_binarySort_71 rfl (n := 73) rfl ?_
  refine x_icmp_ge dJ25_binarySort_73 (t := 117) (by decide) (n := 76) rfl (fun _ => ?_) (fun _ => ?_)
  · refine x_getsI (j := 10) rfl (Or.inl q1708) dJ25_binarySort_117 (n := 120) rfl ?_
    refine x_if_ne dJ25_binarySort_120 (t := 138) (by decide) (n := 123) rfl (fun _ => ?_) (fun _ => ?_)
    · refine x_sub [0, 1, 2, 3, 4, 5, 6] [(0, va_rf v0), (1, .int v1), (2, .int v2), (3, .int v3), (4, va_rf v4), (5, va_rf v5), (6, .int v6)] rfl ?_
      exact f_J25_binarySort_138_ok hO hk32 v0 v1 v2 v3 v4 v5 v6 p0
    · refine x_iload 6 dJ25_binarySort_123 rfl (n := 125) rfl ?_
      refine x_iload 7 dJ25_binarySort_125 rfl (n := 127) rfl ?_
      refine x_icmp_eq dJ25_binarySort_127 (t := 138) (by decide) (n := 130) rfl (fun _ => ?_) (fun _ => ?_)
      · refine x_sub [0, 1, 2, 3, 4, 5, 6] [(0, va_rf v0), (1, .int v1), (2, .int v2), (3, .int v3), (4, va_rf v4), (5, va_rf v5), (6, .int v6)] rfl ?_
        exact f_J25_binarySort_138_ok hO hk32 v0 v1 v2 v3 v4 v5 v6 p0
      · exact x_no
  · refine x_iload 6 dJ25_binarySort_76 rfl (n := 78) rfl ?_
    refine x_iload 7 dJ25_binarySort_78 rfl (n := 80) rfl ?_
    refine x_iadd dJ25_binarySort_80 (n := 81) rfl ?_
    refine x_iconst 1 dJ25_binarySort_81 rfl (n := 82) rfl ?_
    refine x_iushr dJ25_binarySort_82 (n := 83) rfl ?_
    refine x_nm (fun x15 => ?_)
    refine x_istore [(8, .int x15), (0, va_rf v0), (1, .int v1), (2, .int v2), (3, .int v3), (4, va_rf v4), (5, va_rf v5), (6, .int v6), (7, .int v7)] dJ25_binarySort_83 (by decide) rfl (n := 85) rfl ?_
    refine x_aload 5 dJ25_binarySort_85 rfl (n := 87) rfl ?_
    refine x_aload 6 dJ25_binarySort_87 rfl (n := 89) rfl ?_
    refine x_aload_n 1 dJ25_binarySort_89 rfl rfl (n := 90) rfl ?_
    refine x_iload 0 dJ25_binarySort_90 rfl (n := 92) rfl ?_
    refine x_sm (fun b16 e => ?_)
    subst e
    refine x_aald (t := 4) rfl rfl dJ25_binarySort_92 (n := 93) rfl (fun x17 => ?_)
    refine x_sm (fun b18 e => ?_)
    subst e
    refine x_sw (fun c20 e => ?_)
    refine x_ite (fun h => ?_) (fun _ => ?_)
    · subst h
      refine x_callF_I [va_rf v5, va_rf x17] [] (f_X10_compare_ok hO p0 b18 v5 x17) rc_X10_compare md_X10_compare rfl q1714 fc_ForestLegs_2_java_util_Comparator_compare_2_Ljaval dJ25_binarySort_93 rfl rfl (by decide) (Nat.le_of_ble_eq_true rfl) (n := 98) rfl (fun x23 p22 => ?_)
      refine x_if_ge dJ25_binarySort_98 (t := 108) (by decide) (n := 101) rfl (fun _ => ?_) (fun _ => ?_)
      · refine x_iload 0 dJ25_binarySort_108 rfl (n := 110) rfl ?_
        refine x_iconst 1 dJ25_binarySort_110 rfl (n := 111) rfl ?_
        refine x_iadd dJ25_binarySort_111 (n := 112) rfl ?_
        refine x_nm (fun x24 => ?_)
        refine x_istore [(6, .int x24), (8, .int x15), (0, .ref b16), (1, .int v1), (2, .int v2), (3, .int v3), (4, .ref b18), (5, va_rf v5), (7, .int v7)] dJ25_binarySort_112 (by decide) (by simp only [xst, List.filter_cons, List.filter_nil, xcat] <;> rfl) (n := 114) rfl ?_
        refine x_sub [2, 3, 4, 5, 6, 7, 0, 8] [(0, .ref b16), (1, .int v1), (2, .int v2), (3, .int v3), (4, .ref b18), (5, va_rf v5), (6, .int x24), (7, .int v7)] rfl ?_
        exact f_J25_binarySort_114_ok hO hk69 ((some b16)) v1 v2 v3 ((some b18)) v5 x24 v7 p22
      · refine x_iload 0 dJ25_binarySort_101 rfl (n := 103) rfl ?_
        refine x_istore [(7, .int x15), (8, .int x15), (0, .ref b16), (1, .int v1), (2, .int v2), (3, .int v3), (4, .ref b18), (5, va_rf v5), (6, .int v6)] dJ25_binarySort_103 (by decide) rfl (n := 105) rfl ?_
        refine x_goto dJ25_binarySort_105 (n := 114) (by decide) ?_
        refine x_sub [2, 3, 4, 5, 6, 7, 8, 0] [(0, .ref b16), (1, .int v1), (2, .int v2), (3, .int v3), (4, .ref b18), (5, va_rf v5), (6, .int v6), (7, .int x15)] rfl ?_
        exact f_J25_binarySort_114_ok hO hk69 ((some b16)) v1 v2 v3 ((some b18)) v5 v6 x15 p22
    refine x_ite (fun h => ?_) (fun _ => ?_)
    · subst h
      refine x_callF_I [va_rf v5, va_rf x17] [] (f_X13_compare_ok hO p0 b18 v5 x17) rc_X13_compare md_X13_compare rfl q1714 fc_ForestLegs_1_java_util_Comparator_compare_2_Ljaval dJ25_binarySort_93 rfl rfl (by decide) (Nat.le_of_ble_eq_true rfl) (n := 98) rfl (fun x26 p25 => ?_)
      refine x_if_ge dJ25_binarySort_98 (t := 108) (by decide) (n := 101) rfl (fun _ => ?_) (fun _ => ?_)
      · refine x_iload 0 dJ25_binarySort_108 rfl (n := 110) rfl ?_
        refine x_iconst 1 dJ25_binarySort_110 rfl (n := 111) rfl ?_
        refine x_iadd dJ25_binarySort_111 (n := 112) rfl ?_
        refine x_nm (fun x27 => ?_)
        refine x_istore [(6, .int x27), (8, .int x15), (0, .ref b16), (1, .int v1), (2, .int v2), (3, .int v3), (4, .ref b18), (5, va_rf v5), (7, .int v7)] dJ25_binarySort_112 (by decide) (by simp only [xst, List.filter_cons, List.filter_nil, xcat] <;> rfl) (n := 114) rfl ?_
        refine x_sub [2, 3, 4, 5, 6, 7, 0, 8] [(0, .ref b16), (1, .int v1), (2, .int v2), (3, .int v3), (4, .ref b18), (5, va_rf v5), (6, .int x27), (7, .int v7)] rfl ?_
        exact f_J25_binarySort_114_ok hO hk69 ((some b16)) v1 v2 v3 ((some b18)) v5 x27 v7 p25
      · refine x_iload 0 dJ25_binarySort_101 rfl (n := 103) rfl ?_
        refine x_istore [(7, .int x15), (8, .int x15), (0, .ref b16), (1, .int v1), (2, .int v2), (3, .int v3), (4, .ref b18), (5, va_rf v5), (6, .int v6)] dJ25_binarySort_103 (by decide) rfl (n := 105) rfl ?_
        refine x_goto dJ25_binarySort_105 (n := 114) (by decide) ?_
        refine x_sub [2, 3, 4, 5, 6, 7, 8, 0] [(0, .ref b16), (1, .int v1), (2, .int v2), (3, .int v3), (4, .ref b18), (5, va_rf v5), (6, .int v6), (7, .int x15)] rfl ?_
        exact f_J25_binarySort_114_ok hO hk69 ((some b16)) v1 v2 v3 ((some b18)) v5 v6 x15 p25
    exact x_no
theorem f_J25_binarySort_69_lp {G : xG} (hO : xOK G)  {k32 : Option Nat × Int32 × Int32 × Int32 × Option Nat × PH → Option (xO × PH)} (hk32 : ∀ (v0 : Option Nat) (v1 : Int32) (v2 : Int32) (v3 : Int32) (v4 : Option Nat) (p0 : PH), X G "java/util/TimSort" "binarySort" cJ25_binarySort 9 (Option.none : Option Jvm.ClassFile.FieldType) 5 32 [(0, va_rf v0), (1, .int v1), (2, .int v2), (3, .int v3), (4, va_rf v4)] [] p0 (k32 (v0, v1, v2, v3, v4, p0))) (n : Nat) (v0 : Option Nat) (v1 : Int32) (v2 : Int32) (v3 : Int32) (v4 : Option Nat) (v5 : Option Nat) (v6 : Int32) (v7 : Int32) (p0 : PH) : X G "java/util/TimSort" "binarySort" cJ25_binarySort 9 (Option.none : Option Jvm.ClassFile.FieldType) 5 69 [(0, va_rf v0), (1, .int v1), (2, .int v2), (3, .int v3), (4, va_rf v4), (5, va_rf v5), (6, .int v6), (7, .int v7)] [] p0 (lp (f_J25_binarySort_69F k32) n (v0, v1, v2, v3, v4, v5, v6, v7, p0)) :=
  lp_ok (W := fun p K => X G "java/util/TimSort" "binarySort" cJ25_binarySort 9 (Option.none : Option Jvm.ClassFile.FieldType) 5 69 [(0, va_rf p.1), (1, .int p.2.1), (2, .int p.2.2.1), (3, .int p.2.2.2.1), (4, va_rf p.2.2.2.2.1), (5, va_rf p.2.2.2.2.2.1), (6, .int p.2.2.2.2.2.2.1), (7, .int p.2.2.2.2.2.2.2.1)] [] p.2.2.2.2.2.2.2.2 K) (fun _ => x_no) (fun k hk => fun (v0, v1, v2, v3, v4, v5, v6, v7, p0) => f_J25_binarySort_69F_ok hO hk32 (fun v0 v1 v2 v3 v4 v5 v6 v7 p0 => hk (v0, v1, v2, v3, v4, v5, v6, v7, p0)) v0 v1 v2 v3 v4 v5 v6 v7 p0) n (v0, v1, v2, v3, v4, v5, v6, v7, p0)
theorem f_J25_binarySort_32F_ok {G : xG} (hO : xOK G)   {k32 : Option Nat × Int32 × Int32 × Int32 × Option Nat × PH → Option (xO × PH)} (hk32 : ∀ (v0 : Option Nat) (v1 : Int32) (v2 : Int32) (v3 : Int32) (v4 : Option Nat) (p0 : PH), X G "java/util/TimSort" "binarySort" cJ25_binarySort 9 (Option.none : Option Jvm.ClassFile.FieldType) 5 32 [(0, va_rf v0), (1, .int v1), (2, .int v2), (3, .int v3), (4, va_rf v4)] [] p0 (k32 (v0, v1, v2, v3, v4, p0))) (v0 : Option Nat) (v1 : Int32) (v2 : Int32) (v3 : Int32) (v4 : Option Nat) (p0 : PH) : X G "java/util/TimSort" "binarySort" cJ25_binarySort 9 (Option.none : Option Jvm.ClassFile.FieldType) 5 32 [(0, va_rf v0), (1, .int v1), (2, .int v2), (3, .int v3), (4, va_rf v4)] [] p0 (f_J25_binarySort_32F k32 (v0, v1, v2, v3, v4, p0)) := by
  unfold f_J25_binarySort_32F
  refine x_iload_n 3 dJ25_binarySort_32 rfl rfl (n := 33) rfl ?_
  refine x_iload_n 2 dJ25_binarySort_33 rfl rfl (n := 34) rfl ?_
  refine x_icmp_ge dJ25_binarySort_34 (t := 222) (by decide) (n := 37) rfl (fun _ => ?_) (fun _ => ?_)
  · exact x_return dJ25_binarySort_222
  · refine x_aload_n 0 dJ25_binarySort_37 rfl rfl (n := 38) rfl ?_
    refine x_iload_n 3 dJ25_binarySort_38 rfl rfl (n := 39) rfl ?_
    refine x_sm (fun b1 e => ?_)
    subst e
    refine x_aald (t := 4) rfl rfl dJ25_binarySort_39 (n := 40) rfl (fun x2 => ?_)
    refine x_astore [(5, va_rf x2), (0, .ref b1), (1, .int v1), (2, .int v2), (3, .int v3), (4, va_rf v4)] dJ25_binarySort_40 (by decide) (by simp only [xst, List.filter_cons, List.filter_nil, xcat] <;> rfl) (n := 42) rfl ?_
    refine x_iload_n 2 dJ25_binarySort_42 rfl rfl (n := 43) rfl ?_
    refine x_istore [(6, .int v1), (5, va_rf x2), (0, .ref b1), (1, .int v1), (2, .int v2), (3, .int v3), (4, va_rf v4)] dJ25_binarySort_43 (by decide) (by simp only [xst, List.filter_cons, List.filter_nil, xcat] <;> rfl) (n := 45) rfl ?_
    refine x_iload_n 5 dJ25_binarySort_45 rfl rfl (n := 46) rfl ?_
    refine x_istore [(7, .int v3), (6, .int v1), (5, va_rf x2), (0, .ref b1), (1, .int v1), (2, .int v2), (3, .int v3), (4, va_rf v4)] dJ25_binarySort_46 (by decide) rfl (n := 48) rfl ?_
    refine x_getsI (j := 10) rfl (Or.inl q1708) dJ25_binarySort_48 (n := 51) rfl ?_
    refine x_if_ne dJ25_binarySort_51 (t := 69) (by decide) (n := 54) rfl (fun _ => ?_) (fun _ => ?_)
    · refine x_sub [3, 4, 5, 6, 7, 2, 1, 0] [(0, .ref b1), (1, .int v1), (2, .int v2), (3, .int v3), (4, va_rf v4), (5, va_rf x2), (6, .int v1), (7, .int v3)] rfl ?_
      exact f_J25_binarySort_69_lp hO hk32 FU ((some b1)) v1 v2 v3 v4 x2 v1 v3 p0
    · refine x_iload 1 dJ25_binarySort_54 rfl (n := 56) rfl ?_
      refine x_iload 0 dJ25_binarySort_56 rfl (n := 58) rfl ?_
      refine x_icmp_le dJ25_binarySort_58 (t := 69) (by decide) (n := 61) rfl (fun _ => ?_) (fun _ => ?_)
      · refine x_sub [3, 4, 5, 6, 7, 2, 1, 0] [(0, .ref b1), (1, .int v1), (2, .int v2), (3, .int v3), (4, va_rf v4), (5, va_rf x2), (6, .int v1), (7, .int v3)] rfl ?_
        exact f_J25_binarySort_69_lp hO hk32 FU ((some b1)) v1 v2 v3 v4 x2 v1 v3 p0
      · exact x_no
theorem f_J25_binarySort_32_lp {G : xG} (hO : xOK G)   (n : Nat) (v0 : Option Nat) (v1 : Int32) (v2 : Int32) (v3 : Int32) (v4 : Option Nat) (p0 : PH) : X G "java/util/TimSort" "binarySort" cJ25_binarySort 9 (Option.none : Option Jvm.ClassFile.FieldType) 5 32 [(0, va_rf v0), (1, .int v1), (2, .int v2), (3, .int v3), (4, va_rf v4)] [] p0 (lp (f_J25_binarySort_32F) n (v0, v1, v2, v3, v4, p0)) :=
  lp_ok (W := fun p K => X G "java/util/TimSort" "binarySort" cJ25_binarySort 9 (Option.none : Option Jvm.ClassFile.FieldType) 5 32 [(0, va_rf p.1), (1, .int p.2.1), (2, .int p.2.2.1), (3, .int p.2.2.2.1), (4, va_rf p.2.2.2.2.1)] [] p.2.2.2.2.2 K) (fun _ => x_no) (fun k hk => fun (v0, v1, v2, v3, v4, p0) => f_J25_binarySort_32F_ok hO (fun v0 v1 v2 v3 v4 p0 => hk (v0, v1, v2, v3, v4, p0)) v0 v1 v2 v3 v4 p0) n (v0, v1, v2, v3, v4, p0)
theorem f_J25_binarySort_24_ok {G : xG} (hO : xOK G)   (v0 : Option Nat) (v1 : Int32) (v2 : Int32) (v3 : Int32) (v4 : Option Nat) (p0 : PH) : X G "java/util/TimSort" "binarySort" cJ25_binarySort 9 (Option.none : Option Jvm.ClassFile.FieldType) 5 24 [(0, va_rf v0), (1, .int v1), (2, .int v2), (3, .int v3), (4, va_rf v4)] [] p0 (f_J25_binarySort_24 v0 v1 v2 v3 v4 p0) := by
  unfold f_J25_binarySort_24
  refine x_iload_n 3 dJ25_binarySort_24 rfl rfl (n := 25) rfl ?_
  refine x_iload_n 1 dJ25_binarySort_25 rfl rfl (n := 26) rfl ?_
  refine x_icmp_ne dJ25_binarySort_26 (t := 32) (by decide) (n := 29) rfl (fun _ => ?_) (fun _ => ?_)
  · exact f_J25_binarySort_32_lp hO FU v0 v1 v2 v3 v4 p0
  · refine x_iincB 3 (fun x28 => [(3, .int x28), (0, va_rf v0), (1, .int v1), (2, .int v2), (4, va_rf v4)]) dJ25_binarySort_29 rfl rfl (by decide) (fun _ => rfl) (n := 32) rfl (fun x28 => ?_)
    refine x_sub [1, 2, 3, 0, 4] [(0, va_rf v0), (1, .int v1), (2, .int v2), (3, .int x28), (4, va_rf v4)] rfl ?_
    exact f_J25_binarySort_32_lp hO FU v0 v1 v2 x28 v4 p0
theorem f_J25_binarySort_16_ok {G : xG} (hO : xOK G)    (p0 : PH) : X G "java/util/TimSort" "binarySort" cJ25_binarySort 9 (Option.none : Option Jvm.ClassFile.FieldType) 5 16 [] [] p0 (f_J25_binarySort_16  p0) := by
  unfold f_J25_binarySort_16
  exact x_no
theorem f_J25_binarySort_ok {G : xG} (hO : xOK G) (p0 : PH) (a0 : Option Nat) (a1 : Int32) (a2 : Int32) (a3 : Int32) (a4 : Option Nat) : CT G 5 yJ25_binarySort cJ25_binarySort 9 (Option.none : Option Jvm.ClassFile.FieldType) [va_rf a0, .int a1, .int a2, .int a3, va_rf a4] p0 (f_J25_binarySort p0 a0 a1 a2 a3 a4) := by
  refine CT_of hO (by decide +kernel) (by decide +kernel) (lg_slen _ (by simp only [List.map, xcat]; exact Nat.le_of_ble_eq_true rfl)) ?_
  rw [show lv_args 0 [va_rf a0, .int a1, .int a2, .int a3, va_rf a4] = [(0, va_rf a0), (1, .int a1), (2, .int a2), (3, .int a3), (4, va_rf a4)] from by simp only [lv_args, xcat] <;> rfl]
  show X G "java/util/TimSort" "binarySort" cJ25_binarySort 9 (Option.none : Option Jvm.ClassFile.FieldType) 5 0 [(0, va_rf a0), (1, .int a1), (2, .int a2), (3, .int a3), (4, va_rf a4)] [] p0 (f_J25_binarySort p0 a0 a1 a2 a3 a4)
  refine x_getsI (j := 10) rfl (Or.inl q1708) dJ25_binarySort_0 (n := 3) rfl ?_
  refine x_if_ne dJ25_binarySort_3 (t := 24) (by decide) (n := 6) rfl (fun _ => ?_) (fun _ => ?_)
  · exact f_J25_binarySort_24_ok hO a0 a1 a2 a3 a4 p0
  · refine x_iload_n 1 dJ25_binarySort_6 rfl rfl (n := 7) rfl ?_
    refine x_iload_n 3 dJ25_binarySort_7 rfl rfl (n := 8) rfl ?_
    refine x_icmp_gt dJ25_binarySort_8 (t := 16) (by decide) (n := 11) rfl (fun _ => ?_) (fun _ => ?_)
    · refine x_sub [] [] rfl ?_
      exact f_J25_binarySort_16_ok hO  p0
    · refine x_iload_n 3 dJ25_binarySort_11 rfl rfl (n := 12) rfl ?_
      refine x_iload_n 2 dJ25_binarySort_12 rfl rfl (n := 13) rfl ?_
      refine x_icmp_le dJ25_binarySort_13 (t := 24) (by decide) (n := 16) rfl (fun _ => ?_) (fun _ => ?_)
      · exact f_J25_binarySort_24_ok hO a0 a1 a2 a3 a4 p0
      · refine x_sub [] [] rfl ?_
        exact f_J25_binarySort_16_ok hO  p0
abbrev cJ25_sort : ByteArray := prog_76_method_2_code
def yJ25_sort : MethodName := ⟨RJ25, "sort", "([Ljava/lang/Object;IILjava/util/Comparator;[Ljava/lang/Object;II)V"⟩
def dkwJ25_sort_9 : List UInt8 := [180, 0, 13, 4, 159, 0, 11, 187, 0, 61, 89, 183, 0, 63, 191, 177]
abbrev dktJ25_sort_9 : List UInt8 := dkwJ25_sort_9 ++ []
def dkwJ25_sort_8 : List UInt8 := [159, 0, 11, 187, 0, 61, 89, 183, 0, 63, 191, 25, 8, 182, 0, 86, 178, 0, 57, 154, 0, 20, 25, 8]
abbrev dktJ25_sort_8 : List UInt8 := dkwJ25_sort_8 ++ dktJ25_sort_9
def dkwJ25_sort_7 : List UInt8 := [96, 60, 21, 7, 21, 10, 100, 54, 7, 21, 7, 154, 255, 179, 178, 0, 57, 154, 0, 16, 27, 28]
abbrev dktJ25_sort_7 : List UInt8 := dkwJ25_sort_7 ++ dktJ25_sort_8
def dkwJ25_sort_6 : List UInt8 := [45, 184, 0, 68, 21, 11, 54, 10, 25, 8, 27, 21, 10, 182, 0, 79, 25, 8, 182, 0, 83, 27, 21, 10]
abbrev dktJ25_sort_6 : List UInt8 := dkwJ25_sort_6 ++ dktJ25_sort_7
def dkwJ25_sort_5 : List UInt8 := [21, 9, 163, 0, 8, 21, 7, 167, 0, 5, 21, 9, 54, 11, 42, 27, 27, 21, 11, 96, 27, 21, 10, 96]
abbrev dktJ25_sort_5 : List UInt8 := dkwJ25_sort_5 ++ dktJ25_sort_6
def dkwJ25_sort_4 : List UInt8 := [184, 0, 75, 54, 9, 42, 27, 28, 45, 184, 0, 64, 54, 10, 21, 10, 21, 9, 162, 0, 37, 21, 7]
abbrev dktJ25_sort_4 : List UInt8 := dkwJ25_sort_4 ++ dktJ25_sort_5
def dkwJ25_sort_3 : List UInt8 := [45, 184, 0, 68, 177, 187, 0, 7, 89, 42, 45, 25, 4, 21, 5, 21, 6, 183, 0, 72, 58, 8, 21, 7]
abbrev dktJ25_sort_3 : List UInt8 := dkwJ25_sort_3 ++ dktJ25_sort_4
def dkwJ25_sort_2 : List UInt8 := [177, 21, 7, 16, 32, 162, 0, 24, 42, 27, 28, 45, 184, 0, 64, 54, 8, 42, 27, 28, 27, 21, 8, 96]
abbrev dktJ25_sort_2 : List UInt8 := dkwJ25_sort_2 ++ dktJ25_sort_3
def dkwJ25_sort_1 : List UInt8 := [42, 190, 164, 0, 11, 187, 0, 61, 89, 183, 0, 63, 191, 28, 27, 100, 54, 7, 21, 7, 5, 162, 0, 4]
abbrev dktJ25_sort_1 : List UInt8 := dkwJ25_sort_1 ++ dktJ25_sort_2
def dkwJ25_sort_0 : List UInt8 := [178, 0, 57, 154, 0, 34, 45, 198, 0, 22, 42, 198, 0, 18, 27, 155, 0, 14, 27, 28, 163, 0, 9, 28]
abbrev dktJ25_sort_0 : List UInt8 := dkwJ25_sort_0 ++ dktJ25_sort_1
theorem dksJ25_sort_0 : cJ25_sort.data.toList.drop 0 = dktJ25_sort_0 := by decide +kernel
theorem dksJ25_sort_1 : cJ25_sort.data.toList.drop 24 = dktJ25_sort_1 := dk_seg dksJ25_sort_0 24 rfl rfl
theorem dksJ25_sort_2 : cJ25_sort.data.toList.drop 48 = dktJ25_sort_2 := dk_seg dksJ25_sort_1 24 rfl rfl
theorem dksJ25_sort_3 : cJ25_sort.data.toList.drop 72 = dktJ25_sort_3 := dk_seg dksJ25_sort_2 24 rfl rfl
theorem dksJ25_sort_4 : cJ25_sort.data.toList.drop 96 = dktJ25_sort_4 := dk_seg dksJ25_sort_3 24 rfl rfl
theorem dksJ25_sort_5 : cJ25_sort.data.toList.drop 119 = dktJ25_sort_5 := dk_seg dksJ25_sort_4 23 rfl rfl
theorem dksJ25_sort_6 : cJ25_sort.data.toList.drop 143 = dktJ25_sort_6 := dk_seg dksJ25_sort_5 24 rfl rfl
theorem dksJ25_sort_7 : cJ25_sort.data.toList.drop 167 = dktJ25_sort_7 := dk_seg dksJ25_sort_6 24 rfl rfl
theorem dksJ25_sort_8 : cJ25_sort.data.toList.drop 189 = dktJ25_sort_8 := dk_seg dksJ25_sort_7 22 rfl rfl
theorem dksJ25_sort_9 : cJ25_sort.data.toList.drop 213 = dktJ25_sort_9 := dk_seg dksJ25_sort_8 24 rfl rfl
theorem dJ25_sort_0 : decode cJ25_sort 0 = .ok (.getstatic 57, 3) := dk_178 0 57 (dk_at dksJ25_sort_0 0 rfl rfl)
theorem dJ25_sort_3 : decode cJ25_sort 3 = .ok (.ifCond .ne 34, 3) := dk_154 0 34 (dk_at dksJ25_sort_0 3 rfl rfl)
theorem dJ25_sort_6 : decode cJ25_sort 6 = .ok (.aload_n 3, 1) := dk_45 (dk_at dksJ25_sort_0 6 rfl rfl)
theorem dJ25_sort_7 : decode cJ25_sort 7 = .ok (.ifnull 22, 3) := dk_198 0 22 (dk_at dksJ25_sort_0 7 rfl rfl)
theorem dJ25_sort_10 : decode cJ25_sort 10 = .ok (.aload_n 0, 1) := dk_42 (dk_at dksJ25_sort_0 10 rfl rfl)
theorem dJ25_sort_11 : decode cJ25_sort 11 = .ok (.ifnull 18, 3) := dk_198 0 18 (dk_at dksJ25_sort_0 11 rfl rfl)
theorem dJ25_sort_14 : decode cJ25_sort 14 = .ok (.iload_n 1, 1) := dk_27 (dk_at dksJ25_sort_0 14 rfl rfl)
theorem dJ25_sort_15 : decode cJ25_sort 15 = .ok (.ifCond .lt 14, 3) := dk_155 0 14 (dk_at dksJ25_sort_0 15 rfl rfl)
theorem dJ25_sort_18 : decode cJ25_sort 18 = .ok (.iload_n 1, 1) := dk_27 (dk_at dksJ25_sort_0 18 rfl rfl)
theorem dJ25_sort_19 : decode cJ25_sort 19 = .ok (.iload_n 2, 1) := dk_28 (dk_at dksJ25_sort_0 19 rfl rfl)
theorem dJ25_sort_20 : decode cJ25_sort 20 = .ok (.if_icmp .gt 9, 3) := dk_163 0 9 (dk_at dksJ25_sort_0 20 rfl rfl)
theorem dJ25_sort_23 : decode cJ25_sort 23 = .ok (.iload_n 2, 1) := dk_28 (dk_at dksJ25_sort_0 23 rfl rfl)
theorem dJ25_sort_24 : decode cJ25_sort 24 = .ok (.aload_n 0, 1) := dk_42 (dk_at dksJ25_sort_1 0 rfl rfl)
theorem dJ25_sort_25 : decode cJ25_sort 25 = .ok (.arraylength, 1) := dk_190 (dk_at dksJ25_sort_1 1 rfl rfl)
theorem dJ25_sort_26 : decode cJ25_sort 26 = .ok (.if_icmp .le 11, 3) := dk_164 0 11 (dk_at dksJ25_sort_1 2 rfl rfl)
theorem dJ25_sort_29 : decode cJ25_sort 29 = .ok (.new 61, 3) := dk_187 0 61 (dk_at dksJ25_sort_1 5 rfl rfl)
theorem dJ25_sort_32 : decode cJ25_sort 32 = .ok (.dup, 1) := dk_89 (dk_at dksJ25_sort_1 8 rfl rfl)
theorem dJ25_sort_33 : decode cJ25_sort 33 = .ok (.invokespecial 63, 3) := dk_183 0 63 (dk_at dksJ25_sort_1 9 rfl rfl)
theorem dJ25_sort_36 : decode cJ25_sort 36 = .ok (.athrow, 1) := dk_191 (dk_at dksJ25_sort_1 12 rfl rfl)
theorem dJ25_sort_37 : decode cJ25_sort 37 = .ok (.iload_n 2, 1) := dk_28 (dk_at dksJ25_sort_1 13 rfl rfl)
theorem dJ25_sort_38 : decode cJ25_sort 38 = .ok (.iload_n 1, 1) := dk_27 (dk_at dksJ25_sort_1 14 rfl rfl)
theorem dJ25_sort_39 : decode cJ25_sort 39 = .ok (.isub, 1) := dk_100 (dk_at dksJ25_sort_1 15 rfl rfl)
theorem dJ25_sort_40 : decode cJ25_sort 40 = .ok (.istore 7, 2) := dk_54 7 (dk_at dksJ25_sort_1 16 rfl rfl)
theorem dJ25_sort_42 : decode cJ25_sort 42 = .ok (.iload 7, 2) := dk_21 7 (dk_at dksJ25_sort_1 18 rfl rfl)
theorem dJ25_sort_44 : decode cJ25_sort 44 = .ok (.iconst 2, 1) := dk_5 (dk_at dksJ25_sort_1 20 rfl rfl)
theorem dJ25_sort_45 : decode cJ25_sort 45 = .ok (.if_icmp .ge 4, 3) := dk_162 0 4 (dk_at dksJ25_sort_1 21 rfl rfl)
theorem dJ25_sort_48 : decode cJ25_sort 48 = .ok (.return_, 1) := dk_177 (dk_at dksJ25_sort_2 0 rfl rfl)
theorem dJ25_sort_49 : decode cJ25_sort 49 = .ok (.iload 7, 2) := dk_21 7 (dk_at dksJ25_sort_2 1 rfl rfl)
theorem dJ25_sort_51 : decode cJ25_sort 51 = .ok (.bipush 32, 2) := dk_16 32 (dk_at dksJ25_sort_2 3 rfl rfl)
theorem dJ25_sort_53 : decode cJ25_sort 53 = .ok (.if_icmp .ge 24, 3) := dk_162 0 24 (dk_at dksJ25_sort_2 5 rfl rfl)
theorem dJ25_sort_56 : decode cJ25_sort 56 = .ok (.aload_n 0, 1) := dk_42 (dk_at dksJ25_sort_2 8 rfl rfl)
theorem dJ25_sort_57 : decode cJ25_sort 57 = .ok (.iload_n 1, 1) := dk_27 (dk_at dksJ25_sort_2 9 rfl rfl)
theorem dJ25_sort_58 : decode cJ25_sort 58 = .ok (.iload_n 2, 1) := dk_28 (dk_at dksJ25_sort_2 10 rfl rfl)
theorem dJ25_sort_59 : decode cJ25_sort 59 = .ok (.aload_n 3, 1) := dk_45 (dk_at dksJ25_sort_2 11 rfl rfl)
theorem dJ25_sort_60 : decode cJ25_sort 60 = .ok (.invokestatic 64, 3) := dk_184 0 64 (dk_at dksJ25_sort_2 12 rfl rfl)
theorem dJ25_sort_63 : decode cJ25_sort 63 = .ok (.istore 8, 2) := dk_54 8 (dk_at dksJ25_sort_2 15 rfl rfl)
theorem dJ25_sort_65 : decode cJ25_sort 65 = .ok (.aload_n 0, 1) := dk_42 (dk_at dksJ25_sort_2 17 rfl rfl)
theorem dJ25_sort_66 : decode cJ25_sort 66 = .ok (.iload_n 1, 1) := dk_27 (dk_at dksJ25_sort_2 18 rfl rfl)
theorem dJ25_sort_67 : decode cJ25_sort 67 = .ok (.iload_n 2, 1) := dk_28 (dk_at dksJ25_sort_2 19 rfl rfl)
theorem dJ25_sort_68 : decode cJ25_sort 68 = .ok (.iload_n 1, 1) := dk_27 (dk_at dksJ25_sort_2 20 rfl rfl)
theorem dJ25_sort_69 : decode cJ25_sort 69 = .ok (.iload 8, 2) := dk_21 8 (dk_at dksJ25_sort_2 21 rfl rfl)
theorem dJ25_sort_71 : decode cJ25_sort 71 = .ok (.iadd, 1) := dk_96 (dk_at dksJ25_sort_2 23 rfl rfl)
theorem dJ25_sort_72 : decode cJ25_sort 72 = .ok (.aload_n 3, 1) := dk_45 (dk_at dksJ25_sort_3 0 rfl rfl)
theorem dJ25_sort_73 : decode cJ25_sort 73 = .ok (.invokestatic 68, 3) := dk_184 0 68 (dk_at dksJ25_sort_3 1 rfl rfl)
theorem dJ25_sort_76 : decode cJ25_sort 76 = .ok (.return_, 1) := dk_177 (dk_at dksJ25_sort_3 4 rfl rfl)
theorem dJ25_sort_77 : decode cJ25_sort 77 = .ok (.new 7, 3) := dk_187 0 7 (dk_at dksJ25_sort_3 5 rfl rfl)
theorem dJ25_sort_80 : decode cJ25_sort 80 = .ok (.dup, 1) := dk_89 (dk_at dksJ25_sort_3 8 rfl rfl)
theorem dJ25_sort_81 : decode cJ25_sort 81 = .ok (.aload_n 0, 1) := dk_42 (dk_at dksJ25_sort_3 9 rfl rfl)
theorem dJ25_sort_82 : decode cJ25_sort 82 = .ok (.aload_n 3, 1) := dk_45 (dk_at dksJ25_sort_3 10 rfl rfl)
theorem dJ25_sort_83 : decode cJ25_sort 83 = .ok (.aload 4, 2) := dk_25 4 (dk_at dksJ25_sort_3 11 rfl rfl)
theorem dJ25_sort_85 : decode cJ25_sort 85 = .ok (.iload 5, 2) := dk_21 5 (dk_at dksJ25_sort_3 13 rfl rfl)
theorem dJ25_sort_87 : decode cJ25_sort 87 = .ok (.iload 6, 2) := dk_21 6 (dk_at dksJ25_sort_3 15 rfl rfl)
theorem dJ25_sort_89 : decode cJ25_sort 89 = .ok (.invokespecial 72, 3) := dk_183 0 72 (dk_at dksJ25_sort_3 17 rfl rfl)
theorem dJ25_sort_92 : decode cJ25_sort 92 = .ok (.astore 8, 2) := dk_58 8 (dk_at dksJ25_sort_3 20 rfl rfl)
theorem dJ25_sort_94 : decode cJ25_sort 94 = .ok (.iload 7, 2) := dk_21 7 (dk_at dksJ25_sort_3 22 rfl rfl)
theorem dJ25_sort_96 : decode cJ25_sort 96 = .ok (.invokestatic 75, 3) := dk_184 0 75 (dk_at dksJ25_sort_4 0 rfl rfl)
theorem dJ25_sort_99 : decode cJ25_sort 99 = .ok (.istore 9, 2) := dk_54 9 (dk_at dksJ25_sort_4 3 rfl rfl)
theorem dJ25_sort_101 : decode cJ25_sort 101 = .ok (.aload_n 0, 1) := dk_42 (dk_at dksJ25_sort_4 5 rfl rfl)
theorem dJ25_sort_102 : decode cJ25_sort 102 = .ok (.iload_n 1, 1) := dk_27 (dk_at dksJ25_sort_4 6 rfl rfl)
theorem dJ25_sort_103 : decode cJ25_sort 103 = .ok (.iload_n 2, 1) := dk_28 (dk_at dksJ25_sort_4 7 rfl rfl)
theorem dJ25_sort_104 : decode cJ25_sort 104 = .ok (.aload_n 3, 1) := dk_45 (dk_at dksJ25_sort_4 8 rfl rfl)
theorem dJ25_sort_105 : decode cJ25_sort 105 = .ok (.invokestatic 64, 3) := dk_184 0 64 (dk_at dksJ25_sort_4 9 rfl rfl)
theorem dJ25_sort_108 : decode cJ25_sort 108 = .ok (.istore 10, 2) := dk_54 10 (dk_at dksJ25_sort_4 12 rfl rfl)
theorem dJ25_sort_110 : decode cJ25_sort 110 = .ok (.iload 10, 2) := dk_21 10 (dk_at dksJ25_sort_4 14 rfl rfl)
theorem dJ25_sort_112 : decode cJ25_sort 112 = .ok (.iload 9, 2) := dk_21 9 (dk_at dksJ25_sort_4 16 rfl rfl)
theorem dJ25_sort_114 : decode cJ25_sort 114 = .ok (.if_icmp .ge 37, 3) := dk_162 0 37 (dk_at dksJ25_sort_4 18 rfl rfl)
theorem dJ25_sort_117 : decode cJ25_sort 117 = .ok (.iload 7, 2) := dk_21 7 (dk_at dksJ25_sort_4 21 rfl rfl)
theorem dJ25_sort_119 : decode cJ25_sort 119 = .ok (.iload 9, 2) := dk_21 9 (dk_at dksJ25_sort_5 0 rfl rfl)
theorem dJ25_sort_121 : decode cJ25_sort 121 = .ok (.if_icmp .gt 8, 3) := dk_163 0 8 (dk_at dksJ25_sort_5 2 rfl rfl)
theorem dJ25_sort_124 : decode cJ25_sort 124 = .ok (.iload 7, 2) := dk_21 7 (dk_at dksJ25_sort_5 5 rfl rfl)
theorem dJ25_sort_126 : decode cJ25_sort 126 = .ok (.goto 5, 3) := dk_167 0 5 (dk_at dksJ25_sort_5 7 rfl rfl)
theorem dJ25_sort_129 : decode cJ25_sort 129 = .ok (.iload 9, 2) := dk_21 9 (dk_at dksJ25_sort_5 10 rfl rfl)
theorem dJ25_sort_131 : decode cJ25_sort 131 = .ok (.istore 11, 2) := dk_54 11 (dk_at dksJ25_sort_5 12 rfl rfl)
theorem dJ25_sort_133 : decode cJ25_sort 133 = .ok (.aload_n 0, 1) := dk_42 (dk_at dksJ25_sort_5 14 rfl rfl)
theorem dJ25_sort_134 : decode cJ25_sort 134 = .ok (.iload_n 1, 1) := dk_27 (dk_at dksJ25_sort_5 15 rfl rfl)
theorem dJ25_sort_135 : decode cJ25_sort 135 = .ok (.iload_n 1, 1) := dk_27 (dk_at dksJ25_sort_5 16 rfl rfl)
theorem dJ25_sort_136 : decode cJ25_sort 136 = .ok (.iload 11, 2) := dk_21 11 (dk_at dksJ25_sort_5 17 rfl rfl)
theorem dJ25_sort_138 : decode cJ25_sort 138 = .ok (.iadd, 1) := dk_96 (dk_at dksJ25_sort_5 19 rfl rfl)
theorem dJ25_sort_139 : decode cJ25_sort 139 = .ok (.iload_n 1, 1) := dk_27 (dk_at dksJ25_sort_5 20 rfl rfl)
theorem dJ25_sort_140 : decode cJ25_sort 140 = .ok (.iload 10, 2) := dk_21 10 (dk_at dksJ25_sort_5 21 rfl rfl)
theorem dJ25_sort_142 : decode cJ25_sort 142 = .ok (.iadd, 1) := dk_96 (dk_at dksJ25_sort_5 23 rfl rfl)
theorem dJ25_sort_143 : decode cJ25_sort 143 = .ok (.aload_n 3, 1) := dk_45 (dk_at dksJ25_sort_6 0 rfl rfl)
theorem dJ25_sort_144 : decode cJ25_sort 144 = .ok (.invokestatic 68, 3) := dk_184 0 68 (dk_at dksJ25_sort_6 1 rfl rfl)
theorem dJ25_sort_147 : decode cJ25_sort 147 = .ok (.iload 11, 2) := dk_21 11 (dk_at dksJ25_sort_6 4 rfl rfl)
theorem dJ25_sort_149 : decode cJ25_sort 149 = .ok (.istore 10, 2) := dk_54 10 (dk_at dksJ25_sort_6 6 rfl rfl)
theorem dJ25_sort_151 : decode cJ25_sort 151 = .ok (.aload 8, 2) := dk_25 8 (dk_at dksJ25_sort_6 8 rfl rfl)
theorem dJ25_sort_153 : decode cJ25_sort 153 = .ok (.iload_n 1, 1) := dk_27 (dk_at dksJ25_sort_6 10 rfl rfl)
theorem dJ25_sort_154 : decode cJ25_sort 154 = .ok (.iload 10, 2) := dk_21 10 (dk_at dksJ25_sort_6 11 rfl rfl)
theorem dJ25_sort_156 : decode cJ25_sort 156 = .ok (.invokevirtual 79, 3) := dk_182 0 79 (dk_at dksJ25_sort_6 13 rfl rfl)
theorem dJ25_sort_159 : decode cJ25_sort 159 = .ok (.aload 8, 2) := dk_25 8 (dk_at dksJ25_sort_6 16 rfl rfl)
theorem dJ25_sort_161 : decode cJ25_sort 161 = .ok (.invokevirtual 83, 3) := dk_182 0 83 (dk_at dksJ25_sort_6 18 rfl rfl)
theorem dJ25_sort_164 : decode cJ25_sort 164 = .ok (.iload_n 1, 1) := dk_27 (dk_at dksJ25_sort_6 21 rfl rfl)
theorem dJ25_sort_165 : decode cJ25_sort 165 = .ok (.iload 10, 2) := dk_21 10 (dk_at dksJ25_sort_6 22 rfl rfl)
theorem dJ25_sort_167 : decode cJ25_sort 167 = .ok (.iadd, 1) := dk_96 (dk_at dksJ25_sort_7 0 rfl rfl)
theorem dJ25_sort_168 : decode cJ25_sort 168 = .ok (.istore_n 1, 1) := dk_60 (dk_at dksJ25_sort_7 1 rfl rfl)
theorem dJ25_sort_169 : decode cJ25_sort 169 = .ok (.iload 7, 2) := dk_21 7 (dk_at dksJ25_sort_7 2 rfl rfl)
theorem dJ25_sort_171 : decode cJ25_sort 171 = .ok (.iload 10, 2) := dk_21 10 (dk_at dksJ25_sort_7 4 rfl rfl)
theorem dJ25_sort_173 : decode cJ25_sort 173 = .ok (.isub, 1) := dk_100 (dk_at dksJ25_sort_7 6 rfl rfl)
theorem dJ25_sort_174 : decode cJ25_sort 174 = .ok (.istore 7, 2) := dk_54 7 (dk_at dksJ25_sort_7 7 rfl rfl)
theorem dJ25_sort_176 : decode cJ25_sort 176 = .ok (.iload 7, 2) := dk_21 7 (dk_at dksJ25_sort_7 9 rfl rfl)
theorem dJ25_sort_178 : decode cJ25_sort 178 = .ok (.ifCond .ne (-77), 3) := dk_154 255 179 (dk_at dksJ25_sort_7 11 rfl rfl)
theorem dJ25_sort_181 : decode cJ25_sort 181 = .ok (.getstatic 57, 3) := dk_178 0 57 (dk_at dksJ25_sort_7 14 rfl rfl)
theorem dJ25_sort_184 : decode cJ25_sort 184 = .ok (.ifCond .ne 16, 3) := dk_154 0 16 (dk_at dksJ25_sort_7 17 rfl rfl)
theorem dJ25_sort_187 : decode cJ25_sort 187 = .ok (.iload_n 1, 1) := dk_27 (dk_at dksJ25_sort_7 20 rfl rfl)
theorem dJ25_sort_188 : decode cJ25_sort 188 = .ok (.iload_n 2, 1) := dk_28 (dk_at dksJ25_sort_7 21 rfl rfl)
theorem dJ25_sort_189 : decode cJ25_sort 189 = .ok (.if_icmp .eq 11, 3) := dk_159 0 11 (dk_at dksJ25_sort_8 0 rfl rfl)
theorem dJ25_sort_192 : decode cJ25_sort 192 = .ok (.new 61, 3) := dk_187 0 61 (dk_at dksJ25_sort_8 3 rfl rfl)
theorem dJ25_sort_195 : decode cJ25_sort 195 = .ok (.dup, 1) := dk_89 (dk_at dksJ25_sort_8 6 rfl rfl)
theorem dJ25_sort_196 : decode cJ25_sort 196 = .ok (.invokespecial 63, 3) := dk_183 0 63 (dk_at dksJ25_sort_8 7 rfl rfl)
theorem dJ25_sort_199 : decode cJ25_sort 199 = .ok (.athrow, 1) := dk_191 (dk_at dksJ25_sort_8 10 rfl rfl)
theorem dJ25_sort_200 : decode cJ25_sort 200 = .ok (.aload 8, 2) := dk_25 8 (dk_at dksJ25_sort_8 11 rfl rfl)
theorem dJ25_sort_202 : decode cJ25_sort 202 = .ok (.invokevirtual 86, 3) := dk_182 0 86 (dk_at dksJ25_sort_8 13 rfl rfl)
theorem dJ25_sort_205 : decode cJ25_sort 205 = .ok (.getstatic 57, 3) := dk_178 0 57 (dk_at dksJ25_sort_8 16 rfl rfl)
theorem dJ25_sort_208 : decode cJ25_sort 208 = .ok (.ifCond .ne 20, 3) := dk_154 0 20 (dk_at dksJ25_sort_8 19 rfl rfl)
theorem dJ25_sort_211 : decode cJ25_sort 211 = .ok (.aload 8, 2) := dk_25 8 (dk_at dksJ25_sort_8 22 rfl rfl)
theorem dJ25_sort_213 : decode cJ25_sort 213 = .ok (.getfield 13, 3) := dk_180 0 13 (dk_at dksJ25_sort_9 0 rfl rfl)
theorem dJ25_sort_216 : decode cJ25_sort 216 = .ok (.iconst 1, 1) := dk_4 (dk_at dksJ25_sort_9 3 rfl rfl)
theorem dJ25_sort_217 : decode cJ25_sort 217 = .ok (.if_icmp .eq 11, 3) := dk_159 0 11 (dk_at dksJ25_sort_9 4 rfl rfl)
theorem dJ25_sort_220 : decode cJ25_sort 220 = .ok (.new 61, 3) := dk_187 0 61 (dk_at dksJ25_sort_9 7 rfl rfl)
theorem dJ25_sort_223 : decode cJ25_sort 223 = .ok (.dup, 1) := dk_89 (dk_at dksJ25_sort_9 10 rfl rfl)
theorem dJ25_sort_224 : decode cJ25_sort 224 = .ok (.invokespecial 63, 3) := dk_183 0 63 (dk_at dksJ25_sort_9 11 rfl rfl)
theorem dJ25_sort_227 : decode cJ25_sort 227 = .ok (.athrow, 1) := dk_191 (dk_at dksJ25_sort_9 14 rfl rfl)
theorem dJ25_sort_228 : decode cJ25_sort 228 = .ok (.return_, 1) := dk_177 (dk_at dksJ25_sort_9 15 rfl rfl)
theorem md_J25_sort : xMd yJ25_sort cJ25_sort 12 (Option.none : Option Jvm.ClassFile.FieldType) 7 := ⟨q1707, q162, by decide, by decide +kernel, by decide +kernel, by decide +kernel⟩
def f_J25_sort_37   (v0 : Option Nat) (v1 : Int32) (v2 : Int32) (v3 : Option Nat) (v4 : Option Nat) (v5 : Int32) (v6 : Int32) (p0 : PH) : Option (xO × PH) :=
  (bnd (v2 - v1) fun x1 =>
  (if 2 ≤ x1 then
  (if 32 ≤ x1 then
  none else
  (xcI (f_J25_countRunAndMakeAscending p0 v0 v1 v2 v3) fun x3 p2 =>
  (xcV (f_J25_binarySort p2 v0 v1 v2 (v1 + x3) v3) fun p4 =>
  (rV p4)))) else
  (rV p0)))
def f_J25_sort_29    (p0 : PH) : Option (xO × PH) :=
  none
def f_J25_sort (p0 : PH) (a0 : Option Nat) (a1 : Int32) (a2 : Int32) (a3 : Option Nat) (a4 : Option Nat) (a5 : Int32) (a6 : Int32) : Option (xO × PH) :=
  (if (1 : Int32) = 0 then
  (xnul a3 (f_J25_sort_29  p0) fun b5 =>
  (xnul a0 (f_J25_sort_29  p0) fun b6 =>
  (if a1 < 0 then
  (f_J25_sort_29  p0) else
  (if a2 < a1 then
  (f_J25_sort_29  p0) else
  (xlen p0 b6 fun x7 =>
  (if a2 ≤ x7 then
  (f_J25_sort_37 ((some b6)) a1 a2 ((some b5)) a4 a5 a6 p0) else
  (f_J25_sort_29  p0))))))) else
  (f_J25_sort_37 a0 a1 a2 a3 a4 a5 a6 p0))
theorem f_J25_sort_37_ok {G : xG} (hO : xOK G)   (v0 : Option Nat) (v1 : Int32) (v2 : Int32) (v3 : Option Nat) (v4 : Option Nat) (v5 : Int32) (v6 : Int32) (p0 : PH) : X G "java/util/TimSort" "sort" cJ25_sort 12 (Option.none : Option Jvm.ClassFile.FieldType) 6 37 [(0, va_rf v0), (1, .int v1), (2, .int v2), (3, va_rf v3), (4, va_rf v4), (5, .int v5), (6, .int v6)] [] p0 (f_J25_sort_37 v0 v1 v2 v3 v4 v5 v6 p0) := by
  unfold f_J25_sort_37
  refine x_iload_n 2 dJ25_sort_37 rfl rfl (n := 38) rfl ?_
  refine x_iload_n 1 dJ25_sort_38 rfl rfl (n := 39) rfl ?_
  refine x_isub dJ25_sort_39 (n := 40) rfl ?_
  refine x_nm (fun x1 => ?_)
  refine x_istore [(7, .int x1), (0, va_rf v0), (1, .int v1), (2, .int v2), (3, va_rf v3), (4, va_rf v4), (5, .int v5), (6, .int v6)] dJ25_sort_40 (by decide) rfl (n := 42) rfl ?_
  refine x_iload 0 dJ25_sort_42 rfl (n := 44) rfl ?_
  refine x_iconst 2 dJ25_sort_44 rfl (n := 45) rfl ?_
  refine x_icmp_ge dJ25_sort_45 (t := 49) (by decide) (n := 48) rfl (fun _ => ?_) (fun _ => ?_)
  · refine x_iload 0 dJ25_sort_49 rfl (n := 51) rfl ?_
    refine x_bipush 32 dJ25_sort_51 rfl (n := 53) rfl ?_
    refine x_icmp_ge dJ25_sort_53 (t := 77) (by decide) (n := 56) rfl (fun _ => ?_) (fun _ => ?_)
    · exact x_no
    · refine x_aload_n 1 dJ25_sort_56 rfl rfl (n := 57) rfl ?_
      refine x_iload_n 2 dJ25_sort_57 rfl rfl (n := 58) rfl ?_
      refine x_iload_n 3 dJ25_sort_58 rfl rfl (n := 59) rfl ?_
      refine x_aload_n 4 dJ25_sort_59 rfl rfl (n := 60) rfl ?_
      refine x_callS_I [va_rf v0, .int v1, .int v2, va_rf v3] [] (f_J25_countRunAndMakeAscending_ok hO p0 v0 v1 v2 v3) md_J25_countRunAndMakeAscending q1710 q1711 dJ25_sort_60 rfl rfl (by decide) (Nat.le_of_ble_eq_true rfl) (n := 63) rfl (fun x3 p2 => ?_)
      refine x_istore [(8, .int x3), (7, .int x1), (0, va_rf v0), (1, .int v1), (2, .int v2), (3, va_rf v3), (4, va_rf v4), (5, .int v5), (6, .int v6)] dJ25_sort_63 (by decide) rfl (n := 65) rfl ?_
      refine x_aload_n 2 dJ25_sort_65 rfl rfl (n := 66) rfl ?_
      refine x_iload_n 3 dJ25_sort_66 rfl rfl (n := 67) rfl ?_
      refine x_iload_n 4 dJ25_sort_67 rfl rfl (n := 68) rfl ?_
      refine x_iload_n 3 dJ25_sort_68 rfl rfl (n := 69) rfl ?_
      refine x_iload 0 dJ25_sort_69 rfl (n := 71) rfl ?_
      refine x_iadd dJ25_sort_71 (n := 72) rfl ?_
      refine x_aload_n 5 dJ25_sort_72 rfl rfl (n := 73) rfl ?_
      refine x_callS_V [va_rf v0, .int v1, .int v2, .int (v1 + x3), va_rf v3] [] (f_J25_binarySort_ok hO p2 v0 v1 v2 (v1 + x3) v3) md_J25_binarySort q1718 q1719 dJ25_sort_73 rfl rfl (by decide) (Nat.le_of_ble_eq_true rfl) (n := 76) rfl (fun p4 => ?_)
      exact x_return dJ25_sort_76
  · exact x_return dJ25_sort_48
theorem f_J25_sort_29_ok {G : xG} (hO : xOK G)    (p0 : PH) : X G "java/util/TimSort" "sort" cJ25_sort 12 (Option.none : Option Jvm.ClassFile.FieldType) 6 29 [] [] p0 (f_J25_sort_29  p0) := by
  unfold f_J25_sort_29
  exact x_no
theorem f_J25_sort_ok {G : xG} (hO : xOK G) (p0 : PH) (a0 : Option Nat) (a1 : Int32) (a2 : Int32) (a3 : Option Nat) (a4 : Option Nat) (a5 : Int32) (a6 : Int32) : CT G 6 yJ25_sort cJ25_sort 12 (Option.none : Option Jvm.ClassFile.FieldType) [va_rf a0, .int a1, .int a2, va_rf a3, va_rf a4, .int a5, .int a6] p0 (f_J25_sort p0 a0 a1 a2 a3 a4 a5 a6) := by
  refine CT_of hO (by decide +kernel) (by decide +kernel) (lg_slen _ (by simp only [List.map, xcat]; exact Nat.le_of_ble_eq_true rfl)) ?_
  rw [show lv_args 0 [va_rf a0, .int a1, .int a2, va_rf a3, va_rf a4, .int a5, .int a6] = [(0, va_rf a0), (1, .int a1), (2, .int a2), (3, va_rf a3), (4, va_rf a4), (5, .int a5), (6, .int a6)] from by simp only [lv_args, xcat] <;> rfl]
  show X G "java/util/TimSort" "sort" cJ25_sort 12 (Option.none : Option Jvm.ClassFile.FieldType) 6 0 [(0, va_rf a0), (1, .int a1), (2, .int a2), (3, va_rf a3), (4, va_rf a4), (5, .int a5), (6, .int a6)] [] p0 (f_J25_sort p0 a0 a1 a2 a3 a4 a5 a6)
  refine x_getsI (j := 10) rfl (Or.inl q1708) dJ25_sort_0 (n := 3) rfl ?_
  refine x_if_ne dJ25_sort_3 (t := 37) (by decide) (n := 6) rfl (fun _ => ?_) (fun _ => ?_)
  · exact f_J25_sort_37_ok hO a0 a1 a2 a3 a4 a5 a6 p0
  · refine x_aload_n 3 dJ25_sort_6 rfl rfl (n := 7) rfl ?_
    refine x_ifnull dJ25_sort_7 (t := 29) (by decide) (n := 10) rfl (fun e => ?_) (fun b5 e => ?_)
    · subst e
      refine x_sub [] [] rfl ?_
      exact f_J25_sort_29_ok hO  p0
    · subst e
      refine x_aload_n 0 dJ25_sort_10 rfl rfl (n := 11) rfl ?_
      refine x_ifnull dJ25_sort_11 (t := 29) (by decide) (n := 14) rfl (fun e => ?_) (fun b6 e => ?_)
      · subst e
        refine x_sub [] [] rfl ?_
        exact f_J25_sort_29_ok hO  p0
      · subst e
        refine x_iload_n 1 dJ25_sort_14 rfl rfl (n := 15) rfl ?_
        refine x_if_lt dJ25_sort_15 (t := 29) (by decide) (n := 18) rfl (fun _ => ?_) (fun _ => ?_)
        · refine x_sub [] [] rfl ?_
          exact f_J25_sort_29_ok hO  p0
        · refine x_iload_n 1 dJ25_sort_18 rfl rfl (n := 19) rfl ?_
          refine x_iload_n 2 dJ25_sort_19 rfl rfl (n := 20) rfl ?_
          refine x_icmp_gt dJ25_sort_20 (t := 29) (by decide) (n := 23) rfl (fun _ => ?_) (fun _ => ?_)
          · refine x_sub [] [] rfl ?_
            exact f_J25_sort_29_ok hO  p0
          · refine x_iload_n 2 dJ25_sort_23 rfl rfl (n := 24) rfl ?_
            refine x_aload_nr 0 dJ25_sort_24 rfl rfl (n := 25) rfl ?_
            refine x_alen dJ25_sort_25 (n := 26) rfl (fun x7 => ?_)
            refine x_icmp_le dJ25_sort_26 (t := 37) (by decide) (n := 29) rfl (fun _ => ?_) (fun _ => ?_)
            · exact f_J25_sort_37_ok hO ((some b6)) a1 a2 ((some b5)) a4 a5 a6 p0
            · refine x_sub [] [] rfl ?_
              exact f_J25_sort_29_ok hO  p0
abbrev cJ17_sort : ByteArray := prog_50_method_43_code
def yJ17_sort : MethodName := ⟨RJ17, "sort", "([Ljava/lang/Object;IILjava/util/Comparator;)V"⟩
def dkwJ17_sort_1 : List UInt8 := [153, 0, 13, 42, 27, 28, 45, 184, 0, 166, 167, 0, 13, 42, 27, 28, 45, 1, 3, 3, 184, 0, 79, 177]
abbrev dktJ17_sort_1 : List UInt8 := dkwJ17_sort_1 ++ []
def dkwJ17_sort_0 : List UInt8 := [45, 199, 0, 12, 42, 27, 28, 184, 0, 164, 167, 0, 36, 42, 190, 27, 28, 184, 0, 13, 178, 0, 112]
abbrev dktJ17_sort_0 : List UInt8 := dkwJ17_sort_0 ++ dktJ17_sort_1
theorem dksJ17_sort_0 : cJ17_sort.data.toList.drop 0 = dktJ17_sort_0 := by decide +kernel
theorem dksJ17_sort_1 : cJ17_sort.data.toList.drop 23 = dktJ17_sort_1 := dk_seg dksJ17_sort_0 23 rfl rfl
theorem dJ17_sort_0 : decode cJ17_sort 0 = .ok (.aload_n 3, 1) := dk_45 (dk_at dksJ17_sort_0 0 rfl rfl)
theorem dJ17_sort_1 : decode cJ17_sort 1 = .ok (.ifnonnull 12, 3) := dk_199 0 12 (dk_at dksJ17_sort_0 1 rfl rfl)
theorem dJ17_sort_4 : decode cJ17_sort 4 = .ok (.aload_n 0, 1) := dk_42 (dk_at dksJ17_sort_0 4 rfl rfl)
theorem dJ17_sort_5 : decode cJ17_sort 5 = .ok (.iload_n 1, 1) := dk_27 (dk_at dksJ17_sort_0 5 rfl rfl)
theorem dJ17_sort_6 : decode cJ17_sort 6 = .ok (.iload_n 2, 1) := dk_28 (dk_at dksJ17_sort_0 6 rfl rfl)
theorem dJ17_sort_7 : decode cJ17_sort 7 = .ok (.invokestatic 164, 3) := dk_184 0 164 (dk_at dksJ17_sort_0 7 rfl rfl)
theorem dJ17_sort_10 : decode cJ17_sort 10 = .ok (.goto 36, 3) := dk_167 0 36 (dk_at dksJ17_sort_0 10 rfl rfl)
theorem dJ17_sort_13 : decode cJ17_sort 13 = .ok (.aload_n 0, 1) := dk_42 (dk_at dksJ17_sort_0 13 rfl rfl)
theorem dJ17_sort_14 : decode cJ17_sort 14 = .ok (.arraylength, 1) := dk_190 (dk_at dksJ17_sort_0 14 rfl rfl)
theorem dJ17_sort_15 : decode cJ17_sort 15 = .ok (.iload_n 1, 1) := dk_27 (dk_at dksJ17_sort_0 15 rfl rfl)
theorem dJ17_sort_16 : decode cJ17_sort 16 = .ok (.iload_n 2, 1) := dk_28 (dk_at dksJ17_sort_0 16 rfl rfl)
theorem dJ17_sort_17 : decode cJ17_sort 17 = .ok (.invokestatic 13, 3) := dk_184 0 13 (dk_at dksJ17_sort_0 17 rfl rfl)
theorem dJ17_sort_20 : decode cJ17_sort 20 = .ok (.getstatic 112, 3) := dk_178 0 112 (dk_at dksJ17_sort_0 20 rfl rfl)
theorem dJ17_sort_23 : decode cJ17_sort 23 = .ok (.ifCond .eq 13, 3) := dk_153 0 13 (dk_at dksJ17_sort_1 0 rfl rfl)
theorem dJ17_sort_26 : decode cJ17_sort 26 = .ok (.aload_n 0, 1) := dk_42 (dk_at dksJ17_sort_1 3 rfl rfl)
theorem dJ17_sort_27 : decode cJ17_sort 27 = .ok (.iload_n 1, 1) := dk_27 (dk_at dksJ17_sort_1 4 rfl rfl)
theorem dJ17_sort_28 : decode cJ17_sort 28 = .ok (.iload_n 2, 1) := dk_28 (dk_at dksJ17_sort_1 5 rfl rfl)
theorem dJ17_sort_29 : decode cJ17_sort 29 = .ok (.aload_n 3, 1) := dk_45 (dk_at dksJ17_sort_1 6 rfl rfl)
theorem dJ17_sort_30 : decode cJ17_sort 30 = .ok (.invokestatic 166, 3) := dk_184 0 166 (dk_at dksJ17_sort_1 7 rfl rfl)
theorem dJ17_sort_33 : decode cJ17_sort 33 = .ok (.goto 13, 3) := dk_167 0 13 (dk_at dksJ17_sort_1 10 rfl rfl)
theorem dJ17_sort_36 : decode cJ17_sort 36 = .ok (.aload_n 0, 1) := dk_42 (dk_at dksJ17_sort_1 13 rfl rfl)
theorem dJ17_sort_37 : decode cJ17_sort 37 = .ok (.iload_n 1, 1) := dk_27 (dk_at dksJ17_sort_1 14 rfl rfl)
theorem dJ17_sort_38 : decode cJ17_sort 38 = .ok (.iload_n 2, 1) := dk_28 (dk_at dksJ17_sort_1 15 rfl rfl)
theorem dJ17_sort_39 : decode cJ17_sort 39 = .ok (.aload_n 3, 1) := dk_45 (dk_at dksJ17_sort_1 16 rfl rfl)
theorem dJ17_sort_40 : decode cJ17_sort 40 = .ok (.aconst_null, 1) := dk_1 (dk_at dksJ17_sort_1 17 rfl rfl)
theorem dJ17_sort_41 : decode cJ17_sort 41 = .ok (.iconst 0, 1) := dk_3 (dk_at dksJ17_sort_1 18 rfl rfl)
theorem dJ17_sort_42 : decode cJ17_sort 42 = .ok (.iconst 0, 1) := dk_3 (dk_at dksJ17_sort_1 19 rfl rfl)
theorem dJ17_sort_43 : decode cJ17_sort 43 = .ok (.invokestatic 79, 3) := dk_184 0 79 (dk_at dksJ17_sort_1 20 rfl rfl)
theorem dJ17_sort_46 : decode cJ17_sort 46 = .ok (.return_, 1) := dk_177 (dk_at dksJ17_sort_1 23 rfl rfl)
theorem md_J17_sort : xMd yJ17_sort cJ17_sort 4 (Option.none : Option Jvm.ClassFile.FieldType) 4 := ⟨q1606, q145, by decide, by decide +kernel, by decide +kernel, by decide +kernel⟩
def f_J17_sort (p0 : PH) (a0 : Option Nat) (a1 : Int32) (a2 : Int32) (a3 : Option Nat) : Option (xO × PH) :=
  (xnul a3 none fun b1 =>
  (xnul a0 none fun b2 =>
  (xlen p0 b2 fun x3 =>
  (xcV (f_J17_rangeCheck p0 x3 a1 a2) fun p4 =>
  (if (0 : Int32) = 0 then
  (xcV (f_J25_sort p4 (some b2) a1 a2 (some b1) none 0 0) fun p5 =>
  (rV p5)) else
  none)))))
theorem f_J17_sort_ok {G : xG} (hO : xOK G) (p0 : PH) (a0 : Option Nat) (a1 : Int32) (a2 : Int32) (a3 : Option Nat) : CT G 7 yJ17_sort cJ17_sort 4 (Option.none : Option Jvm.ClassFile.FieldType) [va_rf a0, .int a1, .int a2, va_rf a3] p0 (f_J17_sort p0 a0 a1 a2 a3) := by
  refine CT_of hO (by decide +kernel) (by decide +kernel) (lg_slen _ (by simp only [List.map, xcat]; exact Nat.le_of_ble_eq_true rfl)) ?_
  rw [show lv_args 0 [va_rf a0, .int a1, .int a2, va_rf a3] = [(0, va_rf a0), (1, .int a1), (2, .int a2), (3, va_rf a3)] from by simp only [lv_args, xcat] <;> rfl]
  show X G "java/util/Arrays" "sort" cJ17_sort 4 (Option.none : Option Jvm.ClassFile.FieldType) 7 0 [(0, va_rf a0), (1, .int a1), (2, .int a2), (3, va_rf a3)] [] p0 (f_J17_sort p0 a0 a1 a2 a3)
  refine x_aload_n 3 dJ17_sort_0 rfl rfl (n := 1) rfl ?_
  refine x_ifnonnull dJ17_sort_1 (t := 13) (by decide) (n := 4) rfl (fun e => ?_) (fun b1 e => ?_)
  · subst e
    refine x_aload_n 0 dJ17_sort_4 rfl rfl (n := 5) rfl ?_
    refine x_iload_n 1 dJ17_sort_5 rfl rfl (n := 6) rfl ?_
    refine x_iload_n 2 dJ17_sort_6 rfl rfl (n := 7) rfl ?_
    exact x_no
  · subst e
    refine x_aload_n 0 dJ17_sort_13 rfl rfl (n := 14) rfl ?_
    refine x_sm (fun b2 e => ?_)
    subst e
    refine x_alen dJ17_sort_14 (n := 15) rfl (fun x3 => ?_)
    refine x_iload_n 1 dJ17_sort_15 rfl rfl (n := 16) rfl ?_
    refine x_iload_n 2 dJ17_sort_16 rfl rfl (n := 17) rfl ?_
    refine x_callS_V [.int x3, .int a1, .int a2] [] (f_J17_rangeCheck_ok hO p0 x3 a1 a2) md_J17_rangeCheck q1610 q1611 dJ17_sort_17 rfl rfl (by decide) (Nat.le_of_ble_eq_true rfl) (n := 20) rfl (fun p4 => ?_)
    refine x_getsI (j := 9) rfl (Or.inr ⟨_, q1613⟩) dJ17_sort_20 (n := 23) rfl ?_
    refine x_if_eq dJ17_sort_23 (t := 36) (by decide) (n := 26) rfl (fun _ => ?_) (fun _ => ?_)
    · refine x_aload_nr 0 dJ17_sort_36 rfl rfl (n := 37) rfl ?_
      refine x_iload_n 1 dJ17_sort_37 rfl rfl (n := 38) rfl ?_
      refine x_iload_n 2 dJ17_sort_38 rfl rfl (n := 39) rfl ?_
      refine x_aload_nr 3 dJ17_sort_39 rfl rfl (n := 40) rfl ?_
      refine x_null dJ17_sort_40 (n := 41) rfl ?_
      refine x_iconst 0 dJ17_sort_41 rfl (n := 42) rfl ?_
      refine x_iconst 0 dJ17_sort_42 rfl (n := 43) rfl ?_
      refine x_callS_V [.ref b2, .int a1, .int a2, .ref b1, va_rf none, .int 0, .int 0] [] (f_J25_sort_ok hO p4 (some b2) a1 a2 (some b1) none 0 0) md_J25_sort q1705 q1706 dJ17_sort_43 rfl rfl (by decide) (Nat.le_of_ble_eq_true rfl) (n := 46) rfl (fun p5 => ?_)
      exact x_return dJ17_sort_46
    · refine x_aload_nr 0 dJ17_sort_26 rfl rfl (n := 27) rfl ?_
      refine x_iload_n 1 dJ17_sort_27 rfl rfl (n := 28) rfl ?_
      refine x_iload_n 2 dJ17_sort_28 rfl rfl (n := 29) rfl ?_
      refine x_aload_nr 3 dJ17_sort_29 rfl rfl (n := 30) rfl ?_
      exact x_no
abbrev cJ3_sort : ByteArray := prog_47_method_66_code
def yJ3_sort : MethodName := ⟨RJ3, "sort", "(Ljava/util/Comparator;)V"⟩
def dkwJ3_sort_1 : List UInt8 := [159, 0, 11, 187, 0, 161, 89, 183, 0, 163, 191, 42, 89, 180, 0, 63, 4, 96, 181, 0, 63, 177]
abbrev dktJ3_sort_1 : List UInt8 := dkwJ3_sort_1 ++ []
def dkwJ3_sort_0 : List UInt8 := [42, 180, 0, 63, 61, 42, 180, 0, 9, 3, 42, 180, 0, 48, 43, 184, 1, 69, 42, 180, 0, 63, 28]
abbrev dktJ3_sort_0 : List UInt8 := dkwJ3_sort_0 ++ dktJ3_sort_1
theorem dksJ3_sort_0 : cJ3_sort.data.toList.drop 0 = dktJ3_sort_0 := by decide +kernel
theorem dksJ3_sort_1 : cJ3_sort.data.toList.drop 23 = dktJ3_sort_1 := dk_seg dksJ3_sort_0 23 rfl rfl
theorem dJ3_sort_0 : decode cJ3_sort 0 = .ok (.aload_n 0, 1) := dk_42 (dk_at dksJ3_sort_0 0 rfl rfl)
theorem dJ3_sort_1 : decode cJ3_sort 1 = .ok (.getfield 63, 3) := dk_180 0 63 (dk_at dksJ3_sort_0 1 rfl rfl)
theorem dJ3_sort_4 : decode cJ3_sort 4 = .ok (.istore_n 2, 1) := dk_61 (dk_at dksJ3_sort_0 4 rfl rfl)
theorem dJ3_sort_5 : decode cJ3_sort 5 = .ok (.aload_n 0, 1) := dk_42 (dk_at dksJ3_sort_0 5 rfl rfl)
theorem dJ3_sort_6 : decode cJ3_sort 6 = .ok (.getfield 9, 3) := dk_180 0 9 (dk_at dksJ3_sort_0 6 rfl rfl)
theorem dJ3_sort_9 : decode cJ3_sort 9 = .ok (.iconst 0, 1) := dk_3 (dk_at dksJ3_sort_0 9 rfl rfl)
theorem dJ3_sort_10 : decode cJ3_sort 10 = .ok (.aload_n 0, 1) := dk_42 (dk_at dksJ3_sort_0 10 rfl rfl)
theorem dJ3_sort_11 : decode cJ3_sort 11 = .ok (.getfield 48, 3) := dk_180 0 48 (dk_at dksJ3_sort_0 11 rfl rfl)
theorem dJ3_sort_14 : decode cJ3_sort 14 = .ok (.aload_n 1, 1) := dk_43 (dk_at dksJ3_sort_0 14 rfl rfl)
theorem dJ3_sort_15 : decode cJ3_sort 15 = .ok (.invokestatic 325, 3) := dk_184 1 69 (dk_at dksJ3_sort_0 15 rfl rfl)
theorem dJ3_sort_18 : decode cJ3_sort 18 = .ok (.aload_n 0, 1) := dk_42 (dk_at dksJ3_sort_0 18 rfl rfl)
theorem dJ3_sort_19 : decode cJ3_sort 19 = .ok (.getfield 63, 3) := dk_180 0 63 (dk_at dksJ3_sort_0 19 rfl rfl)
theorem dJ3_sort_22 : decode cJ3_sort 22 = .ok (.iload_n 2, 1) := dk_28 (dk_at dksJ3_sort_0 22 rfl rfl)
theorem dJ3_sort_23 : decode cJ3_sort 23 = .ok (.if_icmp .eq 11, 3) := dk_159 0 11 (dk_at dksJ3_sort_1 0 rfl rfl)
theorem dJ3_sort_26 : decode cJ3_sort 26 = .ok (.new 161, 3) := dk_187 0 161 (dk_at dksJ3_sort_1 3 rfl rfl)
theorem dJ3_sort_29 : decode cJ3_sort 29 = .ok (.dup, 1) := dk_89 (dk_at dksJ3_sort_1 6 rfl rfl)
theorem dJ3_sort_30 : decode cJ3_sort 30 = .ok (.invokespecial 163, 3) := dk_183 0 163 (dk_at dksJ3_sort_1 7 rfl rfl)
theorem dJ3_sort_33 : decode cJ3_sort 33 = .ok (.athrow, 1) := dk_191 (dk_at dksJ3_sort_1 10 rfl rfl)
theorem dJ3_sort_34 : decode cJ3_sort 34 = .ok (.aload_n 0, 1) := dk_42 (dk_at dksJ3_sort_1 11 rfl rfl)
theorem dJ3_sort_35 : decode cJ3_sort 35 = .ok (.dup, 1) := dk_89 (dk_at dksJ3_sort_1 12 rfl rfl)
theorem dJ3_sort_36 : decode cJ3_sort 36 = .ok (.getfield 63, 3) := dk_180 0 63 (dk_at dksJ3_sort_1 13 rfl rfl)
theorem dJ3_sort_39 : decode cJ3_sort 39 = .ok (.iconst 1, 1) := dk_4 (dk_at dksJ3_sort_1 16 rfl rfl)
theorem dJ3_sort_40 : decode cJ3_sort 40 = .ok (.iadd, 1) := dk_96 (dk_at dksJ3_sort_1 17 rfl rfl)
theorem dJ3_sort_41 : decode cJ3_sort 41 = .ok (.putfield 63, 3) := dk_181 0 63 (dk_at dksJ3_sort_1 18 rfl rfl)
theorem dJ3_sort_44 : decode cJ3_sort 44 = .ok (.return_, 1) := dk_177 (dk_at dksJ3_sort_1 21 rfl rfl)
theorem md_J3_sort : xMd yJ3_sort cJ3_sort 3 (Option.none : Option Jvm.ClassFile.FieldType) 1 := ⟨q1603, q130, by decide, by decide +kernel, by decide +kernel, by decide +kernel⟩
def f_J3_sort (p0 : PH) (a0 : Nat) (a1 : Option Nat) : Option (xO × PH) :=
  (xcl1 p0 a0 14 (xgI p0 a0 14 0 fun x1 =>
  (xgR p0 a0 14 1 fun x2 =>
  (xgI p0 a0 14 2 fun x3 =>
  (xcV (f_J17_sort p0 x2 0 x3 a1) fun p4 =>
  (xgI p4 a0 14 0 fun x5 =>
  (if x5 = x1 then
  (xgI p4 a0 14 0 fun x6 =>
  (xpF p4 a0 14 0 (.int (x6 + 1)) fun p7 =>
  (rV p7))) else
  none)))))))
theorem rc_J3_sort {p0 : PH} {a0 : Nat} {a1 : Option Nat} : ∀ z, f_J3_sort p0 a0 a1 = some z → xco p0 a0 = some 14 := fun z h => xcl1_some h
theorem f_J3_sort_ok {G : xG} (hO : xOK G) (p0 : PH) (a0 : Nat) (a1 : Option Nat) : CT G 8 yJ3_sort cJ3_sort 3 (Option.none : Option Jvm.ClassFile.FieldType) [.ref a0, va_rf a1] p0 (f_J3_sort p0 a0 a1) := by
  refine CT_of hO (by decide +kernel) (by decide +kernel) (lg_slen _ (by simp only [List.map, xcat]; exact Nat.le_of_ble_eq_true rfl)) ?_
  rw [show lv_args 0 [.ref a0, va_rf a1] = [(0, .ref a0), (1, va_rf a1)] from by simp only [lv_args, xcat] <;> rfl]
  show X G "java/util/ArrayList" "sort" cJ3_sort 3 (Option.none : Option Jvm.ClassFile.FieldType) 8 0 [(0, .ref a0), (1, va_rf a1)] [] p0 (f_J3_sort p0 a0 a1)
  refine x_cl1 (fun e0 => ?_)
  refine x_aload_nr 0 dJ3_sort_0 rfl rfl (n := 1) rfl ?_
  refine x_getI fl_J3_63 dJ3_sort_1 (n := 4) rfl (fun x1 => ?_)
  refine x_istore_n [(2, .int x1), (0, .ref a0), (1, va_rf a1)] dJ3_sort_4 rfl (by decide) (by simp only [xst, List.filter_cons, List.filter_nil, xcat] <;> rfl) (n := 5) rfl ?_
  refine x_aload_nr 1 dJ3_sort_5 rfl rfl (n := 6) rfl ?_
  refine x_getR fl_J3_9 dJ3_sort_6 (n := 9) rfl (fun x2 => ?_)
  refine x_iconst 0 dJ3_sort_9 rfl (n := 10) rfl ?_
  refine x_aload_nr 1 dJ3_sort_10 rfl rfl (n := 11) rfl ?_
  refine x_getI fl_J3_48 dJ3_sort_11 (n := 14) rfl (fun x3 => ?_)
  refine x_aload_n 2 dJ3_sort_14 rfl rfl (n := 15) rfl ?_
  refine x_callS_V [va_rf x2, .int 0, .int x3, va_rf a1] [] (f_J17_sort_ok hO p0 x2 0 x3 a1) md_J17_sort q1604 q1605 dJ3_sort_15 rfl rfl (by decide) (Nat.le_of_ble_eq_true rfl) (n := 18) rfl (fun p4 => ?_)
  refine x_aload_nr 1 dJ3_sort_18 rfl rfl (n := 19) rfl ?_
  refine x_getI fl_J3_63 dJ3_sort_19 (n := 22) rfl (fun x5 => ?_)
  refine x_iload_n 0 dJ3_sort_22 rfl rfl (n := 23) rfl ?_
  refine x_icmp_eq dJ3_sort_23 (t := 34) (by decide) (n := 26) rfl (fun _ => ?_) (fun _ => ?_)
  · refine x_aload_nr 1 dJ3_sort_34 rfl rfl (n := 35) rfl ?_
    refine x_dup dJ3_sort_35 rfl (n := 36) rfl ?_
    refine x_getI fl_J3_63 dJ3_sort_36 (n := 39) rfl (fun x6 => ?_)
    refine x_iconst 1 dJ3_sort_39 rfl (n := 40) rfl ?_
    refine x_iadd dJ3_sort_40 (n := 41) rfl ?_
    refine x_pF (pl_J3_63 _ _ ⟨rfl, rfl⟩) dJ3_sort_41 (n := 44) rfl (fun p7 => ?_)
    exact x_return dJ3_sort_44
  · exact x_no
abbrev cX1_rankedOn : ByteArray := prog_1_method_16_code
def yX1_rankedOn : MethodName := ⟨RX1, "rankedOn", "(I)Ljava/util/List;"⟩
def dkwX1_rankedOn_3 : List UInt8 := [89, 42, 183, 0, 143, 185, 0, 146, 2, 0, 44, 176]
abbrev dktX1_rankedOn_3 : List UInt8 := dkwX1_rankedOn_3 ++ []
def dkwX1_rankedOn_2 : List UInt8 := [153, 0, 14, 44, 29, 184, 0, 131, 185, 0, 137, 2, 0, 87, 132, 3, 1, 167, 255, 203, 44, 187, 0, 141]
abbrev dktX1_rankedOn_2 : List UInt8 := dkwX1_rankedOn_2 ++ dktX1_rankedOn_3
def dkwX1_rankedOn_1 : List UInt8 := [162, 0, 43, 42, 180, 0, 56, 29, 27, 182, 0, 128, 153, 0, 25, 42, 180, 0, 56, 29, 182, 0, 115]
abbrev dktX1_rankedOn_1 : List UInt8 := dkwX1_rankedOn_1 ++ dktX1_rankedOn_2
def dkwX1_rankedOn_0 : List UInt8 := [187, 0, 125, 89, 7, 183, 0, 127, 77, 3, 62, 29, 42, 180, 0, 56, 180, 0, 71, 185, 0, 77, 1, 0]
abbrev dktX1_rankedOn_0 : List UInt8 := dkwX1_rankedOn_0 ++ dktX1_rankedOn_1
theorem dksX1_rankedOn_0 : cX1_rankedOn.data.toList.drop 0 = dktX1_rankedOn_0 := by decide +kernel
theorem dksX1_rankedOn_1 : cX1_rankedOn.data.toList.drop 24 = dktX1_rankedOn_1 := dk_seg dksX1_rankedOn_0 24 rfl rfl
theorem dksX1_rankedOn_2 : cX1_rankedOn.data.toList.drop 47 = dktX1_rankedOn_2 := dk_seg dksX1_rankedOn_1 23 rfl rfl
theorem dksX1_rankedOn_3 : cX1_rankedOn.data.toList.drop 71 = dktX1_rankedOn_3 := dk_seg dksX1_rankedOn_2 24 rfl rfl
theorem dX1_rankedOn_0 : decode cX1_rankedOn 0 = .ok (.new 125, 3) := dk_187 0 125 (dk_at dksX1_rankedOn_0 0 rfl rfl)
theorem dX1_rankedOn_3 : decode cX1_rankedOn 3 = .ok (.dup, 1) := dk_89 (dk_at dksX1_rankedOn_0 3 rfl rfl)
theorem dX1_rankedOn_4 : decode cX1_rankedOn 4 = .ok (.iconst 4, 1) := dk_7 (dk_at dksX1_rankedOn_0 4 rfl rfl)
theorem dX1_rankedOn_5 : decode cX1_rankedOn 5 = .ok (.invokespecial 127, 3) := dk_183 0 127 (dk_at dksX1_rankedOn_0 5 rfl rfl)
theorem dX1_rankedOn_8 : decode cX1_rankedOn 8 = .ok (.astore_n 2, 1) := dk_77 (dk_at dksX1_rankedOn_0 8 rfl rfl)
theorem dX1_rankedOn_9 : decode cX1_rankedOn 9 = .ok (.iconst 0, 1) := dk_3 (dk_at dksX1_rankedOn_0 9 rfl rfl)
theorem dX1_rankedOn_10 : decode cX1_rankedOn 10 = .ok (.istore_n 3, 1) := dk_62 (dk_at dksX1_rankedOn_0 10 rfl rfl)
theorem dX1_rankedOn_11 : decode cX1_rankedOn 11 = .ok (.iload_n 3, 1) := dk_29 (dk_at dksX1_rankedOn_0 11 rfl rfl)
theorem dX1_rankedOn_12 : decode cX1_rankedOn 12 = .ok (.aload_n 0, 1) := dk_42 (dk_at dksX1_rankedOn_0 12 rfl rfl)
theorem dX1_rankedOn_13 : decode cX1_rankedOn 13 = .ok (.getfield 56, 3) := dk_180 0 56 (dk_at dksX1_rankedOn_0 13 rfl rfl)
theorem dX1_rankedOn_16 : decode cX1_rankedOn 16 = .ok (.getfield 71, 3) := dk_180 0 71 (dk_at dksX1_rankedOn_0 16 rfl rfl)
theorem dX1_rankedOn_19 : decode cX1_rankedOn 19 = .ok (.invokeinterface 77 1, 5) := by decide +kernel
theorem dX1_rankedOn_24 : decode cX1_rankedOn 24 = .ok (.if_icmp .ge 43, 3) := dk_162 0 43 (dk_at dksX1_rankedOn_1 0 rfl rfl)
theorem dX1_rankedOn_27 : decode cX1_rankedOn 27 = .ok (.aload_n 0, 1) := dk_42 (dk_at dksX1_rankedOn_1 3 rfl rfl)
theorem dX1_rankedOn_28 : decode cX1_rankedOn 28 = .ok (.getfield 56, 3) := dk_180 0 56 (dk_at dksX1_rankedOn_1 4 rfl rfl)
theorem dX1_rankedOn_31 : decode cX1_rankedOn 31 = .ok (.iload_n 3, 1) := dk_29 (dk_at dksX1_rankedOn_1 7 rfl rfl)
theorem dX1_rankedOn_32 : decode cX1_rankedOn 32 = .ok (.iload_n 1, 1) := dk_27 (dk_at dksX1_rankedOn_1 8 rfl rfl)
theorem dX1_rankedOn_33 : decode cX1_rankedOn 33 = .ok (.invokevirtual 128, 3) := dk_182 0 128 (dk_at dksX1_rankedOn_1 9 rfl rfl)
theorem dX1_rankedOn_36 : decode cX1_rankedOn 36 = .ok (.ifCond .eq 25, 3) := dk_153 0 25 (dk_at dksX1_rankedOn_1 12 rfl rfl)
theorem dX1_rankedOn_39 : decode cX1_rankedOn 39 = .ok (.aload_n 0, 1) := dk_42 (dk_at dksX1_rankedOn_1 15 rfl rfl)
theorem dX1_rankedOn_40 : decode cX1_rankedOn 40 = .ok (.getfield 56, 3) := dk_180 0 56 (dk_at dksX1_rankedOn_1 16 rfl rfl)
theorem dX1_rankedOn_43 : decode cX1_rankedOn 43 = .ok (.iload_n 3, 1) := dk_29 (dk_at dksX1_rankedOn_1 19 rfl rfl)
theorem dX1_rankedOn_44 : decode cX1_rankedOn 44 = .ok (.invokevirtual 115, 3) := dk_182 0 115 (dk_at dksX1_rankedOn_1 20 rfl rfl)
theorem dX1_rankedOn_47 : decode cX1_rankedOn 47 = .ok (.ifCond .eq 14, 3) := dk_153 0 14 (dk_at dksX1_rankedOn_2 0 rfl rfl)
theorem dX1_rankedOn_50 : decode cX1_rankedOn 50 = .ok (.aload_n 2, 1) := dk_44 (dk_at dksX1_rankedOn_2 3 rfl rfl)
theorem dX1_rankedOn_51 : decode cX1_rankedOn 51 = .ok (.iload_n 3, 1) := dk_29 (dk_at dksX1_rankedOn_2 4 rfl rfl)
theorem dX1_rankedOn_52 : decode cX1_rankedOn 52 = .ok (.invokestatic 131, 3) := dk_184 0 131 (dk_at dksX1_rankedOn_2 5 rfl rfl)
theorem dX1_rankedOn_55 : decode cX1_rankedOn 55 = .ok (.invokeinterface 137 2, 5) := by decide +kernel
theorem dX1_rankedOn_60 : decode cX1_rankedOn 60 = .ok (.pop, 1) := dk_87 (dk_at dksX1_rankedOn_2 13 rfl rfl)
theorem dX1_rankedOn_61 : decode cX1_rankedOn 61 = .ok (.iinc 3 1, 3) := dk_132 3 1 (dk_at dksX1_rankedOn_2 14 rfl rfl)
theorem dX1_rankedOn_64 : decode cX1_rankedOn 64 = .ok (.goto (-53), 3) := dk_167 255 203 (dk_at dksX1_rankedOn_2 17 rfl rfl)
theorem dX1_rankedOn_67 : decode cX1_rankedOn 67 = .ok (.aload_n 2, 1) := dk_44 (dk_at dksX1_rankedOn_2 20 rfl rfl)
theorem dX1_rankedOn_68 : decode cX1_rankedOn 68 = .ok (.new 141, 3) := dk_187 0 141 (dk_at dksX1_rankedOn_2 21 rfl rfl)
theorem dX1_rankedOn_71 : decode cX1_rankedOn 71 = .ok (.dup, 1) := dk_89 (dk_at dksX1_rankedOn_3 0 rfl rfl)
theorem dX1_rankedOn_72 : decode cX1_rankedOn 72 = .ok (.aload_n 0, 1) := dk_42 (dk_at dksX1_rankedOn_3 1 rfl rfl)
theorem dX1_rankedOn_73 : decode cX1_rankedOn 73 = .ok (.invokespecial 143, 3) := dk_183 0 143 (dk_at dksX1_rankedOn_3 2 rfl rfl)
theorem dX1_rankedOn_76 : decode cX1_rankedOn 76 = .ok (.invokeinterface 146 2, 5) := by decide +kernel
theorem dX1_rankedOn_81 : decode cX1_rankedOn 81 = .ok (.aload_n 2, 1) := dk_44 (dk_at dksX1_rankedOn_3 10 rfl rfl)
theorem dX1_rankedOn_82 : decode cX1_rankedOn 82 = .ok (.areturn, 1) := dk_176 (dk_at dksX1_rankedOn_3 11 rfl rfl)
theorem md_X1_rankedOn : xMd yX1_rankedOn cX1_rankedOn 4 (Option.some (Jvm.ClassFile.FieldType.object "java/util/List")) 1 := ⟨q1579, q123, by decide, by decide +kernel, by decide +kernel, by decide +kernel⟩
def f_X1_rankedOn_61 (a0 : Nat) (k11 : Int32 × Nat × Int32 × PH → Option (xO × PH)) (v1 : Int32) (v2 : Nat) (v3 : Int32) (p0 : PH) : Option (xO × PH) :=
  (bnd (v3 + 1) fun x18 =>
  (k11 (v1, v2, x18, p0)))
def f_X1_rankedOn_11F (a0 : Nat)  (k11 : Int32 × Nat × Int32 × PH → Option (xO × PH)) (p : Int32 × Nat × Int32 × PH) : Option (xO × PH) := match p with
  | (v1, v2, v3, p0) => (xgR p0 a0 0 5 fun x4 =>
  (xnul x4 none fun b5 =>
  (xgR p0 b5 3 1 fun x6 =>
  (xnul x6 none fun b7 =>
  (xcI (f_J3_size p0 b7 ) fun x9 p8 =>
  (if x9 ≤ v3 then
  (xnew p8 9 [.null] fun b10 p11 =>
  (xcV (f_X10_init p11 b10 (some a0)) fun p12 =>
  (xcV (f_J3_sort p12 v2 (some b10)) fun p13 =>
  (rR (some v2) p13)))) else
  (xgR p8 a0 0 5 fun x14 =>
  (xnul x14 none fun b15 =>
  (xcI (f_X4_isOf p8 b15 v3 v1) fun x17 p16 =>
  (if x17 = 0 then
  (f_X1_rankedOn_61 a0 k11 v1 v2 v3 p16) else
  (xgR p16 a0 0 5 fun x19 =>
  (xnul x19 none fun b20 =>
  (xcI (f_X4_isValid p16 b20 v3) fun x22 p21 =>
  (if x22 = 0 then
  (f_X1_rankedOn_61 a0 k11 v1 v2 v3 p21) else
  (xcR (f_J19_valueOf p21 v3) fun x24 p23 =>
  (xcI (f_J3_add p23 v2 x24) fun x26 p25 =>
  (f_X1_rankedOn_61 a0 k11 v1 v2 v3 p25)))))))))))))))))
def f_X1_rankedOn (p0 : PH) (a0 : Nat) (a1 : Int32) : Option (xO × PH) :=
  (xcl1 p0 a0 0 (xnew p0 14 [.int 0, .null, .int 0] fun b1 p2 =>
  (xcV (f_J3_init p2 b1 4) fun p3 =>
  (lp (f_X1_rankedOn_11F a0) FU (a1, b1, 0, p3)))))
theorem rc_X1_rankedOn {p0 : PH} {a0 : Nat} {a1 : Int32} : ∀ z, f_X1_rankedOn p0 a0 a1 = some z → xco p0 a0 = some 0 := fun z h => xcl1_some h
theorem f_X1_rankedOn_61_ok {G : xG} (hO : xOK G) (a0 : Nat) {k11 : Int32 × Nat × Int32 × PH → Option (xO × PH)} (hk11 : ∀ (v1 : Int32) (v2 : Nat) (v3 : Int32) (p0 : PH), X G "ForestLegs" "rankedOn" cX1_rankedOn 4 (Option.some (Jvm.ClassFile.FieldType.object "java/util/List")) 9 11 [(0, .ref a0), (1, .int v1), (2, .ref v2), (3, .int v3)] [] p0 (k11 (v1, v2, v3, p0))) (v1 : Int32) (v2 : Nat) (v3 : Int32) (p0 : PH) : X G "ForestLegs" "rankedOn" cX1_rankedOn 4 (Option.some (Jvm.ClassFile.FieldType.object "java/util/List")) 9 61 [(0, .ref a0), (1, .int v1), (2, .ref v2), (3, .int v3)] [] p0 (f_X1_rankedOn_61 a0 k11 v1 v2 v3 p0) := by
  unfold f_X1_rankedOn_61
  refine x_iincB 3 (fun x18 => [(3, .int x18), (0, .ref a0), (1, .int v1), (2, .ref v2)]) dX1_rankedOn_61 rfl rfl (by decide) (fun _ => rfl) (n := 64) rfl (fun x18 => ?_)
  refine x_goto dX1_rankedOn_64 (n := 11) (by decide) ?_
  refine x_sub [1, 2, 3, 0] [(0, .ref a0), (1, .int v1), (2, .ref v2), (3, .int x18)] rfl ?_
  exact hk11 v1 v2 x18 p0
theorem f_X1_rankedOn_11F_ok {G : xG} (hO : xOK G) (a0 : Nat)  {k11 : Int32 × Nat × Int32 × PH → Option (xO × PH)} (hk11 : ∀ (v1 : Int32) (v2 : Nat) (v3 : Int32) (p0 : PH), X G "ForestLegs" "rankedOn" cX1_rankedOn 4 (Option.some (Jvm.ClassFile.FieldType.object "java/util/List")) 9 11 [(0, .ref a0), (1, .int v1), (2, .ref v2), (3, .int v3)] [] p0 (k11 (v1, v2, v3, p0))) (v1 : Int32) (v2 : Nat) (v3 : Int32) (p0 : PH) : X G "ForestLegs" "rankedOn" cX1_rankedOn 4 (Option.some (Jvm.ClassFile.FieldType.object "java/util/List")) 9 11 [(0, .ref a0), (1, .int v1), (2, .ref v2), (3, .int v3)] [] p0 (f_X1_rankedOn_11F a0 k11 (v1, v2, v3, p0)) := by
  unfold f_X1_rankedOn_11F
  refine x_iload_n 3 dX1_rankedOn_11 rfl rfl (n := 12) rfl ?_
  refine x_aload_nr 0 dX1_rankedOn_12 rfl rfl (n := 13) rfl ?_
  refine x_getR fl_X1_56 dX1_rankedOn_13 (n := 16) rfl (fun x4 => ?_)
  refine x_sm (fun b5 e => ?_)
  subst e
  refine x_getR fl_X1_71 dX1_rankedOn_16 (n := 19) rfl (fun x6 => ?_)
  refine x_sm (fun b7 e => ?_)
  subst e
  refine x_callF_I [] [.int v3] (f_J3_size_ok hO p0 b7 ) rc_J3_size md_J3_size rfl q1479 fc_java_util_ArrayList_java_util_List_size_0_I dX1_rankedOn_19 rfl rfl (by decide) (Nat.le_of_ble_eq_true rfl) (n := 24) rfl (fun x9 p8 => ?_)
  refine x_icmp_ge dX1_rankedOn_24 (t := 67) (by decide) (n := 27) rfl (fun _ => ?_) (fun _ => ?_)
  · refine x_aload_nr 2 dX1_rankedOn_67 rfl rfl (n := 68) rfl ?_
    refine x_new cl_9 (by decide) q1585 q1586 q159 rfl dX1_rankedOn_68 (n := 71) rfl (fun b10 p11 => ?_)
    refine x_dup dX1_rankedOn_71 rfl (n := 72) rfl ?_
    refine x_aload_nr 0 dX1_rankedOn_72 rfl rfl (n := 73) rfl ?_
    refine x_callI_V [.ref a0] [.ref b10, .ref v2] (f_X10_init_ok hO p11 b10 (some a0)) md_X10_init rfl q1587 q1588 dX1_rankedOn_73 rfl rfl (by decide) (Nat.le_of_ble_eq_true rfl) (n := 76) rfl (fun p12 => ?_)
    refine x_callF_V [.ref b10] [] (f_J3_sort_ok hO p12 v2 (some b10)) rc_J3_sort md_J3_sort rfl q1596 fc_java_util_ArrayList_java_util_List_sort_1_Ljavau dX1_rankedOn_76 rfl rfl (by decide) (Nat.le_of_ble_eq_true rfl) (n := 81) rfl (fun p13 => ?_)
    refine x_aload_nr 2 dX1_rankedOn_81 rfl rfl (n := 82) rfl ?_
    exact x_areturn (x := some v2) (Or.inl ⟨_, rfl⟩) dX1_rankedOn_82
  · refine x_aload_nr 0 dX1_rankedOn_27 rfl rfl (n := 28) rfl ?_
    refine x_getR fl_X1_56 dX1_rankedOn_28 (n := 31) rfl (fun x14 => ?_)
    refine x_iload_n 3 dX1_rankedOn_31 rfl rfl (n := 32) rfl ?_
    refine x_iload_n 1 dX1_rankedOn_32 rfl rfl (n := 33) rfl ?_
    refine x_sm (fun b15 e => ?_)
    subst e
    refine x_callV_I [.int v3, .int v1] [] (f_X4_isOf_ok hO p8 b15 v3 v1) rc_X4_isOf md_X4_isOf rfl q1570 q1571 q1572 dX1_rankedOn_33 rfl rfl (by decide) (Nat.le_of_ble_eq_true rfl) (n := 36) rfl (fun x17 p16 => ?_)
    refine x_if_eq dX1_rankedOn_36 (t := 61) (by decide) (n := 39) rfl (fun _ => ?_) (fun _ => ?_)
    · exact f_X1_rankedOn_61_ok hO a0 hk11 v1 v2 v3 p16
    · refine x_aload_nr 0 dX1_rankedOn_39 rfl rfl (n := 40) rfl ?_
      refine x_getR fl_X1_56 dX1_rankedOn_40 (n := 43) rfl (fun x19 => ?_)
      refine x_iload_n 3 dX1_rankedOn_43 rfl rfl (n := 44) rfl ?_
      refine x_sm (fun b20 e => ?_)
      subst e
      refine x_callV_I [.int v3] [] (f_X4_isValid_ok hO p16 b20 v3) rc_X4_isValid md_X4_isValid rfl q1499 q1500 q1501 dX1_rankedOn_44 rfl rfl (by decide) (Nat.le_of_ble_eq_true rfl) (n := 47) rfl (fun x22 p21 => ?_)
      refine x_if_eq dX1_rankedOn_47 (t := 61) (by decide) (n := 50) rfl (fun _ => ?_) (fun _ => ?_)
      · exact f_X1_rankedOn_61_ok hO a0 hk11 v1 v2 v3 p21
      · refine x_aload_nr 2 dX1_rankedOn_50 rfl rfl (n := 51) rfl ?_
        refine x_iload_n 3 dX1_rankedOn_51 rfl rfl (n := 52) rfl ?_
        refine x_callS_R [.int v3] [.ref v2] (f_J19_valueOf_ok hO p21 v3) md_J19_valueOf q1582 q1213 dX1_rankedOn_52 rfl rfl (by decide) (Nat.le_of_ble_eq_true rfl) (n := 55) rfl (fun x24 p23 => ?_)
        refine x_callF_I [va_rf x24] [] (f_J3_add_ok hO p23 v2 x24) rc_J3_add md_J3_add rfl q1584 fc_java_util_ArrayList_java_util_List_add_1_Ljaval dX1_rankedOn_55 rfl rfl (by decide) (Nat.le_of_ble_eq_true rfl) (n := 60) rfl (fun x26 p25 => ?_)
        refine x_pop dX1_rankedOn_60 rfl (n := 61) rfl ?_
        exact f_X1_rankedOn_61_ok hO a0 hk11 v1 v2 v3 p25
theorem f_X1_rankedOn_11_lp {G : xG} (hO : xOK G) (a0 : Nat)  (n : Nat) (v1 : Int32) (v2 : Nat) (v3 : Int32) (p0 : PH) : X G "ForestLegs" "rankedOn" cX1_rankedOn 4 (Option.some (Jvm.ClassFile.FieldType.object "java/util/List")) 9 11 [(0, .ref a0), (1, .int v1), (2, .ref v2), (3, .int v3)] [] p0 (lp (f_X1_rankedOn_11F a0) n (v1, v2, v3, p0)) :=
  lp_ok (W := fun p K => X G "ForestLegs" "rankedOn" cX1_rankedOn 4 (Option.some (Jvm.ClassFile.FieldType.object "java/util/List")) 9 11 [(0, .ref a0), (1, .int p.1), (2, .ref p.2.1), (3, .int p.2.2.1)] [] p.2.2.2 K) (fun _ => x_no) (fun k hk => fun (v1, v2, v3, p0) => f_X1_rankedOn_11F_ok hO a0 (fun v1 v2 v3 p0 => hk (v1, v2, v3, p0)) v1 v2 v3 p0) n (v1, v2, v3, p0)
theorem f_X1_rankedOn_ok {G : xG} (hO : xOK G) (p0 : PH) (a0 : Nat) (a1 : Int32) : CT G 9 yX1_rankedOn cX1_rankedOn 4 (Option.some (Jvm.ClassFile.FieldType.object "java/util/List")) [.ref a0, .int a1] p0 (f_X1_rankedOn p0 a0 a1) := by
  refine CT_of hO (by decide +kernel) (by decide +kernel) (Nat.le_of_ble_eq_true rfl) ?_
  show X G "ForestLegs" "rankedOn" cX1_rankedOn 4 (Option.some (Jvm.ClassFile.FieldType.object "java/util/List")) 9 0 [(0, .ref a0), (1, .int a1)] [] p0 (f_X1_rankedOn p0 a0 a1)
  refine x_cl1 (fun e0 => ?_)
  refine x_new cl_14 (by decide) q1580 q267 q130 rfl dX1_rankedOn_0 (n := 3) rfl (fun b1 p2 => ?_)
  refine x_dup dX1_rankedOn_3 rfl (n := 4) rfl ?_
  refine x_iconst 4 dX1_rankedOn_4 rfl (n := 5) rfl ?_
  refine x_callI_V [.int 4] [.ref b1] (f_J3_init_ok hO p2 b1 4) md_J3_init rfl q1581 q269 dX1_rankedOn_5 rfl rfl (by decide) (Nat.le_of_ble_eq_true rfl) (n := 8) rfl (fun p3 => ?_)
  refine x_astore_nr [(2, .ref b1), (0, .ref a0), (1, .int a1)] dX1_rankedOn_8 rfl (by decide) rfl (n := 9) rfl ?_
  refine x_iconst 0 dX1_rankedOn_9 rfl (n := 10) rfl ?_
  refine x_istore_n [(3, .int 0), (2, .ref b1), (0, .ref a0), (1, .int a1)] dX1_rankedOn_10 rfl (by decide) rfl (n := 11) rfl ?_
  refine x_sub [2, 3, 1, 0] [(0, .ref a0), (1, .int a1), (2, .ref b1), (3, .int 0)] rfl ?_
  exact f_X1_rankedOn_11_lp hO a0 FU a1 b1 0 p3
abbrev cX9_time : ByteArray := prog_6_method_5_code
def yX9_time : MethodName := ⟨RX9, "time", "(I)I"⟩
def dkwX9_time_3 : List UInt8 := [172]
abbrev dktX9_time_3 : List UInt8 := dkwX9_time_3 ++ []
def dkwX9_time_2 : List UInt8 := [42, 180, 0, 9, 180, 0, 19, 42, 180, 0, 34, 27, 46, 185, 0, 51, 2, 0, 192, 0, 55, 180, 0, 76]
abbrev dktX9_time_2 : List UInt8 := dkwX9_time_2 ++ dktX9_time_3
def dkwX9_time_1 : List UInt8 := [180, 0, 9, 180, 0, 73, 167, 0, 42, 42, 180, 0, 34, 27, 46, 2, 160, 0, 8, 16, 254, 167, 0, 27]
abbrev dktX9_time_1 : List UInt8 := dkwX9_time_1 ++ dktX9_time_2
def dkwX9_time_0 : List UInt8 := [27, 156, 0, 13, 42, 180, 0, 9, 180, 0, 70, 167, 0, 61, 27, 42, 180, 0, 34, 190, 160, 0, 13, 42]
abbrev dktX9_time_0 : List UInt8 := dkwX9_time_0 ++ dktX9_time_1
theorem dksX9_time_0 : cX9_time.data.toList.drop 0 = dktX9_time_0 := by decide +kernel
theorem dksX9_time_1 : cX9_time.data.toList.drop 24 = dktX9_time_1 := dk_seg dksX9_time_0 24 rfl rfl
theorem dksX9_time_2 : cX9_time.data.toList.drop 48 = dktX9_time_2 := dk_seg dksX9_time_1 24 rfl rfl
theorem dksX9_time_3 : cX9_time.data.toList.drop 72 = dktX9_time_3 := dk_seg dksX9_time_2 24 rfl rfl
theorem dX9_time_0 : decode cX9_time 0 = .ok (.iload_n 1, 1) := dk_27 (dk_at dksX9_time_0 0 rfl rfl)
theorem dX9_time_1 : decode cX9_time 1 = .ok (.ifCond .ge 13, 3) := dk_156 0 13 (dk_at dksX9_time_0 1 rfl rfl)
theorem dX9_time_4 : decode cX9_time 4 = .ok (.aload_n 0, 1) := dk_42 (dk_at dksX9_time_0 4 rfl rfl)
theorem dX9_time_5 : decode cX9_time 5 = .ok (.getfield 9, 3) := dk_180 0 9 (dk_at dksX9_time_0 5 rfl rfl)
theorem dX9_time_8 : decode cX9_time 8 = .ok (.getfield 70, 3) := dk_180 0 70 (dk_at dksX9_time_0 8 rfl rfl)
theorem dX9_time_11 : decode cX9_time 11 = .ok (.goto 61, 3) := dk_167 0 61 (dk_at dksX9_time_0 11 rfl rfl)
theorem dX9_time_14 : decode cX9_time 14 = .ok (.iload_n 1, 1) := dk_27 (dk_at dksX9_time_0 14 rfl rfl)
theorem dX9_time_15 : decode cX9_time 15 = .ok (.aload_n 0, 1) := dk_42 (dk_at dksX9_time_0 15 rfl rfl)
theorem dX9_time_16 : decode cX9_time 16 = .ok (.getfield 34, 3) := dk_180 0 34 (dk_at dksX9_time_0 16 rfl rfl)
theorem dX9_time_19 : decode cX9_time 19 = .ok (.arraylength, 1) := dk_190 (dk_at dksX9_time_0 19 rfl rfl)
theorem dX9_time_20 : decode cX9_time 20 = .ok (.if_icmp .ne 13, 3) := dk_160 0 13 (dk_at dksX9_time_0 20 rfl rfl)
theorem dX9_time_23 : decode cX9_time 23 = .ok (.aload_n 0, 1) := dk_42 (dk_at dksX9_time_0 23 rfl rfl)
theorem dX9_time_24 : decode cX9_time 24 = .ok (.getfield 9, 3) := dk_180 0 9 (dk_at dksX9_time_1 0 rfl rfl)
theorem dX9_time_27 : decode cX9_time 27 = .ok (.getfield 73, 3) := dk_180 0 73 (dk_at dksX9_time_1 3 rfl rfl)
theorem dX9_time_30 : decode cX9_time 30 = .ok (.goto 42, 3) := dk_167 0 42 (dk_at dksX9_time_1 6 rfl rfl)
theorem dX9_time_33 : decode cX9_time 33 = .ok (.aload_n 0, 1) := dk_42 (dk_at dksX9_time_1 9 rfl rfl)
theorem dX9_time_34 : decode cX9_time 34 = .ok (.getfield 34, 3) := dk_180 0 34 (dk_at dksX9_time_1 10 rfl rfl)
theorem dX9_time_37 : decode cX9_time 37 = .ok (.iload_n 1, 1) := dk_27 (dk_at dksX9_time_1 13 rfl rfl)
theorem dX9_time_38 : decode cX9_time 38 = .ok (.iaload, 1) := dk_46 (dk_at dksX9_time_1 14 rfl rfl)
theorem dX9_time_39 : decode cX9_time 39 = .ok (.iconst (-1), 1) := dk_2 (dk_at dksX9_time_1 15 rfl rfl)
theorem dX9_time_40 : decode cX9_time 40 = .ok (.if_icmp .ne 8, 3) := dk_160 0 8 (dk_at dksX9_time_1 16 rfl rfl)
theorem dX9_time_43 : decode cX9_time 43 = .ok (.bipush (-2), 2) := dk_16 254 (dk_at dksX9_time_1 19 rfl rfl)
theorem dX9_time_45 : decode cX9_time 45 = .ok (.goto 27, 3) := dk_167 0 27 (dk_at dksX9_time_1 21 rfl rfl)
theorem dX9_time_48 : decode cX9_time 48 = .ok (.aload_n 0, 1) := dk_42 (dk_at dksX9_time_2 0 rfl rfl)
theorem dX9_time_49 : decode cX9_time 49 = .ok (.getfield 9, 3) := dk_180 0 9 (dk_at dksX9_time_2 1 rfl rfl)
theorem dX9_time_52 : decode cX9_time 52 = .ok (.getfield 19, 3) := dk_180 0 19 (dk_at dksX9_time_2 4 rfl rfl)
theorem dX9_time_55 : decode cX9_time 55 = .ok (.aload_n 0, 1) := dk_42 (dk_at dksX9_time_2 7 rfl rfl)
theorem dX9_time_56 : decode cX9_time 56 = .ok (.getfield 34, 3) := dk_180 0 34 (dk_at dksX9_time_2 8 rfl rfl)
theorem dX9_time_59 : decode cX9_time 59 = .ok (.iload_n 1, 1) := dk_27 (dk_at dksX9_time_2 11 rfl rfl)
theorem dX9_time_60 : decode cX9_time 60 = .ok (.iaload, 1) := dk_46 (dk_at dksX9_time_2 12 rfl rfl)
theorem dX9_time_61 : decode cX9_time 61 = .ok (.invokeinterface 51 2, 5) := by decide +kernel
theorem dX9_time_66 : decode cX9_time 66 = .ok (.checkcast 55, 3) := dk_192 0 55 (dk_at dksX9_time_2 18 rfl rfl)
theorem dX9_time_69 : decode cX9_time 69 = .ok (.getfield 76, 3) := dk_180 0 76 (dk_at dksX9_time_2 21 rfl rfl)
theorem dX9_time_72 : decode cX9_time 72 = .ok (.ireturn, 1) := dk_172 (dk_at dksX9_time_3 0 rfl rfl)
theorem md_X9_time : xMd yX9_time cX9_time 2 (Option.some Jvm.ClassFile.FieldType.int) 1 := ⟨q1753, q158, by decide, by decide +kernel, by decide +kernel, by decide +kernel⟩
def f_X9_time (p0 : PH) (a0 : Nat) (a1 : Int32) : Option (xO × PH) :=
  (xcl1 p0 a0 8 (if 0 ≤ a1 then
  (xgR p0 a0 8 2 fun x1 =>
  (xnul x1 none fun b2 =>
  (xlen p0 b2 fun x3 =>
  (if a1 = x3 then
  (xgR p0 a0 8 0 fun x18 =>
  (xnul x18 none fun b19 =>
  (xgI p0 b19 6 3 fun x20 =>
  (rI x20 p0)))) else
  (xgR p0 a0 8 2 fun x4 =>
  (xnul x4 none fun b5 =>
  (xaI p0 b5 0 a1 fun x6 =>
  (if x6 = (-1) then
  (rI (-2) p0) else
  (xgR p0 a0 8 0 fun x7 =>
  (xnul x7 none fun b8 =>
  (xgR p0 b8 6 4 fun x9 =>
  (xgR p0 a0 8 2 fun x10 =>
  (xnul x10 none fun b11 =>
  (xaI p0 b11 0 a1 fun x12 =>
  (xnul x9 none fun b13 =>
  (xcR (f_J3_get p0 b13 x12) fun x15 p14 =>
  (xcst p14 (x15) [7]
  (xnul x15 none fun b16 =>
  (xgI p14 b16 7 1 fun x17 =>
  (rI x17 p14)))))))))))))))))))) else
  (xgR p0 a0 8 0 fun x21 =>
  (xnul x21 none fun b22 =>
  (xgI p0 b22 6 2 fun x23 =>
  (rI x23 p0))))))
theorem rc_X9_time {p0 : PH} {a0 : Nat} {a1 : Int32} : ∀ z, f_X9_time p0 a0 a1 = some z → xco p0 a0 = some 8 := fun z h => xcl1_some h
theorem f_X9_time_ok {G : xG} (hO : xOK G) (p0 : PH) (a0 : Nat) (a1 : Int32) : CT G 3 yX9_time cX9_time 2 (Option.some Jvm.ClassFile.FieldType.int) [.ref a0, .int a1] p0 (f_X9_time p0 a0 a1) := by
  refine CT_of hO (by decide +kernel) (by decide +kernel) (Nat.le_of_ble_eq_true rfl) ?_
  show X G "ForestLegs$Match" "time" cX9_time 2 (Option.some Jvm.ClassFile.FieldType.int) 3 0 [(0, .ref a0), (1, .int a1)] [] p0 (f_X9_time p0 a0 a1)
  refine x_cl1 (fun e0 => ?_)
  refine x_iload_n 1 dX9_time_0 rfl rfl (n := 1) rfl ?_
  refine x_if_ge dX9_time_1 (t := 14) (by decide) (n := 4) rfl (fun _ => ?_) (fun _ => ?_)
  · refine x_iload_n 1 dX9_time_14 rfl rfl (n := 15) rfl ?_
    refine x_aload_nr 0 dX9_time_15 rfl rfl (n := 16) rfl ?_
    refine x_getR fl_X9_34 dX9_time_16 (n := 19) rfl (fun x1 => ?_)
    refine x_sm (fun b2 e => ?_)
    subst e
    refine x_alen dX9_time_19 (n := 20) rfl (fun x3 => ?_)
    refine x_icmp_ne dX9_time_20 (t := 33) (by decide) (n := 23) rfl (fun _ => ?_) (fun _ => ?_)
    · refine x_aload_nr 0 dX9_time_33 rfl rfl (n := 34) rfl ?_
      refine x_getR fl_X9_34 dX9_time_34 (n := 37) rfl (fun x4 => ?_)
      refine x_iload_n 1 dX9_time_37 rfl rfl (n := 38) rfl ?_
      refine x_sm (fun b5 e => ?_)
      subst e
      refine x_iald (t := 0) rfl dX9_time_38 (n := 39) rfl (fun x6 => ?_)
      refine x_iconst (-1) dX9_time_39 rfl (n := 40) rfl ?_
      refine x_icmp_ne dX9_time_40 (t := 48) (by decide) (n := 43) rfl (fun _ => ?_) (fun _ => ?_)
      · refine x_aload_nr 0 dX9_time_48 rfl rfl (n := 49) rfl ?_
        refine x_getR fl_X9_9 dX9_time_49 (n := 52) rfl (fun x7 => ?_)
        refine x_sm (fun b8 e => ?_)
        subst e
        refine x_getR fl_X9_19 dX9_time_52 (n := 55) rfl (fun x9 => ?_)
        refine x_aload_nr 0 dX9_time_55 rfl rfl (n := 56) rfl ?_
        refine x_getR fl_X9_34 dX9_time_56 (n := 59) rfl (fun x10 => ?_)
        refine x_iload_n 1 dX9_time_59 rfl rfl (n := 60) rfl ?_
        refine x_sm (fun b11 e => ?_)
        subst e
        refine x_iald (t := 0) rfl dX9_time_60 (n := 61) rfl (fun x12 => ?_)
        refine x_sm (fun b13 e => ?_)
        subst e
        refine x_callF_R [.int x12] [] (f_J3_get_ok hO p0 b13 x12) rc_J3_get md_J3_get rfl q1532 fc_java_util_ArrayList_java_util_List_get_1_ILjava dX9_time_61 rfl rfl (by decide) (Nat.le_of_ble_eq_true rfl) (n := 66) rfl (fun x15 p14 => ?_)
        refine x_cast (x := x15) (cs := [7]) q1533 cst_ForestLegs_Punch dX9_time_66 (n := 69) rfl ?_
        refine x_sm (fun b16 e => ?_)
        subst e
        refine x_getI fl_X9_76 dX9_time_69 (n := 72) rfl (fun x17 => ?_)
        exact x_ireturn dX9_time_72
      · refine x_bipush (-2) dX9_time_43 rfl (n := 45) rfl ?_
        refine x_goto dX9_time_45 (n := 72) (by decide) ?_
        exact x_ireturn dX9_time_72
    · refine x_aload_nr 0 dX9_time_23 rfl rfl (n := 24) rfl ?_
      refine x_getR fl_X9_9 dX9_time_24 (n := 27) rfl (fun x18 => ?_)
      refine x_sm (fun b19 e => ?_)
      subst e
      refine x_getI fl_X9_73 dX9_time_27 (n := 30) rfl (fun x20 => ?_)
      refine x_goto dX9_time_30 (n := 72) (by decide) ?_
      exact x_ireturn dX9_time_72
  · refine x_aload_nr 0 dX9_time_4 rfl rfl (n := 5) rfl ?_
    refine x_getR fl_X9_9 dX9_time_5 (n := 8) rfl (fun x21 => ?_)
    refine x_sm (fun b22 e => ?_)
    subst e
    refine x_getI fl_X9_70 dX9_time_8 (n := 11) rfl (fun x23 => ?_)
    refine x_goto dX9_time_11 (n := 72) (by decide) ?_
    exact x_ireturn dX9_time_72
abbrev cX9_leg : ByteArray := prog_6_method_7_code
def yX9_leg : MethodName := ⟨RX9, "leg", "(I)I"⟩
def dkwX9_leg_1 : List UInt8 := [167, 0, 16, 42, 27, 182, 0, 79, 42, 27, 4, 100, 182, 0, 79, 100, 172]
abbrev dktX9_leg_1 : List UInt8 := dkwX9_leg_1 ++ []
def dkwX9_leg_0 : List UInt8 := [42, 27, 182, 0, 79, 16, 254, 159, 0, 15, 42, 27, 4, 100, 182, 0, 79, 16, 254, 160, 0, 8, 16, 254]
abbrev dktX9_leg_0 : List UInt8 := dkwX9_leg_0 ++ dktX9_leg_1
theorem dksX9_leg_0 : cX9_leg.data.toList.drop 0 = dktX9_leg_0 := by decide +kernel
theorem dksX9_leg_1 : cX9_leg.data.toList.drop 24 = dktX9_leg_1 := dk_seg dksX9_leg_0 24 rfl rfl
theorem dX9_leg_0 : decode cX9_leg 0 = .ok (.aload_n 0, 1) := dk_42 (dk_at dksX9_leg_0 0 rfl rfl)
theorem dX9_leg_1 : decode cX9_leg 1 = .ok (.iload_n 1, 1) := dk_27 (dk_at dksX9_leg_0 1 rfl rfl)
theorem dX9_leg_2 : decode cX9_leg 2 = .ok (.invokevirtual 79, 3) := dk_182 0 79 (dk_at dksX9_leg_0 2 rfl rfl)
theorem dX9_leg_5 : decode cX9_leg 5 = .ok (.bipush (-2), 2) := dk_16 254 (dk_at dksX9_leg_0 5 rfl rfl)
theorem dX9_leg_7 : decode cX9_leg 7 = .ok (.if_icmp .eq 15, 3) := dk_159 0 15 (dk_at dksX9_leg_0 7 rfl rfl)
theorem dX9_leg_10 : decode cX9_leg 10 = .ok (.aload_n 0, 1) := dk_42 (dk_at dksX9_leg_0 10 rfl rfl)
theorem dX9_leg_11 : decode cX9_leg 11 = .ok (.iload_n 1, 1) := dk_27 (dk_at dksX9_leg_0 11 rfl rfl)
theorem dX9_leg_12 : decode cX9_leg 12 = .ok (.iconst 1, 1) := dk_4 (dk_at dksX9_leg_0 12 rfl rfl)
theorem dX9_leg_13 : decode cX9_leg 13 = .ok (.isub, 1) := dk_100 (dk_at dksX9_leg_0 13 rfl rfl)
theorem dX9_leg_14 : decode cX9_leg 14 = .ok (.invokevirtual 79, 3) := dk_182 0 79 (dk_at dksX9_leg_0 14 rfl rfl)
theorem dX9_leg_17 : decode cX9_leg 17 = .ok (.bipush (-2), 2) := dk_16 254 (dk_at dksX9_leg_0 17 rfl rfl)
theorem dX9_leg_19 : decode cX9_leg 19 = .ok (.if_icmp .ne 8, 3) := dk_160 0 8 (dk_at dksX9_leg_0 19 rfl rfl)
theorem dX9_leg_22 : decode cX9_leg 22 = .ok (.bipush (-2), 2) := dk_16 254 (dk_at dksX9_leg_0 22 rfl rfl)
theorem dX9_leg_24 : decode cX9_leg 24 = .ok (.goto 16, 3) := dk_167 0 16 (dk_at dksX9_leg_1 0 rfl rfl)
theorem dX9_leg_27 : decode cX9_leg 27 = .ok (.aload_n 0, 1) := dk_42 (dk_at dksX9_leg_1 3 rfl rfl)
theorem dX9_leg_28 : decode cX9_leg 28 = .ok (.iload_n 1, 1) := dk_27 (dk_at dksX9_leg_1 4 rfl rfl)
theorem dX9_leg_29 : decode cX9_leg 29 = .ok (.invokevirtual 79, 3) := dk_182 0 79 (dk_at dksX9_leg_1 5 rfl rfl)
theorem dX9_leg_32 : decode cX9_leg 32 = .ok (.aload_n 0, 1) := dk_42 (dk_at dksX9_leg_1 8 rfl rfl)
theorem dX9_leg_33 : decode cX9_leg 33 = .ok (.iload_n 1, 1) := dk_27 (dk_at dksX9_leg_1 9 rfl rfl)
theorem dX9_leg_34 : decode cX9_leg 34 = .ok (.iconst 1, 1) := dk_4 (dk_at dksX9_leg_1 10 rfl rfl)
theorem dX9_leg_35 : decode cX9_leg 35 = .ok (.isub, 1) := dk_100 (dk_at dksX9_leg_1 11 rfl rfl)
theorem dX9_leg_36 : decode cX9_leg 36 = .ok (.invokevirtual 79, 3) := dk_182 0 79 (dk_at dksX9_leg_1 12 rfl rfl)
theorem dX9_leg_39 : decode cX9_leg 39 = .ok (.isub, 1) := dk_100 (dk_at dksX9_leg_1 15 rfl rfl)
theorem dX9_leg_40 : decode cX9_leg 40 = .ok (.ireturn, 1) := dk_172 (dk_at dksX9_leg_1 16 rfl rfl)
theorem md_X9_leg : xMd yX9_leg cX9_leg 2 (Option.some Jvm.ClassFile.FieldType.int) 1 := ⟨q1749, q158, by decide, by decide +kernel, by decide +kernel, by decide +kernel⟩
def f_X9_leg (p0 : PH) (a0 : Nat) (a1 : Int32) : Option (xO × PH) :=
  (xcl1 p0 a0 8 (xcI (f_X9_time p0 a0 a1) fun x2 p1 =>
  (if x2 = (-2) then
  (rI (-2) p1) else
  (xcI (f_X9_time p1 a0 (a1 - 1)) fun x4 p3 =>
  (if x4 = (-2) then
  (rI (-2) p3) else
  (xcI (f_X9_time p3 a0 a1) fun x6 p5 =>
  (xcI (f_X9_time p5 a0 (a1 - 1)) fun x8 p7 =>
  (rI (x6 - x8) p7))))))))
theorem rc_X9_leg {p0 : PH} {a0 : Nat} {a1 : Int32} : ∀ z, f_X9_leg p0 a0 a1 = some z → xco p0 a0 = some 8 := fun z h => xcl1_some h
theorem f_X9_leg_ok {G : xG} (hO : xOK G) (p0 : PH) (a0 : Nat) (a1 : Int32) : CT G 4 yX9_leg cX9_leg 2 (Option.some Jvm.ClassFile.FieldType.int) [.ref a0, .int a1] p0 (f_X9_leg p0 a0 a1) := by
  refine CT_of hO (by decide +kernel) (by decide +kernel) (Nat.le_of_ble_eq_true rfl) ?_
  show X G "ForestLegs$Match" "leg" cX9_leg 2 (Option.some Jvm.ClassFile.FieldType.int) 4 0 [(0, .ref a0), (1, .int a1)] [] p0 (f_X9_leg p0 a0 a1)
  refine x_cl1 (fun e0 => ?_)
  refine x_aload_nr 0 dX9_leg_0 rfl rfl (n := 1) rfl ?_
  refine x_iload_n 1 dX9_leg_1 rfl rfl (n := 2) rfl ?_
  refine x_callV_I [.int a1] [] (f_X9_time_ok hO p0 a0 a1) rc_X9_time md_X9_time rfl q1750 q1751 q1752 dX9_leg_2 rfl rfl (by decide) (Nat.le_of_ble_eq_true rfl) (n := 5) rfl (fun x2 p1 => ?_)
  refine x_bipush (-2) dX9_leg_5 rfl (n := 7) rfl ?_
  refine x_icmp_eq dX9_leg_7 (t := 22) (by decide) (n := 10) rfl (fun _ => ?_) (fun _ => ?_)
  · refine x_bipush (-2) dX9_leg_22 rfl (n := 24) rfl ?_
    refine x_goto dX9_leg_24 (n := 40) (by decide) ?_
    exact x_ireturn dX9_leg_40
  · refine x_aload_nr 0 dX9_leg_10 rfl rfl (n := 11) rfl ?_
    refine x_iload_n 1 dX9_leg_11 rfl rfl (n := 12) rfl ?_
    refine x_iconst 1 dX9_leg_12 rfl (n := 13) rfl ?_
    refine x_isub dX9_leg_13 (n := 14) rfl ?_
    refine x_callV_I [.int (a1 - 1)] [] (f_X9_time_ok hO p1 a0 (a1 - 1)) rc_X9_time md_X9_time rfl q1750 q1751 q1752 dX9_leg_14 rfl rfl (by decide) (Nat.le_of_ble_eq_true rfl) (n := 17) rfl (fun x4 p3 => ?_)
    refine x_bipush (-2) dX9_leg_17 rfl (n := 19) rfl ?_
    refine x_icmp_ne dX9_leg_19 (t := 27) (by decide) (n := 22) rfl (fun _ => ?_) (fun _ => ?_)
    · refine x_aload_nr 0 dX9_leg_27 rfl rfl (n := 28) rfl ?_
      refine x_iload_n 1 dX9_leg_28 rfl rfl (n := 29) rfl ?_
      refine x_callV_I [.int a1] [] (f_X9_time_ok hO p3 a0 a1) rc_X9_time md_X9_time rfl q1750 q1751 q1752 dX9_leg_29 rfl rfl (by decide) (Nat.le_of_ble_eq_true rfl) (n := 32) rfl (fun x6 p5 => ?_)
      refine x_aload_nr 0 dX9_leg_32 rfl rfl (n := 33) rfl ?_
      refine x_iload_n 1 dX9_leg_33 rfl rfl (n := 34) rfl ?_
      refine x_iconst 1 dX9_leg_34 rfl (n := 35) rfl ?_
      refine x_isub dX9_leg_35 (n := 36) rfl ?_
      refine x_callV_I [.int (a1 - 1)] [.int x6] (f_X9_time_ok hO p5 a0 (a1 - 1)) rc_X9_time md_X9_time rfl q1750 q1751 q1752 dX9_leg_36 rfl rfl (by decide) (Nat.le_of_ble_eq_true rfl) (n := 39) rfl (fun x8 p7 => ?_)
      refine x_isub dX9_leg_39 (n := 40) rfl ?_
      exact x_ireturn dX9_leg_40
    · refine x_bipush (-2) dX9_leg_22 rfl (n := 24) rfl ?_
      refine x_goto dX9_leg_24 (n := 40) (by decide) ?_
      exact x_ireturn dX9_leg_40
abbrev cX9_split : ByteArray := prog_6_method_6_code
def yX9_split : MethodName := ⟨RX9, "split", "(I)I"⟩
def dkwX9_split_1 : List UInt8 := [180, 0, 70, 100, 172]
abbrev dktX9_split_1 : List UInt8 := dkwX9_split_1 ++ []
def dkwX9_split_0 : List UInt8 := [42, 27, 182, 0, 79, 16, 254, 160, 0, 8, 16, 254, 167, 0, 16, 42, 27, 182, 0, 79, 42, 180, 0, 9]
abbrev dktX9_split_0 : List UInt8 := dkwX9_split_0 ++ dktX9_split_1
theorem dksX9_split_0 : cX9_split.data.toList.drop 0 = dktX9_split_0 := by decide +kernel
theorem dksX9_split_1 : cX9_split.data.toList.drop 24 = dktX9_split_1 := dk_seg dksX9_split_0 24 rfl rfl
theorem dX9_split_0 : decode cX9_split 0 = .ok (.aload_n 0, 1) := dk_42 (dk_at dksX9_split_0 0 rfl rfl)
theorem dX9_split_1 : decode cX9_split 1 = .ok (.iload_n 1, 1) := dk_27 (dk_at dksX9_split_0 1 rfl rfl)
theorem dX9_split_2 : decode cX9_split 2 = .ok (.invokevirtual 79, 3) := dk_182 0 79 (dk_at dksX9_split_0 2 rfl rfl)
theorem dX9_split_5 : decode cX9_split 5 = .ok (.bipush (-2), 2) := dk_16 254 (dk_at dksX9_split_0 5 rfl rfl)
theorem dX9_split_7 : decode cX9_split 7 = .ok (.if_icmp .ne 8, 3) := dk_160 0 8 (dk_at dksX9_split_0 7 rfl rfl)
theorem dX9_split_10 : decode cX9_split 10 = .ok (.bipush (-2), 2) := dk_16 254 (dk_at dksX9_split_0 10 rfl rfl)
theorem dX9_split_12 : decode cX9_split 12 = .ok (.goto 16, 3) := dk_167 0 16 (dk_at dksX9_split_0 12 rfl rfl)
theorem dX9_split_15 : decode cX9_split 15 = .ok (.aload_n 0, 1) := dk_42 (dk_at dksX9_split_0 15 rfl rfl)
theorem dX9_split_16 : decode cX9_split 16 = .ok (.iload_n 1, 1) := dk_27 (dk_at dksX9_split_0 16 rfl rfl)
theorem dX9_split_17 : decode cX9_split 17 = .ok (.invokevirtual 79, 3) := dk_182 0 79 (dk_at dksX9_split_0 17 rfl rfl)
theorem dX9_split_20 : decode cX9_split 20 = .ok (.aload_n 0, 1) := dk_42 (dk_at dksX9_split_0 20 rfl rfl)
theorem dX9_split_21 : decode cX9_split 21 = .ok (.getfield 9, 3) := dk_180 0 9 (dk_at dksX9_split_0 21 rfl rfl)
theorem dX9_split_24 : decode cX9_split 24 = .ok (.getfield 70, 3) := dk_180 0 70 (dk_at dksX9_split_1 0 rfl rfl)
theorem dX9_split_27 : decode cX9_split 27 = .ok (.isub, 1) := dk_100 (dk_at dksX9_split_1 3 rfl rfl)
theorem dX9_split_28 : decode cX9_split 28 = .ok (.ireturn, 1) := dk_172 (dk_at dksX9_split_1 4 rfl rfl)
theorem md_X9_split : xMd yX9_split cX9_split 2 (Option.some Jvm.ClassFile.FieldType.int) 1 := ⟨q1757, q158, by decide, by decide +kernel, by decide +kernel, by decide +kernel⟩
def f_X9_split (p0 : PH) (a0 : Nat) (a1 : Int32) : Option (xO × PH) :=
  (xcl1 p0 a0 8 (xcI (f_X9_time p0 a0 a1) fun x2 p1 =>
  (if x2 = (-2) then
  (rI (-2) p1) else
  (xcI (f_X9_time p1 a0 a1) fun x4 p3 =>
  (xgR p3 a0 8 0 fun x5 =>
  (xnul x5 none fun b6 =>
  (xgI p3 b6 6 2 fun x7 =>
  (rI (x4 - x7) p3))))))))
theorem rc_X9_split {p0 : PH} {a0 : Nat} {a1 : Int32} : ∀ z, f_X9_split p0 a0 a1 = some z → xco p0 a0 = some 8 := fun z h => xcl1_some h
theorem f_X9_split_ok {G : xG} (hO : xOK G) (p0 : PH) (a0 : Nat) (a1 : Int32) : CT G 4 yX9_split cX9_split 2 (Option.some Jvm.ClassFile.FieldType.int) [.ref a0, .int a1] p0 (f_X9_split p0 a0 a1) := by
  refine CT_of hO (by decide +kernel) (by decide +kernel) (Nat.le_of_ble_eq_true rfl) ?_
  show X G "ForestLegs$Match" "split" cX9_split 2 (Option.some Jvm.ClassFile.FieldType.int) 4 0 [(0, .ref a0), (1, .int a1)] [] p0 (f_X9_split p0 a0 a1)
  refine x_cl1 (fun e0 => ?_)
  refine x_aload_nr 0 dX9_split_0 rfl rfl (n := 1) rfl ?_
  refine x_iload_n 1 dX9_split_1 rfl rfl (n := 2) rfl ?_
  refine x_callV_I [.int a1] [] (f_X9_time_ok hO p0 a0 a1) rc_X9_time md_X9_time rfl q1750 q1751 q1752 dX9_split_2 rfl rfl (by decide) (Nat.le_of_ble_eq_true rfl) (n := 5) rfl (fun x2 p1 => ?_)
  refine x_bipush (-2) dX9_split_5 rfl (n := 7) rfl ?_
  refine x_icmp_ne dX9_split_7 (t := 15) (by decide) (n := 10) rfl (fun _ => ?_) (fun _ => ?_)
  · refine x_aload_nr 0 dX9_split_15 rfl rfl (n := 16) rfl ?_
    refine x_iload_n 1 dX9_split_16 rfl rfl (n := 17) rfl ?_
    refine x_callV_I [.int a1] [] (f_X9_time_ok hO p1 a0 a1) rc_X9_time md_X9_time rfl q1750 q1751 q1752 dX9_split_17 rfl rfl (by decide) (Nat.le_of_ble_eq_true rfl) (n := 20) rfl (fun x4 p3 => ?_)
    refine x_aload_nr 0 dX9_split_20 rfl rfl (n := 21) rfl ?_
    refine x_getR fl_X9_9 dX9_split_21 (n := 24) rfl (fun x5 => ?_)
    refine x_sm (fun b6 e => ?_)
    subst e
    refine x_getI fl_X9_70 dX9_split_24 (n := 27) rfl (fun x7 => ?_)
    refine x_isub dX9_split_27 (n := 28) rfl ?_
    exact x_ireturn dX9_split_28
  · refine x_bipush (-2) dX9_split_10 rfl (n := 12) rfl ?_
    refine x_goto dX9_split_12 (n := 28) (by decide) ?_
    exact x_ireturn dX9_split_28
abbrev cX4_of : ByteArray := prog_7_method_7_code
def yX4_of : MethodName := ⟨RX4, "of", "(IIZ)I"⟩
def dkwX4_of_1 : List UInt8 := [182, 0, 101, 172]
abbrev dktX4_of_1 : List UInt8 := dkwX4_of_1 ++ []
def dkwX4_of_0 : List UInt8 := [29, 153, 0, 15, 42, 27, 182, 0, 78, 28, 182, 0, 97, 167, 0, 12, 42, 27, 182, 0, 78, 28]
abbrev dktX4_of_0 : List UInt8 := dkwX4_of_0 ++ dktX4_of_1
theorem dksX4_of_0 : cX4_of.data.toList.drop 0 = dktX4_of_0 := by decide +kernel
theorem dksX4_of_1 : cX4_of.data.toList.drop 22 = dktX4_of_1 := dk_seg dksX4_of_0 22 rfl rfl
theorem dX4_of_0 : decode cX4_of 0 = .ok (.iload_n 3, 1) := dk_29 (dk_at dksX4_of_0 0 rfl rfl)
theorem dX4_of_1 : decode cX4_of 1 = .ok (.ifCond .eq 15, 3) := dk_153 0 15 (dk_at dksX4_of_0 1 rfl rfl)
theorem dX4_of_4 : decode cX4_of 4 = .ok (.aload_n 0, 1) := dk_42 (dk_at dksX4_of_0 4 rfl rfl)
theorem dX4_of_5 : decode cX4_of 5 = .ok (.iload_n 1, 1) := dk_27 (dk_at dksX4_of_0 5 rfl rfl)
theorem dX4_of_6 : decode cX4_of 6 = .ok (.invokevirtual 78, 3) := dk_182 0 78 (dk_at dksX4_of_0 6 rfl rfl)
theorem dX4_of_9 : decode cX4_of 9 = .ok (.iload_n 2, 1) := dk_28 (dk_at dksX4_of_0 9 rfl rfl)
theorem dX4_of_10 : decode cX4_of 10 = .ok (.invokevirtual 97, 3) := dk_182 0 97 (dk_at dksX4_of_0 10 rfl rfl)
theorem dX4_of_13 : decode cX4_of 13 = .ok (.goto 12, 3) := dk_167 0 12 (dk_at dksX4_of_0 13 rfl rfl)
theorem dX4_of_16 : decode cX4_of 16 = .ok (.aload_n 0, 1) := dk_42 (dk_at dksX4_of_0 16 rfl rfl)
theorem dX4_of_17 : decode cX4_of 17 = .ok (.iload_n 1, 1) := dk_27 (dk_at dksX4_of_0 17 rfl rfl)
theorem dX4_of_18 : decode cX4_of 18 = .ok (.invokevirtual 78, 3) := dk_182 0 78 (dk_at dksX4_of_0 18 rfl rfl)
theorem dX4_of_21 : decode cX4_of 21 = .ok (.iload_n 2, 1) := dk_28 (dk_at dksX4_of_0 21 rfl rfl)
theorem dX4_of_22 : decode cX4_of 22 = .ok (.invokevirtual 101, 3) := dk_182 0 101 (dk_at dksX4_of_1 0 rfl rfl)
theorem dX4_of_25 : decode cX4_of 25 = .ok (.ireturn, 1) := dk_172 (dk_at dksX4_of_1 3 rfl rfl)
theorem md_X4_of : xMd yX4_of cX4_of 4 (Option.some Jvm.ClassFile.FieldType.int) 3 := ⟨q1745, q128, by decide, by decide +kernel, by decide +kernel, by decide +kernel⟩
def f_X4_of (p0 : PH) (a0 : Nat) (a1 : Int32) (a2 : Int32) (a3 : Int32) : Option (xO × PH) :=
  (xcl1 p0 a0 3 (if a3 = 0 then
  (xcR (f_X4_match p0 a0 a1) fun x2 p1 =>
  (xnul x2 none fun b3 =>
  (xcI (f_X9_split p1 b3 a2) fun x5 p4 =>
  (rI x5 p4)))) else
  (xcR (f_X4_match p0 a0 a1) fun x7 p6 =>
  (xnul x7 none fun b8 =>
  (xcI (f_X9_leg p6 b8 a2) fun x10 p9 =>
  (rI x10 p9))))))
theorem rc_X4_of {p0 : PH} {a0 : Nat} {a1 : Int32} {a2 : Int32} {a3 : Int32} : ∀ z, f_X4_of p0 a0 a1 a2 a3 = some z → xco p0 a0 = some 3 := fun z h => xcl1_some h
theorem f_X4_of_ok {G : xG} (hO : xOK G) (p0 : PH) (a0 : Nat) (a1 : Int32) (a2 : Int32) (a3 : Int32) : CT G 8 yX4_of cX4_of 4 (Option.some Jvm.ClassFile.FieldType.int) [.ref a0, .int a1, .int a2, .int a3] p0 (f_X4_of p0 a0 a1 a2 a3) := by
  refine CT_of hO (by decide +kernel) (by decide +kernel) (Nat.le_of_ble_eq_true rfl) ?_
  show X G "ForestLegs$Meet" "of" cX4_of 4 (Option.some Jvm.ClassFile.FieldType.int) 8 0 [(0, .ref a0), (1, .int a1), (2, .int a2), (3, .int a3)] [] p0 (f_X4_of p0 a0 a1 a2 a3)
  refine x_cl1 (fun e0 => ?_)
  refine x_iload_n 3 dX4_of_0 rfl rfl (n := 1) rfl ?_
  refine x_if_eq dX4_of_1 (t := 16) (by decide) (n := 4) rfl (fun _ => ?_) (fun _ => ?_)
  · refine x_aload_nr 0 dX4_of_16 rfl rfl (n := 17) rfl ?_
    refine x_iload_n 1 dX4_of_17 rfl rfl (n := 18) rfl ?_
    refine x_callV_R [.int a1] [] (f_X4_match_ok hO p0 a0 a1) rc_X4_match md_X4_match rfl q1503 q1504 q1505 dX4_of_18 rfl rfl (by decide) (Nat.le_of_ble_eq_true rfl) (n := 21) rfl (fun x2 p1 => ?_)
    refine x_iload_n 2 dX4_of_21 rfl rfl (n := 22) rfl ?_
    refine x_sm (fun b3 e => ?_)
    subst e
    refine x_callV_I [.int a2] [] (f_X9_split_ok hO p1 b3 a2) rc_X9_split md_X9_split rfl q1754 q1755 q1756 dX4_of_22 rfl rfl (by decide) (Nat.le_of_ble_eq_true rfl) (n := 25) rfl (fun x5 p4 => ?_)
    exact x_ireturn dX4_of_25
  · refine x_aload_nr 0 dX4_of_4 rfl rfl (n := 5) rfl ?_
    refine x_iload_n 1 dX4_of_5 rfl rfl (n := 6) rfl ?_
    refine x_callV_R [.int a1] [] (f_X4_match_ok hO p0 a0 a1) rc_X4_match md_X4_match rfl q1503 q1504 q1505 dX4_of_6 rfl rfl (by decide) (Nat.le_of_ble_eq_true rfl) (n := 9) rfl (fun x7 p6 => ?_)
    refine x_iload_n 2 dX4_of_9 rfl rfl (n := 10) rfl ?_
    refine x_sm (fun b8 e => ?_)
    subst e
    refine x_callV_I [.int a2] [] (f_X9_leg_ok hO p6 b8 a2) rc_X9_leg md_X9_leg rfl q1746 q1747 q1748 dX4_of_10 rfl rfl (by decide) (Nat.le_of_ble_eq_true rfl) (n := 13) rfl (fun x10 p9 => ?_)
    refine x_goto dX4_of_13 (n := 25) (by decide) ?_
    exact x_ireturn dX4_of_25
abbrev cX4_least : ByteArray := prog_7_method_6_code
def yX4_least : MethodName := ⟨RX4, "least", "(IIZ)I"⟩
def dkwX4_least_3 : List UInt8 := [162, 0, 7, 21, 5, 54, 4, 132, 5, 1, 167, 255, 183, 21, 4, 172]
abbrev dktX4_least_3 : List UInt8 := dkwX4_least_3 ++ []
def dkwX4_least_2 : List UInt8 := [21, 4, 16, 254, 159, 0, 22, 42, 21, 5, 28, 29, 182, 0, 93, 42, 21, 4, 28, 29, 182, 0, 93]
abbrev dktX4_least_2 : List UInt8 := dkwX4_least_2 ++ dktX4_least_3
def dkwX4_least_1 : List UInt8 := [27, 182, 0, 89, 153, 0, 49, 42, 21, 5, 28, 29, 182, 0, 93, 16, 254, 160, 0, 6, 167, 0, 33]
abbrev dktX4_least_1 : List UInt8 := dkwX4_least_1 ++ dktX4_least_2
def dkwX4_least_0 : List UInt8 := [16, 254, 54, 4, 3, 54, 5, 21, 5, 42, 180, 0, 20, 185, 0, 86, 1, 0, 162, 0, 65, 42, 21, 5]
abbrev dktX4_least_0 : List UInt8 := dkwX4_least_0 ++ dktX4_least_1
theorem dksX4_least_0 : cX4_least.data.toList.drop 0 = dktX4_least_0 := by decide +kernel
theorem dksX4_least_1 : cX4_least.data.toList.drop 24 = dktX4_least_1 := dk_seg dksX4_least_0 24 rfl rfl
theorem dksX4_least_2 : cX4_least.data.toList.drop 47 = dktX4_least_2 := dk_seg dksX4_least_1 23 rfl rfl
theorem dksX4_least_3 : cX4_least.data.toList.drop 70 = dktX4_least_3 := dk_seg dksX4_least_2 23 rfl rfl
theorem dX4_least_0 : decode cX4_least 0 = .ok (.bipush (-2), 2) := dk_16 254 (dk_at dksX4_least_0 0 rfl rfl)
theorem dX4_least_2 : decode cX4_least 2 = .ok (.istore 4, 2) := dk_54 4 (dk_at dksX4_least_0 2 rfl rfl)
theorem dX4_least_4 : decode cX4_least 4 = .ok (.iconst 0, 1) := dk_3 (dk_at dksX4_least_0 4 rfl rfl)
theorem dX4_least_5 : decode cX4_least 5 = .ok (.istore 5, 2) := dk_54 5 (dk_at dksX4_least_0 5 rfl rfl)
theorem dX4_least_7 : decode cX4_least 7 = .ok (.iload 5, 2) := dk_21 5 (dk_at dksX4_least_0 7 rfl rfl)
theorem dX4_least_9 : decode cX4_least 9 = .ok (.aload_n 0, 1) := dk_42 (dk_at dksX4_least_0 9 rfl rfl)
theorem dX4_least_10 : decode cX4_least 10 = .ok (.getfield 20, 3) := dk_180 0 20 (dk_at dksX4_least_0 10 rfl rfl)
theorem dX4_least_13 : decode cX4_least 13 = .ok (.invokeinterface 86 1, 5) := by decide +kernel
theorem dX4_least_18 : decode cX4_least 18 = .ok (.if_icmp .ge 65, 3) := dk_162 0 65 (dk_at dksX4_least_0 18 rfl rfl)
theorem dX4_least_21 : decode cX4_least 21 = .ok (.aload_n 0, 1) := dk_42 (dk_at dksX4_least_0 21 rfl rfl)
theorem dX4_least_22 : decode cX4_least 22 = .ok (.iload 5, 2) := dk_21 5 (dk_at dksX4_least_0 22 rfl rfl)
theorem dX4_least_24 : decode cX4_least 24 = .ok (.iload_n 1, 1) := dk_27 (dk_at dksX4_least_1 0 rfl rfl)
theorem dX4_least_25 : decode cX4_least 25 = .ok (.invokevirtual 89, 3) := dk_182 0 89 (dk_at dksX4_least_1 1 rfl rfl)
theorem dX4_least_28 : decode cX4_least 28 = .ok (.ifCond .eq 49, 3) := dk_153 0 49 (dk_at dksX4_least_1 4 rfl rfl)
theorem dX4_least_31 : decode cX4_least 31 = .ok (.aload_n 0, 1) := dk_42 (dk_at dksX4_least_1 7 rfl rfl)
theorem dX4_least_32 : decode cX4_least 32 = .ok (.iload 5, 2) := dk_21 5 (dk_at dksX4_least_1 8 rfl rfl)
theorem dX4_least_34 : decode cX4_least 34 = .ok (.iload_n 2, 1) := dk_28 (dk_at dksX4_least_1 10 rfl rfl)
theorem dX4_least_35 : decode cX4_least 35 = .ok (.iload_n 3, 1) := dk_29 (dk_at dksX4_least_1 11 rfl rfl)
theorem dX4_least_36 : decode cX4_least 36 = .ok (.invokevirtual 93, 3) := dk_182 0 93 (dk_at dksX4_least_1 12 rfl rfl)
theorem dX4_least_39 : decode cX4_least 39 = .ok (.bipush (-2), 2) := dk_16 254 (dk_at dksX4_least_1 15 rfl rfl)
theorem dX4_least_41 : decode cX4_least 41 = .ok (.if_icmp .ne 6, 3) := dk_160 0 6 (dk_at dksX4_least_1 17 rfl rfl)
theorem dX4_least_44 : decode cX4_least 44 = .ok (.goto 33, 3) := dk_167 0 33 (dk_at dksX4_least_1 20 rfl rfl)
theorem dX4_least_47 : decode cX4_least 47 = .ok (.iload 4, 2) := dk_21 4 (dk_at dksX4_least_2 0 rfl rfl)
theorem dX4_least_49 : decode cX4_least 49 = .ok (.bipush (-2), 2) := dk_16 254 (dk_at dksX4_least_2 2 rfl rfl)
theorem dX4_least_51 : decode cX4_least 51 = .ok (.if_icmp .eq 22, 3) := dk_159 0 22 (dk_at dksX4_least_2 4 rfl rfl)
theorem dX4_least_54 : decode cX4_least 54 = .ok (.aload_n 0, 1) := dk_42 (dk_at dksX4_least_2 7 rfl rfl)
theorem dX4_least_55 : decode cX4_least 55 = .ok (.iload 5, 2) := dk_21 5 (dk_at dksX4_least_2 8 rfl rfl)
theorem dX4_least_57 : decode cX4_least 57 = .ok (.iload_n 2, 1) := dk_28 (dk_at dksX4_least_2 10 rfl rfl)
theorem dX4_least_58 : decode cX4_least 58 = .ok (.iload_n 3, 1) := dk_29 (dk_at dksX4_least_2 11 rfl rfl)
theorem dX4_least_59 : decode cX4_least 59 = .ok (.invokevirtual 93, 3) := dk_182 0 93 (dk_at dksX4_least_2 12 rfl rfl)
theorem dX4_least_62 : decode cX4_least 62 = .ok (.aload_n 0, 1) := dk_42 (dk_at dksX4_least_2 15 rfl rfl)
theorem dX4_least_63 : decode cX4_least 63 = .ok (.iload 4, 2) := dk_21 4 (dk_at dksX4_least_2 16 rfl rfl)
theorem dX4_least_65 : decode cX4_least 65 = .ok (.iload_n 2, 1) := dk_28 (dk_at dksX4_least_2 18 rfl rfl)
theorem dX4_least_66 : decode cX4_least 66 = .ok (.iload_n 3, 1) := dk_29 (dk_at dksX4_least_2 19 rfl rfl)
theorem dX4_least_67 : decode cX4_least 67 = .ok (.invokevirtual 93, 3) := dk_182 0 93 (dk_at dksX4_least_2 20 rfl rfl)
theorem dX4_least_70 : decode cX4_least 70 = .ok (.if_icmp .ge 7, 3) := dk_162 0 7 (dk_at dksX4_least_3 0 rfl rfl)
theorem dX4_least_73 : decode cX4_least 73 = .ok (.iload 5, 2) := dk_21 5 (dk_at dksX4_least_3 3 rfl rfl)
theorem dX4_least_75 : decode cX4_least 75 = .ok (.istore 4, 2) := dk_54 4 (dk_at dksX4_least_3 5 rfl rfl)
theorem dX4_least_77 : decode cX4_least 77 = .ok (.iinc 5 1, 3) := dk_132 5 1 (dk_at dksX4_least_3 7 rfl rfl)
theorem dX4_least_80 : decode cX4_least 80 = .ok (.goto (-73), 3) := dk_167 255 183 (dk_at dksX4_least_3 10 rfl rfl)
theorem dX4_least_83 : decode cX4_least 83 = .ok (.iload 4, 2) := dk_21 4 (dk_at dksX4_least_3 13 rfl rfl)
theorem dX4_least_85 : decode cX4_least 85 = .ok (.ireturn, 1) := dk_172 (dk_at dksX4_least_3 15 rfl rfl)
theorem md_X4_least : xMd yX4_least cX4_least 6 (Option.some Jvm.ClassFile.FieldType.int) 3 := ⟨q1738, q128, by decide, by decide +kernel, by decide +kernel, by decide +kernel⟩
def f_X4_least_77 (a0 : Nat) (k7 : Int32 × Int32 × Int32 × Int32 × Int32 × PH → Option (xO × PH)) (v1 : Int32) (v2 : Int32) (v3 : Int32) (v4 : Int32) (v5 : Int32) (p0 : PH) : Option (xO × PH) :=
  (bnd (v5 + 1) fun x7 =>
  (k7 (v1, v2, v3, v4, x7, p0)))
def f_X4_least_73 (a0 : Nat) (k7 : Int32 × Int32 × Int32 × Int32 × Int32 × PH → Option (xO × PH)) (v1 : Int32) (v2 : Int32) (v3 : Int32) (v5 : Int32) (p0 : PH) : Option (xO × PH) :=
  (f_X4_least_77 a0 k7 v1 v2 v3 v5 v5 p0)
def f_X4_least_7F (a0 : Nat)  (k7 : Int32 × Int32 × Int32 × Int32 × Int32 × PH → Option (xO × PH)) (p : Int32 × Int32 × Int32 × Int32 × Int32 × PH) : Option (xO × PH) := match p with
  | (v1, v2, v3, v4, v5, p0) => (xgR p0 a0 3 1 fun x1 =>
  (xnul x1 none fun b2 =>
  (xcI (f_J3_size p0 b2 ) fun x4 p3 =>
  (if x4 ≤ v5 then
  (rI v4 p3) else
  (xcI (f_X4_isOf p3 a0 v5 v1) fun x6 p5 =>
  (if x6 = 0 then
  (f_X4_least_77 a0 k7 v1 v2 v3 v4 v5 p5) else
  (xcI (f_X4_of p5 a0 v5 v2 v3) fun x9 p8 =>
  (if x9 = (-2) then
  (f_X4_least_77 a0 k7 v1 v2 v3 v4 v5 p8) else
  (if v4 = (-2) then
  (f_X4_least_73 a0 k7 v1 v2 v3 v5 p8) else
  (xcI (f_X4_of p8 a0 v5 v2 v3) fun x11 p10 =>
  (xcI (f_X4_of p10 a0 v4 v2 v3) fun x13 p12 =>
  (if x13 ≤ x11 then
  (f_X4_least_77 a0 k7 v1 v2 v3 v4 v5 p12) else
  (f_X4_least_73 a0 k7 v1 v2 v3 v5 p12)))))))))))))
def f_X4_least (p0 : PH) (a0 : Nat) (a1 : Int32) (a2 : Int32) (a3 : Int32) : Option (xO × PH) :=
  (xcl1 p0 a0 3 (lp (f_X4_least_7F a0) FU (a1, a2, a3, (-2), 0, p0)))
theorem rc_X4_least {p0 : PH} {a0 : Nat} {a1 : Int32} {a2 : Int32} {a3 : Int32} : ∀ z, f_X4_least p0 a0 a1 a2 a3 = some z → xco p0 a0 = some 3 := fun z h => xcl1_some h
theorem f_X4_least_77_ok {G : xG} (hO : xOK G) (a0 : Nat) {k7 : Int32 × Int32 × Int32 × Int32 × Int32 × PH → Option (xO × PH)} (hk7 : ∀ (v1 : Int32) (v2 : Int32) (v3 : Int32) (v4 : Int32) (v5 : Int32) (p0 : PH), X G "ForestLegs$Meet" "least" cX4_least 6 (Option.some Jvm.ClassFile.FieldType.int) 9 7 [(0, .ref a0), (1, .int v1), (2, .int v2), (3, .int v3), (4, .int v4), (5, .int v5)] [] p0 (k7 (v1, v2, v3, v4, v5, p0))) (v1 : Int32) (v2 : Int32) (v3 : Int32) (v4 : Int32) (v5 : Int32) (p0 : PH) : X G "ForestLegs$Meet" "least" cX4_least 6 (Option.some Jvm.ClassFile.FieldType.int) 9 77 [(0, .ref a0), (1, .int v1), (2, .int v2), (3, .int v3), (4, .int v4), (5, .int v5)] [] p0 (f_X4_least_77 a0 k7 v1 v2 v3 v4 v5 p0) := by
  unfold f_X4_least_77
  refine x_iincB 5 (fun x7 => [(5, .int x7), (0, .ref a0), (1, .int v1), (2, .int v2), (3, .int v3), (4, .int v4)]) dX4_least_77 rfl rfl (by decide) (fun _ => rfl) (n := 80) rfl (fun x7 => ?_)
  refine x_goto dX4_least_80 (n := 7) (by decide) ?_
  refine x_sub [1, 2, 3, 4, 5, 0] [(0, .ref a0), (1, .int v1), (2, .int v2), (3, .int v3), (4, .int v4), (5, .int x7)] rfl ?_
  exact hk7 v1 v2 v3 v4 x7 p0
theorem f_X4_least_73_ok {G : xG} (hO : xOK G) (a0 : Nat) {k7 : Int32 × Int32 × Int32 × Int32 × Int32 × PH → Option (xO × PH)} (hk7 : ∀ (v1 : Int32) (v2 : Int32) (v3 : Int32) (v4 : Int32) (v5 : Int32) (p0 : PH), X G "ForestLegs$Meet" "least" cX4_least 6 (Option.some Jvm.ClassFile.FieldType.int) 9 7 [(0, .ref a0), (1, .int v1), (2, .int v2), (3, .int v3), (4, .int v4), (5, .int v5)] [] p0 (k7 (v1, v2, v3, v4, v5, p0))) (v1 : Int32) (v2 : Int32) (v3 : Int32) (v5 : Int32) (p0 : PH) : X G "ForestLegs$Meet" "least" cX4_least 6 (Option.some Jvm.ClassFile.FieldType.int) 9 73 [(0, .ref a0), (1, .int v1), (2, .int v2), (3, .int v3), (5, .int v5)] [] p0 (f_X4_least_73 a0 k7 v1 v2 v3 v5 p0) := by
  unfold f_X4_least_73
  refine x_iload 4 dX4_least_73 rfl (n := 75) rfl ?_
  refine x_istore [(4, .int v5), (0, .ref a0), (1, .int v1), (2, .int v2), (3, .int v3), (5, .int v5)] dX4_least_75 (by decide) rfl (n := 77) rfl ?_
  refine x_sub [1, 2, 3, 4, 0, 5] [(0, .ref a0), (1, .int v1), (2, .int v2), (3, .int v3), (4, .int v5), (5, .int v5)] rfl ?_
  exact f_X4_least_77_ok hO a0 hk7 v1 v2 v3 v5 v5 p0
theorem f_X4_least_7F_ok {G : xG} (hO : xOK G) (a0 : Nat)  {k7 : Int32 × Int32 × Int32 × Int32 × Int32 × PH → Option (xO × PH)} (hk7 : ∀ (v1 : Int32) (v2 : Int32) (v3 : Int32) (v4 : Int32) (v5 : Int32) (p0 : PH), X G "ForestLegs$Meet" "least" cX4_least 6 (Option.some Jvm.ClassFile.FieldType.int) 9 7 [(0, .ref a0), (1, .int v1), (2, .int v2), (3, .int v3), (4, .int v4), (5, .int v5)] [] p0 (k7 (v1, v2, v3, v4, v5, p0))) (v1 : Int32) (v2 : Int32) (v3 : Int32) (v4 : Int32) (v5 : Int32) (p0 : PH) : X G "ForestLegs$Meet" "least" cX4_least 6 (Option.some Jvm.ClassFile.FieldType.int) 9 7 [(0, .ref a0), (1, .int v1), (2, .int v2), (3, .int v3), (4, .int v4), (5, .int v5)] [] p0 (f_X4_least_7F a0 k7 (v1, v2, v3, v4, v5, p0)) := by
  unfold f_X4_least_7F
  refine x_iload 5 dX4_least_7 rfl (n := 9) rfl ?_
  refine x_aload_nr 0 dX4_least_9 rfl rfl (n := 10) rfl ?_
  refine x_getR fl_X4_20 dX4_least_10 (n := 13) rfl (fun x1 => ?_)
  refine x_sm (fun b2 e => ?_)
  subst e
  refine x_callF_I [] [.int v5] (f_J3_size_ok hO p0 b2 ) rc_J3_size md_J3_size rfl q1740 fc_java_util_ArrayList_java_util_List_size_0_I dX4_least_13 rfl rfl (by decide) (Nat.le_of_ble_eq_true rfl) (n := 18) rfl (fun x4 p3 => ?_)
  refine x_icmp_ge dX4_least_18 (t := 83) (by decide) (n := 21) rfl (fun _ => ?_) (fun _ => ?_)
  · refine x_iload 4 dX4_least_83 rfl (n := 85) rfl ?_
    exact x_ireturn dX4_least_85
  · refine x_aload_nr 0 dX4_least_21 rfl rfl (n := 22) rfl ?_
    refine x_iload 5 dX4_least_22 rfl (n := 24) rfl ?_
    refine x_iload_n 1 dX4_least_24 rfl rfl (n := 25) rfl ?_
    refine x_callV_I [.int v5, .int v1] [] (f_X4_isOf_ok hO p3 a0 v5 v1) rc_X4_isOf md_X4_isOf rfl q1741 q1571 q1572 dX4_least_25 rfl rfl (by decide) (Nat.le_of_ble_eq_true rfl) (n := 28) rfl (fun x6 p5 => ?_)
    refine x_if_eq dX4_least_28 (t := 77) (by decide) (n := 31) rfl (fun _ => ?_) (fun _ => ?_)
    · exact f_X4_least_77_ok hO a0 hk7 v1 v2 v3 v4 v5 p5
    · refine x_aload_nr 0 dX4_least_31 rfl rfl (n := 32) rfl ?_
      refine x_iload 5 dX4_least_32 rfl (n := 34) rfl ?_
      refine x_iload_n 2 dX4_least_34 rfl rfl (n := 35) rfl ?_
      refine x_iload_n 3 dX4_least_35 rfl rfl (n := 36) rfl ?_
      refine x_callV_I [.int v5, .int v2, .int v3] [] (f_X4_of_ok hO p5 a0 v5 v2 v3) rc_X4_of md_X4_of rfl q1742 q1743 q1744 dX4_least_36 rfl rfl (by decide) (Nat.le_of_ble_eq_true rfl) (n := 39) rfl (fun x9 p8 => ?_)
      refine x_bipush (-2) dX4_least_39 rfl (n := 41) rfl ?_
      refine x_icmp_ne dX4_least_41 (t := 47) (by decide) (n := 44) rfl (fun _ => ?_) (fun _ => ?_)
      · refine x_iload 4 dX4_least_47 rfl (n := 49) rfl ?_
        refine x_bipush (-2) dX4_least_49 rfl (n := 51) rfl ?_
        refine x_icmp_eq dX4_least_51 (t := 73) (by decide) (n := 54) rfl (fun _ => ?_) (fun _ => ?_)
        · refine x_sub [0, 1, 2, 3, 5] [(0, .ref a0), (1, .int v1), (2, .int v2), (3, .int v3), (5, .int v5)] rfl ?_
          exact f_X4_least_73_ok hO a0 hk7 v1 v2 v3 v5 p8
        · refine x_aload_nr 0 dX4_least_54 rfl rfl (n := 55) rfl ?_
          refine x_iload 5 dX4_least_55 rfl (n := 57) rfl ?_
          refine x_iload_n 2 dX4_least_57 rfl rfl (n := 58) rfl ?_
          refine x_iload_n 3 dX4_least_58 rfl rfl (n := 59) rfl ?_
          refine x_callV_I [.int v5, .int v2, .int v3] [] (f_X4_of_ok hO p8 a0 v5 v2 v3) rc_X4_of md_X4_of rfl q1742 q1743 q1744 dX4_least_59 rfl rfl (by decide) (Nat.le_of_ble_eq_true rfl) (n := 62) rfl (fun x11 p10 => ?_)
          refine x_aload_nr 0 dX4_least_62 rfl rfl (n := 63) rfl ?_
          refine x_iload 4 dX4_least_63 rfl (n := 65) rfl ?_
          refine x_iload_n 2 dX4_least_65 rfl rfl (n := 66) rfl ?_
          refine x_iload_n 3 dX4_least_66 rfl rfl (n := 67) rfl ?_
          refine x_callV_I [.int v4, .int v2, .int v3] [.int x11] (f_X4_of_ok hO p10 a0 v4 v2 v3) rc_X4_of md_X4_of rfl q1742 q1743 q1744 dX4_least_67 rfl rfl (by decide) (Nat.le_of_ble_eq_true rfl) (n := 70) rfl (fun x13 p12 => ?_)
          refine x_icmp_ge dX4_least_70 (t := 77) (by decide) (n := 73) rfl (fun _ => ?_) (fun _ => ?_)
          · exact f_X4_least_77_ok hO a0 hk7 v1 v2 v3 v4 v5 p12
          · refine x_sub [0, 1, 2, 3, 5] [(0, .ref a0), (1, .int v1), (2, .int v2), (3, .int v3), (5, .int v5)] rfl ?_
            exact f_X4_least_73_ok hO a0 hk7 v1 v2 v3 v5 p12
      · refine x_goto dX4_least_44 (n := 77) (by decide) ?_
        exact f_X4_least_77_ok hO a0 hk7 v1 v2 v3 v4 v5 p8
theorem f_X4_least_7_lp {G : xG} (hO : xOK G) (a0 : Nat)  (n : Nat) (v1 : Int32) (v2 : Int32) (v3 : Int32) (v4 : Int32) (v5 : Int32) (p0 : PH) : X G "ForestLegs$Meet" "least" cX4_least 6 (Option.some Jvm.ClassFile.FieldType.int) 9 7 [(0, .ref a0), (1, .int v1), (2, .int v2), (3, .int v3), (4, .int v4), (5, .int v5)] [] p0 (lp (f_X4_least_7F a0) n (v1, v2, v3, v4, v5, p0)) :=
  lp_ok (W := fun p K => X G "ForestLegs$Meet" "least" cX4_least 6 (Option.some Jvm.ClassFile.FieldType.int) 9 7 [(0, .ref a0), (1, .int p.1), (2, .int p.2.1), (3, .int p.2.2.1), (4, .int p.2.2.2.1), (5, .int p.2.2.2.2.1)] [] p.2.2.2.2.2 K) (fun _ => x_no) (fun k hk => fun (v1, v2, v3, v4, v5, p0) => f_X4_least_7F_ok hO a0 (fun v1 v2 v3 v4 v5 p0 => hk (v1, v2, v3, v4, v5, p0)) v1 v2 v3 v4 v5 p0) n (v1, v2, v3, v4, v5, p0)
theorem f_X4_least_ok {G : xG} (hO : xOK G) (p0 : PH) (a0 : Nat) (a1 : Int32) (a2 : Int32) (a3 : Int32) : CT G 9 yX4_least cX4_least 6 (Option.some Jvm.ClassFile.FieldType.int) [.ref a0, .int a1, .int a2, .int a3] p0 (f_X4_least p0 a0 a1 a2 a3) := by
  refine CT_of hO (by decide +kernel) (by decide +kernel) (Nat.le_of_ble_eq_true rfl) ?_
  show X G "ForestLegs$Meet" "least" cX4_least 6 (Option.some Jvm.ClassFile.FieldType.int) 9 0 [(0, .ref a0), (1, .int a1), (2, .int a2), (3, .int a3)] [] p0 (f_X4_least p0 a0 a1 a2 a3)
  refine x_cl1 (fun e0 => ?_)
  refine x_bipush (-2) dX4_least_0 rfl (n := 2) rfl ?_
  refine x_istore [(4, .int (-2)), (0, .ref a0), (1, .int a1), (2, .int a2), (3, .int a3)] dX4_least_2 (by decide) rfl (n := 4) rfl ?_
  refine x_iconst 0 dX4_least_4 rfl (n := 5) rfl ?_
  refine x_istore [(5, .int 0), (4, .int (-2)), (0, .ref a0), (1, .int a1), (2, .int a2), (3, .int a3)] dX4_least_5 (by decide) rfl (n := 7) rfl ?_
  refine x_sub [2, 3, 4, 5, 1, 0] [(0, .ref a0), (1, .int a1), (2, .int a2), (3, .int a3), (4, .int (-2)), (5, .int 0)] rfl ?_
  exact f_X4_least_7_lp hO a0 FU a1 a2 a3 (-2) 0 p0
abbrev cX4_fastest : ByteArray := prog_7_method_9_code
def yX4_fastest : MethodName := ⟨RX4, "fastest", "(II)I"⟩
def dkwX4_fastest_0 : List UInt8 := [42, 27, 28, 4, 182, 0, 104, 172]
abbrev dktX4_fastest_0 : List UInt8 := dkwX4_fastest_0 ++ []
theorem dksX4_fastest_0 : cX4_fastest.data.toList.drop 0 = dktX4_fastest_0 := by decide +kernel
theorem dX4_fastest_0 : decode cX4_fastest 0 = .ok (.aload_n 0, 1) := dk_42 (dk_at dksX4_fastest_0 0 rfl rfl)
theorem dX4_fastest_1 : decode cX4_fastest 1 = .ok (.iload_n 1, 1) := dk_27 (dk_at dksX4_fastest_0 1 rfl rfl)
theorem dX4_fastest_2 : decode cX4_fastest 2 = .ok (.iload_n 2, 1) := dk_28 (dk_at dksX4_fastest_0 2 rfl rfl)
theorem dX4_fastest_3 : decode cX4_fastest 3 = .ok (.iconst 1, 1) := dk_4 (dk_at dksX4_fastest_0 3 rfl rfl)
theorem dX4_fastest_4 : decode cX4_fastest 4 = .ok (.invokevirtual 104, 3) := dk_182 0 104 (dk_at dksX4_fastest_0 4 rfl rfl)
theorem dX4_fastest_7 : decode cX4_fastest 7 = .ok (.ireturn, 1) := dk_172 (dk_at dksX4_fastest_0 7 rfl rfl)
theorem md_X4_fastest : xMd yX4_fastest cX4_fastest 3 (Option.some Jvm.ClassFile.FieldType.int) 2 := ⟨q1734, q128, by decide, by decide +kernel, by decide +kernel, by decide +kernel⟩
def f_X4_fastest (p0 : PH) (a0 : Nat) (a1 : Int32) (a2 : Int32) : Option (xO × PH) :=
  (xcl1 p0 a0 3 (xcI (f_X4_least p0 a0 a1 a2 1) fun x2 p1 =>
  (rI x2 p1)))
theorem rc_X4_fastest {p0 : PH} {a0 : Nat} {a1 : Int32} {a2 : Int32} : ∀ z, f_X4_fastest p0 a0 a1 a2 = some z → xco p0 a0 = some 3 := fun z h => xcl1_some h
theorem f_X4_fastest_ok {G : xG} (hO : xOK G) (p0 : PH) (a0 : Nat) (a1 : Int32) (a2 : Int32) : CT G 10 yX4_fastest cX4_fastest 3 (Option.some Jvm.ClassFile.FieldType.int) [.ref a0, .int a1, .int a2] p0 (f_X4_fastest p0 a0 a1 a2) := by
  refine CT_of hO (by decide +kernel) (by decide +kernel) (Nat.le_of_ble_eq_true rfl) ?_
  show X G "ForestLegs$Meet" "fastest" cX4_fastest 3 (Option.some Jvm.ClassFile.FieldType.int) 10 0 [(0, .ref a0), (1, .int a1), (2, .int a2)] [] p0 (f_X4_fastest p0 a0 a1 a2)
  refine x_cl1 (fun e0 => ?_)
  refine x_aload_nr 0 dX4_fastest_0 rfl rfl (n := 1) rfl ?_
  refine x_iload_n 1 dX4_fastest_1 rfl rfl (n := 2) rfl ?_
  refine x_iload_n 2 dX4_fastest_2 rfl rfl (n := 3) rfl ?_
  refine x_iconst 1 dX4_fastest_3 rfl (n := 4) rfl ?_
  refine x_callV_I [.int a1, .int a2, .int 1] [] (f_X4_least_ok hO p0 a0 a1 a2 1) rc_X4_least md_X4_least rfl q1735 q1737 qs38 dX4_fastest_4 rfl rfl (by decide) (Nat.le_of_ble_eq_true rfl) (n := 7) rfl (fun x2 p1 => ?_)
  exact x_ireturn dX4_fastest_7
abbrev cX4_best : ByteArray := prog_7_method_10_code
def yX4_best : MethodName := ⟨RX4, "best", "(II)I"⟩
def dkwX4_best_1 : List UInt8 := [182, 0, 78, 28, 182, 0, 97, 172]
abbrev dktX4_best_1 : List UInt8 := dkwX4_best_1 ++ []
def dkwX4_best_0 : List UInt8 := [42, 27, 28, 182, 0, 107, 16, 254, 160, 0, 8, 16, 254, 167, 0, 17, 42, 42, 27, 28, 182, 0, 107]
abbrev dktX4_best_0 : List UInt8 := dkwX4_best_0 ++ dktX4_best_1
theorem dksX4_best_0 : cX4_best.data.toList.drop 0 = dktX4_best_0 := by decide +kernel
theorem dksX4_best_1 : cX4_best.data.toList.drop 23 = dktX4_best_1 := dk_seg dksX4_best_0 23 rfl rfl
theorem dX4_best_0 : decode cX4_best 0 = .ok (.aload_n 0, 1) := dk_42 (dk_at dksX4_best_0 0 rfl rfl)
theorem dX4_best_1 : decode cX4_best 1 = .ok (.iload_n 1, 1) := dk_27 (dk_at dksX4_best_0 1 rfl rfl)
theorem dX4_best_2 : decode cX4_best 2 = .ok (.iload_n 2, 1) := dk_28 (dk_at dksX4_best_0 2 rfl rfl)
theorem dX4_best_3 : decode cX4_best 3 = .ok (.invokevirtual 107, 3) := dk_182 0 107 (dk_at dksX4_best_0 3 rfl rfl)
theorem dX4_best_6 : decode cX4_best 6 = .ok (.bipush (-2), 2) := dk_16 254 (dk_at dksX4_best_0 6 rfl rfl)
theorem dX4_best_8 : decode cX4_best 8 = .ok (.if_icmp .ne 8, 3) := dk_160 0 8 (dk_at dksX4_best_0 8 rfl rfl)
theorem dX4_best_11 : decode cX4_best 11 = .ok (.bipush (-2), 2) := dk_16 254 (dk_at dksX4_best_0 11 rfl rfl)
theorem dX4_best_13 : decode cX4_best 13 = .ok (.goto 17, 3) := dk_167 0 17 (dk_at dksX4_best_0 13 rfl rfl)
theorem dX4_best_16 : decode cX4_best 16 = .ok (.aload_n 0, 1) := dk_42 (dk_at dksX4_best_0 16 rfl rfl)
theorem dX4_best_17 : decode cX4_best 17 = .ok (.aload_n 0, 1) := dk_42 (dk_at dksX4_best_0 17 rfl rfl)
theorem dX4_best_18 : decode cX4_best 18 = .ok (.iload_n 1, 1) := dk_27 (dk_at dksX4_best_0 18 rfl rfl)
theorem dX4_best_19 : decode cX4_best 19 = .ok (.iload_n 2, 1) := dk_28 (dk_at dksX4_best_0 19 rfl rfl)
theorem dX4_best_20 : decode cX4_best 20 = .ok (.invokevirtual 107, 3) := dk_182 0 107 (dk_at dksX4_best_0 20 rfl rfl)
theorem dX4_best_23 : decode cX4_best 23 = .ok (.invokevirtual 78, 3) := dk_182 0 78 (dk_at dksX4_best_1 0 rfl rfl)
theorem dX4_best_26 : decode cX4_best 26 = .ok (.iload_n 2, 1) := dk_28 (dk_at dksX4_best_1 3 rfl rfl)
theorem dX4_best_27 : decode cX4_best 27 = .ok (.invokevirtual 97, 3) := dk_182 0 97 (dk_at dksX4_best_1 4 rfl rfl)
theorem dX4_best_30 : decode cX4_best 30 = .ok (.ireturn, 1) := dk_172 (dk_at dksX4_best_1 7 rfl rfl)
theorem md_X4_best : xMd yX4_best cX4_best 3 (Option.some Jvm.ClassFile.FieldType.int) 2 := ⟨q1730, q128, by decide, by decide +kernel, by decide +kernel, by decide +kernel⟩
def f_X4_best (p0 : PH) (a0 : Nat) (a1 : Int32) (a2 : Int32) : Option (xO × PH) :=
  (xcl1 p0 a0 3 (xcI (f_X4_fastest p0 a0 a1 a2) fun x2 p1 =>
  (if x2 = (-2) then
  (rI (-2) p1) else
  (xcI (f_X4_fastest p1 a0 a1 a2) fun x4 p3 =>
  (xcR (f_X4_match p3 a0 x4) fun x6 p5 =>
  (xnul x6 none fun b7 =>
  (xcI (f_X9_leg p5 b7 a2) fun x9 p8 =>
  (rI x9 p8))))))))
theorem rc_X4_best {p0 : PH} {a0 : Nat} {a1 : Int32} {a2 : Int32} : ∀ z, f_X4_best p0 a0 a1 a2 = some z → xco p0 a0 = some 3 := fun z h => xcl1_some h
theorem f_X4_best_ok {G : xG} (hO : xOK G) (p0 : PH) (a0 : Nat) (a1 : Int32) (a2 : Int32) : CT G 11 yX4_best cX4_best 3 (Option.some Jvm.ClassFile.FieldType.int) [.ref a0, .int a1, .int a2] p0 (f_X4_best p0 a0 a1 a2) := by
  refine CT_of hO (by decide +kernel) (by decide +kernel) (Nat.le_of_ble_eq_true rfl) ?_
  show X G "ForestLegs$Meet" "best" cX4_best 3 (Option.some Jvm.ClassFile.FieldType.int) 11 0 [(0, .ref a0), (1, .int a1), (2, .int a2)] [] p0 (f_X4_best p0 a0 a1 a2)
  refine x_cl1 (fun e0 => ?_)
  refine x_aload_nr 0 dX4_best_0 rfl rfl (n := 1) rfl ?_
  refine x_iload_n 1 dX4_best_1 rfl rfl (n := 2) rfl ?_
  refine x_iload_n 2 dX4_best_2 rfl rfl (n := 3) rfl ?_
  refine x_callV_I [.int a1, .int a2] [] (f_X4_fastest_ok hO p0 a0 a1 a2) rc_X4_fastest md_X4_fastest rfl q1731 q1732 q1733 dX4_best_3 rfl rfl (by decide) (Nat.le_of_ble_eq_true rfl) (n := 6) rfl (fun x2 p1 => ?_)
  refine x_bipush (-2) dX4_best_6 rfl (n := 8) rfl ?_
  refine x_icmp_ne dX4_best_8 (t := 16) (by decide) (n := 11) rfl (fun _ => ?_) (fun _ => ?_)
  · refine x_aload_nr 0 dX4_best_16 rfl rfl (n := 17) rfl ?_
    refine x_aload_nr 0 dX4_best_17 rfl rfl (n := 18) rfl ?_
    refine x_iload_n 1 dX4_best_18 rfl rfl (n := 19) rfl ?_
    refine x_iload_n 2 dX4_best_19 rfl rfl (n := 20) rfl ?_
    refine x_callV_I [.int a1, .int a2] [.ref a0] (f_X4_fastest_ok hO p1 a0 a1 a2) rc_X4_fastest md_X4_fastest rfl q1731 q1732 q1733 dX4_best_20 rfl rfl (by decide) (Nat.le_of_ble_eq_true rfl) (n := 23) rfl (fun x4 p3 => ?_)
    refine x_callV_R [.int x4] [] (f_X4_match_ok hO p3 a0 x4) rc_X4_match md_X4_match rfl q1503 q1504 q1505 dX4_best_23 rfl rfl (by decide) (Nat.le_of_ble_eq_true rfl) (n := 26) rfl (fun x6 p5 => ?_)
    refine x_iload_n 2 dX4_best_26 rfl rfl (n := 27) rfl ?_
    refine x_sm (fun b7 e => ?_)
    subst e
    refine x_callV_I [.int a2] [] (f_X9_leg_ok hO p5 b7 a2) rc_X9_leg md_X9_leg rfl q1746 q1747 q1748 dX4_best_27 rfl rfl (by decide) (Nat.le_of_ble_eq_true rfl) (n := 30) rfl (fun x9 p8 => ?_)
    exact x_ireturn dX4_best_30
  · refine x_bipush (-2) dX4_best_11 rfl (n := 13) rfl ?_
    refine x_goto dX4_best_13 (n := 30) (by decide) ?_
    exact x_ireturn dX4_best_30
abbrev cX4_ideal : ByteArray := prog_7_method_12_code
def yX4_ideal : MethodName := ⟨RX4, "ideal", "(I)I"⟩
def dkwX4_ideal_2 : List UInt8 := [132, 3, 1, 167, 255, 210, 28, 172]
abbrev dktX4_ideal_2 : List UInt8 := dkwX4_ideal_2 ++ []
def dkwX4_ideal_1 : List UInt8 := [42, 27, 29, 182, 0, 112, 16, 254, 160, 0, 6, 16, 254, 172, 28, 42, 27, 29, 182, 0, 112, 96, 61]
abbrev dktX4_ideal_1 : List UInt8 := dkwX4_ideal_1 ++ dktX4_ideal_2
def dkwX4_ideal_0 : List UInt8 := [3, 61, 3, 62, 29, 42, 180, 0, 14, 27, 185, 0, 68, 2, 0, 192, 0, 47, 182, 0, 111, 163, 0, 32]
abbrev dktX4_ideal_0 : List UInt8 := dkwX4_ideal_0 ++ dktX4_ideal_1
theorem dksX4_ideal_0 : cX4_ideal.data.toList.drop 0 = dktX4_ideal_0 := by decide +kernel
theorem dksX4_ideal_1 : cX4_ideal.data.toList.drop 24 = dktX4_ideal_1 := dk_seg dksX4_ideal_0 24 rfl rfl
theorem dksX4_ideal_2 : cX4_ideal.data.toList.drop 47 = dktX4_ideal_2 := dk_seg dksX4_ideal_1 23 rfl rfl
theorem dX4_ideal_0 : decode cX4_ideal 0 = .ok (.iconst 0, 1) := dk_3 (dk_at dksX4_ideal_0 0 rfl rfl)
theorem dX4_ideal_1 : decode cX4_ideal 1 = .ok (.istore_n 2, 1) := dk_61 (dk_at dksX4_ideal_0 1 rfl rfl)
theorem dX4_ideal_2 : decode cX4_ideal 2 = .ok (.iconst 0, 1) := dk_3 (dk_at dksX4_ideal_0 2 rfl rfl)
theorem dX4_ideal_3 : decode cX4_ideal 3 = .ok (.istore_n 3, 1) := dk_62 (dk_at dksX4_ideal_0 3 rfl rfl)
theorem dX4_ideal_4 : decode cX4_ideal 4 = .ok (.iload_n 3, 1) := dk_29 (dk_at dksX4_ideal_0 4 rfl rfl)
theorem dX4_ideal_5 : decode cX4_ideal 5 = .ok (.aload_n 0, 1) := dk_42 (dk_at dksX4_ideal_0 5 rfl rfl)
theorem dX4_ideal_6 : decode cX4_ideal 6 = .ok (.getfield 14, 3) := dk_180 0 14 (dk_at dksX4_ideal_0 6 rfl rfl)
theorem dX4_ideal_9 : decode cX4_ideal 9 = .ok (.iload_n 1, 1) := dk_27 (dk_at dksX4_ideal_0 9 rfl rfl)
theorem dX4_ideal_10 : decode cX4_ideal 10 = .ok (.invokeinterface 68 2, 5) := by decide +kernel
theorem dX4_ideal_15 : decode cX4_ideal 15 = .ok (.checkcast 47, 3) := dk_192 0 47 (dk_at dksX4_ideal_0 15 rfl rfl)
theorem dX4_ideal_18 : decode cX4_ideal 18 = .ok (.invokevirtual 111, 3) := dk_182 0 111 (dk_at dksX4_ideal_0 18 rfl rfl)
theorem dX4_ideal_21 : decode cX4_ideal 21 = .ok (.if_icmp .gt 32, 3) := dk_163 0 32 (dk_at dksX4_ideal_0 21 rfl rfl)
theorem dX4_ideal_24 : decode cX4_ideal 24 = .ok (.aload_n 0, 1) := dk_42 (dk_at dksX4_ideal_1 0 rfl rfl)
theorem dX4_ideal_25 : decode cX4_ideal 25 = .ok (.iload_n 1, 1) := dk_27 (dk_at dksX4_ideal_1 1 rfl rfl)
theorem dX4_ideal_26 : decode cX4_ideal 26 = .ok (.iload_n 3, 1) := dk_29 (dk_at dksX4_ideal_1 2 rfl rfl)
theorem dX4_ideal_27 : decode cX4_ideal 27 = .ok (.invokevirtual 112, 3) := dk_182 0 112 (dk_at dksX4_ideal_1 3 rfl rfl)
theorem dX4_ideal_30 : decode cX4_ideal 30 = .ok (.bipush (-2), 2) := dk_16 254 (dk_at dksX4_ideal_1 6 rfl rfl)
theorem dX4_ideal_32 : decode cX4_ideal 32 = .ok (.if_icmp .ne 6, 3) := dk_160 0 6 (dk_at dksX4_ideal_1 8 rfl rfl)
theorem dX4_ideal_35 : decode cX4_ideal 35 = .ok (.bipush (-2), 2) := dk_16 254 (dk_at dksX4_ideal_1 11 rfl rfl)
theorem dX4_ideal_37 : decode cX4_ideal 37 = .ok (.ireturn, 1) := dk_172 (dk_at dksX4_ideal_1 13 rfl rfl)
theorem dX4_ideal_38 : decode cX4_ideal 38 = .ok (.iload_n 2, 1) := dk_28 (dk_at dksX4_ideal_1 14 rfl rfl)
theorem dX4_ideal_39 : decode cX4_ideal 39 = .ok (.aload_n 0, 1) := dk_42 (dk_at dksX4_ideal_1 15 rfl rfl)
theorem dX4_ideal_40 : decode cX4_ideal 40 = .ok (.iload_n 1, 1) := dk_27 (dk_at dksX4_ideal_1 16 rfl rfl)
theorem dX4_ideal_41 : decode cX4_ideal 41 = .ok (.iload_n 3, 1) := dk_29 (dk_at dksX4_ideal_1 17 rfl rfl)
theorem dX4_ideal_42 : decode cX4_ideal 42 = .ok (.invokevirtual 112, 3) := dk_182 0 112 (dk_at dksX4_ideal_1 18 rfl rfl)
theorem dX4_ideal_45 : decode cX4_ideal 45 = .ok (.iadd, 1) := dk_96 (dk_at dksX4_ideal_1 21 rfl rfl)
theorem dX4_ideal_46 : decode cX4_ideal 46 = .ok (.istore_n 2, 1) := dk_61 (dk_at dksX4_ideal_1 22 rfl rfl)
theorem dX4_ideal_47 : decode cX4_ideal 47 = .ok (.iinc 3 1, 3) := dk_132 3 1 (dk_at dksX4_ideal_2 0 rfl rfl)
theorem dX4_ideal_50 : decode cX4_ideal 50 = .ok (.goto (-46), 3) := dk_167 255 210 (dk_at dksX4_ideal_2 3 rfl rfl)
theorem dX4_ideal_53 : decode cX4_ideal 53 = .ok (.iload_n 2, 1) := dk_28 (dk_at dksX4_ideal_2 6 rfl rfl)
theorem dX4_ideal_54 : decode cX4_ideal 54 = .ok (.ireturn, 1) := dk_172 (dk_at dksX4_ideal_2 7 rfl rfl)
theorem md_X4_ideal : xMd yX4_ideal cX4_ideal 4 (Option.some Jvm.ClassFile.FieldType.int) 1 := ⟨q1725, q128, by decide, by decide +kernel, by decide +kernel, by decide +kernel⟩
def f_X4_ideal_4F (a0 : Nat)  (k4 : Int32 × Int32 × Int32 × PH → Option (xO × PH)) (p : Int32 × Int32 × Int32 × PH) : Option (xO × PH) := match p with
  | (v1, v2, v3, p0) => (xgR p0 a0 3 0 fun x1 =>
  (xnul x1 none fun b2 =>
  (xcR (f_J3_get p0 b2 v1) fun x4 p3 =>
  (xcst p3 (x4) [5]
  (xnul x4 none fun b5 =>
  (xcI (f_X6_size p3 b5 ) fun x7 p6 =>
  (if x7 < v3 then
  (rI v2 p6) else
  (xcI (f_X4_best p6 a0 v1 v3) fun x9 p8 =>
  (if x9 = (-2) then
  (rI (-2) p8) else
  (xcI (f_X4_best p8 a0 v1 v3) fun x11 p10 =>
  (bnd (v2 + x11) fun x12 =>
  (bnd (v3 + 1) fun x13 =>
  (k4 (v1, x12, x13, p10))))))))))))))
def f_X4_ideal (p0 : PH) (a0 : Nat) (a1 : Int32) : Option (xO × PH) :=
  (xcl1 p0 a0 3 (lp (f_X4_ideal_4F a0) FU (a1, 0, 0, p0)))
theorem rc_X4_ideal {p0 : PH} {a0 : Nat} {a1 : Int32} : ∀ z, f_X4_ideal p0 a0 a1 = some z → xco p0 a0 = some 3 := fun z h => xcl1_some h
theorem f_X4_ideal_4F_ok {G : xG} (hO : xOK G) (a0 : Nat)  {k4 : Int32 × Int32 × Int32 × PH → Option (xO × PH)} (hk4 : ∀ (v1 : Int32) (v2 : Int32) (v3 : Int32) (p0 : PH), X G "ForestLegs$Meet" "ideal" cX4_ideal 4 (Option.some Jvm.ClassFile.FieldType.int) 12 4 [(0, .ref a0), (1, .int v1), (2, .int v2), (3, .int v3)] [] p0 (k4 (v1, v2, v3, p0))) (v1 : Int32) (v2 : Int32) (v3 : Int32) (p0 : PH) : X G "ForestLegs$Meet" "ideal" cX4_ideal 4 (Option.some Jvm.ClassFile.FieldType.int) 12 4 [(0, .ref a0), (1, .int v1), (2, .int v2), (3, .int v3)] [] p0 (f_X4_ideal_4F a0 k4 (v1, v2, v3, p0)) := by
  unfold f_X4_ideal_4F
  refine x_iload_n 3 dX4_ideal_4 rfl rfl (n := 5) rfl ?_
  refine x_aload_nr 0 dX4_ideal_5 rfl rfl (n := 6) rfl ?_
  refine x_getR fl_X4_14 dX4_ideal_6 (n := 9) rfl (fun x1 => ?_)
  refine x_iload_n 1 dX4_ideal_9 rfl rfl (n := 10) rfl ?_
  refine x_sm (fun b2 e => ?_)
  subst e
  refine x_callF_R [.int v1] [.int v3] (f_J3_get_ok hO p0 b2 v1) rc_J3_get md_J3_get rfl q1511 fc_java_util_ArrayList_java_util_List_get_1_ILjava dX4_ideal_10 rfl rfl (by decide) (Nat.le_of_ble_eq_true rfl) (n := 15) rfl (fun x4 p3 => ?_)
  refine x_cast (x := x4) (cs := [5]) q1513 cst_ForestLegs_Course dX4_ideal_15 (n := 18) rfl ?_
  refine x_sm (fun b5 e => ?_)
  subst e
  refine x_callV_I [] [.int v3] (f_X6_size_ok hO p3 b5 ) rc_X6_size md_X6_size rfl q1726 q1199 q1200 dX4_ideal_18 rfl rfl (by decide) (Nat.le_of_ble_eq_true rfl) (n := 21) rfl (fun x7 p6 => ?_)
  refine x_icmp_gt dX4_ideal_21 (t := 53) (by decide) (n := 24) rfl (fun _ => ?_) (fun _ => ?_)
  · refine x_iload_n 2 dX4_ideal_53 rfl rfl (n := 54) rfl ?_
    exact x_ireturn dX4_ideal_54
  · refine x_aload_nr 0 dX4_ideal_24 rfl rfl (n := 25) rfl ?_
    refine x_iload_n 1 dX4_ideal_25 rfl rfl (n := 26) rfl ?_
    refine x_iload_n 3 dX4_ideal_26 rfl rfl (n := 27) rfl ?_
    refine x_callV_I [.int v1, .int v3] [] (f_X4_best_ok hO p6 a0 v1 v3) rc_X4_best md_X4_best rfl q1727 q1728 q1729 dX4_ideal_27 rfl rfl (by decide) (Nat.le_of_ble_eq_true rfl) (n := 30) rfl (fun x9 p8 => ?_)
    refine x_bipush (-2) dX4_ideal_30 rfl (n := 32) rfl ?_
    refine x_icmp_ne dX4_ideal_32 (t := 38) (by decide) (n := 35) rfl (fun _ => ?_) (fun _ => ?_)
    · refine x_iload_n 2 dX4_ideal_38 rfl rfl (n := 39) rfl ?_
      refine x_aload_nr 0 dX4_ideal_39 rfl rfl (n := 40) rfl ?_
      refine x_iload_n 1 dX4_ideal_40 rfl rfl (n := 41) rfl ?_
      refine x_iload_n 3 dX4_ideal_41 rfl rfl (n := 42) rfl ?_
      refine x_callV_I [.int v1, .int v3] [.int v2] (f_X4_best_ok hO p8 a0 v1 v3) rc_X4_best md_X4_best rfl q1727 q1728 q1729 dX4_ideal_42 rfl rfl (by decide) (Nat.le_of_ble_eq_true rfl) (n := 45) rfl (fun x11 p10 => ?_)
      refine x_iadd dX4_ideal_45 (n := 46) rfl ?_
      refine x_nm (fun x12 => ?_)
      refine x_istore_n [(2, .int x12), (0, .ref a0), (1, .int v1), (3, .int v3)] dX4_ideal_46 rfl (by decide) rfl (n := 47) rfl ?_
      refine x_iincB 3 (fun x13 => [(3, .int x13), (2, .int x12), (0, .ref a0), (1, .int v1)]) dX4_ideal_47 rfl rfl (by decide) (fun _ => rfl) (n := 50) rfl (fun x13 => ?_)
      refine x_goto dX4_ideal_50 (n := 4) (by decide) ?_
      refine x_sub [2, 3, 1, 0] [(0, .ref a0), (1, .int v1), (2, .int x12), (3, .int x13)] rfl ?_
      exact hk4 v1 x12 x13 p10
    · refine x_bipush (-2) dX4_ideal_35 rfl (n := 37) rfl ?_
      exact x_ireturn dX4_ideal_37
theorem f_X4_ideal_4_lp {G : xG} (hO : xOK G) (a0 : Nat)  (n : Nat) (v1 : Int32) (v2 : Int32) (v3 : Int32) (p0 : PH) : X G "ForestLegs$Meet" "ideal" cX4_ideal 4 (Option.some Jvm.ClassFile.FieldType.int) 12 4 [(0, .ref a0), (1, .int v1), (2, .int v2), (3, .int v3)] [] p0 (lp (f_X4_ideal_4F a0) n (v1, v2, v3, p0)) :=
  lp_ok (W := fun p K => X G "ForestLegs$Meet" "ideal" cX4_ideal 4 (Option.some Jvm.ClassFile.FieldType.int) 12 4 [(0, .ref a0), (1, .int p.1), (2, .int p.2.1), (3, .int p.2.2.1)] [] p.2.2.2 K) (fun _ => x_no) (fun k hk => fun (v1, v2, v3, p0) => f_X4_ideal_4F_ok hO a0 (fun v1 v2 v3 p0 => hk (v1, v2, v3, p0)) v1 v2 v3 p0) n (v1, v2, v3, p0)
theorem f_X4_ideal_ok {G : xG} (hO : xOK G) (p0 : PH) (a0 : Nat) (a1 : Int32) : CT G 12 yX4_ideal cX4_ideal 4 (Option.some Jvm.ClassFile.FieldType.int) [.ref a0, .int a1] p0 (f_X4_ideal p0 a0 a1) := by
  refine CT_of hO (by decide +kernel) (by decide +kernel) (Nat.le_of_ble_eq_true rfl) ?_
  show X G "ForestLegs$Meet" "ideal" cX4_ideal 4 (Option.some Jvm.ClassFile.FieldType.int) 12 0 [(0, .ref a0), (1, .int a1)] [] p0 (f_X4_ideal p0 a0 a1)
  refine x_cl1 (fun e0 => ?_)
  refine x_iconst 0 dX4_ideal_0 rfl (n := 1) rfl ?_
  refine x_istore_n [(2, .int 0), (0, .ref a0), (1, .int a1)] dX4_ideal_1 rfl (by decide) rfl (n := 2) rfl ?_
  refine x_iconst 0 dX4_ideal_2 rfl (n := 3) rfl ?_
  refine x_istore_n [(3, .int 0), (2, .int 0), (0, .ref a0), (1, .int a1)] dX4_ideal_3 rfl (by decide) rfl (n := 4) rfl ?_
  refine x_sub [2, 3, 1, 0] [(0, .ref a0), (1, .int a1), (2, .int 0), (3, .int 0)] rfl ?_
  exact f_X4_ideal_4_lp hO a0 FU a1 0 0 p0
abbrev cX1_leastTotal : ByteArray := prog_1_method_17_code
def yX1_leastTotal : MethodName := ⟨RX1, "leastTotal", "(I)I"⟩
def dkwX1_leastTotal_2 : List UInt8 := [182, 0, 161, 172]
abbrev dktX1_leastTotal_2 : List UInt8 := dkwX1_leastTotal_2 ++ []
def dkwX1_leastTotal_1 : List UInt8 := [180, 0, 71, 44, 3, 185, 0, 93, 2, 0, 192, 0, 132, 182, 0, 158, 185, 0, 93, 2, 0, 192, 0, 103]
abbrev dktX1_leastTotal_1 : List UInt8 := dkwX1_leastTotal_1 ++ dktX1_leastTotal_2
def dkwX1_leastTotal_0 : List UInt8 := [42, 27, 182, 0, 150, 77, 44, 185, 0, 154, 1, 0, 153, 0, 8, 16, 254, 167, 0, 34, 42, 180, 0, 56]
abbrev dktX1_leastTotal_0 : List UInt8 := dkwX1_leastTotal_0 ++ dktX1_leastTotal_1
theorem dksX1_leastTotal_0 : cX1_leastTotal.data.toList.drop 0 = dktX1_leastTotal_0 := by decide +kernel
theorem dksX1_leastTotal_1 : cX1_leastTotal.data.toList.drop 24 = dktX1_leastTotal_1 := dk_seg dksX1_leastTotal_0 24 rfl rfl
theorem dksX1_leastTotal_2 : cX1_leastTotal.data.toList.drop 48 = dktX1_leastTotal_2 := dk_seg dksX1_leastTotal_1 24 rfl rfl
theorem dX1_leastTotal_0 : decode cX1_leastTotal 0 = .ok (.aload_n 0, 1) := dk_42 (dk_at dksX1_leastTotal_0 0 rfl rfl)
theorem dX1_leastTotal_1 : decode cX1_leastTotal 1 = .ok (.iload_n 1, 1) := dk_27 (dk_at dksX1_leastTotal_0 1 rfl rfl)
theorem dX1_leastTotal_2 : decode cX1_leastTotal 2 = .ok (.invokevirtual 150, 3) := dk_182 0 150 (dk_at dksX1_leastTotal_0 2 rfl rfl)
theorem dX1_leastTotal_5 : decode cX1_leastTotal 5 = .ok (.astore_n 2, 1) := dk_77 (dk_at dksX1_leastTotal_0 5 rfl rfl)
theorem dX1_leastTotal_6 : decode cX1_leastTotal 6 = .ok (.aload_n 2, 1) := dk_44 (dk_at dksX1_leastTotal_0 6 rfl rfl)
theorem dX1_leastTotal_7 : decode cX1_leastTotal 7 = .ok (.invokeinterface 154 1, 5) := by decide +kernel
theorem dX1_leastTotal_12 : decode cX1_leastTotal 12 = .ok (.ifCond .eq 8, 3) := dk_153 0 8 (dk_at dksX1_leastTotal_0 12 rfl rfl)
theorem dX1_leastTotal_15 : decode cX1_leastTotal 15 = .ok (.bipush (-2), 2) := dk_16 254 (dk_at dksX1_leastTotal_0 15 rfl rfl)
theorem dX1_leastTotal_17 : decode cX1_leastTotal 17 = .ok (.goto 34, 3) := dk_167 0 34 (dk_at dksX1_leastTotal_0 17 rfl rfl)
theorem dX1_leastTotal_20 : decode cX1_leastTotal 20 = .ok (.aload_n 0, 1) := dk_42 (dk_at dksX1_leastTotal_0 20 rfl rfl)
theorem dX1_leastTotal_21 : decode cX1_leastTotal 21 = .ok (.getfield 56, 3) := dk_180 0 56 (dk_at dksX1_leastTotal_0 21 rfl rfl)
theorem dX1_leastTotal_24 : decode cX1_leastTotal 24 = .ok (.getfield 71, 3) := dk_180 0 71 (dk_at dksX1_leastTotal_1 0 rfl rfl)
theorem dX1_leastTotal_27 : decode cX1_leastTotal 27 = .ok (.aload_n 2, 1) := dk_44 (dk_at dksX1_leastTotal_1 3 rfl rfl)
theorem dX1_leastTotal_28 : decode cX1_leastTotal 28 = .ok (.iconst 0, 1) := dk_3 (dk_at dksX1_leastTotal_1 4 rfl rfl)
theorem dX1_leastTotal_29 : decode cX1_leastTotal 29 = .ok (.invokeinterface 93 2, 5) := by decide +kernel
theorem dX1_leastTotal_34 : decode cX1_leastTotal 34 = .ok (.checkcast 132, 3) := dk_192 0 132 (dk_at dksX1_leastTotal_1 10 rfl rfl)
theorem dX1_leastTotal_37 : decode cX1_leastTotal 37 = .ok (.invokevirtual 158, 3) := dk_182 0 158 (dk_at dksX1_leastTotal_1 13 rfl rfl)
theorem dX1_leastTotal_40 : decode cX1_leastTotal 40 = .ok (.invokeinterface 93 2, 5) := by decide +kernel
theorem dX1_leastTotal_45 : decode cX1_leastTotal 45 = .ok (.checkcast 103, 3) := dk_192 0 103 (dk_at dksX1_leastTotal_1 21 rfl rfl)
theorem dX1_leastTotal_48 : decode cX1_leastTotal 48 = .ok (.invokevirtual 161, 3) := dk_182 0 161 (dk_at dksX1_leastTotal_2 0 rfl rfl)
theorem dX1_leastTotal_51 : decode cX1_leastTotal 51 = .ok (.ireturn, 1) := dk_172 (dk_at dksX1_leastTotal_2 3 rfl rfl)
theorem md_X1_leastTotal : xMd yX1_leastTotal cX1_leastTotal 3 (Option.some Jvm.ClassFile.FieldType.int) 1 := ⟨q1761, q123, by decide, by decide +kernel, by decide +kernel, by decide +kernel⟩
def f_X1_leastTotal (p0 : PH) (a0 : Nat) (a1 : Int32) : Option (xO × PH) :=
  (xcl1 p0 a0 0 (xcR (f_X1_rankedOn p0 a0 a1) fun x2 p1 =>
  (xnul x2 none fun b3 =>
  (xcI (f_J3_isEmpty p1 b3 ) fun x5 p4 =>
  (if x5 = 0 then
  (xgR p4 a0 0 5 fun x6 =>
  (xnul x6 none fun b7 =>
  (xgR p4 b7 3 1 fun x8 =>
  (xcR (f_J3_get p4 b3 0) fun x10 p9 =>
  (xcst p9 (x10) [18]
  (xnul x10 none fun b11 =>
  (xcI (f_J19_intValue p9 b11 ) fun x13 p12 =>
  (xnul x8 none fun b14 =>
  (xcR (f_J3_get p12 b14 x13) fun x16 p15 =>
  (xcst p15 (x16) [6]
  (xnul x16 none fun b17 =>
  (xcI (f_X7_total p15 b17 ) fun x19 p18 =>
  (rI x19 p18))))))))))))) else
  (rI (-2) p4))))))
theorem rc_X1_leastTotal {p0 : PH} {a0 : Nat} {a1 : Int32} : ∀ z, f_X1_leastTotal p0 a0 a1 = some z → xco p0 a0 = some 0 := fun z h => xcl1_some h
theorem f_X1_leastTotal_ok {G : xG} (hO : xOK G) (p0 : PH) (a0 : Nat) (a1 : Int32) : CT G 10 yX1_leastTotal cX1_leastTotal 3 (Option.some Jvm.ClassFile.FieldType.int) [.ref a0, .int a1] p0 (f_X1_leastTotal p0 a0 a1) := by
  refine CT_of hO (by decide +kernel) (by decide +kernel) (Nat.le_of_ble_eq_true rfl) ?_
  show X G "ForestLegs" "leastTotal" cX1_leastTotal 3 (Option.some Jvm.ClassFile.FieldType.int) 10 0 [(0, .ref a0), (1, .int a1)] [] p0 (f_X1_leastTotal p0 a0 a1)
  refine x_cl1 (fun e0 => ?_)
  refine x_aload_nr 0 dX1_leastTotal_0 rfl rfl (n := 1) rfl ?_
  refine x_iload_n 1 dX1_leastTotal_1 rfl rfl (n := 2) rfl ?_
  refine x_callV_R [.int a1] [] (f_X1_rankedOn_ok hO p0 a0 a1) rc_X1_rankedOn md_X1_rankedOn rfl q1576 q1578 qs30 dX1_leastTotal_2 rfl rfl (by decide) (Nat.le_of_ble_eq_true rfl) (n := 5) rfl (fun x2 p1 => ?_)
  refine x_astore_n [(2, va_rf x2), (0, .ref a0), (1, .int a1)] dX1_leastTotal_5 rfl (by decide) rfl (n := 6) rfl ?_
  refine x_aload_n 0 dX1_leastTotal_6 rfl rfl (n := 7) rfl ?_
  refine x_sm (fun b3 e => ?_)
  subst e
  refine x_callF_I [] [] (f_J3_isEmpty_ok hO p1 b3 ) rc_J3_isEmpty md_J3_isEmpty rfl q1763 fc_java_util_ArrayList_java_util_List_isEmpty_0_Z dX1_leastTotal_7 rfl rfl (by decide) (Nat.le_of_ble_eq_true rfl) (n := 12) rfl (fun x5 p4 => ?_)
  refine x_if_eq dX1_leastTotal_12 (t := 20) (by decide) (n := 15) rfl (fun _ => ?_) (fun _ => ?_)
  · refine x_aload_nr 1 dX1_leastTotal_20 rfl rfl (n := 21) rfl ?_
    refine x_getR fl_X1_56 dX1_leastTotal_21 (n := 24) rfl (fun x6 => ?_)
    refine x_sm (fun b7 e => ?_)
    subst e
    refine x_getR fl_X1_71 dX1_leastTotal_24 (n := 27) rfl (fun x8 => ?_)
    refine x_aload_nr 0 dX1_leastTotal_27 rfl rfl (n := 28) rfl ?_
    refine x_iconst 0 dX1_leastTotal_28 rfl (n := 29) rfl ?_
    refine x_callF_R [.int 0] [va_rf x8] (f_J3_get_ok hO p4 b3 0) rc_J3_get md_J3_get rfl q1497 fc_java_util_ArrayList_java_util_List_get_1_ILjava dX1_leastTotal_29 rfl rfl (by decide) (by simp only [List.map, xcat]; exact Nat.le_of_ble_eq_true rfl) (n := 34) rfl (fun x10 p9 => ?_)
    refine x_cast (x := x10) (cs := [18]) q1764 cst_java_lang_Integer dX1_leastTotal_34 (n := 37) rfl ?_
    refine x_sm (fun b11 e => ?_)
    subst e
    refine x_callV_I [] [va_rf x8] (f_J19_intValue_ok hO p9 b11 ) rc_J19_intValue md_J19_intValue rfl q1765 q941 q942 dX1_leastTotal_37 rfl rfl (by decide) (by simp only [List.map, xcat]; exact Nat.le_of_ble_eq_true rfl) (n := 40) rfl (fun x13 p12 => ?_)
    refine x_sm (fun b14 e => ?_)
    subst e
    refine x_callF_R [.int x13] [] (f_J3_get_ok hO p12 b14 x13) rc_J3_get md_J3_get rfl q1497 fc_java_util_ArrayList_java_util_List_get_1_ILjava dX1_leastTotal_40 rfl rfl (by decide) (Nat.le_of_ble_eq_true rfl) (n := 45) rfl (fun x16 p15 => ?_)
    refine x_cast (x := x16) (cs := [6]) q1498 cst_ForestLegs_Runner dX1_leastTotal_45 (n := 48) rfl ?_
    refine x_sm (fun b17 e => ?_)
    subst e
    refine x_callV_I [] [] (f_X7_total_ok hO p15 b17 ) rc_X7_total md_X7_total rfl q1766 q963 q964 dX1_leastTotal_48 rfl rfl (by decide) (Nat.le_of_ble_eq_true rfl) (n := 51) rfl (fun x19 p18 => ?_)
    exact x_ireturn dX1_leastTotal_51
  · refine x_bipush (-2) dX1_leastTotal_15 rfl (n := 17) rfl ?_
    refine x_goto dX1_leastTotal_17 (n := 51) (by decide) ?_
    exact x_ireturn dX1_leastTotal_51
abbrev cX1_course : ByteArray := prog_1_method_18_code
def yX1_course : MethodName := ⟨RX1, "course", "(II)I"⟩
def dkwX1_course_7 : List UInt8 := [182, 0, 40, 172]
abbrev dktX1_course_7 : List UInt8 := dkwX1_course_7 ++ []
def dkwX1_course_6 : List UInt8 := [180, 0, 56, 27, 182, 0, 164, 182, 0, 83, 172, 42, 42, 27, 182, 0, 167, 182, 0, 83, 172, 42, 4]
abbrev dktX1_course_6 : List UInt8 := dkwX1_course_6 ++ dktX1_course_7
def dkwX1_course_5 : List UInt8 := [42, 29, 182, 0, 83, 172, 42, 42, 27, 182, 0, 150, 185, 0, 77, 1, 0, 182, 0, 83, 172, 42, 42]
abbrev dktX1_course_5 : List UInt8 := dkwX1_course_5 ++ dktX1_course_6
def dkwX1_course_4 : List UInt8 := [42, 42, 180, 0, 56, 180, 0, 86, 27, 185, 0, 93, 2, 0, 192, 0, 97, 182, 0, 99, 182, 0, 83, 172]
abbrev dktX1_course_4 : List UInt8 := dkwX1_course_4 ++ dktX1_course_5
def dkwX1_course_3 : List UInt8 := [170, 0, 0, 0, 0, 0, 0, 104, 0, 0, 0, 0, 0, 0, 0, 4, 0, 0, 0, 36, 0, 0, 0, 60, 0, 0, 0, 66, 0, 0, 0, 81, 0, 0, 0, 94]
abbrev dktX1_course_3 : List UInt8 := dkwX1_course_3 ++ dktX1_course_4
def dkwX1_course_2 : List UInt8 := [182, 0, 128, 153, 0, 7, 4, 167, 0, 4, 3, 96, 62, 132, 4, 1, 167, 255, 215, 28]
abbrev dktX1_course_2 : List UInt8 := dkwX1_course_2 ++ dktX1_course_3
def dkwX1_course_1 : List UInt8 := [180, 0, 56, 180, 0, 71, 185, 0, 77, 1, 0, 162, 0, 30, 29, 42, 180, 0, 56, 21, 4, 27]
abbrev dktX1_course_1 : List UInt8 := dkwX1_course_1 ++ dktX1_course_2
def dkwX1_course_0 : List UInt8 := [42, 27, 182, 0, 89, 154, 0, 9, 42, 4, 182, 0, 40, 172, 3, 62, 3, 54, 4, 21, 4, 42]
abbrev dktX1_course_0 : List UInt8 := dkwX1_course_0 ++ dktX1_course_1
theorem dksX1_course_0 : cX1_course.data.toList.drop 0 = dktX1_course_0 := by decide +kernel
theorem dksX1_course_1 : cX1_course.data.toList.drop 22 = dktX1_course_1 := dk_seg dksX1_course_0 22 rfl rfl
theorem dksX1_course_2 : cX1_course.data.toList.drop 44 = dktX1_course_2 := dk_seg dksX1_course_1 22 rfl rfl
theorem dksX1_course_3 : cX1_course.data.toList.drop 64 = dktX1_course_3 := dk_seg dksX1_course_2 20 rfl rfl
theorem dksX1_course_4 : cX1_course.data.toList.drop 100 = dktX1_course_4 := dk_seg dksX1_course_3 36 rfl rfl
theorem dksX1_course_5 : cX1_course.data.toList.drop 124 = dktX1_course_5 := dk_seg dksX1_course_4 24 rfl rfl
theorem dksX1_course_6 : cX1_course.data.toList.drop 147 = dktX1_course_6 := dk_seg dksX1_course_5 23 rfl rfl
theorem dksX1_course_7 : cX1_course.data.toList.drop 170 = dktX1_course_7 := dk_seg dksX1_course_6 23 rfl rfl
theorem dX1_course_0 : decode cX1_course 0 = .ok (.aload_n 0, 1) := dk_42 (dk_at dksX1_course_0 0 rfl rfl)
theorem dX1_course_1 : decode cX1_course 1 = .ok (.iload_n 1, 1) := dk_27 (dk_at dksX1_course_0 1 rfl rfl)
theorem dX1_course_2 : decode cX1_course 2 = .ok (.invokevirtual 89, 3) := dk_182 0 89 (dk_at dksX1_course_0 2 rfl rfl)
theorem dX1_course_5 : decode cX1_course 5 = .ok (.ifCond .ne 9, 3) := dk_154 0 9 (dk_at dksX1_course_0 5 rfl rfl)
theorem dX1_course_8 : decode cX1_course 8 = .ok (.aload_n 0, 1) := dk_42 (dk_at dksX1_course_0 8 rfl rfl)
theorem dX1_course_9 : decode cX1_course 9 = .ok (.iconst 1, 1) := dk_4 (dk_at dksX1_course_0 9 rfl rfl)
theorem dX1_course_10 : decode cX1_course 10 = .ok (.invokevirtual 40, 3) := dk_182 0 40 (dk_at dksX1_course_0 10 rfl rfl)
theorem dX1_course_13 : decode cX1_course 13 = .ok (.ireturn, 1) := dk_172 (dk_at dksX1_course_0 13 rfl rfl)
theorem dX1_course_14 : decode cX1_course 14 = .ok (.iconst 0, 1) := dk_3 (dk_at dksX1_course_0 14 rfl rfl)
theorem dX1_course_15 : decode cX1_course 15 = .ok (.istore_n 3, 1) := dk_62 (dk_at dksX1_course_0 15 rfl rfl)
theorem dX1_course_16 : decode cX1_course 16 = .ok (.iconst 0, 1) := dk_3 (dk_at dksX1_course_0 16 rfl rfl)
theorem dX1_course_17 : decode cX1_course 17 = .ok (.istore 4, 2) := dk_54 4 (dk_at dksX1_course_0 17 rfl rfl)
theorem dX1_course_19 : decode cX1_course 19 = .ok (.iload 4, 2) := dk_21 4 (dk_at dksX1_course_0 19 rfl rfl)
theorem dX1_course_21 : decode cX1_course 21 = .ok (.aload_n 0, 1) := dk_42 (dk_at dksX1_course_0 21 rfl rfl)
theorem dX1_course_22 : decode cX1_course 22 = .ok (.getfield 56, 3) := dk_180 0 56 (dk_at dksX1_course_1 0 rfl rfl)
theorem dX1_course_25 : decode cX1_course 25 = .ok (.getfield 71, 3) := dk_180 0 71 (dk_at dksX1_course_1 3 rfl rfl)
theorem dX1_course_28 : decode cX1_course 28 = .ok (.invokeinterface 77 1, 5) := by decide +kernel
theorem dX1_course_33 : decode cX1_course 33 = .ok (.if_icmp .ge 30, 3) := dk_162 0 30 (dk_at dksX1_course_1 11 rfl rfl)
theorem dX1_course_36 : decode cX1_course 36 = .ok (.iload_n 3, 1) := dk_29 (dk_at dksX1_course_1 14 rfl rfl)
theorem dX1_course_37 : decode cX1_course 37 = .ok (.aload_n 0, 1) := dk_42 (dk_at dksX1_course_1 15 rfl rfl)
theorem dX1_course_38 : decode cX1_course 38 = .ok (.getfield 56, 3) := dk_180 0 56 (dk_at dksX1_course_1 16 rfl rfl)
theorem dX1_course_41 : decode cX1_course 41 = .ok (.iload 4, 2) := dk_21 4 (dk_at dksX1_course_1 19 rfl rfl)
theorem dX1_course_43 : decode cX1_course 43 = .ok (.iload_n 1, 1) := dk_27 (dk_at dksX1_course_1 21 rfl rfl)
theorem dX1_course_44 : decode cX1_course 44 = .ok (.invokevirtual 128, 3) := dk_182 0 128 (dk_at dksX1_course_2 0 rfl rfl)
theorem dX1_course_47 : decode cX1_course 47 = .ok (.ifCond .eq 7, 3) := dk_153 0 7 (dk_at dksX1_course_2 3 rfl rfl)
theorem dX1_course_50 : decode cX1_course 50 = .ok (.iconst 1, 1) := dk_4 (dk_at dksX1_course_2 6 rfl rfl)
theorem dX1_course_51 : decode cX1_course 51 = .ok (.goto 4, 3) := dk_167 0 4 (dk_at dksX1_course_2 7 rfl rfl)
theorem dX1_course_54 : decode cX1_course 54 = .ok (.iconst 0, 1) := dk_3 (dk_at dksX1_course_2 10 rfl rfl)
theorem dX1_course_55 : decode cX1_course 55 = .ok (.iadd, 1) := dk_96 (dk_at dksX1_course_2 11 rfl rfl)
theorem dX1_course_56 : decode cX1_course 56 = .ok (.istore_n 3, 1) := dk_62 (dk_at dksX1_course_2 12 rfl rfl)
theorem dX1_course_57 : decode cX1_course 57 = .ok (.iinc 4 1, 3) := dk_132 4 1 (dk_at dksX1_course_2 13 rfl rfl)
theorem dX1_course_60 : decode cX1_course 60 = .ok (.goto (-41), 3) := dk_167 255 215 (dk_at dksX1_course_2 16 rfl rfl)
theorem dX1_course_63 : decode cX1_course 63 = .ok (.iload_n 2, 1) := dk_28 (dk_at dksX1_course_2 19 rfl rfl)
theorem dX1_course_64 : decode cX1_course 64 = .ok (.tableswitch 104 0 4 #[36, 60, 66, 81, 94], 36) := by decide +kernel
theorem dX1_course_100 : decode cX1_course 100 = .ok (.aload_n 0, 1) := dk_42 (dk_at dksX1_course_4 0 rfl rfl)
theorem dX1_course_101 : decode cX1_course 101 = .ok (.aload_n 0, 1) := dk_42 (dk_at dksX1_course_4 1 rfl rfl)
theorem dX1_course_102 : decode cX1_course 102 = .ok (.getfield 56, 3) := dk_180 0 56 (dk_at dksX1_course_4 2 rfl rfl)
theorem dX1_course_105 : decode cX1_course 105 = .ok (.getfield 86, 3) := dk_180 0 86 (dk_at dksX1_course_4 5 rfl rfl)
theorem dX1_course_108 : decode cX1_course 108 = .ok (.iload_n 1, 1) := dk_27 (dk_at dksX1_course_4 8 rfl rfl)
theorem dX1_course_109 : decode cX1_course 109 = .ok (.invokeinterface 93 2, 5) := by decide +kernel
theorem dX1_course_114 : decode cX1_course 114 = .ok (.checkcast 97, 3) := dk_192 0 97 (dk_at dksX1_course_4 14 rfl rfl)
theorem dX1_course_117 : decode cX1_course 117 = .ok (.invokevirtual 99, 3) := dk_182 0 99 (dk_at dksX1_course_4 17 rfl rfl)
theorem dX1_course_120 : decode cX1_course 120 = .ok (.invokevirtual 83, 3) := dk_182 0 83 (dk_at dksX1_course_4 20 rfl rfl)
theorem dX1_course_123 : decode cX1_course 123 = .ok (.ireturn, 1) := dk_172 (dk_at dksX1_course_4 23 rfl rfl)
theorem dX1_course_124 : decode cX1_course 124 = .ok (.aload_n 0, 1) := dk_42 (dk_at dksX1_course_5 0 rfl rfl)
theorem dX1_course_125 : decode cX1_course 125 = .ok (.iload_n 3, 1) := dk_29 (dk_at dksX1_course_5 1 rfl rfl)
theorem dX1_course_126 : decode cX1_course 126 = .ok (.invokevirtual 83, 3) := dk_182 0 83 (dk_at dksX1_course_5 2 rfl rfl)
theorem dX1_course_129 : decode cX1_course 129 = .ok (.ireturn, 1) := dk_172 (dk_at dksX1_course_5 5 rfl rfl)
theorem dX1_course_130 : decode cX1_course 130 = .ok (.aload_n 0, 1) := dk_42 (dk_at dksX1_course_5 6 rfl rfl)
theorem dX1_course_131 : decode cX1_course 131 = .ok (.aload_n 0, 1) := dk_42 (dk_at dksX1_course_5 7 rfl rfl)
theorem dX1_course_132 : decode cX1_course 132 = .ok (.iload_n 1, 1) := dk_27 (dk_at dksX1_course_5 8 rfl rfl)
theorem dX1_course_133 : decode cX1_course 133 = .ok (.invokevirtual 150, 3) := dk_182 0 150 (dk_at dksX1_course_5 9 rfl rfl)
theorem dX1_course_136 : decode cX1_course 136 = .ok (.invokeinterface 77 1, 5) := by decide +kernel
theorem dX1_course_141 : decode cX1_course 141 = .ok (.invokevirtual 83, 3) := dk_182 0 83 (dk_at dksX1_course_5 17 rfl rfl)
theorem dX1_course_144 : decode cX1_course 144 = .ok (.ireturn, 1) := dk_172 (dk_at dksX1_course_5 20 rfl rfl)
theorem dX1_course_145 : decode cX1_course 145 = .ok (.aload_n 0, 1) := dk_42 (dk_at dksX1_course_5 21 rfl rfl)
theorem dX1_course_146 : decode cX1_course 146 = .ok (.aload_n 0, 1) := dk_42 (dk_at dksX1_course_5 22 rfl rfl)
theorem dX1_course_147 : decode cX1_course 147 = .ok (.getfield 56, 3) := dk_180 0 56 (dk_at dksX1_course_6 0 rfl rfl)
theorem dX1_course_150 : decode cX1_course 150 = .ok (.iload_n 1, 1) := dk_27 (dk_at dksX1_course_6 3 rfl rfl)
theorem dX1_course_151 : decode cX1_course 151 = .ok (.invokevirtual 164, 3) := dk_182 0 164 (dk_at dksX1_course_6 4 rfl rfl)
theorem dX1_course_154 : decode cX1_course 154 = .ok (.invokevirtual 83, 3) := dk_182 0 83 (dk_at dksX1_course_6 7 rfl rfl)
theorem dX1_course_157 : decode cX1_course 157 = .ok (.ireturn, 1) := dk_172 (dk_at dksX1_course_6 10 rfl rfl)
theorem dX1_course_158 : decode cX1_course 158 = .ok (.aload_n 0, 1) := dk_42 (dk_at dksX1_course_6 11 rfl rfl)
theorem dX1_course_159 : decode cX1_course 159 = .ok (.aload_n 0, 1) := dk_42 (dk_at dksX1_course_6 12 rfl rfl)
theorem dX1_course_160 : decode cX1_course 160 = .ok (.iload_n 1, 1) := dk_27 (dk_at dksX1_course_6 13 rfl rfl)
theorem dX1_course_161 : decode cX1_course 161 = .ok (.invokevirtual 167, 3) := dk_182 0 167 (dk_at dksX1_course_6 14 rfl rfl)
theorem dX1_course_164 : decode cX1_course 164 = .ok (.invokevirtual 83, 3) := dk_182 0 83 (dk_at dksX1_course_6 17 rfl rfl)
theorem dX1_course_167 : decode cX1_course 167 = .ok (.ireturn, 1) := dk_172 (dk_at dksX1_course_6 20 rfl rfl)
theorem dX1_course_168 : decode cX1_course 168 = .ok (.aload_n 0, 1) := dk_42 (dk_at dksX1_course_6 21 rfl rfl)
theorem dX1_course_169 : decode cX1_course 169 = .ok (.iconst 1, 1) := dk_4 (dk_at dksX1_course_6 22 rfl rfl)
theorem dX1_course_170 : decode cX1_course 170 = .ok (.invokevirtual 40, 3) := dk_182 0 40 (dk_at dksX1_course_7 0 rfl rfl)
theorem dX1_course_173 : decode cX1_course 173 = .ok (.ireturn, 1) := dk_172 (dk_at dksX1_course_7 3 rfl rfl)
theorem md_X1_course : xMd yX1_course cX1_course 5 (Option.some Jvm.ClassFile.FieldType.int) 2 := ⟨q1565, q123, by decide, by decide +kernel, by decide +kernel, by decide +kernel⟩
def f_X1_course_55 (a0 : Nat) (k19 : Int32 × Int32 × Int32 × Int32 × PH → Option (xO × PH)) (v1 : Int32) (v2 : Int32) (v4 : Int32) (w0 : Int32) (w1 : Int32) (p0 : PH) : Option (xO × PH) :=
  (bnd (w0 + w1) fun x45 =>
  (bnd (v4 + 1) fun x46 =>
  (k19 (v1, v2, x45, x46, p0))))
def f_X1_course_19F (a0 : Nat)  (k19 : Int32 × Int32 × Int32 × Int32 × PH → Option (xO × PH)) (p : Int32 × Int32 × Int32 × Int32 × PH) : Option (xO × PH) := match p with
  | (v1, v2, v3, v4, p0) => (xgR p0 a0 0 5 fun x3 =>
  (xnul x3 none fun b4 =>
  (xgR p0 b4 3 1 fun x5 =>
  (xnul x5 none fun b6 =>
  (xcI (f_J3_size p0 b6 ) fun x8 p7 =>
  (if x8 ≤ v4 then
  (xtab v2 0 [
  (xgR p7 a0 0 5 fun x11 =>
  (xnul x11 none fun b12 =>
  (xgR p7 b12 3 0 fun x13 =>
  (xnul x13 none fun b14 =>
  (xcR (f_J3_get p7 b14 v1) fun x16 p15 =>
  (xcst p15 (x16) [5]
  (xnul x16 none fun b17 =>
  (xcI (f_X6_size p15 b17 ) fun x19 p18 =>
  (xcI (f_X1_fine p18 a0 x19) fun x21 p20 =>
  (rI x21 p20)))))))))),
  (xcI (f_X1_fine p7 a0 v3) fun x23 p22 =>
  (rI x23 p22)),
  (xcR (f_X1_rankedOn p7 a0 v1) fun x25 p24 =>
  (xnul x25 none fun b26 =>
  (xcI (f_J3_size p24 b26 ) fun x28 p27 =>
  (xcI (f_X1_fine p27 a0 x28) fun x30 p29 =>
  (rI x30 p29))))),
  (xgR p7 a0 0 5 fun x31 =>
  (xnul x31 none fun b32 =>
  (xcI (f_X4_ideal p7 b32 v1) fun x34 p33 =>
  (xcI (f_X1_fine p33 a0 x34) fun x36 p35 =>
  (rI x36 p35))))),
  (xcI (f_X1_leastTotal p7 a0 v1) fun x38 p37 =>
  (xcI (f_X1_fine p37 a0 x38) fun x40 p39 =>
  (rI x40 p39)))]
  (xcI (f_X1_refused p7 a0 1) fun x10 p9 =>
  (rI x10 p9))) else
  (xgR p7 a0 0 5 fun x41 =>
  (xnul x41 none fun b42 =>
  (xcI (f_X4_isOf p7 b42 v4 v1) fun x44 p43 =>
  (if x44 = 0 then
  (f_X1_course_55 a0 k19 v1 v2 v4 v3 0 p43) else
  (f_X1_course_55 a0 k19 v1 v2 v4 v3 1 p43)))))))))))
def f_X1_course (p0 : PH) (a0 : Nat) (a1 : Int32) (a2 : Int32) : Option (xO × PH) :=
  (xcl1 p0 a0 0 (xcI (f_X1_isCourse p0 a0 a1) fun x2 p1 =>
  (if x2 = 0 then
  (xcI (f_X1_refused p1 a0 1) fun x48 p47 =>
  (rI x48 p47)) else
  (lp (f_X1_course_19F a0) FU (a1, a2, 0, 0, p1)))))
theorem rc_X1_course {p0 : PH} {a0 : Nat} {a1 : Int32} {a2 : Int32} : ∀ z, f_X1_course p0 a0 a1 a2 = some z → xco p0 a0 = some 0 := fun z h => xcl1_some h
theorem f_X1_course_55_ok {G : xG} (hO : xOK G) (a0 : Nat) {k19 : Int32 × Int32 × Int32 × Int32 × PH → Option (xO × PH)} (hk19 : ∀ (v1 : Int32) (v2 : Int32) (v3 : Int32) (v4 : Int32) (p0 : PH), X G "ForestLegs" "course" cX1_course 5 (Option.some Jvm.ClassFile.FieldType.int) 13 19 [(0, .ref a0), (1, .int v1), (2, .int v2), (3, .int v3), (4, .int v4)] [] p0 (k19 (v1, v2, v3, v4, p0))) (v1 : Int32) (v2 : Int32) (v4 : Int32) (w0 : Int32) (w1 : Int32) (p0 : PH) : X G "ForestLegs" "course" cX1_course 5 (Option.some Jvm.ClassFile.FieldType.int) 13 55 [(0, .ref a0), (1, .int v1), (2, .int v2), (4, .int v4)] [.int w1, .int w0] p0 (f_X1_course_55 a0 k19 v1 v2 v4 w0 w1 p0) := by
  unfold f_X1_course_55
  refine x_iadd dX1_course_55 (n := 56) rfl ?_
  refine x_nm (fun x45 => ?_)
  refine x_istore_n [(3, .int x45), (0, .ref a0), (1, .int v1), (2, .int v2), (4, .int v4)] dX1_course_56 rfl (by decide) rfl (n := 57) rfl ?_
  refine x_iincB 4 (fun x46 => [(4, .int x46), (3, .int x45), (0, .ref a0), (1, .int v1), (2, .int v2)]) dX1_course_57 rfl rfl (by decide) (fun _ => rfl) (n := 60) rfl (fun x46 => ?_)
  refine x_goto dX1_course_60 (n := 19) (by decide) ?_
  refine x_sub [2, 3, 4, 1, 0] [(0, .ref a0), (1, .int v1), (2, .int v2), (3, .int x45), (4, .int x46)] rfl ?_
  exact hk19 v1 v2 x45 x46 p0
theorem f_X1_course_19F_ok {G : xG} (hO : xOK G) (a0 : Nat)  {k19 : Int32 × Int32 × Int32 × Int32 × PH → Option (xO × PH)} (hk19 : ∀ (v1 : Int32) (v2 : Int32) (v3 : Int32) (v4 : Int32) (p0 : PH), X G "ForestLegs" "course" cX1_course 5 (Option.some Jvm.ClassFile.FieldType.int) 13 19 [(0, .ref a0), (1, .int v1), (2, .int v2), (3, .int v3), (4, .int v4)] [] p0 (k19 (v1, v2, v3, v4, p0))) (v1 : Int32) (v2 : Int32) (v3 : Int32) (v4 : Int32) (p0 : PH) : X G "ForestLegs" "course" cX1_course 5 (Option.some Jvm.ClassFile.FieldType.int) 13 19 [(0, .ref a0), (1, .int v1), (2, .int v2), (3, .int v3), (4, .int v4)] [] p0 (f_X1_course_19F a0 k19 (v1, v2, v3, v4, p0)) := by
  unfold f_X1_course_19F
  refine x_iload 4 dX1_course_19 rfl (n := 21) rfl ?_
  refine x_aload_nr 0 dX1_course_21 rfl rfl (n := 22) rfl ?_
  refine x_getR fl_X1_56 dX1_course_22 (n := 25) rfl (fun x3 => ?_)
  refine x_sm (fun b4 e => ?_)
  subst e
  refine x_getR fl_X1_71 dX1_course_25 (n := 28) rfl (fun x5 => ?_)
  refine x_sm (fun b6 e => ?_)
  subst e
  refine x_callF_I [] [.int v4] (f_J3_size_ok hO p0 b6 ) rc_J3_size md_J3_size rfl q1479 fc_java_util_ArrayList_java_util_List_size_0_I dX1_course_28 rfl rfl (by decide) (Nat.le_of_ble_eq_true rfl) (n := 33) rfl (fun x8 p7 => ?_)
  refine x_icmp_ge dX1_course_33 (t := 63) (by decide) (n := 36) rfl (fun _ => ?_) (fun _ => ?_)
  · refine x_iload_n 2 dX1_course_63 rfl rfl (n := 64) rfl ?_
    refine x_tab [100, 124, 130, 145, 158] dX1_course_64 rfl rfl (td := 168) (by decide) ?_ ⟨?_, ?_, ?_, ?_, ?_, trivial⟩
    · refine x_aload_nr 0 dX1_course_168 rfl rfl (n := 169) rfl ?_
      refine x_iconst 1 dX1_course_169 rfl (n := 170) rfl ?_
      refine x_callV_I [.int 1] [] (f_X1_refused_ok hO p7 a0 1) rc_X1_refused md_X1_refused rfl q250 q252 qs0 dX1_course_170 rfl rfl (by decide) (Nat.le_of_ble_eq_true rfl) (n := 173) rfl (fun x10 p9 => ?_)
      exact x_ireturn dX1_course_173
    · refine x_aload_nr 0 dX1_course_100 rfl rfl (n := 101) rfl ?_
      refine x_aload_nr 0 dX1_course_101 rfl rfl (n := 102) rfl ?_
      refine x_getR fl_X1_56 dX1_course_102 (n := 105) rfl (fun x11 => ?_)
      refine x_sm (fun b12 e => ?_)
      subst e
      refine x_getR fl_X1_86 dX1_course_105 (n := 108) rfl (fun x13 => ?_)
      refine x_iload_n 1 dX1_course_108 rfl rfl (n := 109) rfl ?_
      refine x_sm (fun b14 e => ?_)
      subst e
      refine x_callF_R [.int v1] [.ref a0] (f_J3_get_ok hO p7 b14 v1) rc_J3_get md_J3_get rfl q1497 fc_java_util_ArrayList_java_util_List_get_1_ILjava dX1_course_109 rfl rfl (by decide) (Nat.le_of_ble_eq_true rfl) (n := 114) rfl (fun x16 p15 => ?_)
      refine x_cast (x := x16) (cs := [5]) q1574 cst_ForestLegs_Course dX1_course_114 (n := 117) rfl ?_
      refine x_sm (fun b17 e => ?_)
      subst e
      refine x_callV_I [] [.ref a0] (f_X6_size_ok hO p15 b17 ) rc_X6_size md_X6_size rfl q1575 q1199 q1200 dX1_course_117 rfl rfl (by decide) (Nat.le_of_ble_eq_true rfl) (n := 120) rfl (fun x19 p18 => ?_)
      refine x_callV_I [.int x19] [] (f_X1_fine_ok hO p18 a0 x19) rc_X1_fine md_X1_fine rfl q1480 q1482 qs26 dX1_course_120 rfl rfl (by decide) (Nat.le_of_ble_eq_true rfl) (n := 123) rfl (fun x21 p20 => ?_)
      exact x_ireturn dX1_course_123
    · refine x_aload_nr 0 dX1_course_124 rfl rfl (n := 125) rfl ?_
      refine x_iload_n 3 dX1_course_125 rfl rfl (n := 126) rfl ?_
      refine x_callV_I [.int v3] [] (f_X1_fine_ok hO p7 a0 v3) rc_X1_fine md_X1_fine rfl q1480 q1482 qs26 dX1_course_126 rfl rfl (by decide) (Nat.le_of_ble_eq_true rfl) (n := 129) rfl (fun x23 p22 => ?_)
      exact x_ireturn dX1_course_129
    · refine x_aload_nr 0 dX1_course_130 rfl rfl (n := 131) rfl ?_
      refine x_aload_nr 0 dX1_course_131 rfl rfl (n := 132) rfl ?_
      refine x_iload_n 1 dX1_course_132 rfl rfl (n := 133) rfl ?_
      refine x_callV_R [.int v1] [.ref a0] (f_X1_rankedOn_ok hO p7 a0 v1) rc_X1_rankedOn md_X1_rankedOn rfl q1576 q1578 qs30 dX1_course_133 rfl rfl (by decide) (Nat.le_of_ble_eq_true rfl) (n := 136) rfl (fun x25 p24 => ?_)
      refine x_sm (fun b26 e => ?_)
      subst e
      refine x_callF_I [] [.ref a0] (f_J3_size_ok hO p24 b26 ) rc_J3_size md_J3_size rfl q1479 fc_java_util_ArrayList_java_util_List_size_0_I dX1_course_136 rfl rfl (by decide) (Nat.le_of_ble_eq_true rfl) (n := 141) rfl (fun x28 p27 => ?_)
      refine x_callV_I [.int x28] [] (f_X1_fine_ok hO p27 a0 x28) rc_X1_fine md_X1_fine rfl q1480 q1482 qs26 dX1_course_141 rfl rfl (by decide) (Nat.le_of_ble_eq_true rfl) (n := 144) rfl (fun x30 p29 => ?_)
      exact x_ireturn dX1_course_144
    · refine x_aload_nr 0 dX1_course_145 rfl rfl (n := 146) rfl ?_
      refine x_aload_nr 0 dX1_course_146 rfl rfl (n := 147) rfl ?_
      refine x_getR fl_X1_56 dX1_course_147 (n := 150) rfl (fun x31 => ?_)
      refine x_iload_n 1 dX1_course_150 rfl rfl (n := 151) rfl ?_
      refine x_sm (fun b32 e => ?_)
      subst e
      refine x_callV_I [.int v1] [.ref a0] (f_X4_ideal_ok hO p7 b32 v1) rc_X4_ideal md_X4_ideal rfl q1722 q1723 q1724 dX1_course_151 rfl rfl (by decide) (Nat.le_of_ble_eq_true rfl) (n := 154) rfl (fun x34 p33 => ?_)
      refine x_callV_I [.int x34] [] (f_X1_fine_ok hO p33 a0 x34) rc_X1_fine md_X1_fine rfl q1480 q1482 qs26 dX1_course_154 rfl rfl (by decide) (Nat.le_of_ble_eq_true rfl) (n := 157) rfl (fun x36 p35 => ?_)
      exact x_ireturn dX1_course_157
    · refine x_aload_nr 0 dX1_course_158 rfl rfl (n := 159) rfl ?_
      refine x_aload_nr 0 dX1_course_159 rfl rfl (n := 160) rfl ?_
      refine x_iload_n 1 dX1_course_160 rfl rfl (n := 161) rfl ?_
      refine x_callV_I [.int v1] [.ref a0] (f_X1_leastTotal_ok hO p7 a0 v1) rc_X1_leastTotal md_X1_leastTotal rfl q1758 q1760 qs39 dX1_course_161 rfl rfl (by decide) (Nat.le_of_ble_eq_true rfl) (n := 164) rfl (fun x38 p37 => ?_)
      refine x_callV_I [.int x38] [] (f_X1_fine_ok hO p37 a0 x38) rc_X1_fine md_X1_fine rfl q1480 q1482 qs26 dX1_course_164 rfl rfl (by decide) (Nat.le_of_ble_eq_true rfl) (n := 167) rfl (fun x40 p39 => ?_)
      exact x_ireturn dX1_course_167
  · refine x_iload_n 3 dX1_course_36 rfl rfl (n := 37) rfl ?_
    refine x_aload_nr 0 dX1_course_37 rfl rfl (n := 38) rfl ?_
    refine x_getR fl_X1_56 dX1_course_38 (n := 41) rfl (fun x41 => ?_)
    refine x_iload 4 dX1_course_41 rfl (n := 43) rfl ?_
    refine x_iload_n 1 dX1_course_43 rfl rfl (n := 44) rfl ?_
    refine x_sm (fun b42 e => ?_)
    subst e
    refine x_callV_I [.int v4, .int v1] [.int v3] (f_X4_isOf_ok hO p7 b42 v4 v1) rc_X4_isOf md_X4_isOf rfl q1570 q1571 q1572 dX1_course_44 rfl rfl (by decide) (Nat.le_of_ble_eq_true rfl) (n := 47) rfl (fun x44 p43 => ?_)
    refine x_if_eq dX1_course_47 (t := 54) (by decide) (n := 50) rfl (fun _ => ?_) (fun _ => ?_)
    · refine x_iconst 0 dX1_course_54 rfl (n := 55) rfl ?_
      refine x_sub [0, 1, 2, 4] [(0, .ref a0), (1, .int v1), (2, .int v2), (4, .int v4)] rfl ?_
      exact f_X1_course_55_ok hO a0 hk19 v1 v2 v4 v3 0 p43
    · refine x_iconst 1 dX1_course_50 rfl (n := 51) rfl ?_
      refine x_goto dX1_course_51 (n := 55) (by decide) ?_
      refine x_sub [0, 1, 2, 4] [(0, .ref a0), (1, .int v1), (2, .int v2), (4, .int v4)] rfl ?_
      exact f_X1_course_55_ok hO a0 hk19 v1 v2 v4 v3 1 p43
theorem f_X1_course_19_lp {G : xG} (hO : xOK G) (a0 : Nat)  (n : Nat) (v1 : Int32) (v2 : Int32) (v3 : Int32) (v4 : Int32) (p0 : PH) : X G "ForestLegs" "course" cX1_course 5 (Option.some Jvm.ClassFile.FieldType.int) 13 19 [(0, .ref a0), (1, .int v1), (2, .int v2), (3, .int v3), (4, .int v4)] [] p0 (lp (f_X1_course_19F a0) n (v1, v2, v3, v4, p0)) :=
  lp_ok (W := fun p K => X G "ForestLegs" "course" cX1_course 5 (Option.some Jvm.ClassFile.FieldType.int) 13 19 [(0, .ref a0), (1, .int p.1), (2, .int p.2.1), (3, .int p.2.2.1), (4, .int p.2.2.2.1)] [] p.2.2.2.2 K) (fun _ => x_no) (fun k hk => fun (v1, v2, v3, v4, p0) => f_X1_course_19F_ok hO a0 (fun v1 v2 v3 v4 p0 => hk (v1, v2, v3, v4, p0)) v1 v2 v3 v4 p0) n (v1, v2, v3, v4, p0)
theorem f_X1_course_ok {G : xG} (hO : xOK G) (p0 : PH) (a0 : Nat) (a1 : Int32) (a2 : Int32) : CT G 13 yX1_course cX1_course 5 (Option.some Jvm.ClassFile.FieldType.int) [.ref a0, .int a1, .int a2] p0 (f_X1_course p0 a0 a1 a2) := by
  refine CT_of hO (by decide +kernel) (by decide +kernel) (Nat.le_of_ble_eq_true rfl) ?_
  show X G "ForestLegs" "course" cX1_course 5 (Option.some Jvm.ClassFile.FieldType.int) 13 0 [(0, .ref a0), (1, .int a1), (2, .int a2)] [] p0 (f_X1_course p0 a0 a1 a2)
  refine x_cl1 (fun e0 => ?_)
  refine x_aload_nr 0 dX1_course_0 rfl rfl (n := 1) rfl ?_
  refine x_iload_n 1 dX1_course_1 rfl rfl (n := 2) rfl ?_
  refine x_callV_I [.int a1] [] (f_X1_isCourse_ok hO p0 a0 a1) rc_X1_isCourse md_X1_isCourse rfl q1566 q1568 qs29 dX1_course_2 rfl rfl (by decide) (Nat.le_of_ble_eq_true rfl) (n := 5) rfl (fun x2 p1 => ?_)
  refine x_if_ne dX1_course_5 (t := 14) (by decide) (n := 8) rfl (fun _ => ?_) (fun _ => ?_)
  · refine x_iconst 0 dX1_course_14 rfl (n := 15) rfl ?_
    refine x_istore_n [(3, .int 0), (0, .ref a0), (1, .int a1), (2, .int a2)] dX1_course_15 rfl (by decide) rfl (n := 16) rfl ?_
    refine x_iconst 0 dX1_course_16 rfl (n := 17) rfl ?_
    refine x_istore [(4, .int 0), (3, .int 0), (0, .ref a0), (1, .int a1), (2, .int a2)] dX1_course_17 (by decide) rfl (n := 19) rfl ?_
    refine x_sub [2, 3, 4, 1, 0] [(0, .ref a0), (1, .int a1), (2, .int a2), (3, .int 0), (4, .int 0)] rfl ?_
    exact f_X1_course_19_lp hO a0 FU a1 a2 0 0 p1
  · refine x_aload_nr 0 dX1_course_8 rfl rfl (n := 9) rfl ?_
    refine x_iconst 1 dX1_course_9 rfl (n := 10) rfl ?_
    refine x_callV_I [.int 1] [] (f_X1_refused_ok hO p1 a0 1) rc_X1_refused md_X1_refused rfl q250 q252 qs0 dX1_course_10 rfl rfl (by decide) (Nat.le_of_ble_eq_true rfl) (n := 13) rfl (fun x48 p47 => ?_)
    exact x_ireturn dX1_course_13
abbrev cX1_isControl : ByteArray := prog_1_method_19_code
def yX1_isControl : MethodName := ⟨RX1, "isControl", "(II)Z"⟩
def dkwX1_isControl_1 : List UInt8 := [192, 0, 97, 182, 0, 99, 4, 100, 184, 0, 36, 153, 0, 7, 4, 167, 0, 4, 3, 172]
abbrev dktX1_isControl_1 : List UInt8 := dkwX1_isControl_1 ++ []
def dkwX1_isControl_0 : List UInt8 := [42, 27, 182, 0, 89, 153, 0, 36, 28, 3, 42, 180, 0, 56, 180, 0, 86, 27, 185, 0, 93, 2, 0]
abbrev dktX1_isControl_0 : List UInt8 := dkwX1_isControl_0 ++ dktX1_isControl_1
theorem dksX1_isControl_0 : cX1_isControl.data.toList.drop 0 = dktX1_isControl_0 := by decide +kernel
theorem dksX1_isControl_1 : cX1_isControl.data.toList.drop 23 = dktX1_isControl_1 := dk_seg dksX1_isControl_0 23 rfl rfl
theorem dX1_isControl_0 : decode cX1_isControl 0 = .ok (.aload_n 0, 1) := dk_42 (dk_at dksX1_isControl_0 0 rfl rfl)
theorem dX1_isControl_1 : decode cX1_isControl 1 = .ok (.iload_n 1, 1) := dk_27 (dk_at dksX1_isControl_0 1 rfl rfl)
theorem dX1_isControl_2 : decode cX1_isControl 2 = .ok (.invokevirtual 89, 3) := dk_182 0 89 (dk_at dksX1_isControl_0 2 rfl rfl)
theorem dX1_isControl_5 : decode cX1_isControl 5 = .ok (.ifCond .eq 36, 3) := dk_153 0 36 (dk_at dksX1_isControl_0 5 rfl rfl)
theorem dX1_isControl_8 : decode cX1_isControl 8 = .ok (.iload_n 2, 1) := dk_28 (dk_at dksX1_isControl_0 8 rfl rfl)
theorem dX1_isControl_9 : decode cX1_isControl 9 = .ok (.iconst 0, 1) := dk_3 (dk_at dksX1_isControl_0 9 rfl rfl)
theorem dX1_isControl_10 : decode cX1_isControl 10 = .ok (.aload_n 0, 1) := dk_42 (dk_at dksX1_isControl_0 10 rfl rfl)
theorem dX1_isControl_11 : decode cX1_isControl 11 = .ok (.getfield 56, 3) := dk_180 0 56 (dk_at dksX1_isControl_0 11 rfl rfl)
theorem dX1_isControl_14 : decode cX1_isControl 14 = .ok (.getfield 86, 3) := dk_180 0 86 (dk_at dksX1_isControl_0 14 rfl rfl)
theorem dX1_isControl_17 : decode cX1_isControl 17 = .ok (.iload_n 1, 1) := dk_27 (dk_at dksX1_isControl_0 17 rfl rfl)
theorem dX1_isControl_18 : decode cX1_isControl 18 = .ok (.invokeinterface 93 2, 5) := by decide +kernel
theorem dX1_isControl_23 : decode cX1_isControl 23 = .ok (.checkcast 97, 3) := dk_192 0 97 (dk_at dksX1_isControl_1 0 rfl rfl)
theorem dX1_isControl_26 : decode cX1_isControl 26 = .ok (.invokevirtual 99, 3) := dk_182 0 99 (dk_at dksX1_isControl_1 3 rfl rfl)
theorem dX1_isControl_29 : decode cX1_isControl 29 = .ok (.iconst 1, 1) := dk_4 (dk_at dksX1_isControl_1 6 rfl rfl)
theorem dX1_isControl_30 : decode cX1_isControl 30 = .ok (.isub, 1) := dk_100 (dk_at dksX1_isControl_1 7 rfl rfl)
theorem dX1_isControl_31 : decode cX1_isControl 31 = .ok (.invokestatic 36, 3) := dk_184 0 36 (dk_at dksX1_isControl_1 8 rfl rfl)
theorem dX1_isControl_34 : decode cX1_isControl 34 = .ok (.ifCond .eq 7, 3) := dk_153 0 7 (dk_at dksX1_isControl_1 11 rfl rfl)
theorem dX1_isControl_37 : decode cX1_isControl 37 = .ok (.iconst 1, 1) := dk_4 (dk_at dksX1_isControl_1 14 rfl rfl)
theorem dX1_isControl_38 : decode cX1_isControl 38 = .ok (.goto 4, 3) := dk_167 0 4 (dk_at dksX1_isControl_1 15 rfl rfl)
theorem dX1_isControl_41 : decode cX1_isControl 41 = .ok (.iconst 0, 1) := dk_3 (dk_at dksX1_isControl_1 18 rfl rfl)
theorem dX1_isControl_42 : decode cX1_isControl 42 = .ok (.ireturn, 1) := dk_172 (dk_at dksX1_isControl_1 19 rfl rfl)
theorem md_X1_isControl : xMd yX1_isControl cX1_isControl 3 (Option.some Jvm.ClassFile.FieldType.boolean) 2 := ⟨q1774, q123, by decide, by decide +kernel, by decide +kernel, by decide +kernel⟩
def f_X1_isControl (p0 : PH) (a0 : Nat) (a1 : Int32) (a2 : Int32) : Option (xO × PH) :=
  (xcl1 p0 a0 0 (xcI (f_X1_isCourse p0 a0 a1) fun x2 p1 =>
  (if x2 = 0 then
  (if vp_nar .boolean 0 = 0 then rI 0 p1 else none) else
  (xgR p1 a0 0 5 fun x3 =>
  (xnul x3 none fun b4 =>
  (xgR p1 b4 3 0 fun x5 =>
  (xnul x5 none fun b6 =>
  (xcR (f_J3_get p1 b6 a1) fun x8 p7 =>
  (xcst p7 (x8) [5]
  (xnul x8 none fun b9 =>
  (xcI (f_X6_size p7 b9 ) fun x11 p10 =>
  (xcI (f_X1_isIn p10 a2 0 (x11 - 1)) fun x13 p12 =>
  (if x13 = 0 then
  (if vp_nar .boolean 0 = 0 then rI 0 p12 else none) else
  (if vp_nar .boolean 1 = 1 then rI 1 p12 else none))))))))))))))
theorem rc_X1_isControl {p0 : PH} {a0 : Nat} {a1 : Int32} {a2 : Int32} : ∀ z, f_X1_isControl p0 a0 a1 a2 = some z → xco p0 a0 = some 0 := fun z h => xcl1_some h
theorem f_X1_isControl_ok {G : xG} (hO : xOK G) (p0 : PH) (a0 : Nat) (a1 : Int32) (a2 : Int32) : CT G 3 yX1_isControl cX1_isControl 3 (Option.some Jvm.ClassFile.FieldType.boolean) [.ref a0, .int a1, .int a2] p0 (f_X1_isControl p0 a0 a1 a2) := by
  refine CT_of hO (by decide +kernel) (by decide +kernel) (Nat.le_of_ble_eq_true rfl) ?_
  show X G "ForestLegs" "isControl" cX1_isControl 3 (Option.some Jvm.ClassFile.FieldType.boolean) 3 0 [(0, .ref a0), (1, .int a1), (2, .int a2)] [] p0 (f_X1_isControl p0 a0 a1 a2)
  refine x_cl1 (fun e0 => ?_)
  refine x_aload_nr 0 dX1_isControl_0 rfl rfl (n := 1) rfl ?_
  refine x_iload_n 1 dX1_isControl_1 rfl rfl (n := 2) rfl ?_
  refine x_callV_I [.int a1] [] (f_X1_isCourse_ok hO p0 a0 a1) rc_X1_isCourse md_X1_isCourse rfl q1566 q1568 qs29 dX1_isControl_2 rfl rfl (by decide) (Nat.le_of_ble_eq_true rfl) (n := 5) rfl (fun x2 p1 => ?_)
  refine x_if_eq dX1_isControl_5 (t := 41) (by decide) (n := 8) rfl (fun _ => ?_) (fun _ => ?_)
  · refine x_iconst 0 dX1_isControl_41 rfl (n := 42) rfl ?_
    exact x_nreturn rfl dX1_isControl_42
  · refine x_iload_n 2 dX1_isControl_8 rfl rfl (n := 9) rfl ?_
    refine x_iconst 0 dX1_isControl_9 rfl (n := 10) rfl ?_
    refine x_aload_nr 0 dX1_isControl_10 rfl rfl (n := 11) rfl ?_
    refine x_getR fl_X1_56 dX1_isControl_11 (n := 14) rfl (fun x3 => ?_)
    refine x_sm (fun b4 e => ?_)
    subst e
    refine x_getR fl_X1_86 dX1_isControl_14 (n := 17) rfl (fun x5 => ?_)
    refine x_iload_n 1 dX1_isControl_17 rfl rfl (n := 18) rfl ?_
    refine x_sm (fun b6 e => ?_)
    subst e
    refine x_callF_R [.int a1] [.int 0, .int a2] (f_J3_get_ok hO p1 b6 a1) rc_J3_get md_J3_get rfl q1497 fc_java_util_ArrayList_java_util_List_get_1_ILjava dX1_isControl_18 rfl rfl (by decide) (Nat.le_of_ble_eq_true rfl) (n := 23) rfl (fun x8 p7 => ?_)
    refine x_cast (x := x8) (cs := [5]) q1574 cst_ForestLegs_Course dX1_isControl_23 (n := 26) rfl ?_
    refine x_sm (fun b9 e => ?_)
    subst e
    refine x_callV_I [] [.int 0, .int a2] (f_X6_size_ok hO p7 b9 ) rc_X6_size md_X6_size rfl q1575 q1199 q1200 dX1_isControl_26 rfl rfl (by decide) (Nat.le_of_ble_eq_true rfl) (n := 29) rfl (fun x11 p10 => ?_)
    refine x_iconst 1 dX1_isControl_29 rfl (n := 30) rfl ?_
    refine x_isub dX1_isControl_30 (n := 31) rfl ?_
    refine x_callS_I [.int a2, .int 0, .int (x11 - 1)] [] (f_X1_isIn_ok hO p10 a2 0 (x11 - 1)) md_X1_isIn q247 q248 dX1_isControl_31 rfl rfl (by decide) (Nat.le_of_ble_eq_true rfl) (n := 34) rfl (fun x13 p12 => ?_)
    refine x_if_eq dX1_isControl_34 (t := 41) (by decide) (n := 37) rfl (fun _ => ?_) (fun _ => ?_)
    · refine x_iconst 0 dX1_isControl_41 rfl (n := 42) rfl ?_
      exact x_nreturn rfl dX1_isControl_42
    · refine x_iconst 1 dX1_isControl_37 rfl (n := 38) rfl ?_
      refine x_goto dX1_isControl_38 (n := 42) (by decide) ?_
      exact x_nreturn rfl dX1_isControl_42
abbrev cX1_code : ByteArray := prog_1_method_20_code
def yX1_code : MethodName := ⟨RX1, "code", "(II)I"⟩
def dkwX1_code_1 : List UInt8 := [192, 0, 97, 28, 182, 0, 173, 182, 0, 83, 167, 0, 8, 42, 4, 182, 0, 40, 172]
abbrev dktX1_code_1 : List UInt8 := dkwX1_code_1 ++ []
def dkwX1_code_0 : List UInt8 := [42, 27, 28, 182, 0, 170, 153, 0, 30, 42, 42, 180, 0, 56, 180, 0, 86, 27, 185, 0, 93, 2, 0]
abbrev dktX1_code_0 : List UInt8 := dkwX1_code_0 ++ dktX1_code_1
theorem dksX1_code_0 : cX1_code.data.toList.drop 0 = dktX1_code_0 := by decide +kernel
theorem dksX1_code_1 : cX1_code.data.toList.drop 23 = dktX1_code_1 := dk_seg dksX1_code_0 23 rfl rfl
theorem dX1_code_0 : decode cX1_code 0 = .ok (.aload_n 0, 1) := dk_42 (dk_at dksX1_code_0 0 rfl rfl)
theorem dX1_code_1 : decode cX1_code 1 = .ok (.iload_n 1, 1) := dk_27 (dk_at dksX1_code_0 1 rfl rfl)
theorem dX1_code_2 : decode cX1_code 2 = .ok (.iload_n 2, 1) := dk_28 (dk_at dksX1_code_0 2 rfl rfl)
theorem dX1_code_3 : decode cX1_code 3 = .ok (.invokevirtual 170, 3) := dk_182 0 170 (dk_at dksX1_code_0 3 rfl rfl)
theorem dX1_code_6 : decode cX1_code 6 = .ok (.ifCond .eq 30, 3) := dk_153 0 30 (dk_at dksX1_code_0 6 rfl rfl)
theorem dX1_code_9 : decode cX1_code 9 = .ok (.aload_n 0, 1) := dk_42 (dk_at dksX1_code_0 9 rfl rfl)
theorem dX1_code_10 : decode cX1_code 10 = .ok (.aload_n 0, 1) := dk_42 (dk_at dksX1_code_0 10 rfl rfl)
theorem dX1_code_11 : decode cX1_code 11 = .ok (.getfield 56, 3) := dk_180 0 56 (dk_at dksX1_code_0 11 rfl rfl)
theorem dX1_code_14 : decode cX1_code 14 = .ok (.getfield 86, 3) := dk_180 0 86 (dk_at dksX1_code_0 14 rfl rfl)
theorem dX1_code_17 : decode cX1_code 17 = .ok (.iload_n 1, 1) := dk_27 (dk_at dksX1_code_0 17 rfl rfl)
theorem dX1_code_18 : decode cX1_code 18 = .ok (.invokeinterface 93 2, 5) := by decide +kernel
theorem dX1_code_23 : decode cX1_code 23 = .ok (.checkcast 97, 3) := dk_192 0 97 (dk_at dksX1_code_1 0 rfl rfl)
theorem dX1_code_26 : decode cX1_code 26 = .ok (.iload_n 2, 1) := dk_28 (dk_at dksX1_code_1 3 rfl rfl)
theorem dX1_code_27 : decode cX1_code 27 = .ok (.invokevirtual 173, 3) := dk_182 0 173 (dk_at dksX1_code_1 4 rfl rfl)
theorem dX1_code_30 : decode cX1_code 30 = .ok (.invokevirtual 83, 3) := dk_182 0 83 (dk_at dksX1_code_1 7 rfl rfl)
theorem dX1_code_33 : decode cX1_code 33 = .ok (.goto 8, 3) := dk_167 0 8 (dk_at dksX1_code_1 10 rfl rfl)
theorem dX1_code_36 : decode cX1_code 36 = .ok (.aload_n 0, 1) := dk_42 (dk_at dksX1_code_1 13 rfl rfl)
theorem dX1_code_37 : decode cX1_code 37 = .ok (.iconst 1, 1) := dk_4 (dk_at dksX1_code_1 14 rfl rfl)
theorem dX1_code_38 : decode cX1_code 38 = .ok (.invokevirtual 40, 3) := dk_182 0 40 (dk_at dksX1_code_1 15 rfl rfl)
theorem dX1_code_41 : decode cX1_code 41 = .ok (.ireturn, 1) := dk_172 (dk_at dksX1_code_1 18 rfl rfl)
theorem md_X1_code : xMd yX1_code cX1_code 3 (Option.some Jvm.ClassFile.FieldType.int) 2 := ⟨q1770, q123, by decide, by decide +kernel, by decide +kernel, by decide +kernel⟩
def f_X1_code (p0 : PH) (a0 : Nat) (a1 : Int32) (a2 : Int32) : Option (xO × PH) :=
  (xcl1 p0 a0 0 (xcI (f_X1_isControl p0 a0 a1 a2) fun x2 p1 =>
  (if x2 = 0 then
  (xcI (f_X1_refused p1 a0 1) fun x4 p3 =>
  (rI x4 p3)) else
  (xgR p1 a0 0 5 fun x5 =>
  (xnul x5 none fun b6 =>
  (xgR p1 b6 3 0 fun x7 =>
  (xnul x7 none fun b8 =>
  (xcR (f_J3_get p1 b8 a1) fun x10 p9 =>
  (xcst p9 (x10) [5]
  (xnul x10 none fun b11 =>
  (xcI (f_X6_code p9 b11 a2) fun x13 p12 =>
  (xcI (f_X1_fine p12 a0 x13) fun x15 p14 =>
  (rI x15 p14)))))))))))))
theorem rc_X1_code {p0 : PH} {a0 : Nat} {a1 : Int32} {a2 : Int32} : ∀ z, f_X1_code p0 a0 a1 a2 = some z → xco p0 a0 = some 0 := fun z h => xcl1_some h
theorem f_X1_code_ok {G : xG} (hO : xOK G) (p0 : PH) (a0 : Nat) (a1 : Int32) (a2 : Int32) : CT G 4 yX1_code cX1_code 3 (Option.some Jvm.ClassFile.FieldType.int) [.ref a0, .int a1, .int a2] p0 (f_X1_code p0 a0 a1 a2) := by
  refine CT_of hO (by decide +kernel) (by decide +kernel) (Nat.le_of_ble_eq_true rfl) ?_
  show X G "ForestLegs" "code" cX1_code 3 (Option.some Jvm.ClassFile.FieldType.int) 4 0 [(0, .ref a0), (1, .int a1), (2, .int a2)] [] p0 (f_X1_code p0 a0 a1 a2)
  refine x_cl1 (fun e0 => ?_)
  refine x_aload_nr 0 dX1_code_0 rfl rfl (n := 1) rfl ?_
  refine x_iload_n 1 dX1_code_1 rfl rfl (n := 2) rfl ?_
  refine x_iload_n 2 dX1_code_2 rfl rfl (n := 3) rfl ?_
  refine x_callV_I [.int a1, .int a2] [] (f_X1_isControl_ok hO p0 a0 a1 a2) rc_X1_isControl md_X1_isControl rfl q1771 q1773 qs40 dX1_code_3 rfl rfl (by decide) (Nat.le_of_ble_eq_true rfl) (n := 6) rfl (fun x2 p1 => ?_)
  refine x_if_eq dX1_code_6 (t := 36) (by decide) (n := 9) rfl (fun _ => ?_) (fun _ => ?_)
  · refine x_aload_nr 0 dX1_code_36 rfl rfl (n := 37) rfl ?_
    refine x_iconst 1 dX1_code_37 rfl (n := 38) rfl ?_
    refine x_callV_I [.int 1] [] (f_X1_refused_ok hO p1 a0 1) rc_X1_refused md_X1_refused rfl q250 q252 qs0 dX1_code_38 rfl rfl (by decide) (Nat.le_of_ble_eq_true rfl) (n := 41) rfl (fun x4 p3 => ?_)
    exact x_ireturn dX1_code_41
  · refine x_aload_nr 0 dX1_code_9 rfl rfl (n := 10) rfl ?_
    refine x_aload_nr 0 dX1_code_10 rfl rfl (n := 11) rfl ?_
    refine x_getR fl_X1_56 dX1_code_11 (n := 14) rfl (fun x5 => ?_)
    refine x_sm (fun b6 e => ?_)
    subst e
    refine x_getR fl_X1_86 dX1_code_14 (n := 17) rfl (fun x7 => ?_)
    refine x_iload_n 1 dX1_code_17 rfl rfl (n := 18) rfl ?_
    refine x_sm (fun b8 e => ?_)
    subst e
    refine x_callF_R [.int a1] [.ref a0] (f_J3_get_ok hO p1 b8 a1) rc_J3_get md_J3_get rfl q1497 fc_java_util_ArrayList_java_util_List_get_1_ILjava dX1_code_18 rfl rfl (by decide) (Nat.le_of_ble_eq_true rfl) (n := 23) rfl (fun x10 p9 => ?_)
    refine x_cast (x := x10) (cs := [5]) q1574 cst_ForestLegs_Course dX1_code_23 (n := 26) rfl ?_
    refine x_iload_n 2 dX1_code_26 rfl rfl (n := 27) rfl ?_
    refine x_sm (fun b11 e => ?_)
    subst e
    refine x_callV_I [.int a2] [.ref a0] (f_X6_code_ok hO p9 b11 a2) rc_X6_code md_X6_code rfl q1775 q1205 q1206 dX1_code_27 rfl rfl (by decide) (Nat.le_of_ble_eq_true rfl) (n := 30) rfl (fun x13 p12 => ?_)
    refine x_callV_I [.int x13] [] (f_X1_fine_ok hO p12 a0 x13) rc_X1_fine md_X1_fine rfl q1480 q1482 qs26 dX1_code_30 rfl rfl (by decide) (Nat.le_of_ble_eq_true rfl) (n := 33) rfl (fun x15 p14 => ?_)
    refine x_goto dX1_code_33 (n := 41) (by decide) ?_
    exact x_ireturn dX1_code_41
abbrev cX1_isRunner : ByteArray := prog_1_method_11_code
def yX1_isRunner : MethodName := ⟨RX1, "isRunner", "(I)Z"⟩
def dkwX1_isRunner_1 : List UInt8 := [184, 0, 36, 153, 0, 7, 4, 167, 0, 4, 3, 172]
abbrev dktX1_isRunner_1 : List UInt8 := dkwX1_isRunner_1 ++ []
def dkwX1_isRunner_0 : List UInt8 := [42, 180, 0, 56, 198, 0, 29, 27, 3, 42, 180, 0, 56, 180, 0, 71, 185, 0, 77, 1, 0, 4, 100]
abbrev dktX1_isRunner_0 : List UInt8 := dkwX1_isRunner_0 ++ dktX1_isRunner_1
theorem dksX1_isRunner_0 : cX1_isRunner.data.toList.drop 0 = dktX1_isRunner_0 := by decide +kernel
theorem dksX1_isRunner_1 : cX1_isRunner.data.toList.drop 23 = dktX1_isRunner_1 := dk_seg dksX1_isRunner_0 23 rfl rfl
theorem dX1_isRunner_0 : decode cX1_isRunner 0 = .ok (.aload_n 0, 1) := dk_42 (dk_at dksX1_isRunner_0 0 rfl rfl)
theorem dX1_isRunner_1 : decode cX1_isRunner 1 = .ok (.getfield 56, 3) := dk_180 0 56 (dk_at dksX1_isRunner_0 1 rfl rfl)
theorem dX1_isRunner_4 : decode cX1_isRunner 4 = .ok (.ifnull 29, 3) := dk_198 0 29 (dk_at dksX1_isRunner_0 4 rfl rfl)
theorem dX1_isRunner_7 : decode cX1_isRunner 7 = .ok (.iload_n 1, 1) := dk_27 (dk_at dksX1_isRunner_0 7 rfl rfl)
theorem dX1_isRunner_8 : decode cX1_isRunner 8 = .ok (.iconst 0, 1) := dk_3 (dk_at dksX1_isRunner_0 8 rfl rfl)
theorem dX1_isRunner_9 : decode cX1_isRunner 9 = .ok (.aload_n 0, 1) := dk_42 (dk_at dksX1_isRunner_0 9 rfl rfl)
theorem dX1_isRunner_10 : decode cX1_isRunner 10 = .ok (.getfield 56, 3) := dk_180 0 56 (dk_at dksX1_isRunner_0 10 rfl rfl)
theorem dX1_isRunner_13 : decode cX1_isRunner 13 = .ok (.getfield 71, 3) := dk_180 0 71 (dk_at dksX1_isRunner_0 13 rfl rfl)
theorem dX1_isRunner_16 : decode cX1_isRunner 16 = .ok (.invokeinterface 77 1, 5) := by decide +kernel
theorem dX1_isRunner_21 : decode cX1_isRunner 21 = .ok (.iconst 1, 1) := dk_4 (dk_at dksX1_isRunner_0 21 rfl rfl)
theorem dX1_isRunner_22 : decode cX1_isRunner 22 = .ok (.isub, 1) := dk_100 (dk_at dksX1_isRunner_0 22 rfl rfl)
theorem dX1_isRunner_23 : decode cX1_isRunner 23 = .ok (.invokestatic 36, 3) := dk_184 0 36 (dk_at dksX1_isRunner_1 0 rfl rfl)
theorem dX1_isRunner_26 : decode cX1_isRunner 26 = .ok (.ifCond .eq 7, 3) := dk_153 0 7 (dk_at dksX1_isRunner_1 3 rfl rfl)
theorem dX1_isRunner_29 : decode cX1_isRunner 29 = .ok (.iconst 1, 1) := dk_4 (dk_at dksX1_isRunner_1 6 rfl rfl)
theorem dX1_isRunner_30 : decode cX1_isRunner 30 = .ok (.goto 4, 3) := dk_167 0 4 (dk_at dksX1_isRunner_1 7 rfl rfl)
theorem dX1_isRunner_33 : decode cX1_isRunner 33 = .ok (.iconst 0, 1) := dk_3 (dk_at dksX1_isRunner_1 10 rfl rfl)
theorem dX1_isRunner_34 : decode cX1_isRunner 34 = .ok (.ireturn, 1) := dk_172 (dk_at dksX1_isRunner_1 11 rfl rfl)
theorem md_X1_isRunner : xMd yX1_isRunner cX1_isRunner 2 (Option.some Jvm.ClassFile.FieldType.boolean) 1 := ⟨q1783, q123, by decide, by decide +kernel, by decide +kernel, by decide +kernel⟩
def f_X1_isRunner (p0 : PH) (a0 : Nat) (a1 : Int32) : Option (xO × PH) :=
  (xcl1 p0 a0 0 (xgR p0 a0 0 5 fun x1 =>
  (xnul x1 (if vp_nar .boolean 0 = 0 then rI 0 p0 else none) fun b2 =>
  (xgR p0 a0 0 5 fun x3 =>
  (xnul x3 none fun b4 =>
  (xgR p0 b4 3 1 fun x5 =>
  (xnul x5 none fun b6 =>
  (xcI (f_J3_size p0 b6 ) fun x8 p7 =>
  (xcI (f_X1_isIn p7 a1 0 (x8 - 1)) fun x10 p9 =>
  (if x10 = 0 then
  (if vp_nar .boolean 0 = 0 then rI 0 p9 else none) else
  (if vp_nar .boolean 1 = 1 then rI 1 p9 else none)))))))))))
theorem rc_X1_isRunner {p0 : PH} {a0 : Nat} {a1 : Int32} : ∀ z, f_X1_isRunner p0 a0 a1 = some z → xco p0 a0 = some 0 := fun z h => xcl1_some h
theorem f_X1_isRunner_ok {G : xG} (hO : xOK G) (p0 : PH) (a0 : Nat) (a1 : Int32) : CT G 1 yX1_isRunner cX1_isRunner 2 (Option.some Jvm.ClassFile.FieldType.boolean) [.ref a0, .int a1] p0 (f_X1_isRunner p0 a0 a1) := by
  refine CT_of hO (by decide +kernel) (by decide +kernel) (Nat.le_of_ble_eq_true rfl) ?_
  show X G "ForestLegs" "isRunner" cX1_isRunner 2 (Option.some Jvm.ClassFile.FieldType.boolean) 1 0 [(0, .ref a0), (1, .int a1)] [] p0 (f_X1_isRunner p0 a0 a1)
  refine x_cl1 (fun e0 => ?_)
  refine x_aload_nr 0 dX1_isRunner_0 rfl rfl (n := 1) rfl ?_
  refine x_getR fl_X1_56 dX1_isRunner_1 (n := 4) rfl (fun x1 => ?_)
  refine x_ifnull dX1_isRunner_4 (t := 33) (by decide) (n := 7) rfl (fun e => ?_) (fun b2 e => ?_)
  · subst e
    refine x_iconst 0 dX1_isRunner_33 rfl (n := 34) rfl ?_
    exact x_nreturn rfl dX1_isRunner_34
  · subst e
    refine x_iload_n 1 dX1_isRunner_7 rfl rfl (n := 8) rfl ?_
    refine x_iconst 0 dX1_isRunner_8 rfl (n := 9) rfl ?_
    refine x_aload_nr 0 dX1_isRunner_9 rfl rfl (n := 10) rfl ?_
    refine x_getR fl_X1_56 dX1_isRunner_10 (n := 13) rfl (fun x3 => ?_)
    refine x_sm (fun b4 e => ?_)
    subst e
    refine x_getR fl_X1_71 dX1_isRunner_13 (n := 16) rfl (fun x5 => ?_)
    refine x_sm (fun b6 e => ?_)
    subst e
    refine x_callF_I [] [.int 0, .int a1] (f_J3_size_ok hO p0 b6 ) rc_J3_size md_J3_size rfl q1479 fc_java_util_ArrayList_java_util_List_size_0_I dX1_isRunner_16 rfl rfl (by decide) (Nat.le_of_ble_eq_true rfl) (n := 21) rfl (fun x8 p7 => ?_)
    refine x_iconst 1 dX1_isRunner_21 rfl (n := 22) rfl ?_
    refine x_isub dX1_isRunner_22 (n := 23) rfl ?_
    refine x_callS_I [.int a1, .int 0, .int (x8 - 1)] [] (f_X1_isIn_ok hO p7 a1 0 (x8 - 1)) md_X1_isIn q247 q248 dX1_isRunner_23 rfl rfl (by decide) (Nat.le_of_ble_eq_true rfl) (n := 26) rfl (fun x10 p9 => ?_)
    refine x_if_eq dX1_isRunner_26 (t := 33) (by decide) (n := 29) rfl (fun _ => ?_) (fun _ => ?_)
    · refine x_iconst 0 dX1_isRunner_33 rfl (n := 34) rfl ?_
      exact x_nreturn rfl dX1_isRunner_34
    · refine x_iconst 1 dX1_isRunner_29 rfl (n := 30) rfl ?_
      refine x_goto dX1_isRunner_30 (n := 34) (by decide) ?_
      exact x_nreturn rfl dX1_isRunner_34
abbrev cJ26_init : ByteArray := prog_48_method_1_code
def yJ26_init : MethodName := ⟨RJ26, "<init>", "(Ljava/util/ArrayList;)V"⟩
def dkwJ26_init_1 : List UInt8 := [181, 0, 22, 177]
abbrev dktJ26_init_1 : List UInt8 := dkwJ26_init_1 ++ []
def dkwJ26_init_0 : List UInt8 := [42, 43, 181, 0, 1, 42, 183, 0, 7, 42, 2, 181, 0, 13, 42, 42, 180, 0, 1, 180, 0, 17]
abbrev dktJ26_init_0 : List UInt8 := dkwJ26_init_0 ++ dktJ26_init_1
theorem dksJ26_init_0 : cJ26_init.data.toList.drop 0 = dktJ26_init_0 := by decide +kernel
theorem dksJ26_init_1 : cJ26_init.data.toList.drop 22 = dktJ26_init_1 := dk_seg dksJ26_init_0 22 rfl rfl
theorem dJ26_init_0 : decode cJ26_init 0 = .ok (.aload_n 0, 1) := dk_42 (dk_at dksJ26_init_0 0 rfl rfl)
theorem dJ26_init_1 : decode cJ26_init 1 = .ok (.aload_n 1, 1) := dk_43 (dk_at dksJ26_init_0 1 rfl rfl)
theorem dJ26_init_2 : decode cJ26_init 2 = .ok (.putfield 1, 3) := dk_181 0 1 (dk_at dksJ26_init_0 2 rfl rfl)
theorem dJ26_init_5 : decode cJ26_init 5 = .ok (.aload_n 0, 1) := dk_42 (dk_at dksJ26_init_0 5 rfl rfl)
theorem dJ26_init_6 : decode cJ26_init 6 = .ok (.invokespecial 7, 3) := dk_183 0 7 (dk_at dksJ26_init_0 6 rfl rfl)
theorem dJ26_init_9 : decode cJ26_init 9 = .ok (.aload_n 0, 1) := dk_42 (dk_at dksJ26_init_0 9 rfl rfl)
theorem dJ26_init_10 : decode cJ26_init 10 = .ok (.iconst (-1), 1) := dk_2 (dk_at dksJ26_init_0 10 rfl rfl)
theorem dJ26_init_11 : decode cJ26_init 11 = .ok (.putfield 13, 3) := dk_181 0 13 (dk_at dksJ26_init_0 11 rfl rfl)
theorem dJ26_init_14 : decode cJ26_init 14 = .ok (.aload_n 0, 1) := dk_42 (dk_at dksJ26_init_0 14 rfl rfl)
theorem dJ26_init_15 : decode cJ26_init 15 = .ok (.aload_n 0, 1) := dk_42 (dk_at dksJ26_init_0 15 rfl rfl)
theorem dJ26_init_16 : decode cJ26_init 16 = .ok (.getfield 1, 3) := dk_180 0 1 (dk_at dksJ26_init_0 16 rfl rfl)
theorem dJ26_init_19 : decode cJ26_init 19 = .ok (.getfield 17, 3) := dk_180 0 17 (dk_at dksJ26_init_0 19 rfl rfl)
theorem dJ26_init_22 : decode cJ26_init 22 = .ok (.putfield 22, 3) := dk_181 0 22 (dk_at dksJ26_init_1 0 rfl rfl)
theorem dJ26_init_25 : decode cJ26_init 25 = .ok (.return_, 1) := dk_177 (dk_at dksJ26_init_1 3 rfl rfl)
theorem md_J26_init : xMd yJ26_init cJ26_init 2 (Option.none : Option Jvm.ClassFile.FieldType) 1 := ⟨q1803, q163, by decide, by decide +kernel, by decide +kernel, by decide +kernel⟩
def f_J26_init (p0 : PH) (a0 : Nat) (a1 : Option Nat) : Option (xO × PH) :=
  (xpF p0 a0 20 3 (va_rf a1) fun p1 =>
  (xpF p1 a0 20 1 (.int (-1)) fun p2 =>
  (xgR p2 a0 20 3 fun x3 =>
  (xnul x3 none fun b4 =>
  (xgI p2 b4 14 0 fun x5 =>
  (xpF p2 a0 20 2 (.int x5) fun p6 =>
  (rV p6)))))))
theorem f_J26_init_ok {G : xG} (hO : xOK G) (p0 : PH) (a0 : Nat) (a1 : Option Nat) : CT G 1 yJ26_init cJ26_init 2 (Option.none : Option Jvm.ClassFile.FieldType) [.ref a0, va_rf a1] p0 (f_J26_init p0 a0 a1) := by
  refine CT_of hO (by decide +kernel) (by decide +kernel) (lg_slen _ (by simp only [List.map, xcat]; exact Nat.le_of_ble_eq_true rfl)) ?_
  rw [show lv_args 0 [.ref a0, va_rf a1] = [(0, .ref a0), (1, va_rf a1)] from by simp only [lv_args, xcat] <;> rfl]
  show X G "java/util/ArrayList$Itr" "<init>" cJ26_init 2 (Option.none : Option Jvm.ClassFile.FieldType) 1 0 [(0, .ref a0), (1, va_rf a1)] [] p0 (f_J26_init p0 a0 a1)
  refine x_aload_nr 0 dJ26_init_0 rfl rfl (n := 1) rfl ?_
  refine x_aload_n 1 dJ26_init_1 rfl rfl (n := 2) rfl ?_
  refine x_pF (pl_J26_1 _ (xfit_o (a1))) dJ26_init_2 (n := 5) rfl (fun p1 => ?_)
  refine x_aload_nr 0 dJ26_init_5 rfl rfl (n := 6) rfl ?_
  refine x_objInit q1804 q186 q187 dJ26_init_6 (by decide) (Nat.le_of_ble_eq_true rfl) (n := 9) rfl ?_
  refine x_aload_nr 0 dJ26_init_9 rfl rfl (n := 10) rfl ?_
  refine x_iconst (-1) dJ26_init_10 rfl (n := 11) rfl ?_
  refine x_pF (pl_J26_13 _ _ ⟨rfl, rfl⟩) dJ26_init_11 (n := 14) rfl (fun p2 => ?_)
  refine x_aload_nr 0 dJ26_init_14 rfl rfl (n := 15) rfl ?_
  refine x_aload_nr 0 dJ26_init_15 rfl rfl (n := 16) rfl ?_
  refine x_getR fl_J26_1 dJ26_init_16 (n := 19) rfl (fun x3 => ?_)
  refine x_sm (fun b4 e => ?_)
  subst e
  refine x_getI fl_J26_17 dJ26_init_19 (n := 22) rfl (fun x5 => ?_)
  refine x_pF (pl_J26_22 _ _ ⟨rfl, rfl⟩) dJ26_init_22 (n := 25) rfl (fun p6 => ?_)
  exact x_return dJ26_init_25
abbrev cJ3_iterator : ByteArray := prog_47_method_55_code
def yJ3_iterator : MethodName := ⟨RJ3, "iterator", "()Ljava/util/Iterator;"⟩
def dkwJ3_iterator_0 : List UInt8 := [187, 1, 11, 89, 42, 183, 1, 13, 176]
abbrev dktJ3_iterator_0 : List UInt8 := dkwJ3_iterator_0 ++ []
theorem dksJ3_iterator_0 : cJ3_iterator.data.toList.drop 0 = dktJ3_iterator_0 := by decide +kernel
theorem dJ3_iterator_0 : decode cJ3_iterator 0 = .ok (.new 267, 3) := dk_187 1 11 (dk_at dksJ3_iterator_0 0 rfl rfl)
theorem dJ3_iterator_3 : decode cJ3_iterator 3 = .ok (.dup, 1) := dk_89 (dk_at dksJ3_iterator_0 3 rfl rfl)
theorem dJ3_iterator_4 : decode cJ3_iterator 4 = .ok (.aload_n 0, 1) := dk_42 (dk_at dksJ3_iterator_0 4 rfl rfl)
theorem dJ3_iterator_5 : decode cJ3_iterator 5 = .ok (.invokespecial 269, 3) := dk_183 1 13 (dk_at dksJ3_iterator_0 5 rfl rfl)
theorem dJ3_iterator_8 : decode cJ3_iterator 8 = .ok (.areturn, 1) := dk_176 (dk_at dksJ3_iterator_0 8 rfl rfl)
theorem md_J3_iterator : xMd yJ3_iterator cJ3_iterator 1 (Option.some (Jvm.ClassFile.FieldType.object "java/util/Iterator")) 0 := ⟨q1798, q130, by decide, by decide +kernel, by decide +kernel, by decide +kernel⟩
def f_J3_iterator (p0 : PH) (a0 : Nat) : Option (xO × PH) :=
  (xcl1 p0 a0 14 (xnew p0 20 [.int 0, .int 0, .int 0, .null] fun b1 p2 =>
  (xcV (f_J26_init p2 b1 (some a0)) fun p3 =>
  (rR (some b1) p3))))
theorem rc_J3_iterator {p0 : PH} {a0 : Nat} : ∀ z, f_J3_iterator p0 a0 = some z → xco p0 a0 = some 14 := fun z h => xcl1_some h
theorem f_J3_iterator_ok {G : xG} (hO : xOK G) (p0 : PH) (a0 : Nat) : CT G 2 yJ3_iterator cJ3_iterator 1 (Option.some (Jvm.ClassFile.FieldType.object "java/util/Iterator")) [.ref a0] p0 (f_J3_iterator p0 a0) := by
  refine CT_of hO (by decide +kernel) (by decide +kernel) (Nat.le_of_ble_eq_true rfl) ?_
  show X G "java/util/ArrayList" "iterator" cJ3_iterator 1 (Option.some (Jvm.ClassFile.FieldType.object "java/util/Iterator")) 2 0 [(0, .ref a0)] [] p0 (f_J3_iterator p0 a0)
  refine x_cl1 (fun e0 => ?_)
  refine x_new cl_20 (by decide) q1799 q1800 q163 rfl dJ3_iterator_0 (n := 3) rfl (fun b1 p2 => ?_)
  refine x_dup dJ3_iterator_3 rfl (n := 4) rfl ?_
  refine x_aload_nr 0 dJ3_iterator_4 rfl rfl (n := 5) rfl ?_
  refine x_callI_V [.ref a0] [.ref b1] (f_J26_init_ok hO p2 b1 (some a0)) md_J26_init rfl q1801 q1802 dJ3_iterator_5 rfl rfl (by decide) (Nat.le_of_ble_eq_true rfl) (n := 8) rfl (fun p3 => ?_)
  exact x_areturn (x := some b1) (Or.inl ⟨_, rfl⟩) dJ3_iterator_8
abbrev cJ26_hasNext : ByteArray := prog_48_method_2_code
def yJ26_hasNext : MethodName := ⟨RJ26, "hasNext", "()Z"⟩
def dkwJ26_hasNext_0 : List UInt8 := [42, 180, 0, 25, 42, 180, 0, 1, 180, 0, 28, 159, 0, 7, 4, 167, 0, 4, 3, 172]
abbrev dktJ26_hasNext_0 : List UInt8 := dkwJ26_hasNext_0 ++ []
theorem dksJ26_hasNext_0 : cJ26_hasNext.data.toList.drop 0 = dktJ26_hasNext_0 := by decide +kernel
theorem dJ26_hasNext_0 : decode cJ26_hasNext 0 = .ok (.aload_n 0, 1) := dk_42 (dk_at dksJ26_hasNext_0 0 rfl rfl)
theorem dJ26_hasNext_1 : decode cJ26_hasNext 1 = .ok (.getfield 25, 3) := dk_180 0 25 (dk_at dksJ26_hasNext_0 1 rfl rfl)
theorem dJ26_hasNext_4 : decode cJ26_hasNext 4 = .ok (.aload_n 0, 1) := dk_42 (dk_at dksJ26_hasNext_0 4 rfl rfl)
theorem dJ26_hasNext_5 : decode cJ26_hasNext 5 = .ok (.getfield 1, 3) := dk_180 0 1 (dk_at dksJ26_hasNext_0 5 rfl rfl)
theorem dJ26_hasNext_8 : decode cJ26_hasNext 8 = .ok (.getfield 28, 3) := dk_180 0 28 (dk_at dksJ26_hasNext_0 8 rfl rfl)
theorem dJ26_hasNext_11 : decode cJ26_hasNext 11 = .ok (.if_icmp .eq 7, 3) := dk_159 0 7 (dk_at dksJ26_hasNext_0 11 rfl rfl)
theorem dJ26_hasNext_14 : decode cJ26_hasNext 14 = .ok (.iconst 1, 1) := dk_4 (dk_at dksJ26_hasNext_0 14 rfl rfl)
theorem dJ26_hasNext_15 : decode cJ26_hasNext 15 = .ok (.goto 4, 3) := dk_167 0 4 (dk_at dksJ26_hasNext_0 15 rfl rfl)
theorem dJ26_hasNext_18 : decode cJ26_hasNext 18 = .ok (.iconst 0, 1) := dk_3 (dk_at dksJ26_hasNext_0 18 rfl rfl)
theorem dJ26_hasNext_19 : decode cJ26_hasNext 19 = .ok (.ireturn, 1) := dk_172 (dk_at dksJ26_hasNext_0 19 rfl rfl)
theorem md_J26_hasNext : xMd yJ26_hasNext cJ26_hasNext 1 (Option.some Jvm.ClassFile.FieldType.boolean) 0 := ⟨q1837, q163, by decide, by decide +kernel, by decide +kernel, by decide +kernel⟩
def f_J26_hasNext (p0 : PH) (a0 : Nat) : Option (xO × PH) :=
  (xcl1 p0 a0 20 (xgI p0 a0 20 0 fun x1 =>
  (xgR p0 a0 20 3 fun x2 =>
  (xnul x2 none fun b3 =>
  (xgI p0 b3 14 2 fun x4 =>
  (if x1 = x4 then
  (if vp_nar .boolean 0 = 0 then rI 0 p0 else none) else
  (if vp_nar .boolean 1 = 1 then rI 1 p0 else none)))))))
theorem rc_J26_hasNext {p0 : PH} {a0 : Nat} : ∀ z, f_J26_hasNext p0 a0 = some z → xco p0 a0 = some 20 := fun z h => xcl1_some h
theorem f_J26_hasNext_ok {G : xG} (hO : xOK G) (p0 : PH) (a0 : Nat) : CT G 0 yJ26_hasNext cJ26_hasNext 1 (Option.some Jvm.ClassFile.FieldType.boolean) [.ref a0] p0 (f_J26_hasNext p0 a0) := by
  refine CT_of hO (by decide +kernel) (by decide +kernel) (Nat.le_of_ble_eq_true rfl) ?_
  show X G "java/util/ArrayList$Itr" "hasNext" cJ26_hasNext 1 (Option.some Jvm.ClassFile.FieldType.boolean) 0 0 [(0, .ref a0)] [] p0 (f_J26_hasNext p0 a0)
  refine x_cl1 (fun e0 => ?_)
  refine x_aload_nr 0 dJ26_hasNext_0 rfl rfl (n := 1) rfl ?_
  refine x_getI fl_J26_25 dJ26_hasNext_1 (n := 4) rfl (fun x1 => ?_)
  refine x_aload_nr 0 dJ26_hasNext_4 rfl rfl (n := 5) rfl ?_
  refine x_getR fl_J26_1 dJ26_hasNext_5 (n := 8) rfl (fun x2 => ?_)
  refine x_sm (fun b3 e => ?_)
  subst e
  refine x_getI fl_J26_28 dJ26_hasNext_8 (n := 11) rfl (fun x4 => ?_)
  refine x_icmp_eq dJ26_hasNext_11 (t := 18) (by decide) (n := 14) rfl (fun _ => ?_) (fun _ => ?_)
  · refine x_iconst 0 dJ26_hasNext_18 rfl (n := 19) rfl ?_
    exact x_nreturn rfl dJ26_hasNext_19
  · refine x_iconst 1 dJ26_hasNext_14 rfl (n := 15) rfl ?_
    refine x_goto dJ26_hasNext_15 (n := 19) (by decide) ?_
    exact x_nreturn rfl dJ26_hasNext_19
abbrev cJ36_hasNext : ByteArray := prog_82_method_2_code
def yJ36_hasNext : MethodName := ⟨RJ36, "hasNext", "()Z"⟩
def dkwJ36_hasNext_0 : List UInt8 := [42, 180, 0, 26, 198, 0, 7, 4, 167, 0, 4, 3, 172]
abbrev dktJ36_hasNext_0 : List UInt8 := dkwJ36_hasNext_0 ++ []
theorem dksJ36_hasNext_0 : cJ36_hasNext.data.toList.drop 0 = dktJ36_hasNext_0 := by decide +kernel
theorem dJ36_hasNext_0 : decode cJ36_hasNext 0 = .ok (.aload_n 0, 1) := dk_42 (dk_at dksJ36_hasNext_0 0 rfl rfl)
theorem dJ36_hasNext_1 : decode cJ36_hasNext 1 = .ok (.getfield 26, 3) := dk_180 0 26 (dk_at dksJ36_hasNext_0 1 rfl rfl)
theorem dJ36_hasNext_4 : decode cJ36_hasNext 4 = .ok (.ifnull 7, 3) := dk_198 0 7 (dk_at dksJ36_hasNext_0 4 rfl rfl)
theorem dJ36_hasNext_7 : decode cJ36_hasNext 7 = .ok (.iconst 1, 1) := dk_4 (dk_at dksJ36_hasNext_0 7 rfl rfl)
theorem dJ36_hasNext_8 : decode cJ36_hasNext 8 = .ok (.goto 4, 3) := dk_167 0 4 (dk_at dksJ36_hasNext_0 8 rfl rfl)
theorem dJ36_hasNext_11 : decode cJ36_hasNext 11 = .ok (.iconst 0, 1) := dk_3 (dk_at dksJ36_hasNext_0 11 rfl rfl)
theorem dJ36_hasNext_12 : decode cJ36_hasNext 12 = .ok (.ireturn, 1) := dk_172 (dk_at dksJ36_hasNext_0 12 rfl rfl)
theorem md_J36_hasNext : xMd yJ36_hasNext cJ36_hasNext 1 (Option.some Jvm.ClassFile.FieldType.boolean) 0 := ⟨q1856, q176, by decide, by decide +kernel, by decide +kernel, by decide +kernel⟩
def f_J36_hasNext (p0 : PH) (a0 : Nat) : Option (xO × PH) :=
  (xcl1 p0 a0 25 (xgR p0 a0 25 0 fun x1 =>
  (xnul x1 (if vp_nar .boolean 0 = 0 then rI 0 p0 else none) fun b2 =>
  (if vp_nar .boolean 1 = 1 then rI 1 p0 else none))))
theorem rc_J36_hasNext {p0 : PH} {a0 : Nat} : ∀ z, f_J36_hasNext p0 a0 = some z → xco p0 a0 = some 25 := fun z h => xcl1_some h
theorem f_J36_hasNext_ok {G : xG} (hO : xOK G) (p0 : PH) (a0 : Nat) : CT G 0 yJ36_hasNext cJ36_hasNext 1 (Option.some Jvm.ClassFile.FieldType.boolean) [.ref a0] p0 (f_J36_hasNext p0 a0) := by
  refine CT_of hO (by decide +kernel) (by decide +kernel) (Nat.le_of_ble_eq_true rfl) ?_
  show X G "java/util/TreeMap$PrivateEntryIterator" "hasNext" cJ36_hasNext 1 (Option.some Jvm.ClassFile.FieldType.boolean) 0 0 [(0, .ref a0)] [] p0 (f_J36_hasNext p0 a0)
  refine x_cl1 (fun e0 => ?_)
  refine x_aload_nr 0 dJ36_hasNext_0 rfl rfl (n := 1) rfl ?_
  refine x_getR fl_J36_26 dJ36_hasNext_1 (n := 4) rfl (fun x1 => ?_)
  refine x_ifnull dJ36_hasNext_4 (t := 11) (by decide) (n := 7) rfl (fun e => ?_) (fun b2 e => ?_)
  · subst e
    refine x_iconst 0 dJ36_hasNext_11 rfl (n := 12) rfl ?_
    exact x_nreturn rfl dJ36_hasNext_12
  · subst e
    refine x_iconst 1 dJ36_hasNext_7 rfl (n := 8) rfl ?_
    refine x_goto dJ36_hasNext_8 (n := 12) (by decide) ?_
    exact x_nreturn rfl dJ36_hasNext_12
abbrev cJ26_checkForComodification : ByteArray := prog_48_method_6_code
def yJ26_checkForComodification : MethodName := ⟨RJ26, "checkForComodification", "()V"⟩
def dkwJ26_checkForComodification_0 : List UInt8 := [42, 180, 0, 1, 180, 0, 17, 42, 180, 0, 22, 159, 0, 11, 187, 0, 41, 89, 183, 0, 43, 191, 177]
abbrev dktJ26_checkForComodification_0 : List UInt8 := dkwJ26_checkForComodification_0 ++ []
theorem dksJ26_checkForComodification_0 : cJ26_checkForComodification.data.toList.drop 0 = dktJ26_checkForComodification_0 := by decide +kernel
theorem dJ26_checkForComodification_0 : decode cJ26_checkForComodification 0 = .ok (.aload_n 0, 1) := dk_42 (dk_at dksJ26_checkForComodification_0 0 rfl rfl)
theorem dJ26_checkForComodification_1 : decode cJ26_checkForComodification 1 = .ok (.getfield 1, 3) := dk_180 0 1 (dk_at dksJ26_checkForComodification_0 1 rfl rfl)
theorem dJ26_checkForComodification_4 : decode cJ26_checkForComodification 4 = .ok (.getfield 17, 3) := dk_180 0 17 (dk_at dksJ26_checkForComodification_0 4 rfl rfl)
theorem dJ26_checkForComodification_7 : decode cJ26_checkForComodification 7 = .ok (.aload_n 0, 1) := dk_42 (dk_at dksJ26_checkForComodification_0 7 rfl rfl)
theorem dJ26_checkForComodification_8 : decode cJ26_checkForComodification 8 = .ok (.getfield 22, 3) := dk_180 0 22 (dk_at dksJ26_checkForComodification_0 8 rfl rfl)
theorem dJ26_checkForComodification_11 : decode cJ26_checkForComodification 11 = .ok (.if_icmp .eq 11, 3) := dk_159 0 11 (dk_at dksJ26_checkForComodification_0 11 rfl rfl)
theorem dJ26_checkForComodification_14 : decode cJ26_checkForComodification 14 = .ok (.new 41, 3) := dk_187 0 41 (dk_at dksJ26_checkForComodification_0 14 rfl rfl)
theorem dJ26_checkForComodification_17 : decode cJ26_checkForComodification 17 = .ok (.dup, 1) := dk_89 (dk_at dksJ26_checkForComodification_0 17 rfl rfl)
theorem dJ26_checkForComodification_18 : decode cJ26_checkForComodification 18 = .ok (.invokespecial 43, 3) := dk_183 0 43 (dk_at dksJ26_checkForComodification_0 18 rfl rfl)
theorem dJ26_checkForComodification_21 : decode cJ26_checkForComodification 21 = .ok (.athrow, 1) := dk_191 (dk_at dksJ26_checkForComodification_0 21 rfl rfl)
theorem dJ26_checkForComodification_22 : decode cJ26_checkForComodification 22 = .ok (.return_, 1) := dk_177 (dk_at dksJ26_checkForComodification_0 22 rfl rfl)
theorem md_J26_checkForComodification : xMd yJ26_checkForComodification cJ26_checkForComodification 1 (Option.none : Option Jvm.ClassFile.FieldType) 0 := ⟨q1905, q163, by decide, by decide +kernel, by decide +kernel, by decide +kernel⟩
def f_J26_checkForComodification (p0 : PH) (a0 : Nat) : Option (xO × PH) :=
  (xcl1 p0 a0 20 (xgR p0 a0 20 3 fun x1 =>
  (xnul x1 none fun b2 =>
  (xgI p0 b2 14 0 fun x3 =>
  (xgI p0 a0 20 2 fun x4 =>
  (if x3 = x4 then
  (rV p0) else
  none))))))
theorem rc_J26_checkForComodification {p0 : PH} {a0 : Nat} : ∀ z, f_J26_checkForComodification p0 a0 = some z → xco p0 a0 = some 20 := fun z h => xcl1_some h
theorem f_J26_checkForComodification_ok {G : xG} (hO : xOK G) (p0 : PH) (a0 : Nat) : CT G 0 yJ26_checkForComodification cJ26_checkForComodification 1 (Option.none : Option Jvm.ClassFile.FieldType) [.ref a0] p0 (f_J26_checkForComodification p0 a0) := by
  refine CT_of hO (by decide +kernel) (by decide +kernel) (Nat.le_of_ble_eq_true rfl) ?_
  show X G "java/util/ArrayList$Itr" "checkForComodification" cJ26_checkForComodification 1 (Option.none : Option Jvm.ClassFile.FieldType) 0 0 [(0, .ref a0)] [] p0 (f_J26_checkForComodification p0 a0)
  refine x_cl1 (fun e0 => ?_)
  refine x_aload_nr 0 dJ26_checkForComodification_0 rfl rfl (n := 1) rfl ?_
  refine x_getR fl_J26_1 dJ26_checkForComodification_1 (n := 4) rfl (fun x1 => ?_)
  refine x_sm (fun b2 e => ?_)
  subst e
  refine x_getI fl_J26_17 dJ26_checkForComodification_4 (n := 7) rfl (fun x3 => ?_)
  refine x_aload_nr 0 dJ26_checkForComodification_7 rfl rfl (n := 8) rfl ?_
  refine x_getI fl_J26_22 dJ26_checkForComodification_8 (n := 11) rfl (fun x4 => ?_)
  refine x_icmp_eq dJ26_checkForComodification_11 (t := 22) (by decide) (n := 14) rfl (fun _ => ?_) (fun _ => ?_)
  · exact x_return dJ26_checkForComodification_22
  · exact x_no
abbrev cJ26_next : ByteArray := prog_48_method_3_code
def yJ26_next : MethodName := ⟨RJ26, "next", "()Ljava/lang/Object;"⟩
def dkwJ26_next_2 : List UInt8 := [183, 0, 43, 191, 42, 27, 4, 96, 181, 0, 25, 44, 42, 27, 90, 181, 0, 13, 50, 176]
abbrev dktJ26_next_2 : List UInt8 := dkwJ26_next_2 ++ []
def dkwJ26_next_1 : List UInt8 := [183, 0, 36, 191, 42, 180, 0, 1, 180, 0, 37, 77, 27, 44, 190, 161, 0, 11, 187, 0, 41, 89]
abbrev dktJ26_next_1 : List UInt8 := dkwJ26_next_1 ++ dktJ26_next_2
def dkwJ26_next_0 : List UInt8 := [42, 182, 0, 31, 42, 180, 0, 25, 60, 27, 42, 180, 0, 1, 180, 0, 28, 161, 0, 11, 187, 0, 34, 89]
abbrev dktJ26_next_0 : List UInt8 := dkwJ26_next_0 ++ dktJ26_next_1
theorem dksJ26_next_0 : cJ26_next.data.toList.drop 0 = dktJ26_next_0 := by decide +kernel
theorem dksJ26_next_1 : cJ26_next.data.toList.drop 24 = dktJ26_next_1 := dk_seg dksJ26_next_0 24 rfl rfl
theorem dksJ26_next_2 : cJ26_next.data.toList.drop 46 = dktJ26_next_2 := dk_seg dksJ26_next_1 22 rfl rfl
theorem dJ26_next_0 : decode cJ26_next 0 = .ok (.aload_n 0, 1) := dk_42 (dk_at dksJ26_next_0 0 rfl rfl)
theorem dJ26_next_1 : decode cJ26_next 1 = .ok (.invokevirtual 31, 3) := dk_182 0 31 (dk_at dksJ26_next_0 1 rfl rfl)
theorem dJ26_next_4 : decode cJ26_next 4 = .ok (.aload_n 0, 1) := dk_42 (dk_at dksJ26_next_0 4 rfl rfl)
theorem dJ26_next_5 : decode cJ26_next 5 = .ok (.getfield 25, 3) := dk_180 0 25 (dk_at dksJ26_next_0 5 rfl rfl)
theorem dJ26_next_8 : decode cJ26_next 8 = .ok (.istore_n 1, 1) := dk_60 (dk_at dksJ26_next_0 8 rfl rfl)
theorem dJ26_next_9 : decode cJ26_next 9 = .ok (.iload_n 1, 1) := dk_27 (dk_at dksJ26_next_0 9 rfl rfl)
theorem dJ26_next_10 : decode cJ26_next 10 = .ok (.aload_n 0, 1) := dk_42 (dk_at dksJ26_next_0 10 rfl rfl)
theorem dJ26_next_11 : decode cJ26_next 11 = .ok (.getfield 1, 3) := dk_180 0 1 (dk_at dksJ26_next_0 11 rfl rfl)
theorem dJ26_next_14 : decode cJ26_next 14 = .ok (.getfield 28, 3) := dk_180 0 28 (dk_at dksJ26_next_0 14 rfl rfl)
theorem dJ26_next_17 : decode cJ26_next 17 = .ok (.if_icmp .lt 11, 3) := dk_161 0 11 (dk_at dksJ26_next_0 17 rfl rfl)
theorem dJ26_next_20 : decode cJ26_next 20 = .ok (.new 34, 3) := dk_187 0 34 (dk_at dksJ26_next_0 20 rfl rfl)
theorem dJ26_next_23 : decode cJ26_next 23 = .ok (.dup, 1) := dk_89 (dk_at dksJ26_next_0 23 rfl rfl)
theorem dJ26_next_24 : decode cJ26_next 24 = .ok (.invokespecial 36, 3) := dk_183 0 36 (dk_at dksJ26_next_1 0 rfl rfl)
theorem dJ26_next_27 : decode cJ26_next 27 = .ok (.athrow, 1) := dk_191 (dk_at dksJ26_next_1 3 rfl rfl)
theorem dJ26_next_28 : decode cJ26_next 28 = .ok (.aload_n 0, 1) := dk_42 (dk_at dksJ26_next_1 4 rfl rfl)
theorem dJ26_next_29 : decode cJ26_next 29 = .ok (.getfield 1, 3) := dk_180 0 1 (dk_at dksJ26_next_1 5 rfl rfl)
theorem dJ26_next_32 : decode cJ26_next 32 = .ok (.getfield 37, 3) := dk_180 0 37 (dk_at dksJ26_next_1 8 rfl rfl)
theorem dJ26_next_35 : decode cJ26_next 35 = .ok (.astore_n 2, 1) := dk_77 (dk_at dksJ26_next_1 11 rfl rfl)
theorem dJ26_next_36 : decode cJ26_next 36 = .ok (.iload_n 1, 1) := dk_27 (dk_at dksJ26_next_1 12 rfl rfl)
theorem dJ26_next_37 : decode cJ26_next 37 = .ok (.aload_n 2, 1) := dk_44 (dk_at dksJ26_next_1 13 rfl rfl)
theorem dJ26_next_38 : decode cJ26_next 38 = .ok (.arraylength, 1) := dk_190 (dk_at dksJ26_next_1 14 rfl rfl)
theorem dJ26_next_39 : decode cJ26_next 39 = .ok (.if_icmp .lt 11, 3) := dk_161 0 11 (dk_at dksJ26_next_1 15 rfl rfl)
theorem dJ26_next_42 : decode cJ26_next 42 = .ok (.new 41, 3) := dk_187 0 41 (dk_at dksJ26_next_1 18 rfl rfl)
theorem dJ26_next_45 : decode cJ26_next 45 = .ok (.dup, 1) := dk_89 (dk_at dksJ26_next_1 21 rfl rfl)
theorem dJ26_next_46 : decode cJ26_next 46 = .ok (.invokespecial 43, 3) := dk_183 0 43 (dk_at dksJ26_next_2 0 rfl rfl)
theorem dJ26_next_49 : decode cJ26_next 49 = .ok (.athrow, 1) := dk_191 (dk_at dksJ26_next_2 3 rfl rfl)
theorem dJ26_next_50 : decode cJ26_next 50 = .ok (.aload_n 0, 1) := dk_42 (dk_at dksJ26_next_2 4 rfl rfl)
theorem dJ26_next_51 : decode cJ26_next 51 = .ok (.iload_n 1, 1) := dk_27 (dk_at dksJ26_next_2 5 rfl rfl)
theorem dJ26_next_52 : decode cJ26_next 52 = .ok (.iconst 1, 1) := dk_4 (dk_at dksJ26_next_2 6 rfl rfl)
theorem dJ26_next_53 : decode cJ26_next 53 = .ok (.iadd, 1) := dk_96 (dk_at dksJ26_next_2 7 rfl rfl)
theorem dJ26_next_54 : decode cJ26_next 54 = .ok (.putfield 25, 3) := dk_181 0 25 (dk_at dksJ26_next_2 8 rfl rfl)
theorem dJ26_next_57 : decode cJ26_next 57 = .ok (.aload_n 2, 1) := dk_44 (dk_at dksJ26_next_2 11 rfl rfl)
theorem dJ26_next_58 : decode cJ26_next 58 = .ok (.aload_n 0, 1) := dk_42 (dk_at dksJ26_next_2 12 rfl rfl)
theorem dJ26_next_59 : decode cJ26_next 59 = .ok (.iload_n 1, 1) := dk_27 (dk_at dksJ26_next_2 13 rfl rfl)
theorem dJ26_next_60 : decode cJ26_next 60 = .ok (.dup_x1, 1) := dk_90 (dk_at dksJ26_next_2 14 rfl rfl)
theorem dJ26_next_61 : decode cJ26_next 61 = .ok (.putfield 13, 3) := dk_181 0 13 (dk_at dksJ26_next_2 15 rfl rfl)
theorem dJ26_next_64 : decode cJ26_next 64 = .ok (.aaload, 1) := dk_50 (dk_at dksJ26_next_2 18 rfl rfl)
theorem dJ26_next_65 : decode cJ26_next 65 = .ok (.areturn, 1) := dk_176 (dk_at dksJ26_next_2 19 rfl rfl)
theorem md_J26_next : xMd yJ26_next cJ26_next 3 (Option.some (Jvm.ClassFile.FieldType.object "java/lang/Object")) 0 := ⟨q1899, q163, by decide, by decide +kernel, by decide +kernel, by decide +kernel⟩
def f_J26_next (p0 : PH) (a0 : Nat) : Option (xO × PH) :=
  (xcl1 p0 a0 20 (xcV (f_J26_checkForComodification p0 a0 ) fun p1 =>
  (xgI p1 a0 20 0 fun x2 =>
  (xgR p1 a0 20 3 fun x3 =>
  (xnul x3 none fun b4 =>
  (xgI p1 b4 14 2 fun x5 =>
  (if x2 < x5 then
  (xgR p1 a0 20 3 fun x6 =>
  (xnul x6 none fun b7 =>
  (xgR p1 b7 14 1 fun x8 =>
  (xnul x8 none fun b9 =>
  (xlen p1 b9 fun x10 =>
  (if x2 < x10 then
  (xpF p1 a0 20 0 (.int (x2 + 1)) fun p11 =>
  (xpF p11 a0 20 1 (.int x2) fun p12 =>
  (xaR p12 b9 4 x2 fun x13 =>
  (rR x13 p12)))) else
  none)))))) else
  none)))))))
theorem rc_J26_next {p0 : PH} {a0 : Nat} : ∀ z, f_J26_next p0 a0 = some z → xco p0 a0 = some 20 := fun z h => xcl1_some h
theorem f_J26_next_ok {G : xG} (hO : xOK G) (p0 : PH) (a0 : Nat) : CT G 1 yJ26_next cJ26_next 3 (Option.some (Jvm.ClassFile.FieldType.object "java/lang/Object")) [.ref a0] p0 (f_J26_next p0 a0) := by
  refine CT_of hO (by decide +kernel) (by decide +kernel) (Nat.le_of_ble_eq_true rfl) ?_
  show X G "java/util/ArrayList$Itr" "next" cJ26_next 3 (Option.some (Jvm.ClassFile.FieldType.object "java/lang/Object")) 1 0 [(0, .ref a0)] [] p0 (f_J26_next p0 a0)
  refine x_cl1 (fun e0 => ?_)
  refine x_aload_nr 0 dJ26_next_0 rfl rfl (n := 1) rfl ?_
  refine x_callV_V [] [] (f_J26_checkForComodification_ok hO p0 a0 ) rc_J26_checkForComodification md_J26_checkForComodification rfl q1900 q1901 q1902 dJ26_next_1 rfl rfl (by decide) (Nat.le_of_ble_eq_true rfl) (n := 4) rfl (fun p1 => ?_)
  refine x_aload_nr 0 dJ26_next_4 rfl rfl (n := 5) rfl ?_
  refine x_getI fl_J26_25 dJ26_next_5 (n := 8) rfl (fun x2 => ?_)
  refine x_istore_n [(1, .int x2), (0, .ref a0)] dJ26_next_8 rfl (by decide) rfl (n := 9) rfl ?_
  refine x_iload_n 0 dJ26_next_9 rfl rfl (n := 10) rfl ?_
  refine x_aload_nr 1 dJ26_next_10 rfl rfl (n := 11) rfl ?_
  refine x_getR fl_J26_1 dJ26_next_11 (n := 14) rfl (fun x3 => ?_)
  refine x_sm (fun b4 e => ?_)
  subst e
  refine x_getI fl_J26_28 dJ26_next_14 (n := 17) rfl (fun x5 => ?_)
  refine x_icmp_lt dJ26_next_17 (t := 28) (by decide) (n := 20) rfl (fun _ => ?_) (fun _ => ?_)
  · refine x_aload_nr 1 dJ26_next_28 rfl rfl (n := 29) rfl ?_
    refine x_getR fl_J26_1 dJ26_next_29 (n := 32) rfl (fun x6 => ?_)
    refine x_sm (fun b7 e => ?_)
    subst e
    refine x_getR fl_J26_37 dJ26_next_32 (n := 35) rfl (fun x8 => ?_)
    refine x_astore_n [(2, va_rf x8), (1, .int x2), (0, .ref a0)] dJ26_next_35 rfl (by decide) rfl (n := 36) rfl ?_
    refine x_iload_n 1 dJ26_next_36 rfl rfl (n := 37) rfl ?_
    refine x_aload_n 0 dJ26_next_37 rfl rfl (n := 38) rfl ?_
    refine x_sm (fun b9 e => ?_)
    subst e
    refine x_alen dJ26_next_38 (n := 39) rfl (fun x10 => ?_)
    refine x_icmp_lt dJ26_next_39 (t := 50) (by decide) (n := 42) rfl (fun _ => ?_) (fun _ => ?_)
    · refine x_aload_nr 2 dJ26_next_50 rfl rfl (n := 51) rfl ?_
      refine x_iload_n 1 dJ26_next_51 rfl rfl (n := 52) rfl ?_
      refine x_iconst 1 dJ26_next_52 rfl (n := 53) rfl ?_
      refine x_iadd dJ26_next_53 (n := 54) rfl ?_
      refine x_pF (pl_J26_25 _ _ ⟨rfl, rfl⟩) dJ26_next_54 (n := 57) rfl (fun p11 => ?_)
      refine x_aload_nr 0 dJ26_next_57 rfl rfl (n := 58) rfl ?_
      refine x_aload_nr 2 dJ26_next_58 rfl rfl (n := 59) rfl ?_
      refine x_iload_n 1 dJ26_next_59 rfl rfl (n := 60) rfl ?_
      refine x_dup_x1 dJ26_next_60 rfl rfl (n := 61) rfl ?_
      refine x_pF (pl_J26_13 _ _ ⟨rfl, rfl⟩) dJ26_next_61 (n := 64) rfl (fun p12 => ?_)
      refine x_aald (t := 4) rfl rfl dJ26_next_64 (n := 65) rfl (fun x13 => ?_)
      exact x_areturn (x := x13) (Or.inl ⟨_, rfl⟩) dJ26_next_65
    · exact x_no
  · exact x_no
abbrev cJ5_successor : ByteArray := prog_77_method_74_code
def yJ5_successor : MethodName := ⟨RJ5, "successor", "(Ljava/util/TreeMap$Entry;)Ljava/util/TreeMap$Entry;"⟩
def dkwJ5_successor_2 : List UInt8 := [44, 43, 180, 0, 114, 166, 0, 13, 43, 77, 43, 180, 0, 124, 76, 167, 255, 237, 43, 176]
abbrev dktJ5_successor_2 : List UInt8 := dkwJ5_successor_2 ++ []
def dkwJ5_successor_1 : List UInt8 := [198, 0, 11, 43, 180, 0, 111, 76, 167, 255, 244, 43, 176, 42, 180, 0, 124, 76, 42, 77, 43, 198, 0, 21]
abbrev dktJ5_successor_1 : List UInt8 := dkwJ5_successor_1 ++ dktJ5_successor_2
def dkwJ5_successor_0 : List UInt8 := [42, 199, 0, 5, 1, 176, 42, 180, 0, 114, 198, 0, 25, 42, 180, 0, 114, 76, 43, 180, 0, 111]
abbrev dktJ5_successor_0 : List UInt8 := dkwJ5_successor_0 ++ dktJ5_successor_1
theorem dksJ5_successor_0 : cJ5_successor.data.toList.drop 0 = dktJ5_successor_0 := by decide +kernel
theorem dksJ5_successor_1 : cJ5_successor.data.toList.drop 22 = dktJ5_successor_1 := dk_seg dksJ5_successor_0 22 rfl rfl
theorem dksJ5_successor_2 : cJ5_successor.data.toList.drop 46 = dktJ5_successor_2 := dk_seg dksJ5_successor_1 24 rfl rfl
theorem dJ5_successor_0 : decode cJ5_successor 0 = .ok (.aload_n 0, 1) := dk_42 (dk_at dksJ5_successor_0 0 rfl rfl)
theorem dJ5_successor_1 : decode cJ5_successor 1 = .ok (.ifnonnull 5, 3) := dk_199 0 5 (dk_at dksJ5_successor_0 1 rfl rfl)
theorem dJ5_successor_4 : decode cJ5_successor 4 = .ok (.aconst_null, 1) := dk_1 (dk_at dksJ5_successor_0 4 rfl rfl)
theorem dJ5_successor_5 : decode cJ5_successor 5 = .ok (.areturn, 1) := dk_176 (dk_at dksJ5_successor_0 5 rfl rfl)
theorem dJ5_successor_6 : decode cJ5_successor 6 = .ok (.aload_n 0, 1) := dk_42 (dk_at dksJ5_successor_0 6 rfl rfl)
theorem dJ5_successor_7 : decode cJ5_successor 7 = .ok (.getfield 114, 3) := dk_180 0 114 (dk_at dksJ5_successor_0 7 rfl rfl)
theorem dJ5_successor_10 : decode cJ5_successor 10 = .ok (.ifnull 25, 3) := dk_198 0 25 (dk_at dksJ5_successor_0 10 rfl rfl)
theorem dJ5_successor_13 : decode cJ5_successor 13 = .ok (.aload_n 0, 1) := dk_42 (dk_at dksJ5_successor_0 13 rfl rfl)
theorem dJ5_successor_14 : decode cJ5_successor 14 = .ok (.getfield 114, 3) := dk_180 0 114 (dk_at dksJ5_successor_0 14 rfl rfl)
theorem dJ5_successor_17 : decode cJ5_successor 17 = .ok (.astore_n 1, 1) := dk_76 (dk_at dksJ5_successor_0 17 rfl rfl)
theorem dJ5_successor_18 : decode cJ5_successor 18 = .ok (.aload_n 1, 1) := dk_43 (dk_at dksJ5_successor_0 18 rfl rfl)
theorem dJ5_successor_19 : decode cJ5_successor 19 = .ok (.getfield 111, 3) := dk_180 0 111 (dk_at dksJ5_successor_0 19 rfl rfl)
theorem dJ5_successor_22 : decode cJ5_successor 22 = .ok (.ifnull 11, 3) := dk_198 0 11 (dk_at dksJ5_successor_1 0 rfl rfl)
theorem dJ5_successor_25 : decode cJ5_successor 25 = .ok (.aload_n 1, 1) := dk_43 (dk_at dksJ5_successor_1 3 rfl rfl)
theorem dJ5_successor_26 : decode cJ5_successor 26 = .ok (.getfield 111, 3) := dk_180 0 111 (dk_at dksJ5_successor_1 4 rfl rfl)
theorem dJ5_successor_29 : decode cJ5_successor 29 = .ok (.astore_n 1, 1) := dk_76 (dk_at dksJ5_successor_1 7 rfl rfl)
theorem dJ5_successor_30 : decode cJ5_successor 30 = .ok (.goto (-12), 3) := dk_167 255 244 (dk_at dksJ5_successor_1 8 rfl rfl)
theorem dJ5_successor_33 : decode cJ5_successor 33 = .ok (.aload_n 1, 1) := dk_43 (dk_at dksJ5_successor_1 11 rfl rfl)
theorem dJ5_successor_34 : decode cJ5_successor 34 = .ok (.areturn, 1) := dk_176 (dk_at dksJ5_successor_1 12 rfl rfl)
theorem dJ5_successor_35 : decode cJ5_successor 35 = .ok (.aload_n 0, 1) := dk_42 (dk_at dksJ5_successor_1 13 rfl rfl)
theorem dJ5_successor_36 : decode cJ5_successor 36 = .ok (.getfield 124, 3) := dk_180 0 124 (dk_at dksJ5_successor_1 14 rfl rfl)
theorem dJ5_successor_39 : decode cJ5_successor 39 = .ok (.astore_n 1, 1) := dk_76 (dk_at dksJ5_successor_1 17 rfl rfl)
theorem dJ5_successor_40 : decode cJ5_successor 40 = .ok (.aload_n 0, 1) := dk_42 (dk_at dksJ5_successor_1 18 rfl rfl)
theorem dJ5_successor_41 : decode cJ5_successor 41 = .ok (.astore_n 2, 1) := dk_77 (dk_at dksJ5_successor_1 19 rfl rfl)
theorem dJ5_successor_42 : decode cJ5_successor 42 = .ok (.aload_n 1, 1) := dk_43 (dk_at dksJ5_successor_1 20 rfl rfl)
theorem dJ5_successor_43 : decode cJ5_successor 43 = .ok (.ifnull 21, 3) := dk_198 0 21 (dk_at dksJ5_successor_1 21 rfl rfl)
theorem dJ5_successor_46 : decode cJ5_successor 46 = .ok (.aload_n 2, 1) := dk_44 (dk_at dksJ5_successor_2 0 rfl rfl)
theorem dJ5_successor_47 : decode cJ5_successor 47 = .ok (.aload_n 1, 1) := dk_43 (dk_at dksJ5_successor_2 1 rfl rfl)
theorem dJ5_successor_48 : decode cJ5_successor 48 = .ok (.getfield 114, 3) := dk_180 0 114 (dk_at dksJ5_successor_2 2 rfl rfl)
theorem dJ5_successor_51 : decode cJ5_successor 51 = .ok (.if_acmp .ne 13, 3) := dk_166 0 13 (dk_at dksJ5_successor_2 5 rfl rfl)
theorem dJ5_successor_54 : decode cJ5_successor 54 = .ok (.aload_n 1, 1) := dk_43 (dk_at dksJ5_successor_2 8 rfl rfl)
theorem dJ5_successor_55 : decode cJ5_successor 55 = .ok (.astore_n 2, 1) := dk_77 (dk_at dksJ5_successor_2 9 rfl rfl)
theorem dJ5_successor_56 : decode cJ5_successor 56 = .ok (.aload_n 1, 1) := dk_43 (dk_at dksJ5_successor_2 10 rfl rfl)
theorem dJ5_successor_57 : decode cJ5_successor 57 = .ok (.getfield 124, 3) := dk_180 0 124 (dk_at dksJ5_successor_2 11 rfl rfl)
theorem dJ5_successor_60 : decode cJ5_successor 60 = .ok (.astore_n 1, 1) := dk_76 (dk_at dksJ5_successor_2 14 rfl rfl)
theorem dJ5_successor_61 : decode cJ5_successor 61 = .ok (.goto (-19), 3) := dk_167 255 237 (dk_at dksJ5_successor_2 15 rfl rfl)
theorem dJ5_successor_64 : decode cJ5_successor 64 = .ok (.aload_n 1, 1) := dk_43 (dk_at dksJ5_successor_2 18 rfl rfl)
theorem dJ5_successor_65 : decode cJ5_successor 65 = .ok (.areturn, 1) := dk_176 (dk_at dksJ5_successor_2 19 rfl rfl)
theorem md_J5_successor : xMd yJ5_successor cJ5_successor 3 (Option.some (Jvm.ClassFile.FieldType.object "java/util/TreeMap$Entry")) 1 := ⟨q1944, q132, by decide, by decide +kernel, by decide +kernel, by decide +kernel⟩
def f_J5_successor_42F   (k42 : Option Nat × Option Nat × PH → Option (xO × PH)) (p : Option Nat × Option Nat × PH) : Option (xO × PH) := match p with
  | (v1, v2, p0) => (xnul v1 (rR none p0) fun b5 =>
  (xgR p0 b5 19 3 fun x6 =>
  (if v2 = x6 then
  (xgR p0 b5 19 4 fun x7 =>
  (k42 (x7, ((some b5)), p0))) else
  (rR (some b5) p0))))
def f_J5_successor_18F   (k18 : Option Nat × PH → Option (xO × PH)) (p : Option Nat × PH) : Option (xO × PH) := match p with
  | (v1, p0) => (xnul v1 none fun b9 =>
  (xgR p0 b9 19 2 fun x10 =>
  (xnul x10 (rR (some b9) p0) fun b11 =>
  (xgR p0 b9 19 2 fun x12 =>
  (k18 (x12, p0))))))
def f_J5_successor (p0 : PH) (a0 : Option Nat) : Option (xO × PH) :=
  (xnul a0 (rR none p0) fun b1 =>
  (xgR p0 b1 19 3 fun x2 =>
  (xnul x2 (xgR p0 b1 19 4 fun x4 =>
  (lp (f_J5_successor_42F) FU (x4, ((some b1)), p0))) fun b3 =>
  (xgR p0 b1 19 3 fun x8 =>
  (lp (f_J5_successor_18F) FU (x8, p0))))))
theorem f_J5_successor_42F_ok {G : xG} (hO : xOK G)   {k42 : Option Nat × Option Nat × PH → Option (xO × PH)} (hk42 : ∀ (v1 : Option Nat) (v2 : Option Nat) (p0 : PH), X G "java/util/TreeMap" "successor" cJ5_successor 3 (Option.some (Jvm.ClassFile.FieldType.object "java/util/TreeMap$Entry")) 0 42 [(1, va_rf v1), (2, va_rf v2)] [] p0 (k42 (v1, v2, p0))) (v1 : Option Nat) (v2 : Option Nat) (p0 : PH) : X G "java/util/TreeMap" "successor" cJ5_successor 3 (Option.some (Jvm.ClassFile.FieldType.object "java/util/TreeMap$Entry")) 0 42 [(1, va_rf v1), (2, va_rf v2)] [] p0 (f_J5_successor_42F k42 (v1, v2, p0)) := by
  unfold f_J5_successor_42F
  refine x_aload_n 0 dJ5_successor_42 rfl rfl (n := 43) rfl ?_
  refine x_ifnull dJ5_successor_43 (t := 64) (by decide) (n := 46) rfl (fun e => ?_) (fun b5 e => ?_)
  · subst e
    refine x_aload_n 0 dJ5_successor_64 rfl rfl (n := 65) rfl ?_
    exact x_areturn (x := none) (Or.inl ⟨_, rfl⟩) dJ5_successor_65
  · subst e
    refine x_aload_n 1 dJ5_successor_46 rfl rfl (n := 47) rfl ?_
    refine x_aload_nr 0 dJ5_successor_47 rfl rfl (n := 48) rfl ?_
    refine x_getR fl_J5_114 dJ5_successor_48 (n := 51) rfl (fun x6 => ?_)
    refine x_acmp_ne (x := v2) (y := x6) dJ5_successor_51 (t := 64) (by decide) (n := 54) rfl (fun _ => ?_) (fun _ => ?_)
    · refine x_aload_nr 0 dJ5_successor_64 rfl rfl (n := 65) rfl ?_
      exact x_areturn (x := some b5) (Or.inl ⟨_, rfl⟩) dJ5_successor_65
    · refine x_aload_nr 0 dJ5_successor_54 rfl rfl (n := 55) rfl ?_
      refine x_astore_nr [(2, .ref b5), (1, .ref b5)] dJ5_successor_55 rfl (by decide) rfl (n := 56) rfl ?_
      refine x_aload_nr 1 dJ5_successor_56 rfl rfl (n := 57) rfl ?_
      refine x_getR fl_J5_124 dJ5_successor_57 (n := 60) rfl (fun x7 => ?_)
      refine x_astore_n [(1, va_rf x7), (2, .ref b5)] dJ5_successor_60 rfl (by decide) rfl (n := 61) rfl ?_
      refine x_goto dJ5_successor_61 (n := 42) (by decide) ?_
      exact hk42 x7 ((some b5)) p0
theorem f_J5_successor_42_lp {G : xG} (hO : xOK G)   (n : Nat) (v1 : Option Nat) (v2 : Option Nat) (p0 : PH) : X G "java/util/TreeMap" "successor" cJ5_successor 3 (Option.some (Jvm.ClassFile.FieldType.object "java/util/TreeMap$Entry")) 0 42 [(1, va_rf v1), (2, va_rf v2)] [] p0 (lp (f_J5_successor_42F) n (v1, v2, p0)) :=
  lp_ok (W := fun p K => X G "java/util/TreeMap" "successor" cJ5_successor 3 (Option.some (Jvm.ClassFile.FieldType.object "java/util/TreeMap$Entry")) 0 42 [(1, va_rf p.1), (2, va_rf p.2.1)] [] p.2.2 K) (fun _ => x_no) (fun k hk => fun (v1, v2, p0) => f_J5_successor_42F_ok hO (fun v1 v2 p0 => hk (v1, v2, p0)) v1 v2 p0) n (v1, v2, p0)
theorem f_J5_successor_18F_ok {G : xG} (hO : xOK G)   {k18 : Option Nat × PH → Option (xO × PH)} (hk18 : ∀ (v1 : Option Nat) (p0 : PH), X G "java/util/TreeMap" "successor" cJ5_successor 3 (Option.some (Jvm.ClassFile.FieldType.object "java/util/TreeMap$Entry")) 0 18 [(1, va_rf v1)] [] p0 (k18 (v1, p0))) (v1 : Option Nat) (p0 : PH) : X G "java/util/TreeMap" "successor" cJ5_successor 3 (Option.some (Jvm.ClassFile.FieldType.object "java/util/TreeMap$Entry")) 0 18 [(1, va_rf v1)] [] p0 (f_J5_successor_18F k18 (v1, p0)) := by
  unfold f_J5_successor_18F
  refine x_aload_n 0 dJ5_successor_18 rfl rfl (n := 19) rfl ?_
  refine x_sm (fun b9 e => ?_)
  subst e
  refine x_getR fl_J5_111 dJ5_successor_19 (n := 22) rfl (fun x10 => ?_)
  refine x_ifnull dJ5_successor_22 (t := 33) (by decide) (n := 25) rfl (fun e => ?_) (fun b11 e => ?_)
  · subst e
    refine x_aload_nr 0 dJ5_successor_33 rfl rfl (n := 34) rfl ?_
    exact x_areturn (x := some b9) (Or.inl ⟨_, rfl⟩) dJ5_successor_34
  · subst e
    refine x_aload_nr 0 dJ5_successor_25 rfl rfl (n := 26) rfl ?_
    refine x_getR fl_J5_111 dJ5_successor_26 (n := 29) rfl (fun x12 => ?_)
    refine x_astore_n [(1, va_rf x12)] dJ5_successor_29 rfl (by decide) rfl (n := 30) rfl ?_
    refine x_goto dJ5_successor_30 (n := 18) (by decide) ?_
    exact hk18 x12 p0
theorem f_J5_successor_18_lp {G : xG} (hO : xOK G)   (n : Nat) (v1 : Option Nat) (p0 : PH) : X G "java/util/TreeMap" "successor" cJ5_successor 3 (Option.some (Jvm.ClassFile.FieldType.object "java/util/TreeMap$Entry")) 0 18 [(1, va_rf v1)] [] p0 (lp (f_J5_successor_18F) n (v1, p0)) :=
  lp_ok (W := fun p K => X G "java/util/TreeMap" "successor" cJ5_successor 3 (Option.some (Jvm.ClassFile.FieldType.object "java/util/TreeMap$Entry")) 0 18 [(1, va_rf p.1)] [] p.2 K) (fun _ => x_no) (fun k hk => fun (v1, p0) => f_J5_successor_18F_ok hO (fun v1 p0 => hk (v1, p0)) v1 p0) n (v1, p0)
theorem f_J5_successor_ok {G : xG} (hO : xOK G) (p0 : PH) (a0 : Option Nat) : CT G 0 yJ5_successor cJ5_successor 3 (Option.some (Jvm.ClassFile.FieldType.object "java/util/TreeMap$Entry")) [va_rf a0] p0 (f_J5_successor p0 a0) := by
  refine CT_of hO (by decide +kernel) (by decide +kernel) (lg_slen _ (by simp only [List.map, xcat]; exact Nat.le_of_ble_eq_true rfl)) ?_
  rw [show lv_args 0 [va_rf a0] = [(0, va_rf a0)] from by simp only [lv_args, xcat] <;> rfl]
  show X G "java/util/TreeMap" "successor" cJ5_successor 3 (Option.some (Jvm.ClassFile.FieldType.object "java/util/TreeMap$Entry")) 0 0 [(0, va_rf a0)] [] p0 (f_J5_successor p0 a0)
  refine x_aload_n 0 dJ5_successor_0 rfl rfl (n := 1) rfl ?_
  refine x_ifnonnull dJ5_successor_1 (t := 6) (by decide) (n := 4) rfl (fun e => ?_) (fun b1 e => ?_)
  · subst e
    refine x_null dJ5_successor_4 (n := 5) rfl ?_
    exact x_areturn (x := none) (Or.inl ⟨_, rfl⟩) dJ5_successor_5
  · subst e
    refine x_aload_nr 0 dJ5_successor_6 rfl rfl (n := 7) rfl ?_
    refine x_getR fl_J5_114 dJ5_successor_7 (n := 10) rfl (fun x2 => ?_)
    refine x_ifnull dJ5_successor_10 (t := 35) (by decide) (n := 13) rfl (fun e => ?_) (fun b3 e => ?_)
    · subst e
      refine x_aload_nr 0 dJ5_successor_35 rfl rfl (n := 36) rfl ?_
      refine x_getR fl_J5_124 dJ5_successor_36 (n := 39) rfl (fun x4 => ?_)
      refine x_astore_n [(1, va_rf x4), (0, .ref b1)] dJ5_successor_39 rfl (by decide) rfl (n := 40) rfl ?_
      refine x_aload_nr 1 dJ5_successor_40 rfl rfl (n := 41) rfl ?_
      refine x_astore_nr [(2, .ref b1), (1, va_rf x4), (0, .ref b1)] dJ5_successor_41 rfl (by decide) (by simp only [xst, List.filter_cons, List.filter_nil, xcat] <;> rfl) (n := 42) rfl ?_
      refine x_sub [1, 0] [(1, va_rf x4), (2, .ref b1)] rfl ?_
      exact f_J5_successor_42_lp hO FU x4 ((some b1)) p0
    · subst e
      refine x_aload_nr 0 dJ5_successor_13 rfl rfl (n := 14) rfl ?_
      refine x_getR fl_J5_114 dJ5_successor_14 (n := 17) rfl (fun x8 => ?_)
      refine x_astore_n [(1, va_rf x8), (0, .ref b1)] dJ5_successor_17 rfl (by decide) rfl (n := 18) rfl ?_
      refine x_sub [0] [(1, va_rf x8)] rfl ?_
      exact f_J5_successor_18_lp hO FU x8 p0
abbrev cJ36_nextEntry : ByteArray := prog_82_method_3_code
def yJ36_nextEntry : MethodName := ⟨RJ36, "nextEntry", "()Ljava/util/TreeMap$Entry;"⟩
def dkwJ36_nextEntry_2 : List UInt8 := [43, 181, 0, 22, 43, 176]
abbrev dktJ36_nextEntry_2 : List UInt8 := dkwJ36_nextEntry_2 ++ []
def dkwJ36_nextEntry_1 : List UInt8 := [42, 180, 0, 19, 159, 0, 11, 187, 0, 32, 89, 183, 0, 34, 191, 42, 43, 184, 0, 35, 181, 0, 26, 42]
abbrev dktJ36_nextEntry_1 : List UInt8 := dkwJ36_nextEntry_1 ++ dktJ36_nextEntry_2
def dkwJ36_nextEntry_0 : List UInt8 := [42, 180, 0, 26, 76, 43, 199, 0, 11, 187, 0, 29, 89, 183, 0, 31, 191, 42, 180, 0, 1, 180, 0, 13]
abbrev dktJ36_nextEntry_0 : List UInt8 := dkwJ36_nextEntry_0 ++ dktJ36_nextEntry_1
theorem dksJ36_nextEntry_0 : cJ36_nextEntry.data.toList.drop 0 = dktJ36_nextEntry_0 := by decide +kernel
theorem dksJ36_nextEntry_1 : cJ36_nextEntry.data.toList.drop 24 = dktJ36_nextEntry_1 := dk_seg dksJ36_nextEntry_0 24 rfl rfl
theorem dksJ36_nextEntry_2 : cJ36_nextEntry.data.toList.drop 48 = dktJ36_nextEntry_2 := dk_seg dksJ36_nextEntry_1 24 rfl rfl
theorem dJ36_nextEntry_0 : decode cJ36_nextEntry 0 = .ok (.aload_n 0, 1) := dk_42 (dk_at dksJ36_nextEntry_0 0 rfl rfl)
theorem dJ36_nextEntry_1 : decode cJ36_nextEntry 1 = .ok (.getfield 26, 3) := dk_180 0 26 (dk_at dksJ36_nextEntry_0 1 rfl rfl)
theorem dJ36_nextEntry_4 : decode cJ36_nextEntry 4 = .ok (.astore_n 1, 1) := dk_76 (dk_at dksJ36_nextEntry_0 4 rfl rfl)
theorem dJ36_nextEntry_5 : decode cJ36_nextEntry 5 = .ok (.aload_n 1, 1) := dk_43 (dk_at dksJ36_nextEntry_0 5 rfl rfl)
theorem dJ36_nextEntry_6 : decode cJ36_nextEntry 6 = .ok (.ifnonnull 11, 3) := dk_199 0 11 (dk_at dksJ36_nextEntry_0 6 rfl rfl)
theorem dJ36_nextEntry_9 : decode cJ36_nextEntry 9 = .ok (.new 29, 3) := dk_187 0 29 (dk_at dksJ36_nextEntry_0 9 rfl rfl)
theorem dJ36_nextEntry_12 : decode cJ36_nextEntry 12 = .ok (.dup, 1) := dk_89 (dk_at dksJ36_nextEntry_0 12 rfl rfl)
theorem dJ36_nextEntry_13 : decode cJ36_nextEntry 13 = .ok (.invokespecial 31, 3) := dk_183 0 31 (dk_at dksJ36_nextEntry_0 13 rfl rfl)
theorem dJ36_nextEntry_16 : decode cJ36_nextEntry 16 = .ok (.athrow, 1) := dk_191 (dk_at dksJ36_nextEntry_0 16 rfl rfl)
theorem dJ36_nextEntry_17 : decode cJ36_nextEntry 17 = .ok (.aload_n 0, 1) := dk_42 (dk_at dksJ36_nextEntry_0 17 rfl rfl)
theorem dJ36_nextEntry_18 : decode cJ36_nextEntry 18 = .ok (.getfield 1, 3) := dk_180 0 1 (dk_at dksJ36_nextEntry_0 18 rfl rfl)
theorem dJ36_nextEntry_21 : decode cJ36_nextEntry 21 = .ok (.getfield 13, 3) := dk_180 0 13 (dk_at dksJ36_nextEntry_0 21 rfl rfl)
theorem dJ36_nextEntry_24 : decode cJ36_nextEntry 24 = .ok (.aload_n 0, 1) := dk_42 (dk_at dksJ36_nextEntry_1 0 rfl rfl)
theorem dJ36_nextEntry_25 : decode cJ36_nextEntry 25 = .ok (.getfield 19, 3) := dk_180 0 19 (dk_at dksJ36_nextEntry_1 1 rfl rfl)
theorem dJ36_nextEntry_28 : decode cJ36_nextEntry 28 = .ok (.if_icmp .eq 11, 3) := dk_159 0 11 (dk_at dksJ36_nextEntry_1 4 rfl rfl)
theorem dJ36_nextEntry_31 : decode cJ36_nextEntry 31 = .ok (.new 32, 3) := dk_187 0 32 (dk_at dksJ36_nextEntry_1 7 rfl rfl)
theorem dJ36_nextEntry_34 : decode cJ36_nextEntry 34 = .ok (.dup, 1) := dk_89 (dk_at dksJ36_nextEntry_1 10 rfl rfl)
theorem dJ36_nextEntry_35 : decode cJ36_nextEntry 35 = .ok (.invokespecial 34, 3) := dk_183 0 34 (dk_at dksJ36_nextEntry_1 11 rfl rfl)
theorem dJ36_nextEntry_38 : decode cJ36_nextEntry 38 = .ok (.athrow, 1) := dk_191 (dk_at dksJ36_nextEntry_1 14 rfl rfl)
theorem dJ36_nextEntry_39 : decode cJ36_nextEntry 39 = .ok (.aload_n 0, 1) := dk_42 (dk_at dksJ36_nextEntry_1 15 rfl rfl)
theorem dJ36_nextEntry_40 : decode cJ36_nextEntry 40 = .ok (.aload_n 1, 1) := dk_43 (dk_at dksJ36_nextEntry_1 16 rfl rfl)
theorem dJ36_nextEntry_41 : decode cJ36_nextEntry 41 = .ok (.invokestatic 35, 3) := dk_184 0 35 (dk_at dksJ36_nextEntry_1 17 rfl rfl)
theorem dJ36_nextEntry_44 : decode cJ36_nextEntry 44 = .ok (.putfield 26, 3) := dk_181 0 26 (dk_at dksJ36_nextEntry_1 20 rfl rfl)
theorem dJ36_nextEntry_47 : decode cJ36_nextEntry 47 = .ok (.aload_n 0, 1) := dk_42 (dk_at dksJ36_nextEntry_1 23 rfl rfl)
theorem dJ36_nextEntry_48 : decode cJ36_nextEntry 48 = .ok (.aload_n 1, 1) := dk_43 (dk_at dksJ36_nextEntry_2 0 rfl rfl)
theorem dJ36_nextEntry_49 : decode cJ36_nextEntry 49 = .ok (.putfield 22, 3) := dk_181 0 22 (dk_at dksJ36_nextEntry_2 1 rfl rfl)
theorem dJ36_nextEntry_52 : decode cJ36_nextEntry 52 = .ok (.aload_n 1, 1) := dk_43 (dk_at dksJ36_nextEntry_2 4 rfl rfl)
theorem dJ36_nextEntry_53 : decode cJ36_nextEntry 53 = .ok (.areturn, 1) := dk_176 (dk_at dksJ36_nextEntry_2 5 rfl rfl)
theorem md_J36_nextEntry : xMd yJ36_nextEntry cJ36_nextEntry 2 (Option.some (Jvm.ClassFile.FieldType.object "java/util/TreeMap$Entry")) 0 := ⟨q1939, q176, by decide, by decide +kernel, by decide +kernel, by decide +kernel⟩
def f_J36_nextEntry (p0 : PH) (a0 : Nat) : Option (xO × PH) :=
  (xcl1 p0 a0 25 (xgR p0 a0 25 0 fun x1 =>
  (xnul x1 none fun b2 =>
  (xgR p0 a0 25 3 fun x3 =>
  (xnul x3 none fun b4 =>
  (xgI p0 b4 15 5 fun x5 =>
  (xgI p0 a0 25 2 fun x6 =>
  (if x5 = x6 then
  (xcR (f_J5_successor p0 (some b2)) fun x8 p7 =>
  (xpF p7 a0 25 0 (va_rf x8) fun p9 =>
  (xpF p9 a0 25 1 (.ref b2) fun p10 =>
  (rR (some b2) p10)))) else
  none))))))))
theorem rc_J36_nextEntry {p0 : PH} {a0 : Nat} : ∀ z, f_J36_nextEntry p0 a0 = some z → xco p0 a0 = some 25 := fun z h => xcl1_some h
theorem f_J36_nextEntry_ok {G : xG} (hO : xOK G) (p0 : PH) (a0 : Nat) : CT G 1 yJ36_nextEntry cJ36_nextEntry 2 (Option.some (Jvm.ClassFile.FieldType.object "java/util/TreeMap$Entry")) [.ref a0] p0 (f_J36_nextEntry p0 a0) := by
  refine CT_of hO (by decide +kernel) (by decide +kernel) (Nat.le_of_ble_eq_true rfl) ?_
  show X G "java/util/TreeMap$PrivateEntryIterator" "nextEntry" cJ36_nextEntry 2 (Option.some (Jvm.ClassFile.FieldType.object "java/util/TreeMap$Entry")) 1 0 [(0, .ref a0)] [] p0 (f_J36_nextEntry p0 a0)
  refine x_cl1 (fun e0 => ?_)
  refine x_aload_nr 0 dJ36_nextEntry_0 rfl rfl (n := 1) rfl ?_
  refine x_getR fl_J36_26 dJ36_nextEntry_1 (n := 4) rfl (fun x1 => ?_)
  refine x_astore_n [(1, va_rf x1), (0, .ref a0)] dJ36_nextEntry_4 rfl (by decide) rfl (n := 5) rfl ?_
  refine x_aload_n 0 dJ36_nextEntry_5 rfl rfl (n := 6) rfl ?_
  refine x_ifnonnull dJ36_nextEntry_6 (t := 17) (by decide) (n := 9) rfl (fun e => ?_) (fun b2 e => ?_)
  · subst e
    exact x_no
  · subst e
    refine x_aload_nr 1 dJ36_nextEntry_17 rfl rfl (n := 18) rfl ?_
    refine x_getR fl_J36_1 dJ36_nextEntry_18 (n := 21) rfl (fun x3 => ?_)
    refine x_sm (fun b4 e => ?_)
    subst e
    refine x_getI fl_J36_13 dJ36_nextEntry_21 (n := 24) rfl (fun x5 => ?_)
    refine x_aload_nr 1 dJ36_nextEntry_24 rfl rfl (n := 25) rfl ?_
    refine x_getI fl_J36_19 dJ36_nextEntry_25 (n := 28) rfl (fun x6 => ?_)
    refine x_icmp_eq dJ36_nextEntry_28 (t := 39) (by decide) (n := 31) rfl (fun _ => ?_) (fun _ => ?_)
    · refine x_aload_nr 1 dJ36_nextEntry_39 rfl rfl (n := 40) rfl ?_
      refine x_aload_nr 0 dJ36_nextEntry_40 rfl rfl (n := 41) rfl ?_
      refine x_callS_R [.ref b2] [.ref a0] (f_J5_successor_ok hO p0 (some b2)) md_J5_successor q1942 q1943 dJ36_nextEntry_41 rfl rfl (by decide) (Nat.le_of_ble_eq_true rfl) (n := 44) rfl (fun x8 p7 => ?_)
      refine x_pF (pl_J36_26 _ _ (xfit_o (x8))) dJ36_nextEntry_44 (n := 47) rfl (fun p9 => ?_)
      refine x_aload_nr 1 dJ36_nextEntry_47 rfl rfl (n := 48) rfl ?_
      refine x_aload_nr 0 dJ36_nextEntry_48 rfl rfl (n := 49) rfl ?_
      refine x_pF (pl_J36_22 _ _ (xfit_o (some b2))) dJ36_nextEntry_49 (n := 52) rfl (fun p10 => ?_)
      refine x_aload_nr 0 dJ36_nextEntry_52 rfl rfl (n := 53) rfl ?_
      exact x_areturn (x := some b2) (Or.inl ⟨_, rfl⟩) dJ36_nextEntry_53
    · exact x_no
abbrev cJ37_next : ByteArray := prog_79_method_2_code
def yJ37_next : MethodName := ⟨RJ37, "next", "()Ljava/lang/Object;"⟩
def dkwJ37_next_0 : List UInt8 := [42, 182, 0, 7, 180, 0, 13, 176]
abbrev dktJ37_next_0 : List UInt8 := dkwJ37_next_0 ++ []
theorem dksJ37_next_0 : cJ37_next.data.toList.drop 0 = dktJ37_next_0 := by decide +kernel
theorem dJ37_next_0 : decode cJ37_next 0 = .ok (.aload_n 0, 1) := dk_42 (dk_at dksJ37_next_0 0 rfl rfl)
theorem dJ37_next_1 : decode cJ37_next 1 = .ok (.invokevirtual 7, 3) := dk_182 0 7 (dk_at dksJ37_next_0 1 rfl rfl)
theorem dJ37_next_4 : decode cJ37_next 4 = .ok (.getfield 13, 3) := dk_180 0 13 (dk_at dksJ37_next_0 4 rfl rfl)
theorem dJ37_next_7 : decode cJ37_next 7 = .ok (.areturn, 1) := dk_176 (dk_at dksJ37_next_0 7 rfl rfl)
theorem md_J37_next : xMd yJ37_next cJ37_next 1 (Option.some (Jvm.ClassFile.FieldType.object "java/lang/Object")) 0 := ⟨q1933, q177, by decide, by decide +kernel, by decide +kernel, by decide +kernel⟩
def f_J37_next (p0 : PH) (a0 : Nat) : Option (xO × PH) :=
  (xcl1 p0 a0 25 (xcR (f_J36_nextEntry p0 a0 ) fun x2 p1 =>
  (xnul x2 none fun b3 =>
  (xgR p1 b3 19 0 fun x4 =>
  (rR x4 p1)))))
theorem rc_J37_next {p0 : PH} {a0 : Nat} : ∀ z, f_J37_next p0 a0 = some z → xco p0 a0 = some 25 := fun z h => xcl1_some h
theorem f_J37_next_ok {G : xG} (hO : xOK G) (p0 : PH) (a0 : Nat) : CT G 2 yJ37_next cJ37_next 1 (Option.some (Jvm.ClassFile.FieldType.object "java/lang/Object")) [.ref a0] p0 (f_J37_next p0 a0) := by
  refine CT_of hO (by decide +kernel) (by decide +kernel) (Nat.le_of_ble_eq_true rfl) ?_
  show X G "java/util/TreeMap$KeyIterator" "next" cJ37_next 1 (Option.some (Jvm.ClassFile.FieldType.object "java/lang/Object")) 2 0 [(0, .ref a0)] [] p0 (f_J37_next p0 a0)
  refine x_cl1 (fun e0 => ?_)
  refine x_aload_nr 0 dJ37_next_0 rfl rfl (n := 1) rfl ?_
  refine x_callU_R (x := ⟨"java/util/TreeMap$KeyIterator", "nextEntry", "()Ljava/util/TreeMap$Entry;"⟩) (owner := "java/util/TreeMap$PrivateEntryIterator") [] [] (f_J36_nextEntry_ok hO p0 a0 ) rc_J36_nextEntry md_J36_nextEntry rfl q1934 q1935 ⟨by decide +kernel, by decide +kernel⟩ (Or.inl rfl) q1938 q1937 (by decide +kernel) dJ37_next_1 rfl rfl (by decide) (Nat.le_of_ble_eq_true rfl) (n := 4) rfl (fun x2 p1 => ?_)
  refine x_sm (fun b3 e => ?_)
  subst e
  refine x_getR fl_J37_13 dJ37_next_4 (n := 7) rfl (fun x4 => ?_)
  exact x_areturn (x := x4) (Or.inl ⟨_, rfl⟩) dJ37_next_7
abbrev cX1_placeOf : ByteArray := prog_1_method_21_code
def yX1_placeOf : MethodName := ⟨RX1, "placeOf", "(I)I"⟩
def dkwX1_placeOf_4 : List UInt8 := [182, 0, 161, 162, 0, 7, 4, 167, 0, 4, 3, 96, 61, 167, 255, 183, 28, 172]
abbrev dktX1_placeOf_4 : List UInt8 := dkwX1_placeOf_4 ++ []
def dkwX1_placeOf_3 : List UInt8 := [192, 0, 103, 182, 0, 161, 42, 180, 0, 56, 180, 0, 71, 27, 185, 0, 93, 2, 0, 192, 0, 103]
abbrev dktX1_placeOf_3 : List UInt8 := dkwX1_placeOf_3 ++ dktX1_placeOf_4
def dkwX1_placeOf_2 : List UInt8 := [192, 0, 132, 182, 0, 158, 54, 4, 28, 42, 180, 0, 56, 180, 0, 71, 21, 4, 185, 0, 93, 2, 0]
abbrev dktX1_placeOf_2 : List UInt8 := dkwX1_placeOf_2 ++ dktX1_placeOf_3
def dkwX1_placeOf_1 : List UInt8 := [182, 0, 150, 185, 0, 176, 1, 0, 78, 45, 185, 0, 180, 1, 0, 153, 0, 70, 45, 185, 0, 185, 1, 0]
abbrev dktX1_placeOf_1 : List UInt8 := dkwX1_placeOf_1 ++ dktX1_placeOf_2
def dkwX1_placeOf_0 : List UInt8 := [4, 61, 42, 42, 180, 0, 56, 180, 0, 71, 27, 185, 0, 93, 2, 0, 192, 0, 103, 180, 0, 105]
abbrev dktX1_placeOf_0 : List UInt8 := dkwX1_placeOf_0 ++ dktX1_placeOf_1
theorem dksX1_placeOf_0 : cX1_placeOf.data.toList.drop 0 = dktX1_placeOf_0 := by decide +kernel
theorem dksX1_placeOf_1 : cX1_placeOf.data.toList.drop 22 = dktX1_placeOf_1 := dk_seg dksX1_placeOf_0 22 rfl rfl
theorem dksX1_placeOf_2 : cX1_placeOf.data.toList.drop 46 = dktX1_placeOf_2 := dk_seg dksX1_placeOf_1 24 rfl rfl
theorem dksX1_placeOf_3 : cX1_placeOf.data.toList.drop 69 = dktX1_placeOf_3 := dk_seg dksX1_placeOf_2 23 rfl rfl
theorem dksX1_placeOf_4 : cX1_placeOf.data.toList.drop 91 = dktX1_placeOf_4 := dk_seg dksX1_placeOf_3 22 rfl rfl
theorem dX1_placeOf_0 : decode cX1_placeOf 0 = .ok (.iconst 1, 1) := dk_4 (dk_at dksX1_placeOf_0 0 rfl rfl)
theorem dX1_placeOf_1 : decode cX1_placeOf 1 = .ok (.istore_n 2, 1) := dk_61 (dk_at dksX1_placeOf_0 1 rfl rfl)
theorem dX1_placeOf_2 : decode cX1_placeOf 2 = .ok (.aload_n 0, 1) := dk_42 (dk_at dksX1_placeOf_0 2 rfl rfl)
theorem dX1_placeOf_3 : decode cX1_placeOf 3 = .ok (.aload_n 0, 1) := dk_42 (dk_at dksX1_placeOf_0 3 rfl rfl)
theorem dX1_placeOf_4 : decode cX1_placeOf 4 = .ok (.getfield 56, 3) := dk_180 0 56 (dk_at dksX1_placeOf_0 4 rfl rfl)
theorem dX1_placeOf_7 : decode cX1_placeOf 7 = .ok (.getfield 71, 3) := dk_180 0 71 (dk_at dksX1_placeOf_0 7 rfl rfl)
theorem dX1_placeOf_10 : decode cX1_placeOf 10 = .ok (.iload_n 1, 1) := dk_27 (dk_at dksX1_placeOf_0 10 rfl rfl)
theorem dX1_placeOf_11 : decode cX1_placeOf 11 = .ok (.invokeinterface 93 2, 5) := by decide +kernel
theorem dX1_placeOf_16 : decode cX1_placeOf 16 = .ok (.checkcast 103, 3) := dk_192 0 103 (dk_at dksX1_placeOf_0 16 rfl rfl)
theorem dX1_placeOf_19 : decode cX1_placeOf 19 = .ok (.getfield 105, 3) := dk_180 0 105 (dk_at dksX1_placeOf_0 19 rfl rfl)
theorem dX1_placeOf_22 : decode cX1_placeOf 22 = .ok (.invokevirtual 150, 3) := dk_182 0 150 (dk_at dksX1_placeOf_1 0 rfl rfl)
theorem dX1_placeOf_25 : decode cX1_placeOf 25 = .ok (.invokeinterface 176 1, 5) := by decide +kernel
theorem dX1_placeOf_30 : decode cX1_placeOf 30 = .ok (.astore_n 3, 1) := dk_78 (dk_at dksX1_placeOf_1 8 rfl rfl)
theorem dX1_placeOf_31 : decode cX1_placeOf 31 = .ok (.aload_n 3, 1) := dk_45 (dk_at dksX1_placeOf_1 9 rfl rfl)
theorem dX1_placeOf_32 : decode cX1_placeOf 32 = .ok (.invokeinterface 180 1, 5) := by decide +kernel
theorem dX1_placeOf_37 : decode cX1_placeOf 37 = .ok (.ifCond .eq 70, 3) := dk_153 0 70 (dk_at dksX1_placeOf_1 15 rfl rfl)
theorem dX1_placeOf_40 : decode cX1_placeOf 40 = .ok (.aload_n 3, 1) := dk_45 (dk_at dksX1_placeOf_1 18 rfl rfl)
theorem dX1_placeOf_41 : decode cX1_placeOf 41 = .ok (.invokeinterface 185 1, 5) := by decide +kernel
theorem dX1_placeOf_46 : decode cX1_placeOf 46 = .ok (.checkcast 132, 3) := dk_192 0 132 (dk_at dksX1_placeOf_2 0 rfl rfl)
theorem dX1_placeOf_49 : decode cX1_placeOf 49 = .ok (.invokevirtual 158, 3) := dk_182 0 158 (dk_at dksX1_placeOf_2 3 rfl rfl)
theorem dX1_placeOf_52 : decode cX1_placeOf 52 = .ok (.istore 4, 2) := dk_54 4 (dk_at dksX1_placeOf_2 6 rfl rfl)
theorem dX1_placeOf_54 : decode cX1_placeOf 54 = .ok (.iload_n 2, 1) := dk_28 (dk_at dksX1_placeOf_2 8 rfl rfl)
theorem dX1_placeOf_55 : decode cX1_placeOf 55 = .ok (.aload_n 0, 1) := dk_42 (dk_at dksX1_placeOf_2 9 rfl rfl)
theorem dX1_placeOf_56 : decode cX1_placeOf 56 = .ok (.getfield 56, 3) := dk_180 0 56 (dk_at dksX1_placeOf_2 10 rfl rfl)
theorem dX1_placeOf_59 : decode cX1_placeOf 59 = .ok (.getfield 71, 3) := dk_180 0 71 (dk_at dksX1_placeOf_2 13 rfl rfl)
theorem dX1_placeOf_62 : decode cX1_placeOf 62 = .ok (.iload 4, 2) := dk_21 4 (dk_at dksX1_placeOf_2 16 rfl rfl)
theorem dX1_placeOf_64 : decode cX1_placeOf 64 = .ok (.invokeinterface 93 2, 5) := by decide +kernel
theorem dX1_placeOf_69 : decode cX1_placeOf 69 = .ok (.checkcast 103, 3) := dk_192 0 103 (dk_at dksX1_placeOf_3 0 rfl rfl)
theorem dX1_placeOf_72 : decode cX1_placeOf 72 = .ok (.invokevirtual 161, 3) := dk_182 0 161 (dk_at dksX1_placeOf_3 3 rfl rfl)
theorem dX1_placeOf_75 : decode cX1_placeOf 75 = .ok (.aload_n 0, 1) := dk_42 (dk_at dksX1_placeOf_3 6 rfl rfl)
theorem dX1_placeOf_76 : decode cX1_placeOf 76 = .ok (.getfield 56, 3) := dk_180 0 56 (dk_at dksX1_placeOf_3 7 rfl rfl)
theorem dX1_placeOf_79 : decode cX1_placeOf 79 = .ok (.getfield 71, 3) := dk_180 0 71 (dk_at dksX1_placeOf_3 10 rfl rfl)
theorem dX1_placeOf_82 : decode cX1_placeOf 82 = .ok (.iload_n 1, 1) := dk_27 (dk_at dksX1_placeOf_3 13 rfl rfl)
theorem dX1_placeOf_83 : decode cX1_placeOf 83 = .ok (.invokeinterface 93 2, 5) := by decide +kernel
theorem dX1_placeOf_88 : decode cX1_placeOf 88 = .ok (.checkcast 103, 3) := dk_192 0 103 (dk_at dksX1_placeOf_3 19 rfl rfl)
theorem dX1_placeOf_91 : decode cX1_placeOf 91 = .ok (.invokevirtual 161, 3) := dk_182 0 161 (dk_at dksX1_placeOf_4 0 rfl rfl)
theorem dX1_placeOf_94 : decode cX1_placeOf 94 = .ok (.if_icmp .ge 7, 3) := dk_162 0 7 (dk_at dksX1_placeOf_4 3 rfl rfl)
theorem dX1_placeOf_97 : decode cX1_placeOf 97 = .ok (.iconst 1, 1) := dk_4 (dk_at dksX1_placeOf_4 6 rfl rfl)
theorem dX1_placeOf_98 : decode cX1_placeOf 98 = .ok (.goto 4, 3) := dk_167 0 4 (dk_at dksX1_placeOf_4 7 rfl rfl)
theorem dX1_placeOf_101 : decode cX1_placeOf 101 = .ok (.iconst 0, 1) := dk_3 (dk_at dksX1_placeOf_4 10 rfl rfl)
theorem dX1_placeOf_102 : decode cX1_placeOf 102 = .ok (.iadd, 1) := dk_96 (dk_at dksX1_placeOf_4 11 rfl rfl)
theorem dX1_placeOf_103 : decode cX1_placeOf 103 = .ok (.istore_n 2, 1) := dk_61 (dk_at dksX1_placeOf_4 12 rfl rfl)
theorem dX1_placeOf_104 : decode cX1_placeOf 104 = .ok (.goto (-73), 3) := dk_167 255 183 (dk_at dksX1_placeOf_4 13 rfl rfl)
theorem dX1_placeOf_107 : decode cX1_placeOf 107 = .ok (.iload_n 2, 1) := dk_28 (dk_at dksX1_placeOf_4 16 rfl rfl)
theorem dX1_placeOf_108 : decode cX1_placeOf 108 = .ok (.ireturn, 1) := dk_172 (dk_at dksX1_placeOf_4 17 rfl rfl)
theorem md_X1_placeOf : xMd yX1_placeOf cX1_placeOf 5 (Option.some Jvm.ClassFile.FieldType.int) 1 := ⟨q1789, q123, by decide, by decide +kernel, by decide +kernel, by decide +kernel⟩
def f_X1_placeOf_102 (a0 : Nat) (k31 : Int32 × Int32 × Option Nat × PH → Option (xO × PH)) (v1 : Int32) (v3 : Option Nat) (w0 : Int32) (w1 : Int32) (p0 : PH) : Option (xO × PH) :=
  (bnd (w0 + w1) fun x46 =>
  (k31 (v1, x46, v3, p0)))
def f_X1_placeOf_31F (a0 : Nat)  (k31 : Int32 × Int32 × Option Nat × PH → Option (xO × PH)) (p : Int32 × Int32 × Option Nat × PH) : Option (xO × PH) := match p with
  | (v1, v2, v3, p0) => (xnul v3 none fun b14 =>
  (xsw p0 b14 fun c16 =>
  (if c16 = 20 then
  (xcI (f_J26_hasNext p0 b14 ) fun x19 p18 =>
  (if x19 = 0 then
  (rI v2 p18) else
  (xsw p18 b14 fun c21 =>
  (if c21 = 20 then
  (xcR (f_J26_next p18 b14 ) fun x24 p23 =>
  (xcst p23 (x24) [18]
  (xnul x24 none fun b25 =>
  (xcI (f_J19_intValue p23 b25 ) fun x27 p26 =>
  (xgR p26 a0 0 5 fun x28 =>
  (xnul x28 none fun b29 =>
  (xgR p26 b29 3 1 fun x30 =>
  (xnul x30 none fun b31 =>
  (xcR (f_J3_get p26 b31 x27) fun x33 p32 =>
  (xcst p32 (x33) [6]
  (xnul x33 none fun b34 =>
  (xcI (f_X7_total p32 b34 ) fun x36 p35 =>
  (xgR p35 a0 0 5 fun x37 =>
  (xnul x37 none fun b38 =>
  (xgR p35 b38 3 1 fun x39 =>
  (xnul x39 none fun b40 =>
  (xcR (f_J3_get p35 b40 v1) fun x42 p41 =>
  (xcst p41 (x42) [6]
  (xnul x42 none fun b43 =>
  (xcI (f_X7_total p41 b43 ) fun x45 p44 =>
  (if x45 ≤ x36 then
  (f_X1_placeOf_102 a0 k31 v1 ((some b14)) v2 0 p44) else
  (f_X1_placeOf_102 a0 k31 v1 ((some b14)) v2 1 p44)))))))))))))))))))))) else
  (if c21 = 25 then
  (xcR (f_J37_next p18 b14 ) fun x48 p47 =>
  (xcst p47 (x48) [18]
  (xnul x48 none fun b49 =>
  (xcI (f_J19_intValue p47 b49 ) fun x51 p50 =>
  (xgR p50 a0 0 5 fun x52 =>
  (xnul x52 none fun b53 =>
  (xgR p50 b53 3 1 fun x54 =>
  (xnul x54 none fun b55 =>
  (xcR (f_J3_get p50 b55 x51) fun x57 p56 =>
  (xcst p56 (x57) [6]
  (xnul x57 none fun b58 =>
  (xcI (f_X7_total p56 b58 ) fun x60 p59 =>
  (xgR p59 a0 0 5 fun x61 =>
  (xnul x61 none fun b62 =>
  (xgR p59 b62 3 1 fun x63 =>
  (xnul x63 none fun b64 =>
  (xcR (f_J3_get p59 b64 v1) fun x66 p65 =>
  (xcst p65 (x66) [6]
  (xnul x66 none fun b67 =>
  (xcI (f_X7_total p65 b67 ) fun x69 p68 =>
  (if x69 ≤ x60 then
  (f_X1_placeOf_102 a0 k31 v1 ((some b14)) v2 0 p68) else
  (f_X1_placeOf_102 a0 k31 v1 ((some b14)) v2 1 p68)))))))))))))))))))))) else
  none))))) else
  (if c16 = 25 then
  (xcI (f_J36_hasNext p0 b14 ) fun x71 p70 =>
  (if x71 = 0 then
  (rI v2 p70) else
  (xsw p70 b14 fun c73 =>
  (if c73 = 20 then
  (xcR (f_J26_next p70 b14 ) fun x76 p75 =>
  (xcst p75 (x76) [18]
  (xnul x76 none fun b77 =>
  (xcI (f_J19_intValue p75 b77 ) fun x79 p78 =>
  (xgR p78 a0 0 5 fun x80 =>
  (xnul x80 none fun b81 =>
  (xgR p78 b81 3 1 fun x82 =>
  (xnul x82 none fun b83 =>
  (xcR (f_J3_get p78 b83 x79) fun x85 p84 =>
  (xcst p84 (x85) [6]
  (xnul x85 none fun b86 =>
  (xcI (f_X7_total p84 b86 ) fun x88 p87 =>
  (xgR p87 a0 0 5 fun x89 =>
  (xnul x89 none fun b90 =>
  (xgR p87 b90 3 1 fun x91 =>
  (xnul x91 none fun b92 =>
  (xcR (f_J3_get p87 b92 v1) fun x94 p93 =>
  (xcst p93 (x94) [6]
  (xnul x94 none fun b95 =>
  (xcI (f_X7_total p93 b95 ) fun x97 p96 =>
  (if x97 ≤ x88 then
  (f_X1_placeOf_102 a0 k31 v1 ((some b14)) v2 0 p96) else
  (f_X1_placeOf_102 a0 k31 v1 ((some b14)) v2 1 p96)))))))))))))))))))))) else
  (if c73 = 25 then
  (xcR (f_J37_next p70 b14 ) fun x99 p98 =>
  (xcst p98 (x99) [18]
  (xnul x99 none fun b100 =>
  (xcI (f_J19_intValue p98 b100 ) fun x102 p101 =>
  (xgR p101 a0 0 5 fun x103 =>
  (xnul x103 none fun b104 =>
  (xgR p101 b104 3 1 fun x105 =>
  (xnul x105 none fun b106 =>
  (xcR (f_J3_get p101 b106 x102) fun x108 p107 =>
  (xcst p107 (x108) [6]
  (xnul x108 none fun b109 =>
  (xcI (f_X7_total p107 b109 ) fun x111 p110 =>
  (xgR p110 a0 0 5 fun x112 =>
  (xnul x112 none fun b113 =>
  (xgR p110 b113 3 1 fun x114 =>
  (xnul x114 none fun b115 =>
  (xcR (f_J3_get p110 b115 v1) fun x117 p116 =>
  (xcst p116 (x117) [6]
  (xnul x117 none fun b118 =>
  (xcI (f_X7_total p116 b118 ) fun x120 p119 =>
  (if x120 ≤ x111 then
  (f_X1_placeOf_102 a0 k31 v1 ((some b14)) v2 0 p119) else
  (f_X1_placeOf_102 a0 k31 v1 ((some b14)) v2 1 p119)))))))))))))))))))))) else
  none))))) else
  none))))
def f_X1_placeOf (p0 : PH) (a0 : Nat) (a1 : Int32) : Option (xO × PH) :=
  (xcl1 p0 a0 0 (xgR p0 a0 0 5 fun x1 =>
  (xnul x1 none fun b2 =>
  (xgR p0 b2 3 1 fun x3 =>
  (xnul x3 none fun b4 =>
  (xcR (f_J3_get p0 b4 a1) fun x6 p5 =>
  (xcst p5 (x6) [6]
  (xnul x6 none fun b7 =>
  (xgI p5 b7 6 1 fun x8 =>
  (xcR (f_X1_rankedOn p5 a0 x8) fun x10 p9 =>
  (xnul x10 none fun b11 =>
  (xcR (f_J3_iterator p9 b11 ) fun x13 p12 =>
  (lp (f_X1_placeOf_31F a0) FU (a1, 1, x13, p12))))))))))))))
theorem rc_X1_placeOf {p0 : PH} {a0 : Nat} {a1 : Int32} : ∀ z, f_X1_placeOf p0 a0 a1 = some z → xco p0 a0 = some 0 := fun z h => xcl1_some h
theorem f_X1_placeOf_102_ok {G : xG} (hO : xOK G) (a0 : Nat) {k31 : Int32 × Int32 × Option Nat × PH → Option (xO × PH)} (hk31 : ∀ (v1 : Int32) (v2 : Int32) (v3 : Option Nat) (p0 : PH), X G "ForestLegs" "placeOf" cX1_placeOf 5 (Option.some Jvm.ClassFile.FieldType.int) 10 31 [(0, .ref a0), (1, .int v1), (2, .int v2), (3, va_rf v3)] [] p0 (k31 (v1, v2, v3, p0))) (v1 : Int32) (v3 : Option Nat) (w0 : Int32) (w1 : Int32) (p0 : PH) : X G "ForestLegs" "placeOf" cX1_placeOf 5 (Option.some Jvm.ClassFile.FieldType.int) 10 102 [(0, .ref a0), (1, .int v1), (3, va_rf v3)] [.int w1, .int w0] p0 (f_X1_placeOf_102 a0 k31 v1 v3 w0 w1 p0) := by
  unfold f_X1_placeOf_102
  refine x_iadd dX1_placeOf_102 (n := 103) rfl ?_
  refine x_nm (fun x46 => ?_)
  refine x_istore_n [(2, .int x46), (0, .ref a0), (1, .int v1), (3, va_rf v3)] dX1_placeOf_103 rfl (by decide) rfl (n := 104) rfl ?_
  refine x_goto dX1_placeOf_104 (n := 31) (by decide) ?_
  refine x_sub [1, 2, 0, 3] [(0, .ref a0), (1, .int v1), (2, .int x46), (3, va_rf v3)] rfl ?_
  exact hk31 v1 x46 v3 p0
theorem f_X1_placeOf_31F_ok {G : xG} (hO : xOK G) (a0 : Nat)  {k31 : Int32 × Int32 × Option Nat × PH → Option (xO × PH)} (hk31 : ∀ (v1 : Int32) (v2 : Int32) (v3 : Option Nat) (p0 : PH), X G "ForestLegs" "placeOf" cX1_placeOf 5 (Option.some Jvm.ClassFile.FieldType.int) 10 31 [(0, .ref a0), (1, .int v1), (2, .int v2), (3, va_rf v3)] [] p0 (k31 (v1, v2, v3, p0))) (v1 : Int32) (v2 : Int32) (v3 : Option Nat) (p0 : PH) : X G "ForestLegs" "placeOf" cX1_placeOf 5 (Option.some Jvm.ClassFile.FieldType.int) 10 31 [(0, .ref a0), (1, .int v1), (2, .int v2), (3, va_rf v3)] [] p0 (f_X1_placeOf_31F a0 k31 (v1, v2, v3, p0)) := by
  unfold f_X1_placeOf_31F
  refine x_aload_n 3 dX1_placeOf_31 rfl rfl (n := 32) rfl ?_
  refine x_sm (fun b14 e => ?_)
  subst e
  refine x_sw (fun c16 e => ?_)
  refine x_ite (fun h => ?_) (fun _ => ?_)
  · subst h
    refine x_callF_I [] [] (f_J26_hasNext_ok hO p0 b14 ) rc_J26_hasNext md_J26_hasNext rfl q1823 fc_java_util_ArrayList_Itr_java_util_Iterator_hasNext_0_Z dX1_placeOf_32 rfl rfl (by decide) (Nat.le_of_ble_eq_true rfl) (n := 37) rfl (fun x19 p18 => ?_)
    refine x_if_eq dX1_placeOf_37 (t := 107) (by decide) (n := 40) rfl (fun _ => ?_) (fun _ => ?_)
    · refine x_iload_n 2 dX1_placeOf_107 rfl rfl (n := 108) rfl ?_
      exact x_ireturn dX1_placeOf_108
    · refine x_aload_nr 3 dX1_placeOf_40 rfl rfl (n := 41) rfl ?_
      refine x_sw (fun c21 e => ?_)
      refine x_ite (fun h => ?_) (fun _ => ?_)
      · subst h
        refine x_callF_R [] [] (f_J26_next_ok hO p18 b14 ) rc_J26_next md_J26_next rfl q1858 fc_java_util_ArrayList_Itr_java_util_Iterator_next_0_Ljaval dX1_placeOf_41 rfl rfl (by decide) (Nat.le_of_ble_eq_true rfl) (n := 46) rfl (fun x24 p23 => ?_)
        refine x_cast (x := x24) (cs := [18]) q1764 cst_java_lang_Integer dX1_placeOf_46 (n := 49) rfl ?_
        refine x_sm (fun b25 e => ?_)
        subst e
        refine x_callV_I [] [] (f_J19_intValue_ok hO p23 b25 ) rc_J19_intValue md_J19_intValue rfl q1765 q941 q942 dX1_placeOf_49 rfl rfl (by decide) (Nat.le_of_ble_eq_true rfl) (n := 52) rfl (fun x27 p26 => ?_)
        refine x_istore [(4, .int x27), (0, .ref a0), (1, .int v1), (2, .int v2), (3, .ref b14)] dX1_placeOf_52 (by decide) rfl (n := 54) rfl ?_
        refine x_iload_n 3 dX1_placeOf_54 rfl rfl (n := 55) rfl ?_
        refine x_aload_nr 1 dX1_placeOf_55 rfl rfl (n := 56) rfl ?_
        refine x_getR fl_X1_56 dX1_placeOf_56 (n := 59) rfl (fun x28 => ?_)
        refine x_sm (fun b29 e => ?_)
        subst e
        refine x_getR fl_X1_71 dX1_placeOf_59 (n := 62) rfl (fun x30 => ?_)
        refine x_iload 0 dX1_placeOf_62 rfl (n := 64) rfl ?_
        refine x_sm (fun b31 e => ?_)
        subst e
        refine x_callF_R [.int x27] [.int v2] (f_J3_get_ok hO p26 b31 x27) rc_J3_get md_J3_get rfl q1497 fc_java_util_ArrayList_java_util_List_get_1_ILjava dX1_placeOf_64 rfl rfl (by decide) (Nat.le_of_ble_eq_true rfl) (n := 69) rfl (fun x33 p32 => ?_)
        refine x_cast (x := x33) (cs := [6]) q1498 cst_ForestLegs_Runner dX1_placeOf_69 (n := 72) rfl ?_
        refine x_sm (fun b34 e => ?_)
        subst e
        refine x_callV_I [] [.int v2] (f_X7_total_ok hO p32 b34 ) rc_X7_total md_X7_total rfl q1766 q963 q964 dX1_placeOf_72 rfl rfl (by decide) (Nat.le_of_ble_eq_true rfl) (n := 75) rfl (fun x36 p35 => ?_)
        refine x_aload_nr 1 dX1_placeOf_75 rfl rfl (n := 76) rfl ?_
        refine x_getR fl_X1_56 dX1_placeOf_76 (n := 79) rfl (fun x37 => ?_)
        refine x_sm (fun b38 e => ?_)
        subst e
        refine x_getR fl_X1_71 dX1_placeOf_79 (n := 82) rfl (fun x39 => ?_)
        refine x_iload_n 2 dX1_placeOf_82 rfl rfl (n := 83) rfl ?_
        refine x_sm (fun b40 e => ?_)
        subst e
        refine x_callF_R [.int v1] [.int x36, .int v2] (f_J3_get_ok hO p35 b40 v1) rc_J3_get md_J3_get rfl q1497 fc_java_util_ArrayList_java_util_List_get_1_ILjava dX1_placeOf_83 rfl rfl (by decide) (Nat.le_of_ble_eq_true rfl) (n := 88) rfl (fun x42 p41 => ?_)
        refine x_cast (x := x42) (cs := [6]) q1498 cst_ForestLegs_Runner dX1_placeOf_88 (n := 91) rfl ?_
        refine x_sm (fun b43 e => ?_)
        subst e
        refine x_callV_I [] [.int x36, .int v2] (f_X7_total_ok hO p41 b43 ) rc_X7_total md_X7_total rfl q1766 q963 q964 dX1_placeOf_91 rfl rfl (by decide) (Nat.le_of_ble_eq_true rfl) (n := 94) rfl (fun x45 p44 => ?_)
        refine x_icmp_ge dX1_placeOf_94 (t := 101) (by decide) (n := 97) rfl (fun _ => ?_) (fun _ => ?_)
        · refine x_iconst 0 dX1_placeOf_101 rfl (n := 102) rfl ?_
          refine x_sub [1, 2, 4] [(0, .ref a0), (1, .int v1), (3, .ref b14)] rfl ?_
          exact f_X1_placeOf_102_ok hO a0 hk31 v1 ((some b14)) v2 0 p44
        · refine x_iconst 1 dX1_placeOf_97 rfl (n := 98) rfl ?_
          refine x_goto dX1_placeOf_98 (n := 102) (by decide) ?_
          refine x_sub [1, 2, 4] [(0, .ref a0), (1, .int v1), (3, .ref b14)] rfl ?_
          exact f_X1_placeOf_102_ok hO a0 hk31 v1 ((some b14)) v2 1 p44
      refine x_ite (fun h => ?_) (fun _ => ?_)
      · subst h
        refine x_callF_R [] [] (f_J37_next_ok hO p18 b14 ) rc_J37_next md_J37_next rfl q1858 fc_java_util_TreeMap_KeyIterator_java_util_Iterator_next_0_Ljaval dX1_placeOf_41 rfl rfl (by decide) (Nat.le_of_ble_eq_true rfl) (n := 46) rfl (fun x48 p47 => ?_)
        refine x_cast (x := x48) (cs := [18]) q1764 cst_java_lang_Integer dX1_placeOf_46 (n := 49) rfl ?_
        refine x_sm (fun b49 e => ?_)
        subst e
        refine x_callV_I [] [] (f_J19_intValue_ok hO p47 b49 ) rc_J19_intValue md_J19_intValue rfl q1765 q941 q942 dX1_placeOf_49 rfl rfl (by decide) (Nat.le_of_ble_eq_true rfl) (n := 52) rfl (fun x51 p50 => ?_)
        refine x_istore [(4, .int x51), (0, .ref a0), (1, .int v1), (2, .int v2), (3, .ref b14)] dX1_placeOf_52 (by decide) rfl (n := 54) rfl ?_
        refine x_iload_n 3 dX1_placeOf_54 rfl rfl (n := 55) rfl ?_
        refine x_aload_nr 1 dX1_placeOf_55 rfl rfl (n := 56) rfl ?_
        refine x_getR fl_X1_56 dX1_placeOf_56 (n := 59) rfl (fun x52 => ?_)
        refine x_sm (fun b53 e => ?_)
        subst e
        refine x_getR fl_X1_71 dX1_placeOf_59 (n := 62) rfl (fun x54 => ?_)
        refine x_iload 0 dX1_placeOf_62 rfl (n := 64) rfl ?_
        refine x_sm (fun b55 e => ?_)
        subst e
        refine x_callF_R [.int x51] [.int v2] (f_J3_get_ok hO p50 b55 x51) rc_J3_get md_J3_get rfl q1497 fc_java_util_ArrayList_java_util_List_get_1_ILjava dX1_placeOf_64 rfl rfl (by decide) (Nat.le_of_ble_eq_true rfl) (n := 69) rfl (fun x57 p56 => ?_)
        refine x_cast (x := x57) (cs := [6]) q1498 cst_ForestLegs_Runner dX1_placeOf_69 (n := 72) rfl ?_
        refine x_sm (fun b58 e => ?_)
        subst e
        refine x_callV_I [] [.int v2] (f_X7_total_ok hO p56 b58 ) rc_X7_total md_X7_total rfl q1766 q963 q964 dX1_placeOf_72 rfl rfl (by decide) (Nat.le_of_ble_eq_true rfl) (n := 75) rfl (fun x60 p59 => ?_)
        refine x_aload_nr 1 dX1_placeOf_75 rfl rfl (n := 76) rfl ?_
        refine x_getR fl_X1_56 dX1_placeOf_76 (n := 79) rfl (fun x61 => ?_)
        refine x_sm (fun b62 e => ?_)
        subst e
        refine x_getR fl_X1_71 dX1_placeOf_79 (n := 82) rfl (fun x63 => ?_)
        refine x_iload_n 2 dX1_placeOf_82 rfl rfl (n := 83) rfl ?_
        refine x_sm (fun b64 e => ?_)
        subst e
        refine x_callF_R [.int v1] [.int x60, .int v2] (f_J3_get_ok hO p59 b64 v1) rc_J3_get md_J3_get rfl q1497 fc_java_util_ArrayList_java_util_List_get_1_ILjava dX1_placeOf_83 rfl rfl (by decide) (Nat.le_of_ble_eq_true rfl) (n := 88) rfl (fun x66 p65 => ?_)
        refine x_cast (x := x66) (cs := [6]) q1498 cst_ForestLegs_Runner dX1_placeOf_88 (n := 91) rfl ?_
        refine x_sm (fun b67 e => ?_)
        subst e
        refine x_callV_I [] [.int x60, .int v2] (f_X7_total_ok hO p65 b67 ) rc_X7_total md_X7_total rfl q1766 q963 q964 dX1_placeOf_91 rfl rfl (by decide) (Nat.le_of_ble_eq_true rfl) (n := 94) rfl (fun x69 p68 => ?_)
        refine x_icmp_ge dX1_placeOf_94 (t := 101) (by decide) (n := 97) rfl (fun _ => ?_) (fun _ => ?_)
        · refine x_iconst 0 dX1_placeOf_101 rfl (n := 102) rfl ?_
          refine x_sub [1, 2, 4] [(0, .ref a0), (1, .int v1), (3, .ref b14)] rfl ?_
          exact f_X1_placeOf_102_ok hO a0 hk31 v1 ((some b14)) v2 0 p68
        · refine x_iconst 1 dX1_placeOf_97 rfl (n := 98) rfl ?_
          refine x_goto dX1_placeOf_98 (n := 102) (by decide) ?_
          refine x_sub [1, 2, 4] [(0, .ref a0), (1, .int v1), (3, .ref b14)] rfl ?_
          exact f_X1_placeOf_102_ok hO a0 hk31 v1 ((some b14)) v2 1 p68
      exact x_no
  refine x_ite (fun h => ?_) (fun _ => ?_)
  · subst h
    refine x_callF_I [] [] (f_J36_hasNext_ok hO p0 b14 ) rc_J36_hasNext md_J36_hasNext rfl q1823 fc_java_util_TreeMap_KeyIterator_java_util_Iterator_hasNext_0_Z dX1_placeOf_32 rfl rfl (by decide) (Nat.le_of_ble_eq_true rfl) (n := 37) rfl (fun x71 p70 => ?_)
    refine x_if_eq dX1_placeOf_37 (t := 107) (by decide) (n := 40) rfl (fun _ => ?_) (fun _ => ?_)
    · refine x_iload_n 2 dX1_placeOf_107 rfl rfl (n := 108) rfl ?_
      exact x_ireturn dX1_placeOf_108
    · refine x_aload_nr 3 dX1_placeOf_40 rfl rfl (n := 41) rfl ?_
      refine x_sw (fun c73 e => ?_)
      refine x_ite (fun h => ?_) (fun _ => ?_)
      · subst h
        refine x_callF_R [] [] (f_J26_next_ok hO p70 b14 ) rc_J26_next md_J26_next rfl q1858 fc_java_util_ArrayList_Itr_java_util_Iterator_next_0_Ljaval dX1_placeOf_41 rfl rfl (by decide) (Nat.le_of_ble_eq_true rfl) (n := 46) rfl (fun x76 p75 => ?_)
        refine x_cast (x := x76) (cs := [18]) q1764 cst_java_lang_Integer dX1_placeOf_46 (n := 49) rfl ?_
        refine x_sm (fun b77 e => ?_)
        subst e
        refine x_callV_I [] [] (f_J19_intValue_ok hO p75 b77 ) rc_J19_intValue md_J19_intValue rfl q1765 q941 q942 dX1_placeOf_49 rfl rfl (by decide) (Nat.le_of_ble_eq_true rfl) (n := 52) rfl (fun x79 p78 => ?_)
        refine x_istore [(4, .int x79), (0, .ref a0), (1, .int v1), (2, .int v2), (3, .ref b14)] dX1_placeOf_52 (by decide) rfl (n := 54) rfl ?_
        refine x_iload_n 3 dX1_placeOf_54 rfl rfl (n := 55) rfl ?_
        refine x_aload_nr 1 dX1_placeOf_55 rfl rfl (n := 56) rfl ?_
        refine x_getR fl_X1_56 dX1_placeOf_56 (n := 59) rfl (fun x80 => ?_)
        refine x_sm (fun b81 e => ?_)
        subst e
        refine x_getR fl_X1_71 dX1_placeOf_59 (n := 62) rfl (fun x82 => ?_)
        refine x_iload 0 dX1_placeOf_62 rfl (n := 64) rfl ?_
        refine x_sm (fun b83 e => ?_)
        subst e
        refine x_callF_R [.int x79] [.int v2] (f_J3_get_ok hO p78 b83 x79) rc_J3_get md_J3_get rfl q1497 fc_java_util_ArrayList_java_util_List_get_1_ILjava dX1_placeOf_64 rfl rfl (by decide) (Nat.le_of_ble_eq_true rfl) (n := 69) rfl (fun x85 p84 => ?_)
        refine x_cast (x := x85) (cs := [6]) q1498 cst_ForestLegs_Runner dX1_placeOf_69 (n := 72) rfl ?_
        refine x_sm (fun b86 e => ?_)
        subst e
        refine x_callV_I [] [.int v2] (f_X7_total_ok hO p84 b86 ) rc_X7_total md_X7_total rfl q1766 q963 q964 dX1_placeOf_72 rfl rfl (by decide) (Nat.le_of_ble_eq_true rfl) (n := 75) rfl (fun x88 p87 => ?_)
        refine x_aload_nr 1 dX1_placeOf_75 rfl rfl (n := 76) rfl ?_
        refine x_getR fl_X1_56 dX1_placeOf_76 (n := 79) rfl (fun x89 => ?_)
        refine x_sm (fun b90 e => ?_)
        subst e
        refine x_getR fl_X1_71 dX1_placeOf_79 (n := 82) rfl (fun x91 => ?_)
        refine x_iload_n 2 dX1_placeOf_82 rfl rfl (n := 83) rfl ?_
        refine x_sm (fun b92 e => ?_)
        subst e
        refine x_callF_R [.int v1] [.int x88, .int v2] (f_J3_get_ok hO p87 b92 v1) rc_J3_get md_J3_get rfl q1497 fc_java_util_ArrayList_java_util_List_get_1_ILjava dX1_placeOf_83 rfl rfl (by decide) (Nat.le_of_ble_eq_true rfl) (n := 88) rfl (fun x94 p93 => ?_)
        refine x_cast (x := x94) (cs := [6]) q1498 cst_ForestLegs_Runner dX1_placeOf_88 (n := 91) rfl ?_
        refine x_sm (fun b95 e => ?_)
        subst e
        refine x_callV_I [] [.int x88, .int v2] (f_X7_total_ok hO p93 b95 ) rc_X7_total md_X7_total rfl q1766 q963 q964 dX1_placeOf_91 rfl rfl (by decide) (Nat.le_of_ble_eq_true rfl) (n := 94) rfl (fun x97 p96 => ?_)
        refine x_icmp_ge dX1_placeOf_94 (t := 101) (by decide) (n := 97) rfl (fun _ => ?_) (fun _ => ?_)
        · refine x_iconst 0 dX1_placeOf_101 rfl (n := 102) rfl ?_
          refine x_sub [1, 2, 4] [(0, .ref a0), (1, .int v1), (3, .ref b14)] rfl ?_
          exact f_X1_placeOf_102_ok hO a0 hk31 v1 ((some b14)) v2 0 p96
        · refine x_iconst 1 dX1_placeOf_97 rfl (n := 98) rfl ?_
          refine x_goto dX1_placeOf_98 (n := 102) (by decide) ?_
          refine x_sub [1, 2, 4] [(0, .ref a0), (1, .int v1), (3, .ref b14)] rfl ?_
          exact f_X1_placeOf_102_ok hO a0 hk31 v1 ((some b14)) v2 1 p96
      refine x_ite (fun h => ?_) (fun _ => ?_)
      · subst h
        refine x_callF_R [] [] (f_J37_next_ok hO p70 b14 ) rc_J37_next md_J37_next rfl q1858 fc_java_util_TreeMap_KeyIterator_java_util_Iterator_next_0_Ljaval dX1_placeOf_41 rfl rfl (by decide) (Nat.le_of_ble_eq_true rfl) (n := 46) rfl (fun x99 p98 => ?_)
        refine x_cast (x := x99) (cs := [18]) q1764 cst_java_lang_Integer dX1_placeOf_46 (n := 49) rfl ?_
        refine x_sm (fun b100 e => ?_)
        subst e
        refine x_callV_I [] [] (f_J19_intValue_ok hO p98 b100 ) rc_J19_intValue md_J19_intValue rfl q1765 q941 q942 dX1_placeOf_49 rfl rfl (by decide) (Nat.le_of_ble_eq_true rfl) (n := 52) rfl (fun x102 p101 => ?_)
        refine x_istore [(4, .int x102), (0, .ref a0), (1, .int v1), (2, .int v2), (3, .ref b14)] dX1_placeOf_52 (by decide) rfl (n := 54) rfl ?_
        refine x_iload_n 3 dX1_placeOf_54 rfl rfl (n := 55) rfl ?_
        refine x_aload_nr 1 dX1_placeOf_55 rfl rfl (n := 56) rfl ?_
        refine x_getR fl_X1_56 dX1_placeOf_56 (n := 59) rfl (fun x103 => ?_)
        refine x_sm (fun b104 e => ?_)
        subst e
        refine x_getR fl_X1_71 dX1_placeOf_59 (n := 62) rfl (fun x105 => ?_)
        refine x_iload 0 dX1_placeOf_62 rfl (n := 64) rfl ?_
        refine x_sm (fun b106 e => ?_)
        subst e
        refine x_callF_R [.int x102] [.int v2] (f_J3_get_ok hO p101 b106 x102) rc_J3_get md_J3_get rfl q1497 fc_java_util_ArrayList_java_util_List_get_1_ILjava dX1_placeOf_64 rfl rfl (by decide) (Nat.le_of_ble_eq_true rfl) (n := 69) rfl (fun x108 p107 => ?_)
        refine x_cast (x := x108) (cs := [6]) q1498 cst_ForestLegs_Runner dX1_placeOf_69 (n := 72) rfl ?_
        refine x_sm (fun b109 e => ?_)
        subst e
        refine x_callV_I [] [.int v2] (f_X7_total_ok hO p107 b109 ) rc_X7_total md_X7_total rfl q1766 q963 q964 dX1_placeOf_72 rfl rfl (by decide) (Nat.le_of_ble_eq_true rfl) (n := 75) rfl (fun x111 p110 => ?_)
        refine x_aload_nr 1 dX1_placeOf_75 rfl rfl (n := 76) rfl ?_
        refine x_getR fl_X1_56 dX1_placeOf_76 (n := 79) rfl (fun x112 => ?_)
        refine x_sm (fun b113 e => ?_)
        subst e
        refine x_getR fl_X1_71 dX1_placeOf_79 (n := 82) rfl (fun x114 => ?_)
        refine x_iload_n 2 dX1_placeOf_82 rfl rfl (n := 83) rfl ?_
        refine x_sm (fun b115 e => ?_)
        subst e
        refine x_callF_R [.int v1] [.int x111, .int v2] (f_J3_get_ok hO p110 b115 v1) rc_J3_get md_J3_get rfl q1497 fc_java_util_ArrayList_java_util_List_get_1_ILjava dX1_placeOf_83 rfl rfl (by decide) (Nat.le_of_ble_eq_true rfl) (n := 88) rfl (fun x117 p116 => ?_)
        refine x_cast (x := x117) (cs := [6]) q1498 cst_ForestLegs_Runner dX1_placeOf_88 (n := 91) rfl ?_
        refine x_sm (fun b118 e => ?_)
        subst e
        refine x_callV_I [] [.int x111, .int v2] (f_X7_total_ok hO p116 b118 ) rc_X7_total md_X7_total rfl q1766 q963 q964 dX1_placeOf_91 rfl rfl (by decide) (Nat.le_of_ble_eq_true rfl) (n := 94) rfl (fun x120 p119 => ?_)
        refine x_icmp_ge dX1_placeOf_94 (t := 101) (by decide) (n := 97) rfl (fun _ => ?_) (fun _ => ?_)
        · refine x_iconst 0 dX1_placeOf_101 rfl (n := 102) rfl ?_
          refine x_sub [1, 2, 4] [(0, .ref a0), (1, .int v1), (3, .ref b14)] rfl ?_
          exact f_X1_placeOf_102_ok hO a0 hk31 v1 ((some b14)) v2 0 p119
        · refine x_iconst 1 dX1_placeOf_97 rfl (n := 98) rfl ?_
          refine x_goto dX1_placeOf_98 (n := 102) (by decide) ?_
          refine x_sub [1, 2, 4] [(0, .ref a0), (1, .int v1), (3, .ref b14)] rfl ?_
          exact f_X1_placeOf_102_ok hO a0 hk31 v1 ((some b14)) v2 1 p119
      exact x_no
  exact x_no
theorem f_X1_placeOf_31_lp {G : xG} (hO : xOK G) (a0 : Nat)  (n : Nat) (v1 : Int32) (v2 : Int32) (v3 : Option Nat) (p0 : PH) : X G "ForestLegs" "placeOf" cX1_placeOf 5 (Option.some Jvm.ClassFile.FieldType.int) 10 31 [(0, .ref a0), (1, .int v1), (2, .int v2), (3, va_rf v3)] [] p0 (lp (f_X1_placeOf_31F a0) n (v1, v2, v3, p0)) :=
  lp_ok (W := fun p K => X G "ForestLegs" "placeOf" cX1_placeOf 5 (Option.some Jvm.ClassFile.FieldType.int) 10 31 [(0, .ref a0), (1, .int p.1), (2, .int p.2.1), (3, va_rf p.2.2.1)] [] p.2.2.2 K) (fun _ => x_no) (fun k hk => fun (v1, v2, v3, p0) => f_X1_placeOf_31F_ok hO a0 (fun v1 v2 v3 p0 => hk (v1, v2, v3, p0)) v1 v2 v3 p0) n (v1, v2, v3, p0)
theorem f_X1_placeOf_ok {G : xG} (hO : xOK G) (p0 : PH) (a0 : Nat) (a1 : Int32) : CT G 10 yX1_placeOf cX1_placeOf 5 (Option.some Jvm.ClassFile.FieldType.int) [.ref a0, .int a1] p0 (f_X1_placeOf p0 a0 a1) := by
  refine CT_of hO (by decide +kernel) (by decide +kernel) (Nat.le_of_ble_eq_true rfl) ?_
  show X G "ForestLegs" "placeOf" cX1_placeOf 5 (Option.some Jvm.ClassFile.FieldType.int) 10 0 [(0, .ref a0), (1, .int a1)] [] p0 (f_X1_placeOf p0 a0 a1)
  refine x_cl1 (fun e0 => ?_)
  refine x_iconst 1 dX1_placeOf_0 rfl (n := 1) rfl ?_
  refine x_istore_n [(2, .int 1), (0, .ref a0), (1, .int a1)] dX1_placeOf_1 rfl (by decide) rfl (n := 2) rfl ?_
  refine x_aload_nr 1 dX1_placeOf_2 rfl rfl (n := 3) rfl ?_
  refine x_aload_nr 1 dX1_placeOf_3 rfl rfl (n := 4) rfl ?_
  refine x_getR fl_X1_56 dX1_placeOf_4 (n := 7) rfl (fun x1 => ?_)
  refine x_sm (fun b2 e => ?_)
  subst e
  refine x_getR fl_X1_71 dX1_placeOf_7 (n := 10) rfl (fun x3 => ?_)
  refine x_iload_n 2 dX1_placeOf_10 rfl rfl (n := 11) rfl ?_
  refine x_sm (fun b4 e => ?_)
  subst e
  refine x_callF_R [.int a1] [.ref a0] (f_J3_get_ok hO p0 b4 a1) rc_J3_get md_J3_get rfl q1497 fc_java_util_ArrayList_java_util_List_get_1_ILjava dX1_placeOf_11 rfl rfl (by decide) (Nat.le_of_ble_eq_true rfl) (n := 16) rfl (fun x6 p5 => ?_)
  refine x_cast (x := x6) (cs := [6]) q1498 cst_ForestLegs_Runner dX1_placeOf_16 (n := 19) rfl ?_
  refine x_sm (fun b7 e => ?_)
  subst e
  refine x_getI fl_X1_105 dX1_placeOf_19 (n := 22) rfl (fun x8 => ?_)
  refine x_callV_R [.int x8] [] (f_X1_rankedOn_ok hO p5 a0 x8) rc_X1_rankedOn md_X1_rankedOn rfl q1576 q1578 qs30 dX1_placeOf_22 rfl rfl (by decide) (Nat.le_of_ble_eq_true rfl) (n := 25) rfl (fun x10 p9 => ?_)
  refine x_sm (fun b11 e => ?_)
  subst e
  refine x_callF_R [] [] (f_J3_iterator_ok hO p9 b11 ) rc_J3_iterator md_J3_iterator rfl q1791 fc_java_util_ArrayList_java_util_List_iterator_0_Ljavau dX1_placeOf_25 rfl rfl (by decide) (Nat.le_of_ble_eq_true rfl) (n := 30) rfl (fun x13 p12 => ?_)
  refine x_astore_n [(3, va_rf x13), (2, .int 1), (0, .ref a0), (1, .int a1)] dX1_placeOf_30 rfl (by decide) rfl (n := 31) rfl ?_
  refine x_sub [2, 3, 1, 0] [(0, .ref a0), (1, .int a1), (2, .int 1), (3, va_rf x13)] rfl ?_
  exact f_X1_placeOf_31_lp hO a0 FU a1 1 x13 p12
abbrev cX1_runner : ByteArray := prog_1_method_22_code
def yX1_runner : MethodName := ⟨RX1, "runner", "(II)I"⟩
def dkwX1_runner_12 : List UInt8 := [167, 0, 5, 16, 254, 182, 0, 83, 172, 42, 4, 182, 0, 40, 172]
abbrev dktX1_runner_12 : List UInt8 := dkwX1_runner_12 ++ []
def dkwX1_runner_11 : List UInt8 := [180, 0, 56, 27, 182, 0, 115, 153, 0, 19, 45, 182, 0, 161, 42, 45, 180, 0, 105, 182, 0, 167, 100]
abbrev dktX1_runner_11 : List UInt8 := dkwX1_runner_11 ++ dktX1_runner_12
def dkwX1_runner_10 : List UInt8 := [27, 182, 0, 115, 153, 0, 11, 42, 27, 182, 0, 208, 167, 0, 5, 16, 254, 182, 0, 83, 172, 42, 42]
abbrev dktX1_runner_10 : List UInt8 := dkwX1_runner_10 ++ dktX1_runner_11
def dkwX1_runner_9 : List UInt8 := [180, 0, 56, 27, 182, 0, 115, 153, 0, 7, 4, 167, 0, 4, 3, 182, 0, 83, 172, 42, 42, 180, 0, 56]
abbrev dktX1_runner_9 : List UInt8 := dkwX1_runner_9 ++ dktX1_runner_10
def dkwX1_runner_8 : List UInt8 := [182, 0, 83, 172, 42, 25, 4, 182, 0, 205, 182, 0, 83, 172, 42, 21, 5, 182, 0, 83, 172, 42, 42]
abbrev dktX1_runner_8 : List UInt8 := dkwX1_runner_8 ++ dktX1_runner_9
def dkwX1_runner_7 : List UInt8 := [182, 0, 83, 172, 42, 45, 182, 0, 161, 182, 0, 83, 172, 42, 45, 180, 0, 112, 185, 0, 77, 1, 0]
abbrev dktX1_runner_7 : List UInt8 := dkwX1_runner_7 ++ dktX1_runner_8
def dkwX1_runner_6 : List UInt8 := [42, 45, 180, 0, 105, 182, 0, 83, 172, 42, 45, 180, 0, 199, 182, 0, 83, 172, 42, 45, 180, 0, 202]
abbrev dktX1_runner_6 : List UInt8 := dkwX1_runner_6 ++ dktX1_runner_7
def dkwX1_runner_5 : List UInt8 := [170, 0, 0, 0, 0, 0, 0, 204, 0, 0, 0, 0, 0, 0, 0, 9, 0, 0, 0, 56, 0, 0, 0, 65, 0, 0, 0, 74, 0, 0, 0, 83, 0, 0, 0, 92, 0, 0, 0, 106, 0, 0, 0, 116, 0, 0, 0, 123, 0, 0, 0, 144, 0, 0, 0, 170]
abbrev dktX1_runner_5 : List UInt8 := dkwX1_runner_5 ++ dktX1_runner_6
def dkwX1_runner_4 : List UInt8 := [4, 100, 54, 5, 132, 8, 1, 167, 255, 223, 28]
abbrev dktX1_runner_4 : List UInt8 := dkwX1_runner_4 ++ dktX1_runner_5
def dkwX1_runner_3 : List UInt8 := [21, 7, 162, 0, 32, 25, 6, 21, 8, 46, 54, 9, 21, 5, 21, 9, 2, 160, 0, 7, 3, 167, 0, 4]
abbrev dktX1_runner_3 : List UInt8 := dkwX1_runner_3 ++ dktX1_runner_4
def dkwX1_runner_2 : List UInt8 := [185, 0, 77, 1, 0, 54, 5, 25, 4, 180, 0, 193, 58, 6, 25, 6, 190, 54, 7, 3, 54, 8, 21, 8]
abbrev dktX1_runner_2 : List UInt8 := dkwX1_runner_2 ++ dktX1_runner_3
def dkwX1_runner_1 : List UInt8 := [185, 0, 93, 2, 0, 192, 0, 103, 78, 42, 180, 0, 56, 27, 182, 0, 189, 58, 4, 45, 180, 0, 112]
abbrev dktX1_runner_1 : List UInt8 := dkwX1_runner_1 ++ dktX1_runner_2
def dkwX1_runner_0 : List UInt8 := [42, 27, 182, 0, 100, 154, 0, 9, 42, 4, 182, 0, 40, 172, 42, 180, 0, 56, 180, 0, 71, 27]
abbrev dktX1_runner_0 : List UInt8 := dkwX1_runner_0 ++ dktX1_runner_1
theorem dksX1_runner_0 : cX1_runner.data.toList.drop 0 = dktX1_runner_0 := by decide +kernel
theorem dksX1_runner_1 : cX1_runner.data.toList.drop 22 = dktX1_runner_1 := dk_seg dksX1_runner_0 22 rfl rfl
theorem dksX1_runner_2 : cX1_runner.data.toList.drop 45 = dktX1_runner_2 := dk_seg dksX1_runner_1 23 rfl rfl
theorem dksX1_runner_3 : cX1_runner.data.toList.drop 69 = dktX1_runner_3 := dk_seg dksX1_runner_2 24 rfl rfl
theorem dksX1_runner_4 : cX1_runner.data.toList.drop 93 = dktX1_runner_4 := dk_seg dksX1_runner_3 24 rfl rfl
theorem dksX1_runner_5 : cX1_runner.data.toList.drop 104 = dktX1_runner_5 := dk_seg dksX1_runner_4 11 rfl rfl
theorem dksX1_runner_6 : cX1_runner.data.toList.drop 160 = dktX1_runner_6 := dk_seg dksX1_runner_5 56 rfl rfl
theorem dksX1_runner_7 : cX1_runner.data.toList.drop 183 = dktX1_runner_7 := dk_seg dksX1_runner_6 23 rfl rfl
theorem dksX1_runner_8 : cX1_runner.data.toList.drop 206 = dktX1_runner_8 := dk_seg dksX1_runner_7 23 rfl rfl
theorem dksX1_runner_9 : cX1_runner.data.toList.drop 229 = dktX1_runner_9 := dk_seg dksX1_runner_8 23 rfl rfl
theorem dksX1_runner_10 : cX1_runner.data.toList.drop 253 = dktX1_runner_10 := dk_seg dksX1_runner_9 24 rfl rfl
theorem dksX1_runner_11 : cX1_runner.data.toList.drop 276 = dktX1_runner_11 := dk_seg dksX1_runner_10 23 rfl rfl
theorem dksX1_runner_12 : cX1_runner.data.toList.drop 299 = dktX1_runner_12 := dk_seg dksX1_runner_11 23 rfl rfl
theorem dX1_runner_0 : decode cX1_runner 0 = .ok (.aload_n 0, 1) := dk_42 (dk_at dksX1_runner_0 0 rfl rfl)
theorem dX1_runner_1 : decode cX1_runner 1 = .ok (.iload_n 1, 1) := dk_27 (dk_at dksX1_runner_0 1 rfl rfl)
theorem dX1_runner_2 : decode cX1_runner 2 = .ok (.invokevirtual 100, 3) := dk_182 0 100 (dk_at dksX1_runner_0 2 rfl rfl)
theorem dX1_runner_5 : decode cX1_runner 5 = .ok (.ifCond .ne 9, 3) := dk_154 0 9 (dk_at dksX1_runner_0 5 rfl rfl)
theorem dX1_runner_8 : decode cX1_runner 8 = .ok (.aload_n 0, 1) := dk_42 (dk_at dksX1_runner_0 8 rfl rfl)
theorem dX1_runner_9 : decode cX1_runner 9 = .ok (.iconst 1, 1) := dk_4 (dk_at dksX1_runner_0 9 rfl rfl)
theorem dX1_runner_10 : decode cX1_runner 10 = .ok (.invokevirtual 40, 3) := dk_182 0 40 (dk_at dksX1_runner_0 10 rfl rfl)
theorem dX1_runner_13 : decode cX1_runner 13 = .ok (.ireturn, 1) := dk_172 (dk_at dksX1_runner_0 13 rfl rfl)
theorem dX1_runner_14 : decode cX1_runner 14 = .ok (.aload_n 0, 1) := dk_42 (dk_at dksX1_runner_0 14 rfl rfl)
theorem dX1_runner_15 : decode cX1_runner 15 = .ok (.getfield 56, 3) := dk_180 0 56 (dk_at dksX1_runner_0 15 rfl rfl)
theorem dX1_runner_18 : decode cX1_runner 18 = .ok (.getfield 71, 3) := dk_180 0 71 (dk_at dksX1_runner_0 18 rfl rfl)
theorem dX1_runner_21 : decode cX1_runner 21 = .ok (.iload_n 1, 1) := dk_27 (dk_at dksX1_runner_0 21 rfl rfl)
theorem dX1_runner_22 : decode cX1_runner 22 = .ok (.invokeinterface 93 2, 5) := by decide +kernel
theorem dX1_runner_27 : decode cX1_runner 27 = .ok (.checkcast 103, 3) := dk_192 0 103 (dk_at dksX1_runner_1 5 rfl rfl)
theorem dX1_runner_30 : decode cX1_runner 30 = .ok (.astore_n 3, 1) := dk_78 (dk_at dksX1_runner_1 8 rfl rfl)
theorem dX1_runner_31 : decode cX1_runner 31 = .ok (.aload_n 0, 1) := dk_42 (dk_at dksX1_runner_1 9 rfl rfl)
theorem dX1_runner_32 : decode cX1_runner 32 = .ok (.getfield 56, 3) := dk_180 0 56 (dk_at dksX1_runner_1 10 rfl rfl)
theorem dX1_runner_35 : decode cX1_runner 35 = .ok (.iload_n 1, 1) := dk_27 (dk_at dksX1_runner_1 13 rfl rfl)
theorem dX1_runner_36 : decode cX1_runner 36 = .ok (.invokevirtual 189, 3) := dk_182 0 189 (dk_at dksX1_runner_1 14 rfl rfl)
theorem dX1_runner_39 : decode cX1_runner 39 = .ok (.astore 4, 2) := dk_58 4 (dk_at dksX1_runner_1 17 rfl rfl)
theorem dX1_runner_41 : decode cX1_runner 41 = .ok (.aload_n 3, 1) := dk_45 (dk_at dksX1_runner_1 19 rfl rfl)
theorem dX1_runner_42 : decode cX1_runner 42 = .ok (.getfield 112, 3) := dk_180 0 112 (dk_at dksX1_runner_1 20 rfl rfl)
theorem dX1_runner_45 : decode cX1_runner 45 = .ok (.invokeinterface 77 1, 5) := by decide +kernel
theorem dX1_runner_50 : decode cX1_runner 50 = .ok (.istore 5, 2) := dk_54 5 (dk_at dksX1_runner_2 5 rfl rfl)
theorem dX1_runner_52 : decode cX1_runner 52 = .ok (.aload 4, 2) := dk_25 4 (dk_at dksX1_runner_2 7 rfl rfl)
theorem dX1_runner_54 : decode cX1_runner 54 = .ok (.getfield 193, 3) := dk_180 0 193 (dk_at dksX1_runner_2 9 rfl rfl)
theorem dX1_runner_57 : decode cX1_runner 57 = .ok (.astore 6, 2) := dk_58 6 (dk_at dksX1_runner_2 12 rfl rfl)
theorem dX1_runner_59 : decode cX1_runner 59 = .ok (.aload 6, 2) := dk_25 6 (dk_at dksX1_runner_2 14 rfl rfl)
theorem dX1_runner_61 : decode cX1_runner 61 = .ok (.arraylength, 1) := dk_190 (dk_at dksX1_runner_2 16 rfl rfl)
theorem dX1_runner_62 : decode cX1_runner 62 = .ok (.istore 7, 2) := dk_54 7 (dk_at dksX1_runner_2 17 rfl rfl)
theorem dX1_runner_64 : decode cX1_runner 64 = .ok (.iconst 0, 1) := dk_3 (dk_at dksX1_runner_2 19 rfl rfl)
theorem dX1_runner_65 : decode cX1_runner 65 = .ok (.istore 8, 2) := dk_54 8 (dk_at dksX1_runner_2 20 rfl rfl)
theorem dX1_runner_67 : decode cX1_runner 67 = .ok (.iload 8, 2) := dk_21 8 (dk_at dksX1_runner_2 22 rfl rfl)
theorem dX1_runner_69 : decode cX1_runner 69 = .ok (.iload 7, 2) := dk_21 7 (dk_at dksX1_runner_3 0 rfl rfl)
theorem dX1_runner_71 : decode cX1_runner 71 = .ok (.if_icmp .ge 32, 3) := dk_162 0 32 (dk_at dksX1_runner_3 2 rfl rfl)
theorem dX1_runner_74 : decode cX1_runner 74 = .ok (.aload 6, 2) := dk_25 6 (dk_at dksX1_runner_3 5 rfl rfl)
theorem dX1_runner_76 : decode cX1_runner 76 = .ok (.iload 8, 2) := dk_21 8 (dk_at dksX1_runner_3 7 rfl rfl)
theorem dX1_runner_78 : decode cX1_runner 78 = .ok (.iaload, 1) := dk_46 (dk_at dksX1_runner_3 9 rfl rfl)
theorem dX1_runner_79 : decode cX1_runner 79 = .ok (.istore 9, 2) := dk_54 9 (dk_at dksX1_runner_3 10 rfl rfl)
theorem dX1_runner_81 : decode cX1_runner 81 = .ok (.iload 5, 2) := dk_21 5 (dk_at dksX1_runner_3 12 rfl rfl)
theorem dX1_runner_83 : decode cX1_runner 83 = .ok (.iload 9, 2) := dk_21 9 (dk_at dksX1_runner_3 14 rfl rfl)
theorem dX1_runner_85 : decode cX1_runner 85 = .ok (.iconst (-1), 1) := dk_2 (dk_at dksX1_runner_3 16 rfl rfl)
theorem dX1_runner_86 : decode cX1_runner 86 = .ok (.if_icmp .ne 7, 3) := dk_160 0 7 (dk_at dksX1_runner_3 17 rfl rfl)
theorem dX1_runner_89 : decode cX1_runner 89 = .ok (.iconst 0, 1) := dk_3 (dk_at dksX1_runner_3 20 rfl rfl)
theorem dX1_runner_90 : decode cX1_runner 90 = .ok (.goto 4, 3) := dk_167 0 4 (dk_at dksX1_runner_3 21 rfl rfl)
theorem dX1_runner_93 : decode cX1_runner 93 = .ok (.iconst 1, 1) := dk_4 (dk_at dksX1_runner_4 0 rfl rfl)
theorem dX1_runner_94 : decode cX1_runner 94 = .ok (.isub, 1) := dk_100 (dk_at dksX1_runner_4 1 rfl rfl)
theorem dX1_runner_95 : decode cX1_runner 95 = .ok (.istore 5, 2) := dk_54 5 (dk_at dksX1_runner_4 2 rfl rfl)
theorem dX1_runner_97 : decode cX1_runner 97 = .ok (.iinc 8 1, 3) := dk_132 8 1 (dk_at dksX1_runner_4 4 rfl rfl)
theorem dX1_runner_100 : decode cX1_runner 100 = .ok (.goto (-33), 3) := dk_167 255 223 (dk_at dksX1_runner_4 7 rfl rfl)
theorem dX1_runner_103 : decode cX1_runner 103 = .ok (.iload_n 2, 1) := dk_28 (dk_at dksX1_runner_4 10 rfl rfl)
theorem dX1_runner_104 : decode cX1_runner 104 = .ok (.tableswitch 204 0 9 #[56, 65, 74, 83, 92, 106, 116, 123, 144, 170], 56) := by decide +kernel
theorem dX1_runner_160 : decode cX1_runner 160 = .ok (.aload_n 0, 1) := dk_42 (dk_at dksX1_runner_6 0 rfl rfl)
theorem dX1_runner_161 : decode cX1_runner 161 = .ok (.aload_n 3, 1) := dk_45 (dk_at dksX1_runner_6 1 rfl rfl)
theorem dX1_runner_162 : decode cX1_runner 162 = .ok (.getfield 105, 3) := dk_180 0 105 (dk_at dksX1_runner_6 2 rfl rfl)
theorem dX1_runner_165 : decode cX1_runner 165 = .ok (.invokevirtual 83, 3) := dk_182 0 83 (dk_at dksX1_runner_6 5 rfl rfl)
theorem dX1_runner_168 : decode cX1_runner 168 = .ok (.ireturn, 1) := dk_172 (dk_at dksX1_runner_6 8 rfl rfl)
theorem dX1_runner_169 : decode cX1_runner 169 = .ok (.aload_n 0, 1) := dk_42 (dk_at dksX1_runner_6 9 rfl rfl)
theorem dX1_runner_170 : decode cX1_runner 170 = .ok (.aload_n 3, 1) := dk_45 (dk_at dksX1_runner_6 10 rfl rfl)
theorem dX1_runner_171 : decode cX1_runner 171 = .ok (.getfield 199, 3) := dk_180 0 199 (dk_at dksX1_runner_6 11 rfl rfl)
theorem dX1_runner_174 : decode cX1_runner 174 = .ok (.invokevirtual 83, 3) := dk_182 0 83 (dk_at dksX1_runner_6 14 rfl rfl)
theorem dX1_runner_177 : decode cX1_runner 177 = .ok (.ireturn, 1) := dk_172 (dk_at dksX1_runner_6 17 rfl rfl)
theorem dX1_runner_178 : decode cX1_runner 178 = .ok (.aload_n 0, 1) := dk_42 (dk_at dksX1_runner_6 18 rfl rfl)
theorem dX1_runner_179 : decode cX1_runner 179 = .ok (.aload_n 3, 1) := dk_45 (dk_at dksX1_runner_6 19 rfl rfl)
theorem dX1_runner_180 : decode cX1_runner 180 = .ok (.getfield 202, 3) := dk_180 0 202 (dk_at dksX1_runner_6 20 rfl rfl)
theorem dX1_runner_183 : decode cX1_runner 183 = .ok (.invokevirtual 83, 3) := dk_182 0 83 (dk_at dksX1_runner_7 0 rfl rfl)
theorem dX1_runner_186 : decode cX1_runner 186 = .ok (.ireturn, 1) := dk_172 (dk_at dksX1_runner_7 3 rfl rfl)
theorem dX1_runner_187 : decode cX1_runner 187 = .ok (.aload_n 0, 1) := dk_42 (dk_at dksX1_runner_7 4 rfl rfl)
theorem dX1_runner_188 : decode cX1_runner 188 = .ok (.aload_n 3, 1) := dk_45 (dk_at dksX1_runner_7 5 rfl rfl)
theorem dX1_runner_189 : decode cX1_runner 189 = .ok (.invokevirtual 161, 3) := dk_182 0 161 (dk_at dksX1_runner_7 6 rfl rfl)
theorem dX1_runner_192 : decode cX1_runner 192 = .ok (.invokevirtual 83, 3) := dk_182 0 83 (dk_at dksX1_runner_7 9 rfl rfl)
theorem dX1_runner_195 : decode cX1_runner 195 = .ok (.ireturn, 1) := dk_172 (dk_at dksX1_runner_7 12 rfl rfl)
theorem dX1_runner_196 : decode cX1_runner 196 = .ok (.aload_n 0, 1) := dk_42 (dk_at dksX1_runner_7 13 rfl rfl)
theorem dX1_runner_197 : decode cX1_runner 197 = .ok (.aload_n 3, 1) := dk_45 (dk_at dksX1_runner_7 14 rfl rfl)
theorem dX1_runner_198 : decode cX1_runner 198 = .ok (.getfield 112, 3) := dk_180 0 112 (dk_at dksX1_runner_7 15 rfl rfl)
theorem dX1_runner_201 : decode cX1_runner 201 = .ok (.invokeinterface 77 1, 5) := by decide +kernel
theorem dX1_runner_206 : decode cX1_runner 206 = .ok (.invokevirtual 83, 3) := dk_182 0 83 (dk_at dksX1_runner_8 0 rfl rfl)
theorem dX1_runner_209 : decode cX1_runner 209 = .ok (.ireturn, 1) := dk_172 (dk_at dksX1_runner_8 3 rfl rfl)
theorem dX1_runner_210 : decode cX1_runner 210 = .ok (.aload_n 0, 1) := dk_42 (dk_at dksX1_runner_8 4 rfl rfl)
theorem dX1_runner_211 : decode cX1_runner 211 = .ok (.aload 4, 2) := dk_25 4 (dk_at dksX1_runner_8 5 rfl rfl)
theorem dX1_runner_213 : decode cX1_runner 213 = .ok (.invokevirtual 205, 3) := dk_182 0 205 (dk_at dksX1_runner_8 7 rfl rfl)
theorem dX1_runner_216 : decode cX1_runner 216 = .ok (.invokevirtual 83, 3) := dk_182 0 83 (dk_at dksX1_runner_8 10 rfl rfl)
theorem dX1_runner_219 : decode cX1_runner 219 = .ok (.ireturn, 1) := dk_172 (dk_at dksX1_runner_8 13 rfl rfl)
theorem dX1_runner_220 : decode cX1_runner 220 = .ok (.aload_n 0, 1) := dk_42 (dk_at dksX1_runner_8 14 rfl rfl)
theorem dX1_runner_221 : decode cX1_runner 221 = .ok (.iload 5, 2) := dk_21 5 (dk_at dksX1_runner_8 15 rfl rfl)
theorem dX1_runner_223 : decode cX1_runner 223 = .ok (.invokevirtual 83, 3) := dk_182 0 83 (dk_at dksX1_runner_8 17 rfl rfl)
theorem dX1_runner_226 : decode cX1_runner 226 = .ok (.ireturn, 1) := dk_172 (dk_at dksX1_runner_8 20 rfl rfl)
theorem dX1_runner_227 : decode cX1_runner 227 = .ok (.aload_n 0, 1) := dk_42 (dk_at dksX1_runner_8 21 rfl rfl)
theorem dX1_runner_228 : decode cX1_runner 228 = .ok (.aload_n 0, 1) := dk_42 (dk_at dksX1_runner_8 22 rfl rfl)
theorem dX1_runner_229 : decode cX1_runner 229 = .ok (.getfield 56, 3) := dk_180 0 56 (dk_at dksX1_runner_9 0 rfl rfl)
theorem dX1_runner_232 : decode cX1_runner 232 = .ok (.iload_n 1, 1) := dk_27 (dk_at dksX1_runner_9 3 rfl rfl)
theorem dX1_runner_233 : decode cX1_runner 233 = .ok (.invokevirtual 115, 3) := dk_182 0 115 (dk_at dksX1_runner_9 4 rfl rfl)
theorem dX1_runner_236 : decode cX1_runner 236 = .ok (.ifCond .eq 7, 3) := dk_153 0 7 (dk_at dksX1_runner_9 7 rfl rfl)
theorem dX1_runner_239 : decode cX1_runner 239 = .ok (.iconst 1, 1) := dk_4 (dk_at dksX1_runner_9 10 rfl rfl)
theorem dX1_runner_240 : decode cX1_runner 240 = .ok (.goto 4, 3) := dk_167 0 4 (dk_at dksX1_runner_9 11 rfl rfl)
theorem dX1_runner_243 : decode cX1_runner 243 = .ok (.iconst 0, 1) := dk_3 (dk_at dksX1_runner_9 14 rfl rfl)
theorem dX1_runner_244 : decode cX1_runner 244 = .ok (.invokevirtual 83, 3) := dk_182 0 83 (dk_at dksX1_runner_9 15 rfl rfl)
theorem dX1_runner_247 : decode cX1_runner 247 = .ok (.ireturn, 1) := dk_172 (dk_at dksX1_runner_9 18 rfl rfl)
theorem dX1_runner_248 : decode cX1_runner 248 = .ok (.aload_n 0, 1) := dk_42 (dk_at dksX1_runner_9 19 rfl rfl)
theorem dX1_runner_249 : decode cX1_runner 249 = .ok (.aload_n 0, 1) := dk_42 (dk_at dksX1_runner_9 20 rfl rfl)
theorem dX1_runner_250 : decode cX1_runner 250 = .ok (.getfield 56, 3) := dk_180 0 56 (dk_at dksX1_runner_9 21 rfl rfl)
theorem dX1_runner_253 : decode cX1_runner 253 = .ok (.iload_n 1, 1) := dk_27 (dk_at dksX1_runner_10 0 rfl rfl)
theorem dX1_runner_254 : decode cX1_runner 254 = .ok (.invokevirtual 115, 3) := dk_182 0 115 (dk_at dksX1_runner_10 1 rfl rfl)
theorem dX1_runner_257 : decode cX1_runner 257 = .ok (.ifCond .eq 11, 3) := dk_153 0 11 (dk_at dksX1_runner_10 4 rfl rfl)
theorem dX1_runner_260 : decode cX1_runner 260 = .ok (.aload_n 0, 1) := dk_42 (dk_at dksX1_runner_10 7 rfl rfl)
theorem dX1_runner_261 : decode cX1_runner 261 = .ok (.iload_n 1, 1) := dk_27 (dk_at dksX1_runner_10 8 rfl rfl)
theorem dX1_runner_262 : decode cX1_runner 262 = .ok (.invokevirtual 208, 3) := dk_182 0 208 (dk_at dksX1_runner_10 9 rfl rfl)
theorem dX1_runner_265 : decode cX1_runner 265 = .ok (.goto 5, 3) := dk_167 0 5 (dk_at dksX1_runner_10 12 rfl rfl)
theorem dX1_runner_268 : decode cX1_runner 268 = .ok (.bipush (-2), 2) := dk_16 254 (dk_at dksX1_runner_10 15 rfl rfl)
theorem dX1_runner_270 : decode cX1_runner 270 = .ok (.invokevirtual 83, 3) := dk_182 0 83 (dk_at dksX1_runner_10 17 rfl rfl)
theorem dX1_runner_273 : decode cX1_runner 273 = .ok (.ireturn, 1) := dk_172 (dk_at dksX1_runner_10 20 rfl rfl)
theorem dX1_runner_274 : decode cX1_runner 274 = .ok (.aload_n 0, 1) := dk_42 (dk_at dksX1_runner_10 21 rfl rfl)
theorem dX1_runner_275 : decode cX1_runner 275 = .ok (.aload_n 0, 1) := dk_42 (dk_at dksX1_runner_10 22 rfl rfl)
theorem dX1_runner_276 : decode cX1_runner 276 = .ok (.getfield 56, 3) := dk_180 0 56 (dk_at dksX1_runner_11 0 rfl rfl)
theorem dX1_runner_279 : decode cX1_runner 279 = .ok (.iload_n 1, 1) := dk_27 (dk_at dksX1_runner_11 3 rfl rfl)
theorem dX1_runner_280 : decode cX1_runner 280 = .ok (.invokevirtual 115, 3) := dk_182 0 115 (dk_at dksX1_runner_11 4 rfl rfl)
theorem dX1_runner_283 : decode cX1_runner 283 = .ok (.ifCond .eq 19, 3) := dk_153 0 19 (dk_at dksX1_runner_11 7 rfl rfl)
theorem dX1_runner_286 : decode cX1_runner 286 = .ok (.aload_n 3, 1) := dk_45 (dk_at dksX1_runner_11 10 rfl rfl)
theorem dX1_runner_287 : decode cX1_runner 287 = .ok (.invokevirtual 161, 3) := dk_182 0 161 (dk_at dksX1_runner_11 11 rfl rfl)
theorem dX1_runner_290 : decode cX1_runner 290 = .ok (.aload_n 0, 1) := dk_42 (dk_at dksX1_runner_11 14 rfl rfl)
theorem dX1_runner_291 : decode cX1_runner 291 = .ok (.aload_n 3, 1) := dk_45 (dk_at dksX1_runner_11 15 rfl rfl)
theorem dX1_runner_292 : decode cX1_runner 292 = .ok (.getfield 105, 3) := dk_180 0 105 (dk_at dksX1_runner_11 16 rfl rfl)
theorem dX1_runner_295 : decode cX1_runner 295 = .ok (.invokevirtual 167, 3) := dk_182 0 167 (dk_at dksX1_runner_11 19 rfl rfl)
theorem dX1_runner_298 : decode cX1_runner 298 = .ok (.isub, 1) := dk_100 (dk_at dksX1_runner_11 22 rfl rfl)
theorem dX1_runner_299 : decode cX1_runner 299 = .ok (.goto 5, 3) := dk_167 0 5 (dk_at dksX1_runner_12 0 rfl rfl)
theorem dX1_runner_302 : decode cX1_runner 302 = .ok (.bipush (-2), 2) := dk_16 254 (dk_at dksX1_runner_12 3 rfl rfl)
theorem dX1_runner_304 : decode cX1_runner 304 = .ok (.invokevirtual 83, 3) := dk_182 0 83 (dk_at dksX1_runner_12 5 rfl rfl)
theorem dX1_runner_307 : decode cX1_runner 307 = .ok (.ireturn, 1) := dk_172 (dk_at dksX1_runner_12 8 rfl rfl)
theorem dX1_runner_308 : decode cX1_runner 308 = .ok (.aload_n 0, 1) := dk_42 (dk_at dksX1_runner_12 9 rfl rfl)
theorem dX1_runner_309 : decode cX1_runner 309 = .ok (.iconst 1, 1) := dk_4 (dk_at dksX1_runner_12 10 rfl rfl)
theorem dX1_runner_310 : decode cX1_runner 310 = .ok (.invokevirtual 40, 3) := dk_182 0 40 (dk_at dksX1_runner_12 11 rfl rfl)
theorem dX1_runner_313 : decode cX1_runner 313 = .ok (.ireturn, 1) := dk_172 (dk_at dksX1_runner_12 14 rfl rfl)
theorem md_X1_runner : xMd yX1_runner cX1_runner 10 (Option.some Jvm.ClassFile.FieldType.int) 2 := ⟨q1779, q123, by decide, by decide +kernel, by decide +kernel, by decide +kernel⟩
def f_X1_runner_244 (a0 : Nat)  (w1 : Int32) (p0 : PH) : Option (xO × PH) :=
  (xcI (f_X1_fine p0 a0 w1) fun x60 p59 =>
  (rI x60 p59))
def f_X1_runner_270 (a0 : Nat)  (w1 : Int32) (p0 : PH) : Option (xO × PH) :=
  (xcI (f_X1_fine p0 a0 w1) fun x66 p65 =>
  (rI x66 p65))
def f_X1_runner_304 (a0 : Nat)  (w1 : Int32) (p0 : PH) : Option (xO × PH) :=
  (xcI (f_X1_fine p0 a0 w1) fun x74 p73 =>
  (rI x74 p73))
def f_X1_runner_94 (a0 : Nat) (k67 : Int32 × Int32 × Option Nat × Option Nat × Int32 × Option Nat × Int32 × Int32 × PH → Option (xO × PH)) (v1 : Int32) (v2 : Int32) (v3 : Option Nat) (v4 : Option Nat) (v6 : Option Nat) (v7 : Int32) (v8 : Int32) (w0 : Int32) (w1 : Int32) (p0 : PH) : Option (xO × PH) :=
  (bnd (w0 - w1) fun x83 =>
  (bnd (v8 + 1) fun x84 =>
  (k67 (v1, v2, v3, v4, x83, v6, v7, x84, p0))))
def f_X1_runner_67F (a0 : Nat)  (k67 : Int32 × Int32 × Option Nat × Option Nat × Int32 × Option Nat × Int32 × Int32 × PH → Option (xO × PH)) (p : Int32 × Int32 × Option Nat × Option Nat × Int32 × Option Nat × Int32 × Int32 × PH) : Option (xO × PH) := match p with
  | (v1, v2, v3, v4, v5, v6, v7, v8, p0) => (if v7 ≤ v8 then
  (xtab v2 0 [
  (xnul v3 none fun b24 =>
  (xgI p0 b24 6 1 fun x25 =>
  (xcI (f_X1_fine p0 a0 x25) fun x27 p26 =>
  (rI x27 p26)))),
  (xnul v3 none fun b28 =>
  (xgI p0 b28 6 2 fun x29 =>
  (xcI (f_X1_fine p0 a0 x29) fun x31 p30 =>
  (rI x31 p30)))),
  (xnul v3 none fun b32 =>
  (xgI p0 b32 6 3 fun x33 =>
  (xcI (f_X1_fine p0 a0 x33) fun x35 p34 =>
  (rI x35 p34)))),
  (xnul v3 none fun b36 =>
  (xcI (f_X7_total p0 b36 ) fun x38 p37 =>
  (xcI (f_X1_fine p37 a0 x38) fun x40 p39 =>
  (rI x40 p39)))),
  (xnul v3 none fun b41 =>
  (xgR p0 b41 6 4 fun x42 =>
  (xnul x42 none fun b43 =>
  (xcI (f_J3_size p0 b43 ) fun x45 p44 =>
  (xcI (f_X1_fine p44 a0 x45) fun x47 p46 =>
  (rI x47 p46)))))),
  (xnul v4 none fun b48 =>
  (xcI (f_X9_missed p0 b48 ) fun x50 p49 =>
  (xcI (f_X1_fine p49 a0 x50) fun x52 p51 =>
  (rI x52 p51)))),
  (xcI (f_X1_fine p0 a0 v5) fun x54 p53 =>
  (rI x54 p53)),
  (xgR p0 a0 0 5 fun x55 =>
  (xnul x55 none fun b56 =>
  (xcI (f_X4_isValid p0 b56 v1) fun x58 p57 =>
  (if x58 = 0 then
  (f_X1_runner_244 a0 0 p57) else
  (f_X1_runner_244 a0 1 p57))))),
  (xgR p0 a0 0 5 fun x61 =>
  (xnul x61 none fun b62 =>
  (xcI (f_X4_isValid p0 b62 v1) fun x64 p63 =>
  (if x64 = 0 then
  (f_X1_runner_270 a0 (-2) p63) else
  (xcI (f_X1_placeOf p63 a0 v1) fun x68 p67 =>
  (f_X1_runner_270 a0 x68 p67)))))),
  (xgR p0 a0 0 5 fun x69 =>
  (xnul x69 none fun b70 =>
  (xcI (f_X4_isValid p0 b70 v1) fun x72 p71 =>
  (if x72 = 0 then
  (f_X1_runner_304 a0 (-2) p71) else
  (xnul v3 none fun b75 =>
  (xcI (f_X7_total p71 b75 ) fun x77 p76 =>
  (xgI p76 b75 6 1 fun x78 =>
  (xcI (f_X1_leastTotal p76 a0 x78) fun x80 p79 =>
  (f_X1_runner_304 a0 (x77 - x80) p79)))))))))]
  (xcI (f_X1_refused p0 a0 1) fun x23 p22 =>
  (rI x23 p22))) else
  (xnul v6 none fun b81 =>
  (xaI p0 b81 0 v8 fun x82 =>
  (if x82 = (-1) then
  (f_X1_runner_94 a0 k67 v1 v2 v3 v4 ((some b81)) v7 v8 v5 0 p0) else
  (f_X1_runner_94 a0 k67 v1 v2 v3 v4 ((some b81)) v7 v8 v5 1 p0)))))
def f_X1_runner (p0 : PH) (a0 : Nat) (a1 : Int32) (a2 : Int32) : Option (xO × PH) :=
  (xcl1 p0 a0 0 (xcI (f_X1_isRunner p0 a0 a1) fun x2 p1 =>
  (if x2 = 0 then
  (xcI (f_X1_refused p1 a0 1) fun x86 p85 =>
  (rI x86 p85)) else
  (xgR p1 a0 0 5 fun x3 =>
  (xnul x3 none fun b4 =>
  (xgR p1 b4 3 1 fun x5 =>
  (xnul x5 none fun b6 =>
  (xcR (f_J3_get p1 b6 a1) fun x8 p7 =>
  (xcst p7 (x8) [6]
  (xgR p7 a0 0 5 fun x9 =>
  (xnul x9 none fun b10 =>
  (xcR (f_X4_match p7 b10 a1) fun x12 p11 =>
  (xnul x8 none fun b13 =>
  (xgR p11 b13 6 4 fun x14 =>
  (xnul x14 none fun b15 =>
  (xcI (f_J3_size p11 b15 ) fun x17 p16 =>
  (xnul x12 none fun b18 =>
  (xgR p16 b18 8 2 fun x19 =>
  (xnul x19 none fun b20 =>
  (xlen p16 b20 fun x21 =>
  (lp (f_X1_runner_67F a0) FU (a1, a2, ((some b13)), ((some b18)), x17, ((some b20)), x21, 0, p16))))))))))))))))))))))
theorem rc_X1_runner {p0 : PH} {a0 : Nat} {a1 : Int32} {a2 : Int32} : ∀ z, f_X1_runner p0 a0 a1 a2 = some z → xco p0 a0 = some 0 := fun z h => xcl1_some h
theorem f_X1_runner_244_ok {G : xG} (hO : xOK G) (a0 : Nat)  (w1 : Int32) (p0 : PH) : X G "ForestLegs" "runner" cX1_runner 10 (Option.some Jvm.ClassFile.FieldType.int) 11 244 [] [.int w1, .ref a0] p0 (f_X1_runner_244 a0 w1 p0) := by
  unfold f_X1_runner_244
  refine x_callV_I [.int w1] [] (f_X1_fine_ok hO p0 a0 w1) rc_X1_fine md_X1_fine rfl q1480 q1482 qs26 dX1_runner_244 rfl rfl (by decide) (Nat.le_of_ble_eq_true rfl) (n := 247) rfl (fun x60 p59 => ?_)
  exact x_ireturn dX1_runner_247
theorem f_X1_runner_270_ok {G : xG} (hO : xOK G) (a0 : Nat)  (w1 : Int32) (p0 : PH) : X G "ForestLegs" "runner" cX1_runner 10 (Option.some Jvm.ClassFile.FieldType.int) 11 270 [] [.int w1, .ref a0] p0 (f_X1_runner_270 a0 w1 p0) := by
  unfold f_X1_runner_270
  refine x_callV_I [.int w1] [] (f_X1_fine_ok hO p0 a0 w1) rc_X1_fine md_X1_fine rfl q1480 q1482 qs26 dX1_runner_270 rfl rfl (by decide) (Nat.le_of_ble_eq_true rfl) (n := 273) rfl (fun x66 p65 => ?_)
  exact x_ireturn dX1_runner_273
theorem f_X1_runner_304_ok {G : xG} (hO : xOK G) (a0 : Nat)  (w1 : Int32) (p0 : PH) : X G "ForestLegs" "runner" cX1_runner 10 (Option.some Jvm.ClassFile.FieldType.int) 11 304 [] [.int w1, .ref a0] p0 (f_X1_runner_304 a0 w1 p0) := by
  unfold f_X1_runner_304
  refine x_callV_I [.int w1] [] (f_X1_fine_ok hO p0 a0 w1) rc_X1_fine md_X1_fine rfl q1480 q1482 qs26 dX1_runner_304 rfl rfl (by decide) (Nat.le_of_ble_eq_true rfl) (n := 307) rfl (fun x74 p73 => ?_)
  exact x_ireturn dX1_runner_307
theorem f_X1_runner_94_ok {G : xG} (hO : xOK G) (a0 : Nat) {k67 : Int32 × Int32 × Option Nat × Option Nat × Int32 × Option Nat × Int32 × Int32 × PH → Option (xO × PH)} (hk67 : ∀ (v1 : Int32) (v2 : Int32) (v3 : Option Nat) (v4 : Option Nat) (v5 : Int32) (v6 : Option Nat) (v7 : Int32) (v8 : Int32) (p0 : PH), X G "ForestLegs" "runner" cX1_runner 10 (Option.some Jvm.ClassFile.FieldType.int) 11 67 [(0, .ref a0), (1, .int v1), (2, .int v2), (3, va_rf v3), (4, va_rf v4), (5, .int v5), (6, va_rf v6), (7, .int v7), (8, .int v8)] [] p0 (k67 (v1, v2, v3, v4, v5, v6, v7, v8, p0))) (v1 : Int32) (v2 : Int32) (v3 : Option Nat) (v4 : Option Nat) (v6 : Option Nat) (v7 : Int32) (v8 : Int32) (w0 : Int32) (w1 : Int32) (p0 : PH) : X G "ForestLegs" "runner" cX1_runner 10 (Option.some Jvm.ClassFile.FieldType.int) 11 94 [(0, .ref a0), (1, .int v1), (2, .int v2), (3, va_rf v3), (4, va_rf v4), (6, va_rf v6), (7, .int v7), (8, .int v8)] [.int w1, .int w0] p0 (f_X1_runner_94 a0 k67 v1 v2 v3 v4 v6 v7 v8 w0 w1 p0) := by
  unfold f_X1_runner_94
  refine x_isub dX1_runner_94 (n := 95) rfl ?_
  refine x_nm (fun x83 => ?_)
  refine x_istore [(5, .int x83), (0, .ref a0), (1, .int v1), (2, .int v2), (3, va_rf v3), (4, va_rf v4), (6, va_rf v6), (7, .int v7), (8, .int v8)] dX1_runner_95 (by decide) (by simp only [xst, List.filter_cons, List.filter_nil, xcat] <;> rfl) (n := 97) rfl ?_
  refine x_iincB 8 (fun x84 => [(8, .int x84), (5, .int x83), (0, .ref a0), (1, .int v1), (2, .int v2), (3, va_rf v3), (4, va_rf v4), (6, va_rf v6), (7, .int v7)]) dX1_runner_97 rfl rfl (by decide) (fun _ => rfl) (n := 100) rfl (fun x84 => ?_)
  refine x_goto dX1_runner_100 (n := 67) (by decide) ?_
  refine x_sub [2, 3, 4, 5, 6, 1, 7, 8, 0] [(0, .ref a0), (1, .int v1), (2, .int v2), (3, va_rf v3), (4, va_rf v4), (5, .int x83), (6, va_rf v6), (7, .int v7), (8, .int x84)] rfl ?_
  exact hk67 v1 v2 v3 v4 x83 v6 v7 x84 p0
theorem f_X1_runner_67F_ok {G : xG} (hO : xOK G) (a0 : Nat)  {k67 : Int32 × Int32 × Option Nat × Option Nat × Int32 × Option Nat × Int32 × Int32 × PH → Option (xO × PH)} (hk67 : ∀ (v1 : Int32) (v2 : Int32) (v3 : Option Nat) (v4 : Option Nat) (v5 : Int32) (v6 : Option Nat) (v7 : Int32) (v8 : Int32) (p0 : PH), X G "ForestLegs" "runner" cX1_runner 10 (Option.some Jvm.ClassFile.FieldType.int) 11 67 [(0, .ref a0), (1, .int v1), (2, .int v2), (3, va_rf v3), (4, va_rf v4), (5, .int v5), (6, va_rf v6), (7, .int v7), (8, .int v8)] [] p0 (k67 (v1, v2, v3, v4, v5, v6, v7, v8, p0))) (v1 : Int32) (v2 : Int32) (v3 : Option Nat) (v4 : Option Nat) (v5 : Int32) (v6 : Option Nat) (v7 : Int32) (v8 : Int32) (p0 : PH) : X G "ForestLegs" "runner" cX1_runner 10 (Option.some Jvm.ClassFile.FieldType.int) 11 67 [(0, .ref a0), (1, .int v1), (2, .int v2), (3, va_rf v3), (4, va_rf v4), (5, .int v5), (6, va_rf v6), (7, .int v7), (8, .int v8)] [] p0 (f_X1_runner_67F a0 k67 (v1, v2, v3, v4, v5, v6, v7, v8, p0)) := by
  unfold f_X1_runner_67F
  refine x_iload 8 dX1_runner_67 rfl (n := 69) rfl ?_
  refine x_iload 7 dX1_runner_69 rfl (n := 71) rfl ?_
  refine x_icmp_ge dX1_runner_71 (t := 103) (by decide) (n := 74) rfl (fun _ => ?_) (fun _ => ?_)
  · refine x_iload_n 2 dX1_runner_103 rfl rfl (n := 104) rfl ?_
    refine x_tab [160, 169, 178, 187, 196, 210, 220, 227, 248, 274] dX1_runner_104 rfl rfl (td := 308) (by decide) ?_ ⟨?_, ?_, ?_, ?_, ?_, ?_, ?_, ?_, ?_, ?_, trivial⟩
    · refine x_aload_nr 0 dX1_runner_308 rfl rfl (n := 309) rfl ?_
      refine x_iconst 1 dX1_runner_309 rfl (n := 310) rfl ?_
      refine x_callV_I [.int 1] [] (f_X1_refused_ok hO p0 a0 1) rc_X1_refused md_X1_refused rfl q250 q252 qs0 dX1_runner_310 rfl rfl (by decide) (Nat.le_of_ble_eq_true rfl) (n := 313) rfl (fun x23 p22 => ?_)
      exact x_ireturn dX1_runner_313
    · refine x_aload_nr 0 dX1_runner_160 rfl rfl (n := 161) rfl ?_
      refine x_aload_n 3 dX1_runner_161 rfl rfl (n := 162) rfl ?_
      refine x_sm (fun b24 e => ?_)
      subst e
      refine x_getI fl_X1_105 dX1_runner_162 (n := 165) rfl (fun x25 => ?_)
      refine x_callV_I [.int x25] [] (f_X1_fine_ok hO p0 a0 x25) rc_X1_fine md_X1_fine rfl q1480 q1482 qs26 dX1_runner_165 rfl rfl (by decide) (Nat.le_of_ble_eq_true rfl) (n := 168) rfl (fun x27 p26 => ?_)
      exact x_ireturn dX1_runner_168
    · refine x_aload_nr 0 dX1_runner_169 rfl rfl (n := 170) rfl ?_
      refine x_aload_n 3 dX1_runner_170 rfl rfl (n := 171) rfl ?_
      refine x_sm (fun b28 e => ?_)
      subst e
      refine x_getI fl_X1_199 dX1_runner_171 (n := 174) rfl (fun x29 => ?_)
      refine x_callV_I [.int x29] [] (f_X1_fine_ok hO p0 a0 x29) rc_X1_fine md_X1_fine rfl q1480 q1482 qs26 dX1_runner_174 rfl rfl (by decide) (Nat.le_of_ble_eq_true rfl) (n := 177) rfl (fun x31 p30 => ?_)
      exact x_ireturn dX1_runner_177
    · refine x_aload_nr 0 dX1_runner_178 rfl rfl (n := 179) rfl ?_
      refine x_aload_n 3 dX1_runner_179 rfl rfl (n := 180) rfl ?_
      refine x_sm (fun b32 e => ?_)
      subst e
      refine x_getI fl_X1_202 dX1_runner_180 (n := 183) rfl (fun x33 => ?_)
      refine x_callV_I [.int x33] [] (f_X1_fine_ok hO p0 a0 x33) rc_X1_fine md_X1_fine rfl q1480 q1482 qs26 dX1_runner_183 rfl rfl (by decide) (Nat.le_of_ble_eq_true rfl) (n := 186) rfl (fun x35 p34 => ?_)
      exact x_ireturn dX1_runner_186
    · refine x_aload_nr 0 dX1_runner_187 rfl rfl (n := 188) rfl ?_
      refine x_aload_n 3 dX1_runner_188 rfl rfl (n := 189) rfl ?_
      refine x_sm (fun b36 e => ?_)
      subst e
      refine x_callV_I [] [.ref a0] (f_X7_total_ok hO p0 b36 ) rc_X7_total md_X7_total rfl q1766 q963 q964 dX1_runner_189 rfl rfl (by decide) (Nat.le_of_ble_eq_true rfl) (n := 192) rfl (fun x38 p37 => ?_)
      refine x_callV_I [.int x38] [] (f_X1_fine_ok hO p37 a0 x38) rc_X1_fine md_X1_fine rfl q1480 q1482 qs26 dX1_runner_192 rfl rfl (by decide) (Nat.le_of_ble_eq_true rfl) (n := 195) rfl (fun x40 p39 => ?_)
      exact x_ireturn dX1_runner_195
    · refine x_aload_nr 0 dX1_runner_196 rfl rfl (n := 197) rfl ?_
      refine x_aload_n 3 dX1_runner_197 rfl rfl (n := 198) rfl ?_
      refine x_sm (fun b41 e => ?_)
      subst e
      refine x_getR fl_X1_112 dX1_runner_198 (n := 201) rfl (fun x42 => ?_)
      refine x_sm (fun b43 e => ?_)
      subst e
      refine x_callF_I [] [.ref a0] (f_J3_size_ok hO p0 b43 ) rc_J3_size md_J3_size rfl q1479 fc_java_util_ArrayList_java_util_List_size_0_I dX1_runner_201 rfl rfl (by decide) (Nat.le_of_ble_eq_true rfl) (n := 206) rfl (fun x45 p44 => ?_)
      refine x_callV_I [.int x45] [] (f_X1_fine_ok hO p44 a0 x45) rc_X1_fine md_X1_fine rfl q1480 q1482 qs26 dX1_runner_206 rfl rfl (by decide) (Nat.le_of_ble_eq_true rfl) (n := 209) rfl (fun x47 p46 => ?_)
      exact x_ireturn dX1_runner_209
    · refine x_aload_nr 0 dX1_runner_210 rfl rfl (n := 211) rfl ?_
      refine x_aload 4 dX1_runner_211 rfl (n := 213) rfl ?_
      refine x_sm (fun b48 e => ?_)
      subst e
      refine x_callV_I [] [.ref a0] (f_X9_missed_ok hO p0 b48 ) rc_X9_missed md_X9_missed rfl q1785 q1552 q1553 dX1_runner_213 rfl rfl (by decide) (Nat.le_of_ble_eq_true rfl) (n := 216) rfl (fun x50 p49 => ?_)
      refine x_callV_I [.int x50] [] (f_X1_fine_ok hO p49 a0 x50) rc_X1_fine md_X1_fine rfl q1480 q1482 qs26 dX1_runner_216 rfl rfl (by decide) (Nat.le_of_ble_eq_true rfl) (n := 219) rfl (fun x52 p51 => ?_)
      exact x_ireturn dX1_runner_219
    · refine x_aload_nr 0 dX1_runner_220 rfl rfl (n := 221) rfl ?_
      refine x_iload 5 dX1_runner_221 rfl (n := 223) rfl ?_
      refine x_callV_I [.int v5] [] (f_X1_fine_ok hO p0 a0 v5) rc_X1_fine md_X1_fine rfl q1480 q1482 qs26 dX1_runner_223 rfl rfl (by decide) (Nat.le_of_ble_eq_true rfl) (n := 226) rfl (fun x54 p53 => ?_)
      exact x_ireturn dX1_runner_226
    · refine x_aload_nr 0 dX1_runner_227 rfl rfl (n := 228) rfl ?_
      refine x_aload_nr 0 dX1_runner_228 rfl rfl (n := 229) rfl ?_
      refine x_getR fl_X1_56 dX1_runner_229 (n := 232) rfl (fun x55 => ?_)
      refine x_iload_n 1 dX1_runner_232 rfl rfl (n := 233) rfl ?_
      refine x_sm (fun b56 e => ?_)
      subst e
      refine x_callV_I [.int v1] [.ref a0] (f_X4_isValid_ok hO p0 b56 v1) rc_X4_isValid md_X4_isValid rfl q1499 q1500 q1501 dX1_runner_233 rfl rfl (by decide) (Nat.le_of_ble_eq_true rfl) (n := 236) rfl (fun x58 p57 => ?_)
      refine x_if_eq dX1_runner_236 (t := 243) (by decide) (n := 239) rfl (fun _ => ?_) (fun _ => ?_)
      · refine x_iconst 0 dX1_runner_243 rfl (n := 244) rfl ?_
        refine x_sub [] [] rfl ?_
        exact f_X1_runner_244_ok hO a0 0 p57
      · refine x_iconst 1 dX1_runner_239 rfl (n := 240) rfl ?_
        refine x_goto dX1_runner_240 (n := 244) (by decide) ?_
        refine x_sub [] [] rfl ?_
        exact f_X1_runner_244_ok hO a0 1 p57
    · refine x_aload_nr 0 dX1_runner_248 rfl rfl (n := 249) rfl ?_
      refine x_aload_nr 0 dX1_runner_249 rfl rfl (n := 250) rfl ?_
      refine x_getR fl_X1_56 dX1_runner_250 (n := 253) rfl (fun x61 => ?_)
      refine x_iload_n 1 dX1_runner_253 rfl rfl (n := 254) rfl ?_
      refine x_sm (fun b62 e => ?_)
      subst e
      refine x_callV_I [.int v1] [.ref a0] (f_X4_isValid_ok hO p0 b62 v1) rc_X4_isValid md_X4_isValid rfl q1499 q1500 q1501 dX1_runner_254 rfl rfl (by decide) (Nat.le_of_ble_eq_true rfl) (n := 257) rfl (fun x64 p63 => ?_)
      refine x_if_eq dX1_runner_257 (t := 268) (by decide) (n := 260) rfl (fun _ => ?_) (fun _ => ?_)
      · refine x_bipush (-2) dX1_runner_268 rfl (n := 270) rfl ?_
        refine x_sub [] [] rfl ?_
        exact f_X1_runner_270_ok hO a0 (-2) p63
      · refine x_aload_nr 0 dX1_runner_260 rfl rfl (n := 261) rfl ?_
        refine x_iload_n 1 dX1_runner_261 rfl rfl (n := 262) rfl ?_
        refine x_callV_I [.int v1] [.ref a0] (f_X1_placeOf_ok hO p63 a0 v1) rc_X1_placeOf md_X1_placeOf rfl q1786 q1788 qs42 dX1_runner_262 rfl rfl (by decide) (Nat.le_of_ble_eq_true rfl) (n := 265) rfl (fun x68 p67 => ?_)
        refine x_goto dX1_runner_265 (n := 270) (by decide) ?_
        refine x_sub [] [] rfl ?_
        exact f_X1_runner_270_ok hO a0 x68 p67
    · refine x_aload_nr 0 dX1_runner_274 rfl rfl (n := 275) rfl ?_
      refine x_aload_nr 0 dX1_runner_275 rfl rfl (n := 276) rfl ?_
      refine x_getR fl_X1_56 dX1_runner_276 (n := 279) rfl (fun x69 => ?_)
      refine x_iload_n 1 dX1_runner_279 rfl rfl (n := 280) rfl ?_
      refine x_sm (fun b70 e => ?_)
      subst e
      refine x_callV_I [.int v1] [.ref a0] (f_X4_isValid_ok hO p0 b70 v1) rc_X4_isValid md_X4_isValid rfl q1499 q1500 q1501 dX1_runner_280 rfl rfl (by decide) (Nat.le_of_ble_eq_true rfl) (n := 283) rfl (fun x72 p71 => ?_)
      refine x_if_eq dX1_runner_283 (t := 302) (by decide) (n := 286) rfl (fun _ => ?_) (fun _ => ?_)
      · refine x_bipush (-2) dX1_runner_302 rfl (n := 304) rfl ?_
        refine x_sub [] [] rfl ?_
        exact f_X1_runner_304_ok hO a0 (-2) p71
      · refine x_aload_n 3 dX1_runner_286 rfl rfl (n := 287) rfl ?_
        refine x_sm (fun b75 e => ?_)
        subst e
        refine x_callV_I [] [.ref a0] (f_X7_total_ok hO p71 b75 ) rc_X7_total md_X7_total rfl q1766 q963 q964 dX1_runner_287 rfl rfl (by decide) (Nat.le_of_ble_eq_true rfl) (n := 290) rfl (fun x77 p76 => ?_)
        refine x_aload_nr 0 dX1_runner_290 rfl rfl (n := 291) rfl ?_
        refine x_aload_nr 3 dX1_runner_291 rfl rfl (n := 292) rfl ?_
        refine x_getI fl_X1_105 dX1_runner_292 (n := 295) rfl (fun x78 => ?_)
        refine x_callV_I [.int x78] [.int x77, .ref a0] (f_X1_leastTotal_ok hO p76 a0 x78) rc_X1_leastTotal md_X1_leastTotal rfl q1758 q1760 qs39 dX1_runner_295 rfl rfl (by decide) (Nat.le_of_ble_eq_true rfl) (n := 298) rfl (fun x80 p79 => ?_)
        refine x_isub dX1_runner_298 (n := 299) rfl ?_
        refine x_goto dX1_runner_299 (n := 304) (by decide) ?_
        refine x_sub [] [] rfl ?_
        exact f_X1_runner_304_ok hO a0 (x77 - x80) p79
  · refine x_aload 6 dX1_runner_74 rfl (n := 76) rfl ?_
    refine x_iload 8 dX1_runner_76 rfl (n := 78) rfl ?_
    refine x_sm (fun b81 e => ?_)
    subst e
    refine x_iald (t := 0) rfl dX1_runner_78 (n := 79) rfl (fun x82 => ?_)
    refine x_istore [(9, .int x82), (0, .ref a0), (1, .int v1), (2, .int v2), (3, va_rf v3), (4, va_rf v4), (5, .int v5), (6, .ref b81), (7, .int v7), (8, .int v8)] dX1_runner_79 (by decide) rfl (n := 81) rfl ?_
    refine x_iload 6 dX1_runner_81 rfl (n := 83) rfl ?_
    refine x_iload 0 dX1_runner_83 rfl (n := 85) rfl ?_
    refine x_iconst (-1) dX1_runner_85 rfl (n := 86) rfl ?_
    refine x_icmp_ne dX1_runner_86 (t := 93) (by decide) (n := 89) rfl (fun _ => ?_) (fun _ => ?_)
    · refine x_iconst 1 dX1_runner_93 rfl (n := 94) rfl ?_
      refine x_sub [1, 2, 3, 4, 5, 7, 8, 9] [(0, .ref a0), (1, .int v1), (2, .int v2), (3, va_rf v3), (4, va_rf v4), (6, .ref b81), (7, .int v7), (8, .int v8)] rfl ?_
      exact f_X1_runner_94_ok hO a0 hk67 v1 v2 v3 v4 ((some b81)) v7 v8 v5 1 p0
    · refine x_iconst 0 dX1_runner_89 rfl (n := 90) rfl ?_
      refine x_goto dX1_runner_90 (n := 94) (by decide) ?_
      refine x_sub [1, 2, 3, 4, 5, 7, 8, 9] [(0, .ref a0), (1, .int v1), (2, .int v2), (3, va_rf v3), (4, va_rf v4), (6, .ref b81), (7, .int v7), (8, .int v8)] rfl ?_
      exact f_X1_runner_94_ok hO a0 hk67 v1 v2 v3 v4 ((some b81)) v7 v8 v5 0 p0
theorem f_X1_runner_67_lp {G : xG} (hO : xOK G) (a0 : Nat)  (n : Nat) (v1 : Int32) (v2 : Int32) (v3 : Option Nat) (v4 : Option Nat) (v5 : Int32) (v6 : Option Nat) (v7 : Int32) (v8 : Int32) (p0 : PH) : X G "ForestLegs" "runner" cX1_runner 10 (Option.some Jvm.ClassFile.FieldType.int) 11 67 [(0, .ref a0), (1, .int v1), (2, .int v2), (3, va_rf v3), (4, va_rf v4), (5, .int v5), (6, va_rf v6), (7, .int v7), (8, .int v8)] [] p0 (lp (f_X1_runner_67F a0) n (v1, v2, v3, v4, v5, v6, v7, v8, p0)) :=
  lp_ok (W := fun p K => X G "ForestLegs" "runner" cX1_runner 10 (Option.some Jvm.ClassFile.FieldType.int) 11 67 [(0, .ref a0), (1, .int p.1), (2, .int p.2.1), (3, va_rf p.2.2.1), (4, va_rf p.2.2.2.1), (5, .int p.2.2.2.2.1), (6, va_rf p.2.2.2.2.2.1), (7, .int p.2.2.2.2.2.2.1), (8, .int p.2.2.2.2.2.2.2.1)] [] p.2.2.2.2.2.2.2.2 K) (fun _ => x_no) (fun k hk => fun (v1, v2, v3, v4, v5, v6, v7, v8, p0) => f_X1_runner_67F_ok hO a0 (fun v1 v2 v3 v4 v5 v6 v7 v8 p0 => hk (v1, v2, v3, v4, v5, v6, v7, v8, p0)) v1 v2 v3 v4 v5 v6 v7 v8 p0) n (v1, v2, v3, v4, v5, v6, v7, v8, p0)
theorem f_X1_runner_ok {G : xG} (hO : xOK G) (p0 : PH) (a0 : Nat) (a1 : Int32) (a2 : Int32) : CT G 11 yX1_runner cX1_runner 10 (Option.some Jvm.ClassFile.FieldType.int) [.ref a0, .int a1, .int a2] p0 (f_X1_runner p0 a0 a1 a2) := by
  refine CT_of hO (by decide +kernel) (by decide +kernel) (Nat.le_of_ble_eq_true rfl) ?_
  show X G "ForestLegs" "runner" cX1_runner 10 (Option.some Jvm.ClassFile.FieldType.int) 11 0 [(0, .ref a0), (1, .int a1), (2, .int a2)] [] p0 (f_X1_runner p0 a0 a1 a2)
  refine x_cl1 (fun e0 => ?_)
  refine x_aload_nr 0 dX1_runner_0 rfl rfl (n := 1) rfl ?_
  refine x_iload_n 1 dX1_runner_1 rfl rfl (n := 2) rfl ?_
  refine x_callV_I [.int a1] [] (f_X1_isRunner_ok hO p0 a0 a1) rc_X1_isRunner md_X1_isRunner rfl q1780 q1782 qs41 dX1_runner_2 rfl rfl (by decide) (Nat.le_of_ble_eq_true rfl) (n := 5) rfl (fun x2 p1 => ?_)
  refine x_if_ne dX1_runner_5 (t := 14) (by decide) (n := 8) rfl (fun _ => ?_) (fun _ => ?_)
  · refine x_aload_nr 0 dX1_runner_14 rfl rfl (n := 15) rfl ?_
    refine x_getR fl_X1_56 dX1_runner_15 (n := 18) rfl (fun x3 => ?_)
    refine x_sm (fun b4 e => ?_)
    subst e
    refine x_getR fl_X1_71 dX1_runner_18 (n := 21) rfl (fun x5 => ?_)
    refine x_iload_n 1 dX1_runner_21 rfl rfl (n := 22) rfl ?_
    refine x_sm (fun b6 e => ?_)
    subst e
    refine x_callF_R [.int a1] [] (f_J3_get_ok hO p1 b6 a1) rc_J3_get md_J3_get rfl q1497 fc_java_util_ArrayList_java_util_List_get_1_ILjava dX1_runner_22 rfl rfl (by decide) (Nat.le_of_ble_eq_true rfl) (n := 27) rfl (fun x8 p7 => ?_)
    refine x_cast (x := x8) (cs := [6]) q1498 cst_ForestLegs_Runner dX1_runner_27 (n := 30) rfl ?_
    refine x_astore_n [(3, va_rf x8), (0, .ref a0), (1, .int a1), (2, .int a2)] dX1_runner_30 rfl (by decide) rfl (n := 31) rfl ?_
    refine x_aload_nr 1 dX1_runner_31 rfl rfl (n := 32) rfl ?_
    refine x_getR fl_X1_56 dX1_runner_32 (n := 35) rfl (fun x9 => ?_)
    refine x_iload_n 2 dX1_runner_35 rfl rfl (n := 36) rfl ?_
    refine x_sm (fun b10 e => ?_)
    subst e
    refine x_callV_R [.int a1] [] (f_X4_match_ok hO p7 b10 a1) rc_X4_match md_X4_match rfl q1784 q1504 q1505 dX1_runner_36 rfl rfl (by decide) (Nat.le_of_ble_eq_true rfl) (n := 39) rfl (fun x12 p11 => ?_)
    refine x_astore [(4, va_rf x12), (3, va_rf x8), (0, .ref a0), (1, .int a1), (2, .int a2)] dX1_runner_39 (by decide) (by simp only [xst, List.filter_cons, List.filter_nil, xcat] <;> rfl) (n := 41) rfl ?_
    refine x_aload_n 1 dX1_runner_41 rfl rfl (n := 42) rfl ?_
    refine x_sm (fun b13 e => ?_)
    subst e
    refine x_getR fl_X1_112 dX1_runner_42 (n := 45) rfl (fun x14 => ?_)
    refine x_sm (fun b15 e => ?_)
    subst e
    refine x_callF_I [] [] (f_J3_size_ok hO p11 b15 ) rc_J3_size md_J3_size rfl q1479 fc_java_util_ArrayList_java_util_List_size_0_I dX1_runner_45 rfl rfl (by decide) (Nat.le_of_ble_eq_true rfl) (n := 50) rfl (fun x17 p16 => ?_)
    refine x_istore [(5, .int x17), (4, va_rf x12), (3, .ref b13), (0, .ref a0), (1, .int a1), (2, .int a2)] dX1_runner_50 (by decide) (by simp only [xst, List.filter_cons, List.filter_nil, xcat] <;> rfl) (n := 52) rfl ?_
    refine x_aload 1 dX1_runner_52 rfl (n := 54) rfl ?_
    refine x_sm (fun b18 e => ?_)
    subst e
    refine x_getR fl_X1_193 dX1_runner_54 (n := 57) rfl (fun x19 => ?_)
    refine x_astore [(6, va_rf x19), (5, .int x17), (4, .ref b18), (3, .ref b13), (0, .ref a0), (1, .int a1), (2, .int a2)] dX1_runner_57 (by decide) rfl (n := 59) rfl ?_
    refine x_aload 0 dX1_runner_59 rfl (n := 61) rfl ?_
    refine x_sm (fun b20 e => ?_)
    subst e
    refine x_alen dX1_runner_61 (n := 62) rfl (fun x21 => ?_)
    refine x_istore [(7, .int x21), (6, .ref b20), (5, .int x17), (4, .ref b18), (3, .ref b13), (0, .ref a0), (1, .int a1), (2, .int a2)] dX1_runner_62 (by decide) rfl (n := 64) rfl ?_
    refine x_iconst 0 dX1_runner_64 rfl (n := 65) rfl ?_
    refine x_istore [(8, .int 0), (7, .int x21), (6, .ref b20), (5, .int x17), (4, .ref b18), (3, .ref b13), (0, .ref a0), (1, .int a1), (2, .int a2)] dX1_runner_65 (by decide) rfl (n := 67) rfl ?_
    refine x_sub [6, 7, 8, 5, 4, 3, 2, 1, 0] [(0, .ref a0), (1, .int a1), (2, .int a2), (3, .ref b13), (4, .ref b18), (5, .int x17), (6, .ref b20), (7, .int x21), (8, .int 0)] rfl ?_
    exact f_X1_runner_67_lp hO a0 FU a1 a2 ((some b13)) ((some b18)) x17 ((some b20)) x21 0 p16
  · refine x_aload_nr 0 dX1_runner_8 rfl rfl (n := 9) rfl ?_
    refine x_iconst 1 dX1_runner_9 rfl (n := 10) rfl ?_
    refine x_callV_I [.int 1] [] (f_X1_refused_ok hO p1 a0 1) rc_X1_refused md_X1_refused rfl q250 q252 qs0 dX1_runner_10 rfl rfl (by decide) (Nat.le_of_ble_eq_true rfl) (n := 13) rfl (fun x86 p85 => ?_)
    exact x_ireturn dX1_runner_13
abbrev cX1_isPunch : ByteArray := prog_1_method_14_code
def yX1_isPunch : MethodName := ⟨RX1, "isPunch", "(II)Z"⟩
def dkwX1_isPunch_2 : List UInt8 := [172]
abbrev dktX1_isPunch_2 : List UInt8 := dkwX1_isPunch_2 ++ []
def dkwX1_isPunch_1 : List UInt8 := [192, 0, 103, 180, 0, 112, 185, 0, 77, 1, 0, 4, 100, 184, 0, 36, 153, 0, 7, 4, 167, 0, 4, 3]
abbrev dktX1_isPunch_1 : List UInt8 := dkwX1_isPunch_1 ++ dktX1_isPunch_2
def dkwX1_isPunch_0 : List UInt8 := [42, 27, 182, 0, 100, 153, 0, 41, 28, 3, 42, 180, 0, 56, 180, 0, 71, 27, 185, 0, 93, 2, 0]
abbrev dktX1_isPunch_0 : List UInt8 := dkwX1_isPunch_0 ++ dktX1_isPunch_1
theorem dksX1_isPunch_0 : cX1_isPunch.data.toList.drop 0 = dktX1_isPunch_0 := by decide +kernel
theorem dksX1_isPunch_1 : cX1_isPunch.data.toList.drop 23 = dktX1_isPunch_1 := dk_seg dksX1_isPunch_0 23 rfl rfl
theorem dksX1_isPunch_2 : cX1_isPunch.data.toList.drop 47 = dktX1_isPunch_2 := dk_seg dksX1_isPunch_1 24 rfl rfl
theorem dX1_isPunch_0 : decode cX1_isPunch 0 = .ok (.aload_n 0, 1) := dk_42 (dk_at dksX1_isPunch_0 0 rfl rfl)
theorem dX1_isPunch_1 : decode cX1_isPunch 1 = .ok (.iload_n 1, 1) := dk_27 (dk_at dksX1_isPunch_0 1 rfl rfl)
theorem dX1_isPunch_2 : decode cX1_isPunch 2 = .ok (.invokevirtual 100, 3) := dk_182 0 100 (dk_at dksX1_isPunch_0 2 rfl rfl)
theorem dX1_isPunch_5 : decode cX1_isPunch 5 = .ok (.ifCond .eq 41, 3) := dk_153 0 41 (dk_at dksX1_isPunch_0 5 rfl rfl)
theorem dX1_isPunch_8 : decode cX1_isPunch 8 = .ok (.iload_n 2, 1) := dk_28 (dk_at dksX1_isPunch_0 8 rfl rfl)
theorem dX1_isPunch_9 : decode cX1_isPunch 9 = .ok (.iconst 0, 1) := dk_3 (dk_at dksX1_isPunch_0 9 rfl rfl)
theorem dX1_isPunch_10 : decode cX1_isPunch 10 = .ok (.aload_n 0, 1) := dk_42 (dk_at dksX1_isPunch_0 10 rfl rfl)
theorem dX1_isPunch_11 : decode cX1_isPunch 11 = .ok (.getfield 56, 3) := dk_180 0 56 (dk_at dksX1_isPunch_0 11 rfl rfl)
theorem dX1_isPunch_14 : decode cX1_isPunch 14 = .ok (.getfield 71, 3) := dk_180 0 71 (dk_at dksX1_isPunch_0 14 rfl rfl)
theorem dX1_isPunch_17 : decode cX1_isPunch 17 = .ok (.iload_n 1, 1) := dk_27 (dk_at dksX1_isPunch_0 17 rfl rfl)
theorem dX1_isPunch_18 : decode cX1_isPunch 18 = .ok (.invokeinterface 93 2, 5) := by decide +kernel
theorem dX1_isPunch_23 : decode cX1_isPunch 23 = .ok (.checkcast 103, 3) := dk_192 0 103 (dk_at dksX1_isPunch_1 0 rfl rfl)
theorem dX1_isPunch_26 : decode cX1_isPunch 26 = .ok (.getfield 112, 3) := dk_180 0 112 (dk_at dksX1_isPunch_1 3 rfl rfl)
theorem dX1_isPunch_29 : decode cX1_isPunch 29 = .ok (.invokeinterface 77 1, 5) := by decide +kernel
theorem dX1_isPunch_34 : decode cX1_isPunch 34 = .ok (.iconst 1, 1) := dk_4 (dk_at dksX1_isPunch_1 11 rfl rfl)
theorem dX1_isPunch_35 : decode cX1_isPunch 35 = .ok (.isub, 1) := dk_100 (dk_at dksX1_isPunch_1 12 rfl rfl)
theorem dX1_isPunch_36 : decode cX1_isPunch 36 = .ok (.invokestatic 36, 3) := dk_184 0 36 (dk_at dksX1_isPunch_1 13 rfl rfl)
theorem dX1_isPunch_39 : decode cX1_isPunch 39 = .ok (.ifCond .eq 7, 3) := dk_153 0 7 (dk_at dksX1_isPunch_1 16 rfl rfl)
theorem dX1_isPunch_42 : decode cX1_isPunch 42 = .ok (.iconst 1, 1) := dk_4 (dk_at dksX1_isPunch_1 19 rfl rfl)
theorem dX1_isPunch_43 : decode cX1_isPunch 43 = .ok (.goto 4, 3) := dk_167 0 4 (dk_at dksX1_isPunch_1 20 rfl rfl)
theorem dX1_isPunch_46 : decode cX1_isPunch 46 = .ok (.iconst 0, 1) := dk_3 (dk_at dksX1_isPunch_1 23 rfl rfl)
theorem dX1_isPunch_47 : decode cX1_isPunch 47 = .ok (.ireturn, 1) := dk_172 (dk_at dksX1_isPunch_2 0 rfl rfl)
theorem md_X1_isPunch : xMd yX1_isPunch cX1_isPunch 3 (Option.some Jvm.ClassFile.FieldType.boolean) 2 := ⟨q1952, q123, by decide, by decide +kernel, by decide +kernel, by decide +kernel⟩
def f_X1_isPunch (p0 : PH) (a0 : Nat) (a1 : Int32) (a2 : Int32) : Option (xO × PH) :=
  (xcl1 p0 a0 0 (xcI (f_X1_isRunner p0 a0 a1) fun x2 p1 =>
  (if x2 = 0 then
  (if vp_nar .boolean 0 = 0 then rI 0 p1 else none) else
  (xgR p1 a0 0 5 fun x3 =>
  (xnul x3 none fun b4 =>
  (xgR p1 b4 3 1 fun x5 =>
  (xnul x5 none fun b6 =>
  (xcR (f_J3_get p1 b6 a1) fun x8 p7 =>
  (xcst p7 (x8) [6]
  (xnul x8 none fun b9 =>
  (xgR p7 b9 6 4 fun x10 =>
  (xnul x10 none fun b11 =>
  (xcI (f_J3_size p7 b11 ) fun x13 p12 =>
  (xcI (f_X1_isIn p12 a2 0 (x13 - 1)) fun x15 p14 =>
  (if x15 = 0 then
  (if vp_nar .boolean 0 = 0 then rI 0 p14 else none) else
  (if vp_nar .boolean 1 = 1 then rI 1 p14 else none))))))))))))))))
theorem rc_X1_isPunch {p0 : PH} {a0 : Nat} {a1 : Int32} {a2 : Int32} : ∀ z, f_X1_isPunch p0 a0 a1 a2 = some z → xco p0 a0 = some 0 := fun z h => xcl1_some h
theorem f_X1_isPunch_ok {G : xG} (hO : xOK G) (p0 : PH) (a0 : Nat) (a1 : Int32) (a2 : Int32) : CT G 3 yX1_isPunch cX1_isPunch 3 (Option.some Jvm.ClassFile.FieldType.boolean) [.ref a0, .int a1, .int a2] p0 (f_X1_isPunch p0 a0 a1 a2) := by
  refine CT_of hO (by decide +kernel) (by decide +kernel) (Nat.le_of_ble_eq_true rfl) ?_
  show X G "ForestLegs" "isPunch" cX1_isPunch 3 (Option.some Jvm.ClassFile.FieldType.boolean) 3 0 [(0, .ref a0), (1, .int a1), (2, .int a2)] [] p0 (f_X1_isPunch p0 a0 a1 a2)
  refine x_cl1 (fun e0 => ?_)
  refine x_aload_nr 0 dX1_isPunch_0 rfl rfl (n := 1) rfl ?_
  refine x_iload_n 1 dX1_isPunch_1 rfl rfl (n := 2) rfl ?_
  refine x_callV_I [.int a1] [] (f_X1_isRunner_ok hO p0 a0 a1) rc_X1_isRunner md_X1_isRunner rfl q1780 q1782 qs41 dX1_isPunch_2 rfl rfl (by decide) (Nat.le_of_ble_eq_true rfl) (n := 5) rfl (fun x2 p1 => ?_)
  refine x_if_eq dX1_isPunch_5 (t := 46) (by decide) (n := 8) rfl (fun _ => ?_) (fun _ => ?_)
  · refine x_iconst 0 dX1_isPunch_46 rfl (n := 47) rfl ?_
    exact x_nreturn rfl dX1_isPunch_47
  · refine x_iload_n 2 dX1_isPunch_8 rfl rfl (n := 9) rfl ?_
    refine x_iconst 0 dX1_isPunch_9 rfl (n := 10) rfl ?_
    refine x_aload_nr 0 dX1_isPunch_10 rfl rfl (n := 11) rfl ?_
    refine x_getR fl_X1_56 dX1_isPunch_11 (n := 14) rfl (fun x3 => ?_)
    refine x_sm (fun b4 e => ?_)
    subst e
    refine x_getR fl_X1_71 dX1_isPunch_14 (n := 17) rfl (fun x5 => ?_)
    refine x_iload_n 1 dX1_isPunch_17 rfl rfl (n := 18) rfl ?_
    refine x_sm (fun b6 e => ?_)
    subst e
    refine x_callF_R [.int a1] [.int 0, .int a2] (f_J3_get_ok hO p1 b6 a1) rc_J3_get md_J3_get rfl q1497 fc_java_util_ArrayList_java_util_List_get_1_ILjava dX1_isPunch_18 rfl rfl (by decide) (Nat.le_of_ble_eq_true rfl) (n := 23) rfl (fun x8 p7 => ?_)
    refine x_cast (x := x8) (cs := [6]) q1498 cst_ForestLegs_Runner dX1_isPunch_23 (n := 26) rfl ?_
    refine x_sm (fun b9 e => ?_)
    subst e
    refine x_getR fl_X1_112 dX1_isPunch_26 (n := 29) rfl (fun x10 => ?_)
    refine x_sm (fun b11 e => ?_)
    subst e
    refine x_callF_I [] [.int 0, .int a2] (f_J3_size_ok hO p7 b11 ) rc_J3_size md_J3_size rfl q1479 fc_java_util_ArrayList_java_util_List_size_0_I dX1_isPunch_29 rfl rfl (by decide) (Nat.le_of_ble_eq_true rfl) (n := 34) rfl (fun x13 p12 => ?_)
    refine x_iconst 1 dX1_isPunch_34 rfl (n := 35) rfl ?_
    refine x_isub dX1_isPunch_35 (n := 36) rfl ?_
    refine x_callS_I [.int a2, .int 0, .int (x13 - 1)] [] (f_X1_isIn_ok hO p12 a2 0 (x13 - 1)) md_X1_isIn q247 q248 dX1_isPunch_36 rfl rfl (by decide) (Nat.le_of_ble_eq_true rfl) (n := 39) rfl (fun x15 p14 => ?_)
    refine x_if_eq dX1_isPunch_39 (t := 46) (by decide) (n := 42) rfl (fun _ => ?_) (fun _ => ?_)
    · refine x_iconst 0 dX1_isPunch_46 rfl (n := 47) rfl ?_
      exact x_nreturn rfl dX1_isPunch_47
    · refine x_iconst 1 dX1_isPunch_42 rfl (n := 43) rfl ?_
      refine x_goto dX1_isPunch_43 (n := 47) (by decide) ?_
      exact x_nreturn rfl dX1_isPunch_47
abbrev cX9_takes : ByteArray := prog_6_method_8_code
def yX9_takes : MethodName := ⟨RX9, "takes", "(I)I"⟩
def dkwX9_takes_1 : List UInt8 := [132, 2, 1, 167, 255, 232, 16, 254, 172]
abbrev dktX9_takes_1 : List UInt8 := dkwX9_takes_1 ++ []
def dkwX9_takes_0 : List UInt8 := [3, 61, 28, 42, 180, 0, 34, 190, 162, 0, 21, 42, 180, 0, 34, 28, 46, 27, 160, 0, 5, 28, 172]
abbrev dktX9_takes_0 : List UInt8 := dkwX9_takes_0 ++ dktX9_takes_1
theorem dksX9_takes_0 : cX9_takes.data.toList.drop 0 = dktX9_takes_0 := by decide +kernel
theorem dksX9_takes_1 : cX9_takes.data.toList.drop 23 = dktX9_takes_1 := dk_seg dksX9_takes_0 23 rfl rfl
theorem dX9_takes_0 : decode cX9_takes 0 = .ok (.iconst 0, 1) := dk_3 (dk_at dksX9_takes_0 0 rfl rfl)
theorem dX9_takes_1 : decode cX9_takes 1 = .ok (.istore_n 2, 1) := dk_61 (dk_at dksX9_takes_0 1 rfl rfl)
theorem dX9_takes_2 : decode cX9_takes 2 = .ok (.iload_n 2, 1) := dk_28 (dk_at dksX9_takes_0 2 rfl rfl)
theorem dX9_takes_3 : decode cX9_takes 3 = .ok (.aload_n 0, 1) := dk_42 (dk_at dksX9_takes_0 3 rfl rfl)
theorem dX9_takes_4 : decode cX9_takes 4 = .ok (.getfield 34, 3) := dk_180 0 34 (dk_at dksX9_takes_0 4 rfl rfl)
theorem dX9_takes_7 : decode cX9_takes 7 = .ok (.arraylength, 1) := dk_190 (dk_at dksX9_takes_0 7 rfl rfl)
theorem dX9_takes_8 : decode cX9_takes 8 = .ok (.if_icmp .ge 21, 3) := dk_162 0 21 (dk_at dksX9_takes_0 8 rfl rfl)
theorem dX9_takes_11 : decode cX9_takes 11 = .ok (.aload_n 0, 1) := dk_42 (dk_at dksX9_takes_0 11 rfl rfl)
theorem dX9_takes_12 : decode cX9_takes 12 = .ok (.getfield 34, 3) := dk_180 0 34 (dk_at dksX9_takes_0 12 rfl rfl)
theorem dX9_takes_15 : decode cX9_takes 15 = .ok (.iload_n 2, 1) := dk_28 (dk_at dksX9_takes_0 15 rfl rfl)
theorem dX9_takes_16 : decode cX9_takes 16 = .ok (.iaload, 1) := dk_46 (dk_at dksX9_takes_0 16 rfl rfl)
theorem dX9_takes_17 : decode cX9_takes 17 = .ok (.iload_n 1, 1) := dk_27 (dk_at dksX9_takes_0 17 rfl rfl)
theorem dX9_takes_18 : decode cX9_takes 18 = .ok (.if_icmp .ne 5, 3) := dk_160 0 5 (dk_at dksX9_takes_0 18 rfl rfl)
theorem dX9_takes_21 : decode cX9_takes 21 = .ok (.iload_n 2, 1) := dk_28 (dk_at dksX9_takes_0 21 rfl rfl)
theorem dX9_takes_22 : decode cX9_takes 22 = .ok (.ireturn, 1) := dk_172 (dk_at dksX9_takes_0 22 rfl rfl)
theorem dX9_takes_23 : decode cX9_takes 23 = .ok (.iinc 2 1, 3) := dk_132 2 1 (dk_at dksX9_takes_1 0 rfl rfl)
theorem dX9_takes_26 : decode cX9_takes 26 = .ok (.goto (-24), 3) := dk_167 255 232 (dk_at dksX9_takes_1 3 rfl rfl)
theorem dX9_takes_29 : decode cX9_takes 29 = .ok (.bipush (-2), 2) := dk_16 254 (dk_at dksX9_takes_1 6 rfl rfl)
theorem dX9_takes_31 : decode cX9_takes 31 = .ok (.ireturn, 1) := dk_172 (dk_at dksX9_takes_1 8 rfl rfl)
theorem md_X9_takes : xMd yX9_takes cX9_takes 3 (Option.some Jvm.ClassFile.FieldType.int) 1 := ⟨q1957, q158, by decide, by decide +kernel, by decide +kernel, by decide +kernel⟩
def f_X9_takes_2F (a0 : Nat)  (k2 : Int32 × Int32 × PH → Option (xO × PH)) (p : Int32 × Int32 × PH) : Option (xO × PH) := match p with
  | (v1, v2, p0) => (xgR p0 a0 8 2 fun x1 =>
  (xnul x1 none fun b2 =>
  (xlen p0 b2 fun x3 =>
  (if x3 ≤ v2 then
  (rI (-2) p0) else
  (xgR p0 a0 8 2 fun x4 =>
  (xnul x4 none fun b5 =>
  (xaI p0 b5 0 v2 fun x6 =>
  (if x6 = v1 then
  (rI v2 p0) else
  (bnd (v2 + 1) fun x7 =>
  (k2 (v1, x7, p0)))))))))))
def f_X9_takes (p0 : PH) (a0 : Nat) (a1 : Int32) : Option (xO × PH) :=
  (xcl1 p0 a0 8 (lp (f_X9_takes_2F a0) FU (a1, 0, p0)))
theorem rc_X9_takes {p0 : PH} {a0 : Nat} {a1 : Int32} : ∀ z, f_X9_takes p0 a0 a1 = some z → xco p0 a0 = some 8 := fun z h => xcl1_some h
theorem f_X9_takes_2F_ok {G : xG} (hO : xOK G) (a0 : Nat)  {k2 : Int32 × Int32 × PH → Option (xO × PH)} (hk2 : ∀ (v1 : Int32) (v2 : Int32) (p0 : PH), X G "ForestLegs$Match" "takes" cX9_takes 3 (Option.some Jvm.ClassFile.FieldType.int) 0 2 [(0, .ref a0), (1, .int v1), (2, .int v2)] [] p0 (k2 (v1, v2, p0))) (v1 : Int32) (v2 : Int32) (p0 : PH) : X G "ForestLegs$Match" "takes" cX9_takes 3 (Option.some Jvm.ClassFile.FieldType.int) 0 2 [(0, .ref a0), (1, .int v1), (2, .int v2)] [] p0 (f_X9_takes_2F a0 k2 (v1, v2, p0)) := by
  unfold f_X9_takes_2F
  refine x_iload_n 2 dX9_takes_2 rfl rfl (n := 3) rfl ?_
  refine x_aload_nr 0 dX9_takes_3 rfl rfl (n := 4) rfl ?_
  refine x_getR fl_X9_34 dX9_takes_4 (n := 7) rfl (fun x1 => ?_)
  refine x_sm (fun b2 e => ?_)
  subst e
  refine x_alen dX9_takes_7 (n := 8) rfl (fun x3 => ?_)
  refine x_icmp_ge dX9_takes_8 (t := 29) (by decide) (n := 11) rfl (fun _ => ?_) (fun _ => ?_)
  · refine x_bipush (-2) dX9_takes_29 rfl (n := 31) rfl ?_
    exact x_ireturn dX9_takes_31
  · refine x_aload_nr 0 dX9_takes_11 rfl rfl (n := 12) rfl ?_
    refine x_getR fl_X9_34 dX9_takes_12 (n := 15) rfl (fun x4 => ?_)
    refine x_iload_n 2 dX9_takes_15 rfl rfl (n := 16) rfl ?_
    refine x_sm (fun b5 e => ?_)
    subst e
    refine x_iald (t := 0) rfl dX9_takes_16 (n := 17) rfl (fun x6 => ?_)
    refine x_iload_n 1 dX9_takes_17 rfl rfl (n := 18) rfl ?_
    refine x_icmp_ne dX9_takes_18 (t := 23) (by decide) (n := 21) rfl (fun _ => ?_) (fun _ => ?_)
    · refine x_iincB 2 (fun x7 => [(2, .int x7), (0, .ref a0), (1, .int v1)]) dX9_takes_23 rfl rfl (by decide) (fun _ => rfl) (n := 26) rfl (fun x7 => ?_)
      refine x_goto dX9_takes_26 (n := 2) (by decide) ?_
      refine x_sub [1, 2, 0] [(0, .ref a0), (1, .int v1), (2, .int x7)] rfl ?_
      exact hk2 v1 x7 p0
    · refine x_iload_n 2 dX9_takes_21 rfl rfl (n := 22) rfl ?_
      exact x_ireturn dX9_takes_22
theorem f_X9_takes_2_lp {G : xG} (hO : xOK G) (a0 : Nat)  (n : Nat) (v1 : Int32) (v2 : Int32) (p0 : PH) : X G "ForestLegs$Match" "takes" cX9_takes 3 (Option.some Jvm.ClassFile.FieldType.int) 0 2 [(0, .ref a0), (1, .int v1), (2, .int v2)] [] p0 (lp (f_X9_takes_2F a0) n (v1, v2, p0)) :=
  lp_ok (W := fun p K => X G "ForestLegs$Match" "takes" cX9_takes 3 (Option.some Jvm.ClassFile.FieldType.int) 0 2 [(0, .ref a0), (1, .int p.1), (2, .int p.2.1)] [] p.2.2 K) (fun _ => x_no) (fun k hk => fun (v1, v2, p0) => f_X9_takes_2F_ok hO a0 (fun v1 v2 p0 => hk (v1, v2, p0)) v1 v2 p0) n (v1, v2, p0)
theorem f_X9_takes_ok {G : xG} (hO : xOK G) (p0 : PH) (a0 : Nat) (a1 : Int32) : CT G 0 yX9_takes cX9_takes 3 (Option.some Jvm.ClassFile.FieldType.int) [.ref a0, .int a1] p0 (f_X9_takes p0 a0 a1) := by
  refine CT_of hO (by decide +kernel) (by decide +kernel) (Nat.le_of_ble_eq_true rfl) ?_
  show X G "ForestLegs$Match" "takes" cX9_takes 3 (Option.some Jvm.ClassFile.FieldType.int) 0 0 [(0, .ref a0), (1, .int a1)] [] p0 (f_X9_takes p0 a0 a1)
  refine x_cl1 (fun e0 => ?_)
  refine x_iconst 0 dX9_takes_0 rfl (n := 1) rfl ?_
  refine x_istore_n [(2, .int 0), (0, .ref a0), (1, .int a1)] dX9_takes_1 rfl (by decide) rfl (n := 2) rfl ?_
  refine x_sub [1, 2, 0] [(0, .ref a0), (1, .int a1), (2, .int 0)] rfl ?_
  exact f_X9_takes_2_lp hO a0 FU a1 0 p0
abbrev cX1_punch : ByteArray := prog_1_method_23_code
def yX1_punch : MethodName := ⟨RX1, "punch", "(III)I"⟩
def dkwX1_punch_4 : List UInt8 := [182, 0, 83, 172]
abbrev dktX1_punch_4 : List UInt8 := dkwX1_punch_4 ++ []
def dkwX1_punch_3 : List UInt8 := [4, 160, 0, 11, 25, 4, 180, 0, 218, 167, 0, 15, 42, 180, 0, 56, 27, 182, 0, 189, 28, 182, 0, 221]
abbrev dktX1_punch_3 : List UInt8 := dkwX1_punch_3 ++ dktX1_punch_4
def dkwX1_punch_2 : List UInt8 := [185, 0, 93, 2, 0, 192, 0, 214, 58, 4, 42, 29, 154, 0, 11, 25, 4, 180, 0, 216, 167, 0, 28, 29]
abbrev dktX1_punch_2 : List UInt8 := dkwX1_punch_2 ++ dktX1_punch_3
def dkwX1_punch_1 : List UInt8 := [42, 180, 0, 56, 180, 0, 71, 27, 185, 0, 93, 2, 0, 192, 0, 103, 180, 0, 112, 28]
abbrev dktX1_punch_1 : List UInt8 := dkwX1_punch_1 ++ dktX1_punch_2
def dkwX1_punch_0 : List UInt8 := [42, 27, 28, 182, 0, 211, 153, 0, 12, 29, 3, 5, 184, 0, 36, 154, 0, 9, 42, 4, 182, 0, 40, 172]
abbrev dktX1_punch_0 : List UInt8 := dkwX1_punch_0 ++ dktX1_punch_1
theorem dksX1_punch_0 : cX1_punch.data.toList.drop 0 = dktX1_punch_0 := by decide +kernel
theorem dksX1_punch_1 : cX1_punch.data.toList.drop 24 = dktX1_punch_1 := dk_seg dksX1_punch_0 24 rfl rfl
theorem dksX1_punch_2 : cX1_punch.data.toList.drop 44 = dktX1_punch_2 := dk_seg dksX1_punch_1 20 rfl rfl
theorem dksX1_punch_3 : cX1_punch.data.toList.drop 68 = dktX1_punch_3 := dk_seg dksX1_punch_2 24 rfl rfl
theorem dksX1_punch_4 : cX1_punch.data.toList.drop 92 = dktX1_punch_4 := dk_seg dksX1_punch_3 24 rfl rfl
theorem dX1_punch_0 : decode cX1_punch 0 = .ok (.aload_n 0, 1) := dk_42 (dk_at dksX1_punch_0 0 rfl rfl)
theorem dX1_punch_1 : decode cX1_punch 1 = .ok (.iload_n 1, 1) := dk_27 (dk_at dksX1_punch_0 1 rfl rfl)
theorem dX1_punch_2 : decode cX1_punch 2 = .ok (.iload_n 2, 1) := dk_28 (dk_at dksX1_punch_0 2 rfl rfl)
theorem dX1_punch_3 : decode cX1_punch 3 = .ok (.invokevirtual 211, 3) := dk_182 0 211 (dk_at dksX1_punch_0 3 rfl rfl)
theorem dX1_punch_6 : decode cX1_punch 6 = .ok (.ifCond .eq 12, 3) := dk_153 0 12 (dk_at dksX1_punch_0 6 rfl rfl)
theorem dX1_punch_9 : decode cX1_punch 9 = .ok (.iload_n 3, 1) := dk_29 (dk_at dksX1_punch_0 9 rfl rfl)
theorem dX1_punch_10 : decode cX1_punch 10 = .ok (.iconst 0, 1) := dk_3 (dk_at dksX1_punch_0 10 rfl rfl)
theorem dX1_punch_11 : decode cX1_punch 11 = .ok (.iconst 2, 1) := dk_5 (dk_at dksX1_punch_0 11 rfl rfl)
theorem dX1_punch_12 : decode cX1_punch 12 = .ok (.invokestatic 36, 3) := dk_184 0 36 (dk_at dksX1_punch_0 12 rfl rfl)
theorem dX1_punch_15 : decode cX1_punch 15 = .ok (.ifCond .ne 9, 3) := dk_154 0 9 (dk_at dksX1_punch_0 15 rfl rfl)
theorem dX1_punch_18 : decode cX1_punch 18 = .ok (.aload_n 0, 1) := dk_42 (dk_at dksX1_punch_0 18 rfl rfl)
theorem dX1_punch_19 : decode cX1_punch 19 = .ok (.iconst 1, 1) := dk_4 (dk_at dksX1_punch_0 19 rfl rfl)
theorem dX1_punch_20 : decode cX1_punch 20 = .ok (.invokevirtual 40, 3) := dk_182 0 40 (dk_at dksX1_punch_0 20 rfl rfl)
theorem dX1_punch_23 : decode cX1_punch 23 = .ok (.ireturn, 1) := dk_172 (dk_at dksX1_punch_0 23 rfl rfl)
theorem dX1_punch_24 : decode cX1_punch 24 = .ok (.aload_n 0, 1) := dk_42 (dk_at dksX1_punch_1 0 rfl rfl)
theorem dX1_punch_25 : decode cX1_punch 25 = .ok (.getfield 56, 3) := dk_180 0 56 (dk_at dksX1_punch_1 1 rfl rfl)
theorem dX1_punch_28 : decode cX1_punch 28 = .ok (.getfield 71, 3) := dk_180 0 71 (dk_at dksX1_punch_1 4 rfl rfl)
theorem dX1_punch_31 : decode cX1_punch 31 = .ok (.iload_n 1, 1) := dk_27 (dk_at dksX1_punch_1 7 rfl rfl)
theorem dX1_punch_32 : decode cX1_punch 32 = .ok (.invokeinterface 93 2, 5) := by decide +kernel
theorem dX1_punch_37 : decode cX1_punch 37 = .ok (.checkcast 103, 3) := dk_192 0 103 (dk_at dksX1_punch_1 13 rfl rfl)
theorem dX1_punch_40 : decode cX1_punch 40 = .ok (.getfield 112, 3) := dk_180 0 112 (dk_at dksX1_punch_1 16 rfl rfl)
theorem dX1_punch_43 : decode cX1_punch 43 = .ok (.iload_n 2, 1) := dk_28 (dk_at dksX1_punch_1 19 rfl rfl)
theorem dX1_punch_44 : decode cX1_punch 44 = .ok (.invokeinterface 93 2, 5) := by decide +kernel
theorem dX1_punch_49 : decode cX1_punch 49 = .ok (.checkcast 214, 3) := dk_192 0 214 (dk_at dksX1_punch_2 5 rfl rfl)
theorem dX1_punch_52 : decode cX1_punch 52 = .ok (.astore 4, 2) := dk_58 4 (dk_at dksX1_punch_2 8 rfl rfl)
theorem dX1_punch_54 : decode cX1_punch 54 = .ok (.aload_n 0, 1) := dk_42 (dk_at dksX1_punch_2 10 rfl rfl)
theorem dX1_punch_55 : decode cX1_punch 55 = .ok (.iload_n 3, 1) := dk_29 (dk_at dksX1_punch_2 11 rfl rfl)
theorem dX1_punch_56 : decode cX1_punch 56 = .ok (.ifCond .ne 11, 3) := dk_154 0 11 (dk_at dksX1_punch_2 12 rfl rfl)
theorem dX1_punch_59 : decode cX1_punch 59 = .ok (.aload 4, 2) := dk_25 4 (dk_at dksX1_punch_2 15 rfl rfl)
theorem dX1_punch_61 : decode cX1_punch 61 = .ok (.getfield 216, 3) := dk_180 0 216 (dk_at dksX1_punch_2 17 rfl rfl)
theorem dX1_punch_64 : decode cX1_punch 64 = .ok (.goto 28, 3) := dk_167 0 28 (dk_at dksX1_punch_2 20 rfl rfl)
theorem dX1_punch_67 : decode cX1_punch 67 = .ok (.iload_n 3, 1) := dk_29 (dk_at dksX1_punch_2 23 rfl rfl)
theorem dX1_punch_68 : decode cX1_punch 68 = .ok (.iconst 1, 1) := dk_4 (dk_at dksX1_punch_3 0 rfl rfl)
theorem dX1_punch_69 : decode cX1_punch 69 = .ok (.if_icmp .ne 11, 3) := dk_160 0 11 (dk_at dksX1_punch_3 1 rfl rfl)
theorem dX1_punch_72 : decode cX1_punch 72 = .ok (.aload 4, 2) := dk_25 4 (dk_at dksX1_punch_3 4 rfl rfl)
theorem dX1_punch_74 : decode cX1_punch 74 = .ok (.getfield 218, 3) := dk_180 0 218 (dk_at dksX1_punch_3 6 rfl rfl)
theorem dX1_punch_77 : decode cX1_punch 77 = .ok (.goto 15, 3) := dk_167 0 15 (dk_at dksX1_punch_3 9 rfl rfl)
theorem dX1_punch_80 : decode cX1_punch 80 = .ok (.aload_n 0, 1) := dk_42 (dk_at dksX1_punch_3 12 rfl rfl)
theorem dX1_punch_81 : decode cX1_punch 81 = .ok (.getfield 56, 3) := dk_180 0 56 (dk_at dksX1_punch_3 13 rfl rfl)
theorem dX1_punch_84 : decode cX1_punch 84 = .ok (.iload_n 1, 1) := dk_27 (dk_at dksX1_punch_3 16 rfl rfl)
theorem dX1_punch_85 : decode cX1_punch 85 = .ok (.invokevirtual 189, 3) := dk_182 0 189 (dk_at dksX1_punch_3 17 rfl rfl)
theorem dX1_punch_88 : decode cX1_punch 88 = .ok (.iload_n 2, 1) := dk_28 (dk_at dksX1_punch_3 20 rfl rfl)
theorem dX1_punch_89 : decode cX1_punch 89 = .ok (.invokevirtual 221, 3) := dk_182 0 221 (dk_at dksX1_punch_3 21 rfl rfl)
theorem dX1_punch_92 : decode cX1_punch 92 = .ok (.invokevirtual 83, 3) := dk_182 0 83 (dk_at dksX1_punch_4 0 rfl rfl)
theorem dX1_punch_95 : decode cX1_punch 95 = .ok (.ireturn, 1) := dk_172 (dk_at dksX1_punch_4 3 rfl rfl)
theorem md_X1_punch : xMd yX1_punch cX1_punch 5 (Option.some Jvm.ClassFile.FieldType.int) 3 := ⟨q1948, q123, by decide, by decide +kernel, by decide +kernel, by decide +kernel⟩
def f_X1_punch_18 (a0 : Nat)   (p0 : PH) : Option (xO × PH) :=
  (xcI (f_X1_refused p0 a0 1) fun x4 p3 =>
  (rI x4 p3))
def f_X1_punch_92 (a0 : Nat)  (w1 : Int32) (p0 : PH) : Option (xO × PH) :=
  (xcI (f_X1_fine p0 a0 w1) fun x26 p25 =>
  (rI x26 p25))
def f_X1_punch (p0 : PH) (a0 : Nat) (a1 : Int32) (a2 : Int32) (a3 : Int32) : Option (xO × PH) :=
  (xcl1 p0 a0 0 (xcI (f_X1_isPunch p0 a0 a1 a2) fun x2 p1 =>
  (if x2 = 0 then
  (f_X1_punch_18 a0  p1) else
  (xcI (f_X1_isIn p1 a3 0 2) fun x6 p5 =>
  (if x6 = 0 then
  (f_X1_punch_18 a0  p5) else
  (xgR p5 a0 0 5 fun x7 =>
  (xnul x7 none fun b8 =>
  (xgR p5 b8 3 1 fun x9 =>
  (xnul x9 none fun b10 =>
  (xcR (f_J3_get p5 b10 a1) fun x12 p11 =>
  (xcst p11 (x12) [6]
  (xnul x12 none fun b13 =>
  (xgR p11 b13 6 4 fun x14 =>
  (xnul x14 none fun b15 =>
  (xcR (f_J3_get p11 b15 a2) fun x17 p16 =>
  (xcst p16 (x17) [7]
  (if a3 = 0 then
  (xnul x17 none fun b29 =>
  (xgI p16 b29 7 0 fun x30 =>
  (f_X1_punch_92 a0 x30 p16))) else
  (if a3 = 1 then
  (xnul x17 none fun b27 =>
  (xgI p16 b27 7 1 fun x28 =>
  (f_X1_punch_92 a0 x28 p16))) else
  (xgR p16 a0 0 5 fun x18 =>
  (xnul x18 none fun b19 =>
  (xcR (f_X4_match p16 b19 a1) fun x21 p20 =>
  (xnul x21 none fun b22 =>
  (xcI (f_X9_takes p20 b22 a2) fun x24 p23 =>
  (f_X1_punch_92 a0 x24 p23))))))))))))))))))))))))
theorem rc_X1_punch {p0 : PH} {a0 : Nat} {a1 : Int32} {a2 : Int32} {a3 : Int32} : ∀ z, f_X1_punch p0 a0 a1 a2 a3 = some z → xco p0 a0 = some 0 := fun z h => xcl1_some h
theorem f_X1_punch_18_ok {G : xG} (hO : xOK G) (a0 : Nat)   (p0 : PH) : X G "ForestLegs" "punch" cX1_punch 5 (Option.some Jvm.ClassFile.FieldType.int) 8 18 [(0, .ref a0)] [] p0 (f_X1_punch_18 a0  p0) := by
  unfold f_X1_punch_18
  refine x_aload_nr 0 dX1_punch_18 rfl rfl (n := 19) rfl ?_
  refine x_iconst 1 dX1_punch_19 rfl (n := 20) rfl ?_
  refine x_callV_I [.int 1] [] (f_X1_refused_ok hO p0 a0 1) rc_X1_refused md_X1_refused rfl q250 q252 qs0 dX1_punch_20 rfl rfl (by decide) (Nat.le_of_ble_eq_true rfl) (n := 23) rfl (fun x4 p3 => ?_)
  exact x_ireturn dX1_punch_23
theorem f_X1_punch_92_ok {G : xG} (hO : xOK G) (a0 : Nat)  (w1 : Int32) (p0 : PH) : X G "ForestLegs" "punch" cX1_punch 5 (Option.some Jvm.ClassFile.FieldType.int) 8 92 [] [.int w1, .ref a0] p0 (f_X1_punch_92 a0 w1 p0) := by
  unfold f_X1_punch_92
  refine x_callV_I [.int w1] [] (f_X1_fine_ok hO p0 a0 w1) rc_X1_fine md_X1_fine rfl q1480 q1482 qs26 dX1_punch_92 rfl rfl (by decide) (Nat.le_of_ble_eq_true rfl) (n := 95) rfl (fun x26 p25 => ?_)
  exact x_ireturn dX1_punch_95
theorem f_X1_punch_ok {G : xG} (hO : xOK G) (p0 : PH) (a0 : Nat) (a1 : Int32) (a2 : Int32) (a3 : Int32) : CT G 8 yX1_punch cX1_punch 5 (Option.some Jvm.ClassFile.FieldType.int) [.ref a0, .int a1, .int a2, .int a3] p0 (f_X1_punch p0 a0 a1 a2 a3) := by
  refine CT_of hO (by decide +kernel) (by decide +kernel) (Nat.le_of_ble_eq_true rfl) ?_
  show X G "ForestLegs" "punch" cX1_punch 5 (Option.some Jvm.ClassFile.FieldType.int) 8 0 [(0, .ref a0), (1, .int a1), (2, .int a2), (3, .int a3)] [] p0 (f_X1_punch p0 a0 a1 a2 a3)
  refine x_cl1 (fun e0 => ?_)
  refine x_aload_nr 0 dX1_punch_0 rfl rfl (n := 1) rfl ?_
  refine x_iload_n 1 dX1_punch_1 rfl rfl (n := 2) rfl ?_
  refine x_iload_n 2 dX1_punch_2 rfl rfl (n := 3) rfl ?_
  refine x_callV_I [.int a1, .int a2] [] (f_X1_isPunch_ok hO p0 a0 a1 a2) rc_X1_isPunch md_X1_isPunch rfl q1949 q1951 qs43 dX1_punch_3 rfl rfl (by decide) (Nat.le_of_ble_eq_true rfl) (n := 6) rfl (fun x2 p1 => ?_)
  refine x_if_eq dX1_punch_6 (t := 18) (by decide) (n := 9) rfl (fun _ => ?_) (fun _ => ?_)
  · refine x_sub [0] [(0, .ref a0)] rfl ?_
    exact f_X1_punch_18_ok hO a0  p1
  · refine x_iload_n 3 dX1_punch_9 rfl rfl (n := 10) rfl ?_
    refine x_iconst 0 dX1_punch_10 rfl (n := 11) rfl ?_
    refine x_iconst 2 dX1_punch_11 rfl (n := 12) rfl ?_
    refine x_callS_I [.int a3, .int 0, .int 2] [] (f_X1_isIn_ok hO p1 a3 0 2) md_X1_isIn q247 q248 dX1_punch_12 rfl rfl (by decide) (Nat.le_of_ble_eq_true rfl) (n := 15) rfl (fun x6 p5 => ?_)
    refine x_if_ne dX1_punch_15 (t := 24) (by decide) (n := 18) rfl (fun _ => ?_) (fun _ => ?_)
    · refine x_aload_nr 0 dX1_punch_24 rfl rfl (n := 25) rfl ?_
      refine x_getR fl_X1_56 dX1_punch_25 (n := 28) rfl (fun x7 => ?_)
      refine x_sm (fun b8 e => ?_)
      subst e
      refine x_getR fl_X1_71 dX1_punch_28 (n := 31) rfl (fun x9 => ?_)
      refine x_iload_n 1 dX1_punch_31 rfl rfl (n := 32) rfl ?_
      refine x_sm (fun b10 e => ?_)
      subst e
      refine x_callF_R [.int a1] [] (f_J3_get_ok hO p5 b10 a1) rc_J3_get md_J3_get rfl q1497 fc_java_util_ArrayList_java_util_List_get_1_ILjava dX1_punch_32 rfl rfl (by decide) (Nat.le_of_ble_eq_true rfl) (n := 37) rfl (fun x12 p11 => ?_)
      refine x_cast (x := x12) (cs := [6]) q1498 cst_ForestLegs_Runner dX1_punch_37 (n := 40) rfl ?_
      refine x_sm (fun b13 e => ?_)
      subst e
      refine x_getR fl_X1_112 dX1_punch_40 (n := 43) rfl (fun x14 => ?_)
      refine x_iload_n 2 dX1_punch_43 rfl rfl (n := 44) rfl ?_
      refine x_sm (fun b15 e => ?_)
      subst e
      refine x_callF_R [.int a2] [] (f_J3_get_ok hO p11 b15 a2) rc_J3_get md_J3_get rfl q1497 fc_java_util_ArrayList_java_util_List_get_1_ILjava dX1_punch_44 rfl rfl (by decide) (Nat.le_of_ble_eq_true rfl) (n := 49) rfl (fun x17 p16 => ?_)
      refine x_cast (x := x17) (cs := [7]) q1953 cst_ForestLegs_Punch dX1_punch_49 (n := 52) rfl ?_
      refine x_astore [(4, va_rf x17), (0, .ref a0), (1, .int a1), (2, .int a2), (3, .int a3)] dX1_punch_52 (by decide) rfl (n := 54) rfl ?_
      refine x_aload_nr 1 dX1_punch_54 rfl rfl (n := 55) rfl ?_
      refine x_iload_n 4 dX1_punch_55 rfl rfl (n := 56) rfl ?_
      refine x_if_ne dX1_punch_56 (t := 67) (by decide) (n := 59) rfl (fun _ => ?_) (fun _ => ?_)
      · refine x_iload_n 4 dX1_punch_67 rfl rfl (n := 68) rfl ?_
        refine x_iconst 1 dX1_punch_68 rfl (n := 69) rfl ?_
        refine x_icmp_ne dX1_punch_69 (t := 80) (by decide) (n := 72) rfl (fun _ => ?_) (fun _ => ?_)
        · refine x_aload_nr 1 dX1_punch_80 rfl rfl (n := 81) rfl ?_
          refine x_getR fl_X1_56 dX1_punch_81 (n := 84) rfl (fun x18 => ?_)
          refine x_iload_n 2 dX1_punch_84 rfl rfl (n := 85) rfl ?_
          refine x_sm (fun b19 e => ?_)
          subst e
          refine x_callV_R [.int a1] [.ref a0] (f_X4_match_ok hO p16 b19 a1) rc_X4_match md_X4_match rfl q1784 q1504 q1505 dX1_punch_85 rfl rfl (by decide) (Nat.le_of_ble_eq_true rfl) (n := 88) rfl (fun x21 p20 => ?_)
          refine x_iload_n 3 dX1_punch_88 rfl rfl (n := 89) rfl ?_
          refine x_sm (fun b22 e => ?_)
          subst e
          refine x_callV_I [.int a2] [.ref a0] (f_X9_takes_ok hO p20 b22 a2) rc_X9_takes md_X9_takes rfl q1954 q1955 q1956 dX1_punch_89 rfl rfl (by decide) (Nat.le_of_ble_eq_true rfl) (n := 92) rfl (fun x24 p23 => ?_)
          refine x_sub [] [] rfl ?_
          exact f_X1_punch_92_ok hO a0 x24 p23
        · refine x_aload 0 dX1_punch_72 rfl (n := 74) rfl ?_
          refine x_sm (fun b27 e => ?_)
          subst e
          refine x_getI fl_X1_218 dX1_punch_74 (n := 77) rfl (fun x28 => ?_)
          refine x_goto dX1_punch_77 (n := 92) (by decide) ?_
          refine x_sub [] [] rfl ?_
          exact f_X1_punch_92_ok hO a0 x28 p16
      · refine x_aload 0 dX1_punch_59 rfl (n := 61) rfl ?_
        refine x_sm (fun b29 e => ?_)
        subst e
        refine x_getI fl_X1_216 dX1_punch_61 (n := 64) rfl (fun x30 => ?_)
        refine x_goto dX1_punch_64 (n := 92) (by decide) ?_
        refine x_sub [] [] rfl ?_
        exact f_X1_punch_92_ok hO a0 x30 p16
    · refine x_sub [0] [(0, .ref a0)] rfl ?_
      exact f_X1_punch_18_ok hO a0  p5
abbrev cX1_missesOf : ByteArray := prog_1_method_24_code
def yX1_missesOf : MethodName := ⟨RX1, "missesOf", "(II)I"⟩
def dkwX1_missesOf_1 : List UInt8 := [180, 0, 86, 28, 185, 0, 93, 2, 0, 192, 0, 97, 183, 0, 224, 182, 0, 205, 172]
abbrev dktX1_missesOf_1 : List UInt8 := dkwX1_missesOf_1 ++ []
def dkwX1_missesOf_0 : List UInt8 := [187, 0, 194, 89, 42, 180, 0, 56, 180, 0, 71, 27, 185, 0, 93, 2, 0, 192, 0, 103, 42, 180, 0, 56]
abbrev dktX1_missesOf_0 : List UInt8 := dkwX1_missesOf_0 ++ dktX1_missesOf_1
theorem dksX1_missesOf_0 : cX1_missesOf.data.toList.drop 0 = dktX1_missesOf_0 := by decide +kernel
theorem dksX1_missesOf_1 : cX1_missesOf.data.toList.drop 24 = dktX1_missesOf_1 := dk_seg dksX1_missesOf_0 24 rfl rfl
theorem dX1_missesOf_0 : decode cX1_missesOf 0 = .ok (.new 194, 3) := dk_187 0 194 (dk_at dksX1_missesOf_0 0 rfl rfl)
theorem dX1_missesOf_3 : decode cX1_missesOf 3 = .ok (.dup, 1) := dk_89 (dk_at dksX1_missesOf_0 3 rfl rfl)
theorem dX1_missesOf_4 : decode cX1_missesOf 4 = .ok (.aload_n 0, 1) := dk_42 (dk_at dksX1_missesOf_0 4 rfl rfl)
theorem dX1_missesOf_5 : decode cX1_missesOf 5 = .ok (.getfield 56, 3) := dk_180 0 56 (dk_at dksX1_missesOf_0 5 rfl rfl)
theorem dX1_missesOf_8 : decode cX1_missesOf 8 = .ok (.getfield 71, 3) := dk_180 0 71 (dk_at dksX1_missesOf_0 8 rfl rfl)
theorem dX1_missesOf_11 : decode cX1_missesOf 11 = .ok (.iload_n 1, 1) := dk_27 (dk_at dksX1_missesOf_0 11 rfl rfl)
theorem dX1_missesOf_12 : decode cX1_missesOf 12 = .ok (.invokeinterface 93 2, 5) := by decide +kernel
theorem dX1_missesOf_17 : decode cX1_missesOf 17 = .ok (.checkcast 103, 3) := dk_192 0 103 (dk_at dksX1_missesOf_0 17 rfl rfl)
theorem dX1_missesOf_20 : decode cX1_missesOf 20 = .ok (.aload_n 0, 1) := dk_42 (dk_at dksX1_missesOf_0 20 rfl rfl)
theorem dX1_missesOf_21 : decode cX1_missesOf 21 = .ok (.getfield 56, 3) := dk_180 0 56 (dk_at dksX1_missesOf_0 21 rfl rfl)
theorem dX1_missesOf_24 : decode cX1_missesOf 24 = .ok (.getfield 86, 3) := dk_180 0 86 (dk_at dksX1_missesOf_1 0 rfl rfl)
theorem dX1_missesOf_27 : decode cX1_missesOf 27 = .ok (.iload_n 2, 1) := dk_28 (dk_at dksX1_missesOf_1 3 rfl rfl)
theorem dX1_missesOf_28 : decode cX1_missesOf 28 = .ok (.invokeinterface 93 2, 5) := by decide +kernel
theorem dX1_missesOf_33 : decode cX1_missesOf 33 = .ok (.checkcast 97, 3) := dk_192 0 97 (dk_at dksX1_missesOf_1 9 rfl rfl)
theorem dX1_missesOf_36 : decode cX1_missesOf 36 = .ok (.invokespecial 224, 3) := dk_183 0 224 (dk_at dksX1_missesOf_1 12 rfl rfl)
theorem dX1_missesOf_39 : decode cX1_missesOf 39 = .ok (.invokevirtual 205, 3) := dk_182 0 205 (dk_at dksX1_missesOf_1 15 rfl rfl)
theorem dX1_missesOf_42 : decode cX1_missesOf 42 = .ok (.ireturn, 1) := dk_172 (dk_at dksX1_missesOf_1 18 rfl rfl)
theorem md_X1_missesOf : xMd yX1_missesOf cX1_missesOf 3 (Option.some Jvm.ClassFile.FieldType.int) 2 := ⟨q1965, q123, by decide, by decide +kernel, by decide +kernel, by decide +kernel⟩
def f_X1_missesOf (p0 : PH) (a0 : Nat) (a1 : Int32) (a2 : Int32) : Option (xO × PH) :=
  (xcl1 p0 a0 0 (xnew p0 8 [.null, .null, .null, .null] fun b1 p2 =>
  (xgR p2 a0 0 5 fun x3 =>
  (xnul x3 none fun b4 =>
  (xgR p2 b4 3 1 fun x5 =>
  (xnul x5 none fun b6 =>
  (xcR (f_J3_get p2 b6 a1) fun x8 p7 =>
  (xcst p7 (x8) [6]
  (xgR p7 a0 0 5 fun x9 =>
  (xnul x9 none fun b10 =>
  (xgR p7 b10 3 0 fun x11 =>
  (xnul x11 none fun b12 =>
  (xcR (f_J3_get p7 b12 a2) fun x14 p13 =>
  (xcst p13 (x14) [5]
  (xcV (f_X9_init p13 b1 x8 x14) fun p15 =>
  (xcI (f_X9_missed p15 b1 ) fun x17 p16 =>
  (rI x17 p16)))))))))))))))))
theorem rc_X1_missesOf {p0 : PH} {a0 : Nat} {a1 : Int32} {a2 : Int32} : ∀ z, f_X1_missesOf p0 a0 a1 a2 = some z → xco p0 a0 = some 0 := fun z h => xcl1_some h
theorem f_X1_missesOf_ok {G : xG} (hO : xOK G) (p0 : PH) (a0 : Nat) (a1 : Int32) (a2 : Int32) : CT G 7 yX1_missesOf cX1_missesOf 3 (Option.some Jvm.ClassFile.FieldType.int) [.ref a0, .int a1, .int a2] p0 (f_X1_missesOf p0 a0 a1 a2) := by
  refine CT_of hO (by decide +kernel) (by decide +kernel) (Nat.le_of_ble_eq_true rfl) ?_
  show X G "ForestLegs" "missesOf" cX1_missesOf 3 (Option.some Jvm.ClassFile.FieldType.int) 7 0 [(0, .ref a0), (1, .int a1), (2, .int a2)] [] p0 (f_X1_missesOf p0 a0 a1 a2)
  refine x_cl1 (fun e0 => ?_)
  refine x_new cl_8 (by decide) q1966 q1509 q158 rfl dX1_missesOf_0 (n := 3) rfl (fun b1 p2 => ?_)
  refine x_dup dX1_missesOf_3 rfl (n := 4) rfl ?_
  refine x_aload_nr 0 dX1_missesOf_4 rfl rfl (n := 5) rfl ?_
  refine x_getR fl_X1_56 dX1_missesOf_5 (n := 8) rfl (fun x3 => ?_)
  refine x_sm (fun b4 e => ?_)
  subst e
  refine x_getR fl_X1_71 dX1_missesOf_8 (n := 11) rfl (fun x5 => ?_)
  refine x_iload_n 1 dX1_missesOf_11 rfl rfl (n := 12) rfl ?_
  refine x_sm (fun b6 e => ?_)
  subst e
  refine x_callF_R [.int a1] [.ref b1, .ref b1] (f_J3_get_ok hO p2 b6 a1) rc_J3_get md_J3_get rfl q1497 fc_java_util_ArrayList_java_util_List_get_1_ILjava dX1_missesOf_12 rfl rfl (by decide) (Nat.le_of_ble_eq_true rfl) (n := 17) rfl (fun x8 p7 => ?_)
  refine x_cast (x := x8) (cs := [6]) q1498 cst_ForestLegs_Runner dX1_missesOf_17 (n := 20) rfl ?_
  refine x_aload_nr 0 dX1_missesOf_20 rfl rfl (n := 21) rfl ?_
  refine x_getR fl_X1_56 dX1_missesOf_21 (n := 24) rfl (fun x9 => ?_)
  refine x_sm (fun b10 e => ?_)
  subst e
  refine x_getR fl_X1_86 dX1_missesOf_24 (n := 27) rfl (fun x11 => ?_)
  refine x_iload_n 2 dX1_missesOf_27 rfl rfl (n := 28) rfl ?_
  refine x_sm (fun b12 e => ?_)
  subst e
  refine x_callF_R [.int a2] [va_rf x8, .ref b1, .ref b1] (f_J3_get_ok hO p7 b12 a2) rc_J3_get md_J3_get rfl q1497 fc_java_util_ArrayList_java_util_List_get_1_ILjava dX1_missesOf_28 rfl rfl (by decide) (by simp only [List.map, xcat]; exact Nat.le_of_ble_eq_true rfl) (n := 33) rfl (fun x14 p13 => ?_)
  refine x_cast (x := x14) (cs := [5]) q1574 cst_ForestLegs_Course dX1_missesOf_33 (n := 36) rfl ?_
  refine x_callI_V [va_rf x8, va_rf x14] [.ref b1] (f_X9_init_ok hO p13 b1 x8 x14) md_X9_init rfl q1967 q1515 dX1_missesOf_36 rfl rfl (by decide) (Nat.le_of_ble_eq_true rfl) (n := 39) rfl (fun p15 => ?_)
  refine x_callV_I [] [] (f_X9_missed_ok hO p15 b1 ) rc_X9_missed md_X9_missed rfl q1785 q1552 q1553 dX1_missesOf_39 rfl rfl (by decide) (Nat.le_of_ble_eq_true rfl) (n := 42) rfl (fun x17 p16 => ?_)
  exact x_ireturn dX1_missesOf_42
abbrev cX1_misses : ByteArray := prog_1_method_25_code
def yX1_misses : MethodName := ⟨RX1, "misses", "(II)I"⟩
def dkwX1_misses_1 : List UInt8 := [182, 0, 83, 167, 0, 8, 42, 4, 182, 0, 40, 172]
abbrev dktX1_misses_1 : List UInt8 := dkwX1_misses_1 ++ []
def dkwX1_misses_0 : List UInt8 := [42, 27, 182, 0, 100, 153, 0, 24, 42, 28, 182, 0, 89, 153, 0, 16, 42, 42, 27, 28, 182, 0, 227]
abbrev dktX1_misses_0 : List UInt8 := dkwX1_misses_0 ++ dktX1_misses_1
theorem dksX1_misses_0 : cX1_misses.data.toList.drop 0 = dktX1_misses_0 := by decide +kernel
theorem dksX1_misses_1 : cX1_misses.data.toList.drop 23 = dktX1_misses_1 := dk_seg dksX1_misses_0 23 rfl rfl
theorem dX1_misses_0 : decode cX1_misses 0 = .ok (.aload_n 0, 1) := dk_42 (dk_at dksX1_misses_0 0 rfl rfl)
theorem dX1_misses_1 : decode cX1_misses 1 = .ok (.iload_n 1, 1) := dk_27 (dk_at dksX1_misses_0 1 rfl rfl)
theorem dX1_misses_2 : decode cX1_misses 2 = .ok (.invokevirtual 100, 3) := dk_182 0 100 (dk_at dksX1_misses_0 2 rfl rfl)
theorem dX1_misses_5 : decode cX1_misses 5 = .ok (.ifCond .eq 24, 3) := dk_153 0 24 (dk_at dksX1_misses_0 5 rfl rfl)
theorem dX1_misses_8 : decode cX1_misses 8 = .ok (.aload_n 0, 1) := dk_42 (dk_at dksX1_misses_0 8 rfl rfl)
theorem dX1_misses_9 : decode cX1_misses 9 = .ok (.iload_n 2, 1) := dk_28 (dk_at dksX1_misses_0 9 rfl rfl)
theorem dX1_misses_10 : decode cX1_misses 10 = .ok (.invokevirtual 89, 3) := dk_182 0 89 (dk_at dksX1_misses_0 10 rfl rfl)
theorem dX1_misses_13 : decode cX1_misses 13 = .ok (.ifCond .eq 16, 3) := dk_153 0 16 (dk_at dksX1_misses_0 13 rfl rfl)
theorem dX1_misses_16 : decode cX1_misses 16 = .ok (.aload_n 0, 1) := dk_42 (dk_at dksX1_misses_0 16 rfl rfl)
theorem dX1_misses_17 : decode cX1_misses 17 = .ok (.aload_n 0, 1) := dk_42 (dk_at dksX1_misses_0 17 rfl rfl)
theorem dX1_misses_18 : decode cX1_misses 18 = .ok (.iload_n 1, 1) := dk_27 (dk_at dksX1_misses_0 18 rfl rfl)
theorem dX1_misses_19 : decode cX1_misses 19 = .ok (.iload_n 2, 1) := dk_28 (dk_at dksX1_misses_0 19 rfl rfl)
theorem dX1_misses_20 : decode cX1_misses 20 = .ok (.invokevirtual 227, 3) := dk_182 0 227 (dk_at dksX1_misses_0 20 rfl rfl)
theorem dX1_misses_23 : decode cX1_misses 23 = .ok (.invokevirtual 83, 3) := dk_182 0 83 (dk_at dksX1_misses_1 0 rfl rfl)
theorem dX1_misses_26 : decode cX1_misses 26 = .ok (.goto 8, 3) := dk_167 0 8 (dk_at dksX1_misses_1 3 rfl rfl)
theorem dX1_misses_29 : decode cX1_misses 29 = .ok (.aload_n 0, 1) := dk_42 (dk_at dksX1_misses_1 6 rfl rfl)
theorem dX1_misses_30 : decode cX1_misses 30 = .ok (.iconst 1, 1) := dk_4 (dk_at dksX1_misses_1 7 rfl rfl)
theorem dX1_misses_31 : decode cX1_misses 31 = .ok (.invokevirtual 40, 3) := dk_182 0 40 (dk_at dksX1_misses_1 8 rfl rfl)
theorem dX1_misses_34 : decode cX1_misses 34 = .ok (.ireturn, 1) := dk_172 (dk_at dksX1_misses_1 11 rfl rfl)
theorem md_X1_misses : xMd yX1_misses cX1_misses 3 (Option.some Jvm.ClassFile.FieldType.int) 2 := ⟨q1961, q123, by decide, by decide +kernel, by decide +kernel, by decide +kernel⟩
def f_X1_misses_29 (a0 : Nat)   (p0 : PH) : Option (xO × PH) :=
  (xcI (f_X1_refused p0 a0 1) fun x4 p3 =>
  (rI x4 p3))
def f_X1_misses (p0 : PH) (a0 : Nat) (a1 : Int32) (a2 : Int32) : Option (xO × PH) :=
  (xcl1 p0 a0 0 (xcI (f_X1_isRunner p0 a0 a1) fun x2 p1 =>
  (if x2 = 0 then
  (f_X1_misses_29 a0  p1) else
  (xcI (f_X1_isCourse p1 a0 a2) fun x6 p5 =>
  (if x6 = 0 then
  (f_X1_misses_29 a0  p5) else
  (xcI (f_X1_missesOf p5 a0 a1 a2) fun x8 p7 =>
  (xcI (f_X1_fine p7 a0 x8) fun x10 p9 =>
  (rI x10 p9))))))))
theorem rc_X1_misses {p0 : PH} {a0 : Nat} {a1 : Int32} {a2 : Int32} : ∀ z, f_X1_misses p0 a0 a1 a2 = some z → xco p0 a0 = some 0 := fun z h => xcl1_some h
theorem f_X1_misses_29_ok {G : xG} (hO : xOK G) (a0 : Nat)   (p0 : PH) : X G "ForestLegs" "misses" cX1_misses 3 (Option.some Jvm.ClassFile.FieldType.int) 8 29 [(0, .ref a0)] [] p0 (f_X1_misses_29 a0  p0) := by
  unfold f_X1_misses_29
  refine x_aload_nr 0 dX1_misses_29 rfl rfl (n := 30) rfl ?_
  refine x_iconst 1 dX1_misses_30 rfl (n := 31) rfl ?_
  refine x_callV_I [.int 1] [] (f_X1_refused_ok hO p0 a0 1) rc_X1_refused md_X1_refused rfl q250 q252 qs0 dX1_misses_31 rfl rfl (by decide) (Nat.le_of_ble_eq_true rfl) (n := 34) rfl (fun x4 p3 => ?_)
  exact x_ireturn dX1_misses_34
theorem f_X1_misses_ok {G : xG} (hO : xOK G) (p0 : PH) (a0 : Nat) (a1 : Int32) (a2 : Int32) : CT G 8 yX1_misses cX1_misses 3 (Option.some Jvm.ClassFile.FieldType.int) [.ref a0, .int a1, .int a2] p0 (f_X1_misses p0 a0 a1 a2) := by
  refine CT_of hO (by decide +kernel) (by decide +kernel) (Nat.le_of_ble_eq_true rfl) ?_
  show X G "ForestLegs" "misses" cX1_misses 3 (Option.some Jvm.ClassFile.FieldType.int) 8 0 [(0, .ref a0), (1, .int a1), (2, .int a2)] [] p0 (f_X1_misses p0 a0 a1 a2)
  refine x_cl1 (fun e0 => ?_)
  refine x_aload_nr 0 dX1_misses_0 rfl rfl (n := 1) rfl ?_
  refine x_iload_n 1 dX1_misses_1 rfl rfl (n := 2) rfl ?_
  refine x_callV_I [.int a1] [] (f_X1_isRunner_ok hO p0 a0 a1) rc_X1_isRunner md_X1_isRunner rfl q1780 q1782 qs41 dX1_misses_2 rfl rfl (by decide) (Nat.le_of_ble_eq_true rfl) (n := 5) rfl (fun x2 p1 => ?_)
  refine x_if_eq dX1_misses_5 (t := 29) (by decide) (n := 8) rfl (fun _ => ?_) (fun _ => ?_)
  · refine x_sub [0] [(0, .ref a0)] rfl ?_
    exact f_X1_misses_29_ok hO a0  p1
  · refine x_aload_nr 0 dX1_misses_8 rfl rfl (n := 9) rfl ?_
    refine x_iload_n 2 dX1_misses_9 rfl rfl (n := 10) rfl ?_
    refine x_callV_I [.int a2] [] (f_X1_isCourse_ok hO p1 a0 a2) rc_X1_isCourse md_X1_isCourse rfl q1566 q1568 qs29 dX1_misses_10 rfl rfl (by decide) (Nat.le_of_ble_eq_true rfl) (n := 13) rfl (fun x6 p5 => ?_)
    refine x_if_eq dX1_misses_13 (t := 29) (by decide) (n := 16) rfl (fun _ => ?_) (fun _ => ?_)
    · refine x_sub [0] [(0, .ref a0)] rfl ?_
      exact f_X1_misses_29_ok hO a0  p5
    · refine x_aload_nr 0 dX1_misses_16 rfl rfl (n := 17) rfl ?_
      refine x_aload_nr 0 dX1_misses_17 rfl rfl (n := 18) rfl ?_
      refine x_iload_n 1 dX1_misses_18 rfl rfl (n := 19) rfl ?_
      refine x_iload_n 2 dX1_misses_19 rfl rfl (n := 20) rfl ?_
      refine x_callV_I [.int a1, .int a2] [.ref a0] (f_X1_missesOf_ok hO p5 a0 a1 a2) rc_X1_missesOf md_X1_missesOf rfl q1962 q1964 qs44 dX1_misses_20 rfl rfl (by decide) (Nat.le_of_ble_eq_true rfl) (n := 23) rfl (fun x8 p7 => ?_)
      refine x_callV_I [.int x8] [] (f_X1_fine_ok hO p7 a0 x8) rc_X1_fine md_X1_fine rfl q1480 q1482 qs26 dX1_misses_23 rfl rfl (by decide) (Nat.le_of_ble_eq_true rfl) (n := 26) rfl (fun x10 p9 => ?_)
      refine x_goto dX1_misses_26 (n := 34) (by decide) ?_
      exact x_ireturn dX1_misses_34
abbrev cX1_fits : ByteArray := prog_1_method_26_code
def yX1_fits : MethodName := ⟨RX1, "fits", "(I)I"⟩
def dkwX1_fits_4 : List UInt8 := [192, 0, 97, 182, 0, 99, 164, 0, 5, 29, 61, 132, 3, 1, 167, 255, 169, 42, 28, 182, 0, 83, 172]
abbrev dktX1_fits_4 : List UInt8 := dkwX1_fits_4 ++ []
def dkwX1_fits_3 : List UInt8 := [185, 0, 93, 2, 0, 192, 0, 97, 182, 0, 99, 42, 180, 0, 56, 180, 0, 86, 28, 185, 0, 93, 2, 0]
abbrev dktX1_fits_3 : List UInt8 := dkwX1_fits_3 ++ dktX1_fits_4
def dkwX1_fits_2 : List UInt8 := [54, 4, 21, 4, 155, 0, 49, 21, 4, 154, 0, 46, 42, 180, 0, 56, 180, 0, 86, 29]
abbrev dktX1_fits_2 : List UInt8 := dkwX1_fits_2 ++ dktX1_fits_3
def dkwX1_fits_1 : List UInt8 := [180, 0, 86, 185, 0, 77, 1, 0, 162, 0, 77, 42, 27, 29, 182, 0, 227, 42, 27, 28, 182, 0, 227, 100]
abbrev dktX1_fits_1 : List UInt8 := dkwX1_fits_1 ++ dktX1_fits_2
def dkwX1_fits_0 : List UInt8 := [42, 27, 182, 0, 100, 154, 0, 9, 42, 4, 182, 0, 40, 172, 3, 61, 4, 62, 29, 42, 180, 0, 56]
abbrev dktX1_fits_0 : List UInt8 := dkwX1_fits_0 ++ dktX1_fits_1
theorem dksX1_fits_0 : cX1_fits.data.toList.drop 0 = dktX1_fits_0 := by decide +kernel
theorem dksX1_fits_1 : cX1_fits.data.toList.drop 23 = dktX1_fits_1 := dk_seg dksX1_fits_0 23 rfl rfl
theorem dksX1_fits_2 : cX1_fits.data.toList.drop 47 = dktX1_fits_2 := dk_seg dksX1_fits_1 24 rfl rfl
theorem dksX1_fits_3 : cX1_fits.data.toList.drop 67 = dktX1_fits_3 := dk_seg dksX1_fits_2 20 rfl rfl
theorem dksX1_fits_4 : cX1_fits.data.toList.drop 91 = dktX1_fits_4 := dk_seg dksX1_fits_3 24 rfl rfl
theorem dX1_fits_0 : decode cX1_fits 0 = .ok (.aload_n 0, 1) := dk_42 (dk_at dksX1_fits_0 0 rfl rfl)
theorem dX1_fits_1 : decode cX1_fits 1 = .ok (.iload_n 1, 1) := dk_27 (dk_at dksX1_fits_0 1 rfl rfl)
theorem dX1_fits_2 : decode cX1_fits 2 = .ok (.invokevirtual 100, 3) := dk_182 0 100 (dk_at dksX1_fits_0 2 rfl rfl)
theorem dX1_fits_5 : decode cX1_fits 5 = .ok (.ifCond .ne 9, 3) := dk_154 0 9 (dk_at dksX1_fits_0 5 rfl rfl)
theorem dX1_fits_8 : decode cX1_fits 8 = .ok (.aload_n 0, 1) := dk_42 (dk_at dksX1_fits_0 8 rfl rfl)
theorem dX1_fits_9 : decode cX1_fits 9 = .ok (.iconst 1, 1) := dk_4 (dk_at dksX1_fits_0 9 rfl rfl)
theorem dX1_fits_10 : decode cX1_fits 10 = .ok (.invokevirtual 40, 3) := dk_182 0 40 (dk_at dksX1_fits_0 10 rfl rfl)
theorem dX1_fits_13 : decode cX1_fits 13 = .ok (.ireturn, 1) := dk_172 (dk_at dksX1_fits_0 13 rfl rfl)
theorem dX1_fits_14 : decode cX1_fits 14 = .ok (.iconst 0, 1) := dk_3 (dk_at dksX1_fits_0 14 rfl rfl)
theorem dX1_fits_15 : decode cX1_fits 15 = .ok (.istore_n 2, 1) := dk_61 (dk_at dksX1_fits_0 15 rfl rfl)
theorem dX1_fits_16 : decode cX1_fits 16 = .ok (.iconst 1, 1) := dk_4 (dk_at dksX1_fits_0 16 rfl rfl)
theorem dX1_fits_17 : decode cX1_fits 17 = .ok (.istore_n 3, 1) := dk_62 (dk_at dksX1_fits_0 17 rfl rfl)
theorem dX1_fits_18 : decode cX1_fits 18 = .ok (.iload_n 3, 1) := dk_29 (dk_at dksX1_fits_0 18 rfl rfl)
theorem dX1_fits_19 : decode cX1_fits 19 = .ok (.aload_n 0, 1) := dk_42 (dk_at dksX1_fits_0 19 rfl rfl)
theorem dX1_fits_20 : decode cX1_fits 20 = .ok (.getfield 56, 3) := dk_180 0 56 (dk_at dksX1_fits_0 20 rfl rfl)
theorem dX1_fits_23 : decode cX1_fits 23 = .ok (.getfield 86, 3) := dk_180 0 86 (dk_at dksX1_fits_1 0 rfl rfl)
theorem dX1_fits_26 : decode cX1_fits 26 = .ok (.invokeinterface 77 1, 5) := by decide +kernel
theorem dX1_fits_31 : decode cX1_fits 31 = .ok (.if_icmp .ge 77, 3) := dk_162 0 77 (dk_at dksX1_fits_1 8 rfl rfl)
theorem dX1_fits_34 : decode cX1_fits 34 = .ok (.aload_n 0, 1) := dk_42 (dk_at dksX1_fits_1 11 rfl rfl)
theorem dX1_fits_35 : decode cX1_fits 35 = .ok (.iload_n 1, 1) := dk_27 (dk_at dksX1_fits_1 12 rfl rfl)
theorem dX1_fits_36 : decode cX1_fits 36 = .ok (.iload_n 3, 1) := dk_29 (dk_at dksX1_fits_1 13 rfl rfl)
theorem dX1_fits_37 : decode cX1_fits 37 = .ok (.invokevirtual 227, 3) := dk_182 0 227 (dk_at dksX1_fits_1 14 rfl rfl)
theorem dX1_fits_40 : decode cX1_fits 40 = .ok (.aload_n 0, 1) := dk_42 (dk_at dksX1_fits_1 17 rfl rfl)
theorem dX1_fits_41 : decode cX1_fits 41 = .ok (.iload_n 1, 1) := dk_27 (dk_at dksX1_fits_1 18 rfl rfl)
theorem dX1_fits_42 : decode cX1_fits 42 = .ok (.iload_n 2, 1) := dk_28 (dk_at dksX1_fits_1 19 rfl rfl)
theorem dX1_fits_43 : decode cX1_fits 43 = .ok (.invokevirtual 227, 3) := dk_182 0 227 (dk_at dksX1_fits_1 20 rfl rfl)
theorem dX1_fits_46 : decode cX1_fits 46 = .ok (.isub, 1) := dk_100 (dk_at dksX1_fits_1 23 rfl rfl)
theorem dX1_fits_47 : decode cX1_fits 47 = .ok (.istore 4, 2) := dk_54 4 (dk_at dksX1_fits_2 0 rfl rfl)
theorem dX1_fits_49 : decode cX1_fits 49 = .ok (.iload 4, 2) := dk_21 4 (dk_at dksX1_fits_2 2 rfl rfl)
theorem dX1_fits_51 : decode cX1_fits 51 = .ok (.ifCond .lt 49, 3) := dk_155 0 49 (dk_at dksX1_fits_2 4 rfl rfl)
theorem dX1_fits_54 : decode cX1_fits 54 = .ok (.iload 4, 2) := dk_21 4 (dk_at dksX1_fits_2 7 rfl rfl)
theorem dX1_fits_56 : decode cX1_fits 56 = .ok (.ifCond .ne 46, 3) := dk_154 0 46 (dk_at dksX1_fits_2 9 rfl rfl)
theorem dX1_fits_59 : decode cX1_fits 59 = .ok (.aload_n 0, 1) := dk_42 (dk_at dksX1_fits_2 12 rfl rfl)
theorem dX1_fits_60 : decode cX1_fits 60 = .ok (.getfield 56, 3) := dk_180 0 56 (dk_at dksX1_fits_2 13 rfl rfl)
theorem dX1_fits_63 : decode cX1_fits 63 = .ok (.getfield 86, 3) := dk_180 0 86 (dk_at dksX1_fits_2 16 rfl rfl)
theorem dX1_fits_66 : decode cX1_fits 66 = .ok (.iload_n 3, 1) := dk_29 (dk_at dksX1_fits_2 19 rfl rfl)
theorem dX1_fits_67 : decode cX1_fits 67 = .ok (.invokeinterface 93 2, 5) := by decide +kernel
theorem dX1_fits_72 : decode cX1_fits 72 = .ok (.checkcast 97, 3) := dk_192 0 97 (dk_at dksX1_fits_3 5 rfl rfl)
theorem dX1_fits_75 : decode cX1_fits 75 = .ok (.invokevirtual 99, 3) := dk_182 0 99 (dk_at dksX1_fits_3 8 rfl rfl)
theorem dX1_fits_78 : decode cX1_fits 78 = .ok (.aload_n 0, 1) := dk_42 (dk_at dksX1_fits_3 11 rfl rfl)
theorem dX1_fits_79 : decode cX1_fits 79 = .ok (.getfield 56, 3) := dk_180 0 56 (dk_at dksX1_fits_3 12 rfl rfl)
theorem dX1_fits_82 : decode cX1_fits 82 = .ok (.getfield 86, 3) := dk_180 0 86 (dk_at dksX1_fits_3 15 rfl rfl)
theorem dX1_fits_85 : decode cX1_fits 85 = .ok (.iload_n 2, 1) := dk_28 (dk_at dksX1_fits_3 18 rfl rfl)
theorem dX1_fits_86 : decode cX1_fits 86 = .ok (.invokeinterface 93 2, 5) := by decide +kernel
theorem dX1_fits_91 : decode cX1_fits 91 = .ok (.checkcast 97, 3) := dk_192 0 97 (dk_at dksX1_fits_4 0 rfl rfl)
theorem dX1_fits_94 : decode cX1_fits 94 = .ok (.invokevirtual 99, 3) := dk_182 0 99 (dk_at dksX1_fits_4 3 rfl rfl)
theorem dX1_fits_97 : decode cX1_fits 97 = .ok (.if_icmp .le 5, 3) := dk_164 0 5 (dk_at dksX1_fits_4 6 rfl rfl)
theorem dX1_fits_100 : decode cX1_fits 100 = .ok (.iload_n 3, 1) := dk_29 (dk_at dksX1_fits_4 9 rfl rfl)
theorem dX1_fits_101 : decode cX1_fits 101 = .ok (.istore_n 2, 1) := dk_61 (dk_at dksX1_fits_4 10 rfl rfl)
theorem dX1_fits_102 : decode cX1_fits 102 = .ok (.iinc 3 1, 3) := dk_132 3 1 (dk_at dksX1_fits_4 11 rfl rfl)
theorem dX1_fits_105 : decode cX1_fits 105 = .ok (.goto (-87), 3) := dk_167 255 169 (dk_at dksX1_fits_4 14 rfl rfl)
theorem dX1_fits_108 : decode cX1_fits 108 = .ok (.aload_n 0, 1) := dk_42 (dk_at dksX1_fits_4 17 rfl rfl)
theorem dX1_fits_109 : decode cX1_fits 109 = .ok (.iload_n 2, 1) := dk_28 (dk_at dksX1_fits_4 18 rfl rfl)
theorem dX1_fits_110 : decode cX1_fits 110 = .ok (.invokevirtual 83, 3) := dk_182 0 83 (dk_at dksX1_fits_4 19 rfl rfl)
theorem dX1_fits_113 : decode cX1_fits 113 = .ok (.ireturn, 1) := dk_172 (dk_at dksX1_fits_4 22 rfl rfl)
theorem md_X1_fits : xMd yX1_fits cX1_fits 5 (Option.some Jvm.ClassFile.FieldType.int) 1 := ⟨q1971, q123, by decide, by decide +kernel, by decide +kernel, by decide +kernel⟩
def f_X1_fits_102 (a0 : Nat) (k18 : Int32 × Int32 × Int32 × PH → Option (xO × PH)) (v1 : Int32) (v2 : Int32) (v3 : Int32) (p0 : PH) : Option (xO × PH) :=
  (bnd (v3 + 1) fun x16 =>
  (k18 (v1, v2, x16, p0)))
def f_X1_fits_100 (a0 : Nat) (k18 : Int32 × Int32 × Int32 × PH → Option (xO × PH)) (v1 : Int32) (v3 : Int32) (p0 : PH) : Option (xO × PH) :=
  (f_X1_fits_102 a0 k18 v1 v3 v3 p0)
def f_X1_fits_18F (a0 : Nat)  (k18 : Int32 × Int32 × Int32 × PH → Option (xO × PH)) (p : Int32 × Int32 × Int32 × PH) : Option (xO × PH) := match p with
  | (v1, v2, v3, p0) => (xgR p0 a0 0 5 fun x3 =>
  (xnul x3 none fun b4 =>
  (xgR p0 b4 3 0 fun x5 =>
  (xnul x5 none fun b6 =>
  (xcI (f_J3_size p0 b6 ) fun x8 p7 =>
  (if x8 ≤ v3 then
  (xcI (f_X1_fine p7 a0 v2) fun x10 p9 =>
  (rI x10 p9)) else
  (xcI (f_X1_missesOf p7 a0 v1 v3) fun x12 p11 =>
  (xcI (f_X1_missesOf p11 a0 v1 v2) fun x14 p13 =>
  (bnd (x12 - x14) fun x15 =>
  (if x15 < 0 then
  (f_X1_fits_100 a0 k18 v1 v3 p13) else
  (if x15 = 0 then
  (xgR p13 a0 0 5 fun x17 =>
  (xnul x17 none fun b18 =>
  (xgR p13 b18 3 0 fun x19 =>
  (xnul x19 none fun b20 =>
  (xcR (f_J3_get p13 b20 v3) fun x22 p21 =>
  (xcst p21 (x22) [5]
  (xnul x22 none fun b23 =>
  (xcI (f_X6_size p21 b23 ) fun x25 p24 =>
  (xgR p24 a0 0 5 fun x26 =>
  (xnul x26 none fun b27 =>
  (xgR p24 b27 3 0 fun x28 =>
  (xnul x28 none fun b29 =>
  (xcR (f_J3_get p24 b29 v2) fun x31 p30 =>
  (xcst p30 (x31) [5]
  (xnul x31 none fun b32 =>
  (xcI (f_X6_size p30 b32 ) fun x34 p33 =>
  (if x25 ≤ x34 then
  (f_X1_fits_102 a0 k18 v1 v2 v3 p33) else
  (f_X1_fits_100 a0 k18 v1 v3 p33)))))))))))))))))) else
  (f_X1_fits_102 a0 k18 v1 v2 v3 p13))))))))))))
def f_X1_fits (p0 : PH) (a0 : Nat) (a1 : Int32) : Option (xO × PH) :=
  (xcl1 p0 a0 0 (xcI (f_X1_isRunner p0 a0 a1) fun x2 p1 =>
  (if x2 = 0 then
  (xcI (f_X1_refused p1 a0 1) fun x36 p35 =>
  (rI x36 p35)) else
  (lp (f_X1_fits_18F a0) FU (a1, 0, 1, p1)))))
theorem rc_X1_fits {p0 : PH} {a0 : Nat} {a1 : Int32} : ∀ z, f_X1_fits p0 a0 a1 = some z → xco p0 a0 = some 0 := fun z h => xcl1_some h
theorem f_X1_fits_102_ok {G : xG} (hO : xOK G) (a0 : Nat) {k18 : Int32 × Int32 × Int32 × PH → Option (xO × PH)} (hk18 : ∀ (v1 : Int32) (v2 : Int32) (v3 : Int32) (p0 : PH), X G "ForestLegs" "fits" cX1_fits 5 (Option.some Jvm.ClassFile.FieldType.int) 8 18 [(0, .ref a0), (1, .int v1), (2, .int v2), (3, .int v3)] [] p0 (k18 (v1, v2, v3, p0))) (v1 : Int32) (v2 : Int32) (v3 : Int32) (p0 : PH) : X G "ForestLegs" "fits" cX1_fits 5 (Option.some Jvm.ClassFile.FieldType.int) 8 102 [(0, .ref a0), (1, .int v1), (2, .int v2), (3, .int v3)] [] p0 (f_X1_fits_102 a0 k18 v1 v2 v3 p0) := by
  unfold f_X1_fits_102
  refine x_iincB 3 (fun x16 => [(3, .int x16), (0, .ref a0), (1, .int v1), (2, .int v2)]) dX1_fits_102 rfl rfl (by decide) (fun _ => rfl) (n := 105) rfl (fun x16 => ?_)
  refine x_goto dX1_fits_105 (n := 18) (by decide) ?_
  refine x_sub [1, 2, 3, 0] [(0, .ref a0), (1, .int v1), (2, .int v2), (3, .int x16)] rfl ?_
  exact hk18 v1 v2 x16 p0
theorem f_X1_fits_100_ok {G : xG} (hO : xOK G) (a0 : Nat) {k18 : Int32 × Int32 × Int32 × PH → Option (xO × PH)} (hk18 : ∀ (v1 : Int32) (v2 : Int32) (v3 : Int32) (p0 : PH), X G "ForestLegs" "fits" cX1_fits 5 (Option.some Jvm.ClassFile.FieldType.int) 8 18 [(0, .ref a0), (1, .int v1), (2, .int v2), (3, .int v3)] [] p0 (k18 (v1, v2, v3, p0))) (v1 : Int32) (v3 : Int32) (p0 : PH) : X G "ForestLegs" "fits" cX1_fits 5 (Option.some Jvm.ClassFile.FieldType.int) 8 100 [(0, .ref a0), (1, .int v1), (3, .int v3)] [] p0 (f_X1_fits_100 a0 k18 v1 v3 p0) := by
  unfold f_X1_fits_100
  refine x_iload_n 2 dX1_fits_100 rfl rfl (n := 101) rfl ?_
  refine x_istore_n [(2, .int v3), (0, .ref a0), (1, .int v1), (3, .int v3)] dX1_fits_101 rfl (by decide) rfl (n := 102) rfl ?_
  refine x_sub [1, 2, 0, 3] [(0, .ref a0), (1, .int v1), (2, .int v3), (3, .int v3)] rfl ?_
  exact f_X1_fits_102_ok hO a0 hk18 v1 v3 v3 p0
theorem f_X1_fits_18F_ok {G : xG} (hO : xOK G) (a0 : Nat)  {k18 : Int32 × Int32 × Int32 × PH → Option (xO × PH)} (hk18 : ∀ (v1 : Int32) (v2 : Int32) (v3 : Int32) (p0 : PH), X G "ForestLegs" "fits" cX1_fits 5 (Option.some Jvm.ClassFile.FieldType.int) 8 18 [(0, .ref a0), (1, .int v1), (2, .int v2), (3, .int v3)] [] p0 (k18 (v1, v2, v3, p0))) (v1 : Int32) (v2 : Int32) (v3 : Int32) (p0 : PH) : X G "ForestLegs" "fits" cX1_fits 5 (Option.some Jvm.ClassFile.FieldType.int) 8 18 [(0, .ref a0), (1, .int v1), (2, .int v2), (3, .int v3)] [] p0 (f_X1_fits_18F a0 k18 (v1, v2, v3, p0)) := by
  unfold f_X1_fits_18F
  refine x_iload_n 3 dX1_fits_18 rfl rfl (n := 19) rfl ?_
  refine x_aload_nr 0 dX1_fits_19 rfl rfl (n := 20) rfl ?_
  refine x_getR fl_X1_56 dX1_fits_20 (n := 23) rfl (fun x3 => ?_)
  refine x_sm (fun b4 e => ?_)
  subst e
  refine x_getR fl_X1_86 dX1_fits_23 (n := 26) rfl (fun x5 => ?_)
  refine x_sm (fun b6 e => ?_)
  subst e
  refine x_callF_I [] [.int v3] (f_J3_size_ok hO p0 b6 ) rc_J3_size md_J3_size rfl q1479 fc_java_util_ArrayList_java_util_List_size_0_I dX1_fits_26 rfl rfl (by decide) (Nat.le_of_ble_eq_true rfl) (n := 31) rfl (fun x8 p7 => ?_)
  refine x_icmp_ge dX1_fits_31 (t := 108) (by decide) (n := 34) rfl (fun _ => ?_) (fun _ => ?_)
  · refine x_aload_nr 0 dX1_fits_108 rfl rfl (n := 109) rfl ?_
    refine x_iload_n 2 dX1_fits_109 rfl rfl (n := 110) rfl ?_
    refine x_callV_I [.int v2] [] (f_X1_fine_ok hO p7 a0 v2) rc_X1_fine md_X1_fine rfl q1480 q1482 qs26 dX1_fits_110 rfl rfl (by decide) (Nat.le_of_ble_eq_true rfl) (n := 113) rfl (fun x10 p9 => ?_)
    exact x_ireturn dX1_fits_113
  · refine x_aload_nr 0 dX1_fits_34 rfl rfl (n := 35) rfl ?_
    refine x_iload_n 1 dX1_fits_35 rfl rfl (n := 36) rfl ?_
    refine x_iload_n 3 dX1_fits_36 rfl rfl (n := 37) rfl ?_
    refine x_callV_I [.int v1, .int v3] [] (f_X1_missesOf_ok hO p7 a0 v1 v3) rc_X1_missesOf md_X1_missesOf rfl q1962 q1964 qs44 dX1_fits_37 rfl rfl (by decide) (Nat.le_of_ble_eq_true rfl) (n := 40) rfl (fun x12 p11 => ?_)
    refine x_aload_nr 0 dX1_fits_40 rfl rfl (n := 41) rfl ?_
    refine x_iload_n 1 dX1_fits_41 rfl rfl (n := 42) rfl ?_
    refine x_iload_n 2 dX1_fits_42 rfl rfl (n := 43) rfl ?_
    refine x_callV_I [.int v1, .int v2] [.int x12] (f_X1_missesOf_ok hO p11 a0 v1 v2) rc_X1_missesOf md_X1_missesOf rfl q1962 q1964 qs44 dX1_fits_43 rfl rfl (by decide) (Nat.le_of_ble_eq_true rfl) (n := 46) rfl (fun x14 p13 => ?_)
    refine x_isub dX1_fits_46 (n := 47) rfl ?_
    refine x_nm (fun x15 => ?_)
    refine x_istore [(4, .int x15), (0, .ref a0), (1, .int v1), (2, .int v2), (3, .int v3)] dX1_fits_47 (by decide) rfl (n := 49) rfl ?_
    refine x_iload 0 dX1_fits_49 rfl (n := 51) rfl ?_
    refine x_if_lt dX1_fits_51 (t := 100) (by decide) (n := 54) rfl (fun _ => ?_) (fun _ => ?_)
    · refine x_sub [1, 2, 4] [(0, .ref a0), (1, .int v1), (3, .int v3)] rfl ?_
      exact f_X1_fits_100_ok hO a0 hk18 v1 v3 p13
    · refine x_iload 0 dX1_fits_54 rfl (n := 56) rfl ?_
      refine x_if_ne dX1_fits_56 (t := 102) (by decide) (n := 59) rfl (fun _ => ?_) (fun _ => ?_)
      · refine x_sub [1, 2, 3, 4] [(0, .ref a0), (1, .int v1), (2, .int v2), (3, .int v3)] rfl ?_
        exact f_X1_fits_102_ok hO a0 hk18 v1 v2 v3 p13
      · refine x_aload_nr 1 dX1_fits_59 rfl rfl (n := 60) rfl ?_
        refine x_getR fl_X1_56 dX1_fits_60 (n := 63) rfl (fun x17 => ?_)
        refine x_sm (fun b18 e => ?_)
        subst e
        refine x_getR fl_X1_86 dX1_fits_63 (n := 66) rfl (fun x19 => ?_)
        refine x_iload_n 4 dX1_fits_66 rfl rfl (n := 67) rfl ?_
        refine x_sm (fun b20 e => ?_)
        subst e
        refine x_callF_R [.int v3] [] (f_J3_get_ok hO p13 b20 v3) rc_J3_get md_J3_get rfl q1497 fc_java_util_ArrayList_java_util_List_get_1_ILjava dX1_fits_67 rfl rfl (by decide) (Nat.le_of_ble_eq_true rfl) (n := 72) rfl (fun x22 p21 => ?_)
        refine x_cast (x := x22) (cs := [5]) q1574 cst_ForestLegs_Course dX1_fits_72 (n := 75) rfl ?_
        refine x_sm (fun b23 e => ?_)
        subst e
        refine x_callV_I [] [] (f_X6_size_ok hO p21 b23 ) rc_X6_size md_X6_size rfl q1575 q1199 q1200 dX1_fits_75 rfl rfl (by decide) (Nat.le_of_ble_eq_true rfl) (n := 78) rfl (fun x25 p24 => ?_)
        refine x_aload_nr 1 dX1_fits_78 rfl rfl (n := 79) rfl ?_
        refine x_getR fl_X1_56 dX1_fits_79 (n := 82) rfl (fun x26 => ?_)
        refine x_sm (fun b27 e => ?_)
        subst e
        refine x_getR fl_X1_86 dX1_fits_82 (n := 85) rfl (fun x28 => ?_)
        refine x_iload_n 3 dX1_fits_85 rfl rfl (n := 86) rfl ?_
        refine x_sm (fun b29 e => ?_)
        subst e
        refine x_callF_R [.int v2] [.int x25] (f_J3_get_ok hO p24 b29 v2) rc_J3_get md_J3_get rfl q1497 fc_java_util_ArrayList_java_util_List_get_1_ILjava dX1_fits_86 rfl rfl (by decide) (Nat.le_of_ble_eq_true rfl) (n := 91) rfl (fun x31 p30 => ?_)
        refine x_cast (x := x31) (cs := [5]) q1574 cst_ForestLegs_Course dX1_fits_91 (n := 94) rfl ?_
        refine x_sm (fun b32 e => ?_)
        subst e
        refine x_callV_I [] [.int x25] (f_X6_size_ok hO p30 b32 ) rc_X6_size md_X6_size rfl q1575 q1199 q1200 dX1_fits_94 rfl rfl (by decide) (Nat.le_of_ble_eq_true rfl) (n := 97) rfl (fun x34 p33 => ?_)
        refine x_icmp_le dX1_fits_97 (t := 102) (by decide) (n := 100) rfl (fun _ => ?_) (fun _ => ?_)
        · refine x_sub [1, 2, 3, 4] [(0, .ref a0), (1, .int v1), (2, .int v2), (3, .int v3)] rfl ?_
          exact f_X1_fits_102_ok hO a0 hk18 v1 v2 v3 p33
        · refine x_sub [1, 2, 4] [(0, .ref a0), (1, .int v1), (3, .int v3)] rfl ?_
          exact f_X1_fits_100_ok hO a0 hk18 v1 v3 p33
theorem f_X1_fits_18_lp {G : xG} (hO : xOK G) (a0 : Nat)  (n : Nat) (v1 : Int32) (v2 : Int32) (v3 : Int32) (p0 : PH) : X G "ForestLegs" "fits" cX1_fits 5 (Option.some Jvm.ClassFile.FieldType.int) 8 18 [(0, .ref a0), (1, .int v1), (2, .int v2), (3, .int v3)] [] p0 (lp (f_X1_fits_18F a0) n (v1, v2, v3, p0)) :=
  lp_ok (W := fun p K => X G "ForestLegs" "fits" cX1_fits 5 (Option.some Jvm.ClassFile.FieldType.int) 8 18 [(0, .ref a0), (1, .int p.1), (2, .int p.2.1), (3, .int p.2.2.1)] [] p.2.2.2 K) (fun _ => x_no) (fun k hk => fun (v1, v2, v3, p0) => f_X1_fits_18F_ok hO a0 (fun v1 v2 v3 p0 => hk (v1, v2, v3, p0)) v1 v2 v3 p0) n (v1, v2, v3, p0)
theorem f_X1_fits_ok {G : xG} (hO : xOK G) (p0 : PH) (a0 : Nat) (a1 : Int32) : CT G 8 yX1_fits cX1_fits 5 (Option.some Jvm.ClassFile.FieldType.int) [.ref a0, .int a1] p0 (f_X1_fits p0 a0 a1) := by
  refine CT_of hO (by decide +kernel) (by decide +kernel) (Nat.le_of_ble_eq_true rfl) ?_
  show X G "ForestLegs" "fits" cX1_fits 5 (Option.some Jvm.ClassFile.FieldType.int) 8 0 [(0, .ref a0), (1, .int a1)] [] p0 (f_X1_fits p0 a0 a1)
  refine x_cl1 (fun e0 => ?_)
  refine x_aload_nr 0 dX1_fits_0 rfl rfl (n := 1) rfl ?_
  refine x_iload_n 1 dX1_fits_1 rfl rfl (n := 2) rfl ?_
  refine x_callV_I [.int a1] [] (f_X1_isRunner_ok hO p0 a0 a1) rc_X1_isRunner md_X1_isRunner rfl q1780 q1782 qs41 dX1_fits_2 rfl rfl (by decide) (Nat.le_of_ble_eq_true rfl) (n := 5) rfl (fun x2 p1 => ?_)
  refine x_if_ne dX1_fits_5 (t := 14) (by decide) (n := 8) rfl (fun _ => ?_) (fun _ => ?_)
  · refine x_iconst 0 dX1_fits_14 rfl (n := 15) rfl ?_
    refine x_istore_n [(2, .int 0), (0, .ref a0), (1, .int a1)] dX1_fits_15 rfl (by decide) rfl (n := 16) rfl ?_
    refine x_iconst 1 dX1_fits_16 rfl (n := 17) rfl ?_
    refine x_istore_n [(3, .int 1), (2, .int 0), (0, .ref a0), (1, .int a1)] dX1_fits_17 rfl (by decide) rfl (n := 18) rfl ?_
    refine x_sub [2, 3, 1, 0] [(0, .ref a0), (1, .int a1), (2, .int 0), (3, .int 1)] rfl ?_
    exact f_X1_fits_18_lp hO a0 FU a1 0 1 p1
  · refine x_aload_nr 0 dX1_fits_8 rfl rfl (n := 9) rfl ?_
    refine x_iconst 1 dX1_fits_9 rfl (n := 10) rfl ?_
    refine x_callV_I [.int 1] [] (f_X1_refused_ok hO p1 a0 1) rc_X1_refused md_X1_refused rfl q250 q252 qs0 dX1_fits_10 rfl rfl (by decide) (Nat.le_of_ble_eq_true rfl) (n := 13) rfl (fun x36 p35 => ?_)
    exact x_ireturn dX1_fits_13
abbrev cX1_missed : ByteArray := prog_1_method_27_code
def yX1_missed : MethodName := ⟨RX1, "missed", "(I)I"⟩
def dkwX1_missed_2 : List UInt8 := [21, 4, 120, 167, 0, 4, 3, 128, 61, 132, 4, 1, 167, 255, 227, 42, 28, 182, 0, 83, 172]
abbrev dktX1_missed_2 : List UInt8 := dkwX1_missed_2 ++ []
def dkwX1_missed_1 : List UInt8 := [180, 0, 193, 78, 3, 54, 4, 21, 4, 45, 190, 162, 0, 28, 28, 45, 21, 4, 46, 2, 160, 0, 10, 4]
abbrev dktX1_missed_1 : List UInt8 := dkwX1_missed_1 ++ dktX1_missed_2
def dkwX1_missed_0 : List UInt8 := [42, 27, 182, 0, 100, 154, 0, 9, 42, 4, 182, 0, 40, 172, 3, 61, 42, 180, 0, 56, 27, 182, 0, 189]
abbrev dktX1_missed_0 : List UInt8 := dkwX1_missed_0 ++ dktX1_missed_1
theorem dksX1_missed_0 : cX1_missed.data.toList.drop 0 = dktX1_missed_0 := by decide +kernel
theorem dksX1_missed_1 : cX1_missed.data.toList.drop 24 = dktX1_missed_1 := dk_seg dksX1_missed_0 24 rfl rfl
theorem dksX1_missed_2 : cX1_missed.data.toList.drop 48 = dktX1_missed_2 := dk_seg dksX1_missed_1 24 rfl rfl
theorem dX1_missed_0 : decode cX1_missed 0 = .ok (.aload_n 0, 1) := dk_42 (dk_at dksX1_missed_0 0 rfl rfl)
theorem dX1_missed_1 : decode cX1_missed 1 = .ok (.iload_n 1, 1) := dk_27 (dk_at dksX1_missed_0 1 rfl rfl)
theorem dX1_missed_2 : decode cX1_missed 2 = .ok (.invokevirtual 100, 3) := dk_182 0 100 (dk_at dksX1_missed_0 2 rfl rfl)
theorem dX1_missed_5 : decode cX1_missed 5 = .ok (.ifCond .ne 9, 3) := dk_154 0 9 (dk_at dksX1_missed_0 5 rfl rfl)
theorem dX1_missed_8 : decode cX1_missed 8 = .ok (.aload_n 0, 1) := dk_42 (dk_at dksX1_missed_0 8 rfl rfl)
theorem dX1_missed_9 : decode cX1_missed 9 = .ok (.iconst 1, 1) := dk_4 (dk_at dksX1_missed_0 9 rfl rfl)
theorem dX1_missed_10 : decode cX1_missed 10 = .ok (.invokevirtual 40, 3) := dk_182 0 40 (dk_at dksX1_missed_0 10 rfl rfl)
theorem dX1_missed_13 : decode cX1_missed 13 = .ok (.ireturn, 1) := dk_172 (dk_at dksX1_missed_0 13 rfl rfl)
theorem dX1_missed_14 : decode cX1_missed 14 = .ok (.iconst 0, 1) := dk_3 (dk_at dksX1_missed_0 14 rfl rfl)
theorem dX1_missed_15 : decode cX1_missed 15 = .ok (.istore_n 2, 1) := dk_61 (dk_at dksX1_missed_0 15 rfl rfl)
theorem dX1_missed_16 : decode cX1_missed 16 = .ok (.aload_n 0, 1) := dk_42 (dk_at dksX1_missed_0 16 rfl rfl)
theorem dX1_missed_17 : decode cX1_missed 17 = .ok (.getfield 56, 3) := dk_180 0 56 (dk_at dksX1_missed_0 17 rfl rfl)
theorem dX1_missed_20 : decode cX1_missed 20 = .ok (.iload_n 1, 1) := dk_27 (dk_at dksX1_missed_0 20 rfl rfl)
theorem dX1_missed_21 : decode cX1_missed 21 = .ok (.invokevirtual 189, 3) := dk_182 0 189 (dk_at dksX1_missed_0 21 rfl rfl)
theorem dX1_missed_24 : decode cX1_missed 24 = .ok (.getfield 193, 3) := dk_180 0 193 (dk_at dksX1_missed_1 0 rfl rfl)
theorem dX1_missed_27 : decode cX1_missed 27 = .ok (.astore_n 3, 1) := dk_78 (dk_at dksX1_missed_1 3 rfl rfl)
theorem dX1_missed_28 : decode cX1_missed 28 = .ok (.iconst 0, 1) := dk_3 (dk_at dksX1_missed_1 4 rfl rfl)
theorem dX1_missed_29 : decode cX1_missed 29 = .ok (.istore 4, 2) := dk_54 4 (dk_at dksX1_missed_1 5 rfl rfl)
theorem dX1_missed_31 : decode cX1_missed 31 = .ok (.iload 4, 2) := dk_21 4 (dk_at dksX1_missed_1 7 rfl rfl)
theorem dX1_missed_33 : decode cX1_missed 33 = .ok (.aload_n 3, 1) := dk_45 (dk_at dksX1_missed_1 9 rfl rfl)
theorem dX1_missed_34 : decode cX1_missed 34 = .ok (.arraylength, 1) := dk_190 (dk_at dksX1_missed_1 10 rfl rfl)
theorem dX1_missed_35 : decode cX1_missed 35 = .ok (.if_icmp .ge 28, 3) := dk_162 0 28 (dk_at dksX1_missed_1 11 rfl rfl)
theorem dX1_missed_38 : decode cX1_missed 38 = .ok (.iload_n 2, 1) := dk_28 (dk_at dksX1_missed_1 14 rfl rfl)
theorem dX1_missed_39 : decode cX1_missed 39 = .ok (.aload_n 3, 1) := dk_45 (dk_at dksX1_missed_1 15 rfl rfl)
theorem dX1_missed_40 : decode cX1_missed 40 = .ok (.iload 4, 2) := dk_21 4 (dk_at dksX1_missed_1 16 rfl rfl)
theorem dX1_missed_42 : decode cX1_missed 42 = .ok (.iaload, 1) := dk_46 (dk_at dksX1_missed_1 18 rfl rfl)
theorem dX1_missed_43 : decode cX1_missed 43 = .ok (.iconst (-1), 1) := dk_2 (dk_at dksX1_missed_1 19 rfl rfl)
theorem dX1_missed_44 : decode cX1_missed 44 = .ok (.if_icmp .ne 10, 3) := dk_160 0 10 (dk_at dksX1_missed_1 20 rfl rfl)
theorem dX1_missed_47 : decode cX1_missed 47 = .ok (.iconst 1, 1) := dk_4 (dk_at dksX1_missed_1 23 rfl rfl)
theorem dX1_missed_48 : decode cX1_missed 48 = .ok (.iload 4, 2) := dk_21 4 (dk_at dksX1_missed_2 0 rfl rfl)
theorem dX1_missed_50 : decode cX1_missed 50 = .ok (.ishl, 1) := dk_120 (dk_at dksX1_missed_2 2 rfl rfl)
theorem dX1_missed_51 : decode cX1_missed 51 = .ok (.goto 4, 3) := dk_167 0 4 (dk_at dksX1_missed_2 3 rfl rfl)
theorem dX1_missed_54 : decode cX1_missed 54 = .ok (.iconst 0, 1) := dk_3 (dk_at dksX1_missed_2 6 rfl rfl)
theorem dX1_missed_55 : decode cX1_missed 55 = .ok (.ior, 1) := dk_128 (dk_at dksX1_missed_2 7 rfl rfl)
theorem dX1_missed_56 : decode cX1_missed 56 = .ok (.istore_n 2, 1) := dk_61 (dk_at dksX1_missed_2 8 rfl rfl)
theorem dX1_missed_57 : decode cX1_missed 57 = .ok (.iinc 4 1, 3) := dk_132 4 1 (dk_at dksX1_missed_2 9 rfl rfl)
theorem dX1_missed_60 : decode cX1_missed 60 = .ok (.goto (-29), 3) := dk_167 255 227 (dk_at dksX1_missed_2 12 rfl rfl)
theorem dX1_missed_63 : decode cX1_missed 63 = .ok (.aload_n 0, 1) := dk_42 (dk_at dksX1_missed_2 15 rfl rfl)
theorem dX1_missed_64 : decode cX1_missed 64 = .ok (.iload_n 2, 1) := dk_28 (dk_at dksX1_missed_2 16 rfl rfl)
theorem dX1_missed_65 : decode cX1_missed 65 = .ok (.invokevirtual 83, 3) := dk_182 0 83 (dk_at dksX1_missed_2 17 rfl rfl)
theorem dX1_missed_68 : decode cX1_missed 68 = .ok (.ireturn, 1) := dk_172 (dk_at dksX1_missed_2 20 rfl rfl)
theorem md_X1_missed : xMd yX1_missed cX1_missed 5 (Option.some Jvm.ClassFile.FieldType.int) 1 := ⟨q1975, q123, by decide, by decide +kernel, by decide +kernel, by decide +kernel⟩
def f_X1_missed_55 (a0 : Nat) (k31 : Int32 × Option Nat × Int32 × PH → Option (xO × PH)) (v3 : Option Nat) (v4 : Int32) (w0 : Int32) (w1 : Int32) (p0 : PH) : Option (xO × PH) :=
  (bnd (w0 ||| w1) fun x14 =>
  (bnd (v4 + 1) fun x15 =>
  (k31 (x14, v3, x15, p0))))
def f_X1_missed_31F (a0 : Nat)  (k31 : Int32 × Option Nat × Int32 × PH → Option (xO × PH)) (p : Int32 × Option Nat × Int32 × PH) : Option (xO × PH) := match p with
  | (v2, v3, v4, p0) => (xnul v3 none fun b9 =>
  (xlen p0 b9 fun x10 =>
  (if x10 ≤ v4 then
  (xcI (f_X1_fine p0 a0 v2) fun x12 p11 =>
  (rI x12 p11)) else
  (xaI p0 b9 0 v4 fun x13 =>
  (if x13 = (-1) then
  (f_X1_missed_55 a0 k31 ((some b9)) v4 v2 (1 <<< (v4 &&& 31)) p0) else
  (f_X1_missed_55 a0 k31 ((some b9)) v4 v2 0 p0))))))
def f_X1_missed (p0 : PH) (a0 : Nat) (a1 : Int32) : Option (xO × PH) :=
  (xcl1 p0 a0 0 (xcI (f_X1_isRunner p0 a0 a1) fun x2 p1 =>
  (if x2 = 0 then
  (xcI (f_X1_refused p1 a0 1) fun x17 p16 =>
  (rI x17 p16)) else
  (xgR p1 a0 0 5 fun x3 =>
  (xnul x3 none fun b4 =>
  (xcR (f_X4_match p1 b4 a1) fun x6 p5 =>
  (xnul x6 none fun b7 =>
  (xgR p5 b7 8 2 fun x8 =>
  (lp (f_X1_missed_31F a0) FU (0, x8, 0, p5))))))))))
theorem rc_X1_missed {p0 : PH} {a0 : Nat} {a1 : Int32} : ∀ z, f_X1_missed p0 a0 a1 = some z → xco p0 a0 = some 0 := fun z h => xcl1_some h
theorem f_X1_missed_55_ok {G : xG} (hO : xOK G) (a0 : Nat) {k31 : Int32 × Option Nat × Int32 × PH → Option (xO × PH)} (hk31 : ∀ (v2 : Int32) (v3 : Option Nat) (v4 : Int32) (p0 : PH), X G "ForestLegs" "missed" cX1_missed 5 (Option.some Jvm.ClassFile.FieldType.int) 8 31 [(0, .ref a0), (2, .int v2), (3, va_rf v3), (4, .int v4)] [] p0 (k31 (v2, v3, v4, p0))) (v3 : Option Nat) (v4 : Int32) (w0 : Int32) (w1 : Int32) (p0 : PH) : X G "ForestLegs" "missed" cX1_missed 5 (Option.some Jvm.ClassFile.FieldType.int) 8 55 [(0, .ref a0), (3, va_rf v3), (4, .int v4)] [.int w1, .int w0] p0 (f_X1_missed_55 a0 k31 v3 v4 w0 w1 p0) := by
  unfold f_X1_missed_55
  refine x_ior dX1_missed_55 (n := 56) rfl ?_
  refine x_nm (fun x14 => ?_)
  refine x_istore_n [(2, .int x14), (0, .ref a0), (3, va_rf v3), (4, .int v4)] dX1_missed_56 rfl (by decide) rfl (n := 57) rfl ?_
  refine x_iincB 3 (fun x15 => [(4, .int x15), (2, .int x14), (0, .ref a0), (3, va_rf v3)]) dX1_missed_57 rfl rfl (by decide) (fun _ => (by simp only [xst, List.filter_cons, List.filter_nil, xcat] <;> rfl)) (n := 60) rfl (fun x15 => ?_)
  refine x_goto dX1_missed_60 (n := 31) (by decide) ?_
  refine x_sub [2, 1, 3, 0] [(0, .ref a0), (2, .int x14), (3, va_rf v3), (4, .int x15)] rfl ?_
  exact hk31 x14 v3 x15 p0
theorem f_X1_missed_31F_ok {G : xG} (hO : xOK G) (a0 : Nat)  {k31 : Int32 × Option Nat × Int32 × PH → Option (xO × PH)} (hk31 : ∀ (v2 : Int32) (v3 : Option Nat) (v4 : Int32) (p0 : PH), X G "ForestLegs" "missed" cX1_missed 5 (Option.some Jvm.ClassFile.FieldType.int) 8 31 [(0, .ref a0), (2, .int v2), (3, va_rf v3), (4, .int v4)] [] p0 (k31 (v2, v3, v4, p0))) (v2 : Int32) (v3 : Option Nat) (v4 : Int32) (p0 : PH) : X G "ForestLegs" "missed" cX1_missed 5 (Option.some Jvm.ClassFile.FieldType.int) 8 31 [(0, .ref a0), (2, .int v2), (3, va_rf v3), (4, .int v4)] [] p0 (f_X1_missed_31F a0 k31 (v2, v3, v4, p0)) := by
  unfold f_X1_missed_31F
  refine x_iload 3 dX1_missed_31 rfl (n := 33) rfl ?_
  refine x_aload_n 2 dX1_missed_33 rfl rfl (n := 34) rfl ?_
  refine x_sm (fun b9 e => ?_)
  subst e
  refine x_alen dX1_missed_34 (n := 35) rfl (fun x10 => ?_)
  refine x_icmp_ge dX1_missed_35 (t := 63) (by decide) (n := 38) rfl (fun _ => ?_) (fun _ => ?_)
  · refine x_aload_nr 0 dX1_missed_63 rfl rfl (n := 64) rfl ?_
    refine x_iload_n 1 dX1_missed_64 rfl rfl (n := 65) rfl ?_
    refine x_callV_I [.int v2] [] (f_X1_fine_ok hO p0 a0 v2) rc_X1_fine md_X1_fine rfl q1480 q1482 qs26 dX1_missed_65 rfl rfl (by decide) (Nat.le_of_ble_eq_true rfl) (n := 68) rfl (fun x12 p11 => ?_)
    exact x_ireturn dX1_missed_68
  · refine x_iload_n 1 dX1_missed_38 rfl rfl (n := 39) rfl ?_
    refine x_aload_nr 2 dX1_missed_39 rfl rfl (n := 40) rfl ?_
    refine x_iload 3 dX1_missed_40 rfl (n := 42) rfl ?_
    refine x_iald (t := 0) rfl dX1_missed_42 (n := 43) rfl (fun x13 => ?_)
    refine x_iconst (-1) dX1_missed_43 rfl (n := 44) rfl ?_
    refine x_icmp_ne dX1_missed_44 (t := 54) (by decide) (n := 47) rfl (fun _ => ?_) (fun _ => ?_)
    · refine x_iconst 0 dX1_missed_54 rfl (n := 55) rfl ?_
      refine x_sub [0, 2, 3] [(0, .ref a0), (3, .ref b9), (4, .int v4)] rfl ?_
      exact f_X1_missed_55_ok hO a0 hk31 ((some b9)) v4 v2 0 p0
    · refine x_iconst 1 dX1_missed_47 rfl (n := 48) rfl ?_
      refine x_iload 3 dX1_missed_48 rfl (n := 50) rfl ?_
      refine x_ishl dX1_missed_50 (n := 51) rfl ?_
      refine x_goto dX1_missed_51 (n := 55) (by decide) ?_
      refine x_sub [0, 2, 3] [(0, .ref a0), (3, .ref b9), (4, .int v4)] rfl ?_
      exact f_X1_missed_55_ok hO a0 hk31 ((some b9)) v4 v2 (1 <<< (v4 &&& 31)) p0
theorem f_X1_missed_31_lp {G : xG} (hO : xOK G) (a0 : Nat)  (n : Nat) (v2 : Int32) (v3 : Option Nat) (v4 : Int32) (p0 : PH) : X G "ForestLegs" "missed" cX1_missed 5 (Option.some Jvm.ClassFile.FieldType.int) 8 31 [(0, .ref a0), (2, .int v2), (3, va_rf v3), (4, .int v4)] [] p0 (lp (f_X1_missed_31F a0) n (v2, v3, v4, p0)) :=
  lp_ok (W := fun p K => X G "ForestLegs" "missed" cX1_missed 5 (Option.some Jvm.ClassFile.FieldType.int) 8 31 [(0, .ref a0), (2, .int p.1), (3, va_rf p.2.1), (4, .int p.2.2.1)] [] p.2.2.2 K) (fun _ => x_no) (fun k hk => fun (v2, v3, v4, p0) => f_X1_missed_31F_ok hO a0 (fun v2 v3 v4 p0 => hk (v2, v3, v4, p0)) v2 v3 v4 p0) n (v2, v3, v4, p0)
theorem f_X1_missed_ok {G : xG} (hO : xOK G) (p0 : PH) (a0 : Nat) (a1 : Int32) : CT G 8 yX1_missed cX1_missed 5 (Option.some Jvm.ClassFile.FieldType.int) [.ref a0, .int a1] p0 (f_X1_missed p0 a0 a1) := by
  refine CT_of hO (by decide +kernel) (by decide +kernel) (Nat.le_of_ble_eq_true rfl) ?_
  show X G "ForestLegs" "missed" cX1_missed 5 (Option.some Jvm.ClassFile.FieldType.int) 8 0 [(0, .ref a0), (1, .int a1)] [] p0 (f_X1_missed p0 a0 a1)
  refine x_cl1 (fun e0 => ?_)
  refine x_aload_nr 0 dX1_missed_0 rfl rfl (n := 1) rfl ?_
  refine x_iload_n 1 dX1_missed_1 rfl rfl (n := 2) rfl ?_
  refine x_callV_I [.int a1] [] (f_X1_isRunner_ok hO p0 a0 a1) rc_X1_isRunner md_X1_isRunner rfl q1780 q1782 qs41 dX1_missed_2 rfl rfl (by decide) (Nat.le_of_ble_eq_true rfl) (n := 5) rfl (fun x2 p1 => ?_)
  refine x_if_ne dX1_missed_5 (t := 14) (by decide) (n := 8) rfl (fun _ => ?_) (fun _ => ?_)
  · refine x_iconst 0 dX1_missed_14 rfl (n := 15) rfl ?_
    refine x_istore_n [(2, .int 0), (0, .ref a0), (1, .int a1)] dX1_missed_15 rfl (by decide) rfl (n := 16) rfl ?_
    refine x_aload_nr 1 dX1_missed_16 rfl rfl (n := 17) rfl ?_
    refine x_getR fl_X1_56 dX1_missed_17 (n := 20) rfl (fun x3 => ?_)
    refine x_iload_n 2 dX1_missed_20 rfl rfl (n := 21) rfl ?_
    refine x_sm (fun b4 e => ?_)
    subst e
    refine x_callV_R [.int a1] [] (f_X4_match_ok hO p1 b4 a1) rc_X4_match md_X4_match rfl q1784 q1504 q1505 dX1_missed_21 rfl rfl (by decide) (Nat.le_of_ble_eq_true rfl) (n := 24) rfl (fun x6 p5 => ?_)
    refine x_sm (fun b7 e => ?_)
    subst e
    refine x_getR fl_X1_193 dX1_missed_24 (n := 27) rfl (fun x8 => ?_)
    refine x_astore_n [(3, va_rf x8), (2, .int 0), (0, .ref a0), (1, .int a1)] dX1_missed_27 rfl (by decide) rfl (n := 28) rfl ?_
    refine x_iconst 0 dX1_missed_28 rfl (n := 29) rfl ?_
    refine x_istore [(4, .int 0), (3, va_rf x8), (2, .int 0), (0, .ref a0), (1, .int a1)] dX1_missed_29 (by decide) (by simp only [xst, List.filter_cons, List.filter_nil, xcat] <;> rfl) (n := 31) rfl ?_
    refine x_sub [3, 2, 1, 0] [(0, .ref a0), (2, .int 0), (3, va_rf x8), (4, .int 0)] rfl ?_
    exact f_X1_missed_31_lp hO a0 FU 0 x8 0 p5
  · refine x_aload_nr 0 dX1_missed_8 rfl rfl (n := 9) rfl ?_
    refine x_iconst 1 dX1_missed_9 rfl (n := 10) rfl ?_
    refine x_callV_I [.int 1] [] (f_X1_refused_ok hO p1 a0 1) rc_X1_refused md_X1_refused rfl q250 q252 qs0 dX1_missed_10 rfl rfl (by decide) (Nat.le_of_ble_eq_true rfl) (n := 13) rfl (fun x17 p16 => ?_)
    exact x_ireturn dX1_missed_13
abbrev cX1_isPoint : ByteArray := prog_1_method_12_code
def yX1_isPoint : MethodName := ⟨RX1, "isPoint", "(II)Z"⟩
def dkwX1_isPoint_1 : List UInt8 := [192, 0, 97, 182, 0, 99, 184, 0, 36, 153, 0, 7, 4, 167, 0, 4, 3, 172]
abbrev dktX1_isPoint_1 : List UInt8 := dkwX1_isPoint_1 ++ []
def dkwX1_isPoint_0 : List UInt8 := [42, 27, 182, 0, 89, 153, 0, 34, 28, 3, 42, 180, 0, 56, 180, 0, 86, 27, 185, 0, 93, 2, 0]
abbrev dktX1_isPoint_0 : List UInt8 := dkwX1_isPoint_0 ++ dktX1_isPoint_1
theorem dksX1_isPoint_0 : cX1_isPoint.data.toList.drop 0 = dktX1_isPoint_0 := by decide +kernel
theorem dksX1_isPoint_1 : cX1_isPoint.data.toList.drop 23 = dktX1_isPoint_1 := dk_seg dksX1_isPoint_0 23 rfl rfl
theorem dX1_isPoint_0 : decode cX1_isPoint 0 = .ok (.aload_n 0, 1) := dk_42 (dk_at dksX1_isPoint_0 0 rfl rfl)
theorem dX1_isPoint_1 : decode cX1_isPoint 1 = .ok (.iload_n 1, 1) := dk_27 (dk_at dksX1_isPoint_0 1 rfl rfl)
theorem dX1_isPoint_2 : decode cX1_isPoint 2 = .ok (.invokevirtual 89, 3) := dk_182 0 89 (dk_at dksX1_isPoint_0 2 rfl rfl)
theorem dX1_isPoint_5 : decode cX1_isPoint 5 = .ok (.ifCond .eq 34, 3) := dk_153 0 34 (dk_at dksX1_isPoint_0 5 rfl rfl)
theorem dX1_isPoint_8 : decode cX1_isPoint 8 = .ok (.iload_n 2, 1) := dk_28 (dk_at dksX1_isPoint_0 8 rfl rfl)
theorem dX1_isPoint_9 : decode cX1_isPoint 9 = .ok (.iconst 0, 1) := dk_3 (dk_at dksX1_isPoint_0 9 rfl rfl)
theorem dX1_isPoint_10 : decode cX1_isPoint 10 = .ok (.aload_n 0, 1) := dk_42 (dk_at dksX1_isPoint_0 10 rfl rfl)
theorem dX1_isPoint_11 : decode cX1_isPoint 11 = .ok (.getfield 56, 3) := dk_180 0 56 (dk_at dksX1_isPoint_0 11 rfl rfl)
theorem dX1_isPoint_14 : decode cX1_isPoint 14 = .ok (.getfield 86, 3) := dk_180 0 86 (dk_at dksX1_isPoint_0 14 rfl rfl)
theorem dX1_isPoint_17 : decode cX1_isPoint 17 = .ok (.iload_n 1, 1) := dk_27 (dk_at dksX1_isPoint_0 17 rfl rfl)
theorem dX1_isPoint_18 : decode cX1_isPoint 18 = .ok (.invokeinterface 93 2, 5) := by decide +kernel
theorem dX1_isPoint_23 : decode cX1_isPoint 23 = .ok (.checkcast 97, 3) := dk_192 0 97 (dk_at dksX1_isPoint_1 0 rfl rfl)
theorem dX1_isPoint_26 : decode cX1_isPoint 26 = .ok (.invokevirtual 99, 3) := dk_182 0 99 (dk_at dksX1_isPoint_1 3 rfl rfl)
theorem dX1_isPoint_29 : decode cX1_isPoint 29 = .ok (.invokestatic 36, 3) := dk_184 0 36 (dk_at dksX1_isPoint_1 6 rfl rfl)
theorem dX1_isPoint_32 : decode cX1_isPoint 32 = .ok (.ifCond .eq 7, 3) := dk_153 0 7 (dk_at dksX1_isPoint_1 9 rfl rfl)
theorem dX1_isPoint_35 : decode cX1_isPoint 35 = .ok (.iconst 1, 1) := dk_4 (dk_at dksX1_isPoint_1 12 rfl rfl)
theorem dX1_isPoint_36 : decode cX1_isPoint 36 = .ok (.goto 4, 3) := dk_167 0 4 (dk_at dksX1_isPoint_1 13 rfl rfl)
theorem dX1_isPoint_39 : decode cX1_isPoint 39 = .ok (.iconst 0, 1) := dk_3 (dk_at dksX1_isPoint_1 16 rfl rfl)
theorem dX1_isPoint_40 : decode cX1_isPoint 40 = .ok (.ireturn, 1) := dk_172 (dk_at dksX1_isPoint_1 17 rfl rfl)
theorem md_X1_isPoint : xMd yX1_isPoint cX1_isPoint 3 (Option.some Jvm.ClassFile.FieldType.boolean) 2 := ⟨q1987, q123, by decide, by decide +kernel, by decide +kernel, by decide +kernel⟩
def f_X1_isPoint (p0 : PH) (a0 : Nat) (a1 : Int32) (a2 : Int32) : Option (xO × PH) :=
  (xcl1 p0 a0 0 (xcI (f_X1_isCourse p0 a0 a1) fun x2 p1 =>
  (if x2 = 0 then
  (if vp_nar .boolean 0 = 0 then rI 0 p1 else none) else
  (xgR p1 a0 0 5 fun x3 =>
  (xnul x3 none fun b4 =>
  (xgR p1 b4 3 0 fun x5 =>
  (xnul x5 none fun b6 =>
  (xcR (f_J3_get p1 b6 a1) fun x8 p7 =>
  (xcst p7 (x8) [5]
  (xnul x8 none fun b9 =>
  (xcI (f_X6_size p7 b9 ) fun x11 p10 =>
  (xcI (f_X1_isIn p10 a2 0 x11) fun x13 p12 =>
  (if x13 = 0 then
  (if vp_nar .boolean 0 = 0 then rI 0 p12 else none) else
  (if vp_nar .boolean 1 = 1 then rI 1 p12 else none))))))))))))))
theorem rc_X1_isPoint {p0 : PH} {a0 : Nat} {a1 : Int32} {a2 : Int32} : ∀ z, f_X1_isPoint p0 a0 a1 a2 = some z → xco p0 a0 = some 0 := fun z h => xcl1_some h
theorem f_X1_isPoint_ok {G : xG} (hO : xOK G) (p0 : PH) (a0 : Nat) (a1 : Int32) (a2 : Int32) : CT G 3 yX1_isPoint cX1_isPoint 3 (Option.some Jvm.ClassFile.FieldType.boolean) [.ref a0, .int a1, .int a2] p0 (f_X1_isPoint p0 a0 a1 a2) := by
  refine CT_of hO (by decide +kernel) (by decide +kernel) (Nat.le_of_ble_eq_true rfl) ?_
  show X G "ForestLegs" "isPoint" cX1_isPoint 3 (Option.some Jvm.ClassFile.FieldType.boolean) 3 0 [(0, .ref a0), (1, .int a1), (2, .int a2)] [] p0 (f_X1_isPoint p0 a0 a1 a2)
  refine x_cl1 (fun e0 => ?_)
  refine x_aload_nr 0 dX1_isPoint_0 rfl rfl (n := 1) rfl ?_
  refine x_iload_n 1 dX1_isPoint_1 rfl rfl (n := 2) rfl ?_
  refine x_callV_I [.int a1] [] (f_X1_isCourse_ok hO p0 a0 a1) rc_X1_isCourse md_X1_isCourse rfl q1566 q1568 qs29 dX1_isPoint_2 rfl rfl (by decide) (Nat.le_of_ble_eq_true rfl) (n := 5) rfl (fun x2 p1 => ?_)
  refine x_if_eq dX1_isPoint_5 (t := 39) (by decide) (n := 8) rfl (fun _ => ?_) (fun _ => ?_)
  · refine x_iconst 0 dX1_isPoint_39 rfl (n := 40) rfl ?_
    exact x_nreturn rfl dX1_isPoint_40
  · refine x_iload_n 2 dX1_isPoint_8 rfl rfl (n := 9) rfl ?_
    refine x_iconst 0 dX1_isPoint_9 rfl (n := 10) rfl ?_
    refine x_aload_nr 0 dX1_isPoint_10 rfl rfl (n := 11) rfl ?_
    refine x_getR fl_X1_56 dX1_isPoint_11 (n := 14) rfl (fun x3 => ?_)
    refine x_sm (fun b4 e => ?_)
    subst e
    refine x_getR fl_X1_86 dX1_isPoint_14 (n := 17) rfl (fun x5 => ?_)
    refine x_iload_n 1 dX1_isPoint_17 rfl rfl (n := 18) rfl ?_
    refine x_sm (fun b6 e => ?_)
    subst e
    refine x_callF_R [.int a1] [.int 0, .int a2] (f_J3_get_ok hO p1 b6 a1) rc_J3_get md_J3_get rfl q1497 fc_java_util_ArrayList_java_util_List_get_1_ILjava dX1_isPoint_18 rfl rfl (by decide) (Nat.le_of_ble_eq_true rfl) (n := 23) rfl (fun x8 p7 => ?_)
    refine x_cast (x := x8) (cs := [5]) q1574 cst_ForestLegs_Course dX1_isPoint_23 (n := 26) rfl ?_
    refine x_sm (fun b9 e => ?_)
    subst e
    refine x_callV_I [] [.int 0, .int a2] (f_X6_size_ok hO p7 b9 ) rc_X6_size md_X6_size rfl q1575 q1199 q1200 dX1_isPoint_26 rfl rfl (by decide) (Nat.le_of_ble_eq_true rfl) (n := 29) rfl (fun x11 p10 => ?_)
    refine x_callS_I [.int a2, .int 0, .int x11] [] (f_X1_isIn_ok hO p10 a2 0 x11) md_X1_isIn q247 q248 dX1_isPoint_29 rfl rfl (by decide) (Nat.le_of_ble_eq_true rfl) (n := 32) rfl (fun x13 p12 => ?_)
    refine x_if_eq dX1_isPoint_32 (t := 39) (by decide) (n := 35) rfl (fun _ => ?_) (fun _ => ?_)
    · refine x_iconst 0 dX1_isPoint_39 rfl (n := 40) rfl ?_
      exact x_nreturn rfl dX1_isPoint_40
    · refine x_iconst 1 dX1_isPoint_35 rfl (n := 36) rfl ?_
      refine x_goto dX1_isPoint_36 (n := 40) (by decide) ?_
      exact x_nreturn rfl dX1_isPoint_40
abbrev cX1_isRunnersPoint : ByteArray := prog_1_method_13_code
def yX1_isRunnersPoint : MethodName := ⟨RX1, "isRunnersPoint", "(II)Z"⟩
def dkwX1_isRunnersPoint_1 : List UInt8 := [192, 0, 103, 180, 0, 105, 28, 182, 0, 108, 153, 0, 7, 4, 167, 0, 4, 3, 172]
abbrev dktX1_isRunnersPoint_1 : List UInt8 := dkwX1_isRunnersPoint_1 ++ []
def dkwX1_isRunnersPoint_0 : List UInt8 := [42, 27, 182, 0, 100, 153, 0, 34, 42, 42, 180, 0, 56, 180, 0, 71, 27, 185, 0, 93, 2, 0]
abbrev dktX1_isRunnersPoint_0 : List UInt8 := dkwX1_isRunnersPoint_0 ++ dktX1_isRunnersPoint_1
theorem dksX1_isRunnersPoint_0 : cX1_isRunnersPoint.data.toList.drop 0 = dktX1_isRunnersPoint_0 := by decide +kernel
theorem dksX1_isRunnersPoint_1 : cX1_isRunnersPoint.data.toList.drop 22 = dktX1_isRunnersPoint_1 := dk_seg dksX1_isRunnersPoint_0 22 rfl rfl
theorem dX1_isRunnersPoint_0 : decode cX1_isRunnersPoint 0 = .ok (.aload_n 0, 1) := dk_42 (dk_at dksX1_isRunnersPoint_0 0 rfl rfl)
theorem dX1_isRunnersPoint_1 : decode cX1_isRunnersPoint 1 = .ok (.iload_n 1, 1) := dk_27 (dk_at dksX1_isRunnersPoint_0 1 rfl rfl)
theorem dX1_isRunnersPoint_2 : decode cX1_isRunnersPoint 2 = .ok (.invokevirtual 100, 3) := dk_182 0 100 (dk_at dksX1_isRunnersPoint_0 2 rfl rfl)
theorem dX1_isRunnersPoint_5 : decode cX1_isRunnersPoint 5 = .ok (.ifCond .eq 34, 3) := dk_153 0 34 (dk_at dksX1_isRunnersPoint_0 5 rfl rfl)
theorem dX1_isRunnersPoint_8 : decode cX1_isRunnersPoint 8 = .ok (.aload_n 0, 1) := dk_42 (dk_at dksX1_isRunnersPoint_0 8 rfl rfl)
theorem dX1_isRunnersPoint_9 : decode cX1_isRunnersPoint 9 = .ok (.aload_n 0, 1) := dk_42 (dk_at dksX1_isRunnersPoint_0 9 rfl rfl)
theorem dX1_isRunnersPoint_10 : decode cX1_isRunnersPoint 10 = .ok (.getfield 56, 3) := dk_180 0 56 (dk_at dksX1_isRunnersPoint_0 10 rfl rfl)
theorem dX1_isRunnersPoint_13 : decode cX1_isRunnersPoint 13 = .ok (.getfield 71, 3) := dk_180 0 71 (dk_at dksX1_isRunnersPoint_0 13 rfl rfl)
theorem dX1_isRunnersPoint_16 : decode cX1_isRunnersPoint 16 = .ok (.iload_n 1, 1) := dk_27 (dk_at dksX1_isRunnersPoint_0 16 rfl rfl)
theorem dX1_isRunnersPoint_17 : decode cX1_isRunnersPoint 17 = .ok (.invokeinterface 93 2, 5) := by decide +kernel
theorem dX1_isRunnersPoint_22 : decode cX1_isRunnersPoint 22 = .ok (.checkcast 103, 3) := dk_192 0 103 (dk_at dksX1_isRunnersPoint_1 0 rfl rfl)
theorem dX1_isRunnersPoint_25 : decode cX1_isRunnersPoint 25 = .ok (.getfield 105, 3) := dk_180 0 105 (dk_at dksX1_isRunnersPoint_1 3 rfl rfl)
theorem dX1_isRunnersPoint_28 : decode cX1_isRunnersPoint 28 = .ok (.iload_n 2, 1) := dk_28 (dk_at dksX1_isRunnersPoint_1 6 rfl rfl)
theorem dX1_isRunnersPoint_29 : decode cX1_isRunnersPoint 29 = .ok (.invokevirtual 108, 3) := dk_182 0 108 (dk_at dksX1_isRunnersPoint_1 7 rfl rfl)
theorem dX1_isRunnersPoint_32 : decode cX1_isRunnersPoint 32 = .ok (.ifCond .eq 7, 3) := dk_153 0 7 (dk_at dksX1_isRunnersPoint_1 10 rfl rfl)
theorem dX1_isRunnersPoint_35 : decode cX1_isRunnersPoint 35 = .ok (.iconst 1, 1) := dk_4 (dk_at dksX1_isRunnersPoint_1 13 rfl rfl)
theorem dX1_isRunnersPoint_36 : decode cX1_isRunnersPoint 36 = .ok (.goto 4, 3) := dk_167 0 4 (dk_at dksX1_isRunnersPoint_1 14 rfl rfl)
theorem dX1_isRunnersPoint_39 : decode cX1_isRunnersPoint 39 = .ok (.iconst 0, 1) := dk_3 (dk_at dksX1_isRunnersPoint_1 17 rfl rfl)
theorem dX1_isRunnersPoint_40 : decode cX1_isRunnersPoint 40 = .ok (.ireturn, 1) := dk_172 (dk_at dksX1_isRunnersPoint_1 18 rfl rfl)
theorem md_X1_isRunnersPoint : xMd yX1_isRunnersPoint cX1_isRunnersPoint 3 (Option.some Jvm.ClassFile.FieldType.boolean) 2 := ⟨q1983, q123, by decide, by decide +kernel, by decide +kernel, by decide +kernel⟩
def f_X1_isRunnersPoint (p0 : PH) (a0 : Nat) (a1 : Int32) (a2 : Int32) : Option (xO × PH) :=
  (xcl1 p0 a0 0 (xcI (f_X1_isRunner p0 a0 a1) fun x2 p1 =>
  (if x2 = 0 then
  (if vp_nar .boolean 0 = 0 then rI 0 p1 else none) else
  (xgR p1 a0 0 5 fun x3 =>
  (xnul x3 none fun b4 =>
  (xgR p1 b4 3 1 fun x5 =>
  (xnul x5 none fun b6 =>
  (xcR (f_J3_get p1 b6 a1) fun x8 p7 =>
  (xcst p7 (x8) [6]
  (xnul x8 none fun b9 =>
  (xgI p7 b9 6 1 fun x10 =>
  (xcI (f_X1_isPoint p7 a0 x10 a2) fun x12 p11 =>
  (if x12 = 0 then
  (if vp_nar .boolean 0 = 0 then rI 0 p11 else none) else
  (if vp_nar .boolean 1 = 1 then rI 1 p11 else none))))))))))))))
theorem rc_X1_isRunnersPoint {p0 : PH} {a0 : Nat} {a1 : Int32} {a2 : Int32} : ∀ z, f_X1_isRunnersPoint p0 a0 a1 a2 = some z → xco p0 a0 = some 0 := fun z h => xcl1_some h
theorem f_X1_isRunnersPoint_ok {G : xG} (hO : xOK G) (p0 : PH) (a0 : Nat) (a1 : Int32) (a2 : Int32) : CT G 4 yX1_isRunnersPoint cX1_isRunnersPoint 3 (Option.some Jvm.ClassFile.FieldType.boolean) [.ref a0, .int a1, .int a2] p0 (f_X1_isRunnersPoint p0 a0 a1 a2) := by
  refine CT_of hO (by decide +kernel) (by decide +kernel) (Nat.le_of_ble_eq_true rfl) ?_
  show X G "ForestLegs" "isRunnersPoint" cX1_isRunnersPoint 3 (Option.some Jvm.ClassFile.FieldType.boolean) 4 0 [(0, .ref a0), (1, .int a1), (2, .int a2)] [] p0 (f_X1_isRunnersPoint p0 a0 a1 a2)
  refine x_cl1 (fun e0 => ?_)
  refine x_aload_nr 0 dX1_isRunnersPoint_0 rfl rfl (n := 1) rfl ?_
  refine x_iload_n 1 dX1_isRunnersPoint_1 rfl rfl (n := 2) rfl ?_
  refine x_callV_I [.int a1] [] (f_X1_isRunner_ok hO p0 a0 a1) rc_X1_isRunner md_X1_isRunner rfl q1780 q1782 qs41 dX1_isRunnersPoint_2 rfl rfl (by decide) (Nat.le_of_ble_eq_true rfl) (n := 5) rfl (fun x2 p1 => ?_)
  refine x_if_eq dX1_isRunnersPoint_5 (t := 39) (by decide) (n := 8) rfl (fun _ => ?_) (fun _ => ?_)
  · refine x_iconst 0 dX1_isRunnersPoint_39 rfl (n := 40) rfl ?_
    exact x_nreturn rfl dX1_isRunnersPoint_40
  · refine x_aload_nr 0 dX1_isRunnersPoint_8 rfl rfl (n := 9) rfl ?_
    refine x_aload_nr 0 dX1_isRunnersPoint_9 rfl rfl (n := 10) rfl ?_
    refine x_getR fl_X1_56 dX1_isRunnersPoint_10 (n := 13) rfl (fun x3 => ?_)
    refine x_sm (fun b4 e => ?_)
    subst e
    refine x_getR fl_X1_71 dX1_isRunnersPoint_13 (n := 16) rfl (fun x5 => ?_)
    refine x_iload_n 1 dX1_isRunnersPoint_16 rfl rfl (n := 17) rfl ?_
    refine x_sm (fun b6 e => ?_)
    subst e
    refine x_callF_R [.int a1] [.ref a0] (f_J3_get_ok hO p1 b6 a1) rc_J3_get md_J3_get rfl q1497 fc_java_util_ArrayList_java_util_List_get_1_ILjava dX1_isRunnersPoint_17 rfl rfl (by decide) (Nat.le_of_ble_eq_true rfl) (n := 22) rfl (fun x8 p7 => ?_)
    refine x_cast (x := x8) (cs := [6]) q1498 cst_ForestLegs_Runner dX1_isRunnersPoint_22 (n := 25) rfl ?_
    refine x_sm (fun b9 e => ?_)
    subst e
    refine x_getI fl_X1_105 dX1_isRunnersPoint_25 (n := 28) rfl (fun x10 => ?_)
    refine x_iload_n 2 dX1_isRunnersPoint_28 rfl rfl (n := 29) rfl ?_
    refine x_callV_I [.int x10, .int a2] [] (f_X1_isPoint_ok hO p7 a0 x10 a2) rc_X1_isPoint md_X1_isPoint rfl q1984 q1986 qs46 dX1_isRunnersPoint_29 rfl rfl (by decide) (Nat.le_of_ble_eq_true rfl) (n := 32) rfl (fun x12 p11 => ?_)
    refine x_if_eq dX1_isRunnersPoint_32 (t := 39) (by decide) (n := 35) rfl (fun _ => ?_) (fun _ => ?_)
    · refine x_iconst 0 dX1_isRunnersPoint_39 rfl (n := 40) rfl ?_
      exact x_nreturn rfl dX1_isRunnersPoint_40
    · refine x_iconst 1 dX1_isRunnersPoint_35 rfl (n := 36) rfl ?_
      refine x_goto dX1_isRunnersPoint_36 (n := 40) (by decide) ?_
      exact x_nreturn rfl dX1_isRunnersPoint_40
abbrev cX4_leads : ByteArray := prog_7_method_8_code
def yX4_leads : MethodName := ⟨RX4, "leads", "(II)I"⟩
def dkwX4_leads_0 : List UInt8 := [42, 27, 28, 3, 182, 0, 104, 172]
abbrev dktX4_leads_0 : List UInt8 := dkwX4_leads_0 ++ []
theorem dksX4_leads_0 : cX4_leads.data.toList.drop 0 = dktX4_leads_0 := by decide +kernel
theorem dX4_leads_0 : decode cX4_leads 0 = .ok (.aload_n 0, 1) := dk_42 (dk_at dksX4_leads_0 0 rfl rfl)
theorem dX4_leads_1 : decode cX4_leads 1 = .ok (.iload_n 1, 1) := dk_27 (dk_at dksX4_leads_0 1 rfl rfl)
theorem dX4_leads_2 : decode cX4_leads 2 = .ok (.iload_n 2, 1) := dk_28 (dk_at dksX4_leads_0 2 rfl rfl)
theorem dX4_leads_3 : decode cX4_leads 3 = .ok (.iconst 0, 1) := dk_3 (dk_at dksX4_leads_0 3 rfl rfl)
theorem dX4_leads_4 : decode cX4_leads 4 = .ok (.invokevirtual 104, 3) := dk_182 0 104 (dk_at dksX4_leads_0 4 rfl rfl)
theorem dX4_leads_7 : decode cX4_leads 7 = .ok (.ireturn, 1) := dk_172 (dk_at dksX4_leads_0 7 rfl rfl)
theorem md_X4_leads : xMd yX4_leads cX4_leads 3 (Option.some Jvm.ClassFile.FieldType.int) 2 := ⟨q1992, q128, by decide, by decide +kernel, by decide +kernel, by decide +kernel⟩
def f_X4_leads (p0 : PH) (a0 : Nat) (a1 : Int32) (a2 : Int32) : Option (xO × PH) :=
  (xcl1 p0 a0 3 (xcI (f_X4_least p0 a0 a1 a2 0) fun x2 p1 =>
  (rI x2 p1)))
theorem rc_X4_leads {p0 : PH} {a0 : Nat} {a1 : Int32} {a2 : Int32} : ∀ z, f_X4_leads p0 a0 a1 a2 = some z → xco p0 a0 = some 3 := fun z h => xcl1_some h
theorem f_X4_leads_ok {G : xG} (hO : xOK G) (p0 : PH) (a0 : Nat) (a1 : Int32) (a2 : Int32) : CT G 10 yX4_leads cX4_leads 3 (Option.some Jvm.ClassFile.FieldType.int) [.ref a0, .int a1, .int a2] p0 (f_X4_leads p0 a0 a1 a2) := by
  refine CT_of hO (by decide +kernel) (by decide +kernel) (Nat.le_of_ble_eq_true rfl) ?_
  show X G "ForestLegs$Meet" "leads" cX4_leads 3 (Option.some Jvm.ClassFile.FieldType.int) 10 0 [(0, .ref a0), (1, .int a1), (2, .int a2)] [] p0 (f_X4_leads p0 a0 a1 a2)
  refine x_cl1 (fun e0 => ?_)
  refine x_aload_nr 0 dX4_leads_0 rfl rfl (n := 1) rfl ?_
  refine x_iload_n 1 dX4_leads_1 rfl rfl (n := 2) rfl ?_
  refine x_iload_n 2 dX4_leads_2 rfl rfl (n := 3) rfl ?_
  refine x_iconst 0 dX4_leads_3 rfl (n := 4) rfl ?_
  refine x_callV_I [.int a1, .int a2, .int 0] [] (f_X4_least_ok hO p0 a0 a1 a2 0) rc_X4_least md_X4_least rfl q1735 q1737 qs38 dX4_leads_4 rfl rfl (by decide) (Nat.le_of_ble_eq_true rfl) (n := 7) rfl (fun x2 p1 => ?_)
  exact x_ireturn dX4_leads_7
abbrev cX4_place : ByteArray := prog_7_method_11_code
def yX4_place : MethodName := ⟨RX4, "place", "(IIZ)I"⟩
def dkwX4_place_3 : List UInt8 := [29, 182, 0, 93, 162, 0, 7, 4, 167, 0, 4, 3, 96, 54, 4, 132, 5, 1, 167, 255, 173, 21, 4, 172]
abbrev dktX4_place_3 : List UInt8 := dkwX4_place_3 ++ []
def dkwX4_place_2 : List UInt8 := [42, 21, 5, 28, 29, 182, 0, 93, 16, 254, 159, 0, 25, 42, 21, 5, 28, 29, 182, 0, 93, 42, 27, 28]
abbrev dktX4_place_2 : List UInt8 := dkwX4_place_2 ++ dktX4_place_3
def dkwX4_place_1 : List UInt8 := [21, 5, 42, 180, 0, 20, 27, 185, 0, 68, 2, 0, 192, 0, 57, 180, 0, 72, 182, 0, 89, 153, 0, 38]
abbrev dktX4_place_1 : List UInt8 := dkwX4_place_1 ++ dktX4_place_2
def dkwX4_place_0 : List UInt8 := [4, 54, 4, 3, 54, 5, 21, 5, 42, 180, 0, 20, 185, 0, 86, 1, 0, 162, 0, 75, 21, 4, 42]
abbrev dktX4_place_0 : List UInt8 := dkwX4_place_0 ++ dktX4_place_1
theorem dksX4_place_0 : cX4_place.data.toList.drop 0 = dktX4_place_0 := by decide +kernel
theorem dksX4_place_1 : cX4_place.data.toList.drop 23 = dktX4_place_1 := dk_seg dksX4_place_0 23 rfl rfl
theorem dksX4_place_2 : cX4_place.data.toList.drop 47 = dktX4_place_2 := dk_seg dksX4_place_1 24 rfl rfl
theorem dksX4_place_3 : cX4_place.data.toList.drop 71 = dktX4_place_3 := dk_seg dksX4_place_2 24 rfl rfl
theorem dX4_place_0 : decode cX4_place 0 = .ok (.iconst 1, 1) := dk_4 (dk_at dksX4_place_0 0 rfl rfl)
theorem dX4_place_1 : decode cX4_place 1 = .ok (.istore 4, 2) := dk_54 4 (dk_at dksX4_place_0 1 rfl rfl)
theorem dX4_place_3 : decode cX4_place 3 = .ok (.iconst 0, 1) := dk_3 (dk_at dksX4_place_0 3 rfl rfl)
theorem dX4_place_4 : decode cX4_place 4 = .ok (.istore 5, 2) := dk_54 5 (dk_at dksX4_place_0 4 rfl rfl)
theorem dX4_place_6 : decode cX4_place 6 = .ok (.iload 5, 2) := dk_21 5 (dk_at dksX4_place_0 6 rfl rfl)
theorem dX4_place_8 : decode cX4_place 8 = .ok (.aload_n 0, 1) := dk_42 (dk_at dksX4_place_0 8 rfl rfl)
theorem dX4_place_9 : decode cX4_place 9 = .ok (.getfield 20, 3) := dk_180 0 20 (dk_at dksX4_place_0 9 rfl rfl)
theorem dX4_place_12 : decode cX4_place 12 = .ok (.invokeinterface 86 1, 5) := by decide +kernel
theorem dX4_place_17 : decode cX4_place 17 = .ok (.if_icmp .ge 75, 3) := dk_162 0 75 (dk_at dksX4_place_0 17 rfl rfl)
theorem dX4_place_20 : decode cX4_place 20 = .ok (.iload 4, 2) := dk_21 4 (dk_at dksX4_place_0 20 rfl rfl)
theorem dX4_place_22 : decode cX4_place 22 = .ok (.aload_n 0, 1) := dk_42 (dk_at dksX4_place_0 22 rfl rfl)
theorem dX4_place_23 : decode cX4_place 23 = .ok (.iload 5, 2) := dk_21 5 (dk_at dksX4_place_1 0 rfl rfl)
theorem dX4_place_25 : decode cX4_place 25 = .ok (.aload_n 0, 1) := dk_42 (dk_at dksX4_place_1 2 rfl rfl)
theorem dX4_place_26 : decode cX4_place 26 = .ok (.getfield 20, 3) := dk_180 0 20 (dk_at dksX4_place_1 3 rfl rfl)
theorem dX4_place_29 : decode cX4_place 29 = .ok (.iload_n 1, 1) := dk_27 (dk_at dksX4_place_1 6 rfl rfl)
theorem dX4_place_30 : decode cX4_place 30 = .ok (.invokeinterface 68 2, 5) := by decide +kernel
theorem dX4_place_35 : decode cX4_place 35 = .ok (.checkcast 57, 3) := dk_192 0 57 (dk_at dksX4_place_1 12 rfl rfl)
theorem dX4_place_38 : decode cX4_place 38 = .ok (.getfield 72, 3) := dk_180 0 72 (dk_at dksX4_place_1 15 rfl rfl)
theorem dX4_place_41 : decode cX4_place 41 = .ok (.invokevirtual 89, 3) := dk_182 0 89 (dk_at dksX4_place_1 18 rfl rfl)
theorem dX4_place_44 : decode cX4_place 44 = .ok (.ifCond .eq 38, 3) := dk_153 0 38 (dk_at dksX4_place_1 21 rfl rfl)
theorem dX4_place_47 : decode cX4_place 47 = .ok (.aload_n 0, 1) := dk_42 (dk_at dksX4_place_2 0 rfl rfl)
theorem dX4_place_48 : decode cX4_place 48 = .ok (.iload 5, 2) := dk_21 5 (dk_at dksX4_place_2 1 rfl rfl)
theorem dX4_place_50 : decode cX4_place 50 = .ok (.iload_n 2, 1) := dk_28 (dk_at dksX4_place_2 3 rfl rfl)
theorem dX4_place_51 : decode cX4_place 51 = .ok (.iload_n 3, 1) := dk_29 (dk_at dksX4_place_2 4 rfl rfl)
theorem dX4_place_52 : decode cX4_place 52 = .ok (.invokevirtual 93, 3) := dk_182 0 93 (dk_at dksX4_place_2 5 rfl rfl)
theorem dX4_place_55 : decode cX4_place 55 = .ok (.bipush (-2), 2) := dk_16 254 (dk_at dksX4_place_2 8 rfl rfl)
theorem dX4_place_57 : decode cX4_place 57 = .ok (.if_icmp .eq 25, 3) := dk_159 0 25 (dk_at dksX4_place_2 10 rfl rfl)
theorem dX4_place_60 : decode cX4_place 60 = .ok (.aload_n 0, 1) := dk_42 (dk_at dksX4_place_2 13 rfl rfl)
theorem dX4_place_61 : decode cX4_place 61 = .ok (.iload 5, 2) := dk_21 5 (dk_at dksX4_place_2 14 rfl rfl)
theorem dX4_place_63 : decode cX4_place 63 = .ok (.iload_n 2, 1) := dk_28 (dk_at dksX4_place_2 16 rfl rfl)
theorem dX4_place_64 : decode cX4_place 64 = .ok (.iload_n 3, 1) := dk_29 (dk_at dksX4_place_2 17 rfl rfl)
theorem dX4_place_65 : decode cX4_place 65 = .ok (.invokevirtual 93, 3) := dk_182 0 93 (dk_at dksX4_place_2 18 rfl rfl)
theorem dX4_place_68 : decode cX4_place 68 = .ok (.aload_n 0, 1) := dk_42 (dk_at dksX4_place_2 21 rfl rfl)
theorem dX4_place_69 : decode cX4_place 69 = .ok (.iload_n 1, 1) := dk_27 (dk_at dksX4_place_2 22 rfl rfl)
theorem dX4_place_70 : decode cX4_place 70 = .ok (.iload_n 2, 1) := dk_28 (dk_at dksX4_place_2 23 rfl rfl)
theorem dX4_place_71 : decode cX4_place 71 = .ok (.iload_n 3, 1) := dk_29 (dk_at dksX4_place_3 0 rfl rfl)
theorem dX4_place_72 : decode cX4_place 72 = .ok (.invokevirtual 93, 3) := dk_182 0 93 (dk_at dksX4_place_3 1 rfl rfl)
theorem dX4_place_75 : decode cX4_place 75 = .ok (.if_icmp .ge 7, 3) := dk_162 0 7 (dk_at dksX4_place_3 4 rfl rfl)
theorem dX4_place_78 : decode cX4_place 78 = .ok (.iconst 1, 1) := dk_4 (dk_at dksX4_place_3 7 rfl rfl)
theorem dX4_place_79 : decode cX4_place 79 = .ok (.goto 4, 3) := dk_167 0 4 (dk_at dksX4_place_3 8 rfl rfl)
theorem dX4_place_82 : decode cX4_place 82 = .ok (.iconst 0, 1) := dk_3 (dk_at dksX4_place_3 11 rfl rfl)
theorem dX4_place_83 : decode cX4_place 83 = .ok (.iadd, 1) := dk_96 (dk_at dksX4_place_3 12 rfl rfl)
theorem dX4_place_84 : decode cX4_place 84 = .ok (.istore 4, 2) := dk_54 4 (dk_at dksX4_place_3 13 rfl rfl)
theorem dX4_place_86 : decode cX4_place 86 = .ok (.iinc 5 1, 3) := dk_132 5 1 (dk_at dksX4_place_3 15 rfl rfl)
theorem dX4_place_89 : decode cX4_place 89 = .ok (.goto (-83), 3) := dk_167 255 173 (dk_at dksX4_place_3 18 rfl rfl)
theorem dX4_place_92 : decode cX4_place 92 = .ok (.iload 4, 2) := dk_21 4 (dk_at dksX4_place_3 21 rfl rfl)
theorem dX4_place_94 : decode cX4_place 94 = .ok (.ireturn, 1) := dk_172 (dk_at dksX4_place_3 23 rfl rfl)
theorem md_X4_place : xMd yX4_place cX4_place 6 (Option.some Jvm.ClassFile.FieldType.int) 3 := ⟨q1996, q128, by decide, by decide +kernel, by decide +kernel, by decide +kernel⟩
def f_X4_place_83 (a0 : Nat) (k6 : Int32 × Int32 × Int32 × Int32 × Int32 × PH → Option (xO × PH)) (v1 : Int32) (v2 : Int32) (v3 : Int32) (v5 : Int32) (w0 : Int32) (w1 : Int32) (p0 : PH) : Option (xO × PH) :=
  (bnd (w0 + w1) fun x13 =>
  (bnd (v5 + 1) fun x14 =>
  (k6 (v1, v2, v3, x13, x14, p0))))
def f_X4_place_82 (a0 : Nat) (k6 : Int32 × Int32 × Int32 × Int32 × Int32 × PH → Option (xO × PH)) (v1 : Int32) (v2 : Int32) (v3 : Int32) (v5 : Int32) (w0 : Int32) (p0 : PH) : Option (xO × PH) :=
  (f_X4_place_83 a0 k6 v1 v2 v3 v5 w0 0 p0)
def f_X4_place_6F (a0 : Nat)  (k6 : Int32 × Int32 × Int32 × Int32 × Int32 × PH → Option (xO × PH)) (p : Int32 × Int32 × Int32 × Int32 × Int32 × PH) : Option (xO × PH) := match p with
  | (v1, v2, v3, v4, v5, p0) => (xgR p0 a0 3 1 fun x1 =>
  (xnul x1 none fun b2 =>
  (xcI (f_J3_size p0 b2 ) fun x4 p3 =>
  (if x4 ≤ v5 then
  (rI v4 p3) else
  (xgR p3 a0 3 1 fun x5 =>
  (xnul x5 none fun b6 =>
  (xcR (f_J3_get p3 b6 v1) fun x8 p7 =>
  (xcst p7 (x8) [6]
  (xnul x8 none fun b9 =>
  (xgI p7 b9 6 1 fun x10 =>
  (xcI (f_X4_isOf p7 a0 v5 x10) fun x12 p11 =>
  (if x12 = 0 then
  (f_X4_place_82 a0 k6 v1 v2 v3 v5 v4 p11) else
  (xcI (f_X4_of p11 a0 v5 v2 v3) fun x16 p15 =>
  (if x16 = (-2) then
  (f_X4_place_82 a0 k6 v1 v2 v3 v5 v4 p15) else
  (xcI (f_X4_of p15 a0 v5 v2 v3) fun x18 p17 =>
  (xcI (f_X4_of p17 a0 v1 v2 v3) fun x20 p19 =>
  (if x20 ≤ x18 then
  (f_X4_place_82 a0 k6 v1 v2 v3 v5 v4 p19) else
  (f_X4_place_83 a0 k6 v1 v2 v3 v5 v4 1 p19))))))))))))))))))
def f_X4_place (p0 : PH) (a0 : Nat) (a1 : Int32) (a2 : Int32) (a3 : Int32) : Option (xO × PH) :=
  (xcl1 p0 a0 3 (lp (f_X4_place_6F a0) FU (a1, a2, a3, 1, 0, p0)))
theorem rc_X4_place {p0 : PH} {a0 : Nat} {a1 : Int32} {a2 : Int32} {a3 : Int32} : ∀ z, f_X4_place p0 a0 a1 a2 a3 = some z → xco p0 a0 = some 3 := fun z h => xcl1_some h
theorem f_X4_place_83_ok {G : xG} (hO : xOK G) (a0 : Nat) {k6 : Int32 × Int32 × Int32 × Int32 × Int32 × PH → Option (xO × PH)} (hk6 : ∀ (v1 : Int32) (v2 : Int32) (v3 : Int32) (v4 : Int32) (v5 : Int32) (p0 : PH), X G "ForestLegs$Meet" "place" cX4_place 6 (Option.some Jvm.ClassFile.FieldType.int) 9 6 [(0, .ref a0), (1, .int v1), (2, .int v2), (3, .int v3), (4, .int v4), (5, .int v5)] [] p0 (k6 (v1, v2, v3, v4, v5, p0))) (v1 : Int32) (v2 : Int32) (v3 : Int32) (v5 : Int32) (w0 : Int32) (w1 : Int32) (p0 : PH) : X G "ForestLegs$Meet" "place" cX4_place 6 (Option.some Jvm.ClassFile.FieldType.int) 9 83 [(0, .ref a0), (1, .int v1), (2, .int v2), (3, .int v3), (5, .int v5)] [.int w1, .int w0] p0 (f_X4_place_83 a0 k6 v1 v2 v3 v5 w0 w1 p0) := by
  unfold f_X4_place_83
  refine x_iadd dX4_place_83 (n := 84) rfl ?_
  refine x_nm (fun x13 => ?_)
  refine x_istore [(4, .int x13), (0, .ref a0), (1, .int v1), (2, .int v2), (3, .int v3), (5, .int v5)] dX4_place_84 (by decide) rfl (n := 86) rfl ?_
  refine x_iincB 5 (fun x14 => [(5, .int x14), (4, .int x13), (0, .ref a0), (1, .int v1), (2, .int v2), (3, .int v3)]) dX4_place_86 rfl rfl (by decide) (fun _ => rfl) (n := 89) rfl (fun x14 => ?_)
  refine x_goto dX4_place_89 (n := 6) (by decide) ?_
  refine x_sub [2, 3, 4, 5, 1, 0] [(0, .ref a0), (1, .int v1), (2, .int v2), (3, .int v3), (4, .int x13), (5, .int x14)] rfl ?_
  exact hk6 v1 v2 v3 x13 x14 p0
theorem f_X4_place_82_ok {G : xG} (hO : xOK G) (a0 : Nat) {k6 : Int32 × Int32 × Int32 × Int32 × Int32 × PH → Option (xO × PH)} (hk6 : ∀ (v1 : Int32) (v2 : Int32) (v3 : Int32) (v4 : Int32) (v5 : Int32) (p0 : PH), X G "ForestLegs$Meet" "place" cX4_place 6 (Option.some Jvm.ClassFile.FieldType.int) 9 6 [(0, .ref a0), (1, .int v1), (2, .int v2), (3, .int v3), (4, .int v4), (5, .int v5)] [] p0 (k6 (v1, v2, v3, v4, v5, p0))) (v1 : Int32) (v2 : Int32) (v3 : Int32) (v5 : Int32) (w0 : Int32) (p0 : PH) : X G "ForestLegs$Meet" "place" cX4_place 6 (Option.some Jvm.ClassFile.FieldType.int) 9 82 [(0, .ref a0), (1, .int v1), (2, .int v2), (3, .int v3), (5, .int v5)] [.int w0] p0 (f_X4_place_82 a0 k6 v1 v2 v3 v5 w0 p0) := by
  unfold f_X4_place_82
  refine x_iconst 0 dX4_place_82 rfl (n := 83) rfl ?_
  exact f_X4_place_83_ok hO a0 hk6 v1 v2 v3 v5 w0 0 p0
theorem f_X4_place_6F_ok {G : xG} (hO : xOK G) (a0 : Nat)  {k6 : Int32 × Int32 × Int32 × Int32 × Int32 × PH → Option (xO × PH)} (hk6 : ∀ (v1 : Int32) (v2 : Int32) (v3 : Int32) (v4 : Int32) (v5 : Int32) (p0 : PH), X G "ForestLegs$Meet" "place" cX4_place 6 (Option.some Jvm.ClassFile.FieldType.int) 9 6 [(0, .ref a0), (1, .int v1), (2, .int v2), (3, .int v3), (4, .int v4), (5, .int v5)] [] p0 (k6 (v1, v2, v3, v4, v5, p0))) (v1 : Int32) (v2 : Int32) (v3 : Int32) (v4 : Int32) (v5 : Int32) (p0 : PH) : X G "ForestLegs$Meet" "place" cX4_place 6 (Option.some Jvm.ClassFile.FieldType.int) 9 6 [(0, .ref a0), (1, .int v1), (2, .int v2), (3, .int v3), (4, .int v4), (5, .int v5)] [] p0 (f_X4_place_6F a0 k6 (v1, v2, v3, v4, v5, p0)) := by
  unfold f_X4_place_6F
  refine x_iload 5 dX4_place_6 rfl (n := 8) rfl ?_
  refine x_aload_nr 0 dX4_place_8 rfl rfl (n := 9) rfl ?_
  refine x_getR fl_X4_20 dX4_place_9 (n := 12) rfl (fun x1 => ?_)
  refine x_sm (fun b2 e => ?_)
  subst e
  refine x_callF_I [] [.int v5] (f_J3_size_ok hO p0 b2 ) rc_J3_size md_J3_size rfl q1740 fc_java_util_ArrayList_java_util_List_size_0_I dX4_place_12 rfl rfl (by decide) (Nat.le_of_ble_eq_true rfl) (n := 17) rfl (fun x4 p3 => ?_)
  refine x_icmp_ge dX4_place_17 (t := 92) (by decide) (n := 20) rfl (fun _ => ?_) (fun _ => ?_)
  · refine x_iload 4 dX4_place_92 rfl (n := 94) rfl ?_
    exact x_ireturn dX4_place_94
  · refine x_iload 4 dX4_place_20 rfl (n := 22) rfl ?_
    refine x_aload_nr 0 dX4_place_22 rfl rfl (n := 23) rfl ?_
    refine x_iload 5 dX4_place_23 rfl (n := 25) rfl ?_
    refine x_aload_nr 0 dX4_place_25 rfl rfl (n := 26) rfl ?_
    refine x_getR fl_X4_20 dX4_place_26 (n := 29) rfl (fun x5 => ?_)
    refine x_iload_n 1 dX4_place_29 rfl rfl (n := 30) rfl ?_
    refine x_sm (fun b6 e => ?_)
    subst e
    refine x_callF_R [.int v1] [.int v5, .ref a0, .int v4] (f_J3_get_ok hO p3 b6 v1) rc_J3_get md_J3_get rfl q1511 fc_java_util_ArrayList_java_util_List_get_1_ILjava dX4_place_30 rfl rfl (by decide) (Nat.le_of_ble_eq_true rfl) (n := 35) rfl (fun x8 p7 => ?_)
    refine x_cast (x := x8) (cs := [6]) q1512 cst_ForestLegs_Runner dX4_place_35 (n := 38) rfl ?_
    refine x_sm (fun b9 e => ?_)
    subst e
    refine x_getI fl_X4_72 dX4_place_38 (n := 41) rfl (fun x10 => ?_)
    refine x_callV_I [.int v5, .int x10] [.int v4] (f_X4_isOf_ok hO p7 a0 v5 x10) rc_X4_isOf md_X4_isOf rfl q1741 q1571 q1572 dX4_place_41 rfl rfl (by decide) (Nat.le_of_ble_eq_true rfl) (n := 44) rfl (fun x12 p11 => ?_)
    refine x_if_eq dX4_place_44 (t := 82) (by decide) (n := 47) rfl (fun _ => ?_) (fun _ => ?_)
    · refine x_sub [0, 1, 2, 3, 5] [(0, .ref a0), (1, .int v1), (2, .int v2), (3, .int v3), (5, .int v5)] rfl ?_
      exact f_X4_place_82_ok hO a0 hk6 v1 v2 v3 v5 v4 p11
    · refine x_aload_nr 0 dX4_place_47 rfl rfl (n := 48) rfl ?_
      refine x_iload 5 dX4_place_48 rfl (n := 50) rfl ?_
      refine x_iload_n 2 dX4_place_50 rfl rfl (n := 51) rfl ?_
      refine x_iload_n 3 dX4_place_51 rfl rfl (n := 52) rfl ?_
      refine x_callV_I [.int v5, .int v2, .int v3] [.int v4] (f_X4_of_ok hO p11 a0 v5 v2 v3) rc_X4_of md_X4_of rfl q1742 q1743 q1744 dX4_place_52 rfl rfl (by decide) (Nat.le_of_ble_eq_true rfl) (n := 55) rfl (fun x16 p15 => ?_)
      refine x_bipush (-2) dX4_place_55 rfl (n := 57) rfl ?_
      refine x_icmp_eq dX4_place_57 (t := 82) (by decide) (n := 60) rfl (fun _ => ?_) (fun _ => ?_)
      · refine x_sub [0, 1, 2, 3, 5] [(0, .ref a0), (1, .int v1), (2, .int v2), (3, .int v3), (5, .int v5)] rfl ?_
        exact f_X4_place_82_ok hO a0 hk6 v1 v2 v3 v5 v4 p15
      · refine x_aload_nr 0 dX4_place_60 rfl rfl (n := 61) rfl ?_
        refine x_iload 5 dX4_place_61 rfl (n := 63) rfl ?_
        refine x_iload_n 2 dX4_place_63 rfl rfl (n := 64) rfl ?_
        refine x_iload_n 3 dX4_place_64 rfl rfl (n := 65) rfl ?_
        refine x_callV_I [.int v5, .int v2, .int v3] [.int v4] (f_X4_of_ok hO p15 a0 v5 v2 v3) rc_X4_of md_X4_of rfl q1742 q1743 q1744 dX4_place_65 rfl rfl (by decide) (Nat.le_of_ble_eq_true rfl) (n := 68) rfl (fun x18 p17 => ?_)
        refine x_aload_nr 0 dX4_place_68 rfl rfl (n := 69) rfl ?_
        refine x_iload_n 1 dX4_place_69 rfl rfl (n := 70) rfl ?_
        refine x_iload_n 2 dX4_place_70 rfl rfl (n := 71) rfl ?_
        refine x_iload_n 3 dX4_place_71 rfl rfl (n := 72) rfl ?_
        refine x_callV_I [.int v1, .int v2, .int v3] [.int x18, .int v4] (f_X4_of_ok hO p17 a0 v1 v2 v3) rc_X4_of md_X4_of rfl q1742 q1743 q1744 dX4_place_72 rfl rfl (by decide) (Nat.le_of_ble_eq_true rfl) (n := 75) rfl (fun x20 p19 => ?_)
        refine x_icmp_ge dX4_place_75 (t := 82) (by decide) (n := 78) rfl (fun _ => ?_) (fun _ => ?_)
        · refine x_sub [0, 1, 2, 3, 5] [(0, .ref a0), (1, .int v1), (2, .int v2), (3, .int v3), (5, .int v5)] rfl ?_
          exact f_X4_place_82_ok hO a0 hk6 v1 v2 v3 v5 v4 p19
        · refine x_iconst 1 dX4_place_78 rfl (n := 79) rfl ?_
          refine x_goto dX4_place_79 (n := 83) (by decide) ?_
          refine x_sub [0, 1, 2, 3, 5] [(0, .ref a0), (1, .int v1), (2, .int v2), (3, .int v3), (5, .int v5)] rfl ?_
          exact f_X4_place_83_ok hO a0 hk6 v1 v2 v3 v5 v4 1 p19
theorem f_X4_place_6_lp {G : xG} (hO : xOK G) (a0 : Nat)  (n : Nat) (v1 : Int32) (v2 : Int32) (v3 : Int32) (v4 : Int32) (v5 : Int32) (p0 : PH) : X G "ForestLegs$Meet" "place" cX4_place 6 (Option.some Jvm.ClassFile.FieldType.int) 9 6 [(0, .ref a0), (1, .int v1), (2, .int v2), (3, .int v3), (4, .int v4), (5, .int v5)] [] p0 (lp (f_X4_place_6F a0) n (v1, v2, v3, v4, v5, p0)) :=
  lp_ok (W := fun p K => X G "ForestLegs$Meet" "place" cX4_place 6 (Option.some Jvm.ClassFile.FieldType.int) 9 6 [(0, .ref a0), (1, .int p.1), (2, .int p.2.1), (3, .int p.2.2.1), (4, .int p.2.2.2.1), (5, .int p.2.2.2.2.1)] [] p.2.2.2.2.2 K) (fun _ => x_no) (fun k hk => fun (v1, v2, v3, v4, v5, p0) => f_X4_place_6F_ok hO a0 (fun v1 v2 v3 v4 v5 p0 => hk (v1, v2, v3, v4, v5, p0)) v1 v2 v3 v4 v5 p0) n (v1, v2, v3, v4, v5, p0)
theorem f_X4_place_ok {G : xG} (hO : xOK G) (p0 : PH) (a0 : Nat) (a1 : Int32) (a2 : Int32) (a3 : Int32) : CT G 9 yX4_place cX4_place 6 (Option.some Jvm.ClassFile.FieldType.int) [.ref a0, .int a1, .int a2, .int a3] p0 (f_X4_place p0 a0 a1 a2 a3) := by
  refine CT_of hO (by decide +kernel) (by decide +kernel) (Nat.le_of_ble_eq_true rfl) ?_
  show X G "ForestLegs$Meet" "place" cX4_place 6 (Option.some Jvm.ClassFile.FieldType.int) 9 0 [(0, .ref a0), (1, .int a1), (2, .int a2), (3, .int a3)] [] p0 (f_X4_place p0 a0 a1 a2 a3)
  refine x_cl1 (fun e0 => ?_)
  refine x_iconst 1 dX4_place_0 rfl (n := 1) rfl ?_
  refine x_istore [(4, .int 1), (0, .ref a0), (1, .int a1), (2, .int a2), (3, .int a3)] dX4_place_1 (by decide) rfl (n := 3) rfl ?_
  refine x_iconst 0 dX4_place_3 rfl (n := 4) rfl ?_
  refine x_istore [(5, .int 0), (4, .int 1), (0, .ref a0), (1, .int a1), (2, .int a2), (3, .int a3)] dX4_place_4 (by decide) rfl (n := 6) rfl ?_
  refine x_sub [2, 3, 4, 5, 1, 0] [(0, .ref a0), (1, .int a1), (2, .int a2), (3, .int a3), (4, .int 1), (5, .int 0)] rfl ?_
  exact f_X4_place_6_lp hO a0 FU a1 a2 a3 1 0 p0
abbrev cX1_split : ByteArray := prog_1_method_28_code
def yX1_split : MethodName := ⟨RX1, "split", "(III)I"⟩
def dkwX1_split_5 : List UInt8 := [28, 182, 0, 233, 100, 182, 0, 83, 172]
abbrev dktX1_split_5 : List UInt8 := dkwX1_split_5 ++ []
def dkwX1_split_4 : List UInt8 := [42, 180, 0, 56, 27, 28, 3, 182, 0, 239, 167, 0, 19, 21, 4, 42, 180, 0, 56, 21, 5, 182, 0, 189]
abbrev dktX1_split_4 : List UInt8 := dkwX1_split_4 ++ dktX1_split_5
def dkwX1_split_3 : List UInt8 := [180, 0, 105, 28, 182, 0, 236, 54, 5, 42, 29, 154, 0, 8, 21, 4, 167, 0, 37, 29, 4, 160, 0, 16]
abbrev dktX1_split_3 : List UInt8 := dkwX1_split_3 ++ dktX1_split_4
def dkwX1_split_2 : List UInt8 := [182, 0, 83, 172, 42, 180, 0, 56, 42, 180, 0, 56, 180, 0, 71, 27, 185, 0, 93, 2, 0, 192, 0, 103]
abbrev dktX1_split_2 : List UInt8 := dkwX1_split_2 ++ dktX1_split_3
def dkwX1_split_1 : List UInt8 := [42, 180, 0, 56, 27, 182, 0, 189, 28, 182, 0, 233, 54, 4, 21, 4, 16, 254, 160, 0, 10, 42, 16, 254]
abbrev dktX1_split_1 : List UInt8 := dkwX1_split_1 ++ dktX1_split_2
def dkwX1_split_0 : List UInt8 := [42, 27, 28, 182, 0, 230, 153, 0, 12, 29, 3, 5, 184, 0, 36, 154, 0, 9, 42, 4, 182, 0, 40, 172]
abbrev dktX1_split_0 : List UInt8 := dkwX1_split_0 ++ dktX1_split_1
theorem dksX1_split_0 : cX1_split.data.toList.drop 0 = dktX1_split_0 := by decide +kernel
theorem dksX1_split_1 : cX1_split.data.toList.drop 24 = dktX1_split_1 := dk_seg dksX1_split_0 24 rfl rfl
theorem dksX1_split_2 : cX1_split.data.toList.drop 48 = dktX1_split_2 := dk_seg dksX1_split_1 24 rfl rfl
theorem dksX1_split_3 : cX1_split.data.toList.drop 72 = dktX1_split_3 := dk_seg dksX1_split_2 24 rfl rfl
theorem dksX1_split_4 : cX1_split.data.toList.drop 96 = dktX1_split_4 := dk_seg dksX1_split_3 24 rfl rfl
theorem dksX1_split_5 : cX1_split.data.toList.drop 120 = dktX1_split_5 := dk_seg dksX1_split_4 24 rfl rfl
theorem dX1_split_0 : decode cX1_split 0 = .ok (.aload_n 0, 1) := dk_42 (dk_at dksX1_split_0 0 rfl rfl)
theorem dX1_split_1 : decode cX1_split 1 = .ok (.iload_n 1, 1) := dk_27 (dk_at dksX1_split_0 1 rfl rfl)
theorem dX1_split_2 : decode cX1_split 2 = .ok (.iload_n 2, 1) := dk_28 (dk_at dksX1_split_0 2 rfl rfl)
theorem dX1_split_3 : decode cX1_split 3 = .ok (.invokevirtual 230, 3) := dk_182 0 230 (dk_at dksX1_split_0 3 rfl rfl)
theorem dX1_split_6 : decode cX1_split 6 = .ok (.ifCond .eq 12, 3) := dk_153 0 12 (dk_at dksX1_split_0 6 rfl rfl)
theorem dX1_split_9 : decode cX1_split 9 = .ok (.iload_n 3, 1) := dk_29 (dk_at dksX1_split_0 9 rfl rfl)
theorem dX1_split_10 : decode cX1_split 10 = .ok (.iconst 0, 1) := dk_3 (dk_at dksX1_split_0 10 rfl rfl)
theorem dX1_split_11 : decode cX1_split 11 = .ok (.iconst 2, 1) := dk_5 (dk_at dksX1_split_0 11 rfl rfl)
theorem dX1_split_12 : decode cX1_split 12 = .ok (.invokestatic 36, 3) := dk_184 0 36 (dk_at dksX1_split_0 12 rfl rfl)
theorem dX1_split_15 : decode cX1_split 15 = .ok (.ifCond .ne 9, 3) := dk_154 0 9 (dk_at dksX1_split_0 15 rfl rfl)
theorem dX1_split_18 : decode cX1_split 18 = .ok (.aload_n 0, 1) := dk_42 (dk_at dksX1_split_0 18 rfl rfl)
theorem dX1_split_19 : decode cX1_split 19 = .ok (.iconst 1, 1) := dk_4 (dk_at dksX1_split_0 19 rfl rfl)
theorem dX1_split_20 : decode cX1_split 20 = .ok (.invokevirtual 40, 3) := dk_182 0 40 (dk_at dksX1_split_0 20 rfl rfl)
theorem dX1_split_23 : decode cX1_split 23 = .ok (.ireturn, 1) := dk_172 (dk_at dksX1_split_0 23 rfl rfl)
theorem dX1_split_24 : decode cX1_split 24 = .ok (.aload_n 0, 1) := dk_42 (dk_at dksX1_split_1 0 rfl rfl)
theorem dX1_split_25 : decode cX1_split 25 = .ok (.getfield 56, 3) := dk_180 0 56 (dk_at dksX1_split_1 1 rfl rfl)
theorem dX1_split_28 : decode cX1_split 28 = .ok (.iload_n 1, 1) := dk_27 (dk_at dksX1_split_1 4 rfl rfl)
theorem dX1_split_29 : decode cX1_split 29 = .ok (.invokevirtual 189, 3) := dk_182 0 189 (dk_at dksX1_split_1 5 rfl rfl)
theorem dX1_split_32 : decode cX1_split 32 = .ok (.iload_n 2, 1) := dk_28 (dk_at dksX1_split_1 8 rfl rfl)
theorem dX1_split_33 : decode cX1_split 33 = .ok (.invokevirtual 233, 3) := dk_182 0 233 (dk_at dksX1_split_1 9 rfl rfl)
theorem dX1_split_36 : decode cX1_split 36 = .ok (.istore 4, 2) := dk_54 4 (dk_at dksX1_split_1 12 rfl rfl)
theorem dX1_split_38 : decode cX1_split 38 = .ok (.iload 4, 2) := dk_21 4 (dk_at dksX1_split_1 14 rfl rfl)
theorem dX1_split_40 : decode cX1_split 40 = .ok (.bipush (-2), 2) := dk_16 254 (dk_at dksX1_split_1 16 rfl rfl)
theorem dX1_split_42 : decode cX1_split 42 = .ok (.if_icmp .ne 10, 3) := dk_160 0 10 (dk_at dksX1_split_1 18 rfl rfl)
theorem dX1_split_45 : decode cX1_split 45 = .ok (.aload_n 0, 1) := dk_42 (dk_at dksX1_split_1 21 rfl rfl)
theorem dX1_split_46 : decode cX1_split 46 = .ok (.bipush (-2), 2) := dk_16 254 (dk_at dksX1_split_1 22 rfl rfl)
theorem dX1_split_48 : decode cX1_split 48 = .ok (.invokevirtual 83, 3) := dk_182 0 83 (dk_at dksX1_split_2 0 rfl rfl)
theorem dX1_split_51 : decode cX1_split 51 = .ok (.ireturn, 1) := dk_172 (dk_at dksX1_split_2 3 rfl rfl)
theorem dX1_split_52 : decode cX1_split 52 = .ok (.aload_n 0, 1) := dk_42 (dk_at dksX1_split_2 4 rfl rfl)
theorem dX1_split_53 : decode cX1_split 53 = .ok (.getfield 56, 3) := dk_180 0 56 (dk_at dksX1_split_2 5 rfl rfl)
theorem dX1_split_56 : decode cX1_split 56 = .ok (.aload_n 0, 1) := dk_42 (dk_at dksX1_split_2 8 rfl rfl)
theorem dX1_split_57 : decode cX1_split 57 = .ok (.getfield 56, 3) := dk_180 0 56 (dk_at dksX1_split_2 9 rfl rfl)
theorem dX1_split_60 : decode cX1_split 60 = .ok (.getfield 71, 3) := dk_180 0 71 (dk_at dksX1_split_2 12 rfl rfl)
theorem dX1_split_63 : decode cX1_split 63 = .ok (.iload_n 1, 1) := dk_27 (dk_at dksX1_split_2 15 rfl rfl)
theorem dX1_split_64 : decode cX1_split 64 = .ok (.invokeinterface 93 2, 5) := by decide +kernel
theorem dX1_split_69 : decode cX1_split 69 = .ok (.checkcast 103, 3) := dk_192 0 103 (dk_at dksX1_split_2 21 rfl rfl)
theorem dX1_split_72 : decode cX1_split 72 = .ok (.getfield 105, 3) := dk_180 0 105 (dk_at dksX1_split_3 0 rfl rfl)
theorem dX1_split_75 : decode cX1_split 75 = .ok (.iload_n 2, 1) := dk_28 (dk_at dksX1_split_3 3 rfl rfl)
theorem dX1_split_76 : decode cX1_split 76 = .ok (.invokevirtual 236, 3) := dk_182 0 236 (dk_at dksX1_split_3 4 rfl rfl)
theorem dX1_split_79 : decode cX1_split 79 = .ok (.istore 5, 2) := dk_54 5 (dk_at dksX1_split_3 7 rfl rfl)
theorem dX1_split_81 : decode cX1_split 81 = .ok (.aload_n 0, 1) := dk_42 (dk_at dksX1_split_3 9 rfl rfl)
theorem dX1_split_82 : decode cX1_split 82 = .ok (.iload_n 3, 1) := dk_29 (dk_at dksX1_split_3 10 rfl rfl)
theorem dX1_split_83 : decode cX1_split 83 = .ok (.ifCond .ne 8, 3) := dk_154 0 8 (dk_at dksX1_split_3 11 rfl rfl)
theorem dX1_split_86 : decode cX1_split 86 = .ok (.iload 4, 2) := dk_21 4 (dk_at dksX1_split_3 14 rfl rfl)
theorem dX1_split_88 : decode cX1_split 88 = .ok (.goto 37, 3) := dk_167 0 37 (dk_at dksX1_split_3 16 rfl rfl)
theorem dX1_split_91 : decode cX1_split 91 = .ok (.iload_n 3, 1) := dk_29 (dk_at dksX1_split_3 19 rfl rfl)
theorem dX1_split_92 : decode cX1_split 92 = .ok (.iconst 1, 1) := dk_4 (dk_at dksX1_split_3 20 rfl rfl)
theorem dX1_split_93 : decode cX1_split 93 = .ok (.if_icmp .ne 16, 3) := dk_160 0 16 (dk_at dksX1_split_3 21 rfl rfl)
theorem dX1_split_96 : decode cX1_split 96 = .ok (.aload_n 0, 1) := dk_42 (dk_at dksX1_split_4 0 rfl rfl)
theorem dX1_split_97 : decode cX1_split 97 = .ok (.getfield 56, 3) := dk_180 0 56 (dk_at dksX1_split_4 1 rfl rfl)
theorem dX1_split_100 : decode cX1_split 100 = .ok (.iload_n 1, 1) := dk_27 (dk_at dksX1_split_4 4 rfl rfl)
theorem dX1_split_101 : decode cX1_split 101 = .ok (.iload_n 2, 1) := dk_28 (dk_at dksX1_split_4 5 rfl rfl)
theorem dX1_split_102 : decode cX1_split 102 = .ok (.iconst 0, 1) := dk_3 (dk_at dksX1_split_4 6 rfl rfl)
theorem dX1_split_103 : decode cX1_split 103 = .ok (.invokevirtual 239, 3) := dk_182 0 239 (dk_at dksX1_split_4 7 rfl rfl)
theorem dX1_split_106 : decode cX1_split 106 = .ok (.goto 19, 3) := dk_167 0 19 (dk_at dksX1_split_4 10 rfl rfl)
theorem dX1_split_109 : decode cX1_split 109 = .ok (.iload 4, 2) := dk_21 4 (dk_at dksX1_split_4 13 rfl rfl)
theorem dX1_split_111 : decode cX1_split 111 = .ok (.aload_n 0, 1) := dk_42 (dk_at dksX1_split_4 15 rfl rfl)
theorem dX1_split_112 : decode cX1_split 112 = .ok (.getfield 56, 3) := dk_180 0 56 (dk_at dksX1_split_4 16 rfl rfl)
theorem dX1_split_115 : decode cX1_split 115 = .ok (.iload 5, 2) := dk_21 5 (dk_at dksX1_split_4 19 rfl rfl)
theorem dX1_split_117 : decode cX1_split 117 = .ok (.invokevirtual 189, 3) := dk_182 0 189 (dk_at dksX1_split_4 21 rfl rfl)
theorem dX1_split_120 : decode cX1_split 120 = .ok (.iload_n 2, 1) := dk_28 (dk_at dksX1_split_5 0 rfl rfl)
theorem dX1_split_121 : decode cX1_split 121 = .ok (.invokevirtual 233, 3) := dk_182 0 233 (dk_at dksX1_split_5 1 rfl rfl)
theorem dX1_split_124 : decode cX1_split 124 = .ok (.isub, 1) := dk_100 (dk_at dksX1_split_5 4 rfl rfl)
theorem dX1_split_125 : decode cX1_split 125 = .ok (.invokevirtual 83, 3) := dk_182 0 83 (dk_at dksX1_split_5 5 rfl rfl)
theorem dX1_split_128 : decode cX1_split 128 = .ok (.ireturn, 1) := dk_172 (dk_at dksX1_split_5 8 rfl rfl)
theorem md_X1_split : xMd yX1_split cX1_split 6 (Option.some Jvm.ClassFile.FieldType.int) 3 := ⟨q1979, q123, by decide, by decide +kernel, by decide +kernel, by decide +kernel⟩
def f_X1_split_18 (a0 : Nat)   (p0 : PH) : Option (xO × PH) :=
  (xcI (f_X1_refused p0 a0 1) fun x4 p3 =>
  (rI x4 p3))
def f_X1_split_125 (a0 : Nat)  (w1 : Int32) (p0 : PH) : Option (xO × PH) :=
  (xcI (f_X1_fine p0 a0 w1) fun x34 p33 =>
  (rI x34 p33))
def f_X1_split (p0 : PH) (a0 : Nat) (a1 : Int32) (a2 : Int32) (a3 : Int32) : Option (xO × PH) :=
  (xcl1 p0 a0 0 (xcI (f_X1_isRunnersPoint p0 a0 a1 a2) fun x2 p1 =>
  (if x2 = 0 then
  (f_X1_split_18 a0  p1) else
  (xcI (f_X1_isIn p1 a3 0 2) fun x6 p5 =>
  (if x6 = 0 then
  (f_X1_split_18 a0  p5) else
  (xgR p5 a0 0 5 fun x7 =>
  (xnul x7 none fun b8 =>
  (xcR (f_X4_match p5 b8 a1) fun x10 p9 =>
  (xnul x10 none fun b11 =>
  (xcI (f_X9_split p9 b11 a2) fun x13 p12 =>
  (if x13 = (-2) then
  (xcI (f_X1_fine p12 a0 (-2)) fun x40 p39 =>
  (rI x40 p39)) else
  (xgR p12 a0 0 5 fun x14 =>
  (xgR p12 a0 0 5 fun x15 =>
  (xnul x15 none fun b16 =>
  (xgR p12 b16 3 1 fun x17 =>
  (xnul x17 none fun b18 =>
  (xcR (f_J3_get p12 b18 a1) fun x20 p19 =>
  (xcst p19 (x20) [6]
  (xnul x20 none fun b21 =>
  (xgI p19 b21 6 1 fun x22 =>
  (xnul x14 none fun b23 =>
  (xcI (f_X4_leads p19 b23 x22 a2) fun x25 p24 =>
  (if a3 = 0 then
  (f_X1_split_125 a0 x13 p24) else
  (if a3 = 1 then
  (xgR p24 a0 0 5 fun x35 =>
  (xnul x35 none fun b36 =>
  (xcI (f_X4_place p24 b36 a1 a2 0) fun x38 p37 =>
  (f_X1_split_125 a0 x38 p37)))) else
  (xgR p24 a0 0 5 fun x26 =>
  (xnul x26 none fun b27 =>
  (xcR (f_X4_match p24 b27 x25) fun x29 p28 =>
  (xnul x29 none fun b30 =>
  (xcI (f_X9_split p28 b30 a2) fun x32 p31 =>
  (f_X1_split_125 a0 (x13 - x32) p31))))))))))))))))))))))))))))))
theorem rc_X1_split {p0 : PH} {a0 : Nat} {a1 : Int32} {a2 : Int32} {a3 : Int32} : ∀ z, f_X1_split p0 a0 a1 a2 a3 = some z → xco p0 a0 = some 0 := fun z h => xcl1_some h
theorem f_X1_split_18_ok {G : xG} (hO : xOK G) (a0 : Nat)   (p0 : PH) : X G "ForestLegs" "split" cX1_split 6 (Option.some Jvm.ClassFile.FieldType.int) 11 18 [(0, .ref a0)] [] p0 (f_X1_split_18 a0  p0) := by
  unfold f_X1_split_18
  refine x_aload_nr 0 dX1_split_18 rfl rfl (n := 19) rfl ?_
  refine x_iconst 1 dX1_split_19 rfl (n := 20) rfl ?_
  refine x_callV_I [.int 1] [] (f_X1_refused_ok hO p0 a0 1) rc_X1_refused md_X1_refused rfl q250 q252 qs0 dX1_split_20 rfl rfl (by decide) (Nat.le_of_ble_eq_true rfl) (n := 23) rfl (fun x4 p3 => ?_)
  exact x_ireturn dX1_split_23
theorem f_X1_split_125_ok {G : xG} (hO : xOK G) (a0 : Nat)  (w1 : Int32) (p0 : PH) : X G "ForestLegs" "split" cX1_split 6 (Option.some Jvm.ClassFile.FieldType.int) 11 125 [] [.int w1, .ref a0] p0 (f_X1_split_125 a0 w1 p0) := by
  unfold f_X1_split_125
  refine x_callV_I [.int w1] [] (f_X1_fine_ok hO p0 a0 w1) rc_X1_fine md_X1_fine rfl q1480 q1482 qs26 dX1_split_125 rfl rfl (by decide) (Nat.le_of_ble_eq_true rfl) (n := 128) rfl (fun x34 p33 => ?_)
  exact x_ireturn dX1_split_128
theorem f_X1_split_ok {G : xG} (hO : xOK G) (p0 : PH) (a0 : Nat) (a1 : Int32) (a2 : Int32) (a3 : Int32) : CT G 11 yX1_split cX1_split 6 (Option.some Jvm.ClassFile.FieldType.int) [.ref a0, .int a1, .int a2, .int a3] p0 (f_X1_split p0 a0 a1 a2 a3) := by
  refine CT_of hO (by decide +kernel) (by decide +kernel) (Nat.le_of_ble_eq_true rfl) ?_
  show X G "ForestLegs" "split" cX1_split 6 (Option.some Jvm.ClassFile.FieldType.int) 11 0 [(0, .ref a0), (1, .int a1), (2, .int a2), (3, .int a3)] [] p0 (f_X1_split p0 a0 a1 a2 a3)
  refine x_cl1 (fun e0 => ?_)
  refine x_aload_nr 0 dX1_split_0 rfl rfl (n := 1) rfl ?_
  refine x_iload_n 1 dX1_split_1 rfl rfl (n := 2) rfl ?_
  refine x_iload_n 2 dX1_split_2 rfl rfl (n := 3) rfl ?_
  refine x_callV_I [.int a1, .int a2] [] (f_X1_isRunnersPoint_ok hO p0 a0 a1 a2) rc_X1_isRunnersPoint md_X1_isRunnersPoint rfl q1980 q1982 qs45 dX1_split_3 rfl rfl (by decide) (Nat.le_of_ble_eq_true rfl) (n := 6) rfl (fun x2 p1 => ?_)
  refine x_if_eq dX1_split_6 (t := 18) (by decide) (n := 9) rfl (fun _ => ?_) (fun _ => ?_)
  · refine x_sub [0] [(0, .ref a0)] rfl ?_
    exact f_X1_split_18_ok hO a0  p1
  · refine x_iload_n 3 dX1_split_9 rfl rfl (n := 10) rfl ?_
    refine x_iconst 0 dX1_split_10 rfl (n := 11) rfl ?_
    refine x_iconst 2 dX1_split_11 rfl (n := 12) rfl ?_
    refine x_callS_I [.int a3, .int 0, .int 2] [] (f_X1_isIn_ok hO p1 a3 0 2) md_X1_isIn q247 q248 dX1_split_12 rfl rfl (by decide) (Nat.le_of_ble_eq_true rfl) (n := 15) rfl (fun x6 p5 => ?_)
    refine x_if_ne dX1_split_15 (t := 24) (by decide) (n := 18) rfl (fun _ => ?_) (fun _ => ?_)
    · refine x_aload_nr 0 dX1_split_24 rfl rfl (n := 25) rfl ?_
      refine x_getR fl_X1_56 dX1_split_25 (n := 28) rfl (fun x7 => ?_)
      refine x_iload_n 1 dX1_split_28 rfl rfl (n := 29) rfl ?_
      refine x_sm (fun b8 e => ?_)
      subst e
      refine x_callV_R [.int a1] [] (f_X4_match_ok hO p5 b8 a1) rc_X4_match md_X4_match rfl q1784 q1504 q1505 dX1_split_29 rfl rfl (by decide) (Nat.le_of_ble_eq_true rfl) (n := 32) rfl (fun x10 p9 => ?_)
      refine x_iload_n 2 dX1_split_32 rfl rfl (n := 33) rfl ?_
      refine x_sm (fun b11 e => ?_)
      subst e
      refine x_callV_I [.int a2] [] (f_X9_split_ok hO p9 b11 a2) rc_X9_split md_X9_split rfl q1988 q1755 q1756 dX1_split_33 rfl rfl (by decide) (Nat.le_of_ble_eq_true rfl) (n := 36) rfl (fun x13 p12 => ?_)
      refine x_istore [(4, .int x13), (0, .ref a0), (1, .int a1), (2, .int a2), (3, .int a3)] dX1_split_36 (by decide) rfl (n := 38) rfl ?_
      refine x_iload 0 dX1_split_38 rfl (n := 40) rfl ?_
      refine x_bipush (-2) dX1_split_40 rfl (n := 42) rfl ?_
      refine x_icmp_ne dX1_split_42 (t := 52) (by decide) (n := 45) rfl (fun _ => ?_) (fun _ => ?_)
      · refine x_aload_nr 1 dX1_split_52 rfl rfl (n := 53) rfl ?_
        refine x_getR fl_X1_56 dX1_split_53 (n := 56) rfl (fun x14 => ?_)
        refine x_aload_nr 1 dX1_split_56 rfl rfl (n := 57) rfl ?_
        refine x_getR fl_X1_56 dX1_split_57 (n := 60) rfl (fun x15 => ?_)
        refine x_sm (fun b16 e => ?_)
        subst e
        refine x_getR fl_X1_71 dX1_split_60 (n := 63) rfl (fun x17 => ?_)
        refine x_iload_n 2 dX1_split_63 rfl rfl (n := 64) rfl ?_
        refine x_sm (fun b18 e => ?_)
        subst e
        refine x_callF_R [.int a1] [va_rf x14] (f_J3_get_ok hO p12 b18 a1) rc_J3_get md_J3_get rfl q1497 fc_java_util_ArrayList_java_util_List_get_1_ILjava dX1_split_64 rfl rfl (by decide) (by simp only [List.map, xcat]; exact Nat.le_of_ble_eq_true rfl) (n := 69) rfl (fun x20 p19 => ?_)
        refine x_cast (x := x20) (cs := [6]) q1498 cst_ForestLegs_Runner dX1_split_69 (n := 72) rfl ?_
        refine x_sm (fun b21 e => ?_)
        subst e
        refine x_getI fl_X1_105 dX1_split_72 (n := 75) rfl (fun x22 => ?_)
        refine x_iload_n 3 dX1_split_75 rfl rfl (n := 76) rfl ?_
        refine x_sm (fun b23 e => ?_)
        subst e
        refine x_callV_I [.int x22, .int a2] [] (f_X4_leads_ok hO p19 b23 x22 a2) rc_X4_leads md_X4_leads rfl q1989 q1990 q1991 dX1_split_76 rfl rfl (by decide) (Nat.le_of_ble_eq_true rfl) (n := 79) rfl (fun x25 p24 => ?_)
        refine x_istore [(5, .int x25), (4, .int x13), (0, .ref a0), (1, .int a1), (2, .int a2), (3, .int a3)] dX1_split_79 (by decide) rfl (n := 81) rfl ?_
        refine x_aload_nr 2 dX1_split_81 rfl rfl (n := 82) rfl ?_
        refine x_iload_n 5 dX1_split_82 rfl rfl (n := 83) rfl ?_
        refine x_if_ne dX1_split_83 (t := 91) (by decide) (n := 86) rfl (fun _ => ?_) (fun _ => ?_)
        · refine x_iload_n 5 dX1_split_91 rfl rfl (n := 92) rfl ?_
          refine x_iconst 1 dX1_split_92 rfl (n := 93) rfl ?_
          refine x_icmp_ne dX1_split_93 (t := 109) (by decide) (n := 96) rfl (fun _ => ?_) (fun _ => ?_)
          · refine x_iload 1 dX1_split_109 rfl (n := 111) rfl ?_
            refine x_aload_nr 2 dX1_split_111 rfl rfl (n := 112) rfl ?_
            refine x_getR fl_X1_56 dX1_split_112 (n := 115) rfl (fun x26 => ?_)
            refine x_iload 0 dX1_split_115 rfl (n := 117) rfl ?_
            refine x_sm (fun b27 e => ?_)
            subst e
            refine x_callV_R [.int x25] [.int x13, .ref a0] (f_X4_match_ok hO p24 b27 x25) rc_X4_match md_X4_match rfl q1784 q1504 q1505 dX1_split_117 rfl rfl (by decide) (Nat.le_of_ble_eq_true rfl) (n := 120) rfl (fun x29 p28 => ?_)
            refine x_iload_n 4 dX1_split_120 rfl rfl (n := 121) rfl ?_
            refine x_sm (fun b30 e => ?_)
            subst e
            refine x_callV_I [.int a2] [.int x13, .ref a0] (f_X9_split_ok hO p28 b30 a2) rc_X9_split md_X9_split rfl q1988 q1755 q1756 dX1_split_121 rfl rfl (by decide) (Nat.le_of_ble_eq_true rfl) (n := 124) rfl (fun x32 p31 => ?_)
            refine x_isub dX1_split_124 (n := 125) rfl ?_
            refine x_sub [] [] rfl ?_
            exact f_X1_split_125_ok hO a0 (x13 - x32) p31
          · refine x_aload_nr 2 dX1_split_96 rfl rfl (n := 97) rfl ?_
            refine x_getR fl_X1_56 dX1_split_97 (n := 100) rfl (fun x35 => ?_)
            refine x_iload_n 3 dX1_split_100 rfl rfl (n := 101) rfl ?_
            refine x_iload_n 4 dX1_split_101 rfl rfl (n := 102) rfl ?_
            refine x_iconst 0 dX1_split_102 rfl (n := 103) rfl ?_
            refine x_sm (fun b36 e => ?_)
            subst e
            refine x_callV_I [.int a1, .int a2, .int 0] [.ref a0] (f_X4_place_ok hO p24 b36 a1 a2 0) rc_X4_place md_X4_place rfl q1993 q1994 q1995 dX1_split_103 rfl rfl (by decide) (Nat.le_of_ble_eq_true rfl) (n := 106) rfl (fun x38 p37 => ?_)
            refine x_goto dX1_split_106 (n := 125) (by decide) ?_
            refine x_sub [] [] rfl ?_
            exact f_X1_split_125_ok hO a0 x38 p37
        · refine x_iload 1 dX1_split_86 rfl (n := 88) rfl ?_
          refine x_goto dX1_split_88 (n := 125) (by decide) ?_
          refine x_sub [] [] rfl ?_
          exact f_X1_split_125_ok hO a0 x13 p24
      · refine x_aload_nr 1 dX1_split_45 rfl rfl (n := 46) rfl ?_
        refine x_bipush (-2) dX1_split_46 rfl (n := 48) rfl ?_
        refine x_callV_I [.int (-2)] [] (f_X1_fine_ok hO p12 a0 (-2)) rc_X1_fine md_X1_fine rfl q1480 q1482 qs26 dX1_split_48 rfl rfl (by decide) (Nat.le_of_ble_eq_true rfl) (n := 51) rfl (fun x40 p39 => ?_)
        exact x_ireturn dX1_split_51
    · refine x_sub [0] [(0, .ref a0)] rfl ?_
      exact f_X1_split_18_ok hO a0  p5
abbrev cX4_lost : ByteArray := prog_7_method_13_code
def yX4_lost : MethodName := ⟨RX4, "lost", "(II)I"⟩
def dkwX4_lost_2 : List UInt8 := [182, 0, 112, 100, 172]
abbrev dktX4_lost_2 : List UInt8 := dkwX4_lost_2 ++ []
def dkwX4_lost_1 : List UInt8 := [28, 182, 0, 97, 42, 42, 180, 0, 20, 27, 185, 0, 68, 2, 0, 192, 0, 57, 180, 0, 72, 28]
abbrev dktX4_lost_1 : List UInt8 := dkwX4_lost_1 ++ dktX4_lost_2
def dkwX4_lost_0 : List UInt8 := [42, 27, 182, 0, 78, 28, 182, 0, 97, 16, 254, 160, 0, 8, 16, 254, 167, 0, 34, 42, 27, 182, 0, 78]
abbrev dktX4_lost_0 : List UInt8 := dkwX4_lost_0 ++ dktX4_lost_1
theorem dksX4_lost_0 : cX4_lost.data.toList.drop 0 = dktX4_lost_0 := by decide +kernel
theorem dksX4_lost_1 : cX4_lost.data.toList.drop 24 = dktX4_lost_1 := dk_seg dksX4_lost_0 24 rfl rfl
theorem dksX4_lost_2 : cX4_lost.data.toList.drop 46 = dktX4_lost_2 := dk_seg dksX4_lost_1 22 rfl rfl
theorem dX4_lost_0 : decode cX4_lost 0 = .ok (.aload_n 0, 1) := dk_42 (dk_at dksX4_lost_0 0 rfl rfl)
theorem dX4_lost_1 : decode cX4_lost 1 = .ok (.iload_n 1, 1) := dk_27 (dk_at dksX4_lost_0 1 rfl rfl)
theorem dX4_lost_2 : decode cX4_lost 2 = .ok (.invokevirtual 78, 3) := dk_182 0 78 (dk_at dksX4_lost_0 2 rfl rfl)
theorem dX4_lost_5 : decode cX4_lost 5 = .ok (.iload_n 2, 1) := dk_28 (dk_at dksX4_lost_0 5 rfl rfl)
theorem dX4_lost_6 : decode cX4_lost 6 = .ok (.invokevirtual 97, 3) := dk_182 0 97 (dk_at dksX4_lost_0 6 rfl rfl)
theorem dX4_lost_9 : decode cX4_lost 9 = .ok (.bipush (-2), 2) := dk_16 254 (dk_at dksX4_lost_0 9 rfl rfl)
theorem dX4_lost_11 : decode cX4_lost 11 = .ok (.if_icmp .ne 8, 3) := dk_160 0 8 (dk_at dksX4_lost_0 11 rfl rfl)
theorem dX4_lost_14 : decode cX4_lost 14 = .ok (.bipush (-2), 2) := dk_16 254 (dk_at dksX4_lost_0 14 rfl rfl)
theorem dX4_lost_16 : decode cX4_lost 16 = .ok (.goto 34, 3) := dk_167 0 34 (dk_at dksX4_lost_0 16 rfl rfl)
theorem dX4_lost_19 : decode cX4_lost 19 = .ok (.aload_n 0, 1) := dk_42 (dk_at dksX4_lost_0 19 rfl rfl)
theorem dX4_lost_20 : decode cX4_lost 20 = .ok (.iload_n 1, 1) := dk_27 (dk_at dksX4_lost_0 20 rfl rfl)
theorem dX4_lost_21 : decode cX4_lost 21 = .ok (.invokevirtual 78, 3) := dk_182 0 78 (dk_at dksX4_lost_0 21 rfl rfl)
theorem dX4_lost_24 : decode cX4_lost 24 = .ok (.iload_n 2, 1) := dk_28 (dk_at dksX4_lost_1 0 rfl rfl)
theorem dX4_lost_25 : decode cX4_lost 25 = .ok (.invokevirtual 97, 3) := dk_182 0 97 (dk_at dksX4_lost_1 1 rfl rfl)
theorem dX4_lost_28 : decode cX4_lost 28 = .ok (.aload_n 0, 1) := dk_42 (dk_at dksX4_lost_1 4 rfl rfl)
theorem dX4_lost_29 : decode cX4_lost 29 = .ok (.aload_n 0, 1) := dk_42 (dk_at dksX4_lost_1 5 rfl rfl)
theorem dX4_lost_30 : decode cX4_lost 30 = .ok (.getfield 20, 3) := dk_180 0 20 (dk_at dksX4_lost_1 6 rfl rfl)
theorem dX4_lost_33 : decode cX4_lost 33 = .ok (.iload_n 1, 1) := dk_27 (dk_at dksX4_lost_1 9 rfl rfl)
theorem dX4_lost_34 : decode cX4_lost 34 = .ok (.invokeinterface 68 2, 5) := by decide +kernel
theorem dX4_lost_39 : decode cX4_lost 39 = .ok (.checkcast 57, 3) := dk_192 0 57 (dk_at dksX4_lost_1 15 rfl rfl)
theorem dX4_lost_42 : decode cX4_lost 42 = .ok (.getfield 72, 3) := dk_180 0 72 (dk_at dksX4_lost_1 18 rfl rfl)
theorem dX4_lost_45 : decode cX4_lost 45 = .ok (.iload_n 2, 1) := dk_28 (dk_at dksX4_lost_1 21 rfl rfl)
theorem dX4_lost_46 : decode cX4_lost 46 = .ok (.invokevirtual 112, 3) := dk_182 0 112 (dk_at dksX4_lost_2 0 rfl rfl)
theorem dX4_lost_49 : decode cX4_lost 49 = .ok (.isub, 1) := dk_100 (dk_at dksX4_lost_2 3 rfl rfl)
theorem dX4_lost_50 : decode cX4_lost 50 = .ok (.ireturn, 1) := dk_172 (dk_at dksX4_lost_2 4 rfl rfl)
theorem md_X4_lost : xMd yX4_lost cX4_lost 3 (Option.some Jvm.ClassFile.FieldType.int) 2 := ⟨q2005, q128, by decide, by decide +kernel, by decide +kernel, by decide +kernel⟩
def f_X4_lost (p0 : PH) (a0 : Nat) (a1 : Int32) (a2 : Int32) : Option (xO × PH) :=
  (xcl1 p0 a0 3 (xcR (f_X4_match p0 a0 a1) fun x2 p1 =>
  (xnul x2 none fun b3 =>
  (xcI (f_X9_leg p1 b3 a2) fun x5 p4 =>
  (if x5 = (-2) then
  (rI (-2) p4) else
  (xcR (f_X4_match p4 a0 a1) fun x7 p6 =>
  (xnul x7 none fun b8 =>
  (xcI (f_X9_leg p6 b8 a2) fun x10 p9 =>
  (xgR p9 a0 3 1 fun x11 =>
  (xnul x11 none fun b12 =>
  (xcR (f_J3_get p9 b12 a1) fun x14 p13 =>
  (xcst p13 (x14) [6]
  (xnul x14 none fun b15 =>
  (xgI p13 b15 6 1 fun x16 =>
  (xcI (f_X4_best p13 a0 x16 a2) fun x18 p17 =>
  (rI (x10 - x18) p17))))))))))))))))
theorem rc_X4_lost {p0 : PH} {a0 : Nat} {a1 : Int32} {a2 : Int32} : ∀ z, f_X4_lost p0 a0 a1 a2 = some z → xco p0 a0 = some 3 := fun z h => xcl1_some h
theorem f_X4_lost_ok {G : xG} (hO : xOK G) (p0 : PH) (a0 : Nat) (a1 : Int32) (a2 : Int32) : CT G 12 yX4_lost cX4_lost 3 (Option.some Jvm.ClassFile.FieldType.int) [.ref a0, .int a1, .int a2] p0 (f_X4_lost p0 a0 a1 a2) := by
  refine CT_of hO (by decide +kernel) (by decide +kernel) (Nat.le_of_ble_eq_true rfl) ?_
  show X G "ForestLegs$Meet" "lost" cX4_lost 3 (Option.some Jvm.ClassFile.FieldType.int) 12 0 [(0, .ref a0), (1, .int a1), (2, .int a2)] [] p0 (f_X4_lost p0 a0 a1 a2)
  refine x_cl1 (fun e0 => ?_)
  refine x_aload_nr 0 dX4_lost_0 rfl rfl (n := 1) rfl ?_
  refine x_iload_n 1 dX4_lost_1 rfl rfl (n := 2) rfl ?_
  refine x_callV_R [.int a1] [] (f_X4_match_ok hO p0 a0 a1) rc_X4_match md_X4_match rfl q1503 q1504 q1505 dX4_lost_2 rfl rfl (by decide) (Nat.le_of_ble_eq_true rfl) (n := 5) rfl (fun x2 p1 => ?_)
  refine x_iload_n 2 dX4_lost_5 rfl rfl (n := 6) rfl ?_
  refine x_sm (fun b3 e => ?_)
  subst e
  refine x_callV_I [.int a2] [] (f_X9_leg_ok hO p1 b3 a2) rc_X9_leg md_X9_leg rfl q1746 q1747 q1748 dX4_lost_6 rfl rfl (by decide) (Nat.le_of_ble_eq_true rfl) (n := 9) rfl (fun x5 p4 => ?_)
  refine x_bipush (-2) dX4_lost_9 rfl (n := 11) rfl ?_
  refine x_icmp_ne dX4_lost_11 (t := 19) (by decide) (n := 14) rfl (fun _ => ?_) (fun _ => ?_)
  · refine x_aload_nr 0 dX4_lost_19 rfl rfl (n := 20) rfl ?_
    refine x_iload_n 1 dX4_lost_20 rfl rfl (n := 21) rfl ?_
    refine x_callV_R [.int a1] [] (f_X4_match_ok hO p4 a0 a1) rc_X4_match md_X4_match rfl q1503 q1504 q1505 dX4_lost_21 rfl rfl (by decide) (Nat.le_of_ble_eq_true rfl) (n := 24) rfl (fun x7 p6 => ?_)
    refine x_iload_n 2 dX4_lost_24 rfl rfl (n := 25) rfl ?_
    refine x_sm (fun b8 e => ?_)
    subst e
    refine x_callV_I [.int a2] [] (f_X9_leg_ok hO p6 b8 a2) rc_X9_leg md_X9_leg rfl q1746 q1747 q1748 dX4_lost_25 rfl rfl (by decide) (Nat.le_of_ble_eq_true rfl) (n := 28) rfl (fun x10 p9 => ?_)
    refine x_aload_nr 0 dX4_lost_28 rfl rfl (n := 29) rfl ?_
    refine x_aload_nr 0 dX4_lost_29 rfl rfl (n := 30) rfl ?_
    refine x_getR fl_X4_20 dX4_lost_30 (n := 33) rfl (fun x11 => ?_)
    refine x_iload_n 1 dX4_lost_33 rfl rfl (n := 34) rfl ?_
    refine x_sm (fun b12 e => ?_)
    subst e
    refine x_callF_R [.int a1] [.ref a0, .int x10] (f_J3_get_ok hO p9 b12 a1) rc_J3_get md_J3_get rfl q1511 fc_java_util_ArrayList_java_util_List_get_1_ILjava dX4_lost_34 rfl rfl (by decide) (Nat.le_of_ble_eq_true rfl) (n := 39) rfl (fun x14 p13 => ?_)
    refine x_cast (x := x14) (cs := [6]) q1512 cst_ForestLegs_Runner dX4_lost_39 (n := 42) rfl ?_
    refine x_sm (fun b15 e => ?_)
    subst e
    refine x_getI fl_X4_72 dX4_lost_42 (n := 45) rfl (fun x16 => ?_)
    refine x_iload_n 2 dX4_lost_45 rfl rfl (n := 46) rfl ?_
    refine x_callV_I [.int x16, .int a2] [.int x10] (f_X4_best_ok hO p13 a0 x16 a2) rc_X4_best md_X4_best rfl q1727 q1728 q1729 dX4_lost_46 rfl rfl (by decide) (Nat.le_of_ble_eq_true rfl) (n := 49) rfl (fun x18 p17 => ?_)
    refine x_isub dX4_lost_49 (n := 50) rfl ?_
    exact x_ireturn dX4_lost_50
  · refine x_bipush (-2) dX4_lost_14 rfl (n := 16) rfl ?_
    refine x_goto dX4_lost_16 (n := 50) (by decide) ?_
    exact x_ireturn dX4_lost_50
abbrev cJ31_init : ByteArray := prog_43_method_1_code
def yJ31_init : MethodName := ⟨RJ31, "<init>", "()V"⟩
theorem dJ31_init_0 : decode cJ31_init 0 = .ok (.aload_n 0, 1) := by decide +kernel
theorem dJ31_init_1 : decode cJ31_init 1 = .ok (.invokespecial 1, 3) := by decide +kernel
theorem dJ31_init_4 : decode cJ31_init 4 = .ok (.return_, 1) := by decide +kernel
theorem md_J31_init : xMd yJ31_init cJ31_init 1 (Option.none : Option Jvm.ClassFile.FieldType) 0 := ⟨q2020, q169, by decide, by decide +kernel, by decide +kernel, by decide +kernel⟩
def f_J31_init (p0 : PH) (a0 : Nat) : Option (xO × PH) :=
  (xcV (f_J0_init p0 a0 ) fun p1 =>
  (rV p1))
theorem f_J31_init_ok {G : xG} (hO : xOK G) (p0 : PH) (a0 : Nat) : CT G 2 yJ31_init cJ31_init 1 (Option.none : Option Jvm.ClassFile.FieldType) [.ref a0] p0 (f_J31_init p0 a0) := by
  refine CT_of hO (by decide +kernel) (by decide +kernel) (Nat.le_of_ble_eq_true rfl) ?_
  show X G "java/util/AbstractQueue" "<init>" cJ31_init 1 (Option.none : Option Jvm.ClassFile.FieldType) 2 0 [(0, .ref a0)] [] p0 (f_J31_init p0 a0)
  refine x_aload_nr 0 dJ31_init_0 rfl rfl (n := 1) rfl ?_
  refine x_callI_V [] [] (f_J0_init_ok hO p0 a0 ) md_J0_init rfl q2021 q194 dJ31_init_1 rfl rfl (by decide) (Nat.le_of_ble_eq_true rfl) (n := 4) rfl (fun p1 => ?_)
  exact x_return dJ31_init_4
abbrev cJ32_init_2 : ByteArray := prog_66_method_4_code
def yJ32_init_2 : MethodName := ⟨RJ32, "<init>", "(ILjava/util/Comparator;)V"⟩
def dkwJ32_init_2_1 : List UInt8 := [181, 0, 17, 42, 44, 181, 0, 21, 177]
abbrev dktJ32_init_2_1 : List UInt8 := dkwJ32_init_2_1 ++ []
def dkwJ32_init_2_0 : List UInt8 := [42, 183, 0, 7, 27, 4, 162, 0, 11, 187, 0, 12, 89, 183, 0, 14, 191, 42, 27, 189, 0, 15]
abbrev dktJ32_init_2_0 : List UInt8 := dkwJ32_init_2_0 ++ dktJ32_init_2_1
theorem dksJ32_init_2_0 : cJ32_init_2.data.toList.drop 0 = dktJ32_init_2_0 := by decide +kernel
theorem dksJ32_init_2_1 : cJ32_init_2.data.toList.drop 22 = dktJ32_init_2_1 := dk_seg dksJ32_init_2_0 22 rfl rfl
theorem dJ32_init_2_0 : decode cJ32_init_2 0 = .ok (.aload_n 0, 1) := dk_42 (dk_at dksJ32_init_2_0 0 rfl rfl)
theorem dJ32_init_2_1 : decode cJ32_init_2 1 = .ok (.invokespecial 7, 3) := dk_183 0 7 (dk_at dksJ32_init_2_0 1 rfl rfl)
theorem dJ32_init_2_4 : decode cJ32_init_2 4 = .ok (.iload_n 1, 1) := dk_27 (dk_at dksJ32_init_2_0 4 rfl rfl)
theorem dJ32_init_2_5 : decode cJ32_init_2 5 = .ok (.iconst 1, 1) := dk_4 (dk_at dksJ32_init_2_0 5 rfl rfl)
theorem dJ32_init_2_6 : decode cJ32_init_2 6 = .ok (.if_icmp .ge 11, 3) := dk_162 0 11 (dk_at dksJ32_init_2_0 6 rfl rfl)
theorem dJ32_init_2_9 : decode cJ32_init_2 9 = .ok (.new 12, 3) := dk_187 0 12 (dk_at dksJ32_init_2_0 9 rfl rfl)
theorem dJ32_init_2_12 : decode cJ32_init_2 12 = .ok (.dup, 1) := dk_89 (dk_at dksJ32_init_2_0 12 rfl rfl)
theorem dJ32_init_2_13 : decode cJ32_init_2 13 = .ok (.invokespecial 14, 3) := dk_183 0 14 (dk_at dksJ32_init_2_0 13 rfl rfl)
theorem dJ32_init_2_16 : decode cJ32_init_2 16 = .ok (.athrow, 1) := dk_191 (dk_at dksJ32_init_2_0 16 rfl rfl)
theorem dJ32_init_2_17 : decode cJ32_init_2 17 = .ok (.aload_n 0, 1) := dk_42 (dk_at dksJ32_init_2_0 17 rfl rfl)
theorem dJ32_init_2_18 : decode cJ32_init_2 18 = .ok (.iload_n 1, 1) := dk_27 (dk_at dksJ32_init_2_0 18 rfl rfl)
theorem dJ32_init_2_19 : decode cJ32_init_2 19 = .ok (.anewarray 15, 3) := dk_189 0 15 (dk_at dksJ32_init_2_0 19 rfl rfl)
theorem dJ32_init_2_22 : decode cJ32_init_2 22 = .ok (.putfield 17, 3) := dk_181 0 17 (dk_at dksJ32_init_2_1 0 rfl rfl)
theorem dJ32_init_2_25 : decode cJ32_init_2 25 = .ok (.aload_n 0, 1) := dk_42 (dk_at dksJ32_init_2_1 3 rfl rfl)
theorem dJ32_init_2_26 : decode cJ32_init_2 26 = .ok (.aload_n 2, 1) := dk_44 (dk_at dksJ32_init_2_1 4 rfl rfl)
theorem dJ32_init_2_27 : decode cJ32_init_2 27 = .ok (.putfield 21, 3) := dk_181 0 21 (dk_at dksJ32_init_2_1 5 rfl rfl)
theorem dJ32_init_2_30 : decode cJ32_init_2 30 = .ok (.return_, 1) := dk_177 (dk_at dksJ32_init_2_1 8 rfl rfl)
theorem md_J32_init_2 : xMd yJ32_init_2 cJ32_init_2 3 (Option.none : Option Jvm.ClassFile.FieldType) 2 := ⟨q2017, q170, by decide, by decide +kernel, by decide +kernel, by decide +kernel⟩
def f_J32_init_2 (p0 : PH) (a0 : Nat) (a1 : Int32) (a2 : Option Nat) : Option (xO × PH) :=
  (xcV (f_J31_init p0 a0 ) fun p1 =>
  (if 1 ≤ a1 then
  (xnaR p1 4 a1 fun b2 p3 =>
  (xpF p3 a0 22 0 (.ref b2) fun p4 =>
  (xpF p4 a0 22 2 (va_rf a2) fun p5 =>
  (rV p5)))) else
  none))
theorem f_J32_init_2_ok {G : xG} (hO : xOK G) (p0 : PH) (a0 : Nat) (a1 : Int32) (a2 : Option Nat) : CT G 3 yJ32_init_2 cJ32_init_2 3 (Option.none : Option Jvm.ClassFile.FieldType) [.ref a0, .int a1, va_rf a2] p0 (f_J32_init_2 p0 a0 a1 a2) := by
  refine CT_of hO (by decide +kernel) (by decide +kernel) (lg_slen _ (by simp only [List.map, xcat]; exact Nat.le_of_ble_eq_true rfl)) ?_
  rw [show lv_args 0 [.ref a0, .int a1, va_rf a2] = [(0, .ref a0), (1, .int a1), (2, va_rf a2)] from by simp only [lv_args, xcat] <;> rfl]
  show X G "java/util/PriorityQueue" "<init>" cJ32_init_2 3 (Option.none : Option Jvm.ClassFile.FieldType) 3 0 [(0, .ref a0), (1, .int a1), (2, va_rf a2)] [] p0 (f_J32_init_2 p0 a0 a1 a2)
  refine x_aload_nr 0 dJ32_init_2_0 rfl rfl (n := 1) rfl ?_
  refine x_callI_V [] [] (f_J31_init_ok hO p0 a0 ) md_J31_init rfl q2018 q2019 dJ32_init_2_1 rfl rfl (by decide) (Nat.le_of_ble_eq_true rfl) (n := 4) rfl (fun p1 => ?_)
  refine x_iload_n 1 dJ32_init_2_4 rfl rfl (n := 5) rfl ?_
  refine x_iconst 1 dJ32_init_2_5 rfl (n := 6) rfl ?_
  refine x_icmp_ge dJ32_init_2_6 (t := 17) (by decide) (n := 9) rfl (fun _ => ?_) (fun _ => ?_)
  · refine x_aload_nr 0 dJ32_init_2_17 rfl rfl (n := 18) rfl ?_
    refine x_iload_n 1 dJ32_init_2_18 rfl rfl (n := 19) rfl ?_
    refine x_anew (t := 4) rfl (by decide) q2022 q199 dJ32_init_2_19 (n := 22) rfl (fun b2 p3 => ?_)
    refine x_pF (pl_J32_17 _ _ (xfit_a (some b2))) dJ32_init_2_22 (n := 25) rfl (fun p4 => ?_)
    refine x_aload_nr 0 dJ32_init_2_25 rfl rfl (n := 26) rfl ?_
    refine x_aload_n 2 dJ32_init_2_26 rfl rfl (n := 27) rfl ?_
    refine x_pF (pl_J32_21 _ (xfit_o (a2))) dJ32_init_2_27 (n := 30) rfl (fun p5 => ?_)
    exact x_return dJ32_init_2_30
  · exact x_no
abbrev cJ32_init : ByteArray := prog_66_method_2_code
def yJ32_init : MethodName := ⟨RJ32, "<init>", "(I)V"⟩
def dkwJ32_init_0 : List UInt8 := [42, 27, 1, 183, 0, 3, 177]
abbrev dktJ32_init_0 : List UInt8 := dkwJ32_init_0 ++ []
theorem dksJ32_init_0 : cJ32_init.data.toList.drop 0 = dktJ32_init_0 := by decide +kernel
theorem dJ32_init_0 : decode cJ32_init 0 = .ok (.aload_n 0, 1) := dk_42 (dk_at dksJ32_init_0 0 rfl rfl)
theorem dJ32_init_1 : decode cJ32_init 1 = .ok (.iload_n 1, 1) := dk_27 (dk_at dksJ32_init_0 1 rfl rfl)
theorem dJ32_init_2 : decode cJ32_init 2 = .ok (.aconst_null, 1) := dk_1 (dk_at dksJ32_init_0 2 rfl rfl)
theorem dJ32_init_3 : decode cJ32_init 3 = .ok (.invokespecial 3, 3) := dk_183 0 3 (dk_at dksJ32_init_0 3 rfl rfl)
theorem dJ32_init_6 : decode cJ32_init 6 = .ok (.return_, 1) := dk_177 (dk_at dksJ32_init_0 6 rfl rfl)
theorem md_J32_init : xMd yJ32_init cJ32_init 2 (Option.none : Option Jvm.ClassFile.FieldType) 1 := ⟨q2014, q170, by decide, by decide +kernel, by decide +kernel, by decide +kernel⟩
def f_J32_init (p0 : PH) (a0 : Nat) (a1 : Int32) : Option (xO × PH) :=
  (xcV (f_J32_init_2 p0 a0 a1 none) fun p1 =>
  (rV p1))
theorem f_J32_init_ok {G : xG} (hO : xOK G) (p0 : PH) (a0 : Nat) (a1 : Int32) : CT G 4 yJ32_init cJ32_init 2 (Option.none : Option Jvm.ClassFile.FieldType) [.ref a0, .int a1] p0 (f_J32_init p0 a0 a1) := by
  refine CT_of hO (by decide +kernel) (by decide +kernel) (Nat.le_of_ble_eq_true rfl) ?_
  show X G "java/util/PriorityQueue" "<init>" cJ32_init 2 (Option.none : Option Jvm.ClassFile.FieldType) 4 0 [(0, .ref a0), (1, .int a1)] [] p0 (f_J32_init p0 a0 a1)
  refine x_aload_nr 0 dJ32_init_0 rfl rfl (n := 1) rfl ?_
  refine x_iload_n 1 dJ32_init_1 rfl rfl (n := 2) rfl ?_
  refine x_null dJ32_init_2 (n := 3) rfl ?_
  refine x_callI_V [.int a1, va_rf none] [] (f_J32_init_2_ok hO p0 a0 a1 none) md_J32_init_2 rfl q2015 q2016 dJ32_init_3 rfl rfl (by decide) (Nat.le_of_ble_eq_true rfl) (n := 6) rfl (fun p1 => ?_)
  exact x_return dJ32_init_6
abbrev cX11_init : ByteArray := prog_8_method_1_code
def yX11_init : MethodName := ⟨RX11, "<init>", "(II)V"⟩
def dkwX11_init_0 : List UInt8 := [42, 183, 0, 1, 42, 27, 181, 0, 7, 42, 28, 181, 0, 13, 177]
abbrev dktX11_init_0 : List UInt8 := dkwX11_init_0 ++ []
theorem dksX11_init_0 : cX11_init.data.toList.drop 0 = dktX11_init_0 := by decide +kernel
theorem dX11_init_0 : decode cX11_init 0 = .ok (.aload_n 0, 1) := dk_42 (dk_at dksX11_init_0 0 rfl rfl)
theorem dX11_init_1 : decode cX11_init 1 = .ok (.invokespecial 1, 3) := dk_183 0 1 (dk_at dksX11_init_0 1 rfl rfl)
theorem dX11_init_4 : decode cX11_init 4 = .ok (.aload_n 0, 1) := dk_42 (dk_at dksX11_init_0 4 rfl rfl)
theorem dX11_init_5 : decode cX11_init 5 = .ok (.iload_n 1, 1) := dk_27 (dk_at dksX11_init_0 5 rfl rfl)
theorem dX11_init_6 : decode cX11_init 6 = .ok (.putfield 7, 3) := dk_181 0 7 (dk_at dksX11_init_0 6 rfl rfl)
theorem dX11_init_9 : decode cX11_init 9 = .ok (.aload_n 0, 1) := dk_42 (dk_at dksX11_init_0 9 rfl rfl)
theorem dX11_init_10 : decode cX11_init 10 = .ok (.iload_n 2, 1) := dk_28 (dk_at dksX11_init_0 10 rfl rfl)
theorem dX11_init_11 : decode cX11_init 11 = .ok (.putfield 13, 3) := dk_181 0 13 (dk_at dksX11_init_0 11 rfl rfl)
theorem dX11_init_14 : decode cX11_init 14 = .ok (.return_, 1) := dk_177 (dk_at dksX11_init_0 14 rfl rfl)
theorem md_X11_init : xMd yX11_init cX11_init 3 (Option.none : Option Jvm.ClassFile.FieldType) 2 := ⟨q2043, q171, by decide, by decide +kernel, by decide +kernel, by decide +kernel⟩
def f_X11_init (p0 : PH) (a0 : Nat) (a1 : Int32) (a2 : Int32) : Option (xO × PH) :=
  (xpF p0 a0 10 0 (.int a1) fun p1 =>
  (xpF p1 a0 10 1 (.int a2) fun p2 =>
  (rV p2)))
theorem f_X11_init_ok {G : xG} (hO : xOK G) (p0 : PH) (a0 : Nat) (a1 : Int32) (a2 : Int32) : CT G 1 yX11_init cX11_init 3 (Option.none : Option Jvm.ClassFile.FieldType) [.ref a0, .int a1, .int a2] p0 (f_X11_init p0 a0 a1 a2) := by
  refine CT_of hO (by decide +kernel) (by decide +kernel) (Nat.le_of_ble_eq_true rfl) ?_
  show X G "ForestLegs$Part" "<init>" cX11_init 3 (Option.none : Option Jvm.ClassFile.FieldType) 1 0 [(0, .ref a0), (1, .int a1), (2, .int a2)] [] p0 (f_X11_init p0 a0 a1 a2)
  refine x_aload_nr 0 dX11_init_0 rfl rfl (n := 1) rfl ?_
  refine x_objInit q2044 q186 q187 dX11_init_1 (by decide) (Nat.le_of_ble_eq_true rfl) (n := 4) rfl ?_
  refine x_aload_nr 0 dX11_init_4 rfl rfl (n := 5) rfl ?_
  refine x_iload_n 1 dX11_init_5 rfl rfl (n := 6) rfl ?_
  refine x_pF (pl_X11_7 _ ⟨rfl, rfl⟩) dX11_init_6 (n := 9) rfl (fun p1 => ?_)
  refine x_aload_nr 0 dX11_init_9 rfl rfl (n := 10) rfl ?_
  refine x_iload_n 2 dX11_init_10 rfl rfl (n := 11) rfl ?_
  refine x_pF (pl_X11_13 _ ⟨rfl, rfl⟩) dX11_init_11 (n := 14) rfl (fun p2 => ?_)
  exact x_return dX11_init_14
abbrev cJ32_grow : ByteArray := prog_66_method_12_code
def yJ32_grow : MethodName := ⟨RJ32, "grow", "(I)V"⟩
def dkwJ32_grow_1 : List UInt8 := [122, 184, 0, 80, 62, 42, 42, 180, 0, 17, 29, 184, 0, 86, 181, 0, 17, 177]
abbrev dktJ32_grow_1 : List UInt8 := dkwJ32_grow_1 ++ []
def dkwJ32_grow_0 : List UInt8 := [42, 180, 0, 17, 190, 61, 28, 27, 28, 100, 28, 16, 64, 162, 0, 9, 28, 5, 96, 167, 0, 6, 28, 4]
abbrev dktJ32_grow_0 : List UInt8 := dkwJ32_grow_0 ++ dktJ32_grow_1
theorem dksJ32_grow_0 : cJ32_grow.data.toList.drop 0 = dktJ32_grow_0 := by decide +kernel
theorem dksJ32_grow_1 : cJ32_grow.data.toList.drop 24 = dktJ32_grow_1 := dk_seg dksJ32_grow_0 24 rfl rfl
theorem dJ32_grow_0 : decode cJ32_grow 0 = .ok (.aload_n 0, 1) := dk_42 (dk_at dksJ32_grow_0 0 rfl rfl)
theorem dJ32_grow_1 : decode cJ32_grow 1 = .ok (.getfield 17, 3) := dk_180 0 17 (dk_at dksJ32_grow_0 1 rfl rfl)
theorem dJ32_grow_4 : decode cJ32_grow 4 = .ok (.arraylength, 1) := dk_190 (dk_at dksJ32_grow_0 4 rfl rfl)
theorem dJ32_grow_5 : decode cJ32_grow 5 = .ok (.istore_n 2, 1) := dk_61 (dk_at dksJ32_grow_0 5 rfl rfl)
theorem dJ32_grow_6 : decode cJ32_grow 6 = .ok (.iload_n 2, 1) := dk_28 (dk_at dksJ32_grow_0 6 rfl rfl)
theorem dJ32_grow_7 : decode cJ32_grow 7 = .ok (.iload_n 1, 1) := dk_27 (dk_at dksJ32_grow_0 7 rfl rfl)
theorem dJ32_grow_8 : decode cJ32_grow 8 = .ok (.iload_n 2, 1) := dk_28 (dk_at dksJ32_grow_0 8 rfl rfl)
theorem dJ32_grow_9 : decode cJ32_grow 9 = .ok (.isub, 1) := dk_100 (dk_at dksJ32_grow_0 9 rfl rfl)
theorem dJ32_grow_10 : decode cJ32_grow 10 = .ok (.iload_n 2, 1) := dk_28 (dk_at dksJ32_grow_0 10 rfl rfl)
theorem dJ32_grow_11 : decode cJ32_grow 11 = .ok (.bipush 64, 2) := dk_16 64 (dk_at dksJ32_grow_0 11 rfl rfl)
theorem dJ32_grow_13 : decode cJ32_grow 13 = .ok (.if_icmp .ge 9, 3) := dk_162 0 9 (dk_at dksJ32_grow_0 13 rfl rfl)
theorem dJ32_grow_16 : decode cJ32_grow 16 = .ok (.iload_n 2, 1) := dk_28 (dk_at dksJ32_grow_0 16 rfl rfl)
theorem dJ32_grow_17 : decode cJ32_grow 17 = .ok (.iconst 2, 1) := dk_5 (dk_at dksJ32_grow_0 17 rfl rfl)
theorem dJ32_grow_18 : decode cJ32_grow 18 = .ok (.iadd, 1) := dk_96 (dk_at dksJ32_grow_0 18 rfl rfl)
theorem dJ32_grow_19 : decode cJ32_grow 19 = .ok (.goto 6, 3) := dk_167 0 6 (dk_at dksJ32_grow_0 19 rfl rfl)
theorem dJ32_grow_22 : decode cJ32_grow 22 = .ok (.iload_n 2, 1) := dk_28 (dk_at dksJ32_grow_0 22 rfl rfl)
theorem dJ32_grow_23 : decode cJ32_grow 23 = .ok (.iconst 1, 1) := dk_4 (dk_at dksJ32_grow_0 23 rfl rfl)
theorem dJ32_grow_24 : decode cJ32_grow 24 = .ok (.ishr, 1) := dk_122 (dk_at dksJ32_grow_1 0 rfl rfl)
theorem dJ32_grow_25 : decode cJ32_grow 25 = .ok (.invokestatic 80, 3) := dk_184 0 80 (dk_at dksJ32_grow_1 1 rfl rfl)
theorem dJ32_grow_28 : decode cJ32_grow 28 = .ok (.istore_n 3, 1) := dk_62 (dk_at dksJ32_grow_1 4 rfl rfl)
theorem dJ32_grow_29 : decode cJ32_grow 29 = .ok (.aload_n 0, 1) := dk_42 (dk_at dksJ32_grow_1 5 rfl rfl)
theorem dJ32_grow_30 : decode cJ32_grow 30 = .ok (.aload_n 0, 1) := dk_42 (dk_at dksJ32_grow_1 6 rfl rfl)
theorem dJ32_grow_31 : decode cJ32_grow 31 = .ok (.getfield 17, 3) := dk_180 0 17 (dk_at dksJ32_grow_1 7 rfl rfl)
theorem dJ32_grow_34 : decode cJ32_grow 34 = .ok (.iload_n 3, 1) := dk_29 (dk_at dksJ32_grow_1 10 rfl rfl)
theorem dJ32_grow_35 : decode cJ32_grow 35 = .ok (.invokestatic 86, 3) := dk_184 0 86 (dk_at dksJ32_grow_1 11 rfl rfl)
theorem dJ32_grow_38 : decode cJ32_grow 38 = .ok (.putfield 17, 3) := dk_181 0 17 (dk_at dksJ32_grow_1 14 rfl rfl)
theorem dJ32_grow_41 : decode cJ32_grow 41 = .ok (.return_, 1) := dk_177 (dk_at dksJ32_grow_1 17 rfl rfl)
theorem md_J32_grow : xMd yJ32_grow cJ32_grow 4 (Option.none : Option Jvm.ClassFile.FieldType) 1 := ⟨q2065, q170, by decide, by decide +kernel, by decide +kernel, by decide +kernel⟩
def f_J32_grow_25 (a0 : Nat)  (w0 : Int32) (w1 : Int32) (w2 : Int32) (p0 : PH) : Option (xO × PH) :=
  (xcI (f_J16_newLength p0 w0 w1 w2) fun x5 p4 =>
  (xgR p4 a0 22 0 fun x6 =>
  (xcR (f_J17_copyOf_2 p4 x6 x5) fun x8 p7 =>
  (xpF p7 a0 22 0 (va_rf x8) fun p9 =>
  (rV p9)))))
def f_J32_grow (p0 : PH) (a0 : Nat) (a1 : Int32) : Option (xO × PH) :=
  (xcl1 p0 a0 22 (xgR p0 a0 22 0 fun x1 =>
  (xnul x1 none fun b2 =>
  (xlen p0 b2 fun x3 =>
  (if 64 ≤ x3 then
  (f_J32_grow_25 a0 x3 (a1 - x3) (x3 >>> (1 &&& 31)) p0) else
  (f_J32_grow_25 a0 x3 (a1 - x3) (x3 + 2) p0))))))
theorem rc_J32_grow {p0 : PH} {a0 : Nat} {a1 : Int32} : ∀ z, f_J32_grow p0 a0 a1 = some z → xco p0 a0 = some 22 := fun z h => xcl1_some h
theorem f_J32_grow_25_ok {G : xG} (hO : xOK G) (a0 : Nat)  (w0 : Int32) (w1 : Int32) (w2 : Int32) (p0 : PH) : X G "java/util/PriorityQueue" "grow" cJ32_grow 4 (Option.none : Option Jvm.ClassFile.FieldType) 3 25 [(0, .ref a0)] [.int w2, .int w1, .int w0] p0 (f_J32_grow_25 a0 w0 w1 w2 p0) := by
  unfold f_J32_grow_25
  refine x_callS_I [.int w0, .int w1, .int w2] [] (f_J16_newLength_ok hO p0 w0 w1 w2) md_J16_newLength q2066 q619 dJ32_grow_25 rfl rfl (by decide) (Nat.le_of_ble_eq_true rfl) (n := 28) rfl (fun x5 p4 => ?_)
  refine x_istore_n [(3, .int x5), (0, .ref a0)] dJ32_grow_28 rfl (by decide) rfl (n := 29) rfl ?_
  refine x_aload_nr 1 dJ32_grow_29 rfl rfl (n := 30) rfl ?_
  refine x_aload_nr 1 dJ32_grow_30 rfl rfl (n := 31) rfl ?_
  refine x_getR fl_J32_17 dJ32_grow_31 (n := 34) rfl (fun x6 => ?_)
  refine x_iload_n 0 dJ32_grow_34 rfl rfl (n := 35) rfl ?_
  refine x_callS_R [va_rf x6, .int x5] [.ref a0] (f_J17_copyOf_2_ok hO p4 x6 x5) md_J17_copyOf_2 q2067 q1256 dJ32_grow_35 rfl rfl (by decide) (Nat.le_of_ble_eq_true rfl) (n := 38) rfl (fun x8 p7 => ?_)
  refine x_pF (pl_J32_17 _ _ (xfit_a (x8))) dJ32_grow_38 (n := 41) rfl (fun p9 => ?_)
  exact x_return dJ32_grow_41
theorem f_J32_grow_ok {G : xG} (hO : xOK G) (p0 : PH) (a0 : Nat) (a1 : Int32) : CT G 3 yJ32_grow cJ32_grow 4 (Option.none : Option Jvm.ClassFile.FieldType) [.ref a0, .int a1] p0 (f_J32_grow p0 a0 a1) := by
  refine CT_of hO (by decide +kernel) (by decide +kernel) (Nat.le_of_ble_eq_true rfl) ?_
  show X G "java/util/PriorityQueue" "grow" cJ32_grow 4 (Option.none : Option Jvm.ClassFile.FieldType) 3 0 [(0, .ref a0), (1, .int a1)] [] p0 (f_J32_grow p0 a0 a1)
  refine x_cl1 (fun e0 => ?_)
  refine x_aload_nr 0 dJ32_grow_0 rfl rfl (n := 1) rfl ?_
  refine x_getR fl_J32_17 dJ32_grow_1 (n := 4) rfl (fun x1 => ?_)
  refine x_sm (fun b2 e => ?_)
  subst e
  refine x_alen dJ32_grow_4 (n := 5) rfl (fun x3 => ?_)
  refine x_istore_n [(2, .int x3), (0, .ref a0), (1, .int a1)] dJ32_grow_5 rfl (by decide) rfl (n := 6) rfl ?_
  refine x_iload_n 0 dJ32_grow_6 rfl rfl (n := 7) rfl ?_
  refine x_iload_n 2 dJ32_grow_7 rfl rfl (n := 8) rfl ?_
  refine x_iload_n 0 dJ32_grow_8 rfl rfl (n := 9) rfl ?_
  refine x_isub dJ32_grow_9 (n := 10) rfl ?_
  refine x_iload_n 0 dJ32_grow_10 rfl rfl (n := 11) rfl ?_
  refine x_bipush 64 dJ32_grow_11 rfl (n := 13) rfl ?_
  refine x_icmp_ge dJ32_grow_13 (t := 22) (by decide) (n := 16) rfl (fun _ => ?_) (fun _ => ?_)
  · refine x_iload_n 0 dJ32_grow_22 rfl rfl (n := 23) rfl ?_
    refine x_iconst 1 dJ32_grow_23 rfl (n := 24) rfl ?_
    refine x_ishr dJ32_grow_24 (n := 25) rfl ?_
    refine x_sub [1] [(0, .ref a0)] rfl ?_
    exact f_J32_grow_25_ok hO a0 x3 (a1 - x3) (x3 >>> (1 &&& 31)) p0
  · refine x_iload_n 0 dJ32_grow_16 rfl rfl (n := 17) rfl ?_
    refine x_iconst 2 dJ32_grow_17 rfl (n := 18) rfl ?_
    refine x_iadd dJ32_grow_18 (n := 19) rfl ?_
    refine x_goto dJ32_grow_19 (n := 25) (by decide) ?_
    refine x_sub [1] [(0, .ref a0)] rfl ?_
    exact f_J32_grow_25_ok hO a0 x3 (a1 - x3) (x3 + 2) p0
abbrev cJ32_siftUpComparable : ByteArray := prog_66_method_28_code
def yJ32_siftUpComparable : MethodName := ⟨RJ32, "siftUpComparable", "(ILjava/lang/Object;[Ljava/lang/Object;)V"⟩
def dkwJ32_siftUpComparable_2 : List UInt8 := [44, 26, 45, 83, 177]
abbrev dktJ32_siftUpComparable_2 : List UInt8 := dkwJ32_siftUpComparable_2 ++ []
def dkwJ32_siftUpComparable_1 : List UInt8 := [25, 5, 185, 0, 146, 2, 0, 155, 0, 6, 167, 0, 14, 44, 26, 25, 5, 83, 21, 4, 59, 167, 255, 217]
abbrev dktJ32_siftUpComparable_1 : List UInt8 := dkwJ32_siftUpComparable_1 ++ dktJ32_siftUpComparable_2
def dkwJ32_siftUpComparable_0 : List UInt8 := [43, 192, 0, 144, 78, 26, 158, 0, 41, 26, 4, 100, 4, 124, 54, 4, 44, 21, 4, 50, 58, 5, 45]
abbrev dktJ32_siftUpComparable_0 : List UInt8 := dkwJ32_siftUpComparable_0 ++ dktJ32_siftUpComparable_1
theorem dksJ32_siftUpComparable_0 : cJ32_siftUpComparable.data.toList.drop 0 = dktJ32_siftUpComparable_0 := by decide +kernel
theorem dksJ32_siftUpComparable_1 : cJ32_siftUpComparable.data.toList.drop 23 = dktJ32_siftUpComparable_1 := dk_seg dksJ32_siftUpComparable_0 23 rfl rfl
theorem dksJ32_siftUpComparable_2 : cJ32_siftUpComparable.data.toList.drop 47 = dktJ32_siftUpComparable_2 := dk_seg dksJ32_siftUpComparable_1 24 rfl rfl
theorem dJ32_siftUpComparable_0 : decode cJ32_siftUpComparable 0 = .ok (.aload_n 1, 1) := dk_43 (dk_at dksJ32_siftUpComparable_0 0 rfl rfl)
theorem dJ32_siftUpComparable_1 : decode cJ32_siftUpComparable 1 = .ok (.checkcast 144, 3) := dk_192 0 144 (dk_at dksJ32_siftUpComparable_0 1 rfl rfl)
theorem dJ32_siftUpComparable_4 : decode cJ32_siftUpComparable 4 = .ok (.astore_n 3, 1) := dk_78 (dk_at dksJ32_siftUpComparable_0 4 rfl rfl)
theorem dJ32_siftUpComparable_5 : decode cJ32_siftUpComparable 5 = .ok (.iload_n 0, 1) := dk_26 (dk_at dksJ32_siftUpComparable_0 5 rfl rfl)
theorem dJ32_siftUpComparable_6 : decode cJ32_siftUpComparable 6 = .ok (.ifCond .le 41, 3) := dk_158 0 41 (dk_at dksJ32_siftUpComparable_0 6 rfl rfl)
theorem dJ32_siftUpComparable_9 : decode cJ32_siftUpComparable 9 = .ok (.iload_n 0, 1) := dk_26 (dk_at dksJ32_siftUpComparable_0 9 rfl rfl)
theorem dJ32_siftUpComparable_10 : decode cJ32_siftUpComparable 10 = .ok (.iconst 1, 1) := dk_4 (dk_at dksJ32_siftUpComparable_0 10 rfl rfl)
theorem dJ32_siftUpComparable_11 : decode cJ32_siftUpComparable 11 = .ok (.isub, 1) := dk_100 (dk_at dksJ32_siftUpComparable_0 11 rfl rfl)
theorem dJ32_siftUpComparable_12 : decode cJ32_siftUpComparable 12 = .ok (.iconst 1, 1) := dk_4 (dk_at dksJ32_siftUpComparable_0 12 rfl rfl)
theorem dJ32_siftUpComparable_13 : decode cJ32_siftUpComparable 13 = .ok (.iushr, 1) := dk_124 (dk_at dksJ32_siftUpComparable_0 13 rfl rfl)
theorem dJ32_siftUpComparable_14 : decode cJ32_siftUpComparable 14 = .ok (.istore 4, 2) := dk_54 4 (dk_at dksJ32_siftUpComparable_0 14 rfl rfl)
theorem dJ32_siftUpComparable_16 : decode cJ32_siftUpComparable 16 = .ok (.aload_n 2, 1) := dk_44 (dk_at dksJ32_siftUpComparable_0 16 rfl rfl)
theorem dJ32_siftUpComparable_17 : decode cJ32_siftUpComparable 17 = .ok (.iload 4, 2) := dk_21 4 (dk_at dksJ32_siftUpComparable_0 17 rfl rfl)
theorem dJ32_siftUpComparable_19 : decode cJ32_siftUpComparable 19 = .ok (.aaload, 1) := dk_50 (dk_at dksJ32_siftUpComparable_0 19 rfl rfl)
theorem dJ32_siftUpComparable_20 : decode cJ32_siftUpComparable 20 = .ok (.astore 5, 2) := dk_58 5 (dk_at dksJ32_siftUpComparable_0 20 rfl rfl)
theorem dJ32_siftUpComparable_22 : decode cJ32_siftUpComparable 22 = .ok (.aload_n 3, 1) := dk_45 (dk_at dksJ32_siftUpComparable_0 22 rfl rfl)
theorem dJ32_siftUpComparable_23 : decode cJ32_siftUpComparable 23 = .ok (.aload 5, 2) := dk_25 5 (dk_at dksJ32_siftUpComparable_1 0 rfl rfl)
theorem dJ32_siftUpComparable_25 : decode cJ32_siftUpComparable 25 = .ok (.invokeinterface 146 2, 5) := by decide +kernel
theorem dJ32_siftUpComparable_30 : decode cJ32_siftUpComparable 30 = .ok (.ifCond .lt 6, 3) := dk_155 0 6 (dk_at dksJ32_siftUpComparable_1 7 rfl rfl)
theorem dJ32_siftUpComparable_33 : decode cJ32_siftUpComparable 33 = .ok (.goto 14, 3) := dk_167 0 14 (dk_at dksJ32_siftUpComparable_1 10 rfl rfl)
theorem dJ32_siftUpComparable_36 : decode cJ32_siftUpComparable 36 = .ok (.aload_n 2, 1) := dk_44 (dk_at dksJ32_siftUpComparable_1 13 rfl rfl)
theorem dJ32_siftUpComparable_37 : decode cJ32_siftUpComparable 37 = .ok (.iload_n 0, 1) := dk_26 (dk_at dksJ32_siftUpComparable_1 14 rfl rfl)
theorem dJ32_siftUpComparable_38 : decode cJ32_siftUpComparable 38 = .ok (.aload 5, 2) := dk_25 5 (dk_at dksJ32_siftUpComparable_1 15 rfl rfl)
theorem dJ32_siftUpComparable_40 : decode cJ32_siftUpComparable 40 = .ok (.aastore, 1) := dk_83 (dk_at dksJ32_siftUpComparable_1 17 rfl rfl)
theorem dJ32_siftUpComparable_41 : decode cJ32_siftUpComparable 41 = .ok (.iload 4, 2) := dk_21 4 (dk_at dksJ32_siftUpComparable_1 18 rfl rfl)
theorem dJ32_siftUpComparable_43 : decode cJ32_siftUpComparable 43 = .ok (.istore_n 0, 1) := dk_59 (dk_at dksJ32_siftUpComparable_1 20 rfl rfl)
theorem dJ32_siftUpComparable_44 : decode cJ32_siftUpComparable 44 = .ok (.goto (-39), 3) := dk_167 255 217 (dk_at dksJ32_siftUpComparable_1 21 rfl rfl)
theorem dJ32_siftUpComparable_47 : decode cJ32_siftUpComparable 47 = .ok (.aload_n 2, 1) := dk_44 (dk_at dksJ32_siftUpComparable_2 0 rfl rfl)
theorem dJ32_siftUpComparable_48 : decode cJ32_siftUpComparable 48 = .ok (.iload_n 0, 1) := dk_26 (dk_at dksJ32_siftUpComparable_2 1 rfl rfl)
theorem dJ32_siftUpComparable_49 : decode cJ32_siftUpComparable 49 = .ok (.aload_n 3, 1) := dk_45 (dk_at dksJ32_siftUpComparable_2 2 rfl rfl)
theorem dJ32_siftUpComparable_50 : decode cJ32_siftUpComparable 50 = .ok (.aastore, 1) := dk_83 (dk_at dksJ32_siftUpComparable_2 3 rfl rfl)
theorem dJ32_siftUpComparable_51 : decode cJ32_siftUpComparable 51 = .ok (.return_, 1) := dk_177 (dk_at dksJ32_siftUpComparable_2 4 rfl rfl)
theorem md_J32_siftUpComparable : xMd yJ32_siftUpComparable cJ32_siftUpComparable 6 (Option.none : Option Jvm.ClassFile.FieldType) 3 := ⟨q2079, q170, by decide, by decide +kernel, by decide +kernel, by decide +kernel⟩
def f_J32_siftUpComparable_47   (v0 : Int32) (v2 : Option Nat) (v3 : Option Nat) (p0 : PH) : Option (xO × PH) :=
  (xnul v2 none fun b1 =>
  (xsR p0 b1 4 v0 (v3) fun p2 =>
  (rV p2)))
def f_J32_siftUpComparable_5F   (k5 : Int32 × Option Nat × Option Nat × PH → Option (xO × PH)) (p : Int32 × Option Nat × Option Nat × PH) : Option (xO × PH) := match p with
  | (v0, v2, v3, p0) => (if v0 ≤ 0 then
  (f_J32_siftUpComparable_47 v0 v2 v3 p0) else
  (bnd (((v0 - 1).toUInt32 >>> ((1 : Int32).toUInt32 &&& Int32.toUInt32 31)).toInt32) fun x3 =>
  (xnul v2 none fun b4 =>
  (xaR p0 b4 4 x3 fun x5 =>
  (xnul v3 none fun b6 =>
  (xsw p0 b6 fun c8 =>
  (if c8 = 10 then
  (xcI (f_X11_compareTo p0 b6 x5) fun x11 p10 =>
  (if x11 < 0 then
  (xsR p10 b4 4 v0 (x5) fun p12 =>
  (k5 (x3, ((some b4)), ((some b6)), p12))) else
  (f_J32_siftUpComparable_47 v0 ((some b4)) ((some b6)) p10))) else
  (if c8 = 16 then
  (xcI (f_J6_compareTo p0 b6 x5) fun x14 p13 =>
  (if x14 < 0 then
  (xsR p13 b4 4 v0 (x5) fun p15 =>
  (k5 (x3, ((some b4)), ((some b6)), p15))) else
  (f_J32_siftUpComparable_47 v0 ((some b4)) ((some b6)) p13))) else
  (if c8 = 18 then
  (xcI (f_J19_compareTo p0 b6 x5) fun x17 p16 =>
  (if x17 < 0 then
  (xsR p16 b4 4 v0 (x5) fun p18 =>
  (k5 (x3, ((some b4)), ((some b6)), p18))) else
  (f_J32_siftUpComparable_47 v0 ((some b4)) ((some b6)) p16))) else
  none)))))))))
def f_J32_siftUpComparable (p0 : PH) (a0 : Int32) (a1 : Option Nat) (a2 : Option Nat) : Option (xO × PH) :=
  (xcst p0 (a1) [16, 18, 10]
  (lp (f_J32_siftUpComparable_5F) FU (a0, a2, a1, p0)))
theorem f_J32_siftUpComparable_47_ok {G : xG} (hO : xOK G)   (v0 : Int32) (v2 : Option Nat) (v3 : Option Nat) (p0 : PH) : X G "java/util/PriorityQueue" "siftUpComparable" cJ32_siftUpComparable 6 (Option.none : Option Jvm.ClassFile.FieldType) 5 47 [(0, .int v0), (2, va_rf v2), (3, va_rf v3)] [] p0 (f_J32_siftUpComparable_47 v0 v2 v3 p0) := by
  unfold f_J32_siftUpComparable_47
  refine x_aload_n 1 dJ32_siftUpComparable_47 rfl rfl (n := 48) rfl ?_
  refine x_iload_n 0 dJ32_siftUpComparable_48 rfl rfl (n := 49) rfl ?_
  refine x_aload_n 2 dJ32_siftUpComparable_49 rfl rfl (n := 50) rfl ?_
  refine x_sm (fun b1 e => ?_)
  subst e
  refine x_aast (t := 4) (x := v3) rfl (by decide) dJ32_siftUpComparable_50 (n := 51) rfl (fun p2 => ?_)
  exact x_return dJ32_siftUpComparable_51
theorem f_J32_siftUpComparable_5F_ok {G : xG} (hO : xOK G)   {k5 : Int32 × Option Nat × Option Nat × PH → Option (xO × PH)} (hk5 : ∀ (v0 : Int32) (v2 : Option Nat) (v3 : Option Nat) (p0 : PH), X G "java/util/PriorityQueue" "siftUpComparable" cJ32_siftUpComparable 6 (Option.none : Option Jvm.ClassFile.FieldType) 5 5 [(0, .int v0), (2, va_rf v2), (3, va_rf v3)] [] p0 (k5 (v0, v2, v3, p0))) (v0 : Int32) (v2 : Option Nat) (v3 : Option Nat) (p0 : PH) : X G "java/util/PriorityQueue" "siftUpComparable" cJ32_siftUpComparable 6 (Option.none : Option Jvm.ClassFile.FieldType) 5 5 [(0, .int v0), (2, va_rf v2), (3, va_rf v3)] [] p0 (f_J32_siftUpComparable_5F k5 (v0, v2, v3, p0)) := by
  unfold f_J32_siftUpComparable_5F
  refine x_iload_n 0 dJ32_siftUpComparable_5 rfl rfl (n := 6) rfl ?_
  refine x_if_le dJ32_siftUpComparable_6 (t := 47) (by decide) (n := 9) rfl (fun _ => ?_) (fun _ => ?_)
  · exact f_J32_siftUpComparable_47_ok hO v0 v2 v3 p0
  · refine x_iload_n 0 dJ32_siftUpComparable_9 rfl rfl (n := 10) rfl ?_
    refine x_iconst 1 dJ32_siftUpComparable_10 rfl (n := 11) rfl ?_
    refine x_isub dJ32_siftUpComparable_11 (n := 12) rfl ?_
    refine x_iconst 1 dJ32_siftUpComparable_12 rfl (n := 13) rfl ?_
    refine x_iushr dJ32_siftUpComparable_13 (n := 14) rfl ?_
    refine x_nm (fun x3 => ?_)
    refine x_istore [(4, .int x3), (0, .int v0), (2, va_rf v2), (3, va_rf v3)] dJ32_siftUpComparable_14 (by decide) (by simp only [xst, List.filter_cons, List.filter_nil, xcat] <;> rfl) (n := 16) rfl ?_
    refine x_aload_n 2 dJ32_siftUpComparable_16 rfl rfl (n := 17) rfl ?_
    refine x_iload 0 dJ32_siftUpComparable_17 rfl (n := 19) rfl ?_
    refine x_sm (fun b4 e => ?_)
    subst e
    refine x_aald (t := 4) rfl rfl dJ32_siftUpComparable_19 (n := 20) rfl (fun x5 => ?_)
    refine x_astore [(5, va_rf x5), (4, .int x3), (0, .int v0), (2, .ref b4), (3, va_rf v3)] dJ32_siftUpComparable_20 (by decide) rfl (n := 22) rfl ?_
    refine x_aload_n 4 dJ32_siftUpComparable_22 rfl rfl (n := 23) rfl ?_
    refine x_aload 0 dJ32_siftUpComparable_23 rfl (n := 25) rfl ?_
    refine x_sm (fun b6 e => ?_)
    subst e
    refine x_sw (fun c8 e => ?_)
    refine x_ite (fun h => ?_) (fun _ => ?_)
    · subst h
      refine x_callF_I [va_rf x5] [] (f_X11_compareTo_ok hO p0 b6 x5) rc_X11_compareTo md_X11_compareTo rfl q2082 fc_ForestLegs_Part_java_lang_Comparable_compareTo_1_Ljaval dJ32_siftUpComparable_25 rfl rfl (by decide) (Nat.le_of_ble_eq_true rfl) (n := 30) rfl (fun x11 p10 => ?_)
      refine x_if_lt dJ32_siftUpComparable_30 (t := 36) (by decide) (n := 33) rfl (fun _ => ?_) (fun _ => ?_)
      · refine x_aload_nr 3 dJ32_siftUpComparable_36 rfl rfl (n := 37) rfl ?_
        refine x_iload_n 2 dJ32_siftUpComparable_37 rfl rfl (n := 38) rfl ?_
        refine x_aload 0 dJ32_siftUpComparable_38 rfl (n := 40) rfl ?_
        refine x_aast (t := 4) (x := x5) rfl (by decide) dJ32_siftUpComparable_40 (n := 41) rfl (fun p12 => ?_)
        refine x_iload 1 dJ32_siftUpComparable_41 rfl (n := 43) rfl ?_
        refine x_istore_n [(0, .int x3), (5, va_rf x5), (4, .int x3), (2, .ref b4), (3, .ref b6)] dJ32_siftUpComparable_43 rfl (by decide) rfl (n := 44) rfl ?_
        refine x_goto dJ32_siftUpComparable_44 (n := 5) (by decide) ?_
        refine x_sub [0, 3, 4] [(0, .int x3), (2, .ref b4), (3, .ref b6)] rfl ?_
        exact hk5 x3 ((some b4)) ((some b6)) p12
      · refine x_goto dJ32_siftUpComparable_33 (n := 47) (by decide) ?_
        refine x_sub [2, 3, 4] [(0, .int v0), (2, .ref b4), (3, .ref b6)] rfl ?_
        exact f_J32_siftUpComparable_47_ok hO v0 ((some b4)) ((some b6)) p10
    refine x_ite (fun h => ?_) (fun _ => ?_)
    · subst h
      refine x_callF_I [va_rf x5] [] (f_J6_compareTo_ok hO p0 b6 x5) rc_J6_compareTo md_J6_compareTo rfl q2082 fc_java_lang_String_java_lang_Comparable_compareTo_1_Ljaval dJ32_siftUpComparable_25 rfl rfl (by decide) (Nat.le_of_ble_eq_true rfl) (n := 30) rfl (fun x14 p13 => ?_)
      refine x_if_lt dJ32_siftUpComparable_30 (t := 36) (by decide) (n := 33) rfl (fun _ => ?_) (fun _ => ?_)
      · refine x_aload_nr 3 dJ32_siftUpComparable_36 rfl rfl (n := 37) rfl ?_
        refine x_iload_n 2 dJ32_siftUpComparable_37 rfl rfl (n := 38) rfl ?_
        refine x_aload 0 dJ32_siftUpComparable_38 rfl (n := 40) rfl ?_
        refine x_aast (t := 4) (x := x5) rfl (by decide) dJ32_siftUpComparable_40 (n := 41) rfl (fun p15 => ?_)
        refine x_iload 1 dJ32_siftUpComparable_41 rfl (n := 43) rfl ?_
        refine x_istore_n [(0, .int x3), (5, va_rf x5), (4, .int x3), (2, .ref b4), (3, .ref b6)] dJ32_siftUpComparable_43 rfl (by decide) rfl (n := 44) rfl ?_
        refine x_goto dJ32_siftUpComparable_44 (n := 5) (by decide) ?_
        refine x_sub [0, 3, 4] [(0, .int x3), (2, .ref b4), (3, .ref b6)] rfl ?_
        exact hk5 x3 ((some b4)) ((some b6)) p15
      · refine x_goto dJ32_siftUpComparable_33 (n := 47) (by decide) ?_
        refine x_sub [2, 3, 4] [(0, .int v0), (2, .ref b4), (3, .ref b6)] rfl ?_
        exact f_J32_siftUpComparable_47_ok hO v0 ((some b4)) ((some b6)) p13
    refine x_ite (fun h => ?_) (fun _ => ?_)
    · subst h
      refine x_callF_I [va_rf x5] [] (f_J19_compareTo_ok hO p0 b6 x5) rc_J19_compareTo md_J19_compareTo rfl q2082 fc_java_lang_Integer_java_lang_Comparable_compareTo_1_Ljaval dJ32_siftUpComparable_25 rfl rfl (by decide) (Nat.le_of_ble_eq_true rfl) (n := 30) rfl (fun x17 p16 => ?_)
      refine x_if_lt dJ32_siftUpComparable_30 (t := 36) (by decide) (n := 33) rfl (fun _ => ?_) (fun _ => ?_)
      · refine x_aload_nr 3 dJ32_siftUpComparable_36 rfl rfl (n := 37) rfl ?_
        refine x_iload_n 2 dJ32_siftUpComparable_37 rfl rfl (n := 38) rfl ?_
        refine x_aload 0 dJ32_siftUpComparable_38 rfl (n := 40) rfl ?_
        refine x_aast (t := 4) (x := x5) rfl (by decide) dJ32_siftUpComparable_40 (n := 41) rfl (fun p18 => ?_)
        refine x_iload 1 dJ32_siftUpComparable_41 rfl (n := 43) rfl ?_
        refine x_istore_n [(0, .int x3), (5, va_rf x5), (4, .int x3), (2, .ref b4), (3, .ref b6)] dJ32_siftUpComparable_43 rfl (by decide) rfl (n := 44) rfl ?_
        refine x_goto dJ32_siftUpComparable_44 (n := 5) (by decide) ?_
        refine x_sub [0, 3, 4] [(0, .int x3), (2, .ref b4), (3, .ref b6)] rfl ?_
        exact hk5 x3 ((some b4)) ((some b6)) p18
      · refine x_goto dJ32_siftUpComparable_33 (n := 47) (by decide) ?_
        refine x_sub [2, 3, 4] [(0, .int v0), (2, .ref b4), (3, .ref b6)] rfl ?_
        exact f_J32_siftUpComparable_47_ok hO v0 ((some b4)) ((some b6)) p16
    exact x_no
theorem f_J32_siftUpComparable_5_lp {G : xG} (hO : xOK G)   (n : Nat) (v0 : Int32) (v2 : Option Nat) (v3 : Option Nat) (p0 : PH) : X G "java/util/PriorityQueue" "siftUpComparable" cJ32_siftUpComparable 6 (Option.none : Option Jvm.ClassFile.FieldType) 5 5 [(0, .int v0), (2, va_rf v2), (3, va_rf v3)] [] p0 (lp (f_J32_siftUpComparable_5F) n (v0, v2, v3, p0)) :=
  lp_ok (W := fun p K => X G "java/util/PriorityQueue" "siftUpComparable" cJ32_siftUpComparable 6 (Option.none : Option Jvm.ClassFile.FieldType) 5 5 [(0, .int p.1), (2, va_rf p.2.1), (3, va_rf p.2.2.1)] [] p.2.2.2 K) (fun _ => x_no) (fun k hk => fun (v0, v2, v3, p0) => f_J32_siftUpComparable_5F_ok hO (fun v0 v2 v3 p0 => hk (v0, v2, v3, p0)) v0 v2 v3 p0) n (v0, v2, v3, p0)
theorem f_J32_siftUpComparable_ok {G : xG} (hO : xOK G) (p0 : PH) (a0 : Int32) (a1 : Option Nat) (a2 : Option Nat) : CT G 5 yJ32_siftUpComparable cJ32_siftUpComparable 6 (Option.none : Option Jvm.ClassFile.FieldType) [.int a0, va_rf a1, va_rf a2] p0 (f_J32_siftUpComparable p0 a0 a1 a2) := by
  refine CT_of hO (by decide +kernel) (by decide +kernel) (lg_slen _ (by simp only [List.map, xcat]; exact Nat.le_of_ble_eq_true rfl)) ?_
  rw [show lv_args 0 [.int a0, va_rf a1, va_rf a2] = [(0, .int a0), (1, va_rf a1), (2, va_rf a2)] from by simp only [lv_args, xcat] <;> rfl]
  show X G "java/util/PriorityQueue" "siftUpComparable" cJ32_siftUpComparable 6 (Option.none : Option Jvm.ClassFile.FieldType) 5 0 [(0, .int a0), (1, va_rf a1), (2, va_rf a2)] [] p0 (f_J32_siftUpComparable p0 a0 a1 a2)
  refine x_aload_n 1 dJ32_siftUpComparable_0 rfl rfl (n := 1) rfl ?_
  refine x_cast (x := a1) (cs := [16, 18, 10]) q2080 cst_java_lang_Comparable dJ32_siftUpComparable_1 (n := 4) rfl ?_
  refine x_astore_n [(3, va_rf a1), (0, .int a0), (1, va_rf a1), (2, va_rf a2)] dJ32_siftUpComparable_4 rfl (by decide) (by simp only [xst, List.filter_cons, List.filter_nil, xcat] <;> rfl) (n := 5) rfl ?_
  refine x_sub [1, 3, 0] [(0, .int a0), (2, va_rf a2), (3, va_rf a1)] rfl ?_
  exact f_J32_siftUpComparable_5_lp hO FU a0 a2 a1 p0
abbrev cJ32_siftUp : ByteArray := prog_66_method_27_code
def yJ32_siftUp : MethodName := ⟨RJ32, "siftUp", "(ILjava/lang/Object;)V"⟩
def dkwJ32_siftUp_1 : List UInt8 := [44, 42, 180, 0, 17, 184, 0, 140, 177]
abbrev dktJ32_siftUp_1 : List UInt8 := dkwJ32_siftUp_1 ++ []
def dkwJ32_siftUp_0 : List UInt8 := [42, 180, 0, 21, 198, 0, 19, 27, 44, 42, 180, 0, 17, 42, 180, 0, 21, 184, 0, 136, 167, 0, 12, 27]
abbrev dktJ32_siftUp_0 : List UInt8 := dkwJ32_siftUp_0 ++ dktJ32_siftUp_1
theorem dksJ32_siftUp_0 : cJ32_siftUp.data.toList.drop 0 = dktJ32_siftUp_0 := by decide +kernel
theorem dksJ32_siftUp_1 : cJ32_siftUp.data.toList.drop 24 = dktJ32_siftUp_1 := dk_seg dksJ32_siftUp_0 24 rfl rfl
theorem dJ32_siftUp_0 : decode cJ32_siftUp 0 = .ok (.aload_n 0, 1) := dk_42 (dk_at dksJ32_siftUp_0 0 rfl rfl)
theorem dJ32_siftUp_1 : decode cJ32_siftUp 1 = .ok (.getfield 21, 3) := dk_180 0 21 (dk_at dksJ32_siftUp_0 1 rfl rfl)
theorem dJ32_siftUp_4 : decode cJ32_siftUp 4 = .ok (.ifnull 19, 3) := dk_198 0 19 (dk_at dksJ32_siftUp_0 4 rfl rfl)
theorem dJ32_siftUp_7 : decode cJ32_siftUp 7 = .ok (.iload_n 1, 1) := dk_27 (dk_at dksJ32_siftUp_0 7 rfl rfl)
theorem dJ32_siftUp_8 : decode cJ32_siftUp 8 = .ok (.aload_n 2, 1) := dk_44 (dk_at dksJ32_siftUp_0 8 rfl rfl)
theorem dJ32_siftUp_9 : decode cJ32_siftUp 9 = .ok (.aload_n 0, 1) := dk_42 (dk_at dksJ32_siftUp_0 9 rfl rfl)
theorem dJ32_siftUp_10 : decode cJ32_siftUp 10 = .ok (.getfield 17, 3) := dk_180 0 17 (dk_at dksJ32_siftUp_0 10 rfl rfl)
theorem dJ32_siftUp_13 : decode cJ32_siftUp 13 = .ok (.aload_n 0, 1) := dk_42 (dk_at dksJ32_siftUp_0 13 rfl rfl)
theorem dJ32_siftUp_14 : decode cJ32_siftUp 14 = .ok (.getfield 21, 3) := dk_180 0 21 (dk_at dksJ32_siftUp_0 14 rfl rfl)
theorem dJ32_siftUp_17 : decode cJ32_siftUp 17 = .ok (.invokestatic 136, 3) := dk_184 0 136 (dk_at dksJ32_siftUp_0 17 rfl rfl)
theorem dJ32_siftUp_20 : decode cJ32_siftUp 20 = .ok (.goto 12, 3) := dk_167 0 12 (dk_at dksJ32_siftUp_0 20 rfl rfl)
theorem dJ32_siftUp_23 : decode cJ32_siftUp 23 = .ok (.iload_n 1, 1) := dk_27 (dk_at dksJ32_siftUp_0 23 rfl rfl)
theorem dJ32_siftUp_24 : decode cJ32_siftUp 24 = .ok (.aload_n 2, 1) := dk_44 (dk_at dksJ32_siftUp_1 0 rfl rfl)
theorem dJ32_siftUp_25 : decode cJ32_siftUp 25 = .ok (.aload_n 0, 1) := dk_42 (dk_at dksJ32_siftUp_1 1 rfl rfl)
theorem dJ32_siftUp_26 : decode cJ32_siftUp 26 = .ok (.getfield 17, 3) := dk_180 0 17 (dk_at dksJ32_siftUp_1 2 rfl rfl)
theorem dJ32_siftUp_29 : decode cJ32_siftUp 29 = .ok (.invokestatic 140, 3) := dk_184 0 140 (dk_at dksJ32_siftUp_1 5 rfl rfl)
theorem dJ32_siftUp_32 : decode cJ32_siftUp 32 = .ok (.return_, 1) := dk_177 (dk_at dksJ32_siftUp_1 8 rfl rfl)
theorem md_J32_siftUp : xMd yJ32_siftUp cJ32_siftUp 3 (Option.none : Option Jvm.ClassFile.FieldType) 2 := ⟨q2071, q170, by decide, by decide +kernel, by decide +kernel, by decide +kernel⟩
def f_J32_siftUp (p0 : PH) (a0 : Nat) (a1 : Int32) (a2 : Option Nat) : Option (xO × PH) :=
  (xcl1 p0 a0 22 (xgR p0 a0 22 2 fun x1 =>
  (xnul x1 (xgR p0 a0 22 0 fun x3 =>
  (xcV (f_J32_siftUpComparable p0 a1 a2 x3) fun p4 =>
  (rV p4))) fun b2 =>
  (xgR p0 a0 22 0 fun x5 =>
  (xgR p0 a0 22 2 fun x6 =>
  none)))))
theorem rc_J32_siftUp {p0 : PH} {a0 : Nat} {a1 : Int32} {a2 : Option Nat} : ∀ z, f_J32_siftUp p0 a0 a1 a2 = some z → xco p0 a0 = some 22 := fun z h => xcl1_some h
theorem f_J32_siftUp_ok {G : xG} (hO : xOK G) (p0 : PH) (a0 : Nat) (a1 : Int32) (a2 : Option Nat) : CT G 6 yJ32_siftUp cJ32_siftUp 3 (Option.none : Option Jvm.ClassFile.FieldType) [.ref a0, .int a1, va_rf a2] p0 (f_J32_siftUp p0 a0 a1 a2) := by
  refine CT_of hO (by decide +kernel) (by decide +kernel) (lg_slen _ (by simp only [List.map, xcat]; exact Nat.le_of_ble_eq_true rfl)) ?_
  rw [show lv_args 0 [.ref a0, .int a1, va_rf a2] = [(0, .ref a0), (1, .int a1), (2, va_rf a2)] from by simp only [lv_args, xcat] <;> rfl]
  show X G "java/util/PriorityQueue" "siftUp" cJ32_siftUp 3 (Option.none : Option Jvm.ClassFile.FieldType) 6 0 [(0, .ref a0), (1, .int a1), (2, va_rf a2)] [] p0 (f_J32_siftUp p0 a0 a1 a2)
  refine x_cl1 (fun e0 => ?_)
  refine x_aload_nr 0 dJ32_siftUp_0 rfl rfl (n := 1) rfl ?_
  refine x_getR fl_J32_21 dJ32_siftUp_1 (n := 4) rfl (fun x1 => ?_)
  refine x_ifnull dJ32_siftUp_4 (t := 23) (by decide) (n := 7) rfl (fun e => ?_) (fun b2 e => ?_)
  · subst e
    refine x_iload_n 1 dJ32_siftUp_23 rfl rfl (n := 24) rfl ?_
    refine x_aload_n 2 dJ32_siftUp_24 rfl rfl (n := 25) rfl ?_
    refine x_aload_nr 0 dJ32_siftUp_25 rfl rfl (n := 26) rfl ?_
    refine x_getR fl_J32_17 dJ32_siftUp_26 (n := 29) rfl (fun x3 => ?_)
    refine x_callS_V [.int a1, va_rf a2, va_rf x3] [] (f_J32_siftUpComparable_ok hO p0 a1 a2 x3) md_J32_siftUpComparable q2077 q2078 dJ32_siftUp_29 rfl rfl (by decide) (Nat.le_of_ble_eq_true rfl) (n := 32) rfl (fun p4 => ?_)
    exact x_return dJ32_siftUp_32
  · subst e
    refine x_iload_n 1 dJ32_siftUp_7 rfl rfl (n := 8) rfl ?_
    refine x_aload_n 2 dJ32_siftUp_8 rfl rfl (n := 9) rfl ?_
    refine x_aload_nr 0 dJ32_siftUp_9 rfl rfl (n := 10) rfl ?_
    refine x_getR fl_J32_17 dJ32_siftUp_10 (n := 13) rfl (fun x5 => ?_)
    refine x_aload_nr 0 dJ32_siftUp_13 rfl rfl (n := 14) rfl ?_
    refine x_getR fl_J32_21 dJ32_siftUp_14 (n := 17) rfl (fun x6 => ?_)
    exact x_no
abbrev cJ32_offer : ByteArray := prog_66_method_14_code
def yJ32_offer : MethodName := ⟨RJ32, "offer", "(Ljava/lang/Object;)Z"⟩
def dkwJ32_offer_2 : List UInt8 := [182, 0, 100, 42, 28, 4, 96, 181, 0, 58, 4, 172]
abbrev dktJ32_offer_2 : List UInt8 := dkwJ32_offer_2 ++ []
def dkwJ32_offer_1 : List UInt8 := [180, 0, 58, 61, 28, 42, 180, 0, 17, 190, 161, 0, 10, 42, 28, 4, 96, 182, 0, 96, 42, 28, 43]
abbrev dktJ32_offer_1 : List UInt8 := dkwJ32_offer_1 ++ dktJ32_offer_2
def dkwJ32_offer_0 : List UInt8 := [43, 199, 0, 11, 187, 0, 74, 89, 183, 0, 76, 191, 42, 89, 180, 0, 93, 4, 96, 181, 0, 93, 42]
abbrev dktJ32_offer_0 : List UInt8 := dkwJ32_offer_0 ++ dktJ32_offer_1
theorem dksJ32_offer_0 : cJ32_offer.data.toList.drop 0 = dktJ32_offer_0 := by decide +kernel
theorem dksJ32_offer_1 : cJ32_offer.data.toList.drop 23 = dktJ32_offer_1 := dk_seg dksJ32_offer_0 23 rfl rfl
theorem dksJ32_offer_2 : cJ32_offer.data.toList.drop 46 = dktJ32_offer_2 := dk_seg dksJ32_offer_1 23 rfl rfl
theorem dJ32_offer_0 : decode cJ32_offer 0 = .ok (.aload_n 1, 1) := dk_43 (dk_at dksJ32_offer_0 0 rfl rfl)
theorem dJ32_offer_1 : decode cJ32_offer 1 = .ok (.ifnonnull 11, 3) := dk_199 0 11 (dk_at dksJ32_offer_0 1 rfl rfl)
theorem dJ32_offer_4 : decode cJ32_offer 4 = .ok (.new 74, 3) := dk_187 0 74 (dk_at dksJ32_offer_0 4 rfl rfl)
theorem dJ32_offer_7 : decode cJ32_offer 7 = .ok (.dup, 1) := dk_89 (dk_at dksJ32_offer_0 7 rfl rfl)
theorem dJ32_offer_8 : decode cJ32_offer 8 = .ok (.invokespecial 76, 3) := dk_183 0 76 (dk_at dksJ32_offer_0 8 rfl rfl)
theorem dJ32_offer_11 : decode cJ32_offer 11 = .ok (.athrow, 1) := dk_191 (dk_at dksJ32_offer_0 11 rfl rfl)
theorem dJ32_offer_12 : decode cJ32_offer 12 = .ok (.aload_n 0, 1) := dk_42 (dk_at dksJ32_offer_0 12 rfl rfl)
theorem dJ32_offer_13 : decode cJ32_offer 13 = .ok (.dup, 1) := dk_89 (dk_at dksJ32_offer_0 13 rfl rfl)
theorem dJ32_offer_14 : decode cJ32_offer 14 = .ok (.getfield 93, 3) := dk_180 0 93 (dk_at dksJ32_offer_0 14 rfl rfl)
theorem dJ32_offer_17 : decode cJ32_offer 17 = .ok (.iconst 1, 1) := dk_4 (dk_at dksJ32_offer_0 17 rfl rfl)
theorem dJ32_offer_18 : decode cJ32_offer 18 = .ok (.iadd, 1) := dk_96 (dk_at dksJ32_offer_0 18 rfl rfl)
theorem dJ32_offer_19 : decode cJ32_offer 19 = .ok (.putfield 93, 3) := dk_181 0 93 (dk_at dksJ32_offer_0 19 rfl rfl)
theorem dJ32_offer_22 : decode cJ32_offer 22 = .ok (.aload_n 0, 1) := dk_42 (dk_at dksJ32_offer_0 22 rfl rfl)
theorem dJ32_offer_23 : decode cJ32_offer 23 = .ok (.getfield 58, 3) := dk_180 0 58 (dk_at dksJ32_offer_1 0 rfl rfl)
theorem dJ32_offer_26 : decode cJ32_offer 26 = .ok (.istore_n 2, 1) := dk_61 (dk_at dksJ32_offer_1 3 rfl rfl)
theorem dJ32_offer_27 : decode cJ32_offer 27 = .ok (.iload_n 2, 1) := dk_28 (dk_at dksJ32_offer_1 4 rfl rfl)
theorem dJ32_offer_28 : decode cJ32_offer 28 = .ok (.aload_n 0, 1) := dk_42 (dk_at dksJ32_offer_1 5 rfl rfl)
theorem dJ32_offer_29 : decode cJ32_offer 29 = .ok (.getfield 17, 3) := dk_180 0 17 (dk_at dksJ32_offer_1 6 rfl rfl)
theorem dJ32_offer_32 : decode cJ32_offer 32 = .ok (.arraylength, 1) := dk_190 (dk_at dksJ32_offer_1 9 rfl rfl)
theorem dJ32_offer_33 : decode cJ32_offer 33 = .ok (.if_icmp .lt 10, 3) := dk_161 0 10 (dk_at dksJ32_offer_1 10 rfl rfl)
theorem dJ32_offer_36 : decode cJ32_offer 36 = .ok (.aload_n 0, 1) := dk_42 (dk_at dksJ32_offer_1 13 rfl rfl)
theorem dJ32_offer_37 : decode cJ32_offer 37 = .ok (.iload_n 2, 1) := dk_28 (dk_at dksJ32_offer_1 14 rfl rfl)
theorem dJ32_offer_38 : decode cJ32_offer 38 = .ok (.iconst 1, 1) := dk_4 (dk_at dksJ32_offer_1 15 rfl rfl)
theorem dJ32_offer_39 : decode cJ32_offer 39 = .ok (.iadd, 1) := dk_96 (dk_at dksJ32_offer_1 16 rfl rfl)
theorem dJ32_offer_40 : decode cJ32_offer 40 = .ok (.invokevirtual 96, 3) := dk_182 0 96 (dk_at dksJ32_offer_1 17 rfl rfl)
theorem dJ32_offer_43 : decode cJ32_offer 43 = .ok (.aload_n 0, 1) := dk_42 (dk_at dksJ32_offer_1 20 rfl rfl)
theorem dJ32_offer_44 : decode cJ32_offer 44 = .ok (.iload_n 2, 1) := dk_28 (dk_at dksJ32_offer_1 21 rfl rfl)
theorem dJ32_offer_45 : decode cJ32_offer 45 = .ok (.aload_n 1, 1) := dk_43 (dk_at dksJ32_offer_1 22 rfl rfl)
theorem dJ32_offer_46 : decode cJ32_offer 46 = .ok (.invokevirtual 100, 3) := dk_182 0 100 (dk_at dksJ32_offer_2 0 rfl rfl)
theorem dJ32_offer_49 : decode cJ32_offer 49 = .ok (.aload_n 0, 1) := dk_42 (dk_at dksJ32_offer_2 3 rfl rfl)
theorem dJ32_offer_50 : decode cJ32_offer 50 = .ok (.iload_n 2, 1) := dk_28 (dk_at dksJ32_offer_2 4 rfl rfl)
theorem dJ32_offer_51 : decode cJ32_offer 51 = .ok (.iconst 1, 1) := dk_4 (dk_at dksJ32_offer_2 5 rfl rfl)
theorem dJ32_offer_52 : decode cJ32_offer 52 = .ok (.iadd, 1) := dk_96 (dk_at dksJ32_offer_2 6 rfl rfl)
theorem dJ32_offer_53 : decode cJ32_offer 53 = .ok (.putfield 58, 3) := dk_181 0 58 (dk_at dksJ32_offer_2 7 rfl rfl)
theorem dJ32_offer_56 : decode cJ32_offer 56 = .ok (.iconst 1, 1) := dk_4 (dk_at dksJ32_offer_2 10 rfl rfl)
theorem dJ32_offer_57 : decode cJ32_offer 57 = .ok (.ireturn, 1) := dk_172 (dk_at dksJ32_offer_2 11 rfl rfl)
theorem md_J32_offer : xMd yJ32_offer cJ32_offer 3 (Option.some Jvm.ClassFile.FieldType.boolean) 1 := ⟨q2061, q170, by decide, by decide +kernel, by decide +kernel, by decide +kernel⟩
def f_J32_offer_43 (a0 : Nat)  (v1 : Option Nat) (v2 : Int32) (p0 : PH) : Option (xO × PH) :=
  (xcV (f_J32_siftUp p0 a0 v2 v1) fun p8 =>
  (xpF p8 a0 22 1 (.int (v2 + 1)) fun p9 =>
  (if vp_nar .boolean 1 = 1 then rI 1 p9 else none)))
def f_J32_offer (p0 : PH) (a0 : Nat) (a1 : Option Nat) : Option (xO × PH) :=
  (xcl1 p0 a0 22 (xnul a1 none fun b1 =>
  (xgI p0 a0 22 3 fun x2 =>
  (xpF p0 a0 22 3 (.int (x2 + 1)) fun p3 =>
  (xgI p3 a0 22 1 fun x4 =>
  (xgR p3 a0 22 0 fun x5 =>
  (xnul x5 none fun b6 =>
  (xlen p3 b6 fun x7 =>
  (if x4 < x7 then
  (f_J32_offer_43 a0 ((some b1)) x4 p3) else
  (xcV (f_J32_grow p3 a0 (x4 + 1)) fun p10 =>
  (f_J32_offer_43 a0 ((some b1)) x4 p10)))))))))))
theorem rc_J32_offer {p0 : PH} {a0 : Nat} {a1 : Option Nat} : ∀ z, f_J32_offer p0 a0 a1 = some z → xco p0 a0 = some 22 := fun z h => xcl1_some h
theorem f_J32_offer_43_ok {G : xG} (hO : xOK G) (a0 : Nat)  (v1 : Option Nat) (v2 : Int32) (p0 : PH) : X G "java/util/PriorityQueue" "offer" cJ32_offer 3 (Option.some Jvm.ClassFile.FieldType.boolean) 7 43 [(0, .ref a0), (1, va_rf v1), (2, .int v2)] [] p0 (f_J32_offer_43 a0 v1 v2 p0) := by
  unfold f_J32_offer_43
  refine x_aload_nr 0 dJ32_offer_43 rfl rfl (n := 44) rfl ?_
  refine x_iload_n 2 dJ32_offer_44 rfl rfl (n := 45) rfl ?_
  refine x_aload_n 1 dJ32_offer_45 rfl rfl (n := 46) rfl ?_
  refine x_callV_V [.int v2, va_rf v1] [] (f_J32_siftUp_ok hO p0 a0 v2 v1) rc_J32_siftUp md_J32_siftUp rfl q2068 q2070 qs48 dJ32_offer_46 rfl rfl (by decide) (Nat.le_of_ble_eq_true rfl) (n := 49) rfl (fun p8 => ?_)
  refine x_aload_nr 0 dJ32_offer_49 rfl rfl (n := 50) rfl ?_
  refine x_iload_n 2 dJ32_offer_50 rfl rfl (n := 51) rfl ?_
  refine x_iconst 1 dJ32_offer_51 rfl (n := 52) rfl ?_
  refine x_iadd dJ32_offer_52 (n := 53) rfl ?_
  refine x_pF (pl_J32_58 _ _ ⟨rfl, rfl⟩) dJ32_offer_53 (n := 56) rfl (fun p9 => ?_)
  refine x_iconst 1 dJ32_offer_56 rfl (n := 57) rfl ?_
  exact x_nreturn rfl dJ32_offer_57
theorem f_J32_offer_ok {G : xG} (hO : xOK G) (p0 : PH) (a0 : Nat) (a1 : Option Nat) : CT G 7 yJ32_offer cJ32_offer 3 (Option.some Jvm.ClassFile.FieldType.boolean) [.ref a0, va_rf a1] p0 (f_J32_offer p0 a0 a1) := by
  refine CT_of hO (by decide +kernel) (by decide +kernel) (lg_slen _ (by simp only [List.map, xcat]; exact Nat.le_of_ble_eq_true rfl)) ?_
  rw [show lv_args 0 [.ref a0, va_rf a1] = [(0, .ref a0), (1, va_rf a1)] from by simp only [lv_args, xcat] <;> rfl]
  show X G "java/util/PriorityQueue" "offer" cJ32_offer 3 (Option.some Jvm.ClassFile.FieldType.boolean) 7 0 [(0, .ref a0), (1, va_rf a1)] [] p0 (f_J32_offer p0 a0 a1)
  refine x_cl1 (fun e0 => ?_)
  refine x_aload_n 1 dJ32_offer_0 rfl rfl (n := 1) rfl ?_
  refine x_ifnonnull dJ32_offer_1 (t := 12) (by decide) (n := 4) rfl (fun e => ?_) (fun b1 e => ?_)
  · subst e
    exact x_no
  · subst e
    refine x_aload_nr 0 dJ32_offer_12 rfl rfl (n := 13) rfl ?_
    refine x_dup dJ32_offer_13 rfl (n := 14) rfl ?_
    refine x_getI fl_J32_93 dJ32_offer_14 (n := 17) rfl (fun x2 => ?_)
    refine x_iconst 1 dJ32_offer_17 rfl (n := 18) rfl ?_
    refine x_iadd dJ32_offer_18 (n := 19) rfl ?_
    refine x_pF (pl_J32_93 _ _ ⟨rfl, rfl⟩) dJ32_offer_19 (n := 22) rfl (fun p3 => ?_)
    refine x_aload_nr 0 dJ32_offer_22 rfl rfl (n := 23) rfl ?_
    refine x_getI fl_J32_58 dJ32_offer_23 (n := 26) rfl (fun x4 => ?_)
    refine x_istore_n [(2, .int x4), (0, .ref a0), (1, .ref b1)] dJ32_offer_26 rfl (by decide) rfl (n := 27) rfl ?_
    refine x_iload_n 0 dJ32_offer_27 rfl rfl (n := 28) rfl ?_
    refine x_aload_nr 1 dJ32_offer_28 rfl rfl (n := 29) rfl ?_
    refine x_getR fl_J32_17 dJ32_offer_29 (n := 32) rfl (fun x5 => ?_)
    refine x_sm (fun b6 e => ?_)
    subst e
    refine x_alen dJ32_offer_32 (n := 33) rfl (fun x7 => ?_)
    refine x_icmp_lt dJ32_offer_33 (t := 43) (by decide) (n := 36) rfl (fun _ => ?_) (fun _ => ?_)
    · refine x_sub [1, 2, 0] [(0, .ref a0), (1, .ref b1), (2, .int x4)] rfl ?_
      exact f_J32_offer_43_ok hO a0 ((some b1)) x4 p3
    · refine x_aload_nr 1 dJ32_offer_36 rfl rfl (n := 37) rfl ?_
      refine x_iload_n 0 dJ32_offer_37 rfl rfl (n := 38) rfl ?_
      refine x_iconst 1 dJ32_offer_38 rfl (n := 39) rfl ?_
      refine x_iadd dJ32_offer_39 (n := 40) rfl ?_
      refine x_callV_V [.int (x4 + 1)] [] (f_J32_grow_ok hO p3 a0 (x4 + 1)) rc_J32_grow md_J32_grow rfl q2062 q2064 qs47 dJ32_offer_40 rfl rfl (by decide) (Nat.le_of_ble_eq_true rfl) (n := 43) rfl (fun p10 => ?_)
      refine x_sub [1, 2, 0] [(0, .ref a0), (1, .ref b1), (2, .int x4)] rfl ?_
      exact f_J32_offer_43_ok hO a0 ((some b1)) x4 p10
abbrev cJ32_add : ByteArray := prog_66_method_13_code
def yJ32_add : MethodName := ⟨RJ32, "add", "(Ljava/lang/Object;)Z"⟩
def dkwJ32_add_0 : List UInt8 := [42, 43, 182, 0, 89, 172]
abbrev dktJ32_add_0 : List UInt8 := dkwJ32_add_0 ++ []
theorem dksJ32_add_0 : cJ32_add.data.toList.drop 0 = dktJ32_add_0 := by decide +kernel
theorem dJ32_add_0 : decode cJ32_add 0 = .ok (.aload_n 0, 1) := dk_42 (dk_at dksJ32_add_0 0 rfl rfl)
theorem dJ32_add_1 : decode cJ32_add 1 = .ok (.aload_n 1, 1) := dk_43 (dk_at dksJ32_add_0 1 rfl rfl)
theorem dJ32_add_2 : decode cJ32_add 2 = .ok (.invokevirtual 89, 3) := dk_182 0 89 (dk_at dksJ32_add_0 2 rfl rfl)
theorem dJ32_add_5 : decode cJ32_add 5 = .ok (.ireturn, 1) := dk_172 (dk_at dksJ32_add_0 5 rfl rfl)
theorem md_J32_add : xMd yJ32_add cJ32_add 2 (Option.some Jvm.ClassFile.FieldType.boolean) 1 := ⟨q2057, q170, by decide, by decide +kernel, by decide +kernel, by decide +kernel⟩
def f_J32_add (p0 : PH) (a0 : Nat) (a1 : Option Nat) : Option (xO × PH) :=
  (xcl1 p0 a0 22 (xcI (f_J32_offer p0 a0 a1) fun x2 p1 =>
  (if vp_nar .boolean x2 = x2 then rI x2 p1 else none)))
theorem rc_J32_add {p0 : PH} {a0 : Nat} {a1 : Option Nat} : ∀ z, f_J32_add p0 a0 a1 = some z → xco p0 a0 = some 22 := fun z h => xcl1_some h
theorem f_J32_add_ok {G : xG} (hO : xOK G) (p0 : PH) (a0 : Nat) (a1 : Option Nat) : CT G 8 yJ32_add cJ32_add 2 (Option.some Jvm.ClassFile.FieldType.boolean) [.ref a0, va_rf a1] p0 (f_J32_add p0 a0 a1) := by
  refine CT_of hO (by decide +kernel) (by decide +kernel) (lg_slen _ (by simp only [List.map, xcat]; exact Nat.le_of_ble_eq_true rfl)) ?_
  rw [show lv_args 0 [.ref a0, va_rf a1] = [(0, .ref a0), (1, va_rf a1)] from by simp only [lv_args, xcat] <;> rfl]
  show X G "java/util/PriorityQueue" "add" cJ32_add 2 (Option.some Jvm.ClassFile.FieldType.boolean) 8 0 [(0, .ref a0), (1, va_rf a1)] [] p0 (f_J32_add p0 a0 a1)
  refine x_cl1 (fun e0 => ?_)
  refine x_aload_nr 0 dJ32_add_0 rfl rfl (n := 1) rfl ?_
  refine x_aload_n 1 dJ32_add_1 rfl rfl (n := 2) rfl ?_
  refine x_callV_I [va_rf a1] [] (f_J32_offer_ok hO p0 a0 a1) rc_J32_offer md_J32_offer rfl q2058 q2059 q2060 dJ32_add_2 rfl rfl (by decide) (Nat.le_of_ble_eq_true rfl) (n := 5) rfl (fun x2 p1 => ?_)
  exact x_nreturn rfl dJ32_add_5
abbrev cJ32_size : ByteArray := prog_66_method_23_code
def yJ32_size : MethodName := ⟨RJ32, "size", "()I"⟩
theorem dJ32_size_0 : decode cJ32_size 0 = .ok (.aload_n 0, 1) := by decide +kernel
theorem dJ32_size_1 : decode cJ32_size 1 = .ok (.getfield 58, 3) := by decide +kernel
theorem dJ32_size_4 : decode cJ32_size 4 = .ok (.ireturn, 1) := by decide +kernel
theorem md_J32_size : xMd yJ32_size cJ32_size 1 (Option.some Jvm.ClassFile.FieldType.int) 0 := ⟨q2086, q170, by decide, by decide +kernel, by decide +kernel, by decide +kernel⟩
def f_J32_size (p0 : PH) (a0 : Nat) : Option (xO × PH) :=
  (xcl1 p0 a0 22 (xgI p0 a0 22 1 fun x1 =>
  (rI x1 p0)))
theorem rc_J32_size {p0 : PH} {a0 : Nat} : ∀ z, f_J32_size p0 a0 = some z → xco p0 a0 = some 22 := fun z h => xcl1_some h
theorem f_J32_size_ok {G : xG} (hO : xOK G) (p0 : PH) (a0 : Nat) : CT G 0 yJ32_size cJ32_size 1 (Option.some Jvm.ClassFile.FieldType.int) [.ref a0] p0 (f_J32_size p0 a0) := by
  refine CT_of hO (by decide +kernel) (by decide +kernel) (Nat.le_of_ble_eq_true rfl) ?_
  show X G "java/util/PriorityQueue" "size" cJ32_size 1 (Option.some Jvm.ClassFile.FieldType.int) 0 0 [(0, .ref a0)] [] p0 (f_J32_size p0 a0)
  refine x_cl1 (fun e0 => ?_)
  refine x_aload_nr 0 dJ32_size_0 rfl rfl (n := 1) rfl ?_
  refine x_getI fl_J32_58 dJ32_size_1 (n := 4) rfl (fun x1 => ?_)
  exact x_ireturn dJ32_size_4
abbrev cJ32_siftDownComparable : ByteArray := prog_66_method_31_code
def yJ32_siftDownComparable : MethodName := ⟨RJ32, "siftDownComparable", "(ILjava/lang/Object;[Ljava/lang/Object;I)V"⟩
def dkwJ32_siftDownComparable_4 : List UInt8 := [25, 4, 83, 177]
abbrev dktJ32_siftDownComparable_4 : List UInt8 := dkwJ32_siftDownComparable_4 ++ []
def dkwJ32_siftDownComparable_3 : List UInt8 := [185, 0, 146, 2, 0, 157, 0, 6, 167, 0, 14, 44, 26, 25, 7, 83, 21, 6, 59, 167, 255, 176, 44, 26]
abbrev dktJ32_siftDownComparable_3 : List UInt8 := dkwJ32_siftDownComparable_3 ++ dktJ32_siftDownComparable_4
def dkwJ32_siftDownComparable_2 : List UInt8 := [21, 8, 50, 185, 0, 146, 2, 0, 158, 0, 12, 44, 21, 8, 89, 54, 6, 50, 58, 7, 25, 4, 25, 7]
abbrev dktJ32_siftDownComparable_2 : List UInt8 := dkwJ32_siftDownComparable_2 ++ dktJ32_siftDownComparable_3
def dkwJ32_siftDownComparable_1 : List UInt8 := [44, 21, 6, 50, 58, 7, 21, 6, 4, 96, 54, 8, 21, 8, 29, 162, 0, 29, 25, 7, 192, 0, 144, 44]
abbrev dktJ32_siftDownComparable_1 : List UInt8 := dkwJ32_siftDownComparable_1 ++ dktJ32_siftDownComparable_2
def dkwJ32_siftDownComparable_0 : List UInt8 := [43, 192, 0, 144, 58, 4, 29, 4, 124, 54, 5, 26, 21, 5, 162, 0, 80, 26, 4, 120, 4, 96, 54, 6]
abbrev dktJ32_siftDownComparable_0 : List UInt8 := dkwJ32_siftDownComparable_0 ++ dktJ32_siftDownComparable_1
theorem dksJ32_siftDownComparable_0 : cJ32_siftDownComparable.data.toList.drop 0 = dktJ32_siftDownComparable_0 := by decide +kernel
theorem dksJ32_siftDownComparable_1 : cJ32_siftDownComparable.data.toList.drop 24 = dktJ32_siftDownComparable_1 := dk_seg dksJ32_siftDownComparable_0 24 rfl rfl
theorem dksJ32_siftDownComparable_2 : cJ32_siftDownComparable.data.toList.drop 48 = dktJ32_siftDownComparable_2 := dk_seg dksJ32_siftDownComparable_1 24 rfl rfl
theorem dksJ32_siftDownComparable_3 : cJ32_siftDownComparable.data.toList.drop 72 = dktJ32_siftDownComparable_3 := dk_seg dksJ32_siftDownComparable_2 24 rfl rfl
theorem dksJ32_siftDownComparable_4 : cJ32_siftDownComparable.data.toList.drop 96 = dktJ32_siftDownComparable_4 := dk_seg dksJ32_siftDownComparable_3 24 rfl rfl
theorem dJ32_siftDownComparable_0 : decode cJ32_siftDownComparable 0 = .ok (.aload_n 1, 1) := dk_43 (dk_at dksJ32_siftDownComparable_0 0 rfl rfl)
theorem dJ32_siftDownComparable_1 : decode cJ32_siftDownComparable 1 = .ok (.checkcast 144, 3) := dk_192 0 144 (dk_at dksJ32_siftDownComparable_0 1 rfl rfl)
theorem dJ32_siftDownComparable_4 : decode cJ32_siftDownComparable 4 = .ok (.astore 4, 2) := dk_58 4 (dk_at dksJ32_siftDownComparable_0 4 rfl rfl)
theorem dJ32_siftDownComparable_6 : decode cJ32_siftDownComparable 6 = .ok (.iload_n 3, 1) := dk_29 (dk_at dksJ32_siftDownComparable_0 6 rfl rfl)
theorem dJ32_siftDownComparable_7 : decode cJ32_siftDownComparable 7 = .ok (.iconst 1, 1) := dk_4 (dk_at dksJ32_siftDownComparable_0 7 rfl rfl)
theorem dJ32_siftDownComparable_8 : decode cJ32_siftDownComparable 8 = .ok (.iushr, 1) := dk_124 (dk_at dksJ32_siftDownComparable_0 8 rfl rfl)
theorem dJ32_siftDownComparable_9 : decode cJ32_siftDownComparable 9 = .ok (.istore 5, 2) := dk_54 5 (dk_at dksJ32_siftDownComparable_0 9 rfl rfl)
theorem dJ32_siftDownComparable_11 : decode cJ32_siftDownComparable 11 = .ok (.iload_n 0, 1) := dk_26 (dk_at dksJ32_siftDownComparable_0 11 rfl rfl)
theorem dJ32_siftDownComparable_12 : decode cJ32_siftDownComparable 12 = .ok (.iload 5, 2) := dk_21 5 (dk_at dksJ32_siftDownComparable_0 12 rfl rfl)
theorem dJ32_siftDownComparable_14 : decode cJ32_siftDownComparable 14 = .ok (.if_icmp .ge 80, 3) := dk_162 0 80 (dk_at dksJ32_siftDownComparable_0 14 rfl rfl)
theorem dJ32_siftDownComparable_17 : decode cJ32_siftDownComparable 17 = .ok (.iload_n 0, 1) := dk_26 (dk_at dksJ32_siftDownComparable_0 17 rfl rfl)
theorem dJ32_siftDownComparable_18 : decode cJ32_siftDownComparable 18 = .ok (.iconst 1, 1) := dk_4 (dk_at dksJ32_siftDownComparable_0 18 rfl rfl)
theorem dJ32_siftDownComparable_19 : decode cJ32_siftDownComparable 19 = .ok (.ishl, 1) := dk_120 (dk_at dksJ32_siftDownComparable_0 19 rfl rfl)
theorem dJ32_siftDownComparable_20 : decode cJ32_siftDownComparable 20 = .ok (.iconst 1, 1) := dk_4 (dk_at dksJ32_siftDownComparable_0 20 rfl rfl)
theorem dJ32_siftDownComparable_21 : decode cJ32_siftDownComparable 21 = .ok (.iadd, 1) := dk_96 (dk_at dksJ32_siftDownComparable_0 21 rfl rfl)
theorem dJ32_siftDownComparable_22 : decode cJ32_siftDownComparable 22 = .ok (.istore 6, 2) := dk_54 6 (dk_at dksJ32_siftDownComparable_0 22 rfl rfl)
theorem dJ32_siftDownComparable_24 : decode cJ32_siftDownComparable 24 = .ok (.aload_n 2, 1) := dk_44 (dk_at dksJ32_siftDownComparable_1 0 rfl rfl)
theorem dJ32_siftDownComparable_25 : decode cJ32_siftDownComparable 25 = .ok (.iload 6, 2) := dk_21 6 (dk_at dksJ32_siftDownComparable_1 1 rfl rfl)
theorem dJ32_siftDownComparable_27 : decode cJ32_siftDownComparable 27 = .ok (.aaload, 1) := dk_50 (dk_at dksJ32_siftDownComparable_1 3 rfl rfl)
theorem dJ32_siftDownComparable_28 : decode cJ32_siftDownComparable 28 = .ok (.astore 7, 2) := dk_58 7 (dk_at dksJ32_siftDownComparable_1 4 rfl rfl)
theorem dJ32_siftDownComparable_30 : decode cJ32_siftDownComparable 30 = .ok (.iload 6, 2) := dk_21 6 (dk_at dksJ32_siftDownComparable_1 6 rfl rfl)
theorem dJ32_siftDownComparable_32 : decode cJ32_siftDownComparable 32 = .ok (.iconst 1, 1) := dk_4 (dk_at dksJ32_siftDownComparable_1 8 rfl rfl)
theorem dJ32_siftDownComparable_33 : decode cJ32_siftDownComparable 33 = .ok (.iadd, 1) := dk_96 (dk_at dksJ32_siftDownComparable_1 9 rfl rfl)
theorem dJ32_siftDownComparable_34 : decode cJ32_siftDownComparable 34 = .ok (.istore 8, 2) := dk_54 8 (dk_at dksJ32_siftDownComparable_1 10 rfl rfl)
theorem dJ32_siftDownComparable_36 : decode cJ32_siftDownComparable 36 = .ok (.iload 8, 2) := dk_21 8 (dk_at dksJ32_siftDownComparable_1 12 rfl rfl)
theorem dJ32_siftDownComparable_38 : decode cJ32_siftDownComparable 38 = .ok (.iload_n 3, 1) := dk_29 (dk_at dksJ32_siftDownComparable_1 14 rfl rfl)
theorem dJ32_siftDownComparable_39 : decode cJ32_siftDownComparable 39 = .ok (.if_icmp .ge 29, 3) := dk_162 0 29 (dk_at dksJ32_siftDownComparable_1 15 rfl rfl)
theorem dJ32_siftDownComparable_42 : decode cJ32_siftDownComparable 42 = .ok (.aload 7, 2) := dk_25 7 (dk_at dksJ32_siftDownComparable_1 18 rfl rfl)
theorem dJ32_siftDownComparable_44 : decode cJ32_siftDownComparable 44 = .ok (.checkcast 144, 3) := dk_192 0 144 (dk_at dksJ32_siftDownComparable_1 20 rfl rfl)
theorem dJ32_siftDownComparable_47 : decode cJ32_siftDownComparable 47 = .ok (.aload_n 2, 1) := dk_44 (dk_at dksJ32_siftDownComparable_1 23 rfl rfl)
theorem dJ32_siftDownComparable_48 : decode cJ32_siftDownComparable 48 = .ok (.iload 8, 2) := dk_21 8 (dk_at dksJ32_siftDownComparable_2 0 rfl rfl)
theorem dJ32_siftDownComparable_50 : decode cJ32_siftDownComparable 50 = .ok (.aaload, 1) := dk_50 (dk_at dksJ32_siftDownComparable_2 2 rfl rfl)
theorem dJ32_siftDownComparable_51 : decode cJ32_siftDownComparable 51 = .ok (.invokeinterface 146 2, 5) := by decide +kernel
theorem dJ32_siftDownComparable_56 : decode cJ32_siftDownComparable 56 = .ok (.ifCond .le 12, 3) := dk_158 0 12 (dk_at dksJ32_siftDownComparable_2 8 rfl rfl)
theorem dJ32_siftDownComparable_59 : decode cJ32_siftDownComparable 59 = .ok (.aload_n 2, 1) := dk_44 (dk_at dksJ32_siftDownComparable_2 11 rfl rfl)
theorem dJ32_siftDownComparable_60 : decode cJ32_siftDownComparable 60 = .ok (.iload 8, 2) := dk_21 8 (dk_at dksJ32_siftDownComparable_2 12 rfl rfl)
theorem dJ32_siftDownComparable_62 : decode cJ32_siftDownComparable 62 = .ok (.dup, 1) := dk_89 (dk_at dksJ32_siftDownComparable_2 14 rfl rfl)
theorem dJ32_siftDownComparable_63 : decode cJ32_siftDownComparable 63 = .ok (.istore 6, 2) := dk_54 6 (dk_at dksJ32_siftDownComparable_2 15 rfl rfl)
theorem dJ32_siftDownComparable_65 : decode cJ32_siftDownComparable 65 = .ok (.aaload, 1) := dk_50 (dk_at dksJ32_siftDownComparable_2 17 rfl rfl)
theorem dJ32_siftDownComparable_66 : decode cJ32_siftDownComparable 66 = .ok (.astore 7, 2) := dk_58 7 (dk_at dksJ32_siftDownComparable_2 18 rfl rfl)
theorem dJ32_siftDownComparable_68 : decode cJ32_siftDownComparable 68 = .ok (.aload 4, 2) := dk_25 4 (dk_at dksJ32_siftDownComparable_2 20 rfl rfl)
theorem dJ32_siftDownComparable_70 : decode cJ32_siftDownComparable 70 = .ok (.aload 7, 2) := dk_25 7 (dk_at dksJ32_siftDownComparable_2 22 rfl rfl)
theorem dJ32_siftDownComparable_72 : decode cJ32_siftDownComparable 72 = .ok (.invokeinterface 146 2, 5) := by decide +kernel
theorem dJ32_siftDownComparable_77 : decode cJ32_siftDownComparable 77 = .ok (.ifCond .gt 6, 3) := dk_157 0 6 (dk_at dksJ32_siftDownComparable_3 5 rfl rfl)
theorem dJ32_siftDownComparable_80 : decode cJ32_siftDownComparable 80 = .ok (.goto 14, 3) := dk_167 0 14 (dk_at dksJ32_siftDownComparable_3 8 rfl rfl)
theorem dJ32_siftDownComparable_83 : decode cJ32_siftDownComparable 83 = .ok (.aload_n 2, 1) := dk_44 (dk_at dksJ32_siftDownComparable_3 11 rfl rfl)
theorem dJ32_siftDownComparable_84 : decode cJ32_siftDownComparable 84 = .ok (.iload_n 0, 1) := dk_26 (dk_at dksJ32_siftDownComparable_3 12 rfl rfl)
theorem dJ32_siftDownComparable_85 : decode cJ32_siftDownComparable 85 = .ok (.aload 7, 2) := dk_25 7 (dk_at dksJ32_siftDownComparable_3 13 rfl rfl)
theorem dJ32_siftDownComparable_87 : decode cJ32_siftDownComparable 87 = .ok (.aastore, 1) := dk_83 (dk_at dksJ32_siftDownComparable_3 15 rfl rfl)
theorem dJ32_siftDownComparable_88 : decode cJ32_siftDownComparable 88 = .ok (.iload 6, 2) := dk_21 6 (dk_at dksJ32_siftDownComparable_3 16 rfl rfl)
theorem dJ32_siftDownComparable_90 : decode cJ32_siftDownComparable 90 = .ok (.istore_n 0, 1) := dk_59 (dk_at dksJ32_siftDownComparable_3 18 rfl rfl)
theorem dJ32_siftDownComparable_91 : decode cJ32_siftDownComparable 91 = .ok (.goto (-80), 3) := dk_167 255 176 (dk_at dksJ32_siftDownComparable_3 19 rfl rfl)
theorem dJ32_siftDownComparable_94 : decode cJ32_siftDownComparable 94 = .ok (.aload_n 2, 1) := dk_44 (dk_at dksJ32_siftDownComparable_3 22 rfl rfl)
theorem dJ32_siftDownComparable_95 : decode cJ32_siftDownComparable 95 = .ok (.iload_n 0, 1) := dk_26 (dk_at dksJ32_siftDownComparable_3 23 rfl rfl)
theorem dJ32_siftDownComparable_96 : decode cJ32_siftDownComparable 96 = .ok (.aload 4, 2) := dk_25 4 (dk_at dksJ32_siftDownComparable_4 0 rfl rfl)
theorem dJ32_siftDownComparable_98 : decode cJ32_siftDownComparable 98 = .ok (.aastore, 1) := dk_83 (dk_at dksJ32_siftDownComparable_4 2 rfl rfl)
theorem dJ32_siftDownComparable_99 : decode cJ32_siftDownComparable 99 = .ok (.return_, 1) := dk_177 (dk_at dksJ32_siftDownComparable_4 3 rfl rfl)
theorem md_J32_siftDownComparable : xMd yJ32_siftDownComparable cJ32_siftDownComparable 9 (Option.none : Option Jvm.ClassFile.FieldType) 4 := ⟨q2100, q170, by decide, by decide +kernel, by decide +kernel, by decide +kernel⟩
def f_J32_siftDownComparable_94   (v0 : Int32) (v2 : Option Nat) (v4 : Option Nat) (p0 : PH) : Option (xO × PH) :=
  (xnul v2 none fun b2 =>
  (xsR p0 b2 4 v0 (v4) fun p3 =>
  (rV p3)))
def f_J32_siftDownComparable_68  (k11 : Int32 × Option Nat × Int32 × Option Nat × Int32 × PH → Option (xO × PH)) (v0 : Int32) (v2 : Option Nat) (v3 : Int32) (v4 : Option Nat) (v5 : Int32) (v6 : Int32) (v7 : Option Nat) (p0 : PH) : Option (xO × PH) :=
  (xnul v4 none fun b8 =>
  (xsw p0 b8 fun c10 =>
  (if c10 = 10 then
  (xcI (f_X11_compareTo p0 b8 v7) fun x13 p12 =>
  (if 0 < x13 then
  (xnul v2 none fun b14 =>
  (xsR p12 b14 4 v0 (v7) fun p15 =>
  (k11 (v6, ((some b14)), v3, ((some b8)), v5, p15)))) else
  (f_J32_siftDownComparable_94 v0 v2 ((some b8)) p12))) else
  (if c10 = 16 then
  (xcI (f_J6_compareTo p0 b8 v7) fun x17 p16 =>
  (if 0 < x17 then
  (xnul v2 none fun b18 =>
  (xsR p16 b18 4 v0 (v7) fun p19 =>
  (k11 (v6, ((some b18)), v3, ((some b8)), v5, p19)))) else
  (f_J32_siftDownComparable_94 v0 v2 ((some b8)) p16))) else
  (if c10 = 18 then
  (xcI (f_J19_compareTo p0 b8 v7) fun x21 p20 =>
  (if 0 < x21 then
  (xnul v2 none fun b22 =>
  (xsR p20 b22 4 v0 (v7) fun p23 =>
  (k11 (v6, ((some b22)), v3, ((some b8)), v5, p23)))) else
  (f_J32_siftDownComparable_94 v0 v2 ((some b8)) p20))) else
  none)))))
def f_J32_siftDownComparable_11F   (k11 : Int32 × Option Nat × Int32 × Option Nat × Int32 × PH → Option (xO × PH)) (p : Int32 × Option Nat × Int32 × Option Nat × Int32 × PH) : Option (xO × PH) := match p with
  | (v0, v2, v3, v4, v5, p0) => (if v5 ≤ v0 then
  (f_J32_siftDownComparable_94 v0 v2 v4 p0) else
  (bnd ((v0 <<< (1 &&& 31)) + 1) fun x4 =>
  (xnul v2 none fun b5 =>
  (xaR p0 b5 4 x4 fun x6 =>
  (bnd (x4 + 1) fun x7 =>
  (if v3 ≤ x7 then
  (f_J32_siftDownComparable_68 k11 v0 ((some b5)) v3 v4 v5 x4 x6 p0) else
  (xcst p0 (x6) [16, 18, 10]
  (xaR p0 b5 4 x7 fun x24 =>
  (xnul x6 none fun b25 =>
  (xsw p0 b25 fun c27 =>
  (if c27 = 10 then
  (xcI (f_X11_compareTo p0 b25 x24) fun x30 p29 =>
  (if x30 ≤ 0 then
  (f_J32_siftDownComparable_68 k11 v0 ((some b5)) v3 v4 v5 x4 ((some b25)) p29) else
  (xaR p29 b5 4 x7 fun x31 =>
  (f_J32_siftDownComparable_68 k11 v0 ((some b5)) v3 v4 v5 x7 x31 p29)))) else
  (if c27 = 16 then
  (xcI (f_J6_compareTo p0 b25 x24) fun x33 p32 =>
  (if x33 ≤ 0 then
  (f_J32_siftDownComparable_68 k11 v0 ((some b5)) v3 v4 v5 x4 ((some b25)) p32) else
  (xaR p32 b5 4 x7 fun x34 =>
  (f_J32_siftDownComparable_68 k11 v0 ((some b5)) v3 v4 v5 x7 x34 p32)))) else
  (if c27 = 18 then
  (xcI (f_J19_compareTo p0 b25 x24) fun x36 p35 =>
  (if x36 ≤ 0 then
  (f_J32_siftDownComparable_68 k11 v0 ((some b5)) v3 v4 v5 x4 ((some b25)) p35) else
  (xaR p35 b5 4 x7 fun x37 =>
  (f_J32_siftDownComparable_68 k11 v0 ((some b5)) v3 v4 v5 x7 x37 p35)))) else
  none)))))))))))))
def f_J32_siftDownComparable (p0 : PH) (a0 : Int32) (a1 : Option Nat) (a2 : Option Nat) (a3 : Int32) : Option (xO × PH) :=
  (xcst p0 (a1) [16, 18, 10]
  (bnd ((a3.toUInt32 >>> ((1 : Int32).toUInt32 &&& Int32.toUInt32 31)).toInt32) fun x1 =>
  (lp (f_J32_siftDownComparable_11F) FU (a0, a2, a3, a1, x1, p0))))
theorem f_J32_siftDownComparable_94_ok {G : xG} (hO : xOK G)   (v0 : Int32) (v2 : Option Nat) (v4 : Option Nat) (p0 : PH) : X G "java/util/PriorityQueue" "siftDownComparable" cJ32_siftDownComparable 9 (Option.none : Option Jvm.ClassFile.FieldType) 5 94 [(0, .int v0), (2, va_rf v2), (4, va_rf v4)] [] p0 (f_J32_siftDownComparable_94 v0 v2 v4 p0) := by
  unfold f_J32_siftDownComparable_94
  refine x_aload_n 1 dJ32_siftDownComparable_94 rfl rfl (n := 95) rfl ?_
  refine x_iload_n 0 dJ32_siftDownComparable_95 rfl rfl (n := 96) rfl ?_
  refine x_aload 2 dJ32_siftDownComparable_96 rfl (n := 98) rfl ?_
  refine x_sm (fun b2 e => ?_)
  subst e
  refine x_aast (t := 4) (x := v4) rfl (by decide) dJ32_siftDownComparable_98 (n := 99) rfl (fun p3 => ?_)
  exact x_return dJ32_siftDownComparable_99
theorem f_J32_siftDownComparable_68_ok {G : xG} (hO : xOK G)  {k11 : Int32 × Option Nat × Int32 × Option Nat × Int32 × PH → Option (xO × PH)} (hk11 : ∀ (v0 : Int32) (v2 : Option Nat) (v3 : Int32) (v4 : Option Nat) (v5 : Int32) (p0 : PH), X G "java/util/PriorityQueue" "siftDownComparable" cJ32_siftDownComparable 9 (Option.none : Option Jvm.ClassFile.FieldType) 5 11 [(0, .int v0), (2, va_rf v2), (3, .int v3), (4, va_rf v4), (5, .int v5)] [] p0 (k11 (v0, v2, v3, v4, v5, p0))) (v0 : Int32) (v2 : Option Nat) (v3 : Int32) (v4 : Option Nat) (v5 : Int32) (v6 : Int32) (v7 : Option Nat) (p0 : PH) : X G "java/util/PriorityQueue" "siftDownComparable" cJ32_siftDownComparable 9 (Option.none : Option Jvm.ClassFile.FieldType) 5 68 [(0, .int v0), (2, va_rf v2), (3, .int v3), (4, va_rf v4), (5, .int v5), (6, .int v6), (7, va_rf v7)] [] p0 (f_J32_siftDownComparable_68 k11 v0 v2 v3 v4 v5 v6 v7 p0) := by
  unfold f_J32_siftDownComparable_68
  refine x_aload 3 dJ32_siftDownComparable_68 rfl (n := 70) rfl ?_
  refine x_aload 6 dJ32_siftDownComparable_70 rfl (n := 72) rfl ?_
  refine x_sm (fun b8 e => ?_)
  subst e
  refine x_sw (fun c10 e => ?_)
  refine x_ite (fun h => ?_) (fun _ => ?_)
  · subst h
    refine x_callF_I [va_rf v7] [] (f_X11_compareTo_ok hO p0 b8 v7) rc_X11_compareTo md_X11_compareTo rfl q2082 fc_ForestLegs_Part_java_lang_Comparable_compareTo_1_Ljaval dJ32_siftDownComparable_72 rfl rfl (by decide) (Nat.le_of_ble_eq_true rfl) (n := 77) rfl (fun x13 p12 => ?_)
    refine x_if_gt dJ32_siftDownComparable_77 (t := 83) (by decide) (n := 80) rfl (fun _ => ?_) (fun _ => ?_)
    · refine x_aload_n 1 dJ32_siftDownComparable_83 rfl rfl (n := 84) rfl ?_
      refine x_iload_n 0 dJ32_siftDownComparable_84 rfl rfl (n := 85) rfl ?_
      refine x_aload 6 dJ32_siftDownComparable_85 rfl (n := 87) rfl ?_
      refine x_sm (fun b14 e => ?_)
      subst e
      refine x_aast (t := 4) (x := v7) rfl (by decide) dJ32_siftDownComparable_87 (n := 88) rfl (fun p15 => ?_)
      refine x_iload 5 dJ32_siftDownComparable_88 rfl (n := 90) rfl ?_
      refine x_istore_n [(0, .int v6), (2, .ref b14), (3, .int v3), (4, .ref b8), (5, .int v5), (6, .int v6), (7, va_rf v7)] dJ32_siftDownComparable_90 rfl (by decide) rfl (n := 91) rfl ?_
      refine x_goto dJ32_siftDownComparable_91 (n := 11) (by decide) ?_
      refine x_sub [0, 1, 2, 3, 4] [(0, .int v6), (2, .ref b14), (3, .int v3), (4, .ref b8), (5, .int v5)] rfl ?_
      exact hk11 v6 ((some b14)) v3 ((some b8)) v5 p15
    · refine x_goto dJ32_siftDownComparable_80 (n := 94) (by decide) ?_
      refine x_sub [0, 1, 3] [(0, .int v0), (2, va_rf v2), (4, .ref b8)] rfl ?_
      exact f_J32_siftDownComparable_94_ok hO v0 v2 ((some b8)) p12
  refine x_ite (fun h => ?_) (fun _ => ?_)
  · subst h
    refine x_callF_I [va_rf v7] [] (f_J6_compareTo_ok hO p0 b8 v7) rc_J6_compareTo md_J6_compareTo rfl q2082 fc_java_lang_String_java_lang_Comparable_compareTo_1_Ljaval dJ32_siftDownComparable_72 rfl rfl (by decide) (Nat.le_of_ble_eq_true rfl) (n := 77) rfl (fun x17 p16 => ?_)
    refine x_if_gt dJ32_siftDownComparable_77 (t := 83) (by decide) (n := 80) rfl (fun _ => ?_) (fun _ => ?_)
    · refine x_aload_n 1 dJ32_siftDownComparable_83 rfl rfl (n := 84) rfl ?_
      refine x_iload_n 0 dJ32_siftDownComparable_84 rfl rfl (n := 85) rfl ?_
      refine x_aload 6 dJ32_siftDownComparable_85 rfl (n := 87) rfl ?_
      refine x_sm (fun b18 e => ?_)
      subst e
      refine x_aast (t := 4) (x := v7) rfl (by decide) dJ32_siftDownComparable_87 (n := 88) rfl (fun p19 => ?_)
      refine x_iload 5 dJ32_siftDownComparable_88 rfl (n := 90) rfl ?_
      refine x_istore_n [(0, .int v6), (2, .ref b18), (3, .int v3), (4, .ref b8), (5, .int v5), (6, .int v6), (7, va_rf v7)] dJ32_siftDownComparable_90 rfl (by decide) rfl (n := 91) rfl ?_
      refine x_goto dJ32_siftDownComparable_91 (n := 11) (by decide) ?_
      refine x_sub [0, 1, 2, 3, 4] [(0, .int v6), (2, .ref b18), (3, .int v3), (4, .ref b8), (5, .int v5)] rfl ?_
      exact hk11 v6 ((some b18)) v3 ((some b8)) v5 p19
    · refine x_goto dJ32_siftDownComparable_80 (n := 94) (by decide) ?_
      refine x_sub [0, 1, 3] [(0, .int v0), (2, va_rf v2), (4, .ref b8)] rfl ?_
      exact f_J32_siftDownComparable_94_ok hO v0 v2 ((some b8)) p16
  refine x_ite (fun h => ?_) (fun _ => ?_)
  · subst h
    refine x_callF_I [va_rf v7] [] (f_J19_compareTo_ok hO p0 b8 v7) rc_J19_compareTo md_J19_compareTo rfl q2082 fc_java_lang_Integer_java_lang_Comparable_compareTo_1_Ljaval dJ32_siftDownComparable_72 rfl rfl (by decide) (Nat.le_of_ble_eq_true rfl) (n := 77) rfl (fun x21 p20 => ?_)
    refine x_if_gt dJ32_siftDownComparable_77 (t := 83) (by decide) (n := 80) rfl (fun _ => ?_) (fun _ => ?_)
    · refine x_aload_n 1 dJ32_siftDownComparable_83 rfl rfl (n := 84) rfl ?_
      refine x_iload_n 0 dJ32_siftDownComparable_84 rfl rfl (n := 85) rfl ?_
      refine x_aload 6 dJ32_siftDownComparable_85 rfl (n := 87) rfl ?_
      refine x_sm (fun b22 e => ?_)
      subst e
      refine x_aast (t := 4) (x := v7) rfl (by decide) dJ32_siftDownComparable_87 (n := 88) rfl (fun p23 => ?_)
      refine x_iload 5 dJ32_siftDownComparable_88 rfl (n := 90) rfl ?_
      refine x_istore_n [(0, .int v6), (2, .ref b22), (3, .int v3), (4, .ref b8), (5, .int v5), (6, .int v6), (7, va_rf v7)] dJ32_siftDownComparable_90 rfl (by decide) rfl (n := 91) rfl ?_
      refine x_goto dJ32_siftDownComparable_91 (n := 11) (by decide) ?_
      refine x_sub [0, 1, 2, 3, 4] [(0, .int v6), (2, .ref b22), (3, .int v3), (4, .ref b8), (5, .int v5)] rfl ?_
      exact hk11 v6 ((some b22)) v3 ((some b8)) v5 p23
    · refine x_goto dJ32_siftDownComparable_80 (n := 94) (by decide) ?_
      refine x_sub [0, 1, 3] [(0, .int v0), (2, va_rf v2), (4, .ref b8)] rfl ?_
      exact f_J32_siftDownComparable_94_ok hO v0 v2 ((some b8)) p20
  exact x_no
theorem f_J32_siftDownComparable_11F_ok {G : xG} (hO : xOK G)   {k11 : Int32 × Option Nat × Int32 × Option Nat × Int32 × PH → Option (xO × PH)} (hk11 : ∀ (v0 : Int32) (v2 : Option Nat) (v3 : Int32) (v4 : Option Nat) (v5 : Int32) (p0 : PH), X G "java/util/PriorityQueue" "siftDownComparable" cJ32_siftDownComparable 9 (Option.none : Option Jvm.ClassFile.FieldType) 5 11 [(0, .int v0), (2, va_rf v2), (3, .int v3), (4, va_rf v4), (5, .int v5)] [] p0 (k11 (v0, v2, v3, v4, v5, p0))) (v0 : Int32) (v2 : Option Nat) (v3 : Int32) (v4 : Option Nat) (v5 : Int32) (p0 : PH) : X G "java/util/PriorityQueue" "siftDownComparable" cJ32_siftDownComparable 9 (Option.none : Option Jvm.ClassFile.FieldType) 5 11 [(0, .int v0), (2, va_rf v2), (3, .int v3), (4, va_rf v4), (5, .int v5)] [] p0 (f_J32_siftDownComparable_11F k11 (v0, v2, v3, v4, v5, p0)) := by
  unfold f_J32_siftDownComparable_11F
  refine x_iload_n 0 dJ32_siftDownComparable_11 rfl rfl (n := 12) rfl ?_
  refine x_iload 4 dJ32_siftDownComparable_12 rfl (n := 14) rfl ?_
  refine x_icmp_ge dJ32_siftDownComparable_14 (t := 94) (by decide) (n := 17) rfl (fun _ => ?_) (fun _ => ?_)
  · refine x_sub [0, 1, 3] [(0, .int v0), (2, va_rf v2), (4, va_rf v4)] rfl ?_
    exact f_J32_siftDownComparable_94_ok hO v0 v2 v4 p0
  · refine x_iload_n 0 dJ32_siftDownComparable_17 rfl rfl (n := 18) rfl ?_
    refine x_iconst 1 dJ32_siftDownComparable_18 rfl (n := 19) rfl ?_
    refine x_ishl dJ32_siftDownComparable_19 (n := 20) rfl ?_
    refine x_iconst 1 dJ32_siftDownComparable_20 rfl (n := 21) rfl ?_
    refine x_iadd dJ32_siftDownComparable_21 (n := 22) rfl ?_
    refine x_nm (fun x4 => ?_)
    refine x_istore [(6, .int x4), (0, .int v0), (2, va_rf v2), (3, .int v3), (4, va_rf v4), (5, .int v5)] dJ32_siftDownComparable_22 (by decide) rfl (n := 24) rfl ?_
    refine x_aload_n 2 dJ32_siftDownComparable_24 rfl rfl (n := 25) rfl ?_
    refine x_iload 0 dJ32_siftDownComparable_25 rfl (n := 27) rfl ?_
    refine x_sm (fun b5 e => ?_)
    subst e
    refine x_aald (t := 4) rfl rfl dJ32_siftDownComparable_27 (n := 28) rfl (fun x6 => ?_)
    refine x_astore [(7, va_rf x6), (6, .int x4), (0, .int v0), (2, .ref b5), (3, .int v3), (4, va_rf v4), (5, .int v5)] dJ32_siftDownComparable_28 (by decide) rfl (n := 30) rfl ?_
    refine x_iload 1 dJ32_siftDownComparable_30 rfl (n := 32) rfl ?_
    refine x_iconst 1 dJ32_siftDownComparable_32 rfl (n := 33) rfl ?_
    refine x_iadd dJ32_siftDownComparable_33 (n := 34) rfl ?_
    refine x_nm (fun x7 => ?_)
    refine x_istore [(8, .int x7), (7, va_rf x6), (6, .int x4), (0, .int v0), (2, .ref b5), (3, .int v3), (4, va_rf v4), (5, .int v5)] dJ32_siftDownComparable_34 (by decide) (by simp only [xst, List.filter_cons, List.filter_nil, xcat] <;> rfl) (n := 36) rfl ?_
    refine x_iload 0 dJ32_siftDownComparable_36 rfl (n := 38) rfl ?_
    refine x_iload_n 5 dJ32_siftDownComparable_38 rfl rfl (n := 39) rfl ?_
    refine x_icmp_ge dJ32_siftDownComparable_39 (t := 68) (by decide) (n := 42) rfl (fun _ => ?_) (fun _ => ?_)
    · refine x_sub [3, 4, 5, 6, 7, 2, 1] [(0, .int v0), (2, .ref b5), (3, .int v3), (4, va_rf v4), (5, .int v5), (6, .int x4), (7, va_rf x6)] rfl ?_
      exact f_J32_siftDownComparable_68_ok hO hk11 v0 ((some b5)) v3 v4 v5 x4 x6 p0
    · refine x_aload 1 dJ32_siftDownComparable_42 rfl (n := 44) rfl ?_
      refine x_cast (x := x6) (cs := [16, 18, 10]) q2080 cst_java_lang_Comparable dJ32_siftDownComparable_44 (n := 47) rfl ?_
      refine x_aload_nr 4 dJ32_siftDownComparable_47 rfl rfl (n := 48) rfl ?_
      refine x_iload 0 dJ32_siftDownComparable_48 rfl (n := 50) rfl ?_
      refine x_aald (t := 4) rfl rfl dJ32_siftDownComparable_50 (n := 51) rfl (fun x24 => ?_)
      refine x_sm (fun b25 e => ?_)
      subst e
      refine x_sw (fun c27 e => ?_)
      refine x_ite (fun h => ?_) (fun _ => ?_)
      · subst h
        refine x_callF_I [va_rf x24] [] (f_X11_compareTo_ok hO p0 b25 x24) rc_X11_compareTo md_X11_compareTo rfl q2082 fc_ForestLegs_Part_java_lang_Comparable_compareTo_1_Ljaval dJ32_siftDownComparable_51 rfl rfl (by decide) (Nat.le_of_ble_eq_true rfl) (n := 56) rfl (fun x30 p29 => ?_)
        refine x_if_le dJ32_siftDownComparable_56 (t := 68) (by decide) (n := 59) rfl (fun _ => ?_) (fun _ => ?_)
        · refine x_sub [3, 4, 5, 6, 7, 2, 1] [(0, .int v0), (2, .ref b5), (3, .int v3), (4, va_rf v4), (5, .int v5), (6, .int x4), (7, .ref b25)] rfl ?_
          exact f_J32_siftDownComparable_68_ok hO hk11 v0 ((some b5)) v3 v4 v5 x4 ((some b25)) p29
        · refine x_aload_nr 4 dJ32_siftDownComparable_59 rfl rfl (n := 60) rfl ?_
          refine x_iload 0 dJ32_siftDownComparable_60 rfl (n := 62) rfl ?_
          refine x_dup dJ32_siftDownComparable_62 rfl (n := 63) rfl ?_
          refine x_istore [(6, .int x7), (8, .int x7), (7, .ref b25), (0, .int v0), (2, .ref b5), (3, .int v3), (4, va_rf v4), (5, .int v5)] dJ32_siftDownComparable_63 (by decide) rfl (n := 65) rfl ?_
          refine x_aald (t := 4) rfl rfl dJ32_siftDownComparable_65 (n := 66) rfl (fun x31 => ?_)
          refine x_astore [(7, va_rf x31), (6, .int x7), (8, .int x7), (0, .int v0), (2, .ref b5), (3, .int v3), (4, va_rf v4), (5, .int v5)] dJ32_siftDownComparable_66 (by decide) rfl (n := 68) rfl ?_
          refine x_sub [3, 4, 5, 6, 7, 1, 0] [(0, .int v0), (2, .ref b5), (3, .int v3), (4, va_rf v4), (5, .int v5), (6, .int x7), (7, va_rf x31)] rfl ?_
          exact f_J32_siftDownComparable_68_ok hO hk11 v0 ((some b5)) v3 v4 v5 x7 x31 p29
      refine x_ite (fun h => ?_) (fun _ => ?_)
      · subst h
        refine x_callF_I [va_rf x24] [] (f_J6_compareTo_ok hO p0 b25 x24) rc_J6_compareTo md_J6_compareTo rfl q2082 fc_java_lang_String_java_lang_Comparable_compareTo_1_Ljaval dJ32_siftDownComparable_51 rfl rfl (by decide) (Nat.le_of_ble_eq_true rfl) (n := 56) rfl (fun x33 p32 => ?_)
        refine x_if_le dJ32_siftDownComparable_56 (t := 68) (by decide) (n := 59) rfl (fun _ => ?_) (fun _ => ?_)
        · refine x_sub [3, 4, 5, 6, 7, 2, 1] [(0, .int v0), (2, .ref b5), (3, .int v3), (4, va_rf v4), (5, .int v5), (6, .int x4), (7, .ref b25)] rfl ?_
          exact f_J32_siftDownComparable_68_ok hO hk11 v0 ((some b5)) v3 v4 v5 x4 ((some b25)) p32
        · refine x_aload_nr 4 dJ32_siftDownComparable_59 rfl rfl (n := 60) rfl ?_
          refine x_iload 0 dJ32_siftDownComparable_60 rfl (n := 62) rfl ?_
          refine x_dup dJ32_siftDownComparable_62 rfl (n := 63) rfl ?_
          refine x_istore [(6, .int x7), (8, .int x7), (7, .ref b25), (0, .int v0), (2, .ref b5), (3, .int v3), (4, va_rf v4), (5, .int v5)] dJ32_siftDownComparable_63 (by decide) rfl (n := 65) rfl ?_
          refine x_aald (t := 4) rfl rfl dJ32_siftDownComparable_65 (n := 66) rfl (fun x34 => ?_)
          refine x_astore [(7, va_rf x34), (6, .int x7), (8, .int x7), (0, .int v0), (2, .ref b5), (3, .int v3), (4, va_rf v4), (5, .int v5)] dJ32_siftDownComparable_66 (by decide) rfl (n := 68) rfl ?_
          refine x_sub [3, 4, 5, 6, 7, 1, 0] [(0, .int v0), (2, .ref b5), (3, .int v3), (4, va_rf v4), (5, .int v5), (6, .int x7), (7, va_rf x34)] rfl ?_
          exact f_J32_siftDownComparable_68_ok hO hk11 v0 ((some b5)) v3 v4 v5 x7 x34 p32
      refine x_ite (fun h => ?_) (fun _ => ?_)
      · subst h
        refine x_callF_I [va_rf x24] [] (f_J19_compareTo_ok hO p0 b25 x24) rc_J19_compareTo md_J19_compareTo rfl q2082 fc_java_lang_Integer_java_lang_Comparable_compareTo_1_Ljaval dJ32_siftDownComparable_51 rfl rfl (by decide) (Nat.le_of_ble_eq_true rfl) (n := 56) rfl (fun x36 p35 => ?_)
        refine x_if_le dJ32_siftDownComparable_56 (t := 68) (by decide) (n := 59) rfl (fun _ => ?_) (fun _ => ?_)
        · refine x_sub [3, 4, 5, 6, 7, 2, 1] [(0, .int v0), (2, .ref b5), (3, .int v3), (4, va_rf v4), (5, .int v5), (6, .int x4), (7, .ref b25)] rfl ?_
          exact f_J32_siftDownComparable_68_ok hO hk11 v0 ((some b5)) v3 v4 v5 x4 ((some b25)) p35
        · refine x_aload_nr 4 dJ32_siftDownComparable_59 rfl rfl (n := 60) rfl ?_
          refine x_iload 0 dJ32_siftDownComparable_60 rfl (n := 62) rfl ?_
          refine x_dup dJ32_siftDownComparable_62 rfl (n := 63) rfl ?_
          refine x_istore [(6, .int x7), (8, .int x7), (7, .ref b25), (0, .int v0), (2, .ref b5), (3, .int v3), (4, va_rf v4), (5, .int v5)] dJ32_siftDownComparable_63 (by decide) rfl (n := 65) rfl ?_
          refine x_aald (t := 4) rfl rfl dJ32_siftDownComparable_65 (n := 66) rfl (fun x37 => ?_)
          refine x_astore [(7, va_rf x37), (6, .int x7), (8, .int x7), (0, .int v0), (2, .ref b5), (3, .int v3), (4, va_rf v4), (5, .int v5)] dJ32_siftDownComparable_66 (by decide) rfl (n := 68) rfl ?_
          refine x_sub [3, 4, 5, 6, 7, 1, 0] [(0, .int v0), (2, .ref b5), (3, .int v3), (4, va_rf v4), (5, .int v5), (6, .int x7), (7, va_rf x37)] rfl ?_
          exact f_J32_siftDownComparable_68_ok hO hk11 v0 ((some b5)) v3 v4 v5 x7 x37 p35
      exact x_no
theorem f_J32_siftDownComparable_11_lp {G : xG} (hO : xOK G)   (n : Nat) (v0 : Int32) (v2 : Option Nat) (v3 : Int32) (v4 : Option Nat) (v5 : Int32) (p0 : PH) : X G "java/util/PriorityQueue" "siftDownComparable" cJ32_siftDownComparable 9 (Option.none : Option Jvm.ClassFile.FieldType) 5 11 [(0, .int v0), (2, va_rf v2), (3, .int v3), (4, va_rf v4), (5, .int v5)] [] p0 (lp (f_J32_siftDownComparable_11F) n (v0, v2, v3, v4, v5, p0)) :=
  lp_ok (W := fun p K => X G "java/util/PriorityQueue" "siftDownComparable" cJ32_siftDownComparable 9 (Option.none : Option Jvm.ClassFile.FieldType) 5 11 [(0, .int p.1), (2, va_rf p.2.1), (3, .int p.2.2.1), (4, va_rf p.2.2.2.1), (5, .int p.2.2.2.2.1)] [] p.2.2.2.2.2 K) (fun _ => x_no) (fun k hk => fun (v0, v2, v3, v4, v5, p0) => f_J32_siftDownComparable_11F_ok hO (fun v0 v2 v3 v4 v5 p0 => hk (v0, v2, v3, v4, v5, p0)) v0 v2 v3 v4 v5 p0) n (v0, v2, v3, v4, v5, p0)
theorem f_J32_siftDownComparable_ok {G : xG} (hO : xOK G) (p0 : PH) (a0 : Int32) (a1 : Option Nat) (a2 : Option Nat) (a3 : Int32) : CT G 5 yJ32_siftDownComparable cJ32_siftDownComparable 9 (Option.none : Option Jvm.ClassFile.FieldType) [.int a0, va_rf a1, va_rf a2, .int a3] p0 (f_J32_siftDownComparable p0 a0 a1 a2 a3) := by
  refine CT_of hO (by decide +kernel) (by decide +kernel) (lg_slen _ (by simp only [List.map, xcat]; exact Nat.le_of_ble_eq_true rfl)) ?_
  rw [show lv_args 0 [.int a0, va_rf a1, va_rf a2, .int a3] = [(0, .int a0), (1, va_rf a1), (2, va_rf a2), (3, .int a3)] from by simp only [lv_args, xcat] <;> rfl]
  show X G "java/util/PriorityQueue" "siftDownComparable" cJ32_siftDownComparable 9 (Option.none : Option Jvm.ClassFile.FieldType) 5 0 [(0, .int a0), (1, va_rf a1), (2, va_rf a2), (3, .int a3)] [] p0 (f_J32_siftDownComparable p0 a0 a1 a2 a3)
  refine x_aload_n 1 dJ32_siftDownComparable_0 rfl rfl (n := 1) rfl ?_
  refine x_cast (x := a1) (cs := [16, 18, 10]) q2080 cst_java_lang_Comparable dJ32_siftDownComparable_1 (n := 4) rfl ?_
  refine x_astore [(4, va_rf a1), (0, .int a0), (1, va_rf a1), (2, va_rf a2), (3, .int a3)] dJ32_siftDownComparable_4 (by decide) rfl (n := 6) rfl ?_
  refine x_iload_n 4 dJ32_siftDownComparable_6 rfl rfl (n := 7) rfl ?_
  refine x_iconst 1 dJ32_siftDownComparable_7 rfl (n := 8) rfl ?_
  refine x_iushr dJ32_siftDownComparable_8 (n := 9) rfl ?_
  refine x_nm (fun x1 => ?_)
  refine x_istore [(5, .int x1), (4, va_rf a1), (0, .int a0), (1, va_rf a1), (2, va_rf a2), (3, .int a3)] dJ32_siftDownComparable_9 (by decide) (by simp only [xst, List.filter_cons, List.filter_nil, xcat] <;> rfl) (n := 11) rfl ?_
  refine x_sub [2, 4, 5, 1, 0] [(0, .int a0), (2, va_rf a2), (3, .int a3), (4, va_rf a1), (5, .int x1)] rfl ?_
  exact f_J32_siftDownComparable_11_lp hO FU a0 a2 a3 a1 x1 p0
abbrev cJ32_poll : ByteArray := prog_66_method_25_code
def yJ32_poll : MethodName := ⟨RJ32, "poll", "()Ljava/lang/Object;"⟩
def dkwJ32_poll_3 : List UInt8 := [43, 29, 25, 5, 184, 0, 129, 44, 176]
abbrev dktJ32_poll_3 : List UInt8 := dkwJ32_poll_3 ++ []
def dkwJ32_poll_2 : List UInt8 := [42, 180, 0, 21, 89, 58, 5, 199, 0, 14, 3, 25, 4, 43, 29, 184, 0, 125, 167, 0, 13, 3, 25, 4]
abbrev dktJ32_poll_2 : List UInt8 := dkwJ32_poll_2 ++ dktJ32_poll_3
def dkwJ32_poll_1 : List UInt8 := [42, 89, 180, 0, 58, 4, 100, 90, 181, 0, 58, 89, 62, 50, 58, 4, 43, 29, 1, 83, 29, 158, 0, 34]
abbrev dktJ32_poll_1 : List UInt8 := dkwJ32_poll_1 ++ dktJ32_poll_2
def dkwJ32_poll_0 : List UInt8 := [42, 180, 0, 17, 89, 76, 3, 50, 89, 77, 198, 0, 69, 42, 89, 180, 0, 93, 4, 96, 181, 0, 93, 43]
abbrev dktJ32_poll_0 : List UInt8 := dkwJ32_poll_0 ++ dktJ32_poll_1
theorem dksJ32_poll_0 : cJ32_poll.data.toList.drop 0 = dktJ32_poll_0 := by decide +kernel
theorem dksJ32_poll_1 : cJ32_poll.data.toList.drop 24 = dktJ32_poll_1 := dk_seg dksJ32_poll_0 24 rfl rfl
theorem dksJ32_poll_2 : cJ32_poll.data.toList.drop 48 = dktJ32_poll_2 := dk_seg dksJ32_poll_1 24 rfl rfl
theorem dksJ32_poll_3 : cJ32_poll.data.toList.drop 72 = dktJ32_poll_3 := dk_seg dksJ32_poll_2 24 rfl rfl
theorem dJ32_poll_0 : decode cJ32_poll 0 = .ok (.aload_n 0, 1) := dk_42 (dk_at dksJ32_poll_0 0 rfl rfl)
theorem dJ32_poll_1 : decode cJ32_poll 1 = .ok (.getfield 17, 3) := dk_180 0 17 (dk_at dksJ32_poll_0 1 rfl rfl)
theorem dJ32_poll_4 : decode cJ32_poll 4 = .ok (.dup, 1) := dk_89 (dk_at dksJ32_poll_0 4 rfl rfl)
theorem dJ32_poll_5 : decode cJ32_poll 5 = .ok (.astore_n 1, 1) := dk_76 (dk_at dksJ32_poll_0 5 rfl rfl)
theorem dJ32_poll_6 : decode cJ32_poll 6 = .ok (.iconst 0, 1) := dk_3 (dk_at dksJ32_poll_0 6 rfl rfl)
theorem dJ32_poll_7 : decode cJ32_poll 7 = .ok (.aaload, 1) := dk_50 (dk_at dksJ32_poll_0 7 rfl rfl)
theorem dJ32_poll_8 : decode cJ32_poll 8 = .ok (.dup, 1) := dk_89 (dk_at dksJ32_poll_0 8 rfl rfl)
theorem dJ32_poll_9 : decode cJ32_poll 9 = .ok (.astore_n 2, 1) := dk_77 (dk_at dksJ32_poll_0 9 rfl rfl)
theorem dJ32_poll_10 : decode cJ32_poll 10 = .ok (.ifnull 69, 3) := dk_198 0 69 (dk_at dksJ32_poll_0 10 rfl rfl)
theorem dJ32_poll_13 : decode cJ32_poll 13 = .ok (.aload_n 0, 1) := dk_42 (dk_at dksJ32_poll_0 13 rfl rfl)
theorem dJ32_poll_14 : decode cJ32_poll 14 = .ok (.dup, 1) := dk_89 (dk_at dksJ32_poll_0 14 rfl rfl)
theorem dJ32_poll_15 : decode cJ32_poll 15 = .ok (.getfield 93, 3) := dk_180 0 93 (dk_at dksJ32_poll_0 15 rfl rfl)
theorem dJ32_poll_18 : decode cJ32_poll 18 = .ok (.iconst 1, 1) := dk_4 (dk_at dksJ32_poll_0 18 rfl rfl)
theorem dJ32_poll_19 : decode cJ32_poll 19 = .ok (.iadd, 1) := dk_96 (dk_at dksJ32_poll_0 19 rfl rfl)
theorem dJ32_poll_20 : decode cJ32_poll 20 = .ok (.putfield 93, 3) := dk_181 0 93 (dk_at dksJ32_poll_0 20 rfl rfl)
theorem dJ32_poll_23 : decode cJ32_poll 23 = .ok (.aload_n 1, 1) := dk_43 (dk_at dksJ32_poll_0 23 rfl rfl)
theorem dJ32_poll_24 : decode cJ32_poll 24 = .ok (.aload_n 0, 1) := dk_42 (dk_at dksJ32_poll_1 0 rfl rfl)
theorem dJ32_poll_25 : decode cJ32_poll 25 = .ok (.dup, 1) := dk_89 (dk_at dksJ32_poll_1 1 rfl rfl)
theorem dJ32_poll_26 : decode cJ32_poll 26 = .ok (.getfield 58, 3) := dk_180 0 58 (dk_at dksJ32_poll_1 2 rfl rfl)
theorem dJ32_poll_29 : decode cJ32_poll 29 = .ok (.iconst 1, 1) := dk_4 (dk_at dksJ32_poll_1 5 rfl rfl)
theorem dJ32_poll_30 : decode cJ32_poll 30 = .ok (.isub, 1) := dk_100 (dk_at dksJ32_poll_1 6 rfl rfl)
theorem dJ32_poll_31 : decode cJ32_poll 31 = .ok (.dup_x1, 1) := dk_90 (dk_at dksJ32_poll_1 7 rfl rfl)
theorem dJ32_poll_32 : decode cJ32_poll 32 = .ok (.putfield 58, 3) := dk_181 0 58 (dk_at dksJ32_poll_1 8 rfl rfl)
theorem dJ32_poll_35 : decode cJ32_poll 35 = .ok (.dup, 1) := dk_89 (dk_at dksJ32_poll_1 11 rfl rfl)
theorem dJ32_poll_36 : decode cJ32_poll 36 = .ok (.istore_n 3, 1) := dk_62 (dk_at dksJ32_poll_1 12 rfl rfl)
theorem dJ32_poll_37 : decode cJ32_poll 37 = .ok (.aaload, 1) := dk_50 (dk_at dksJ32_poll_1 13 rfl rfl)
theorem dJ32_poll_38 : decode cJ32_poll 38 = .ok (.astore 4, 2) := dk_58 4 (dk_at dksJ32_poll_1 14 rfl rfl)
theorem dJ32_poll_40 : decode cJ32_poll 40 = .ok (.aload_n 1, 1) := dk_43 (dk_at dksJ32_poll_1 16 rfl rfl)
theorem dJ32_poll_41 : decode cJ32_poll 41 = .ok (.iload_n 3, 1) := dk_29 (dk_at dksJ32_poll_1 17 rfl rfl)
theorem dJ32_poll_42 : decode cJ32_poll 42 = .ok (.aconst_null, 1) := dk_1 (dk_at dksJ32_poll_1 18 rfl rfl)
theorem dJ32_poll_43 : decode cJ32_poll 43 = .ok (.aastore, 1) := dk_83 (dk_at dksJ32_poll_1 19 rfl rfl)
theorem dJ32_poll_44 : decode cJ32_poll 44 = .ok (.iload_n 3, 1) := dk_29 (dk_at dksJ32_poll_1 20 rfl rfl)
theorem dJ32_poll_45 : decode cJ32_poll 45 = .ok (.ifCond .le 34, 3) := dk_158 0 34 (dk_at dksJ32_poll_1 21 rfl rfl)
theorem dJ32_poll_48 : decode cJ32_poll 48 = .ok (.aload_n 0, 1) := dk_42 (dk_at dksJ32_poll_2 0 rfl rfl)
theorem dJ32_poll_49 : decode cJ32_poll 49 = .ok (.getfield 21, 3) := dk_180 0 21 (dk_at dksJ32_poll_2 1 rfl rfl)
theorem dJ32_poll_52 : decode cJ32_poll 52 = .ok (.dup, 1) := dk_89 (dk_at dksJ32_poll_2 4 rfl rfl)
theorem dJ32_poll_53 : decode cJ32_poll 53 = .ok (.astore 5, 2) := dk_58 5 (dk_at dksJ32_poll_2 5 rfl rfl)
theorem dJ32_poll_55 : decode cJ32_poll 55 = .ok (.ifnonnull 14, 3) := dk_199 0 14 (dk_at dksJ32_poll_2 7 rfl rfl)
theorem dJ32_poll_58 : decode cJ32_poll 58 = .ok (.iconst 0, 1) := dk_3 (dk_at dksJ32_poll_2 10 rfl rfl)
theorem dJ32_poll_59 : decode cJ32_poll 59 = .ok (.aload 4, 2) := dk_25 4 (dk_at dksJ32_poll_2 11 rfl rfl)
theorem dJ32_poll_61 : decode cJ32_poll 61 = .ok (.aload_n 1, 1) := dk_43 (dk_at dksJ32_poll_2 13 rfl rfl)
theorem dJ32_poll_62 : decode cJ32_poll 62 = .ok (.iload_n 3, 1) := dk_29 (dk_at dksJ32_poll_2 14 rfl rfl)
theorem dJ32_poll_63 : decode cJ32_poll 63 = .ok (.invokestatic 125, 3) := dk_184 0 125 (dk_at dksJ32_poll_2 15 rfl rfl)
theorem dJ32_poll_66 : decode cJ32_poll 66 = .ok (.goto 13, 3) := dk_167 0 13 (dk_at dksJ32_poll_2 18 rfl rfl)
theorem dJ32_poll_69 : decode cJ32_poll 69 = .ok (.iconst 0, 1) := dk_3 (dk_at dksJ32_poll_2 21 rfl rfl)
theorem dJ32_poll_70 : decode cJ32_poll 70 = .ok (.aload 4, 2) := dk_25 4 (dk_at dksJ32_poll_2 22 rfl rfl)
theorem dJ32_poll_72 : decode cJ32_poll 72 = .ok (.aload_n 1, 1) := dk_43 (dk_at dksJ32_poll_3 0 rfl rfl)
theorem dJ32_poll_73 : decode cJ32_poll 73 = .ok (.iload_n 3, 1) := dk_29 (dk_at dksJ32_poll_3 1 rfl rfl)
theorem dJ32_poll_74 : decode cJ32_poll 74 = .ok (.aload 5, 2) := dk_25 5 (dk_at dksJ32_poll_3 2 rfl rfl)
theorem dJ32_poll_76 : decode cJ32_poll 76 = .ok (.invokestatic 129, 3) := dk_184 0 129 (dk_at dksJ32_poll_3 4 rfl rfl)
theorem dJ32_poll_79 : decode cJ32_poll 79 = .ok (.aload_n 2, 1) := dk_44 (dk_at dksJ32_poll_3 7 rfl rfl)
theorem dJ32_poll_80 : decode cJ32_poll 80 = .ok (.areturn, 1) := dk_176 (dk_at dksJ32_poll_3 8 rfl rfl)
theorem md_J32_poll : xMd yJ32_poll cJ32_poll 6 (Option.some (Jvm.ClassFile.FieldType.object "java/lang/Object")) 0 := ⟨q2097, q170, by decide, by decide +kernel, by decide +kernel, by decide +kernel⟩
def f_J32_poll (p0 : PH) (a0 : Nat) : Option (xO × PH) :=
  (xcl1 p0 a0 22 (xgR p0 a0 22 0 fun x1 =>
  (xnul x1 none fun b2 =>
  (xaR p0 b2 4 0 fun x3 =>
  (xnul x3 (rR none p0) fun b4 =>
  (xgI p0 a0 22 3 fun x5 =>
  (xpF p0 a0 22 3 (.int (x5 + 1)) fun p6 =>
  (xgI p6 a0 22 1 fun x7 =>
  (bnd (x7 - 1) fun x8 =>
  (xpF p6 a0 22 1 (.int x8) fun p9 =>
  (xaR p9 b2 4 x8 fun x10 =>
  (xsR p9 b2 4 x8 (none) fun p11 =>
  (if x8 ≤ 0 then
  (rR (some b4) p11) else
  (xgR p11 a0 22 2 fun x12 =>
  (xnul x12 (xcV (f_J32_siftDownComparable p11 0 x10 (some b2) x8) fun p14 =>
  (rR (some b4) p14)) fun b13 =>
  none)))))))))))))))
theorem rc_J32_poll {p0 : PH} {a0 : Nat} : ∀ z, f_J32_poll p0 a0 = some z → xco p0 a0 = some 22 := fun z h => xcl1_some h
theorem f_J32_poll_ok {G : xG} (hO : xOK G) (p0 : PH) (a0 : Nat) : CT G 6 yJ32_poll cJ32_poll 6 (Option.some (Jvm.ClassFile.FieldType.object "java/lang/Object")) [.ref a0] p0 (f_J32_poll p0 a0) := by
  refine CT_of hO (by decide +kernel) (by decide +kernel) (Nat.le_of_ble_eq_true rfl) ?_
  show X G "java/util/PriorityQueue" "poll" cJ32_poll 6 (Option.some (Jvm.ClassFile.FieldType.object "java/lang/Object")) 6 0 [(0, .ref a0)] [] p0 (f_J32_poll p0 a0)
  refine x_cl1 (fun e0 => ?_)
  refine x_aload_nr 0 dJ32_poll_0 rfl rfl (n := 1) rfl ?_
  refine x_getR fl_J32_17 dJ32_poll_1 (n := 4) rfl (fun x1 => ?_)
  refine x_dup dJ32_poll_4 (xcat _) (n := 5) rfl ?_
  refine x_astore_n [(1, va_rf x1), (0, .ref a0)] dJ32_poll_5 rfl (by decide) rfl (n := 6) rfl ?_
  refine x_iconst 0 dJ32_poll_6 rfl (n := 7) rfl ?_
  refine x_sm (fun b2 e => ?_)
  subst e
  refine x_aald (t := 4) rfl rfl dJ32_poll_7 (n := 8) rfl (fun x3 => ?_)
  refine x_dup dJ32_poll_8 (xcat _) (n := 9) rfl ?_
  refine x_astore_n [(2, va_rf x3), (1, .ref b2), (0, .ref a0)] dJ32_poll_9 rfl (by decide) rfl (n := 10) rfl ?_
  refine x_ifnull dJ32_poll_10 (t := 79) (by decide) (n := 13) rfl (fun e => ?_) (fun b4 e => ?_)
  · subst e
    refine x_aload_n 0 dJ32_poll_79 rfl rfl (n := 80) rfl ?_
    exact x_areturn (x := none) (Or.inl ⟨_, rfl⟩) dJ32_poll_80
  · subst e
    refine x_aload_nr 2 dJ32_poll_13 rfl rfl (n := 14) rfl ?_
    refine x_dup dJ32_poll_14 rfl (n := 15) rfl ?_
    refine x_getI fl_J32_93 dJ32_poll_15 (n := 18) rfl (fun x5 => ?_)
    refine x_iconst 1 dJ32_poll_18 rfl (n := 19) rfl ?_
    refine x_iadd dJ32_poll_19 (n := 20) rfl ?_
    refine x_pF (pl_J32_93 _ _ ⟨rfl, rfl⟩) dJ32_poll_20 (n := 23) rfl (fun p6 => ?_)
    refine x_aload_nr 1 dJ32_poll_23 rfl rfl (n := 24) rfl ?_
    refine x_aload_nr 2 dJ32_poll_24 rfl rfl (n := 25) rfl ?_
    refine x_dup dJ32_poll_25 rfl (n := 26) rfl ?_
    refine x_getI fl_J32_58 dJ32_poll_26 (n := 29) rfl (fun x7 => ?_)
    refine x_iconst 1 dJ32_poll_29 rfl (n := 30) rfl ?_
    refine x_isub dJ32_poll_30 (n := 31) rfl ?_
    refine x_nm (fun x8 => ?_)
    refine x_dup_x1 dJ32_poll_31 rfl rfl (n := 32) rfl ?_
    refine x_pF (pl_J32_58 _ _ ⟨rfl, rfl⟩) dJ32_poll_32 (n := 35) rfl (fun p9 => ?_)
    refine x_dup dJ32_poll_35 rfl (n := 36) rfl ?_
    refine x_istore_n [(3, .int x8), (2, .ref b4), (1, .ref b2), (0, .ref a0)] dJ32_poll_36 rfl (by decide) rfl (n := 37) rfl ?_
    refine x_aald (t := 4) rfl rfl dJ32_poll_37 (n := 38) rfl (fun x10 => ?_)
    refine x_astore [(4, va_rf x10), (3, .int x8), (2, .ref b4), (1, .ref b2), (0, .ref a0)] dJ32_poll_38 (by decide) rfl (n := 40) rfl ?_
    refine x_aload_nr 3 dJ32_poll_40 rfl rfl (n := 41) rfl ?_
    refine x_iload_n 1 dJ32_poll_41 rfl rfl (n := 42) rfl ?_
    refine x_null dJ32_poll_42 (n := 43) rfl ?_
    refine x_aast (t := 4) (x := none) rfl (by decide) dJ32_poll_43 (n := 44) rfl (fun p11 => ?_)
    refine x_iload_n 1 dJ32_poll_44 rfl rfl (n := 45) rfl ?_
    refine x_if_le dJ32_poll_45 (t := 79) (by decide) (n := 48) rfl (fun _ => ?_) (fun _ => ?_)
    · refine x_aload_nr 2 dJ32_poll_79 rfl rfl (n := 80) rfl ?_
      exact x_areturn (x := some b4) (Or.inl ⟨_, rfl⟩) dJ32_poll_80
    · refine x_aload_nr 4 dJ32_poll_48 rfl rfl (n := 49) rfl ?_
      refine x_getR fl_J32_21 dJ32_poll_49 (n := 52) rfl (fun x12 => ?_)
      refine x_dup dJ32_poll_52 (xcat _) (n := 53) rfl ?_
      refine x_astore [(5, va_rf x12), (4, va_rf x10), (3, .int x8), (2, .ref b4), (1, .ref b2), (0, .ref a0)] dJ32_poll_53 (by decide) (by simp only [xst, List.filter_cons, List.filter_nil, xcat] <;> rfl) (n := 55) rfl ?_
      refine x_ifnonnull dJ32_poll_55 (t := 69) (by decide) (n := 58) rfl (fun e => ?_) (fun b13 e => ?_)
      · subst e
        refine x_iconst 0 dJ32_poll_58 rfl (n := 59) rfl ?_
        refine x_aload 1 dJ32_poll_59 rfl (n := 61) rfl ?_
        refine x_aload_nr 4 dJ32_poll_61 rfl rfl (n := 62) rfl ?_
        refine x_iload_n 2 dJ32_poll_62 rfl rfl (n := 63) rfl ?_
        refine x_callS_V [.int 0, va_rf x10, .ref b2, .int x8] [] (f_J32_siftDownComparable_ok hO p11 0 x10 (some b2) x8) md_J32_siftDownComparable q2098 q2099 dJ32_poll_63 rfl rfl (by decide) (Nat.le_of_ble_eq_true rfl) (n := 66) rfl (fun p14 => ?_)
        refine x_goto dJ32_poll_66 (n := 79) (by decide) ?_
        refine x_aload_nr 3 dJ32_poll_79 rfl rfl (n := 80) rfl ?_
        exact x_areturn (x := some b4) (Or.inl ⟨_, rfl⟩) dJ32_poll_80
      · subst e
        refine x_iconst 0 dJ32_poll_69 rfl (n := 70) rfl ?_
        refine x_aload 1 dJ32_poll_70 rfl (n := 72) rfl ?_
        refine x_aload_nr 4 dJ32_poll_72 rfl rfl (n := 73) rfl ?_
        refine x_iload_n 2 dJ32_poll_73 rfl rfl (n := 74) rfl ?_
        refine x_aloadr 0 dJ32_poll_74 rfl (n := 76) rfl ?_
        exact x_no
abbrev cJ31_remove : ByteArray := prog_43_method_3_code
def yJ31_remove : MethodName := ⟨RJ31, "remove", "()Ljava/lang/Object;"⟩
def dkwJ31_remove_0 : List UInt8 := [42, 182, 0, 20, 76, 43, 198, 0, 5, 43, 176, 187, 0, 24, 89, 183, 0, 26, 191]
abbrev dktJ31_remove_0 : List UInt8 := dkwJ31_remove_0 ++ []
theorem dksJ31_remove_0 : cJ31_remove.data.toList.drop 0 = dktJ31_remove_0 := by decide +kernel
theorem dJ31_remove_0 : decode cJ31_remove 0 = .ok (.aload_n 0, 1) := dk_42 (dk_at dksJ31_remove_0 0 rfl rfl)
theorem dJ31_remove_1 : decode cJ31_remove 1 = .ok (.invokevirtual 20, 3) := dk_182 0 20 (dk_at dksJ31_remove_0 1 rfl rfl)
theorem dJ31_remove_4 : decode cJ31_remove 4 = .ok (.astore_n 1, 1) := dk_76 (dk_at dksJ31_remove_0 4 rfl rfl)
theorem dJ31_remove_5 : decode cJ31_remove 5 = .ok (.aload_n 1, 1) := dk_43 (dk_at dksJ31_remove_0 5 rfl rfl)
theorem dJ31_remove_6 : decode cJ31_remove 6 = .ok (.ifnull 5, 3) := dk_198 0 5 (dk_at dksJ31_remove_0 6 rfl rfl)
theorem dJ31_remove_9 : decode cJ31_remove 9 = .ok (.aload_n 1, 1) := dk_43 (dk_at dksJ31_remove_0 9 rfl rfl)
theorem dJ31_remove_10 : decode cJ31_remove 10 = .ok (.areturn, 1) := dk_176 (dk_at dksJ31_remove_0 10 rfl rfl)
theorem dJ31_remove_11 : decode cJ31_remove 11 = .ok (.new 24, 3) := dk_187 0 24 (dk_at dksJ31_remove_0 11 rfl rfl)
theorem dJ31_remove_14 : decode cJ31_remove 14 = .ok (.dup, 1) := dk_89 (dk_at dksJ31_remove_0 14 rfl rfl)
theorem dJ31_remove_15 : decode cJ31_remove 15 = .ok (.invokespecial 26, 3) := dk_183 0 26 (dk_at dksJ31_remove_0 15 rfl rfl)
theorem dJ31_remove_18 : decode cJ31_remove 18 = .ok (.athrow, 1) := dk_191 (dk_at dksJ31_remove_0 18 rfl rfl)
theorem md_J31_remove : xMd yJ31_remove cJ31_remove 2 (Option.some (Jvm.ClassFile.FieldType.object "java/lang/Object")) 0 := ⟨q2092, q169, by decide, by decide +kernel, by decide +kernel, by decide +kernel⟩
def f_J31_remove (p0 : PH) (a0 : Nat) : Option (xO × PH) :=
  (xcl1 p0 a0 22 (xcR (f_J32_poll p0 a0 ) fun x2 p1 =>
  (xnul x2 none fun b3 =>
  (rR (some b3) p1))))
theorem rc_J31_remove {p0 : PH} {a0 : Nat} : ∀ z, f_J31_remove p0 a0 = some z → xco p0 a0 = some 22 := fun z h => xcl1_some h
theorem f_J31_remove_ok {G : xG} (hO : xOK G) (p0 : PH) (a0 : Nat) : CT G 7 yJ31_remove cJ31_remove 2 (Option.some (Jvm.ClassFile.FieldType.object "java/lang/Object")) [.ref a0] p0 (f_J31_remove p0 a0) := by
  refine CT_of hO (by decide +kernel) (by decide +kernel) (Nat.le_of_ble_eq_true rfl) ?_
  show X G "java/util/AbstractQueue" "remove" cJ31_remove 2 (Option.some (Jvm.ClassFile.FieldType.object "java/lang/Object")) 7 0 [(0, .ref a0)] [] p0 (f_J31_remove p0 a0)
  refine x_cl1 (fun e0 => ?_)
  refine x_aload_nr 0 dJ31_remove_0 rfl rfl (n := 1) rfl ?_
  refine x_callW_R [] [] (f_J32_poll_ok hO p0 a0 ) rc_J32_poll md_J32_poll rfl lx_poll lx_pollS ⟨by decide +kernel, by decide +kernel⟩ q2094 q2096 q2095 (by decide +kernel) dJ31_remove_1 rfl rfl (by decide) (Nat.le_of_ble_eq_true rfl) (n := 4) rfl (fun x2 p1 => ?_)
  refine x_astore_n [(1, va_rf x2), (0, .ref a0)] dJ31_remove_4 rfl (by decide) rfl (n := 5) rfl ?_
  refine x_aload_n 0 dJ31_remove_5 rfl rfl (n := 6) rfl ?_
  refine x_ifnull dJ31_remove_6 (t := 11) (by decide) (n := 9) rfl (fun e => ?_) (fun b3 e => ?_)
  · subst e
    exact x_no
  · subst e
    refine x_aload_nr 0 dJ31_remove_9 rfl rfl (n := 10) rfl ?_
    exact x_areturn (x := some b3) (Or.inl ⟨_, rfl⟩) dJ31_remove_10
abbrev cX4_pace : ByteArray := prog_7_method_14_code
def yX4_pace : MethodName := ⟨RX4, "pace", "(I)LForestLegs$Part;"⟩
def dkwX4_pace_6 : List UInt8 := [182, 0, 128, 192, 0, 118, 176]
abbrev dktX4_pace_6 : List UInt8 := dkwX4_pace_6 ++ []
def dkwX4_pace_5 : List UInt8 := [100, 5, 108, 54, 4, 21, 4, 158, 0, 14, 44, 182, 0, 125, 87, 132, 4, 255, 167, 255, 243, 44]
abbrev dktX4_pace_5 : List UInt8 := dkwX4_pace_5 ++ dktX4_pace_6
def dkwX4_pace_4 : List UInt8 := [29, 21, 4, 182, 0, 112, 183, 0, 120, 182, 0, 123, 87, 132, 4, 1, 167, 255, 178, 44, 182, 0, 124, 4]
abbrev dktX4_pace_4 : List UInt8 := dkwX4_pace_4 ++ dktX4_pace_5
def dkwX4_pace_3 : List UInt8 := [21, 4, 182, 0, 112, 158, 0, 32, 44, 187, 0, 118, 89, 42, 27, 182, 0, 78, 21, 4, 182, 0, 97, 42]
abbrev dktX4_pace_3 : List UInt8 := dkwX4_pace_3 ++ dktX4_pace_4
def dkwX4_pace_2 : List UInt8 := [182, 0, 111, 163, 0, 63, 42, 27, 182, 0, 78, 21, 4, 182, 0, 97, 16, 254, 159, 0, 42, 42, 29]
abbrev dktX4_pace_2 : List UInt8 := dkwX4_pace_2 ++ dktX4_pace_3
def dkwX4_pace_1 : List UInt8 := [180, 0, 72, 62, 3, 54, 4, 21, 4, 42, 180, 0, 14, 29, 185, 0, 68, 2, 0, 192, 0, 47]
abbrev dktX4_pace_1 : List UInt8 := dkwX4_pace_1 ++ dktX4_pace_2
def dkwX4_pace_0 : List UInt8 := [187, 0, 115, 89, 16, 16, 183, 0, 117, 77, 42, 180, 0, 20, 27, 185, 0, 68, 2, 0, 192, 0, 57]
abbrev dktX4_pace_0 : List UInt8 := dkwX4_pace_0 ++ dktX4_pace_1
theorem dksX4_pace_0 : cX4_pace.data.toList.drop 0 = dktX4_pace_0 := by decide +kernel
theorem dksX4_pace_1 : cX4_pace.data.toList.drop 23 = dktX4_pace_1 := dk_seg dksX4_pace_0 23 rfl rfl
theorem dksX4_pace_2 : cX4_pace.data.toList.drop 45 = dktX4_pace_2 := dk_seg dksX4_pace_1 22 rfl rfl
theorem dksX4_pace_3 : cX4_pace.data.toList.drop 68 = dktX4_pace_3 := dk_seg dksX4_pace_2 23 rfl rfl
theorem dksX4_pace_4 : cX4_pace.data.toList.drop 92 = dktX4_pace_4 := dk_seg dksX4_pace_3 24 rfl rfl
theorem dksX4_pace_5 : cX4_pace.data.toList.drop 116 = dktX4_pace_5 := dk_seg dksX4_pace_4 24 rfl rfl
theorem dksX4_pace_6 : cX4_pace.data.toList.drop 138 = dktX4_pace_6 := dk_seg dksX4_pace_5 22 rfl rfl
theorem dX4_pace_0 : decode cX4_pace 0 = .ok (.new 115, 3) := dk_187 0 115 (dk_at dksX4_pace_0 0 rfl rfl)
theorem dX4_pace_3 : decode cX4_pace 3 = .ok (.dup, 1) := dk_89 (dk_at dksX4_pace_0 3 rfl rfl)
theorem dX4_pace_4 : decode cX4_pace 4 = .ok (.bipush 16, 2) := dk_16 16 (dk_at dksX4_pace_0 4 rfl rfl)
theorem dX4_pace_6 : decode cX4_pace 6 = .ok (.invokespecial 117, 3) := dk_183 0 117 (dk_at dksX4_pace_0 6 rfl rfl)
theorem dX4_pace_9 : decode cX4_pace 9 = .ok (.astore_n 2, 1) := dk_77 (dk_at dksX4_pace_0 9 rfl rfl)
theorem dX4_pace_10 : decode cX4_pace 10 = .ok (.aload_n 0, 1) := dk_42 (dk_at dksX4_pace_0 10 rfl rfl)
theorem dX4_pace_11 : decode cX4_pace 11 = .ok (.getfield 20, 3) := dk_180 0 20 (dk_at dksX4_pace_0 11 rfl rfl)
theorem dX4_pace_14 : decode cX4_pace 14 = .ok (.iload_n 1, 1) := dk_27 (dk_at dksX4_pace_0 14 rfl rfl)
theorem dX4_pace_15 : decode cX4_pace 15 = .ok (.invokeinterface 68 2, 5) := by decide +kernel
theorem dX4_pace_20 : decode cX4_pace 20 = .ok (.checkcast 57, 3) := dk_192 0 57 (dk_at dksX4_pace_0 20 rfl rfl)
theorem dX4_pace_23 : decode cX4_pace 23 = .ok (.getfield 72, 3) := dk_180 0 72 (dk_at dksX4_pace_1 0 rfl rfl)
theorem dX4_pace_26 : decode cX4_pace 26 = .ok (.istore_n 3, 1) := dk_62 (dk_at dksX4_pace_1 3 rfl rfl)
theorem dX4_pace_27 : decode cX4_pace 27 = .ok (.iconst 0, 1) := dk_3 (dk_at dksX4_pace_1 4 rfl rfl)
theorem dX4_pace_28 : decode cX4_pace 28 = .ok (.istore 4, 2) := dk_54 4 (dk_at dksX4_pace_1 5 rfl rfl)
theorem dX4_pace_30 : decode cX4_pace 30 = .ok (.iload 4, 2) := dk_21 4 (dk_at dksX4_pace_1 7 rfl rfl)
theorem dX4_pace_32 : decode cX4_pace 32 = .ok (.aload_n 0, 1) := dk_42 (dk_at dksX4_pace_1 9 rfl rfl)
theorem dX4_pace_33 : decode cX4_pace 33 = .ok (.getfield 14, 3) := dk_180 0 14 (dk_at dksX4_pace_1 10 rfl rfl)
theorem dX4_pace_36 : decode cX4_pace 36 = .ok (.iload_n 3, 1) := dk_29 (dk_at dksX4_pace_1 13 rfl rfl)
theorem dX4_pace_37 : decode cX4_pace 37 = .ok (.invokeinterface 68 2, 5) := by decide +kernel
theorem dX4_pace_42 : decode cX4_pace 42 = .ok (.checkcast 47, 3) := dk_192 0 47 (dk_at dksX4_pace_1 19 rfl rfl)
theorem dX4_pace_45 : decode cX4_pace 45 = .ok (.invokevirtual 111, 3) := dk_182 0 111 (dk_at dksX4_pace_2 0 rfl rfl)
theorem dX4_pace_48 : decode cX4_pace 48 = .ok (.if_icmp .gt 63, 3) := dk_163 0 63 (dk_at dksX4_pace_2 3 rfl rfl)
theorem dX4_pace_51 : decode cX4_pace 51 = .ok (.aload_n 0, 1) := dk_42 (dk_at dksX4_pace_2 6 rfl rfl)
theorem dX4_pace_52 : decode cX4_pace 52 = .ok (.iload_n 1, 1) := dk_27 (dk_at dksX4_pace_2 7 rfl rfl)
theorem dX4_pace_53 : decode cX4_pace 53 = .ok (.invokevirtual 78, 3) := dk_182 0 78 (dk_at dksX4_pace_2 8 rfl rfl)
theorem dX4_pace_56 : decode cX4_pace 56 = .ok (.iload 4, 2) := dk_21 4 (dk_at dksX4_pace_2 11 rfl rfl)
theorem dX4_pace_58 : decode cX4_pace 58 = .ok (.invokevirtual 97, 3) := dk_182 0 97 (dk_at dksX4_pace_2 13 rfl rfl)
theorem dX4_pace_61 : decode cX4_pace 61 = .ok (.bipush (-2), 2) := dk_16 254 (dk_at dksX4_pace_2 16 rfl rfl)
theorem dX4_pace_63 : decode cX4_pace 63 = .ok (.if_icmp .eq 42, 3) := dk_159 0 42 (dk_at dksX4_pace_2 18 rfl rfl)
theorem dX4_pace_66 : decode cX4_pace 66 = .ok (.aload_n 0, 1) := dk_42 (dk_at dksX4_pace_2 21 rfl rfl)
theorem dX4_pace_67 : decode cX4_pace 67 = .ok (.iload_n 3, 1) := dk_29 (dk_at dksX4_pace_2 22 rfl rfl)
theorem dX4_pace_68 : decode cX4_pace 68 = .ok (.iload 4, 2) := dk_21 4 (dk_at dksX4_pace_3 0 rfl rfl)
theorem dX4_pace_70 : decode cX4_pace 70 = .ok (.invokevirtual 112, 3) := dk_182 0 112 (dk_at dksX4_pace_3 2 rfl rfl)
theorem dX4_pace_73 : decode cX4_pace 73 = .ok (.ifCond .le 32, 3) := dk_158 0 32 (dk_at dksX4_pace_3 5 rfl rfl)
theorem dX4_pace_76 : decode cX4_pace 76 = .ok (.aload_n 2, 1) := dk_44 (dk_at dksX4_pace_3 8 rfl rfl)
theorem dX4_pace_77 : decode cX4_pace 77 = .ok (.new 118, 3) := dk_187 0 118 (dk_at dksX4_pace_3 9 rfl rfl)
theorem dX4_pace_80 : decode cX4_pace 80 = .ok (.dup, 1) := dk_89 (dk_at dksX4_pace_3 12 rfl rfl)
theorem dX4_pace_81 : decode cX4_pace 81 = .ok (.aload_n 0, 1) := dk_42 (dk_at dksX4_pace_3 13 rfl rfl)
theorem dX4_pace_82 : decode cX4_pace 82 = .ok (.iload_n 1, 1) := dk_27 (dk_at dksX4_pace_3 14 rfl rfl)
theorem dX4_pace_83 : decode cX4_pace 83 = .ok (.invokevirtual 78, 3) := dk_182 0 78 (dk_at dksX4_pace_3 15 rfl rfl)
theorem dX4_pace_86 : decode cX4_pace 86 = .ok (.iload 4, 2) := dk_21 4 (dk_at dksX4_pace_3 18 rfl rfl)
theorem dX4_pace_88 : decode cX4_pace 88 = .ok (.invokevirtual 97, 3) := dk_182 0 97 (dk_at dksX4_pace_3 20 rfl rfl)
theorem dX4_pace_91 : decode cX4_pace 91 = .ok (.aload_n 0, 1) := dk_42 (dk_at dksX4_pace_3 23 rfl rfl)
theorem dX4_pace_92 : decode cX4_pace 92 = .ok (.iload_n 3, 1) := dk_29 (dk_at dksX4_pace_4 0 rfl rfl)
theorem dX4_pace_93 : decode cX4_pace 93 = .ok (.iload 4, 2) := dk_21 4 (dk_at dksX4_pace_4 1 rfl rfl)
theorem dX4_pace_95 : decode cX4_pace 95 = .ok (.invokevirtual 112, 3) := dk_182 0 112 (dk_at dksX4_pace_4 3 rfl rfl)
theorem dX4_pace_98 : decode cX4_pace 98 = .ok (.invokespecial 120, 3) := dk_183 0 120 (dk_at dksX4_pace_4 6 rfl rfl)
theorem dX4_pace_101 : decode cX4_pace 101 = .ok (.invokevirtual 123, 3) := dk_182 0 123 (dk_at dksX4_pace_4 9 rfl rfl)
theorem dX4_pace_104 : decode cX4_pace 104 = .ok (.pop, 1) := dk_87 (dk_at dksX4_pace_4 12 rfl rfl)
theorem dX4_pace_105 : decode cX4_pace 105 = .ok (.iinc 4 1, 3) := dk_132 4 1 (dk_at dksX4_pace_4 13 rfl rfl)
theorem dX4_pace_108 : decode cX4_pace 108 = .ok (.goto (-78), 3) := dk_167 255 178 (dk_at dksX4_pace_4 16 rfl rfl)
theorem dX4_pace_111 : decode cX4_pace 111 = .ok (.aload_n 2, 1) := dk_44 (dk_at dksX4_pace_4 19 rfl rfl)
theorem dX4_pace_112 : decode cX4_pace 112 = .ok (.invokevirtual 124, 3) := dk_182 0 124 (dk_at dksX4_pace_4 20 rfl rfl)
theorem dX4_pace_115 : decode cX4_pace 115 = .ok (.iconst 1, 1) := dk_4 (dk_at dksX4_pace_4 23 rfl rfl)
theorem dX4_pace_116 : decode cX4_pace 116 = .ok (.isub, 1) := dk_100 (dk_at dksX4_pace_5 0 rfl rfl)
theorem dX4_pace_117 : decode cX4_pace 117 = .ok (.iconst 2, 1) := dk_5 (dk_at dksX4_pace_5 1 rfl rfl)
theorem dX4_pace_118 : decode cX4_pace 118 = .ok (.idiv, 1) := dk_108 (dk_at dksX4_pace_5 2 rfl rfl)
theorem dX4_pace_119 : decode cX4_pace 119 = .ok (.istore 4, 2) := dk_54 4 (dk_at dksX4_pace_5 3 rfl rfl)
theorem dX4_pace_121 : decode cX4_pace 121 = .ok (.iload 4, 2) := dk_21 4 (dk_at dksX4_pace_5 5 rfl rfl)
theorem dX4_pace_123 : decode cX4_pace 123 = .ok (.ifCond .le 14, 3) := dk_158 0 14 (dk_at dksX4_pace_5 7 rfl rfl)
theorem dX4_pace_126 : decode cX4_pace 126 = .ok (.aload_n 2, 1) := dk_44 (dk_at dksX4_pace_5 10 rfl rfl)
theorem dX4_pace_127 : decode cX4_pace 127 = .ok (.invokevirtual 125, 3) := dk_182 0 125 (dk_at dksX4_pace_5 11 rfl rfl)
theorem dX4_pace_130 : decode cX4_pace 130 = .ok (.pop, 1) := dk_87 (dk_at dksX4_pace_5 14 rfl rfl)
theorem dX4_pace_131 : decode cX4_pace 131 = .ok (.iinc 4 (-1), 3) := dk_132 4 255 (dk_at dksX4_pace_5 15 rfl rfl)
theorem dX4_pace_134 : decode cX4_pace 134 = .ok (.goto (-13), 3) := dk_167 255 243 (dk_at dksX4_pace_5 18 rfl rfl)
theorem dX4_pace_137 : decode cX4_pace 137 = .ok (.aload_n 2, 1) := dk_44 (dk_at dksX4_pace_5 21 rfl rfl)
theorem dX4_pace_138 : decode cX4_pace 138 = .ok (.invokevirtual 128, 3) := dk_182 0 128 (dk_at dksX4_pace_6 0 rfl rfl)
theorem dX4_pace_141 : decode cX4_pace 141 = .ok (.checkcast 118, 3) := dk_192 0 118 (dk_at dksX4_pace_6 3 rfl rfl)
theorem dX4_pace_144 : decode cX4_pace 144 = .ok (.areturn, 1) := dk_176 (dk_at dksX4_pace_6 6 rfl rfl)
theorem md_X4_pace : xMd yX4_pace cX4_pace 5 (Option.some (Jvm.ClassFile.FieldType.object "ForestLegs$Part")) 1 := ⟨q2009, q128, by decide, by decide +kernel, by decide +kernel, by decide +kernel⟩
def f_X4_pace_121F (a0 : Nat)  (k121 : Nat × Int32 × PH → Option (xO × PH)) (p : Nat × Int32 × PH) : Option (xO × PH) := match p with
  | (v2, v4, p0) => (if v4 ≤ 0 then
  (xcR (f_J32_poll p0 v2 ) fun x21 p20 =>
  (xcst p20 (x21) [10]
  (rR x21 p20))) else
  (xcR (f_J31_remove p0 v2 ) fun x23 p22 =>
  (bnd (v4 + (-1)) fun x24 =>
  (k121 (v2, x24, p22)))))
def f_X4_pace_105 (a0 : Nat) (k30 : Int32 × Nat × Int32 × Int32 × PH → Option (xO × PH)) (v1 : Int32) (v2 : Nat) (v3 : Int32) (v4 : Int32) (p0 : PH) : Option (xO × PH) :=
  (bnd (v4 + 1) fun x30 =>
  (k30 (v1, v2, v3, x30, p0)))
def f_X4_pace_30F (a0 : Nat)  (k30 : Int32 × Nat × Int32 × Int32 × PH → Option (xO × PH)) (p : Int32 × Nat × Int32 × Int32 × PH) : Option (xO × PH) := match p with
  | (v1, v2, v3, v4, p0) => (xgR p0 a0 3 0 fun x10 =>
  (xnul x10 none fun b11 =>
  (xcR (f_J3_get p0 b11 v3) fun x13 p12 =>
  (xcst p12 (x13) [5]
  (xnul x13 none fun b14 =>
  (xcI (f_X6_size p12 b14 ) fun x16 p15 =>
  (if x16 < v4 then
  (xcI (f_J32_size p15 v2 ) fun x18 p17 =>
  (if 2 = 0 then none else
  (bnd ((x18 - 1) / 2) fun x19 =>
  (lp (f_X4_pace_121F a0) FU (v2, x19, p17))))) else
  (xcR (f_X4_match p15 a0 v1) fun x26 p25 =>
  (xnul x26 none fun b27 =>
  (xcI (f_X9_leg p25 b27 v4) fun x29 p28 =>
  (if x29 = (-2) then
  (f_X4_pace_105 a0 k30 v1 v2 v3 v4 p28) else
  (xcI (f_X4_best p28 a0 v3 v4) fun x32 p31 =>
  (if x32 ≤ 0 then
  (f_X4_pace_105 a0 k30 v1 v2 v3 v4 p31) else
  (xnew p31 10 [.int 0, .int 0] fun b33 p34 =>
  (xcR (f_X4_match p34 a0 v1) fun x36 p35 =>
  (xnul x36 none fun b37 =>
  (xcI (f_X9_leg p35 b37 v4) fun x39 p38 =>
  (xcI (f_X4_best p38 a0 v3 v4) fun x41 p40 =>
  (xcV (f_X11_init p40 b33 x39 x41) fun p42 =>
  (xcI (f_J32_add p42 v2 (some b33)) fun x44 p43 =>
  (f_X4_pace_105 a0 k30 v1 v2 v3 v4 p43)))))))))))))))))))))
def f_X4_pace (p0 : PH) (a0 : Nat) (a1 : Int32) : Option (xO × PH) :=
  (xcl1 p0 a0 3 (xnew p0 22 [.null, .int 0, .null, .int 0] fun b1 p2 =>
  (xcV (f_J32_init p2 b1 16) fun p3 =>
  (xgR p3 a0 3 1 fun x4 =>
  (xnul x4 none fun b5 =>
  (xcR (f_J3_get p3 b5 a1) fun x7 p6 =>
  (xcst p6 (x7) [6]
  (xnul x7 none fun b8 =>
  (xgI p6 b8 6 1 fun x9 =>
  (lp (f_X4_pace_30F a0) FU (a1, b1, x9, 0, p6)))))))))))
theorem rc_X4_pace {p0 : PH} {a0 : Nat} {a1 : Int32} : ∀ z, f_X4_pace p0 a0 a1 = some z → xco p0 a0 = some 3 := fun z h => xcl1_some h
theorem f_X4_pace_121F_ok {G : xG} (hO : xOK G) (a0 : Nat)  {k121 : Nat × Int32 × PH → Option (xO × PH)} (hk121 : ∀ (v2 : Nat) (v4 : Int32) (p0 : PH), X G "ForestLegs$Meet" "pace" cX4_pace 5 (Option.some (Jvm.ClassFile.FieldType.object "ForestLegs$Part")) 12 121 [(2, .ref v2), (4, .int v4)] [] p0 (k121 (v2, v4, p0))) (v2 : Nat) (v4 : Int32) (p0 : PH) : X G "ForestLegs$Meet" "pace" cX4_pace 5 (Option.some (Jvm.ClassFile.FieldType.object "ForestLegs$Part")) 12 121 [(2, .ref v2), (4, .int v4)] [] p0 (f_X4_pace_121F a0 k121 (v2, v4, p0)) := by
  unfold f_X4_pace_121F
  refine x_iload 1 dX4_pace_121 rfl (n := 123) rfl ?_
  refine x_if_le dX4_pace_123 (t := 137) (by decide) (n := 126) rfl (fun _ => ?_) (fun _ => ?_)
  · refine x_aload_nr 0 dX4_pace_137 rfl rfl (n := 138) rfl ?_
    refine x_callV_R [] [] (f_J32_poll_ok hO p0 v2 ) rc_J32_poll md_J32_poll rfl q2106 q2096 q3485 dX4_pace_138 rfl rfl (by decide) (Nat.le_of_ble_eq_true rfl) (n := 141) rfl (fun x21 p20 => ?_)
    refine x_cast (x := x21) (cs := [10]) q2039 cst_ForestLegs_Part dX4_pace_141 (n := 144) rfl ?_
    exact x_areturn (x := x21) (Or.inl ⟨_, rfl⟩) dX4_pace_144
  · refine x_aload_nr 0 dX4_pace_126 rfl rfl (n := 127) rfl ?_
    refine x_callU_R (x := ⟨"java/util/PriorityQueue", "remove", "()Ljava/lang/Object;"⟩) (owner := "java/util/AbstractQueue") [] [] (f_J31_remove_ok hO p0 v2 ) rc_J31_remove md_J31_remove rfl q2087 q2088 ⟨by decide +kernel, by decide +kernel⟩ (Or.inl rfl) q2091 q2090 (by decide +kernel) dX4_pace_127 rfl rfl (by decide) (Nat.le_of_ble_eq_true rfl) (n := 130) rfl (fun x23 p22 => ?_)
    refine x_pop dX4_pace_130 (xcat _) (n := 131) rfl ?_
    refine x_iincB 1 (fun x24 => [(4, .int x24), (2, .ref v2)]) dX4_pace_131 rfl rfl (by decide) (fun _ => rfl) (n := 134) rfl (fun x24 => ?_)
    refine x_goto dX4_pace_134 (n := 121) (by decide) ?_
    refine x_sub [1, 0] [(2, .ref v2), (4, .int x24)] rfl ?_
    exact hk121 v2 x24 p22
theorem f_X4_pace_121_lp {G : xG} (hO : xOK G) (a0 : Nat)  (n : Nat) (v2 : Nat) (v4 : Int32) (p0 : PH) : X G "ForestLegs$Meet" "pace" cX4_pace 5 (Option.some (Jvm.ClassFile.FieldType.object "ForestLegs$Part")) 12 121 [(2, .ref v2), (4, .int v4)] [] p0 (lp (f_X4_pace_121F a0) n (v2, v4, p0)) :=
  lp_ok (W := fun p K => X G "ForestLegs$Meet" "pace" cX4_pace 5 (Option.some (Jvm.ClassFile.FieldType.object "ForestLegs$Part")) 12 121 [(2, .ref p.1), (4, .int p.2.1)] [] p.2.2 K) (fun _ => x_no) (fun k hk => fun (v2, v4, p0) => f_X4_pace_121F_ok hO a0 (fun v2 v4 p0 => hk (v2, v4, p0)) v2 v4 p0) n (v2, v4, p0)
theorem f_X4_pace_105_ok {G : xG} (hO : xOK G) (a0 : Nat) {k30 : Int32 × Nat × Int32 × Int32 × PH → Option (xO × PH)} (hk30 : ∀ (v1 : Int32) (v2 : Nat) (v3 : Int32) (v4 : Int32) (p0 : PH), X G "ForestLegs$Meet" "pace" cX4_pace 5 (Option.some (Jvm.ClassFile.FieldType.object "ForestLegs$Part")) 12 30 [(0, .ref a0), (1, .int v1), (2, .ref v2), (3, .int v3), (4, .int v4)] [] p0 (k30 (v1, v2, v3, v4, p0))) (v1 : Int32) (v2 : Nat) (v3 : Int32) (v4 : Int32) (p0 : PH) : X G "ForestLegs$Meet" "pace" cX4_pace 5 (Option.some (Jvm.ClassFile.FieldType.object "ForestLegs$Part")) 12 105 [(0, .ref a0), (1, .int v1), (2, .ref v2), (3, .int v3), (4, .int v4)] [] p0 (f_X4_pace_105 a0 k30 v1 v2 v3 v4 p0) := by
  unfold f_X4_pace_105
  refine x_iincB 4 (fun x30 => [(4, .int x30), (0, .ref a0), (1, .int v1), (2, .ref v2), (3, .int v3)]) dX4_pace_105 rfl rfl (by decide) (fun _ => rfl) (n := 108) rfl (fun x30 => ?_)
  refine x_goto dX4_pace_108 (n := 30) (by decide) ?_
  refine x_sub [1, 2, 3, 4, 0] [(0, .ref a0), (1, .int v1), (2, .ref v2), (3, .int v3), (4, .int x30)] rfl ?_
  exact hk30 v1 v2 v3 x30 p0
theorem f_X4_pace_30F_ok {G : xG} (hO : xOK G) (a0 : Nat)  {k30 : Int32 × Nat × Int32 × Int32 × PH → Option (xO × PH)} (hk30 : ∀ (v1 : Int32) (v2 : Nat) (v3 : Int32) (v4 : Int32) (p0 : PH), X G "ForestLegs$Meet" "pace" cX4_pace 5 (Option.some (Jvm.ClassFile.FieldType.object "ForestLegs$Part")) 12 30 [(0, .ref a0), (1, .int v1), (2, .ref v2), (3, .int v3), (4, .int v4)] [] p0 (k30 (v1, v2, v3, v4, p0))) (v1 : Int32) (v2 : Nat) (v3 : Int32) (v4 : Int32) (p0 : PH) : X G "ForestLegs$Meet" "pace" cX4_pace 5 (Option.some (Jvm.ClassFile.FieldType.object "ForestLegs$Part")) 12 30 [(0, .ref a0), (1, .int v1), (2, .ref v2), (3, .int v3), (4, .int v4)] [] p0 (f_X4_pace_30F a0 k30 (v1, v2, v3, v4, p0)) := by
  unfold f_X4_pace_30F
  refine x_iload 4 dX4_pace_30 rfl (n := 32) rfl ?_
  refine x_aload_nr 0 dX4_pace_32 rfl rfl (n := 33) rfl ?_
  refine x_getR fl_X4_14 dX4_pace_33 (n := 36) rfl (fun x10 => ?_)
  refine x_iload_n 3 dX4_pace_36 rfl rfl (n := 37) rfl ?_
  refine x_sm (fun b11 e => ?_)
  subst e
  refine x_callF_R [.int v3] [.int v4] (f_J3_get_ok hO p0 b11 v3) rc_J3_get md_J3_get rfl q1511 fc_java_util_ArrayList_java_util_List_get_1_ILjava dX4_pace_37 rfl rfl (by decide) (Nat.le_of_ble_eq_true rfl) (n := 42) rfl (fun x13 p12 => ?_)
  refine x_cast (x := x13) (cs := [5]) q1513 cst_ForestLegs_Course dX4_pace_42 (n := 45) rfl ?_
  refine x_sm (fun b14 e => ?_)
  subst e
  refine x_callV_I [] [.int v4] (f_X6_size_ok hO p12 b14 ) rc_X6_size md_X6_size rfl q1726 q1199 q1200 dX4_pace_45 rfl rfl (by decide) (Nat.le_of_ble_eq_true rfl) (n := 48) rfl (fun x16 p15 => ?_)
  refine x_icmp_gt dX4_pace_48 (t := 111) (by decide) (n := 51) rfl (fun _ => ?_) (fun _ => ?_)
  · refine x_aload_nr 2 dX4_pace_111 rfl rfl (n := 112) rfl ?_
    refine x_callV_I [] [] (f_J32_size_ok hO p15 v2 ) rc_J32_size md_J32_size rfl q2083 q2084 q2085 dX4_pace_112 rfl rfl (by decide) (Nat.le_of_ble_eq_true rfl) (n := 115) rfl (fun x18 p17 => ?_)
    refine x_iconst 1 dX4_pace_115 rfl (n := 116) rfl ?_
    refine x_isub dX4_pace_116 (n := 117) rfl ?_
    refine x_iconst 2 dX4_pace_117 rfl (n := 118) rfl ?_
    refine x_idiv dX4_pace_118 (n := 119) rfl (fun _ => ?_)
    refine x_nm (fun x19 => ?_)
    refine x_istore [(4, .int x19), (0, .ref a0), (1, .int v1), (2, .ref v2), (3, .int v3)] dX4_pace_119 (by decide) rfl (n := 121) rfl ?_
    refine x_sub [3, 0] [(2, .ref v2), (4, .int x19)] rfl ?_
    exact f_X4_pace_121_lp hO a0 FU v2 x19 p17
  · refine x_aload_nr 0 dX4_pace_51 rfl rfl (n := 52) rfl ?_
    refine x_iload_n 1 dX4_pace_52 rfl rfl (n := 53) rfl ?_
    refine x_callV_R [.int v1] [] (f_X4_match_ok hO p15 a0 v1) rc_X4_match md_X4_match rfl q1503 q1504 q1505 dX4_pace_53 rfl rfl (by decide) (Nat.le_of_ble_eq_true rfl) (n := 56) rfl (fun x26 p25 => ?_)
    refine x_iload 4 dX4_pace_56 rfl (n := 58) rfl ?_
    refine x_sm (fun b27 e => ?_)
    subst e
    refine x_callV_I [.int v4] [] (f_X9_leg_ok hO p25 b27 v4) rc_X9_leg md_X9_leg rfl q1746 q1747 q1748 dX4_pace_58 rfl rfl (by decide) (Nat.le_of_ble_eq_true rfl) (n := 61) rfl (fun x29 p28 => ?_)
    refine x_bipush (-2) dX4_pace_61 rfl (n := 63) rfl ?_
    refine x_icmp_eq dX4_pace_63 (t := 105) (by decide) (n := 66) rfl (fun _ => ?_) (fun _ => ?_)
    · exact f_X4_pace_105_ok hO a0 hk30 v1 v2 v3 v4 p28
    · refine x_aload_nr 0 dX4_pace_66 rfl rfl (n := 67) rfl ?_
      refine x_iload_n 3 dX4_pace_67 rfl rfl (n := 68) rfl ?_
      refine x_iload 4 dX4_pace_68 rfl (n := 70) rfl ?_
      refine x_callV_I [.int v3, .int v4] [] (f_X4_best_ok hO p28 a0 v3 v4) rc_X4_best md_X4_best rfl q1727 q1728 q1729 dX4_pace_70 rfl rfl (by decide) (Nat.le_of_ble_eq_true rfl) (n := 73) rfl (fun x32 p31 => ?_)
      refine x_if_le dX4_pace_73 (t := 105) (by decide) (n := 76) rfl (fun _ => ?_) (fun _ => ?_)
      · exact f_X4_pace_105_ok hO a0 hk30 v1 v2 v3 v4 p31
      · refine x_aload_nr 2 dX4_pace_76 rfl rfl (n := 77) rfl ?_
        refine x_new cl_10 (by decide) q2039 q2040 q171 rfl dX4_pace_77 (n := 80) rfl (fun b33 p34 => ?_)
        refine x_dup dX4_pace_80 rfl (n := 81) rfl ?_
        refine x_aload_nr 0 dX4_pace_81 rfl rfl (n := 82) rfl ?_
        refine x_iload_n 1 dX4_pace_82 rfl rfl (n := 83) rfl ?_
        refine x_callV_R [.int v1] [.ref b33, .ref b33, .ref v2] (f_X4_match_ok hO p34 a0 v1) rc_X4_match md_X4_match rfl q1503 q1504 q1505 dX4_pace_83 rfl rfl (by decide) (Nat.le_of_ble_eq_true rfl) (n := 86) rfl (fun x36 p35 => ?_)
        refine x_iload 4 dX4_pace_86 rfl (n := 88) rfl ?_
        refine x_sm (fun b37 e => ?_)
        subst e
        refine x_callV_I [.int v4] [.ref b33, .ref b33, .ref v2] (f_X9_leg_ok hO p35 b37 v4) rc_X9_leg md_X9_leg rfl q1746 q1747 q1748 dX4_pace_88 rfl rfl (by decide) (Nat.le_of_ble_eq_true rfl) (n := 91) rfl (fun x39 p38 => ?_)
        refine x_aload_nr 0 dX4_pace_91 rfl rfl (n := 92) rfl ?_
        refine x_iload_n 3 dX4_pace_92 rfl rfl (n := 93) rfl ?_
        refine x_iload 4 dX4_pace_93 rfl (n := 95) rfl ?_
        refine x_callV_I [.int v3, .int v4] [.int x39, .ref b33, .ref b33, .ref v2] (f_X4_best_ok hO p38 a0 v3 v4) rc_X4_best md_X4_best rfl q1727 q1728 q1729 dX4_pace_95 rfl rfl (by decide) (Nat.le_of_ble_eq_true rfl) (n := 98) rfl (fun x41 p40 => ?_)
        refine x_callI_V [.int x39, .int x41] [.ref b33, .ref v2] (f_X11_init_ok hO p40 b33 x39 x41) md_X11_init rfl q2041 q2042 dX4_pace_98 rfl rfl (by decide) (Nat.le_of_ble_eq_true rfl) (n := 101) rfl (fun p42 => ?_)
        refine x_callV_I [.ref b33] [] (f_J32_add_ok hO p42 v2 (some b33)) rc_J32_add md_J32_add rfl q2054 q2055 q2056 dX4_pace_101 rfl rfl (by decide) (Nat.le_of_ble_eq_true rfl) (n := 104) rfl (fun x44 p43 => ?_)
        refine x_pop dX4_pace_104 rfl (n := 105) rfl ?_
        exact f_X4_pace_105_ok hO a0 hk30 v1 v2 v3 v4 p43
theorem f_X4_pace_30_lp {G : xG} (hO : xOK G) (a0 : Nat)  (n : Nat) (v1 : Int32) (v2 : Nat) (v3 : Int32) (v4 : Int32) (p0 : PH) : X G "ForestLegs$Meet" "pace" cX4_pace 5 (Option.some (Jvm.ClassFile.FieldType.object "ForestLegs$Part")) 12 30 [(0, .ref a0), (1, .int v1), (2, .ref v2), (3, .int v3), (4, .int v4)] [] p0 (lp (f_X4_pace_30F a0) n (v1, v2, v3, v4, p0)) :=
  lp_ok (W := fun p K => X G "ForestLegs$Meet" "pace" cX4_pace 5 (Option.some (Jvm.ClassFile.FieldType.object "ForestLegs$Part")) 12 30 [(0, .ref a0), (1, .int p.1), (2, .ref p.2.1), (3, .int p.2.2.1), (4, .int p.2.2.2.1)] [] p.2.2.2.2 K) (fun _ => x_no) (fun k hk => fun (v1, v2, v3, v4, p0) => f_X4_pace_30F_ok hO a0 (fun v1 v2 v3 v4 p0 => hk (v1, v2, v3, v4, p0)) v1 v2 v3 v4 p0) n (v1, v2, v3, v4, p0)
theorem f_X4_pace_ok {G : xG} (hO : xOK G) (p0 : PH) (a0 : Nat) (a1 : Int32) : CT G 12 yX4_pace cX4_pace 5 (Option.some (Jvm.ClassFile.FieldType.object "ForestLegs$Part")) [.ref a0, .int a1] p0 (f_X4_pace p0 a0 a1) := by
  refine CT_of hO (by decide +kernel) (by decide +kernel) (Nat.le_of_ble_eq_true rfl) ?_
  show X G "ForestLegs$Meet" "pace" cX4_pace 5 (Option.some (Jvm.ClassFile.FieldType.object "ForestLegs$Part")) 12 0 [(0, .ref a0), (1, .int a1)] [] p0 (f_X4_pace p0 a0 a1)
  refine x_cl1 (fun e0 => ?_)
  refine x_new cl_22 (by decide) q2010 q2011 q170 rfl dX4_pace_0 (n := 3) rfl (fun b1 p2 => ?_)
  refine x_dup dX4_pace_3 rfl (n := 4) rfl ?_
  refine x_bipush 16 dX4_pace_4 rfl (n := 6) rfl ?_
  refine x_callI_V [.int 16] [.ref b1] (f_J32_init_ok hO p2 b1 16) md_J32_init rfl q2012 q2013 dX4_pace_6 rfl rfl (by decide) (Nat.le_of_ble_eq_true rfl) (n := 9) rfl (fun p3 => ?_)
  refine x_astore_nr [(2, .ref b1), (0, .ref a0), (1, .int a1)] dX4_pace_9 rfl (by decide) rfl (n := 10) rfl ?_
  refine x_aload_nr 1 dX4_pace_10 rfl rfl (n := 11) rfl ?_
  refine x_getR fl_X4_20 dX4_pace_11 (n := 14) rfl (fun x4 => ?_)
  refine x_iload_n 2 dX4_pace_14 rfl rfl (n := 15) rfl ?_
  refine x_sm (fun b5 e => ?_)
  subst e
  refine x_callF_R [.int a1] [] (f_J3_get_ok hO p3 b5 a1) rc_J3_get md_J3_get rfl q1511 fc_java_util_ArrayList_java_util_List_get_1_ILjava dX4_pace_15 rfl rfl (by decide) (Nat.le_of_ble_eq_true rfl) (n := 20) rfl (fun x7 p6 => ?_)
  refine x_cast (x := x7) (cs := [6]) q1512 cst_ForestLegs_Runner dX4_pace_20 (n := 23) rfl ?_
  refine x_sm (fun b8 e => ?_)
  subst e
  refine x_getI fl_X4_72 dX4_pace_23 (n := 26) rfl (fun x9 => ?_)
  refine x_istore_n [(3, .int x9), (2, .ref b1), (0, .ref a0), (1, .int a1)] dX4_pace_26 rfl (by decide) rfl (n := 27) rfl ?_
  refine x_iconst 0 dX4_pace_27 rfl (n := 28) rfl ?_
  refine x_istore [(4, .int 0), (3, .int x9), (2, .ref b1), (0, .ref a0), (1, .int a1)] dX4_pace_28 (by decide) rfl (n := 30) rfl ?_
  refine x_sub [3, 4, 2, 1, 0] [(0, .ref a0), (1, .int a1), (2, .ref b1), (3, .int x9), (4, .int 0)] rfl ?_
  exact f_X4_pace_30_lp hO a0 FU a1 b1 x9 0 p6
