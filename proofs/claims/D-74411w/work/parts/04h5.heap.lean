set_option maxRecDepth 100000
set_option maxHeartbeats 4000000
abbrev cJ5_keySet : ByteArray := prog_77_method_49_code
def yJ5_keySet : MethodName := ⟨RJ5, "keySet", "()Ljava/util/Set;"⟩
theorem dJ5_keySet_0 : decode cJ5_keySet 0 = .ok (.aload_n 0, 1) := by decide +kernel
theorem dJ5_keySet_1 : decode cJ5_keySet 1 = .ok (.invokevirtual 219, 3) := by decide +kernel
theorem dJ5_keySet_4 : decode cJ5_keySet 4 = .ok (.areturn, 1) := by decide +kernel
theorem md_J5_keySet : xMd yJ5_keySet cJ5_keySet 1 (Option.some (Jvm.ClassFile.FieldType.object "java/util/Set")) 0 := ⟨q2387, q132, by decide, by decide +kernel, by decide +kernel, by decide +kernel⟩
def f_J5_keySet (p0 : PH) (a0 : Nat) : Option (xO × PH) :=
  (xcl1 p0 a0 15 (xcR (f_J5_navigableKeySet p0 a0 ) fun x2 p1 =>
  (rR x2 p1)))
theorem rc_J5_keySet {p0 : PH} {a0 : Nat} : ∀ z, f_J5_keySet p0 a0 = some z → xco p0 a0 = some 15 := fun z h => xcl1_some h
theorem f_J5_keySet_ok {G : xG} (hO : xOK G) (p0 : PH) (a0 : Nat) : CT G 5 yJ5_keySet cJ5_keySet 1 (Option.some (Jvm.ClassFile.FieldType.object "java/util/Set")) [.ref a0] p0 (f_J5_keySet p0 a0) := by
  refine CT_of hO (by decide +kernel) (by decide +kernel) (Nat.le_of_ble_eq_true rfl) ?_
  show X G "java/util/TreeMap" "keySet" cJ5_keySet 1 (Option.some (Jvm.ClassFile.FieldType.object "java/util/Set")) 5 0 [(0, .ref a0)] [] p0 (f_J5_keySet p0 a0)
  refine x_cl1 (fun e0 => ?_)
  refine x_aload_nr 0 dJ5_keySet_0 rfl rfl (n := 1) rfl ?_
  refine x_callV_R [] [] (f_J5_navigableKeySet_ok hO p0 a0 ) rc_J5_navigableKeySet md_J5_navigableKeySet rfl q2388 q2254 q3486 dJ5_keySet_1 rfl rfl (by decide) (Nat.le_of_ble_eq_true rfl) (n := 4) rfl (fun x2 p1 => ?_)
  exact x_areturn (x := x2) (Or.inl ⟨_, rfl⟩) dJ5_keySet_4
abbrev cX1_crowd : ByteArray := prog_1_method_53_code
def yX1_crowd : MethodName := ⟨RX1, "crowd", "(I)I"⟩
def dkwX1_crowd_12 : List UInt8 := [21, 4, 182, 0, 83, 172]
abbrev dktX1_crowd_12 : List UInt8 := dkwX1_crowd_12 ++ []
def dkwX1_crowd_11 : List UInt8 := [192, 0, 132, 182, 0, 158, 62, 21, 6, 54, 4, 167, 255, 189, 42, 27, 154, 0, 7, 29, 167, 0, 5]
abbrev dktX1_crowd_11 : List UInt8 := dkwX1_crowd_11 ++ dktX1_crowd_12
def dkwX1_crowd_10 : List UInt8 := [192, 0, 132, 182, 0, 158, 29, 163, 0, 6, 167, 255, 212, 44, 21, 6, 184, 0, 131, 182, 1, 62]
abbrev dktX1_crowd_10 : List UInt8 := dkwX1_crowd_10 ++ dktX1_crowd_11
def dkwX1_crowd_9 : List UInt8 := [25, 5, 185, 0, 185, 1, 0, 192, 0, 132, 182, 0, 158, 54, 6, 44, 21, 6, 184, 0, 131, 182, 1, 62]
abbrev dktX1_crowd_9 : List UInt8 := dkwX1_crowd_9 ++ dktX1_crowd_10
def dkwX1_crowd_8 : List UInt8 := [54, 4, 44, 182, 1, 55, 185, 1, 59, 1, 0, 58, 5, 25, 5, 185, 0, 180, 1, 0, 153, 0, 63]
abbrev dktX1_crowd_8 : List UInt8 := dkwX1_crowd_8 ++ dktX1_crowd_9
def dkwX1_crowd_7 : List UInt8 := [25, 4, 180, 0, 199, 184, 0, 131, 21, 5, 184, 0, 131, 182, 1, 51, 87, 167, 255, 140, 3, 62, 16, 254]
abbrev dktX1_crowd_7 : List UInt8 := dkwX1_crowd_7 ++ dktX1_crowd_8
def dkwX1_crowd_6 : List UInt8 := [180, 0, 199, 25, 7, 180, 0, 202, 162, 0, 7, 4, 167, 0, 4, 3, 96, 54, 5, 167, 255, 198, 44]
abbrev dktX1_crowd_6 : List UInt8 := dkwX1_crowd_6 ++ dktX1_crowd_7
def dkwX1_crowd_5 : List UInt8 := [192, 0, 103, 58, 7, 21, 5, 25, 7, 180, 0, 199, 25, 4, 180, 0, 199, 163, 0, 20, 25, 4]
abbrev dktX1_crowd_5 : List UInt8 := dkwX1_crowd_5 ++ dktX1_crowd_6
def dkwX1_crowd_4 : List UInt8 := [185, 0, 176, 1, 0, 58, 6, 25, 6, 185, 0, 180, 1, 0, 153, 0, 54, 25, 6, 185, 0, 185, 1, 0]
abbrev dktX1_crowd_4 : List UInt8 := dkwX1_crowd_4 ++ dktX1_crowd_5
def dkwX1_crowd_3 : List UInt8 := [153, 0, 113, 45, 185, 0, 185, 1, 0, 192, 0, 103, 58, 4, 3, 54, 5, 42, 180, 0, 56, 180, 0, 71]
abbrev dktX1_crowd_3 : List UInt8 := dkwX1_crowd_3 ++ dktX1_crowd_4
def dkwX1_crowd_2 : List UInt8 := [89, 183, 1, 50, 77, 42, 180, 0, 56, 180, 0, 71, 185, 0, 176, 1, 0, 78, 45, 185, 0, 180, 1, 0]
abbrev dktX1_crowd_2 : List UInt8 := dkwX1_crowd_2 ++ dktX1_crowd_3
def dkwX1_crowd_1 : List UInt8 := [180, 0, 56, 180, 0, 71, 185, 0, 154, 1, 0, 153, 0, 10, 42, 16, 6, 182, 0, 40, 172, 187, 1, 48]
abbrev dktX1_crowd_1 : List UInt8 := dkwX1_crowd_1 ++ dktX1_crowd_2
def dkwX1_crowd_0 : List UInt8 := [42, 180, 0, 56, 198, 0, 12, 27, 3, 4, 184, 0, 36, 154, 0, 9, 42, 4, 182, 0, 40, 172, 42]
abbrev dktX1_crowd_0 : List UInt8 := dkwX1_crowd_0 ++ dktX1_crowd_1
theorem dksX1_crowd_0 : cX1_crowd.data.toList.drop 0 = dktX1_crowd_0 := by decide +kernel
theorem dksX1_crowd_1 : cX1_crowd.data.toList.drop 23 = dktX1_crowd_1 := dk_seg dksX1_crowd_0 23 rfl rfl
theorem dksX1_crowd_2 : cX1_crowd.data.toList.drop 47 = dktX1_crowd_2 := dk_seg dksX1_crowd_1 24 rfl rfl
theorem dksX1_crowd_3 : cX1_crowd.data.toList.drop 71 = dktX1_crowd_3 := dk_seg dksX1_crowd_2 24 rfl rfl
theorem dksX1_crowd_4 : cX1_crowd.data.toList.drop 95 = dktX1_crowd_4 := dk_seg dksX1_crowd_3 24 rfl rfl
theorem dksX1_crowd_5 : cX1_crowd.data.toList.drop 119 = dktX1_crowd_5 := dk_seg dksX1_crowd_4 24 rfl rfl
theorem dksX1_crowd_6 : cX1_crowd.data.toList.drop 141 = dktX1_crowd_6 := dk_seg dksX1_crowd_5 22 rfl rfl
theorem dksX1_crowd_7 : cX1_crowd.data.toList.drop 164 = dktX1_crowd_7 := dk_seg dksX1_crowd_6 23 rfl rfl
theorem dksX1_crowd_8 : cX1_crowd.data.toList.drop 188 = dktX1_crowd_8 := dk_seg dksX1_crowd_7 24 rfl rfl
theorem dksX1_crowd_9 : cX1_crowd.data.toList.drop 211 = dktX1_crowd_9 := dk_seg dksX1_crowd_8 23 rfl rfl
theorem dksX1_crowd_10 : cX1_crowd.data.toList.drop 235 = dktX1_crowd_10 := dk_seg dksX1_crowd_9 24 rfl rfl
theorem dksX1_crowd_11 : cX1_crowd.data.toList.drop 257 = dktX1_crowd_11 := dk_seg dksX1_crowd_10 22 rfl rfl
theorem dksX1_crowd_12 : cX1_crowd.data.toList.drop 280 = dktX1_crowd_12 := dk_seg dksX1_crowd_11 23 rfl rfl
theorem dX1_crowd_0 : decode cX1_crowd 0 = .ok (.aload_n 0, 1) := dk_42 (dk_at dksX1_crowd_0 0 rfl rfl)
theorem dX1_crowd_1 : decode cX1_crowd 1 = .ok (.getfield 56, 3) := dk_180 0 56 (dk_at dksX1_crowd_0 1 rfl rfl)
theorem dX1_crowd_4 : decode cX1_crowd 4 = .ok (.ifnull 12, 3) := dk_198 0 12 (dk_at dksX1_crowd_0 4 rfl rfl)
theorem dX1_crowd_7 : decode cX1_crowd 7 = .ok (.iload_n 1, 1) := dk_27 (dk_at dksX1_crowd_0 7 rfl rfl)
theorem dX1_crowd_8 : decode cX1_crowd 8 = .ok (.iconst 0, 1) := dk_3 (dk_at dksX1_crowd_0 8 rfl rfl)
theorem dX1_crowd_9 : decode cX1_crowd 9 = .ok (.iconst 1, 1) := dk_4 (dk_at dksX1_crowd_0 9 rfl rfl)
theorem dX1_crowd_10 : decode cX1_crowd 10 = .ok (.invokestatic 36, 3) := dk_184 0 36 (dk_at dksX1_crowd_0 10 rfl rfl)
theorem dX1_crowd_13 : decode cX1_crowd 13 = .ok (.ifCond .ne 9, 3) := dk_154 0 9 (dk_at dksX1_crowd_0 13 rfl rfl)
theorem dX1_crowd_16 : decode cX1_crowd 16 = .ok (.aload_n 0, 1) := dk_42 (dk_at dksX1_crowd_0 16 rfl rfl)
theorem dX1_crowd_17 : decode cX1_crowd 17 = .ok (.iconst 1, 1) := dk_4 (dk_at dksX1_crowd_0 17 rfl rfl)
theorem dX1_crowd_18 : decode cX1_crowd 18 = .ok (.invokevirtual 40, 3) := dk_182 0 40 (dk_at dksX1_crowd_0 18 rfl rfl)
theorem dX1_crowd_21 : decode cX1_crowd 21 = .ok (.ireturn, 1) := dk_172 (dk_at dksX1_crowd_0 21 rfl rfl)
theorem dX1_crowd_22 : decode cX1_crowd 22 = .ok (.aload_n 0, 1) := dk_42 (dk_at dksX1_crowd_0 22 rfl rfl)
theorem dX1_crowd_23 : decode cX1_crowd 23 = .ok (.getfield 56, 3) := dk_180 0 56 (dk_at dksX1_crowd_1 0 rfl rfl)
theorem dX1_crowd_26 : decode cX1_crowd 26 = .ok (.getfield 71, 3) := dk_180 0 71 (dk_at dksX1_crowd_1 3 rfl rfl)
theorem dX1_crowd_29 : decode cX1_crowd 29 = .ok (.invokeinterface 154 1, 5) := by decide +kernel
theorem dX1_crowd_34 : decode cX1_crowd 34 = .ok (.ifCond .eq 10, 3) := dk_153 0 10 (dk_at dksX1_crowd_1 11 rfl rfl)
theorem dX1_crowd_37 : decode cX1_crowd 37 = .ok (.aload_n 0, 1) := dk_42 (dk_at dksX1_crowd_1 14 rfl rfl)
theorem dX1_crowd_38 : decode cX1_crowd 38 = .ok (.bipush 6, 2) := dk_16 6 (dk_at dksX1_crowd_1 15 rfl rfl)
theorem dX1_crowd_40 : decode cX1_crowd 40 = .ok (.invokevirtual 40, 3) := dk_182 0 40 (dk_at dksX1_crowd_1 17 rfl rfl)
theorem dX1_crowd_43 : decode cX1_crowd 43 = .ok (.ireturn, 1) := dk_172 (dk_at dksX1_crowd_1 20 rfl rfl)
theorem dX1_crowd_44 : decode cX1_crowd 44 = .ok (.new 304, 3) := dk_187 1 48 (dk_at dksX1_crowd_1 21 rfl rfl)
theorem dX1_crowd_47 : decode cX1_crowd 47 = .ok (.dup, 1) := dk_89 (dk_at dksX1_crowd_2 0 rfl rfl)
theorem dX1_crowd_48 : decode cX1_crowd 48 = .ok (.invokespecial 306, 3) := dk_183 1 50 (dk_at dksX1_crowd_2 1 rfl rfl)
theorem dX1_crowd_51 : decode cX1_crowd 51 = .ok (.astore_n 2, 1) := dk_77 (dk_at dksX1_crowd_2 4 rfl rfl)
theorem dX1_crowd_52 : decode cX1_crowd 52 = .ok (.aload_n 0, 1) := dk_42 (dk_at dksX1_crowd_2 5 rfl rfl)
theorem dX1_crowd_53 : decode cX1_crowd 53 = .ok (.getfield 56, 3) := dk_180 0 56 (dk_at dksX1_crowd_2 6 rfl rfl)
theorem dX1_crowd_56 : decode cX1_crowd 56 = .ok (.getfield 71, 3) := dk_180 0 71 (dk_at dksX1_crowd_2 9 rfl rfl)
theorem dX1_crowd_59 : decode cX1_crowd 59 = .ok (.invokeinterface 176 1, 5) := by decide +kernel
theorem dX1_crowd_64 : decode cX1_crowd 64 = .ok (.astore_n 3, 1) := dk_78 (dk_at dksX1_crowd_2 17 rfl rfl)
theorem dX1_crowd_65 : decode cX1_crowd 65 = .ok (.aload_n 3, 1) := dk_45 (dk_at dksX1_crowd_2 18 rfl rfl)
theorem dX1_crowd_66 : decode cX1_crowd 66 = .ok (.invokeinterface 180 1, 5) := by decide +kernel
theorem dX1_crowd_71 : decode cX1_crowd 71 = .ok (.ifCond .eq 113, 3) := dk_153 0 113 (dk_at dksX1_crowd_3 0 rfl rfl)
theorem dX1_crowd_74 : decode cX1_crowd 74 = .ok (.aload_n 3, 1) := dk_45 (dk_at dksX1_crowd_3 3 rfl rfl)
theorem dX1_crowd_75 : decode cX1_crowd 75 = .ok (.invokeinterface 185 1, 5) := by decide +kernel
theorem dX1_crowd_80 : decode cX1_crowd 80 = .ok (.checkcast 103, 3) := dk_192 0 103 (dk_at dksX1_crowd_3 9 rfl rfl)
theorem dX1_crowd_83 : decode cX1_crowd 83 = .ok (.astore 4, 2) := dk_58 4 (dk_at dksX1_crowd_3 12 rfl rfl)
theorem dX1_crowd_85 : decode cX1_crowd 85 = .ok (.iconst 0, 1) := dk_3 (dk_at dksX1_crowd_3 14 rfl rfl)
theorem dX1_crowd_86 : decode cX1_crowd 86 = .ok (.istore 5, 2) := dk_54 5 (dk_at dksX1_crowd_3 15 rfl rfl)
theorem dX1_crowd_88 : decode cX1_crowd 88 = .ok (.aload_n 0, 1) := dk_42 (dk_at dksX1_crowd_3 17 rfl rfl)
theorem dX1_crowd_89 : decode cX1_crowd 89 = .ok (.getfield 56, 3) := dk_180 0 56 (dk_at dksX1_crowd_3 18 rfl rfl)
theorem dX1_crowd_92 : decode cX1_crowd 92 = .ok (.getfield 71, 3) := dk_180 0 71 (dk_at dksX1_crowd_3 21 rfl rfl)
theorem dX1_crowd_95 : decode cX1_crowd 95 = .ok (.invokeinterface 176 1, 5) := by decide +kernel
theorem dX1_crowd_100 : decode cX1_crowd 100 = .ok (.astore 6, 2) := dk_58 6 (dk_at dksX1_crowd_4 5 rfl rfl)
theorem dX1_crowd_102 : decode cX1_crowd 102 = .ok (.aload 6, 2) := dk_25 6 (dk_at dksX1_crowd_4 7 rfl rfl)
theorem dX1_crowd_104 : decode cX1_crowd 104 = .ok (.invokeinterface 180 1, 5) := by decide +kernel
theorem dX1_crowd_109 : decode cX1_crowd 109 = .ok (.ifCond .eq 54, 3) := dk_153 0 54 (dk_at dksX1_crowd_4 14 rfl rfl)
theorem dX1_crowd_112 : decode cX1_crowd 112 = .ok (.aload 6, 2) := dk_25 6 (dk_at dksX1_crowd_4 17 rfl rfl)
theorem dX1_crowd_114 : decode cX1_crowd 114 = .ok (.invokeinterface 185 1, 5) := by decide +kernel
theorem dX1_crowd_119 : decode cX1_crowd 119 = .ok (.checkcast 103, 3) := dk_192 0 103 (dk_at dksX1_crowd_5 0 rfl rfl)
theorem dX1_crowd_122 : decode cX1_crowd 122 = .ok (.astore 7, 2) := dk_58 7 (dk_at dksX1_crowd_5 3 rfl rfl)
theorem dX1_crowd_124 : decode cX1_crowd 124 = .ok (.iload 5, 2) := dk_21 5 (dk_at dksX1_crowd_5 5 rfl rfl)
theorem dX1_crowd_126 : decode cX1_crowd 126 = .ok (.aload 7, 2) := dk_25 7 (dk_at dksX1_crowd_5 7 rfl rfl)
theorem dX1_crowd_128 : decode cX1_crowd 128 = .ok (.getfield 199, 3) := dk_180 0 199 (dk_at dksX1_crowd_5 9 rfl rfl)
theorem dX1_crowd_131 : decode cX1_crowd 131 = .ok (.aload 4, 2) := dk_25 4 (dk_at dksX1_crowd_5 12 rfl rfl)
theorem dX1_crowd_133 : decode cX1_crowd 133 = .ok (.getfield 199, 3) := dk_180 0 199 (dk_at dksX1_crowd_5 14 rfl rfl)
theorem dX1_crowd_136 : decode cX1_crowd 136 = .ok (.if_icmp .gt 20, 3) := dk_163 0 20 (dk_at dksX1_crowd_5 17 rfl rfl)
theorem dX1_crowd_139 : decode cX1_crowd 139 = .ok (.aload 4, 2) := dk_25 4 (dk_at dksX1_crowd_5 20 rfl rfl)
theorem dX1_crowd_141 : decode cX1_crowd 141 = .ok (.getfield 199, 3) := dk_180 0 199 (dk_at dksX1_crowd_6 0 rfl rfl)
theorem dX1_crowd_144 : decode cX1_crowd 144 = .ok (.aload 7, 2) := dk_25 7 (dk_at dksX1_crowd_6 3 rfl rfl)
theorem dX1_crowd_146 : decode cX1_crowd 146 = .ok (.getfield 202, 3) := dk_180 0 202 (dk_at dksX1_crowd_6 5 rfl rfl)
theorem dX1_crowd_149 : decode cX1_crowd 149 = .ok (.if_icmp .ge 7, 3) := dk_162 0 7 (dk_at dksX1_crowd_6 8 rfl rfl)
theorem dX1_crowd_152 : decode cX1_crowd 152 = .ok (.iconst 1, 1) := dk_4 (dk_at dksX1_crowd_6 11 rfl rfl)
theorem dX1_crowd_153 : decode cX1_crowd 153 = .ok (.goto 4, 3) := dk_167 0 4 (dk_at dksX1_crowd_6 12 rfl rfl)
theorem dX1_crowd_156 : decode cX1_crowd 156 = .ok (.iconst 0, 1) := dk_3 (dk_at dksX1_crowd_6 15 rfl rfl)
theorem dX1_crowd_157 : decode cX1_crowd 157 = .ok (.iadd, 1) := dk_96 (dk_at dksX1_crowd_6 16 rfl rfl)
theorem dX1_crowd_158 : decode cX1_crowd 158 = .ok (.istore 5, 2) := dk_54 5 (dk_at dksX1_crowd_6 17 rfl rfl)
theorem dX1_crowd_160 : decode cX1_crowd 160 = .ok (.goto (-58), 3) := dk_167 255 198 (dk_at dksX1_crowd_6 19 rfl rfl)
theorem dX1_crowd_163 : decode cX1_crowd 163 = .ok (.aload_n 2, 1) := dk_44 (dk_at dksX1_crowd_6 22 rfl rfl)
theorem dX1_crowd_164 : decode cX1_crowd 164 = .ok (.aload 4, 2) := dk_25 4 (dk_at dksX1_crowd_7 0 rfl rfl)
theorem dX1_crowd_166 : decode cX1_crowd 166 = .ok (.getfield 199, 3) := dk_180 0 199 (dk_at dksX1_crowd_7 2 rfl rfl)
theorem dX1_crowd_169 : decode cX1_crowd 169 = .ok (.invokestatic 131, 3) := dk_184 0 131 (dk_at dksX1_crowd_7 5 rfl rfl)
theorem dX1_crowd_172 : decode cX1_crowd 172 = .ok (.iload 5, 2) := dk_21 5 (dk_at dksX1_crowd_7 8 rfl rfl)
theorem dX1_crowd_174 : decode cX1_crowd 174 = .ok (.invokestatic 131, 3) := dk_184 0 131 (dk_at dksX1_crowd_7 10 rfl rfl)
theorem dX1_crowd_177 : decode cX1_crowd 177 = .ok (.invokevirtual 307, 3) := dk_182 1 51 (dk_at dksX1_crowd_7 13 rfl rfl)
theorem dX1_crowd_180 : decode cX1_crowd 180 = .ok (.pop, 1) := dk_87 (dk_at dksX1_crowd_7 16 rfl rfl)
theorem dX1_crowd_181 : decode cX1_crowd 181 = .ok (.goto (-116), 3) := dk_167 255 140 (dk_at dksX1_crowd_7 17 rfl rfl)
theorem dX1_crowd_184 : decode cX1_crowd 184 = .ok (.iconst 0, 1) := dk_3 (dk_at dksX1_crowd_7 20 rfl rfl)
theorem dX1_crowd_185 : decode cX1_crowd 185 = .ok (.istore_n 3, 1) := dk_62 (dk_at dksX1_crowd_7 21 rfl rfl)
theorem dX1_crowd_186 : decode cX1_crowd 186 = .ok (.bipush (-2), 2) := dk_16 254 (dk_at dksX1_crowd_7 22 rfl rfl)
theorem dX1_crowd_188 : decode cX1_crowd 188 = .ok (.istore 4, 2) := dk_54 4 (dk_at dksX1_crowd_8 0 rfl rfl)
theorem dX1_crowd_190 : decode cX1_crowd 190 = .ok (.aload_n 2, 1) := dk_44 (dk_at dksX1_crowd_8 2 rfl rfl)
theorem dX1_crowd_191 : decode cX1_crowd 191 = .ok (.invokevirtual 311, 3) := dk_182 1 55 (dk_at dksX1_crowd_8 3 rfl rfl)
theorem dX1_crowd_194 : decode cX1_crowd 194 = .ok (.invokeinterface 315 1, 5) := by decide +kernel
theorem dX1_crowd_199 : decode cX1_crowd 199 = .ok (.astore 5, 2) := dk_58 5 (dk_at dksX1_crowd_8 11 rfl rfl)
theorem dX1_crowd_201 : decode cX1_crowd 201 = .ok (.aload 5, 2) := dk_25 5 (dk_at dksX1_crowd_8 13 rfl rfl)
theorem dX1_crowd_203 : decode cX1_crowd 203 = .ok (.invokeinterface 180 1, 5) := by decide +kernel
theorem dX1_crowd_208 : decode cX1_crowd 208 = .ok (.ifCond .eq 63, 3) := dk_153 0 63 (dk_at dksX1_crowd_8 20 rfl rfl)
theorem dX1_crowd_211 : decode cX1_crowd 211 = .ok (.aload 5, 2) := dk_25 5 (dk_at dksX1_crowd_9 0 rfl rfl)
theorem dX1_crowd_213 : decode cX1_crowd 213 = .ok (.invokeinterface 185 1, 5) := by decide +kernel
theorem dX1_crowd_218 : decode cX1_crowd 218 = .ok (.checkcast 132, 3) := dk_192 0 132 (dk_at dksX1_crowd_9 7 rfl rfl)
theorem dX1_crowd_221 : decode cX1_crowd 221 = .ok (.invokevirtual 158, 3) := dk_182 0 158 (dk_at dksX1_crowd_9 10 rfl rfl)
theorem dX1_crowd_224 : decode cX1_crowd 224 = .ok (.istore 6, 2) := dk_54 6 (dk_at dksX1_crowd_9 13 rfl rfl)
theorem dX1_crowd_226 : decode cX1_crowd 226 = .ok (.aload_n 2, 1) := dk_44 (dk_at dksX1_crowd_9 15 rfl rfl)
theorem dX1_crowd_227 : decode cX1_crowd 227 = .ok (.iload 6, 2) := dk_21 6 (dk_at dksX1_crowd_9 16 rfl rfl)
theorem dX1_crowd_229 : decode cX1_crowd 229 = .ok (.invokestatic 131, 3) := dk_184 0 131 (dk_at dksX1_crowd_9 18 rfl rfl)
theorem dX1_crowd_232 : decode cX1_crowd 232 = .ok (.invokevirtual 318, 3) := dk_182 1 62 (dk_at dksX1_crowd_9 21 rfl rfl)
theorem dX1_crowd_235 : decode cX1_crowd 235 = .ok (.checkcast 132, 3) := dk_192 0 132 (dk_at dksX1_crowd_10 0 rfl rfl)
theorem dX1_crowd_238 : decode cX1_crowd 238 = .ok (.invokevirtual 158, 3) := dk_182 0 158 (dk_at dksX1_crowd_10 3 rfl rfl)
theorem dX1_crowd_241 : decode cX1_crowd 241 = .ok (.iload_n 3, 1) := dk_29 (dk_at dksX1_crowd_10 6 rfl rfl)
theorem dX1_crowd_242 : decode cX1_crowd 242 = .ok (.if_icmp .gt 6, 3) := dk_163 0 6 (dk_at dksX1_crowd_10 7 rfl rfl)
theorem dX1_crowd_245 : decode cX1_crowd 245 = .ok (.goto (-44), 3) := dk_167 255 212 (dk_at dksX1_crowd_10 10 rfl rfl)
theorem dX1_crowd_248 : decode cX1_crowd 248 = .ok (.aload_n 2, 1) := dk_44 (dk_at dksX1_crowd_10 13 rfl rfl)
theorem dX1_crowd_249 : decode cX1_crowd 249 = .ok (.iload 6, 2) := dk_21 6 (dk_at dksX1_crowd_10 14 rfl rfl)
theorem dX1_crowd_251 : decode cX1_crowd 251 = .ok (.invokestatic 131, 3) := dk_184 0 131 (dk_at dksX1_crowd_10 16 rfl rfl)
theorem dX1_crowd_254 : decode cX1_crowd 254 = .ok (.invokevirtual 318, 3) := dk_182 1 62 (dk_at dksX1_crowd_10 19 rfl rfl)
theorem dX1_crowd_257 : decode cX1_crowd 257 = .ok (.checkcast 132, 3) := dk_192 0 132 (dk_at dksX1_crowd_11 0 rfl rfl)
theorem dX1_crowd_260 : decode cX1_crowd 260 = .ok (.invokevirtual 158, 3) := dk_182 0 158 (dk_at dksX1_crowd_11 3 rfl rfl)
theorem dX1_crowd_263 : decode cX1_crowd 263 = .ok (.istore_n 3, 1) := dk_62 (dk_at dksX1_crowd_11 6 rfl rfl)
theorem dX1_crowd_264 : decode cX1_crowd 264 = .ok (.iload 6, 2) := dk_21 6 (dk_at dksX1_crowd_11 7 rfl rfl)
theorem dX1_crowd_266 : decode cX1_crowd 266 = .ok (.istore 4, 2) := dk_54 4 (dk_at dksX1_crowd_11 9 rfl rfl)
theorem dX1_crowd_268 : decode cX1_crowd 268 = .ok (.goto (-67), 3) := dk_167 255 189 (dk_at dksX1_crowd_11 11 rfl rfl)
theorem dX1_crowd_271 : decode cX1_crowd 271 = .ok (.aload_n 0, 1) := dk_42 (dk_at dksX1_crowd_11 14 rfl rfl)
theorem dX1_crowd_272 : decode cX1_crowd 272 = .ok (.iload_n 1, 1) := dk_27 (dk_at dksX1_crowd_11 15 rfl rfl)
theorem dX1_crowd_273 : decode cX1_crowd 273 = .ok (.ifCond .ne 7, 3) := dk_154 0 7 (dk_at dksX1_crowd_11 16 rfl rfl)
theorem dX1_crowd_276 : decode cX1_crowd 276 = .ok (.iload_n 3, 1) := dk_29 (dk_at dksX1_crowd_11 19 rfl rfl)
theorem dX1_crowd_277 : decode cX1_crowd 277 = .ok (.goto 5, 3) := dk_167 0 5 (dk_at dksX1_crowd_11 20 rfl rfl)
theorem dX1_crowd_280 : decode cX1_crowd 280 = .ok (.iload 4, 2) := dk_21 4 (dk_at dksX1_crowd_12 0 rfl rfl)
theorem dX1_crowd_282 : decode cX1_crowd 282 = .ok (.invokevirtual 83, 3) := dk_182 0 83 (dk_at dksX1_crowd_12 2 rfl rfl)
theorem dX1_crowd_285 : decode cX1_crowd 285 = .ok (.ireturn, 1) := dk_172 (dk_at dksX1_crowd_12 5 rfl rfl)
theorem md_X1_crowd : xMd yX1_crowd cX1_crowd 8 (Option.some Jvm.ClassFile.FieldType.int) 1 := ⟨q2380, q123, by decide, by decide +kernel, by decide +kernel, by decide +kernel⟩
def f_X1_crowd_16 (a0 : Nat)   (p0 : PH) : Option (xO × PH) :=
  (xcI (f_X1_refused p0 a0 1) fun x4 p3 =>
  (rI x4 p3))
def f_X1_crowd_282 (a0 : Nat)  (w1 : Int32) (p0 : PH) : Option (xO × PH) :=
  (xcI (f_X1_fine p0 a0 w1) fun x43 p42 =>
  (rI x43 p42))
def f_X1_crowd_201F (a0 : Nat)  (k201 : Int32 × Nat × Int32 × Int32 × Option Nat × PH → Option (xO × PH)) (p : Int32 × Nat × Int32 × Int32 × Option Nat × PH) : Option (xO × PH) := match p with
  | (v1, v2, v3, v4, v5, p0) => (xnul v5 none fun b36 =>
  (xsw p0 b36 fun c38 =>
  (if c38 = 20 then
  (xcI (f_J26_hasNext p0 b36 ) fun x41 p40 =>
  (if x41 = 0 then
  (if v1 = 0 then
  (f_X1_crowd_282 a0 v3 p40) else
  (f_X1_crowd_282 a0 v4 p40)) else
  (xsw p40 b36 fun c45 =>
  (if c45 = 20 then
  (xcR (f_J26_next p40 b36 ) fun x48 p47 =>
  (xcst p47 (x48) [18]
  (xnul x48 none fun b49 =>
  (xcI (f_J19_intValue p47 b49 ) fun x51 p50 =>
  (xcR (f_J19_valueOf p50 x51) fun x53 p52 =>
  (xcR (f_J5_get p52 v2 x53) fun x55 p54 =>
  (xcst p54 (x55) [18]
  (xnul x55 none fun b56 =>
  (xcI (f_J19_intValue p54 b56 ) fun x58 p57 =>
  (if v3 < x58 then
  (xcR (f_J19_valueOf p57 x51) fun x60 p59 =>
  (xcR (f_J5_get p59 v2 x60) fun x62 p61 =>
  (xcst p61 (x62) [18]
  (xnul x62 none fun b63 =>
  (xcI (f_J19_intValue p61 b63 ) fun x65 p64 =>
  (k201 (v1, v2, x65, x51, ((some b36)), p64))))))) else
  (k201 (v1, v2, v3, v4, ((some b36)), p57)))))))))))) else
  (if c45 = 25 then
  (xcR (f_J37_next p40 b36 ) fun x67 p66 =>
  (xcst p66 (x67) [18]
  (xnul x67 none fun b68 =>
  (xcI (f_J19_intValue p66 b68 ) fun x70 p69 =>
  (xcR (f_J19_valueOf p69 x70) fun x72 p71 =>
  (xcR (f_J5_get p71 v2 x72) fun x74 p73 =>
  (xcst p73 (x74) [18]
  (xnul x74 none fun b75 =>
  (xcI (f_J19_intValue p73 b75 ) fun x77 p76 =>
  (if v3 < x77 then
  (xcR (f_J19_valueOf p76 x70) fun x79 p78 =>
  (xcR (f_J5_get p78 v2 x79) fun x81 p80 =>
  (xcst p80 (x81) [18]
  (xnul x81 none fun b82 =>
  (xcI (f_J19_intValue p80 b82 ) fun x84 p83 =>
  (k201 (v1, v2, x84, x70, ((some b36)), p83))))))) else
  (k201 (v1, v2, v3, v4, ((some b36)), p76)))))))))))) else
  none))))) else
  (if c38 = 25 then
  (xcI (f_J36_hasNext p0 b36 ) fun x86 p85 =>
  (if x86 = 0 then
  (if v1 = 0 then
  (f_X1_crowd_282 a0 v3 p85) else
  (f_X1_crowd_282 a0 v4 p85)) else
  (xsw p85 b36 fun c88 =>
  (if c88 = 20 then
  (xcR (f_J26_next p85 b36 ) fun x91 p90 =>
  (xcst p90 (x91) [18]
  (xnul x91 none fun b92 =>
  (xcI (f_J19_intValue p90 b92 ) fun x94 p93 =>
  (xcR (f_J19_valueOf p93 x94) fun x96 p95 =>
  (xcR (f_J5_get p95 v2 x96) fun x98 p97 =>
  (xcst p97 (x98) [18]
  (xnul x98 none fun b99 =>
  (xcI (f_J19_intValue p97 b99 ) fun x101 p100 =>
  (if v3 < x101 then
  (xcR (f_J19_valueOf p100 x94) fun x103 p102 =>
  (xcR (f_J5_get p102 v2 x103) fun x105 p104 =>
  (xcst p104 (x105) [18]
  (xnul x105 none fun b106 =>
  (xcI (f_J19_intValue p104 b106 ) fun x108 p107 =>
  (k201 (v1, v2, x108, x94, ((some b36)), p107))))))) else
  (k201 (v1, v2, v3, v4, ((some b36)), p100)))))))))))) else
  (if c88 = 25 then
  (xcR (f_J37_next p85 b36 ) fun x110 p109 =>
  (xcst p109 (x110) [18]
  (xnul x110 none fun b111 =>
  (xcI (f_J19_intValue p109 b111 ) fun x113 p112 =>
  (xcR (f_J19_valueOf p112 x113) fun x115 p114 =>
  (xcR (f_J5_get p114 v2 x115) fun x117 p116 =>
  (xcst p116 (x117) [18]
  (xnul x117 none fun b118 =>
  (xcI (f_J19_intValue p116 b118 ) fun x120 p119 =>
  (if v3 < x120 then
  (xcR (f_J19_valueOf p119 x113) fun x122 p121 =>
  (xcR (f_J5_get p121 v2 x122) fun x124 p123 =>
  (xcst p123 (x124) [18]
  (xnul x124 none fun b125 =>
  (xcI (f_J19_intValue p123 b125 ) fun x127 p126 =>
  (k201 (v1, v2, x127, x113, ((some b36)), p126))))))) else
  (k201 (v1, v2, v3, v4, ((some b36)), p119)))))))))))) else
  none))))) else
  none))))
def f_X1_crowd_157 (a0 : Nat) (k102 : Int32 × Nat × Option Nat × Option Nat × Int32 × Option Nat × PH → Option (xO × PH)) (v1 : Int32) (v2 : Nat) (v3 : Option Nat) (v4 : Option Nat) (v6 : Option Nat) (w0 : Int32) (w1 : Int32) (p0 : PH) : Option (xO × PH) :=
  (bnd (w0 + w1) fun x164 =>
  (k102 (v1, v2, v3, v4, x164, v6, p0)))
def f_X1_crowd_156 (a0 : Nat) (k102 : Int32 × Nat × Option Nat × Option Nat × Int32 × Option Nat × PH → Option (xO × PH)) (v1 : Int32) (v2 : Nat) (v3 : Option Nat) (v4 : Option Nat) (v6 : Option Nat) (w0 : Int32) (p0 : PH) : Option (xO × PH) :=
  (f_X1_crowd_157 a0 k102 v1 v2 v3 v4 v6 w0 0 p0)
def f_X1_crowd_102F (a0 : Nat) (k65 : Int32 × Nat × Option Nat × PH → Option (xO × PH)) (k102 : Int32 × Nat × Option Nat × Option Nat × Int32 × Option Nat × PH → Option (xO × PH)) (p : Int32 × Nat × Option Nat × Option Nat × Int32 × Option Nat × PH) : Option (xO × PH) := match p with
  | (v1, v2, v3, v4, v5, v6, p0) => (xnul v6 none fun b141 =>
  (xsw p0 b141 fun c143 =>
  (if c143 = 20 then
  (xcI (f_J26_hasNext p0 b141 ) fun x146 p145 =>
  (if x146 = 0 then
  (xnul v4 none fun b147 =>
  (xgI p145 b147 6 2 fun x148 =>
  (xcR (f_J19_valueOf p145 x148) fun x150 p149 =>
  (xcR (f_J19_valueOf p149 v5) fun x152 p151 =>
  (xcR (f_J5_put p151 v2 x150 x152) fun x154 p153 =>
  (k65 (v1, v2, v3, p153))))))) else
  (xsw p145 b141 fun c156 =>
  (if c156 = 20 then
  (xcR (f_J26_next p145 b141 ) fun x159 p158 =>
  (xcst p158 (x159) [6]
  (xnul x159 none fun b160 =>
  (xgI p158 b160 6 2 fun x161 =>
  (xnul v4 none fun b162 =>
  (xgI p158 b162 6 2 fun x163 =>
  (if x163 < x161 then
  (f_X1_crowd_156 a0 k102 v1 v2 v3 ((some b162)) ((some b141)) v5 p158) else
  (xgI p158 b162 6 2 fun x165 =>
  (xgI p158 b160 6 3 fun x166 =>
  (if x166 ≤ x165 then
  (f_X1_crowd_156 a0 k102 v1 v2 v3 ((some b162)) ((some b141)) v5 p158) else
  (f_X1_crowd_157 a0 k102 v1 v2 v3 ((some b162)) ((some b141)) v5 1 p158))))))))))) else
  (if c156 = 25 then
  (xcR (f_J37_next p145 b141 ) fun x168 p167 =>
  (xcst p167 (x168) [6]
  (xnul x168 none fun b169 =>
  (xgI p167 b169 6 2 fun x170 =>
  (xnul v4 none fun b171 =>
  (xgI p167 b171 6 2 fun x172 =>
  (if x172 < x170 then
  (f_X1_crowd_156 a0 k102 v1 v2 v3 ((some b171)) ((some b141)) v5 p167) else
  (xgI p167 b171 6 2 fun x173 =>
  (xgI p167 b169 6 3 fun x174 =>
  (if x174 ≤ x173 then
  (f_X1_crowd_156 a0 k102 v1 v2 v3 ((some b171)) ((some b141)) v5 p167) else
  (f_X1_crowd_157 a0 k102 v1 v2 v3 ((some b171)) ((some b141)) v5 1 p167))))))))))) else
  none))))) else
  (if c143 = 25 then
  (xcI (f_J36_hasNext p0 b141 ) fun x176 p175 =>
  (if x176 = 0 then
  (xnul v4 none fun b177 =>
  (xgI p175 b177 6 2 fun x178 =>
  (xcR (f_J19_valueOf p175 x178) fun x180 p179 =>
  (xcR (f_J19_valueOf p179 v5) fun x182 p181 =>
  (xcR (f_J5_put p181 v2 x180 x182) fun x184 p183 =>
  (k65 (v1, v2, v3, p183))))))) else
  (xsw p175 b141 fun c186 =>
  (if c186 = 20 then
  (xcR (f_J26_next p175 b141 ) fun x189 p188 =>
  (xcst p188 (x189) [6]
  (xnul x189 none fun b190 =>
  (xgI p188 b190 6 2 fun x191 =>
  (xnul v4 none fun b192 =>
  (xgI p188 b192 6 2 fun x193 =>
  (if x193 < x191 then
  (f_X1_crowd_156 a0 k102 v1 v2 v3 ((some b192)) ((some b141)) v5 p188) else
  (xgI p188 b192 6 2 fun x194 =>
  (xgI p188 b190 6 3 fun x195 =>
  (if x195 ≤ x194 then
  (f_X1_crowd_156 a0 k102 v1 v2 v3 ((some b192)) ((some b141)) v5 p188) else
  (f_X1_crowd_157 a0 k102 v1 v2 v3 ((some b192)) ((some b141)) v5 1 p188))))))))))) else
  (if c186 = 25 then
  (xcR (f_J37_next p175 b141 ) fun x197 p196 =>
  (xcst p196 (x197) [6]
  (xnul x197 none fun b198 =>
  (xgI p196 b198 6 2 fun x199 =>
  (xnul v4 none fun b200 =>
  (xgI p196 b200 6 2 fun x201 =>
  (if x201 < x199 then
  (f_X1_crowd_156 a0 k102 v1 v2 v3 ((some b200)) ((some b141)) v5 p196) else
  (xgI p196 b200 6 2 fun x202 =>
  (xgI p196 b198 6 3 fun x203 =>
  (if x203 ≤ x202 then
  (f_X1_crowd_156 a0 k102 v1 v2 v3 ((some b200)) ((some b141)) v5 p196) else
  (f_X1_crowd_157 a0 k102 v1 v2 v3 ((some b200)) ((some b141)) v5 1 p196))))))))))) else
  none))))) else
  none))))
def f_X1_crowd_65F (a0 : Nat)  (k65 : Int32 × Nat × Option Nat × PH → Option (xO × PH)) (p : Int32 × Nat × Option Nat × PH) : Option (xO × PH) := match p with
  | (v1, v2, v3, p0) => (xnul v3 none fun b22 =>
  (xsw p0 b22 fun c24 =>
  (if c24 = 20 then
  (xcI (f_J26_hasNext p0 b22 ) fun x27 p26 =>
  (if x27 = 0 then
  (xcR (f_J5_keySet p26 v2 ) fun x29 p28 =>
  (xnul x29 none fun b30 =>
  (xsw p28 b30 fun c32 =>
  (if c32 = 23 then
  (xcR (f_J34_iterator p28 b30 ) fun x35 p34 =>
  (lp (f_X1_crowd_201F a0) FU (v1, v2, 0, (-2), x35, p34))) else
  (if c32 = 24 then
  (xcR (f_J35_iterator p28 b30 ) fun x129 p128 =>
  (lp (f_X1_crowd_201F a0) FU (v1, v2, 0, (-2), x129, p128))) else
  none))))) else
  (xsw p26 b22 fun c131 =>
  (if c131 = 20 then
  (xcR (f_J26_next p26 b22 ) fun x134 p133 =>
  (xcst p133 (x134) [6]
  (xgR p133 a0 0 5 fun x135 =>
  (xnul x135 none fun b136 =>
  (xgR p133 b136 3 1 fun x137 =>
  (xnul x137 none fun b138 =>
  (xcR (f_J3_iterator p133 b138 ) fun x140 p139 =>
  (lp (f_X1_crowd_102F a0 k65) FU (v1, v2, ((some b22)), x134, 0, x140, p139))))))))) else
  (if c131 = 25 then
  (xcR (f_J37_next p26 b22 ) fun x205 p204 =>
  (xcst p204 (x205) [6]
  (xgR p204 a0 0 5 fun x206 =>
  (xnul x206 none fun b207 =>
  (xgR p204 b207 3 1 fun x208 =>
  (xnul x208 none fun b209 =>
  (xcR (f_J3_iterator p204 b209 ) fun x211 p210 =>
  (lp (f_X1_crowd_102F a0 k65) FU (v1, v2, ((some b22)), x205, 0, x211, p210))))))))) else
  none))))) else
  (if c24 = 25 then
  (xcI (f_J36_hasNext p0 b22 ) fun x213 p212 =>
  (if x213 = 0 then
  (xcR (f_J5_keySet p212 v2 ) fun x215 p214 =>
  (xnul x215 none fun b216 =>
  (xsw p214 b216 fun c218 =>
  (if c218 = 23 then
  (xcR (f_J34_iterator p214 b216 ) fun x221 p220 =>
  (lp (f_X1_crowd_201F a0) FU (v1, v2, 0, (-2), x221, p220))) else
  (if c218 = 24 then
  (xcR (f_J35_iterator p214 b216 ) fun x223 p222 =>
  (lp (f_X1_crowd_201F a0) FU (v1, v2, 0, (-2), x223, p222))) else
  none))))) else
  (xsw p212 b22 fun c225 =>
  (if c225 = 20 then
  (xcR (f_J26_next p212 b22 ) fun x228 p227 =>
  (xcst p227 (x228) [6]
  (xgR p227 a0 0 5 fun x229 =>
  (xnul x229 none fun b230 =>
  (xgR p227 b230 3 1 fun x231 =>
  (xnul x231 none fun b232 =>
  (xcR (f_J3_iterator p227 b232 ) fun x234 p233 =>
  (lp (f_X1_crowd_102F a0 k65) FU (v1, v2, ((some b22)), x228, 0, x234, p233))))))))) else
  (if c225 = 25 then
  (xcR (f_J37_next p212 b22 ) fun x236 p235 =>
  (xcst p235 (x236) [6]
  (xgR p235 a0 0 5 fun x237 =>
  (xnul x237 none fun b238 =>
  (xgR p235 b238 3 1 fun x239 =>
  (xnul x239 none fun b240 =>
  (xcR (f_J3_iterator p235 b240 ) fun x242 p241 =>
  (lp (f_X1_crowd_102F a0 k65) FU (v1, v2, ((some b22)), x236, 0, x242, p241))))))))) else
  none))))) else
  none))))
def f_X1_crowd (p0 : PH) (a0 : Nat) (a1 : Int32) : Option (xO × PH) :=
  (xcl1 p0 a0 0 (xgR p0 a0 0 5 fun x1 =>
  (xnul x1 (f_X1_crowd_16 a0  p0) fun b2 =>
  (xcI (f_X1_isIn p0 a1 0 1) fun x6 p5 =>
  (if x6 = 0 then
  (f_X1_crowd_16 a0  p5) else
  (xgR p5 a0 0 5 fun x7 =>
  (xnul x7 none fun b8 =>
  (xgR p5 b8 3 1 fun x9 =>
  (xnul x9 none fun b10 =>
  (xcI (f_J3_isEmpty p5 b10 ) fun x12 p11 =>
  (if x12 = 0 then
  (xnew p11 15 [.null, .null, .null, .null, .int 0, .int 0, .null, .null, .null] fun b13 p14 =>
  (xcV (f_J5_init p14 b13 ) fun p15 =>
  (xgR p15 a0 0 5 fun x16 =>
  (xnul x16 none fun b17 =>
  (xgR p15 b17 3 1 fun x18 =>
  (xnul x18 none fun b19 =>
  (xcR (f_J3_iterator p15 b19 ) fun x21 p20 =>
  (lp (f_X1_crowd_65F a0) FU (a1, b13, x21, p20))))))))) else
  (xcI (f_X1_refused p11 a0 6) fun x244 p243 =>
  (rI x244 p243)))))))))))))
theorem rc_X1_crowd {p0 : PH} {a0 : Nat} {a1 : Int32} : ∀ z, f_X1_crowd p0 a0 a1 = some z → xco p0 a0 = some 0 := fun z h => xcl1_some h
theorem f_X1_crowd_16_ok {G : xG} (hO : xOK G) (a0 : Nat)   (p0 : PH) : X G "ForestLegs" "crowd" cX1_crowd 8 (Option.some Jvm.ClassFile.FieldType.int) 9 16 [(0, .ref a0)] [] p0 (f_X1_crowd_16 a0  p0) := by
  unfold f_X1_crowd_16
  refine x_aload_nr 0 dX1_crowd_16 rfl rfl (n := 17) rfl ?_
  refine x_iconst 1 dX1_crowd_17 rfl (n := 18) rfl ?_
  refine x_callV_I [.int 1] [] (f_X1_refused_ok hO p0 a0 1) rc_X1_refused md_X1_refused rfl q250 q252 qs0 dX1_crowd_18 rfl rfl (by decide) (Nat.le_of_ble_eq_true rfl) (n := 21) rfl (fun x4 p3 => ?_)
  exact x_ireturn dX1_crowd_21
theorem f_X1_crowd_282_ok {G : xG} (hO : xOK G) (a0 : Nat)  (w1 : Int32) (p0 : PH) : X G "ForestLegs" "crowd" cX1_crowd 8 (Option.some Jvm.ClassFile.FieldType.int) 9 282 [] [.int w1, .ref a0] p0 (f_X1_crowd_282 a0 w1 p0) := by
  unfold f_X1_crowd_282
  refine x_callV_I [.int w1] [] (f_X1_fine_ok hO p0 a0 w1) rc_X1_fine md_X1_fine rfl q1480 q1482 qs26 dX1_crowd_282 rfl rfl (by decide) (Nat.le_of_ble_eq_true rfl) (n := 285) rfl (fun x43 p42 => ?_)
  exact x_ireturn dX1_crowd_285
theorem f_X1_crowd_201F_ok {G : xG} (hO : xOK G) (a0 : Nat)  {k201 : Int32 × Nat × Int32 × Int32 × Option Nat × PH → Option (xO × PH)} (hk201 : ∀ (v1 : Int32) (v2 : Nat) (v3 : Int32) (v4 : Int32) (v5 : Option Nat) (p0 : PH), X G "ForestLegs" "crowd" cX1_crowd 8 (Option.some Jvm.ClassFile.FieldType.int) 9 201 [(0, .ref a0), (1, .int v1), (2, .ref v2), (3, .int v3), (4, .int v4), (5, va_rf v5)] [] p0 (k201 (v1, v2, v3, v4, v5, p0))) (v1 : Int32) (v2 : Nat) (v3 : Int32) (v4 : Int32) (v5 : Option Nat) (p0 : PH) : X G "ForestLegs" "crowd" cX1_crowd 8 (Option.some Jvm.ClassFile.FieldType.int) 9 201 [(0, .ref a0), (1, .int v1), (2, .ref v2), (3, .int v3), (4, .int v4), (5, va_rf v5)] [] p0 (f_X1_crowd_201F a0 k201 (v1, v2, v3, v4, v5, p0)) := by
  unfold f_X1_crowd_201F
  refine x_aload 5 dX1_crowd_201 rfl (n := 203) rfl ?_
  refine x_sm (fun b36 e => ?_)
  subst e
  refine x_sw (fun c38 e => ?_)
  refine x_ite (fun h => ?_) (fun _ => ?_)
  · subst h
    refine x_callF_I [] [] (f_J26_hasNext_ok hO p0 b36 ) rc_J26_hasNext md_J26_hasNext rfl q1823 fc_java_util_ArrayList_Itr_java_util_Iterator_hasNext_0_Z dX1_crowd_203 rfl rfl (by decide) (Nat.le_of_ble_eq_true rfl) (n := 208) rfl (fun x41 p40 => ?_)
    refine x_if_eq dX1_crowd_208 (t := 271) (by decide) (n := 211) rfl (fun _ => ?_) (fun _ => ?_)
    · refine x_aload_nr 0 dX1_crowd_271 rfl rfl (n := 272) rfl ?_
      refine x_iload_n 1 dX1_crowd_272 rfl rfl (n := 273) rfl ?_
      refine x_if_ne dX1_crowd_273 (t := 280) (by decide) (n := 276) rfl (fun _ => ?_) (fun _ => ?_)
      · refine x_iload 4 dX1_crowd_280 rfl (n := 282) rfl ?_
        refine x_sub [] [] rfl ?_
        exact f_X1_crowd_282_ok hO a0 v4 p40
      · refine x_iload_n 3 dX1_crowd_276 rfl rfl (n := 277) rfl ?_
        refine x_goto dX1_crowd_277 (n := 282) (by decide) ?_
        refine x_sub [] [] rfl ?_
        exact f_X1_crowd_282_ok hO a0 v3 p40
    · refine x_aloadr 5 dX1_crowd_211 rfl (n := 213) rfl ?_
      refine x_sw (fun c45 e => ?_)
      refine x_ite (fun h => ?_) (fun _ => ?_)
      · subst h
        refine x_callF_R [] [] (f_J26_next_ok hO p40 b36 ) rc_J26_next md_J26_next rfl q1858 fc_java_util_ArrayList_Itr_java_util_Iterator_next_0_Ljaval dX1_crowd_213 rfl rfl (by decide) (Nat.le_of_ble_eq_true rfl) (n := 218) rfl (fun x48 p47 => ?_)
        refine x_cast (x := x48) (cs := [18]) q1764 cst_java_lang_Integer dX1_crowd_218 (n := 221) rfl ?_
        refine x_sm (fun b49 e => ?_)
        subst e
        refine x_callV_I [] [] (f_J19_intValue_ok hO p47 b49 ) rc_J19_intValue md_J19_intValue rfl q1765 q941 q942 dX1_crowd_221 rfl rfl (by decide) (Nat.le_of_ble_eq_true rfl) (n := 224) rfl (fun x51 p50 => ?_)
        refine x_istore [(6, .int x51), (0, .ref a0), (1, .int v1), (2, .ref v2), (3, .int v3), (4, .int v4), (5, .ref b36)] dX1_crowd_224 (by decide) rfl (n := 226) rfl ?_
        refine x_aload_nr 3 dX1_crowd_226 rfl rfl (n := 227) rfl ?_
        refine x_iload 0 dX1_crowd_227 rfl (n := 229) rfl ?_
        refine x_callS_R [.int x51] [.ref v2] (f_J19_valueOf_ok hO p50 x51) md_J19_valueOf q1582 q1213 dX1_crowd_229 rfl rfl (by decide) (Nat.le_of_ble_eq_true rfl) (n := 232) rfl (fun x53 p52 => ?_)
        refine x_callV_R [va_rf x53] [] (f_J5_get_ok hO p52 v2 x53) rc_J5_get md_J5_get rfl q2397 q1390 q1391 dX1_crowd_232 rfl rfl (by decide) (Nat.le_of_ble_eq_true rfl) (n := 235) rfl (fun x55 p54 => ?_)
        refine x_cast (x := x55) (cs := [18]) q1764 cst_java_lang_Integer dX1_crowd_235 (n := 238) rfl ?_
        refine x_sm (fun b56 e => ?_)
        subst e
        refine x_callV_I [] [] (f_J19_intValue_ok hO p54 b56 ) rc_J19_intValue md_J19_intValue rfl q1765 q941 q942 dX1_crowd_238 rfl rfl (by decide) (Nat.le_of_ble_eq_true rfl) (n := 241) rfl (fun x58 p57 => ?_)
        refine x_iload_n 4 dX1_crowd_241 rfl rfl (n := 242) rfl ?_
        refine x_icmp_gt dX1_crowd_242 (t := 248) (by decide) (n := 245) rfl (fun _ => ?_) (fun _ => ?_)
        · refine x_aload_nr 3 dX1_crowd_248 rfl rfl (n := 249) rfl ?_
          refine x_iload 0 dX1_crowd_249 rfl (n := 251) rfl ?_
          refine x_callS_R [.int x51] [.ref v2] (f_J19_valueOf_ok hO p57 x51) md_J19_valueOf q1582 q1213 dX1_crowd_251 rfl rfl (by decide) (Nat.le_of_ble_eq_true rfl) (n := 254) rfl (fun x60 p59 => ?_)
          refine x_callV_R [va_rf x60] [] (f_J5_get_ok hO p59 v2 x60) rc_J5_get md_J5_get rfl q2397 q1390 q1391 dX1_crowd_254 rfl rfl (by decide) (Nat.le_of_ble_eq_true rfl) (n := 257) rfl (fun x62 p61 => ?_)
          refine x_cast (x := x62) (cs := [18]) q1764 cst_java_lang_Integer dX1_crowd_257 (n := 260) rfl ?_
          refine x_sm (fun b63 e => ?_)
          subst e
          refine x_callV_I [] [] (f_J19_intValue_ok hO p61 b63 ) rc_J19_intValue md_J19_intValue rfl q1765 q941 q942 dX1_crowd_260 rfl rfl (by decide) (Nat.le_of_ble_eq_true rfl) (n := 263) rfl (fun x65 p64 => ?_)
          refine x_istore_n [(3, .int x65), (6, .int x51), (0, .ref a0), (1, .int v1), (2, .ref v2), (4, .int v4), (5, .ref b36)] dX1_crowd_263 rfl (by decide) rfl (n := 264) rfl ?_
          refine x_iload 1 dX1_crowd_264 rfl (n := 266) rfl ?_
          refine x_istore [(4, .int x51), (3, .int x65), (6, .int x51), (0, .ref a0), (1, .int v1), (2, .ref v2), (5, .ref b36)] dX1_crowd_266 (by decide) rfl (n := 268) rfl ?_
          refine x_goto dX1_crowd_268 (n := 201) (by decide) ?_
          refine x_sub [3, 4, 5, 1, 0, 6] [(0, .ref a0), (1, .int v1), (2, .ref v2), (3, .int x65), (4, .int x51), (5, .ref b36)] rfl ?_
          exact hk201 v1 v2 x65 x51 ((some b36)) p64
        · refine x_goto dX1_crowd_245 (n := 201) (by decide) ?_
          refine x_sub [1, 2, 3, 4, 5, 6] [(0, .ref a0), (1, .int v1), (2, .ref v2), (3, .int v3), (4, .int v4), (5, .ref b36)] rfl ?_
          exact hk201 v1 v2 v3 v4 ((some b36)) p57
      refine x_ite (fun h => ?_) (fun _ => ?_)
      · subst h
        refine x_callF_R [] [] (f_J37_next_ok hO p40 b36 ) rc_J37_next md_J37_next rfl q1858 fc_java_util_TreeMap_KeyIterator_java_util_Iterator_next_0_Ljaval dX1_crowd_213 rfl rfl (by decide) (Nat.le_of_ble_eq_true rfl) (n := 218) rfl (fun x67 p66 => ?_)
        refine x_cast (x := x67) (cs := [18]) q1764 cst_java_lang_Integer dX1_crowd_218 (n := 221) rfl ?_
        refine x_sm (fun b68 e => ?_)
        subst e
        refine x_callV_I [] [] (f_J19_intValue_ok hO p66 b68 ) rc_J19_intValue md_J19_intValue rfl q1765 q941 q942 dX1_crowd_221 rfl rfl (by decide) (Nat.le_of_ble_eq_true rfl) (n := 224) rfl (fun x70 p69 => ?_)
        refine x_istore [(6, .int x70), (0, .ref a0), (1, .int v1), (2, .ref v2), (3, .int v3), (4, .int v4), (5, .ref b36)] dX1_crowd_224 (by decide) rfl (n := 226) rfl ?_
        refine x_aload_nr 3 dX1_crowd_226 rfl rfl (n := 227) rfl ?_
        refine x_iload 0 dX1_crowd_227 rfl (n := 229) rfl ?_
        refine x_callS_R [.int x70] [.ref v2] (f_J19_valueOf_ok hO p69 x70) md_J19_valueOf q1582 q1213 dX1_crowd_229 rfl rfl (by decide) (Nat.le_of_ble_eq_true rfl) (n := 232) rfl (fun x72 p71 => ?_)
        refine x_callV_R [va_rf x72] [] (f_J5_get_ok hO p71 v2 x72) rc_J5_get md_J5_get rfl q2397 q1390 q1391 dX1_crowd_232 rfl rfl (by decide) (Nat.le_of_ble_eq_true rfl) (n := 235) rfl (fun x74 p73 => ?_)
        refine x_cast (x := x74) (cs := [18]) q1764 cst_java_lang_Integer dX1_crowd_235 (n := 238) rfl ?_
        refine x_sm (fun b75 e => ?_)
        subst e
        refine x_callV_I [] [] (f_J19_intValue_ok hO p73 b75 ) rc_J19_intValue md_J19_intValue rfl q1765 q941 q942 dX1_crowd_238 rfl rfl (by decide) (Nat.le_of_ble_eq_true rfl) (n := 241) rfl (fun x77 p76 => ?_)
        refine x_iload_n 4 dX1_crowd_241 rfl rfl (n := 242) rfl ?_
        refine x_icmp_gt dX1_crowd_242 (t := 248) (by decide) (n := 245) rfl (fun _ => ?_) (fun _ => ?_)
        · refine x_aload_nr 3 dX1_crowd_248 rfl rfl (n := 249) rfl ?_
          refine x_iload 0 dX1_crowd_249 rfl (n := 251) rfl ?_
          refine x_callS_R [.int x70] [.ref v2] (f_J19_valueOf_ok hO p76 x70) md_J19_valueOf q1582 q1213 dX1_crowd_251 rfl rfl (by decide) (Nat.le_of_ble_eq_true rfl) (n := 254) rfl (fun x79 p78 => ?_)
          refine x_callV_R [va_rf x79] [] (f_J5_get_ok hO p78 v2 x79) rc_J5_get md_J5_get rfl q2397 q1390 q1391 dX1_crowd_254 rfl rfl (by decide) (Nat.le_of_ble_eq_true rfl) (n := 257) rfl (fun x81 p80 => ?_)
          refine x_cast (x := x81) (cs := [18]) q1764 cst_java_lang_Integer dX1_crowd_257 (n := 260) rfl ?_
          refine x_sm (fun b82 e => ?_)
          subst e
          refine x_callV_I [] [] (f_J19_intValue_ok hO p80 b82 ) rc_J19_intValue md_J19_intValue rfl q1765 q941 q942 dX1_crowd_260 rfl rfl (by decide) (Nat.le_of_ble_eq_true rfl) (n := 263) rfl (fun x84 p83 => ?_)
          refine x_istore_n [(3, .int x84), (6, .int x70), (0, .ref a0), (1, .int v1), (2, .ref v2), (4, .int v4), (5, .ref b36)] dX1_crowd_263 rfl (by decide) rfl (n := 264) rfl ?_
          refine x_iload 1 dX1_crowd_264 rfl (n := 266) rfl ?_
          refine x_istore [(4, .int x70), (3, .int x84), (6, .int x70), (0, .ref a0), (1, .int v1), (2, .ref v2), (5, .ref b36)] dX1_crowd_266 (by decide) rfl (n := 268) rfl ?_
          refine x_goto dX1_crowd_268 (n := 201) (by decide) ?_
          refine x_sub [3, 4, 5, 1, 0, 6] [(0, .ref a0), (1, .int v1), (2, .ref v2), (3, .int x84), (4, .int x70), (5, .ref b36)] rfl ?_
          exact hk201 v1 v2 x84 x70 ((some b36)) p83
        · refine x_goto dX1_crowd_245 (n := 201) (by decide) ?_
          refine x_sub [1, 2, 3, 4, 5, 6] [(0, .ref a0), (1, .int v1), (2, .ref v2), (3, .int v3), (4, .int v4), (5, .ref b36)] rfl ?_
          exact hk201 v1 v2 v3 v4 ((some b36)) p76
      exact x_no
  refine x_ite (fun h => ?_) (fun _ => ?_)
  · subst h
    refine x_callF_I [] [] (f_J36_hasNext_ok hO p0 b36 ) rc_J36_hasNext md_J36_hasNext rfl q1823 fc_java_util_TreeMap_KeyIterator_java_util_Iterator_hasNext_0_Z dX1_crowd_203 rfl rfl (by decide) (Nat.le_of_ble_eq_true rfl) (n := 208) rfl (fun x86 p85 => ?_)
    refine x_if_eq dX1_crowd_208 (t := 271) (by decide) (n := 211) rfl (fun _ => ?_) (fun _ => ?_)
    · refine x_aload_nr 0 dX1_crowd_271 rfl rfl (n := 272) rfl ?_
      refine x_iload_n 1 dX1_crowd_272 rfl rfl (n := 273) rfl ?_
      refine x_if_ne dX1_crowd_273 (t := 280) (by decide) (n := 276) rfl (fun _ => ?_) (fun _ => ?_)
      · refine x_iload 4 dX1_crowd_280 rfl (n := 282) rfl ?_
        refine x_sub [] [] rfl ?_
        exact f_X1_crowd_282_ok hO a0 v4 p85
      · refine x_iload_n 3 dX1_crowd_276 rfl rfl (n := 277) rfl ?_
        refine x_goto dX1_crowd_277 (n := 282) (by decide) ?_
        refine x_sub [] [] rfl ?_
        exact f_X1_crowd_282_ok hO a0 v3 p85
    · refine x_aloadr 5 dX1_crowd_211 rfl (n := 213) rfl ?_
      refine x_sw (fun c88 e => ?_)
      refine x_ite (fun h => ?_) (fun _ => ?_)
      · subst h
        refine x_callF_R [] [] (f_J26_next_ok hO p85 b36 ) rc_J26_next md_J26_next rfl q1858 fc_java_util_ArrayList_Itr_java_util_Iterator_next_0_Ljaval dX1_crowd_213 rfl rfl (by decide) (Nat.le_of_ble_eq_true rfl) (n := 218) rfl (fun x91 p90 => ?_)
        refine x_cast (x := x91) (cs := [18]) q1764 cst_java_lang_Integer dX1_crowd_218 (n := 221) rfl ?_
        refine x_sm (fun b92 e => ?_)
        subst e
        refine x_callV_I [] [] (f_J19_intValue_ok hO p90 b92 ) rc_J19_intValue md_J19_intValue rfl q1765 q941 q942 dX1_crowd_221 rfl rfl (by decide) (Nat.le_of_ble_eq_true rfl) (n := 224) rfl (fun x94 p93 => ?_)
        refine x_istore [(6, .int x94), (0, .ref a0), (1, .int v1), (2, .ref v2), (3, .int v3), (4, .int v4), (5, .ref b36)] dX1_crowd_224 (by decide) rfl (n := 226) rfl ?_
        refine x_aload_nr 3 dX1_crowd_226 rfl rfl (n := 227) rfl ?_
        refine x_iload 0 dX1_crowd_227 rfl (n := 229) rfl ?_
        refine x_callS_R [.int x94] [.ref v2] (f_J19_valueOf_ok hO p93 x94) md_J19_valueOf q1582 q1213 dX1_crowd_229 rfl rfl (by decide) (Nat.le_of_ble_eq_true rfl) (n := 232) rfl (fun x96 p95 => ?_)
        refine x_callV_R [va_rf x96] [] (f_J5_get_ok hO p95 v2 x96) rc_J5_get md_J5_get rfl q2397 q1390 q1391 dX1_crowd_232 rfl rfl (by decide) (Nat.le_of_ble_eq_true rfl) (n := 235) rfl (fun x98 p97 => ?_)
        refine x_cast (x := x98) (cs := [18]) q1764 cst_java_lang_Integer dX1_crowd_235 (n := 238) rfl ?_
        refine x_sm (fun b99 e => ?_)
        subst e
        refine x_callV_I [] [] (f_J19_intValue_ok hO p97 b99 ) rc_J19_intValue md_J19_intValue rfl q1765 q941 q942 dX1_crowd_238 rfl rfl (by decide) (Nat.le_of_ble_eq_true rfl) (n := 241) rfl (fun x101 p100 => ?_)
        refine x_iload_n 4 dX1_crowd_241 rfl rfl (n := 242) rfl ?_
        refine x_icmp_gt dX1_crowd_242 (t := 248) (by decide) (n := 245) rfl (fun _ => ?_) (fun _ => ?_)
        · refine x_aload_nr 3 dX1_crowd_248 rfl rfl (n := 249) rfl ?_
          refine x_iload 0 dX1_crowd_249 rfl (n := 251) rfl ?_
          refine x_callS_R [.int x94] [.ref v2] (f_J19_valueOf_ok hO p100 x94) md_J19_valueOf q1582 q1213 dX1_crowd_251 rfl rfl (by decide) (Nat.le_of_ble_eq_true rfl) (n := 254) rfl (fun x103 p102 => ?_)
          refine x_callV_R [va_rf x103] [] (f_J5_get_ok hO p102 v2 x103) rc_J5_get md_J5_get rfl q2397 q1390 q1391 dX1_crowd_254 rfl rfl (by decide) (Nat.le_of_ble_eq_true rfl) (n := 257) rfl (fun x105 p104 => ?_)
          refine x_cast (x := x105) (cs := [18]) q1764 cst_java_lang_Integer dX1_crowd_257 (n := 260) rfl ?_
          refine x_sm (fun b106 e => ?_)
          subst e
          refine x_callV_I [] [] (f_J19_intValue_ok hO p104 b106 ) rc_J19_intValue md_J19_intValue rfl q1765 q941 q942 dX1_crowd_260 rfl rfl (by decide) (Nat.le_of_ble_eq_true rfl) (n := 263) rfl (fun x108 p107 => ?_)
          refine x_istore_n [(3, .int x108), (6, .int x94), (0, .ref a0), (1, .int v1), (2, .ref v2), (4, .int v4), (5, .ref b36)] dX1_crowd_263 rfl (by decide) rfl (n := 264) rfl ?_
          refine x_iload 1 dX1_crowd_264 rfl (n := 266) rfl ?_
          refine x_istore [(4, .int x94), (3, .int x108), (6, .int x94), (0, .ref a0), (1, .int v1), (2, .ref v2), (5, .ref b36)] dX1_crowd_266 (by decide) rfl (n := 268) rfl ?_
          refine x_goto dX1_crowd_268 (n := 201) (by decide) ?_
          refine x_sub [3, 4, 5, 1, 0, 6] [(0, .ref a0), (1, .int v1), (2, .ref v2), (3, .int x108), (4, .int x94), (5, .ref b36)] rfl ?_
          exact hk201 v1 v2 x108 x94 ((some b36)) p107
        · refine x_goto dX1_crowd_245 (n := 201) (by decide) ?_
          refine x_sub [1, 2, 3, 4, 5, 6] [(0, .ref a0), (1, .int v1), (2, .ref v2), (3, .int v3), (4, .int v4), (5, .ref b36)] rfl ?_
          exact hk201 v1 v2 v3 v4 ((some b36)) p100
      refine x_ite (fun h => ?_) (fun _ => ?_)
      · subst h
        refine x_callF_R [] [] (f_J37_next_ok hO p85 b36 ) rc_J37_next md_J37_next rfl q1858 fc_java_util_TreeMap_KeyIterator_java_util_Iterator_next_0_Ljaval dX1_crowd_213 rfl rfl (by decide) (Nat.le_of_ble_eq_true rfl) (n := 218) rfl (fun x110 p109 => ?_)
        refine x_cast (x := x110) (cs := [18]) q1764 cst_java_lang_Integer dX1_crowd_218 (n := 221) rfl ?_
        refine x_sm (fun b111 e => ?_)
        subst e
        refine x_callV_I [] [] (f_J19_intValue_ok hO p109 b111 ) rc_J19_intValue md_J19_intValue rfl q1765 q941 q942 dX1_crowd_221 rfl rfl (by decide) (Nat.le_of_ble_eq_true rfl) (n := 224) rfl (fun x113 p112 => ?_)
        refine x_istore [(6, .int x113), (0, .ref a0), (1, .int v1), (2, .ref v2), (3, .int v3), (4, .int v4), (5, .ref b36)] dX1_crowd_224 (by decide) rfl (n := 226) rfl ?_
        refine x_aload_nr 3 dX1_crowd_226 rfl rfl (n := 227) rfl ?_
        refine x_iload 0 dX1_crowd_227 rfl (n := 229) rfl ?_
        refine x_callS_R [.int x113] [.ref v2] (f_J19_valueOf_ok hO p112 x113) md_J19_valueOf q1582 q1213 dX1_crowd_229 rfl rfl (by decide) (Nat.le_of_ble_eq_true rfl) (n := 232) rfl (fun x115 p114 => ?_)
        refine x_callV_R [va_rf x115] [] (f_J5_get_ok hO p114 v2 x115) rc_J5_get md_J5_get rfl q2397 q1390 q1391 dX1_crowd_232 rfl rfl (by decide) (Nat.le_of_ble_eq_true rfl) (n := 235) rfl (fun x117 p116 => ?_)
        refine x_cast (x := x117) (cs := [18]) q1764 cst_java_lang_Integer dX1_crowd_235 (n := 238) rfl ?_
        refine x_sm (fun b118 e => ?_)
        subst e
        refine x_callV_I [] [] (f_J19_intValue_ok hO p116 b118 ) rc_J19_intValue md_J19_intValue rfl q1765 q941 q942 dX1_crowd_238 rfl rfl (by decide) (Nat.le_of_ble_eq_true rfl) (n := 241) rfl (fun x120 p119 => ?_)
        refine x_iload_n 4 dX1_crowd_241 rfl rfl (n := 242) rfl ?_
        refine x_icmp_gt dX1_crowd_242 (t := 248) (by decide) (n := 245) rfl (fun _ => ?_) (fun _ => ?_)
        · refine x_aload_nr 3 dX1_crowd_248 rfl rfl (n := 249) rfl ?_
          refine x_iload 0 dX1_crowd_249 rfl (n := 251) rfl ?_
          refine x_callS_R [.int x113] [.ref v2] (f_J19_valueOf_ok hO p119 x113) md_J19_valueOf q1582 q1213 dX1_crowd_251 rfl rfl (by decide) (Nat.le_of_ble_eq_true rfl) (n := 254) rfl (fun x122 p121 => ?_)
          refine x_callV_R [va_rf x122] [] (f_J5_get_ok hO p121 v2 x122) rc_J5_get md_J5_get rfl q2397 q1390 q1391 dX1_crowd_254 rfl rfl (by decide) (Nat.le_of_ble_eq_true rfl) (n := 257) rfl (fun x124 p123 => ?_)
          refine x_cast (x := x124) (cs := [18]) q1764 cst_java_lang_Integer dX1_crowd_257 (n := 260) rfl ?_
          refine x_sm (fun b125 e => ?_)
          subst e
          refine x_callV_I [] [] (f_J19_intValue_ok hO p123 b125 ) rc_J19_intValue md_J19_intValue rfl q1765 q941 q942 dX1_crowd_260 rfl rfl (by decide) (Nat.le_of_ble_eq_true rfl) (n := 263) rfl (fun x127 p126 => ?_)
          refine x_istore_n [(3, .int x127), (6, .int x113), (0, .ref a0), (1, .int v1), (2, .ref v2), (4, .int v4), (5, .ref b36)] dX1_crowd_263 rfl (by decide) rfl (n := 264) rfl ?_
          refine x_iload 1 dX1_crowd_264 rfl (n := 266) rfl ?_
          refine x_istore [(4, .int x113), (3, .int x127), (6, .int x113), (0, .ref a0), (1, .int v1), (2, .ref v2), (5, .ref b36)] dX1_crowd_266 (by decide) rfl (n := 268) rfl ?_
          refine x_goto dX1_crowd_268 (n := 201) (by decide) ?_
          refine x_sub [3, 4, 5, 1, 0, 6] [(0, .ref a0), (1, .int v1), (2, .ref v2), (3, .int x127), (4, .int x113), (5, .ref b36)] rfl ?_
          exact hk201 v1 v2 x127 x113 ((some b36)) p126
        · refine x_goto dX1_crowd_245 (n := 201) (by decide) ?_
          refine x_sub [1, 2, 3, 4, 5, 6] [(0, .ref a0), (1, .int v1), (2, .ref v2), (3, .int v3), (4, .int v4), (5, .ref b36)] rfl ?_
          exact hk201 v1 v2 v3 v4 ((some b36)) p119
      exact x_no
  exact x_no
theorem f_X1_crowd_201_lp {G : xG} (hO : xOK G) (a0 : Nat)  (n : Nat) (v1 : Int32) (v2 : Nat) (v3 : Int32) (v4 : Int32) (v5 : Option Nat) (p0 : PH) : X G "ForestLegs" "crowd" cX1_crowd 8 (Option.some Jvm.ClassFile.FieldType.int) 9 201 [(0, .ref a0), (1, .int v1), (2, .ref v2), (3, .int v3), (4, .int v4), (5, va_rf v5)] [] p0 (lp (f_X1_crowd_201F a0) n (v1, v2, v3, v4, v5, p0)) :=
  lp_ok (W := fun p K => X G "ForestLegs" "crowd" cX1_crowd 8 (Option.some Jvm.ClassFile.FieldType.int) 9 201 [(0, .ref a0), (1, .int p.1), (2, .ref p.2.1), (3, .int p.2.2.1), (4, .int p.2.2.2.1), (5, va_rf p.2.2.2.2.1)] [] p.2.2.2.2.2 K) (fun _ => x_no) (fun k hk => fun (v1, v2, v3, v4, v5, p0) => f_X1_crowd_201F_ok hO a0 (fun v1 v2 v3 v4 v5 p0 => hk (v1, v2, v3, v4, v5, p0)) v1 v2 v3 v4 v5 p0) n (v1, v2, v3, v4, v5, p0)
theorem f_X1_crowd_157_ok {G : xG} (hO : xOK G) (a0 : Nat) {k102 : Int32 × Nat × Option Nat × Option Nat × Int32 × Option Nat × PH → Option (xO × PH)} (hk102 : ∀ (v1 : Int32) (v2 : Nat) (v3 : Option Nat) (v4 : Option Nat) (v5 : Int32) (v6 : Option Nat) (p0 : PH), X G "ForestLegs" "crowd" cX1_crowd 8 (Option.some Jvm.ClassFile.FieldType.int) 9 102 [(0, .ref a0), (1, .int v1), (2, .ref v2), (3, va_rf v3), (4, va_rf v4), (5, .int v5), (6, va_rf v6)] [] p0 (k102 (v1, v2, v3, v4, v5, v6, p0))) (v1 : Int32) (v2 : Nat) (v3 : Option Nat) (v4 : Option Nat) (v6 : Option Nat) (w0 : Int32) (w1 : Int32) (p0 : PH) : X G "ForestLegs" "crowd" cX1_crowd 8 (Option.some Jvm.ClassFile.FieldType.int) 9 157 [(0, .ref a0), (1, .int v1), (2, .ref v2), (3, va_rf v3), (4, va_rf v4), (6, va_rf v6)] [.int w1, .int w0] p0 (f_X1_crowd_157 a0 k102 v1 v2 v3 v4 v6 w0 w1 p0) := by
  unfold f_X1_crowd_157
  refine x_iadd dX1_crowd_157 (n := 158) rfl ?_
  refine x_nm (fun x164 => ?_)
  refine x_istore [(5, .int x164), (0, .ref a0), (1, .int v1), (2, .ref v2), (3, va_rf v3), (4, va_rf v4), (6, va_rf v6)] dX1_crowd_158 (by decide) (by simp only [xst, List.filter_cons, List.filter_nil, xcat] <;> rfl) (n := 160) rfl ?_
  refine x_goto dX1_crowd_160 (n := 102) (by decide) ?_
  refine x_sub [1, 2, 3, 4, 5, 0, 6] [(0, .ref a0), (1, .int v1), (2, .ref v2), (3, va_rf v3), (4, va_rf v4), (5, .int x164), (6, va_rf v6)] rfl ?_
  exact hk102 v1 v2 v3 v4 x164 v6 p0
theorem f_X1_crowd_156_ok {G : xG} (hO : xOK G) (a0 : Nat) {k102 : Int32 × Nat × Option Nat × Option Nat × Int32 × Option Nat × PH → Option (xO × PH)} (hk102 : ∀ (v1 : Int32) (v2 : Nat) (v3 : Option Nat) (v4 : Option Nat) (v5 : Int32) (v6 : Option Nat) (p0 : PH), X G "ForestLegs" "crowd" cX1_crowd 8 (Option.some Jvm.ClassFile.FieldType.int) 9 102 [(0, .ref a0), (1, .int v1), (2, .ref v2), (3, va_rf v3), (4, va_rf v4), (5, .int v5), (6, va_rf v6)] [] p0 (k102 (v1, v2, v3, v4, v5, v6, p0))) (v1 : Int32) (v2 : Nat) (v3 : Option Nat) (v4 : Option Nat) (v6 : Option Nat) (w0 : Int32) (p0 : PH) : X G "ForestLegs" "crowd" cX1_crowd 8 (Option.some Jvm.ClassFile.FieldType.int) 9 156 [(0, .ref a0), (1, .int v1), (2, .ref v2), (3, va_rf v3), (4, va_rf v4), (6, va_rf v6)] [.int w0] p0 (f_X1_crowd_156 a0 k102 v1 v2 v3 v4 v6 w0 p0) := by
  unfold f_X1_crowd_156
  refine x_iconst 0 dX1_crowd_156 rfl (n := 157) rfl ?_
  exact f_X1_crowd_157_ok hO a0 hk102 v1 v2 v3 v4 v6 w0 0 p0
theorem f_X1_crowd_102F_ok {G : xG} (hO : xOK G) (a0 : Nat) {k65 : Int32 × Nat × Option Nat × PH → Option (xO × PH)} (hk65 : ∀ (v1 : Int32) (v2 : Nat) (v3 : Option Nat) (p0 : PH), X G "ForestLegs" "crowd" cX1_crowd 8 (Option.some Jvm.ClassFile.FieldType.int) 9 65 [(0, .ref a0), (1, .int v1), (2, .ref v2), (3, va_rf v3)] [] p0 (k65 (v1, v2, v3, p0))) {k102 : Int32 × Nat × Option Nat × Option Nat × Int32 × Option Nat × PH → Option (xO × PH)} (hk102 : ∀ (v1 : Int32) (v2 : Nat) (v3 : Option Nat) (v4 : Option Nat) (v5 : Int32) (v6 : Option Nat) (p0 : PH), X G "ForestLegs" "crowd" cX1_crowd 8 (Option.some Jvm.ClassFile.FieldType.int) 9 102 [(0, .ref a0), (1, .int v1), (2, .ref v2), (3, va_rf v3), (4, va_rf v4), (5, .int v5), (6, va_rf v6)] [] p0 (k102 (v1, v2, v3, v4, v5, v6, p0))) (v1 : Int32) (v2 : Nat) (v3 : Option Nat) (v4 : Option Nat) (v5 : Int32) (v6 : Option Nat) (p0 : PH) : X G "ForestLegs" "crowd" cX1_crowd 8 (Option.some Jvm.ClassFile.FieldType.int) 9 102 [(0, .ref a0), (1, .int v1), (2, .ref v2), (3, va_rf v3), (4, va_rf v4), (5, .int v5), (6, va_rf v6)] [] p0 (f_X1_crowd_102F a0 k65 k102 (v1, v2, v3, v4, v5, v6, p0)) := by
  unfold f_X1_crowd_102F
  refine x_aload 6 dX1_crowd_102 rfl (n := 104) rfl ?_
  refine x_sm (fun b141 e => ?_)
  subst e
  refine x_sw (fun c143 e => ?_)
  refine x_ite (fun h => ?_) (fun _ => ?_)
  · subst h
    refine x_callF_I [] [] (f_J26_hasNext_ok hO p0 b141 ) rc_J26_hasNext md_J26_hasNext rfl q1823 fc_java_util_ArrayList_Itr_java_util_Iterator_hasNext_0_Z dX1_crowd_104 rfl rfl (by decide) (Nat.le_of_ble_eq_true rfl) (n := 109) rfl (fun x146 p145 => ?_)
    refine x_if_eq dX1_crowd_109 (t := 163) (by decide) (n := 112) rfl (fun _ => ?_) (fun _ => ?_)
    · refine x_aload_nr 2 dX1_crowd_163 rfl rfl (n := 164) rfl ?_
      refine x_aload 4 dX1_crowd_164 rfl (n := 166) rfl ?_
      refine x_sm (fun b147 e => ?_)
      subst e
      refine x_getI fl_X1_199 dX1_crowd_166 (n := 169) rfl (fun x148 => ?_)
      refine x_callS_R [.int x148] [.ref v2] (f_J19_valueOf_ok hO p145 x148) md_J19_valueOf q1582 q1213 dX1_crowd_169 rfl rfl (by decide) (Nat.le_of_ble_eq_true rfl) (n := 172) rfl (fun x150 p149 => ?_)
      refine x_iload 5 dX1_crowd_172 rfl (n := 174) rfl ?_
      refine x_callS_R [.int v5] [va_rf x150, .ref v2] (f_J19_valueOf_ok hO p149 v5) md_J19_valueOf q1582 q1213 dX1_crowd_174 rfl rfl (by decide) (by simp only [List.map, xcat]; exact Nat.le_of_ble_eq_true rfl) (n := 177) rfl (fun x152 p151 => ?_)
      refine x_callV_R [va_rf x150, va_rf x152] [] (f_J5_put_ok hO p151 v2 x150 x152) rc_J5_put md_J5_put rfl q2383 q1307 q1308 dX1_crowd_177 rfl rfl (by decide) (Nat.le_of_ble_eq_true rfl) (n := 180) rfl (fun x154 p153 => ?_)
      refine x_pop dX1_crowd_180 (xcat _) (n := 181) rfl ?_
      refine x_goto dX1_crowd_181 (n := 65) (by decide) ?_
      refine x_sub [0, 1, 2, 3] [(0, .ref a0), (1, .int v1), (2, .ref v2), (3, va_rf v3)] rfl ?_
      exact hk65 v1 v2 v3 p153
    · refine x_aloadr 6 dX1_crowd_112 rfl (n := 114) rfl ?_
      refine x_sw (fun c156 e => ?_)
      refine x_ite (fun h => ?_) (fun _ => ?_)
      · subst h
        refine x_callF_R [] [] (f_J26_next_ok hO p145 b141 ) rc_J26_next md_J26_next rfl q1858 fc_java_util_ArrayList_Itr_java_util_Iterator_next_0_Ljaval dX1_crowd_114 rfl rfl (by decide) (Nat.le_of_ble_eq_true rfl) (n := 119) rfl (fun x159 p158 => ?_)
        refine x_cast (x := x159) (cs := [6]) q1498 cst_ForestLegs_Runner dX1_crowd_119 (n := 122) rfl ?_
        refine x_astore [(7, va_rf x159), (0, .ref a0), (1, .int v1), (2, .ref v2), (3, va_rf v3), (4, va_rf v4), (5, .int v5), (6, .ref b141)] dX1_crowd_122 (by decide) rfl (n := 124) rfl ?_
        refine x_iload 6 dX1_crowd_124 rfl (n := 126) rfl ?_
        refine x_aload 0 dX1_crowd_126 rfl (n := 128) rfl ?_
        refine x_sm (fun b160 e => ?_)
        subst e
        refine x_getI fl_X1_199 dX1_crowd_128 (n := 131) rfl (fun x161 => ?_)
        refine x_aload 5 dX1_crowd_131 rfl (n := 133) rfl ?_
        refine x_sm (fun b162 e => ?_)
        subst e
        refine x_getI fl_X1_199 dX1_crowd_133 (n := 136) rfl (fun x163 => ?_)
        refine x_icmp_gt dX1_crowd_136 (t := 156) (by decide) (n := 139) rfl (fun _ => ?_) (fun _ => ?_)
        · refine x_sub [1, 2, 3, 4, 5, 7] [(0, .ref a0), (1, .int v1), (2, .ref v2), (3, va_rf v3), (4, .ref b162), (6, .ref b141)] rfl ?_
          exact f_X1_crowd_156_ok hO a0 hk102 v1 v2 v3 ((some b162)) ((some b141)) v5 p158
        · refine x_aloadr 5 dX1_crowd_139 rfl (n := 141) rfl ?_
          refine x_getI fl_X1_199 dX1_crowd_141 (n := 144) rfl (fun x165 => ?_)
          refine x_aloadr 0 dX1_crowd_144 rfl (n := 146) rfl ?_
          refine x_getI fl_X1_202 dX1_crowd_146 (n := 149) rfl (fun x166 => ?_)
          refine x_icmp_ge dX1_crowd_149 (t := 156) (by decide) (n := 152) rfl (fun _ => ?_) (fun _ => ?_)
          · refine x_sub [1, 2, 3, 4, 5, 7] [(0, .ref a0), (1, .int v1), (2, .ref v2), (3, va_rf v3), (4, .ref b162), (6, .ref b141)] rfl ?_
            exact f_X1_crowd_156_ok hO a0 hk102 v1 v2 v3 ((some b162)) ((some b141)) v5 p158
          · refine x_iconst 1 dX1_crowd_152 rfl (n := 153) rfl ?_
            refine x_goto dX1_crowd_153 (n := 157) (by decide) ?_
            refine x_sub [1, 2, 3, 4, 5, 7] [(0, .ref a0), (1, .int v1), (2, .ref v2), (3, va_rf v3), (4, .ref b162), (6, .ref b141)] rfl ?_
            exact f_X1_crowd_157_ok hO a0 hk102 v1 v2 v3 ((some b162)) ((some b141)) v5 1 p158
      refine x_ite (fun h => ?_) (fun _ => ?_)
      · subst h
        refine x_callF_R [] [] (f_J37_next_ok hO p145 b141 ) rc_J37_next md_J37_next rfl q1858 fc_java_util_TreeMap_KeyIterator_java_util_Iterator_next_0_Ljaval dX1_crowd_114 rfl rfl (by decide) (Nat.le_of_ble_eq_true rfl) (n := 119) rfl (fun x168 p167 => ?_)
        refine x_cast (x := x168) (cs := [6]) q1498 cst_ForestLegs_Runner dX1_crowd_119 (n := 122) rfl ?_
        refine x_astore [(7, va_rf x168), (0, .ref a0), (1, .int v1), (2, .ref v2), (3, va_rf v3), (4, va_rf v4), (5, .int v5), (6, .ref b141)] dX1_crowd_122 (by decide) rfl (n := 124) rfl ?_
        refine x_iload 6 dX1_crowd_124 rfl (n := 126) rfl ?_
        refine x_aload 0 dX1_crowd_126 rfl (n := 128) rfl ?_
        refine x_sm (fun b169 e => ?_)
        subst e
        refine x_getI fl_X1_199 dX1_crowd_128 (n := 131) rfl (fun x170 => ?_)
        refine x_aload 5 dX1_crowd_131 rfl (n := 133) rfl ?_
        refine x_sm (fun b171 e => ?_)
        subst e
        refine x_getI fl_X1_199 dX1_crowd_133 (n := 136) rfl (fun x172 => ?_)
        refine x_icmp_gt dX1_crowd_136 (t := 156) (by decide) (n := 139) rfl (fun _ => ?_) (fun _ => ?_)
        · refine x_sub [1, 2, 3, 4, 5, 7] [(0, .ref a0), (1, .int v1), (2, .ref v2), (3, va_rf v3), (4, .ref b171), (6, .ref b141)] rfl ?_
          exact f_X1_crowd_156_ok hO a0 hk102 v1 v2 v3 ((some b171)) ((some b141)) v5 p167
        · refine x_aloadr 5 dX1_crowd_139 rfl (n := 141) rfl ?_
          refine x_getI fl_X1_199 dX1_crowd_141 (n := 144) rfl (fun x173 => ?_)
          refine x_aloadr 0 dX1_crowd_144 rfl (n := 146) rfl ?_
          refine x_getI fl_X1_202 dX1_crowd_146 (n := 149) rfl (fun x174 => ?_)
          refine x_icmp_ge dX1_crowd_149 (t := 156) (by decide) (n := 152) rfl (fun _ => ?_) (fun _ => ?_)
          · refine x_sub [1, 2, 3, 4, 5, 7] [(0, .ref a0), (1, .int v1), (2, .ref v2), (3, va_rf v3), (4, .ref b171), (6, .ref b141)] rfl ?_
            exact f_X1_crowd_156_ok hO a0 hk102 v1 v2 v3 ((some b171)) ((some b141)) v5 p167
          · refine x_iconst 1 dX1_crowd_152 rfl (n := 153) rfl ?_
            refine x_goto dX1_crowd_153 (n := 157) (by decide) ?_
            refine x_sub [1, 2, 3, 4, 5, 7] [(0, .ref a0), (1, .int v1), (2, .ref v2), (3, va_rf v3), (4, .ref b171), (6, .ref b141)] rfl ?_
            exact f_X1_crowd_157_ok hO a0 hk102 v1 v2 v3 ((some b171)) ((some b141)) v5 1 p167
      exact x_no
  refine x_ite (fun h => ?_) (fun _ => ?_)
  · subst h
    refine x_callF_I [] [] (f_J36_hasNext_ok hO p0 b141 ) rc_J36_hasNext md_J36_hasNext rfl q1823 fc_java_util_TreeMap_KeyIterator_java_util_Iterator_hasNext_0_Z dX1_crowd_104 rfl rfl (by decide) (Nat.le_of_ble_eq_true rfl) (n := 109) rfl (fun x176 p175 => ?_)
    refine x_if_eq dX1_crowd_109 (t := 163) (by decide) (n := 112) rfl (fun _ => ?_) (fun _ => ?_)
    · refine x_aload_nr 2 dX1_crowd_163 rfl rfl (n := 164) rfl ?_
      refine x_aload 4 dX1_crowd_164 rfl (n := 166) rfl ?_
      refine x_sm (fun b177 e => ?_)
      subst e
      refine x_getI fl_X1_199 dX1_crowd_166 (n := 169) rfl (fun x178 => ?_)
      refine x_callS_R [.int x178] [.ref v2] (f_J19_valueOf_ok hO p175 x178) md_J19_valueOf q1582 q1213 dX1_crowd_169 rfl rfl (by decide) (Nat.le_of_ble_eq_true rfl) (n := 172) rfl (fun x180 p179 => ?_)
      refine x_iload 5 dX1_crowd_172 rfl (n := 174) rfl ?_
      refine x_callS_R [.int v5] [va_rf x180, .ref v2] (f_J19_valueOf_ok hO p179 v5) md_J19_valueOf q1582 q1213 dX1_crowd_174 rfl rfl (by decide) (by simp only [List.map, xcat]; exact Nat.le_of_ble_eq_true rfl) (n := 177) rfl (fun x182 p181 => ?_)
      refine x_callV_R [va_rf x180, va_rf x182] [] (f_J5_put_ok hO p181 v2 x180 x182) rc_J5_put md_J5_put rfl q2383 q1307 q1308 dX1_crowd_177 rfl rfl (by decide) (Nat.le_of_ble_eq_true rfl) (n := 180) rfl (fun x184 p183 => ?_)
      refine x_pop dX1_crowd_180 (xcat _) (n := 181) rfl ?_
      refine x_goto dX1_crowd_181 (n := 65) (by decide) ?_
      refine x_sub [0, 1, 2, 3] [(0, .ref a0), (1, .int v1), (2, .ref v2), (3, va_rf v3)] rfl ?_
      exact hk65 v1 v2 v3 p183
    · refine x_aloadr 6 dX1_crowd_112 rfl (n := 114) rfl ?_
      refine x_sw (fun c186 e => ?_)
      refine x_ite (fun h => ?_) (fun _ => ?_)
      · subst h
        refine x_callF_R [] [] (f_J26_next_ok hO p175 b141 ) rc_J26_next md_J26_next rfl q1858 fc_java_util_ArrayList_Itr_java_util_Iterator_next_0_Ljaval dX1_crowd_114 rfl rfl (by decide) (Nat.le_of_ble_eq_true rfl) (n := 119) rfl (fun x189 p188 => ?_)
        refine x_cast (x := x189) (cs := [6]) q1498 cst_ForestLegs_Runner dX1_crowd_119 (n := 122) rfl ?_
        refine x_astore [(7, va_rf x189), (0, .ref a0), (1, .int v1), (2, .ref v2), (3, va_rf v3), (4, va_rf v4), (5, .int v5), (6, .ref b141)] dX1_crowd_122 (by decide) rfl (n := 124) rfl ?_
        refine x_iload 6 dX1_crowd_124 rfl (n := 126) rfl ?_
        refine x_aload 0 dX1_crowd_126 rfl (n := 128) rfl ?_
        refine x_sm (fun b190 e => ?_)
        subst e
        refine x_getI fl_X1_199 dX1_crowd_128 (n := 131) rfl (fun x191 => ?_)
        refine x_aload 5 dX1_crowd_131 rfl (n := 133) rfl ?_
        refine x_sm (fun b192 e => ?_)
        subst e
        refine x_getI fl_X1_199 dX1_crowd_133 (n := 136) rfl (fun x193 => ?_)
        refine x_icmp_gt dX1_crowd_136 (t := 156) (by decide) (n := 139) rfl (fun _ => ?_) (fun _ => ?_)
        · refine x_sub [1, 2, 3, 4, 5, 7] [(0, .ref a0), (1, .int v1), (2, .ref v2), (3, va_rf v3), (4, .ref b192), (6, .ref b141)] rfl ?_
          exact f_X1_crowd_156_ok hO a0 hk102 v1 v2 v3 ((some b192)) ((some b141)) v5 p188
        · refine x_aloadr 5 dX1_crowd_139 rfl (n := 141) rfl ?_
          refine x_getI fl_X1_199 dX1_crowd_141 (n := 144) rfl (fun x194 => ?_)
          refine x_aloadr 0 dX1_crowd_144 rfl (n := 146) rfl ?_
          refine x_getI fl_X1_202 dX1_crowd_146 (n := 149) rfl (fun x195 => ?_)
          refine x_icmp_ge dX1_crowd_149 (t := 156) (by decide) (n := 152) rfl (fun _ => ?_) (fun _ => ?_)
          · refine x_sub [1, 2, 3, 4, 5, 7] [(0, .ref a0), (1, .int v1), (2, .ref v2), (3, va_rf v3), (4, .ref b192), (6, .ref b141)] rfl ?_
            exact f_X1_crowd_156_ok hO a0 hk102 v1 v2 v3 ((some b192)) ((some b141)) v5 p188
          · refine x_iconst 1 dX1_crowd_152 rfl (n := 153) rfl ?_
            refine x_goto dX1_crowd_153 (n := 157) (by decide) ?_
            refine x_sub [1, 2, 3, 4, 5, 7] [(0, .ref a0), (1, .int v1), (2, .ref v2), (3, va_rf v3), (4, .ref b192), (6, .ref b141)] rfl ?_
            exact f_X1_crowd_157_ok hO a0 hk102 v1 v2 v3 ((some b192)) ((some b141)) v5 1 p188
      refine x_ite (fun h => ?_) (fun _ => ?_)
      · subst h
        refine x_callF_R [] [] (f_J37_next_ok hO p175 b141 ) rc_J37_next md_J37_next rfl q1858 fc_java_util_TreeMap_KeyIterator_java_util_Iterator_next_0_Ljaval dX1_crowd_114 rfl rfl (by decide) (Nat.le_of_ble_eq_true rfl) (n := 119) rfl (fun x197 p196 => ?_)
        refine x_cast (x := x197) (cs := [6]) q1498 cst_ForestLegs_Runner dX1_crowd_119 (n := 122) rfl ?_
        refine x_astore [(7, va_rf x197), (0, .ref a0), (1, .int v1), (2, .ref v2), (3, va_rf v3), (4, va_rf v4), (5, .int v5), (6, .ref b141)] dX1_crowd_122 (by decide) rfl (n := 124) rfl ?_
        refine x_iload 6 dX1_crowd_124 rfl (n := 126) rfl ?_
        refine x_aload 0 dX1_crowd_126 rfl (n := 128) rfl ?_
        refine x_sm (fun b198 e => ?_)
        subst e
        refine x_getI fl_X1_199 dX1_crowd_128 (n := 131) rfl (fun x199 => ?_)
        refine x_aload 5 dX1_crowd_131 rfl (n := 133) rfl ?_
        refine x_sm (fun b200 e => ?_)
        subst e
        refine x_getI fl_X1_199 dX1_crowd_133 (n := 136) rfl (fun x201 => ?_)
        refine x_icmp_gt dX1_crowd_136 (t := 156) (by decide) (n := 139) rfl (fun _ => ?_) (fun _ => ?_)
        · refine x_sub [1, 2, 3, 4, 5, 7] [(0, .ref a0), (1, .int v1), (2, .ref v2), (3, va_rf v3), (4, .ref b200), (6, .ref b141)] rfl ?_
          exact f_X1_crowd_156_ok hO a0 hk102 v1 v2 v3 ((some b200)) ((some b141)) v5 p196
        · refine x_aloadr 5 dX1_crowd_139 rfl (n := 141) rfl ?_
          refine x_getI fl_X1_199 dX1_crowd_141 (n := 144) rfl (fun x202 => ?_)
          refine x_aloadr 0 dX1_crowd_144 rfl (n := 146) rfl ?_
          refine x_getI fl_X1_202 dX1_crowd_146 (n := 149) rfl (fun x203 => ?_)
          refine x_icmp_ge dX1_crowd_149 (t := 156) (by decide) (n := 152) rfl (fun _ => ?_) (fun _ => ?_)
          · refine x_sub [1, 2, 3, 4, 5, 7] [(0, .ref a0), (1, .int v1), (2, .ref v2), (3, va_rf v3), (4, .ref b200), (6, .ref b141)] rfl ?_
            exact f_X1_crowd_156_ok hO a0 hk102 v1 v2 v3 ((some b200)) ((some b141)) v5 p196
          · refine x_iconst 1 dX1_crowd_152 rfl (n := 153) rfl ?_
            refine x_goto dX1_crowd_153 (n := 157) (by decide) ?_
            refine x_sub [1, 2, 3, 4, 5, 7] [(0, .ref a0), (1, .int v1), (2, .ref v2), (3, va_rf v3), (4, .ref b200), (6, .ref b141)] rfl ?_
            exact f_X1_crowd_157_ok hO a0 hk102 v1 v2 v3 ((some b200)) ((some b141)) v5 1 p196
      exact x_no
  exact x_no
theorem f_X1_crowd_102_lp {G : xG} (hO : xOK G) (a0 : Nat) {k65 : Int32 × Nat × Option Nat × PH → Option (xO × PH)} (hk65 : ∀ (v1 : Int32) (v2 : Nat) (v3 : Option Nat) (p0 : PH), X G "ForestLegs" "crowd" cX1_crowd 8 (Option.some Jvm.ClassFile.FieldType.int) 9 65 [(0, .ref a0), (1, .int v1), (2, .ref v2), (3, va_rf v3)] [] p0 (k65 (v1, v2, v3, p0))) (n : Nat) (v1 : Int32) (v2 : Nat) (v3 : Option Nat) (v4 : Option Nat) (v5 : Int32) (v6 : Option Nat) (p0 : PH) : X G "ForestLegs" "crowd" cX1_crowd 8 (Option.some Jvm.ClassFile.FieldType.int) 9 102 [(0, .ref a0), (1, .int v1), (2, .ref v2), (3, va_rf v3), (4, va_rf v4), (5, .int v5), (6, va_rf v6)] [] p0 (lp (f_X1_crowd_102F a0 k65) n (v1, v2, v3, v4, v5, v6, p0)) :=
  lp_ok (W := fun p K => X G "ForestLegs" "crowd" cX1_crowd 8 (Option.some Jvm.ClassFile.FieldType.int) 9 102 [(0, .ref a0), (1, .int p.1), (2, .ref p.2.1), (3, va_rf p.2.2.1), (4, va_rf p.2.2.2.1), (5, .int p.2.2.2.2.1), (6, va_rf p.2.2.2.2.2.1)] [] p.2.2.2.2.2.2 K) (fun _ => x_no) (fun k hk => fun (v1, v2, v3, v4, v5, v6, p0) => f_X1_crowd_102F_ok hO a0 hk65 (fun v1 v2 v3 v4 v5 v6 p0 => hk (v1, v2, v3, v4, v5, v6, p0)) v1 v2 v3 v4 v5 v6 p0) n (v1, v2, v3, v4, v5, v6, p0)
theorem f_X1_crowd_65F_ok {G : xG} (hO : xOK G) (a0 : Nat)  {k65 : Int32 × Nat × Option Nat × PH → Option (xO × PH)} (hk65 : ∀ (v1 : Int32) (v2 : Nat) (v3 : Option Nat) (p0 : PH), X G "ForestLegs" "crowd" cX1_crowd 8 (Option.some Jvm.ClassFile.FieldType.int) 9 65 [(0, .ref a0), (1, .int v1), (2, .ref v2), (3, va_rf v3)] [] p0 (k65 (v1, v2, v3, p0))) (v1 : Int32) (v2 : Nat) (v3 : Option Nat) (p0 : PH) : X G "ForestLegs" "crowd" cX1_crowd 8 (Option.some Jvm.ClassFile.FieldType.int) 9 65 [(0, .ref a0), (1, .int v1), (2, .ref v2), (3, va_rf v3)] [] p0 (f_X1_crowd_65F a0 k65 (v1, v2, v3, p0)) := by
  unfold f_X1_crowd_65F
  refine x_aload_n 3 dX1_crowd_65 rfl rfl (n := 66) rfl ?_
  refine x_sm (fun b22 e => ?_)
  subst e
  refine x_sw (fun c24 e => ?_)
  refine x_ite (fun h => ?_) (fun _ => ?_)
  · subst h
    refine x_callF_I [] [] (f_J26_hasNext_ok hO p0 b22 ) rc_J26_hasNext md_J26_hasNext rfl q1823 fc_java_util_ArrayList_Itr_java_util_Iterator_hasNext_0_Z dX1_crowd_66 rfl rfl (by decide) (Nat.le_of_ble_eq_true rfl) (n := 71) rfl (fun x27 p26 => ?_)
    refine x_if_eq dX1_crowd_71 (t := 184) (by decide) (n := 74) rfl (fun _ => ?_) (fun _ => ?_)
    · refine x_iconst 0 dX1_crowd_184 rfl (n := 185) rfl ?_
      refine x_istore_n [(3, .int 0), (0, .ref a0), (1, .int v1), (2, .ref v2)] dX1_crowd_185 rfl (by decide) rfl (n := 186) rfl ?_
      refine x_bipush (-2) dX1_crowd_186 rfl (n := 188) rfl ?_
      refine x_istore [(4, .int (-2)), (3, .int 0), (0, .ref a0), (1, .int v1), (2, .ref v2)] dX1_crowd_188 (by decide) rfl (n := 190) rfl ?_
      refine x_aload_nr 4 dX1_crowd_190 rfl rfl (n := 191) rfl ?_
      refine x_callV_R [] [] (f_J5_keySet_ok hO p26 v2 ) rc_J5_keySet md_J5_keySet rfl q2384 q2385 q2386 dX1_crowd_191 rfl rfl (by decide) (Nat.le_of_ble_eq_true rfl) (n := 194) rfl (fun x29 p28 => ?_)
      refine x_sm (fun b30 e => ?_)
      subst e
      refine x_sw (fun c32 e => ?_)
      refine x_ite (fun h => ?_) (fun _ => ?_)
      · subst h
        refine x_callF_R [] [] (f_J34_iterator_ok hO p28 b30 ) rc_J34_iterator md_J34_iterator rfl q2390 fc_java_util_TreeSet_java_util_Set_iterator_0_Ljavau dX1_crowd_194 rfl rfl (by decide) (Nat.le_of_ble_eq_true rfl) (n := 199) rfl (fun x35 p34 => ?_)
        refine x_astore [(5, va_rf x35), (4, .int (-2)), (3, .int 0), (0, .ref a0), (1, .int v1), (2, .ref v2)] dX1_crowd_199 (by decide) rfl (n := 201) rfl ?_
        refine x_sub [3, 4, 5, 2, 1, 0] [(0, .ref a0), (1, .int v1), (2, .ref v2), (3, .int 0), (4, .int (-2)), (5, va_rf x35)] rfl ?_
        exact f_X1_crowd_201_lp hO a0 FU v1 v2 0 (-2) x35 p34
      refine x_ite (fun h => ?_) (fun _ => ?_)
      · subst h
        refine x_callF_R [] [] (f_J35_iterator_ok hO p28 b30 ) rc_J35_iterator md_J35_iterator rfl q2390 fc_java_util_TreeMap_KeySet_java_util_Set_iterator_0_Ljavau dX1_crowd_194 rfl rfl (by decide) (Nat.le_of_ble_eq_true rfl) (n := 199) rfl (fun x129 p128 => ?_)
        refine x_astore [(5, va_rf x129), (4, .int (-2)), (3, .int 0), (0, .ref a0), (1, .int v1), (2, .ref v2)] dX1_crowd_199 (by decide) rfl (n := 201) rfl ?_
        refine x_sub [3, 4, 5, 2, 1, 0] [(0, .ref a0), (1, .int v1), (2, .ref v2), (3, .int 0), (4, .int (-2)), (5, va_rf x129)] rfl ?_
        exact f_X1_crowd_201_lp hO a0 FU v1 v2 0 (-2) x129 p128
      exact x_no
    · refine x_aload_nr 3 dX1_crowd_74 rfl rfl (n := 75) rfl ?_
      refine x_sw (fun c131 e => ?_)
      refine x_ite (fun h => ?_) (fun _ => ?_)
      · subst h
        refine x_callF_R [] [] (f_J26_next_ok hO p26 b22 ) rc_J26_next md_J26_next rfl q1858 fc_java_util_ArrayList_Itr_java_util_Iterator_next_0_Ljaval dX1_crowd_75 rfl rfl (by decide) (Nat.le_of_ble_eq_true rfl) (n := 80) rfl (fun x134 p133 => ?_)
        refine x_cast (x := x134) (cs := [6]) q1498 cst_ForestLegs_Runner dX1_crowd_80 (n := 83) rfl ?_
        refine x_astore [(4, va_rf x134), (0, .ref a0), (1, .int v1), (2, .ref v2), (3, .ref b22)] dX1_crowd_83 (by decide) rfl (n := 85) rfl ?_
        refine x_iconst 0 dX1_crowd_85 rfl (n := 86) rfl ?_
        refine x_istore [(5, .int 0), (4, va_rf x134), (0, .ref a0), (1, .int v1), (2, .ref v2), (3, .ref b22)] dX1_crowd_86 (by decide) (by simp only [xst, List.filter_cons, List.filter_nil, xcat] <;> rfl) (n := 88) rfl ?_
        refine x_aload_nr 2 dX1_crowd_88 rfl rfl (n := 89) rfl ?_
        refine x_getR fl_X1_56 dX1_crowd_89 (n := 92) rfl (fun x135 => ?_)
        refine x_sm (fun b136 e => ?_)
        subst e
        refine x_getR fl_X1_71 dX1_crowd_92 (n := 95) rfl (fun x137 => ?_)
        refine x_sm (fun b138 e => ?_)
        subst e
        refine x_callF_R [] [] (f_J3_iterator_ok hO p133 b138 ) rc_J3_iterator md_J3_iterator rfl q1791 fc_java_util_ArrayList_java_util_List_iterator_0_Ljavau dX1_crowd_95 rfl rfl (by decide) (Nat.le_of_ble_eq_true rfl) (n := 100) rfl (fun x140 p139 => ?_)
        refine x_astore [(6, va_rf x140), (5, .int 0), (4, va_rf x134), (0, .ref a0), (1, .int v1), (2, .ref v2), (3, .ref b22)] dX1_crowd_100 (by decide) rfl (n := 102) rfl ?_
        refine x_sub [3, 4, 5, 6, 2, 1, 0] [(0, .ref a0), (1, .int v1), (2, .ref v2), (3, .ref b22), (4, va_rf x134), (5, .int 0), (6, va_rf x140)] rfl ?_
        exact f_X1_crowd_102_lp hO a0 hk65 FU v1 v2 ((some b22)) x134 0 x140 p139
      refine x_ite (fun h => ?_) (fun _ => ?_)
      · subst h
        refine x_callF_R [] [] (f_J37_next_ok hO p26 b22 ) rc_J37_next md_J37_next rfl q1858 fc_java_util_TreeMap_KeyIterator_java_util_Iterator_next_0_Ljaval dX1_crowd_75 rfl rfl (by decide) (Nat.le_of_ble_eq_true rfl) (n := 80) rfl (fun x205 p204 => ?_)
        refine x_cast (x := x205) (cs := [6]) q1498 cst_ForestLegs_Runner dX1_crowd_80 (n := 83) rfl ?_
        refine x_astore [(4, va_rf x205), (0, .ref a0), (1, .int v1), (2, .ref v2), (3, .ref b22)] dX1_crowd_83 (by decide) rfl (n := 85) rfl ?_
        refine x_iconst 0 dX1_crowd_85 rfl (n := 86) rfl ?_
        refine x_istore [(5, .int 0), (4, va_rf x205), (0, .ref a0), (1, .int v1), (2, .ref v2), (3, .ref b22)] dX1_crowd_86 (by decide) (by simp only [xst, List.filter_cons, List.filter_nil, xcat] <;> rfl) (n := 88) rfl ?_
        refine x_aload_nr 2 dX1_crowd_88 rfl rfl (n := 89) rfl ?_
        refine x_getR fl_X1_56 dX1_crowd_89 (n := 92) rfl (fun x206 => ?_)
        refine x_sm (fun b207 e => ?_)
        subst e
        refine x_getR fl_X1_71 dX1_crowd_92 (n := 95) rfl (fun x208 => ?_)
        refine x_sm (fun b209 e => ?_)
        subst e
        refine x_callF_R [] [] (f_J3_iterator_ok hO p204 b209 ) rc_J3_iterator md_J3_iterator rfl q1791 fc_java_util_ArrayList_java_util_List_iterator_0_Ljavau dX1_crowd_95 rfl rfl (by decide) (Nat.le_of_ble_eq_true rfl) (n := 100) rfl (fun x211 p210 => ?_)
        refine x_astore [(6, va_rf x211), (5, .int 0), (4, va_rf x205), (0, .ref a0), (1, .int v1), (2, .ref v2), (3, .ref b22)] dX1_crowd_100 (by decide) rfl (n := 102) rfl ?_
        refine x_sub [3, 4, 5, 6, 2, 1, 0] [(0, .ref a0), (1, .int v1), (2, .ref v2), (3, .ref b22), (4, va_rf x205), (5, .int 0), (6, va_rf x211)] rfl ?_
        exact f_X1_crowd_102_lp hO a0 hk65 FU v1 v2 ((some b22)) x205 0 x211 p210
      exact x_no
  refine x_ite (fun h => ?_) (fun _ => ?_)
  · subst h
    refine x_callF_I [] [] (f_J36_hasNext_ok hO p0 b22 ) rc_J36_hasNext md_J36_hasNext rfl q1823 fc_java_util_TreeMap_KeyIterator_java_util_Iterator_hasNext_0_Z dX1_crowd_66 rfl rfl (by decide) (Nat.le_of_ble_eq_true rfl) (n := 71) rfl (fun x213 p212 => ?_)
    refine x_if_eq dX1_crowd_71 (t := 184) (by decide) (n := 74) rfl (fun _ => ?_) (fun _ => ?_)
    · refine x_iconst 0 dX1_crowd_184 rfl (n := 185) rfl ?_
      refine x_istore_n [(3, .int 0), (0, .ref a0), (1, .int v1), (2, .ref v2)] dX1_crowd_185 rfl (by decide) rfl (n := 186) rfl ?_
      refine x_bipush (-2) dX1_crowd_186 rfl (n := 188) rfl ?_
      refine x_istore [(4, .int (-2)), (3, .int 0), (0, .ref a0), (1, .int v1), (2, .ref v2)] dX1_crowd_188 (by decide) rfl (n := 190) rfl ?_
      refine x_aload_nr 4 dX1_crowd_190 rfl rfl (n := 191) rfl ?_
      refine x_callV_R [] [] (f_J5_keySet_ok hO p212 v2 ) rc_J5_keySet md_J5_keySet rfl q2384 q2385 q2386 dX1_crowd_191 rfl rfl (by decide) (Nat.le_of_ble_eq_true rfl) (n := 194) rfl (fun x215 p214 => ?_)
      refine x_sm (fun b216 e => ?_)
      subst e
      refine x_sw (fun c218 e => ?_)
      refine x_ite (fun h => ?_) (fun _ => ?_)
      · subst h
        refine x_callF_R [] [] (f_J34_iterator_ok hO p214 b216 ) rc_J34_iterator md_J34_iterator rfl q2390 fc_java_util_TreeSet_java_util_Set_iterator_0_Ljavau dX1_crowd_194 rfl rfl (by decide) (Nat.le_of_ble_eq_true rfl) (n := 199) rfl (fun x221 p220 => ?_)
        refine x_astore [(5, va_rf x221), (4, .int (-2)), (3, .int 0), (0, .ref a0), (1, .int v1), (2, .ref v2)] dX1_crowd_199 (by decide) rfl (n := 201) rfl ?_
        refine x_sub [3, 4, 5, 2, 1, 0] [(0, .ref a0), (1, .int v1), (2, .ref v2), (3, .int 0), (4, .int (-2)), (5, va_rf x221)] rfl ?_
        exact f_X1_crowd_201_lp hO a0 FU v1 v2 0 (-2) x221 p220
      refine x_ite (fun h => ?_) (fun _ => ?_)
      · subst h
        refine x_callF_R [] [] (f_J35_iterator_ok hO p214 b216 ) rc_J35_iterator md_J35_iterator rfl q2390 fc_java_util_TreeMap_KeySet_java_util_Set_iterator_0_Ljavau dX1_crowd_194 rfl rfl (by decide) (Nat.le_of_ble_eq_true rfl) (n := 199) rfl (fun x223 p222 => ?_)
        refine x_astore [(5, va_rf x223), (4, .int (-2)), (3, .int 0), (0, .ref a0), (1, .int v1), (2, .ref v2)] dX1_crowd_199 (by decide) rfl (n := 201) rfl ?_
        refine x_sub [3, 4, 5, 2, 1, 0] [(0, .ref a0), (1, .int v1), (2, .ref v2), (3, .int 0), (4, .int (-2)), (5, va_rf x223)] rfl ?_
        exact f_X1_crowd_201_lp hO a0 FU v1 v2 0 (-2) x223 p222
      exact x_no
    · refine x_aload_nr 3 dX1_crowd_74 rfl rfl (n := 75) rfl ?_
      refine x_sw (fun c225 e => ?_)
      refine x_ite (fun h => ?_) (fun _ => ?_)
      · subst h
        refine x_callF_R [] [] (f_J26_next_ok hO p212 b22 ) rc_J26_next md_J26_next rfl q1858 fc_java_util_ArrayList_Itr_java_util_Iterator_next_0_Ljaval dX1_crowd_75 rfl rfl (by decide) (Nat.le_of_ble_eq_true rfl) (n := 80) rfl (fun x228 p227 => ?_)
        refine x_cast (x := x228) (cs := [6]) q1498 cst_ForestLegs_Runner dX1_crowd_80 (n := 83) rfl ?_
        refine x_astore [(4, va_rf x228), (0, .ref a0), (1, .int v1), (2, .ref v2), (3, .ref b22)] dX1_crowd_83 (by decide) rfl (n := 85) rfl ?_
        refine x_iconst 0 dX1_crowd_85 rfl (n := 86) rfl ?_
        refine x_istore [(5, .int 0), (4, va_rf x228), (0, .ref a0), (1, .int v1), (2, .ref v2), (3, .ref b22)] dX1_crowd_86 (by decide) (by simp only [xst, List.filter_cons, List.filter_nil, xcat] <;> rfl) (n := 88) rfl ?_
        refine x_aload_nr 2 dX1_crowd_88 rfl rfl (n := 89) rfl ?_
        refine x_getR fl_X1_56 dX1_crowd_89 (n := 92) rfl (fun x229 => ?_)
        refine x_sm (fun b230 e => ?_)
        subst e
        refine x_getR fl_X1_71 dX1_crowd_92 (n := 95) rfl (fun x231 => ?_)
        refine x_sm (fun b232 e => ?_)
        subst e
        refine x_callF_R [] [] (f_J3_iterator_ok hO p227 b232 ) rc_J3_iterator md_J3_iterator rfl q1791 fc_java_util_ArrayList_java_util_List_iterator_0_Ljavau dX1_crowd_95 rfl rfl (by decide) (Nat.le_of_ble_eq_true rfl) (n := 100) rfl (fun x234 p233 => ?_)
        refine x_astore [(6, va_rf x234), (5, .int 0), (4, va_rf x228), (0, .ref a0), (1, .int v1), (2, .ref v2), (3, .ref b22)] dX1_crowd_100 (by decide) rfl (n := 102) rfl ?_
        refine x_sub [3, 4, 5, 6, 2, 1, 0] [(0, .ref a0), (1, .int v1), (2, .ref v2), (3, .ref b22), (4, va_rf x228), (5, .int 0), (6, va_rf x234)] rfl ?_
        exact f_X1_crowd_102_lp hO a0 hk65 FU v1 v2 ((some b22)) x228 0 x234 p233
      refine x_ite (fun h => ?_) (fun _ => ?_)
      · subst h
        refine x_callF_R [] [] (f_J37_next_ok hO p212 b22 ) rc_J37_next md_J37_next rfl q1858 fc_java_util_TreeMap_KeyIterator_java_util_Iterator_next_0_Ljaval dX1_crowd_75 rfl rfl (by decide) (Nat.le_of_ble_eq_true rfl) (n := 80) rfl (fun x236 p235 => ?_)
        refine x_cast (x := x236) (cs := [6]) q1498 cst_ForestLegs_Runner dX1_crowd_80 (n := 83) rfl ?_
        refine x_astore [(4, va_rf x236), (0, .ref a0), (1, .int v1), (2, .ref v2), (3, .ref b22)] dX1_crowd_83 (by decide) rfl (n := 85) rfl ?_
        refine x_iconst 0 dX1_crowd_85 rfl (n := 86) rfl ?_
        refine x_istore [(5, .int 0), (4, va_rf x236), (0, .ref a0), (1, .int v1), (2, .ref v2), (3, .ref b22)] dX1_crowd_86 (by decide) (by simp only [xst, List.filter_cons, List.filter_nil, xcat] <;> rfl) (n := 88) rfl ?_
        refine x_aload_nr 2 dX1_crowd_88 rfl rfl (n := 89) rfl ?_
        refine x_getR fl_X1_56 dX1_crowd_89 (n := 92) rfl (fun x237 => ?_)
        refine x_sm (fun b238 e => ?_)
        subst e
        refine x_getR fl_X1_71 dX1_crowd_92 (n := 95) rfl (fun x239 => ?_)
        refine x_sm (fun b240 e => ?_)
        subst e
        refine x_callF_R [] [] (f_J3_iterator_ok hO p235 b240 ) rc_J3_iterator md_J3_iterator rfl q1791 fc_java_util_ArrayList_java_util_List_iterator_0_Ljavau dX1_crowd_95 rfl rfl (by decide) (Nat.le_of_ble_eq_true rfl) (n := 100) rfl (fun x242 p241 => ?_)
        refine x_astore [(6, va_rf x242), (5, .int 0), (4, va_rf x236), (0, .ref a0), (1, .int v1), (2, .ref v2), (3, .ref b22)] dX1_crowd_100 (by decide) rfl (n := 102) rfl ?_
        refine x_sub [3, 4, 5, 6, 2, 1, 0] [(0, .ref a0), (1, .int v1), (2, .ref v2), (3, .ref b22), (4, va_rf x236), (5, .int 0), (6, va_rf x242)] rfl ?_
        exact f_X1_crowd_102_lp hO a0 hk65 FU v1 v2 ((some b22)) x236 0 x242 p241
      exact x_no
  exact x_no
theorem f_X1_crowd_65_lp {G : xG} (hO : xOK G) (a0 : Nat)  (n : Nat) (v1 : Int32) (v2 : Nat) (v3 : Option Nat) (p0 : PH) : X G "ForestLegs" "crowd" cX1_crowd 8 (Option.some Jvm.ClassFile.FieldType.int) 9 65 [(0, .ref a0), (1, .int v1), (2, .ref v2), (3, va_rf v3)] [] p0 (lp (f_X1_crowd_65F a0) n (v1, v2, v3, p0)) :=
  lp_ok (W := fun p K => X G "ForestLegs" "crowd" cX1_crowd 8 (Option.some Jvm.ClassFile.FieldType.int) 9 65 [(0, .ref a0), (1, .int p.1), (2, .ref p.2.1), (3, va_rf p.2.2.1)] [] p.2.2.2 K) (fun _ => x_no) (fun k hk => fun (v1, v2, v3, p0) => f_X1_crowd_65F_ok hO a0 (fun v1 v2 v3 p0 => hk (v1, v2, v3, p0)) v1 v2 v3 p0) n (v1, v2, v3, p0)
theorem f_X1_crowd_ok {G : xG} (hO : xOK G) (p0 : PH) (a0 : Nat) (a1 : Int32) : CT G 9 yX1_crowd cX1_crowd 8 (Option.some Jvm.ClassFile.FieldType.int) [.ref a0, .int a1] p0 (f_X1_crowd p0 a0 a1) := by
  refine CT_of hO (by decide +kernel) (by decide +kernel) (Nat.le_of_ble_eq_true rfl) ?_
  show X G "ForestLegs" "crowd" cX1_crowd 8 (Option.some Jvm.ClassFile.FieldType.int) 9 0 [(0, .ref a0), (1, .int a1)] [] p0 (f_X1_crowd p0 a0 a1)
  refine x_cl1 (fun e0 => ?_)
  refine x_aload_nr 0 dX1_crowd_0 rfl rfl (n := 1) rfl ?_
  refine x_getR fl_X1_56 dX1_crowd_1 (n := 4) rfl (fun x1 => ?_)
  refine x_ifnull dX1_crowd_4 (t := 16) (by decide) (n := 7) rfl (fun e => ?_) (fun b2 e => ?_)
  · subst e
    refine x_sub [0] [(0, .ref a0)] rfl ?_
    exact f_X1_crowd_16_ok hO a0  p0
  · subst e
    refine x_iload_n 1 dX1_crowd_7 rfl rfl (n := 8) rfl ?_
    refine x_iconst 0 dX1_crowd_8 rfl (n := 9) rfl ?_
    refine x_iconst 1 dX1_crowd_9 rfl (n := 10) rfl ?_
    refine x_callS_I [.int a1, .int 0, .int 1] [] (f_X1_isIn_ok hO p0 a1 0 1) md_X1_isIn q247 q248 dX1_crowd_10 rfl rfl (by decide) (Nat.le_of_ble_eq_true rfl) (n := 13) rfl (fun x6 p5 => ?_)
    refine x_if_ne dX1_crowd_13 (t := 22) (by decide) (n := 16) rfl (fun _ => ?_) (fun _ => ?_)
    · refine x_aload_nr 0 dX1_crowd_22 rfl rfl (n := 23) rfl ?_
      refine x_getR fl_X1_56 dX1_crowd_23 (n := 26) rfl (fun x7 => ?_)
      refine x_sm (fun b8 e => ?_)
      subst e
      refine x_getR fl_X1_71 dX1_crowd_26 (n := 29) rfl (fun x9 => ?_)
      refine x_sm (fun b10 e => ?_)
      subst e
      refine x_callF_I [] [] (f_J3_isEmpty_ok hO p5 b10 ) rc_J3_isEmpty md_J3_isEmpty rfl q1763 fc_java_util_ArrayList_java_util_List_isEmpty_0_Z dX1_crowd_29 rfl rfl (by decide) (Nat.le_of_ble_eq_true rfl) (n := 34) rfl (fun x12 p11 => ?_)
      refine x_if_eq dX1_crowd_34 (t := 44) (by decide) (n := 37) rfl (fun _ => ?_) (fun _ => ?_)
      · refine x_new cl_15 (by decide) q2381 q319 q132 rfl dX1_crowd_44 (n := 47) rfl (fun b13 p14 => ?_)
        refine x_dup dX1_crowd_47 rfl (n := 48) rfl ?_
        refine x_callI_V [] [.ref b13] (f_J5_init_ok hO p14 b13 ) md_J5_init rfl q2382 q321 dX1_crowd_48 rfl rfl (by decide) (Nat.le_of_ble_eq_true rfl) (n := 51) rfl (fun p15 => ?_)
        refine x_astore_nr [(2, .ref b13), (0, .ref a0), (1, .int a1)] dX1_crowd_51 rfl (by decide) rfl (n := 52) rfl ?_
        refine x_aload_nr 1 dX1_crowd_52 rfl rfl (n := 53) rfl ?_
        refine x_getR fl_X1_56 dX1_crowd_53 (n := 56) rfl (fun x16 => ?_)
        refine x_sm (fun b17 e => ?_)
        subst e
        refine x_getR fl_X1_71 dX1_crowd_56 (n := 59) rfl (fun x18 => ?_)
        refine x_sm (fun b19 e => ?_)
        subst e
        refine x_callF_R [] [] (f_J3_iterator_ok hO p15 b19 ) rc_J3_iterator md_J3_iterator rfl q1791 fc_java_util_ArrayList_java_util_List_iterator_0_Ljavau dX1_crowd_59 rfl rfl (by decide) (Nat.le_of_ble_eq_true rfl) (n := 64) rfl (fun x21 p20 => ?_)
        refine x_astore_n [(3, va_rf x21), (2, .ref b13), (0, .ref a0), (1, .int a1)] dX1_crowd_64 rfl (by decide) rfl (n := 65) rfl ?_
        refine x_sub [2, 3, 1, 0] [(0, .ref a0), (1, .int a1), (2, .ref b13), (3, va_rf x21)] rfl ?_
        exact f_X1_crowd_65_lp hO a0 FU a1 b13 x21 p20
      · refine x_aload_nr 0 dX1_crowd_37 rfl rfl (n := 38) rfl ?_
        refine x_bipush 6 dX1_crowd_38 rfl (n := 40) rfl ?_
        refine x_callV_I [.int 6] [] (f_X1_refused_ok hO p11 a0 6) rc_X1_refused md_X1_refused rfl q250 q252 qs0 dX1_crowd_40 rfl rfl (by decide) (Nat.le_of_ble_eq_true rfl) (n := 43) rfl (fun x244 p243 => ?_)
        exact x_ireturn dX1_crowd_43
    · refine x_sub [0] [(0, .ref a0)] rfl ?_
      exact f_X1_crowd_16_ok hO a0  p5
abbrev cX1_over : ByteArray := prog_1_method_54_code
def yX1_over : MethodName := ⟨RX1, "over", "(III)I"⟩
def dkwX1_over_9 : List UInt8 := [132, 6, 1, 167, 255, 103, 42, 29, 154, 0, 8, 21, 4, 167, 0, 5, 21, 5, 182, 0, 83, 172]
abbrev dktX1_over_9 : List UInt8 := dkwX1_over_9 ++ []
def dkwX1_over_8 : List UInt8 := [21, 9, 21, 4, 161, 0, 6, 167, 0, 11, 21, 9, 54, 4, 21, 6, 54, 5, 132, 8, 1, 167, 255, 166]
abbrev dktX1_over_8 : List UInt8 := dkwX1_over_8 ++ dktX1_over_9
def dkwX1_over_7 : List UInt8 := [182, 0, 242, 167, 0, 5, 16, 254, 54, 9, 21, 9, 16, 254, 159, 0, 28, 21, 4, 16, 254, 159, 0, 13]
abbrev dktX1_over_7 : List UInt8 := dkwX1_over_7 ++ dktX1_over_8
def dkwX1_over_6 : List UInt8 := [25, 7, 21, 8, 182, 0, 173, 28, 160, 0, 20, 42, 180, 0, 56, 21, 6, 182, 0, 189, 21, 8]
abbrev dktX1_over_6 : List UInt8 := dkwX1_over_6 ++ dktX1_over_7
def dkwX1_over_5 : List UInt8 := [21, 8, 25, 7, 182, 0, 99, 162, 0, 86, 25, 7, 21, 8, 4, 100, 182, 0, 173, 27, 160, 0, 31]
abbrev dktX1_over_5 : List UInt8 := dkwX1_over_5 ++ dktX1_over_6
def dkwX1_over_4 : List UInt8 := [185, 0, 93, 2, 0, 192, 0, 103, 180, 0, 105, 185, 0, 93, 2, 0, 192, 0, 97, 58, 7, 4, 54, 8]
abbrev dktX1_over_4 : List UInt8 := dkwX1_over_4 ++ dktX1_over_5
def dkwX1_over_3 : List UInt8 := [185, 0, 77, 1, 0, 162, 0, 142, 42, 180, 0, 56, 180, 0, 86, 42, 180, 0, 56, 180, 0, 71, 21, 6]
abbrev dktX1_over_3 : List UInt8 := dkwX1_over_3 ++ dktX1_over_4
def dkwX1_over_2 : List UInt8 := [16, 254, 54, 4, 16, 254, 54, 5, 3, 54, 6, 21, 6, 42, 180, 0, 56, 180, 0, 71]
abbrev dktX1_over_2 : List UInt8 := dkwX1_over_2 ++ dktX1_over_3
def dkwX1_over_1 : List UInt8 := [16, 99, 184, 0, 36, 153, 0, 13, 28, 4, 16, 99, 184, 0, 36, 154, 0, 9, 42, 5, 182, 0, 40, 172]
abbrev dktX1_over_1 : List UInt8 := dkwX1_over_1 ++ dktX1_over_2
def dkwX1_over_0 : List UInt8 := [42, 180, 0, 56, 198, 0, 12, 29, 3, 4, 184, 0, 36, 154, 0, 9, 42, 4, 182, 0, 40, 172, 27, 4]
abbrev dktX1_over_0 : List UInt8 := dkwX1_over_0 ++ dktX1_over_1
theorem dksX1_over_0 : cX1_over.data.toList.drop 0 = dktX1_over_0 := by decide +kernel
theorem dksX1_over_1 : cX1_over.data.toList.drop 24 = dktX1_over_1 := dk_seg dksX1_over_0 24 rfl rfl
theorem dksX1_over_2 : cX1_over.data.toList.drop 48 = dktX1_over_2 := dk_seg dksX1_over_1 24 rfl rfl
theorem dksX1_over_3 : cX1_over.data.toList.drop 68 = dktX1_over_3 := dk_seg dksX1_over_2 20 rfl rfl
theorem dksX1_over_4 : cX1_over.data.toList.drop 92 = dktX1_over_4 := dk_seg dksX1_over_3 24 rfl rfl
theorem dksX1_over_5 : cX1_over.data.toList.drop 116 = dktX1_over_5 := dk_seg dksX1_over_4 24 rfl rfl
theorem dksX1_over_6 : cX1_over.data.toList.drop 139 = dktX1_over_6 := dk_seg dksX1_over_5 23 rfl rfl
theorem dksX1_over_7 : cX1_over.data.toList.drop 161 = dktX1_over_7 := dk_seg dksX1_over_6 22 rfl rfl
theorem dksX1_over_8 : cX1_over.data.toList.drop 185 = dktX1_over_8 := dk_seg dksX1_over_7 24 rfl rfl
theorem dksX1_over_9 : cX1_over.data.toList.drop 209 = dktX1_over_9 := dk_seg dksX1_over_8 24 rfl rfl
theorem dX1_over_0 : decode cX1_over 0 = .ok (.aload_n 0, 1) := dk_42 (dk_at dksX1_over_0 0 rfl rfl)
theorem dX1_over_1 : decode cX1_over 1 = .ok (.getfield 56, 3) := dk_180 0 56 (dk_at dksX1_over_0 1 rfl rfl)
theorem dX1_over_4 : decode cX1_over 4 = .ok (.ifnull 12, 3) := dk_198 0 12 (dk_at dksX1_over_0 4 rfl rfl)
theorem dX1_over_7 : decode cX1_over 7 = .ok (.iload_n 3, 1) := dk_29 (dk_at dksX1_over_0 7 rfl rfl)
theorem dX1_over_8 : decode cX1_over 8 = .ok (.iconst 0, 1) := dk_3 (dk_at dksX1_over_0 8 rfl rfl)
theorem dX1_over_9 : decode cX1_over 9 = .ok (.iconst 1, 1) := dk_4 (dk_at dksX1_over_0 9 rfl rfl)
theorem dX1_over_10 : decode cX1_over 10 = .ok (.invokestatic 36, 3) := dk_184 0 36 (dk_at dksX1_over_0 10 rfl rfl)
theorem dX1_over_13 : decode cX1_over 13 = .ok (.ifCond .ne 9, 3) := dk_154 0 9 (dk_at dksX1_over_0 13 rfl rfl)
theorem dX1_over_16 : decode cX1_over 16 = .ok (.aload_n 0, 1) := dk_42 (dk_at dksX1_over_0 16 rfl rfl)
theorem dX1_over_17 : decode cX1_over 17 = .ok (.iconst 1, 1) := dk_4 (dk_at dksX1_over_0 17 rfl rfl)
theorem dX1_over_18 : decode cX1_over 18 = .ok (.invokevirtual 40, 3) := dk_182 0 40 (dk_at dksX1_over_0 18 rfl rfl)
theorem dX1_over_21 : decode cX1_over 21 = .ok (.ireturn, 1) := dk_172 (dk_at dksX1_over_0 21 rfl rfl)
theorem dX1_over_22 : decode cX1_over 22 = .ok (.iload_n 1, 1) := dk_27 (dk_at dksX1_over_0 22 rfl rfl)
theorem dX1_over_23 : decode cX1_over 23 = .ok (.iconst 1, 1) := dk_4 (dk_at dksX1_over_0 23 rfl rfl)
theorem dX1_over_24 : decode cX1_over 24 = .ok (.bipush 99, 2) := dk_16 99 (dk_at dksX1_over_1 0 rfl rfl)
theorem dX1_over_26 : decode cX1_over 26 = .ok (.invokestatic 36, 3) := dk_184 0 36 (dk_at dksX1_over_1 2 rfl rfl)
theorem dX1_over_29 : decode cX1_over 29 = .ok (.ifCond .eq 13, 3) := dk_153 0 13 (dk_at dksX1_over_1 5 rfl rfl)
theorem dX1_over_32 : decode cX1_over 32 = .ok (.iload_n 2, 1) := dk_28 (dk_at dksX1_over_1 8 rfl rfl)
theorem dX1_over_33 : decode cX1_over 33 = .ok (.iconst 1, 1) := dk_4 (dk_at dksX1_over_1 9 rfl rfl)
theorem dX1_over_34 : decode cX1_over 34 = .ok (.bipush 99, 2) := dk_16 99 (dk_at dksX1_over_1 10 rfl rfl)
theorem dX1_over_36 : decode cX1_over 36 = .ok (.invokestatic 36, 3) := dk_184 0 36 (dk_at dksX1_over_1 12 rfl rfl)
theorem dX1_over_39 : decode cX1_over 39 = .ok (.ifCond .ne 9, 3) := dk_154 0 9 (dk_at dksX1_over_1 15 rfl rfl)
theorem dX1_over_42 : decode cX1_over 42 = .ok (.aload_n 0, 1) := dk_42 (dk_at dksX1_over_1 18 rfl rfl)
theorem dX1_over_43 : decode cX1_over 43 = .ok (.iconst 2, 1) := dk_5 (dk_at dksX1_over_1 19 rfl rfl)
theorem dX1_over_44 : decode cX1_over 44 = .ok (.invokevirtual 40, 3) := dk_182 0 40 (dk_at dksX1_over_1 20 rfl rfl)
theorem dX1_over_47 : decode cX1_over 47 = .ok (.ireturn, 1) := dk_172 (dk_at dksX1_over_1 23 rfl rfl)
theorem dX1_over_48 : decode cX1_over 48 = .ok (.bipush (-2), 2) := dk_16 254 (dk_at dksX1_over_2 0 rfl rfl)
theorem dX1_over_50 : decode cX1_over 50 = .ok (.istore 4, 2) := dk_54 4 (dk_at dksX1_over_2 2 rfl rfl)
theorem dX1_over_52 : decode cX1_over 52 = .ok (.bipush (-2), 2) := dk_16 254 (dk_at dksX1_over_2 4 rfl rfl)
theorem dX1_over_54 : decode cX1_over 54 = .ok (.istore 5, 2) := dk_54 5 (dk_at dksX1_over_2 6 rfl rfl)
theorem dX1_over_56 : decode cX1_over 56 = .ok (.iconst 0, 1) := dk_3 (dk_at dksX1_over_2 8 rfl rfl)
theorem dX1_over_57 : decode cX1_over 57 = .ok (.istore 6, 2) := dk_54 6 (dk_at dksX1_over_2 9 rfl rfl)
theorem dX1_over_59 : decode cX1_over 59 = .ok (.iload 6, 2) := dk_21 6 (dk_at dksX1_over_2 11 rfl rfl)
theorem dX1_over_61 : decode cX1_over 61 = .ok (.aload_n 0, 1) := dk_42 (dk_at dksX1_over_2 13 rfl rfl)
theorem dX1_over_62 : decode cX1_over 62 = .ok (.getfield 56, 3) := dk_180 0 56 (dk_at dksX1_over_2 14 rfl rfl)
theorem dX1_over_65 : decode cX1_over 65 = .ok (.getfield 71, 3) := dk_180 0 71 (dk_at dksX1_over_2 17 rfl rfl)
theorem dX1_over_68 : decode cX1_over 68 = .ok (.invokeinterface 77 1, 5) := by decide +kernel
theorem dX1_over_73 : decode cX1_over 73 = .ok (.if_icmp .ge 142, 3) := dk_162 0 142 (dk_at dksX1_over_3 5 rfl rfl)
theorem dX1_over_76 : decode cX1_over 76 = .ok (.aload_n 0, 1) := dk_42 (dk_at dksX1_over_3 8 rfl rfl)
theorem dX1_over_77 : decode cX1_over 77 = .ok (.getfield 56, 3) := dk_180 0 56 (dk_at dksX1_over_3 9 rfl rfl)
theorem dX1_over_80 : decode cX1_over 80 = .ok (.getfield 86, 3) := dk_180 0 86 (dk_at dksX1_over_3 12 rfl rfl)
theorem dX1_over_83 : decode cX1_over 83 = .ok (.aload_n 0, 1) := dk_42 (dk_at dksX1_over_3 15 rfl rfl)
theorem dX1_over_84 : decode cX1_over 84 = .ok (.getfield 56, 3) := dk_180 0 56 (dk_at dksX1_over_3 16 rfl rfl)
theorem dX1_over_87 : decode cX1_over 87 = .ok (.getfield 71, 3) := dk_180 0 71 (dk_at dksX1_over_3 19 rfl rfl)
theorem dX1_over_90 : decode cX1_over 90 = .ok (.iload 6, 2) := dk_21 6 (dk_at dksX1_over_3 22 rfl rfl)
theorem dX1_over_92 : decode cX1_over 92 = .ok (.invokeinterface 93 2, 5) := by decide +kernel
theorem dX1_over_97 : decode cX1_over 97 = .ok (.checkcast 103, 3) := dk_192 0 103 (dk_at dksX1_over_4 5 rfl rfl)
theorem dX1_over_100 : decode cX1_over 100 = .ok (.getfield 105, 3) := dk_180 0 105 (dk_at dksX1_over_4 8 rfl rfl)
theorem dX1_over_103 : decode cX1_over 103 = .ok (.invokeinterface 93 2, 5) := by decide +kernel
theorem dX1_over_108 : decode cX1_over 108 = .ok (.checkcast 97, 3) := dk_192 0 97 (dk_at dksX1_over_4 16 rfl rfl)
theorem dX1_over_111 : decode cX1_over 111 = .ok (.astore 7, 2) := dk_58 7 (dk_at dksX1_over_4 19 rfl rfl)
theorem dX1_over_113 : decode cX1_over 113 = .ok (.iconst 1, 1) := dk_4 (dk_at dksX1_over_4 21 rfl rfl)
theorem dX1_over_114 : decode cX1_over 114 = .ok (.istore 8, 2) := dk_54 8 (dk_at dksX1_over_4 22 rfl rfl)
theorem dX1_over_116 : decode cX1_over 116 = .ok (.iload 8, 2) := dk_21 8 (dk_at dksX1_over_5 0 rfl rfl)
theorem dX1_over_118 : decode cX1_over 118 = .ok (.aload 7, 2) := dk_25 7 (dk_at dksX1_over_5 2 rfl rfl)
theorem dX1_over_120 : decode cX1_over 120 = .ok (.invokevirtual 99, 3) := dk_182 0 99 (dk_at dksX1_over_5 4 rfl rfl)
theorem dX1_over_123 : decode cX1_over 123 = .ok (.if_icmp .ge 86, 3) := dk_162 0 86 (dk_at dksX1_over_5 7 rfl rfl)
theorem dX1_over_126 : decode cX1_over 126 = .ok (.aload 7, 2) := dk_25 7 (dk_at dksX1_over_5 10 rfl rfl)
theorem dX1_over_128 : decode cX1_over 128 = .ok (.iload 8, 2) := dk_21 8 (dk_at dksX1_over_5 12 rfl rfl)
theorem dX1_over_130 : decode cX1_over 130 = .ok (.iconst 1, 1) := dk_4 (dk_at dksX1_over_5 14 rfl rfl)
theorem dX1_over_131 : decode cX1_over 131 = .ok (.isub, 1) := dk_100 (dk_at dksX1_over_5 15 rfl rfl)
theorem dX1_over_132 : decode cX1_over 132 = .ok (.invokevirtual 173, 3) := dk_182 0 173 (dk_at dksX1_over_5 16 rfl rfl)
theorem dX1_over_135 : decode cX1_over 135 = .ok (.iload_n 1, 1) := dk_27 (dk_at dksX1_over_5 19 rfl rfl)
theorem dX1_over_136 : decode cX1_over 136 = .ok (.if_icmp .ne 31, 3) := dk_160 0 31 (dk_at dksX1_over_5 20 rfl rfl)
theorem dX1_over_139 : decode cX1_over 139 = .ok (.aload 7, 2) := dk_25 7 (dk_at dksX1_over_6 0 rfl rfl)
theorem dX1_over_141 : decode cX1_over 141 = .ok (.iload 8, 2) := dk_21 8 (dk_at dksX1_over_6 2 rfl rfl)
theorem dX1_over_143 : decode cX1_over 143 = .ok (.invokevirtual 173, 3) := dk_182 0 173 (dk_at dksX1_over_6 4 rfl rfl)
theorem dX1_over_146 : decode cX1_over 146 = .ok (.iload_n 2, 1) := dk_28 (dk_at dksX1_over_6 7 rfl rfl)
theorem dX1_over_147 : decode cX1_over 147 = .ok (.if_icmp .ne 20, 3) := dk_160 0 20 (dk_at dksX1_over_6 8 rfl rfl)
theorem dX1_over_150 : decode cX1_over 150 = .ok (.aload_n 0, 1) := dk_42 (dk_at dksX1_over_6 11 rfl rfl)
theorem dX1_over_151 : decode cX1_over 151 = .ok (.getfield 56, 3) := dk_180 0 56 (dk_at dksX1_over_6 12 rfl rfl)
theorem dX1_over_154 : decode cX1_over 154 = .ok (.iload 6, 2) := dk_21 6 (dk_at dksX1_over_6 15 rfl rfl)
theorem dX1_over_156 : decode cX1_over 156 = .ok (.invokevirtual 189, 3) := dk_182 0 189 (dk_at dksX1_over_6 17 rfl rfl)
theorem dX1_over_159 : decode cX1_over 159 = .ok (.iload 8, 2) := dk_21 8 (dk_at dksX1_over_6 20 rfl rfl)
theorem dX1_over_161 : decode cX1_over 161 = .ok (.invokevirtual 242, 3) := dk_182 0 242 (dk_at dksX1_over_7 0 rfl rfl)
theorem dX1_over_164 : decode cX1_over 164 = .ok (.goto 5, 3) := dk_167 0 5 (dk_at dksX1_over_7 3 rfl rfl)
theorem dX1_over_167 : decode cX1_over 167 = .ok (.bipush (-2), 2) := dk_16 254 (dk_at dksX1_over_7 6 rfl rfl)
theorem dX1_over_169 : decode cX1_over 169 = .ok (.istore 9, 2) := dk_54 9 (dk_at dksX1_over_7 8 rfl rfl)
theorem dX1_over_171 : decode cX1_over 171 = .ok (.iload 9, 2) := dk_21 9 (dk_at dksX1_over_7 10 rfl rfl)
theorem dX1_over_173 : decode cX1_over 173 = .ok (.bipush (-2), 2) := dk_16 254 (dk_at dksX1_over_7 12 rfl rfl)
theorem dX1_over_175 : decode cX1_over 175 = .ok (.if_icmp .eq 28, 3) := dk_159 0 28 (dk_at dksX1_over_7 14 rfl rfl)
theorem dX1_over_178 : decode cX1_over 178 = .ok (.iload 4, 2) := dk_21 4 (dk_at dksX1_over_7 17 rfl rfl)
theorem dX1_over_180 : decode cX1_over 180 = .ok (.bipush (-2), 2) := dk_16 254 (dk_at dksX1_over_7 19 rfl rfl)
theorem dX1_over_182 : decode cX1_over 182 = .ok (.if_icmp .eq 13, 3) := dk_159 0 13 (dk_at dksX1_over_7 21 rfl rfl)
theorem dX1_over_185 : decode cX1_over 185 = .ok (.iload 9, 2) := dk_21 9 (dk_at dksX1_over_8 0 rfl rfl)
theorem dX1_over_187 : decode cX1_over 187 = .ok (.iload 4, 2) := dk_21 4 (dk_at dksX1_over_8 2 rfl rfl)
theorem dX1_over_189 : decode cX1_over 189 = .ok (.if_icmp .lt 6, 3) := dk_161 0 6 (dk_at dksX1_over_8 4 rfl rfl)
theorem dX1_over_192 : decode cX1_over 192 = .ok (.goto 11, 3) := dk_167 0 11 (dk_at dksX1_over_8 7 rfl rfl)
theorem dX1_over_195 : decode cX1_over 195 = .ok (.iload 9, 2) := dk_21 9 (dk_at dksX1_over_8 10 rfl rfl)
theorem dX1_over_197 : decode cX1_over 197 = .ok (.istore 4, 2) := dk_54 4 (dk_at dksX1_over_8 12 rfl rfl)
theorem dX1_over_199 : decode cX1_over 199 = .ok (.iload 6, 2) := dk_21 6 (dk_at dksX1_over_8 14 rfl rfl)
theorem dX1_over_201 : decode cX1_over 201 = .ok (.istore 5, 2) := dk_54 5 (dk_at dksX1_over_8 16 rfl rfl)
theorem dX1_over_203 : decode cX1_over 203 = .ok (.iinc 8 1, 3) := dk_132 8 1 (dk_at dksX1_over_8 18 rfl rfl)
theorem dX1_over_206 : decode cX1_over 206 = .ok (.goto (-90), 3) := dk_167 255 166 (dk_at dksX1_over_8 21 rfl rfl)
theorem dX1_over_209 : decode cX1_over 209 = .ok (.iinc 6 1, 3) := dk_132 6 1 (dk_at dksX1_over_9 0 rfl rfl)
theorem dX1_over_212 : decode cX1_over 212 = .ok (.goto (-153), 3) := dk_167 255 103 (dk_at dksX1_over_9 3 rfl rfl)
theorem dX1_over_215 : decode cX1_over 215 = .ok (.aload_n 0, 1) := dk_42 (dk_at dksX1_over_9 6 rfl rfl)
theorem dX1_over_216 : decode cX1_over 216 = .ok (.iload_n 3, 1) := dk_29 (dk_at dksX1_over_9 7 rfl rfl)
theorem dX1_over_217 : decode cX1_over 217 = .ok (.ifCond .ne 8, 3) := dk_154 0 8 (dk_at dksX1_over_9 8 rfl rfl)
theorem dX1_over_220 : decode cX1_over 220 = .ok (.iload 4, 2) := dk_21 4 (dk_at dksX1_over_9 11 rfl rfl)
theorem dX1_over_222 : decode cX1_over 222 = .ok (.goto 5, 3) := dk_167 0 5 (dk_at dksX1_over_9 13 rfl rfl)
theorem dX1_over_225 : decode cX1_over 225 = .ok (.iload 5, 2) := dk_21 5 (dk_at dksX1_over_9 16 rfl rfl)
theorem dX1_over_227 : decode cX1_over 227 = .ok (.invokevirtual 83, 3) := dk_182 0 83 (dk_at dksX1_over_9 18 rfl rfl)
theorem dX1_over_230 : decode cX1_over 230 = .ok (.ireturn, 1) := dk_172 (dk_at dksX1_over_9 21 rfl rfl)
theorem md_X1_over : xMd yX1_over cX1_over 10 (Option.some Jvm.ClassFile.FieldType.int) 3 := ⟨q2401, q123, by decide, by decide +kernel, by decide +kernel, by decide +kernel⟩
def f_X1_over_16 (a0 : Nat)   (p0 : PH) : Option (xO × PH) :=
  (xcI (f_X1_refused p0 a0 1) fun x4 p3 =>
  (rI x4 p3))
def f_X1_over_42 (a0 : Nat)   (p0 : PH) : Option (xO × PH) :=
  (xcI (f_X1_refused p0 a0 2) fun x10 p9 =>
  (rI x10 p9))
def f_X1_over_227 (a0 : Nat)  (w1 : Int32) (p0 : PH) : Option (xO × PH) :=
  (xcI (f_X1_fine p0 a0 w1) fun x20 p19 =>
  (rI x20 p19))
def f_X1_over_203 (a0 : Nat) (k116 : Int32 × Int32 × Int32 × Int32 × Int32 × Int32 × Option Nat × Int32 × PH → Option (xO × PH)) (v1 : Int32) (v2 : Int32) (v3 : Int32) (v4 : Int32) (v5 : Int32) (v6 : Int32) (v7 : Option Nat) (v8 : Int32) (p0 : PH) : Option (xO × PH) :=
  (bnd (v8 + 1) fun x41 =>
  (k116 (v1, v2, v3, v4, v5, v6, v7, x41, p0)))
def f_X1_over_195 (a0 : Nat) (k116 : Int32 × Int32 × Int32 × Int32 × Int32 × Int32 × Option Nat × Int32 × PH → Option (xO × PH)) (v1 : Int32) (v2 : Int32) (v3 : Int32) (v6 : Int32) (v7 : Option Nat) (v8 : Int32) (v9 : Int32) (p0 : PH) : Option (xO × PH) :=
  (f_X1_over_203 a0 k116 v1 v2 v3 v9 v6 v6 v7 v8 p0)
def f_X1_over_169 (a0 : Nat) (k116 : Int32 × Int32 × Int32 × Int32 × Int32 × Int32 × Option Nat × Int32 × PH → Option (xO × PH)) (v1 : Int32) (v2 : Int32) (v3 : Int32) (v4 : Int32) (v5 : Int32) (v6 : Int32) (v7 : Option Nat) (v8 : Int32) (w0 : Int32) (p0 : PH) : Option (xO × PH) :=
  (if w0 = (-2) then
  (f_X1_over_203 a0 k116 v1 v2 v3 v4 v5 v6 v7 v8 p0) else
  (if v4 = (-2) then
  (f_X1_over_195 a0 k116 v1 v2 v3 v6 v7 v8 w0 p0) else
  (if w0 < v4 then
  (f_X1_over_195 a0 k116 v1 v2 v3 v6 v7 v8 w0 p0) else
  (f_X1_over_203 a0 k116 v1 v2 v3 v4 v5 v6 v7 v8 p0))))
def f_X1_over_167 (a0 : Nat) (k116 : Int32 × Int32 × Int32 × Int32 × Int32 × Int32 × Option Nat × Int32 × PH → Option (xO × PH)) (v1 : Int32) (v2 : Int32) (v3 : Int32) (v4 : Int32) (v5 : Int32) (v6 : Int32) (v7 : Option Nat) (v8 : Int32) (p0 : PH) : Option (xO × PH) :=
  (f_X1_over_169 a0 k116 v1 v2 v3 v4 v5 v6 v7 v8 (-2) p0)
def f_X1_over_116F (a0 : Nat) (k59 : Int32 × Int32 × Int32 × Int32 × Int32 × Int32 × PH → Option (xO × PH)) (k116 : Int32 × Int32 × Int32 × Int32 × Int32 × Int32 × Option Nat × Int32 × PH → Option (xO × PH)) (p : Int32 × Int32 × Int32 × Int32 × Int32 × Int32 × Option Nat × Int32 × PH) : Option (xO × PH) := match p with
  | (v1, v2, v3, v4, v5, v6, v7, v8, p0) => (xnul v7 none fun b35 =>
  (xcI (f_X6_size p0 b35 ) fun x37 p36 =>
  (if x37 ≤ v8 then
  (bnd (v6 + 1) fun x38 =>
  (k59 (v1, v2, v3, v4, v5, x38, p36))) else
  (xcI (f_X6_code p36 b35 (v8 - 1)) fun x40 p39 =>
  (if x40 = v1 then
  (xcI (f_X6_code p39 b35 v8) fun x43 p42 =>
  (if x43 = v2 then
  (xgR p42 a0 0 5 fun x44 =>
  (xnul x44 none fun b45 =>
  (xcR (f_X4_match p42 b45 v6) fun x47 p46 =>
  (xnul x47 none fun b48 =>
  (xcI (f_X9_leg p46 b48 v8) fun x50 p49 =>
  (f_X1_over_169 a0 k116 v1 v2 v3 v4 v5 v6 ((some b35)) v8 x50 p49)))))) else
  (f_X1_over_167 a0 k116 v1 v2 v3 v4 v5 v6 ((some b35)) v8 p42))) else
  (f_X1_over_167 a0 k116 v1 v2 v3 v4 v5 v6 ((some b35)) v8 p39))))))
def f_X1_over_59F (a0 : Nat)  (k59 : Int32 × Int32 × Int32 × Int32 × Int32 × Int32 × PH → Option (xO × PH)) (p : Int32 × Int32 × Int32 × Int32 × Int32 × Int32 × PH) : Option (xO × PH) := match p with
  | (v1, v2, v3, v4, v5, v6, p0) => (xgR p0 a0 0 5 fun x13 =>
  (xnul x13 none fun b14 =>
  (xgR p0 b14 3 1 fun x15 =>
  (xnul x15 none fun b16 =>
  (xcI (f_J3_size p0 b16 ) fun x18 p17 =>
  (if x18 ≤ v6 then
  (if v3 = 0 then
  (f_X1_over_227 a0 v4 p17) else
  (f_X1_over_227 a0 v5 p17)) else
  (xgR p17 a0 0 5 fun x21 =>
  (xnul x21 none fun b22 =>
  (xgR p17 b22 3 0 fun x23 =>
  (xgR p17 a0 0 5 fun x24 =>
  (xnul x24 none fun b25 =>
  (xgR p17 b25 3 1 fun x26 =>
  (xnul x26 none fun b27 =>
  (xcR (f_J3_get p17 b27 v6) fun x29 p28 =>
  (xcst p28 (x29) [6]
  (xnul x29 none fun b30 =>
  (xgI p28 b30 6 1 fun x31 =>
  (xnul x23 none fun b32 =>
  (xcR (f_J3_get p28 b32 x31) fun x34 p33 =>
  (xcst p33 (x34) [5]
  (lp (f_X1_over_116F a0 k59) FU (v1, v2, v3, v4, v5, v6, x34, 1, p33))))))))))))))))))))))
def f_X1_over (p0 : PH) (a0 : Nat) (a1 : Int32) (a2 : Int32) (a3 : Int32) : Option (xO × PH) :=
  (xcl1 p0 a0 0 (xgR p0 a0 0 5 fun x1 =>
  (xnul x1 (f_X1_over_16 a0  p0) fun b2 =>
  (xcI (f_X1_isIn p0 a3 0 1) fun x6 p5 =>
  (if x6 = 0 then
  (f_X1_over_16 a0  p5) else
  (xcI (f_X1_isIn p5 a1 1 99) fun x8 p7 =>
  (if x8 = 0 then
  (f_X1_over_42 a0  p7) else
  (xcI (f_X1_isIn p7 a2 1 99) fun x12 p11 =>
  (if x12 = 0 then
  (f_X1_over_42 a0  p11) else
  (lp (f_X1_over_59F a0) FU (a1, a2, a3, (-2), (-2), 0, p11)))))))))))
theorem rc_X1_over {p0 : PH} {a0 : Nat} {a1 : Int32} {a2 : Int32} {a3 : Int32} : ∀ z, f_X1_over p0 a0 a1 a2 a3 = some z → xco p0 a0 = some 0 := fun z h => xcl1_some h
theorem f_X1_over_16_ok {G : xG} (hO : xOK G) (a0 : Nat)   (p0 : PH) : X G "ForestLegs" "over" cX1_over 10 (Option.some Jvm.ClassFile.FieldType.int) 8 16 [(0, .ref a0)] [] p0 (f_X1_over_16 a0  p0) := by
  unfold f_X1_over_16
  refine x_aload_nr 0 dX1_over_16 rfl rfl (n := 17) rfl ?_
  refine x_iconst 1 dX1_over_17 rfl (n := 18) rfl ?_
  refine x_callV_I [.int 1] [] (f_X1_refused_ok hO p0 a0 1) rc_X1_refused md_X1_refused rfl q250 q252 qs0 dX1_over_18 rfl rfl (by decide) (Nat.le_of_ble_eq_true rfl) (n := 21) rfl (fun x4 p3 => ?_)
  exact x_ireturn dX1_over_21
theorem f_X1_over_42_ok {G : xG} (hO : xOK G) (a0 : Nat)   (p0 : PH) : X G "ForestLegs" "over" cX1_over 10 (Option.some Jvm.ClassFile.FieldType.int) 8 42 [(0, .ref a0)] [] p0 (f_X1_over_42 a0  p0) := by
  unfold f_X1_over_42
  refine x_aload_nr 0 dX1_over_42 rfl rfl (n := 43) rfl ?_
  refine x_iconst 2 dX1_over_43 rfl (n := 44) rfl ?_
  refine x_callV_I [.int 2] [] (f_X1_refused_ok hO p0 a0 2) rc_X1_refused md_X1_refused rfl q250 q252 qs0 dX1_over_44 rfl rfl (by decide) (Nat.le_of_ble_eq_true rfl) (n := 47) rfl (fun x10 p9 => ?_)
  exact x_ireturn dX1_over_47
theorem f_X1_over_227_ok {G : xG} (hO : xOK G) (a0 : Nat)  (w1 : Int32) (p0 : PH) : X G "ForestLegs" "over" cX1_over 10 (Option.some Jvm.ClassFile.FieldType.int) 8 227 [] [.int w1, .ref a0] p0 (f_X1_over_227 a0 w1 p0) := by
  unfold f_X1_over_227
  refine x_callV_I [.int w1] [] (f_X1_fine_ok hO p0 a0 w1) rc_X1_fine md_X1_fine rfl q1480 q1482 qs26 dX1_over_227 rfl rfl (by decide) (Nat.le_of_ble_eq_true rfl) (n := 230) rfl (fun x20 p19 => ?_)
  exact x_ireturn dX1_over_230
theorem f_X1_over_203_ok {G : xG} (hO : xOK G) (a0 : Nat) {k116 : Int32 × Int32 × Int32 × Int32 × Int32 × Int32 × Option Nat × Int32 × PH → Option (xO × PH)} (hk116 : ∀ (v1 : Int32) (v2 : Int32) (v3 : Int32) (v4 : Int32) (v5 : Int32) (v6 : Int32) (v7 : Option Nat) (v8 : Int32) (p0 : PH), X G "ForestLegs" "over" cX1_over 10 (Option.some Jvm.ClassFile.FieldType.int) 8 116 [(0, .ref a0), (1, .int v1), (2, .int v2), (3, .int v3), (4, .int v4), (5, .int v5), (6, .int v6), (7, va_rf v7), (8, .int v8)] [] p0 (k116 (v1, v2, v3, v4, v5, v6, v7, v8, p0))) (v1 : Int32) (v2 : Int32) (v3 : Int32) (v4 : Int32) (v5 : Int32) (v6 : Int32) (v7 : Option Nat) (v8 : Int32) (p0 : PH) : X G "ForestLegs" "over" cX1_over 10 (Option.some Jvm.ClassFile.FieldType.int) 8 203 [(0, .ref a0), (1, .int v1), (2, .int v2), (3, .int v3), (4, .int v4), (5, .int v5), (6, .int v6), (7, va_rf v7), (8, .int v8)] [] p0 (f_X1_over_203 a0 k116 v1 v2 v3 v4 v5 v6 v7 v8 p0) := by
  unfold f_X1_over_203
  refine x_iincB 8 (fun x41 => [(8, .int x41), (0, .ref a0), (1, .int v1), (2, .int v2), (3, .int v3), (4, .int v4), (5, .int v5), (6, .int v6), (7, va_rf v7)]) dX1_over_203 rfl rfl (by decide) (fun _ => (by simp only [xst, List.filter_cons, List.filter_nil, xcat] <;> rfl)) (n := 206) rfl (fun x41 => ?_)
  refine x_goto dX1_over_206 (n := 116) (by decide) ?_
  refine x_sub [1, 2, 3, 4, 5, 6, 7, 8, 0] [(0, .ref a0), (1, .int v1), (2, .int v2), (3, .int v3), (4, .int v4), (5, .int v5), (6, .int v6), (7, va_rf v7), (8, .int x41)] rfl ?_
  exact hk116 v1 v2 v3 v4 v5 v6 v7 x41 p0
theorem f_X1_over_195_ok {G : xG} (hO : xOK G) (a0 : Nat) {k116 : Int32 × Int32 × Int32 × Int32 × Int32 × Int32 × Option Nat × Int32 × PH → Option (xO × PH)} (hk116 : ∀ (v1 : Int32) (v2 : Int32) (v3 : Int32) (v4 : Int32) (v5 : Int32) (v6 : Int32) (v7 : Option Nat) (v8 : Int32) (p0 : PH), X G "ForestLegs" "over" cX1_over 10 (Option.some Jvm.ClassFile.FieldType.int) 8 116 [(0, .ref a0), (1, .int v1), (2, .int v2), (3, .int v3), (4, .int v4), (5, .int v5), (6, .int v6), (7, va_rf v7), (8, .int v8)] [] p0 (k116 (v1, v2, v3, v4, v5, v6, v7, v8, p0))) (v1 : Int32) (v2 : Int32) (v3 : Int32) (v6 : Int32) (v7 : Option Nat) (v8 : Int32) (v9 : Int32) (p0 : PH) : X G "ForestLegs" "over" cX1_over 10 (Option.some Jvm.ClassFile.FieldType.int) 8 195 [(0, .ref a0), (1, .int v1), (2, .int v2), (3, .int v3), (6, .int v6), (7, va_rf v7), (8, .int v8), (9, .int v9)] [] p0 (f_X1_over_195 a0 k116 v1 v2 v3 v6 v7 v8 v9 p0) := by
  unfold f_X1_over_195
  refine x_iload 7 dX1_over_195 rfl (n := 197) rfl ?_
  refine x_istore [(4, .int v9), (0, .ref a0), (1, .int v1), (2, .int v2), (3, .int v3), (6, .int v6), (7, va_rf v7), (8, .int v8), (9, .int v9)] dX1_over_197 (by decide) rfl (n := 199) rfl ?_
  refine x_iload 5 dX1_over_199 rfl (n := 201) rfl ?_
  refine x_istore [(5, .int v6), (4, .int v9), (0, .ref a0), (1, .int v1), (2, .int v2), (3, .int v3), (6, .int v6), (7, va_rf v7), (8, .int v8), (9, .int v9)] dX1_over_201 (by decide) rfl (n := 203) rfl ?_
  refine x_sub [2, 3, 4, 5, 1, 0, 6, 7, 8] [(0, .ref a0), (1, .int v1), (2, .int v2), (3, .int v3), (4, .int v9), (5, .int v6), (6, .int v6), (7, va_rf v7), (8, .int v8)] rfl ?_
  exact f_X1_over_203_ok hO a0 hk116 v1 v2 v3 v9 v6 v6 v7 v8 p0
theorem f_X1_over_169_ok {G : xG} (hO : xOK G) (a0 : Nat) {k116 : Int32 × Int32 × Int32 × Int32 × Int32 × Int32 × Option Nat × Int32 × PH → Option (xO × PH)} (hk116 : ∀ (v1 : Int32) (v2 : Int32) (v3 : Int32) (v4 : Int32) (v5 : Int32) (v6 : Int32) (v7 : Option Nat) (v8 : Int32) (p0 : PH), X G "ForestLegs" "over" cX1_over 10 (Option.some Jvm.ClassFile.FieldType.int) 8 116 [(0, .ref a0), (1, .int v1), (2, .int v2), (3, .int v3), (4, .int v4), (5, .int v5), (6, .int v6), (7, va_rf v7), (8, .int v8)] [] p0 (k116 (v1, v2, v3, v4, v5, v6, v7, v8, p0))) (v1 : Int32) (v2 : Int32) (v3 : Int32) (v4 : Int32) (v5 : Int32) (v6 : Int32) (v7 : Option Nat) (v8 : Int32) (w0 : Int32) (p0 : PH) : X G "ForestLegs" "over" cX1_over 10 (Option.some Jvm.ClassFile.FieldType.int) 8 169 [(0, .ref a0), (1, .int v1), (2, .int v2), (3, .int v3), (4, .int v4), (5, .int v5), (6, .int v6), (7, va_rf v7), (8, .int v8)] [.int w0] p0 (f_X1_over_169 a0 k116 v1 v2 v3 v4 v5 v6 v7 v8 w0 p0) := by
  unfold f_X1_over_169
  refine x_istore [(9, .int w0), (0, .ref a0), (1, .int v1), (2, .int v2), (3, .int v3), (4, .int v4), (5, .int v5), (6, .int v6), (7, va_rf v7), (8, .int v8)] dX1_over_169 (by decide) rfl (n := 171) rfl ?_
  refine x_iload 0 dX1_over_171 rfl (n := 173) rfl ?_
  refine x_bipush (-2) dX1_over_173 rfl (n := 175) rfl ?_
  refine x_icmp_eq dX1_over_175 (t := 203) (by decide) (n := 178) rfl (fun _ => ?_) (fun _ => ?_)
  · refine x_sub [1, 2, 3, 4, 5, 6, 7, 8, 9] [(0, .ref a0), (1, .int v1), (2, .int v2), (3, .int v3), (4, .int v4), (5, .int v5), (6, .int v6), (7, va_rf v7), (8, .int v8)] rfl ?_
    exact f_X1_over_203_ok hO a0 hk116 v1 v2 v3 v4 v5 v6 v7 v8 p0
  · refine x_iload 5 dX1_over_178 rfl (n := 180) rfl ?_
    refine x_bipush (-2) dX1_over_180 rfl (n := 182) rfl ?_
    refine x_icmp_eq dX1_over_182 (t := 195) (by decide) (n := 185) rfl (fun _ => ?_) (fun _ => ?_)
    · refine x_sub [1, 2, 3, 4, 7, 8, 9, 0] [(0, .ref a0), (1, .int v1), (2, .int v2), (3, .int v3), (6, .int v6), (7, va_rf v7), (8, .int v8), (9, .int w0)] rfl ?_
      exact f_X1_over_195_ok hO a0 hk116 v1 v2 v3 v6 v7 v8 w0 p0
    · refine x_iload 0 dX1_over_185 rfl (n := 187) rfl ?_
      refine x_iload 5 dX1_over_187 rfl (n := 189) rfl ?_
      refine x_icmp_lt dX1_over_189 (t := 195) (by decide) (n := 192) rfl (fun _ => ?_) (fun _ => ?_)
      · refine x_sub [1, 2, 3, 4, 7, 8, 9, 0] [(0, .ref a0), (1, .int v1), (2, .int v2), (3, .int v3), (6, .int v6), (7, va_rf v7), (8, .int v8), (9, .int w0)] rfl ?_
        exact f_X1_over_195_ok hO a0 hk116 v1 v2 v3 v6 v7 v8 w0 p0
      · refine x_goto dX1_over_192 (n := 203) (by decide) ?_
        refine x_sub [1, 2, 3, 4, 5, 6, 7, 8, 9] [(0, .ref a0), (1, .int v1), (2, .int v2), (3, .int v3), (4, .int v4), (5, .int v5), (6, .int v6), (7, va_rf v7), (8, .int v8)] rfl ?_
        exact f_X1_over_203_ok hO a0 hk116 v1 v2 v3 v4 v5 v6 v7 v8 p0
theorem f_X1_over_167_ok {G : xG} (hO : xOK G) (a0 : Nat) {k116 : Int32 × Int32 × Int32 × Int32 × Int32 × Int32 × Option Nat × Int32 × PH → Option (xO × PH)} (hk116 : ∀ (v1 : Int32) (v2 : Int32) (v3 : Int32) (v4 : Int32) (v5 : Int32) (v6 : Int32) (v7 : Option Nat) (v8 : Int32) (p0 : PH), X G "ForestLegs" "over" cX1_over 10 (Option.some Jvm.ClassFile.FieldType.int) 8 116 [(0, .ref a0), (1, .int v1), (2, .int v2), (3, .int v3), (4, .int v4), (5, .int v5), (6, .int v6), (7, va_rf v7), (8, .int v8)] [] p0 (k116 (v1, v2, v3, v4, v5, v6, v7, v8, p0))) (v1 : Int32) (v2 : Int32) (v3 : Int32) (v4 : Int32) (v5 : Int32) (v6 : Int32) (v7 : Option Nat) (v8 : Int32) (p0 : PH) : X G "ForestLegs" "over" cX1_over 10 (Option.some Jvm.ClassFile.FieldType.int) 8 167 [(0, .ref a0), (1, .int v1), (2, .int v2), (3, .int v3), (4, .int v4), (5, .int v5), (6, .int v6), (7, va_rf v7), (8, .int v8)] [] p0 (f_X1_over_167 a0 k116 v1 v2 v3 v4 v5 v6 v7 v8 p0) := by
  unfold f_X1_over_167
  refine x_bipush (-2) dX1_over_167 rfl (n := 169) rfl ?_
  exact f_X1_over_169_ok hO a0 hk116 v1 v2 v3 v4 v5 v6 v7 v8 (-2) p0
theorem f_X1_over_116F_ok {G : xG} (hO : xOK G) (a0 : Nat) {k59 : Int32 × Int32 × Int32 × Int32 × Int32 × Int32 × PH → Option (xO × PH)} (hk59 : ∀ (v1 : Int32) (v2 : Int32) (v3 : Int32) (v4 : Int32) (v5 : Int32) (v6 : Int32) (p0 : PH), X G "ForestLegs" "over" cX1_over 10 (Option.some Jvm.ClassFile.FieldType.int) 8 59 [(0, .ref a0), (1, .int v1), (2, .int v2), (3, .int v3), (4, .int v4), (5, .int v5), (6, .int v6)] [] p0 (k59 (v1, v2, v3, v4, v5, v6, p0))) {k116 : Int32 × Int32 × Int32 × Int32 × Int32 × Int32 × Option Nat × Int32 × PH → Option (xO × PH)} (hk116 : ∀ (v1 : Int32) (v2 : Int32) (v3 : Int32) (v4 : Int32) (v5 : Int32) (v6 : Int32) (v7 : Option Nat) (v8 : Int32) (p0 : PH), X G "ForestLegs" "over" cX1_over 10 (Option.some Jvm.ClassFile.FieldType.int) 8 116 [(0, .ref a0), (1, .int v1), (2, .int v2), (3, .int v3), (4, .int v4), (5, .int v5), (6, .int v6), (7, va_rf v7), (8, .int v8)] [] p0 (k116 (v1, v2, v3, v4, v5, v6, v7, v8, p0))) (v1 : Int32) (v2 : Int32) (v3 : Int32) (v4 : Int32) (v5 : Int32) (v6 : Int32) (v7 : Option Nat) (v8 : Int32) (p0 : PH) : X G "ForestLegs" "over" cX1_over 10 (Option.some Jvm.ClassFile.FieldType.int) 8 116 [(0, .ref a0), (1, .int v1), (2, .int v2), (3, .int v3), (4, .int v4), (5, .int v5), (6, .int v6), (7, va_rf v7), (8, .int v8)] [] p0 (f_X1_over_116F a0 k59 k116 (v1, v2, v3, v4, v5, v6, v7, v8, p0)) := by
  unfold f_X1_over_116F
  refine x_iload 8 dX1_over_116 rfl (n := 118) rfl ?_
  refine x_aload 7 dX1_over_118 rfl (n := 120) rfl ?_
  refine x_sm (fun b35 e => ?_)
  subst e
  refine x_callV_I [] [.int v8] (f_X6_size_ok hO p0 b35 ) rc_X6_size md_X6_size rfl q1575 q1199 q1200 dX1_over_120 rfl rfl (by decide) (Nat.le_of_ble_eq_true rfl) (n := 123) rfl (fun x37 p36 => ?_)
  refine x_icmp_ge dX1_over_123 (t := 209) (by decide) (n := 126) rfl (fun _ => ?_) (fun _ => ?_)
  · refine x_iincB 6 (fun x38 => [(6, .int x38), (0, .ref a0), (1, .int v1), (2, .int v2), (3, .int v3), (4, .int v4), (5, .int v5), (7, .ref b35), (8, .int v8)]) dX1_over_209 rfl rfl (by decide) (fun _ => rfl) (n := 212) rfl (fun x38 => ?_)
    refine x_goto dX1_over_212 (n := 59) (by decide) ?_
    refine x_sub [1, 2, 3, 4, 5, 6, 0] [(0, .ref a0), (1, .int v1), (2, .int v2), (3, .int v3), (4, .int v4), (5, .int v5), (6, .int x38)] rfl ?_
    exact hk59 v1 v2 v3 v4 v5 x38 p36
  · refine x_aloadr 7 dX1_over_126 rfl (n := 128) rfl ?_
    refine x_iload 8 dX1_over_128 rfl (n := 130) rfl ?_
    refine x_iconst 1 dX1_over_130 rfl (n := 131) rfl ?_
    refine x_isub dX1_over_131 (n := 132) rfl ?_
    refine x_callV_I [.int (v8 - 1)] [] (f_X6_code_ok hO p36 b35 (v8 - 1)) rc_X6_code md_X6_code rfl q1775 q1205 q1206 dX1_over_132 rfl rfl (by decide) (Nat.le_of_ble_eq_true rfl) (n := 135) rfl (fun x40 p39 => ?_)
    refine x_iload_n 1 dX1_over_135 rfl rfl (n := 136) rfl ?_
    refine x_icmp_ne dX1_over_136 (t := 167) (by decide) (n := 139) rfl (fun _ => ?_) (fun _ => ?_)
    · exact f_X1_over_167_ok hO a0 hk116 v1 v2 v3 v4 v5 v6 ((some b35)) v8 p39
    · refine x_aloadr 7 dX1_over_139 rfl (n := 141) rfl ?_
      refine x_iload 8 dX1_over_141 rfl (n := 143) rfl ?_
      refine x_callV_I [.int v8] [] (f_X6_code_ok hO p39 b35 v8) rc_X6_code md_X6_code rfl q1775 q1205 q1206 dX1_over_143 rfl rfl (by decide) (Nat.le_of_ble_eq_true rfl) (n := 146) rfl (fun x43 p42 => ?_)
      refine x_iload_n 2 dX1_over_146 rfl rfl (n := 147) rfl ?_
      refine x_icmp_ne dX1_over_147 (t := 167) (by decide) (n := 150) rfl (fun _ => ?_) (fun _ => ?_)
      · exact f_X1_over_167_ok hO a0 hk116 v1 v2 v3 v4 v5 v6 ((some b35)) v8 p42
      · refine x_aload_nr 0 dX1_over_150 rfl rfl (n := 151) rfl ?_
        refine x_getR fl_X1_56 dX1_over_151 (n := 154) rfl (fun x44 => ?_)
        refine x_iload 6 dX1_over_154 rfl (n := 156) rfl ?_
        refine x_sm (fun b45 e => ?_)
        subst e
        refine x_callV_R [.int v6] [] (f_X4_match_ok hO p42 b45 v6) rc_X4_match md_X4_match rfl q1784 q1504 q1505 dX1_over_156 rfl rfl (by decide) (Nat.le_of_ble_eq_true rfl) (n := 159) rfl (fun x47 p46 => ?_)
        refine x_iload 8 dX1_over_159 rfl (n := 161) rfl ?_
        refine x_sm (fun b48 e => ?_)
        subst e
        refine x_callV_I [.int v8] [] (f_X9_leg_ok hO p46 b48 v8) rc_X9_leg md_X9_leg rfl q2001 q1747 q1748 dX1_over_161 rfl rfl (by decide) (Nat.le_of_ble_eq_true rfl) (n := 164) rfl (fun x50 p49 => ?_)
        refine x_goto dX1_over_164 (n := 169) (by decide) ?_
        exact f_X1_over_169_ok hO a0 hk116 v1 v2 v3 v4 v5 v6 ((some b35)) v8 x50 p49
theorem f_X1_over_116_lp {G : xG} (hO : xOK G) (a0 : Nat) {k59 : Int32 × Int32 × Int32 × Int32 × Int32 × Int32 × PH → Option (xO × PH)} (hk59 : ∀ (v1 : Int32) (v2 : Int32) (v3 : Int32) (v4 : Int32) (v5 : Int32) (v6 : Int32) (p0 : PH), X G "ForestLegs" "over" cX1_over 10 (Option.some Jvm.ClassFile.FieldType.int) 8 59 [(0, .ref a0), (1, .int v1), (2, .int v2), (3, .int v3), (4, .int v4), (5, .int v5), (6, .int v6)] [] p0 (k59 (v1, v2, v3, v4, v5, v6, p0))) (n : Nat) (v1 : Int32) (v2 : Int32) (v3 : Int32) (v4 : Int32) (v5 : Int32) (v6 : Int32) (v7 : Option Nat) (v8 : Int32) (p0 : PH) : X G "ForestLegs" "over" cX1_over 10 (Option.some Jvm.ClassFile.FieldType.int) 8 116 [(0, .ref a0), (1, .int v1), (2, .int v2), (3, .int v3), (4, .int v4), (5, .int v5), (6, .int v6), (7, va_rf v7), (8, .int v8)] [] p0 (lp (f_X1_over_116F a0 k59) n (v1, v2, v3, v4, v5, v6, v7, v8, p0)) :=
  lp_ok (W := fun p K => X G "ForestLegs" "over" cX1_over 10 (Option.some Jvm.ClassFile.FieldType.int) 8 116 [(0, .ref a0), (1, .int p.1), (2, .int p.2.1), (3, .int p.2.2.1), (4, .int p.2.2.2.1), (5, .int p.2.2.2.2.1), (6, .int p.2.2.2.2.2.1), (7, va_rf p.2.2.2.2.2.2.1), (8, .int p.2.2.2.2.2.2.2.1)] [] p.2.2.2.2.2.2.2.2 K) (fun _ => x_no) (fun k hk => fun (v1, v2, v3, v4, v5, v6, v7, v8, p0) => f_X1_over_116F_ok hO a0 hk59 (fun v1 v2 v3 v4 v5 v6 v7 v8 p0 => hk (v1, v2, v3, v4, v5, v6, v7, v8, p0)) v1 v2 v3 v4 v5 v6 v7 v8 p0) n (v1, v2, v3, v4, v5, v6, v7, v8, p0)
theorem f_X1_over_59F_ok {G : xG} (hO : xOK G) (a0 : Nat)  {k59 : Int32 × Int32 × Int32 × Int32 × Int32 × Int32 × PH → Option (xO × PH)} (hk59 : ∀ (v1 : Int32) (v2 : Int32) (v3 : Int32) (v4 : Int32) (v5 : Int32) (v6 : Int32) (p0 : PH), X G "ForestLegs" "over" cX1_over 10 (Option.some Jvm.ClassFile.FieldType.int) 8 59 [(0, .ref a0), (1, .int v1), (2, .int v2), (3, .int v3), (4, .int v4), (5, .int v5), (6, .int v6)] [] p0 (k59 (v1, v2, v3, v4, v5, v6, p0))) (v1 : Int32) (v2 : Int32) (v3 : Int32) (v4 : Int32) (v5 : Int32) (v6 : Int32) (p0 : PH) : X G "ForestLegs" "over" cX1_over 10 (Option.some Jvm.ClassFile.FieldType.int) 8 59 [(0, .ref a0), (1, .int v1), (2, .int v2), (3, .int v3), (4, .int v4), (5, .int v5), (6, .int v6)] [] p0 (f_X1_over_59F a0 k59 (v1, v2, v3, v4, v5, v6, p0)) := by
  unfold f_X1_over_59F
  refine x_iload 6 dX1_over_59 rfl (n := 61) rfl ?_
  refine x_aload_nr 0 dX1_over_61 rfl rfl (n := 62) rfl ?_
  refine x_getR fl_X1_56 dX1_over_62 (n := 65) rfl (fun x13 => ?_)
  refine x_sm (fun b14 e => ?_)
  subst e
  refine x_getR fl_X1_71 dX1_over_65 (n := 68) rfl (fun x15 => ?_)
  refine x_sm (fun b16 e => ?_)
  subst e
  refine x_callF_I [] [.int v6] (f_J3_size_ok hO p0 b16 ) rc_J3_size md_J3_size rfl q1479 fc_java_util_ArrayList_java_util_List_size_0_I dX1_over_68 rfl rfl (by decide) (Nat.le_of_ble_eq_true rfl) (n := 73) rfl (fun x18 p17 => ?_)
  refine x_icmp_ge dX1_over_73 (t := 215) (by decide) (n := 76) rfl (fun _ => ?_) (fun _ => ?_)
  · refine x_aload_nr 0 dX1_over_215 rfl rfl (n := 216) rfl ?_
    refine x_iload_n 3 dX1_over_216 rfl rfl (n := 217) rfl ?_
    refine x_if_ne dX1_over_217 (t := 225) (by decide) (n := 220) rfl (fun _ => ?_) (fun _ => ?_)
    · refine x_iload 5 dX1_over_225 rfl (n := 227) rfl ?_
      refine x_sub [] [] rfl ?_
      exact f_X1_over_227_ok hO a0 v5 p17
    · refine x_iload 4 dX1_over_220 rfl (n := 222) rfl ?_
      refine x_goto dX1_over_222 (n := 227) (by decide) ?_
      refine x_sub [] [] rfl ?_
      exact f_X1_over_227_ok hO a0 v4 p17
  · refine x_aload_nr 0 dX1_over_76 rfl rfl (n := 77) rfl ?_
    refine x_getR fl_X1_56 dX1_over_77 (n := 80) rfl (fun x21 => ?_)
    refine x_sm (fun b22 e => ?_)
    subst e
    refine x_getR fl_X1_86 dX1_over_80 (n := 83) rfl (fun x23 => ?_)
    refine x_aload_nr 0 dX1_over_83 rfl rfl (n := 84) rfl ?_
    refine x_getR fl_X1_56 dX1_over_84 (n := 87) rfl (fun x24 => ?_)
    refine x_sm (fun b25 e => ?_)
    subst e
    refine x_getR fl_X1_71 dX1_over_87 (n := 90) rfl (fun x26 => ?_)
    refine x_iload 6 dX1_over_90 rfl (n := 92) rfl ?_
    refine x_sm (fun b27 e => ?_)
    subst e
    refine x_callF_R [.int v6] [va_rf x23] (f_J3_get_ok hO p17 b27 v6) rc_J3_get md_J3_get rfl q1497 fc_java_util_ArrayList_java_util_List_get_1_ILjava dX1_over_92 rfl rfl (by decide) (by simp only [List.map, xcat]; exact Nat.le_of_ble_eq_true rfl) (n := 97) rfl (fun x29 p28 => ?_)
    refine x_cast (x := x29) (cs := [6]) q1498 cst_ForestLegs_Runner dX1_over_97 (n := 100) rfl ?_
    refine x_sm (fun b30 e => ?_)
    subst e
    refine x_getI fl_X1_105 dX1_over_100 (n := 103) rfl (fun x31 => ?_)
    refine x_sm (fun b32 e => ?_)
    subst e
    refine x_callF_R [.int x31] [] (f_J3_get_ok hO p28 b32 x31) rc_J3_get md_J3_get rfl q1497 fc_java_util_ArrayList_java_util_List_get_1_ILjava dX1_over_103 rfl rfl (by decide) (Nat.le_of_ble_eq_true rfl) (n := 108) rfl (fun x34 p33 => ?_)
    refine x_cast (x := x34) (cs := [5]) q1574 cst_ForestLegs_Course dX1_over_108 (n := 111) rfl ?_
    refine x_astore [(7, va_rf x34), (0, .ref a0), (1, .int v1), (2, .int v2), (3, .int v3), (4, .int v4), (5, .int v5), (6, .int v6)] dX1_over_111 (by decide) rfl (n := 113) rfl ?_
    refine x_iconst 1 dX1_over_113 rfl (n := 114) rfl ?_
    refine x_istore [(8, .int 1), (7, va_rf x34), (0, .ref a0), (1, .int v1), (2, .int v2), (3, .int v3), (4, .int v4), (5, .int v5), (6, .int v6)] dX1_over_114 (by decide) (by simp only [xst, List.filter_cons, List.filter_nil, xcat] <;> rfl) (n := 116) rfl ?_
    refine x_sub [2, 3, 4, 5, 6, 7, 8, 1, 0] [(0, .ref a0), (1, .int v1), (2, .int v2), (3, .int v3), (4, .int v4), (5, .int v5), (6, .int v6), (7, va_rf x34), (8, .int 1)] rfl ?_
    exact f_X1_over_116_lp hO a0 hk59 FU v1 v2 v3 v4 v5 v6 x34 1 p33
theorem f_X1_over_59_lp {G : xG} (hO : xOK G) (a0 : Nat)  (n : Nat) (v1 : Int32) (v2 : Int32) (v3 : Int32) (v4 : Int32) (v5 : Int32) (v6 : Int32) (p0 : PH) : X G "ForestLegs" "over" cX1_over 10 (Option.some Jvm.ClassFile.FieldType.int) 8 59 [(0, .ref a0), (1, .int v1), (2, .int v2), (3, .int v3), (4, .int v4), (5, .int v5), (6, .int v6)] [] p0 (lp (f_X1_over_59F a0) n (v1, v2, v3, v4, v5, v6, p0)) :=
  lp_ok (W := fun p K => X G "ForestLegs" "over" cX1_over 10 (Option.some Jvm.ClassFile.FieldType.int) 8 59 [(0, .ref a0), (1, .int p.1), (2, .int p.2.1), (3, .int p.2.2.1), (4, .int p.2.2.2.1), (5, .int p.2.2.2.2.1), (6, .int p.2.2.2.2.2.1)] [] p.2.2.2.2.2.2 K) (fun _ => x_no) (fun k hk => fun (v1, v2, v3, v4, v5, v6, p0) => f_X1_over_59F_ok hO a0 (fun v1 v2 v3 v4 v5 v6 p0 => hk (v1, v2, v3, v4, v5, v6, p0)) v1 v2 v3 v4 v5 v6 p0) n (v1, v2, v3, v4, v5, v6, p0)
theorem f_X1_over_ok {G : xG} (hO : xOK G) (p0 : PH) (a0 : Nat) (a1 : Int32) (a2 : Int32) (a3 : Int32) : CT G 8 yX1_over cX1_over 10 (Option.some Jvm.ClassFile.FieldType.int) [.ref a0, .int a1, .int a2, .int a3] p0 (f_X1_over p0 a0 a1 a2 a3) := by
  refine CT_of hO (by decide +kernel) (by decide +kernel) (Nat.le_of_ble_eq_true rfl) ?_
  show X G "ForestLegs" "over" cX1_over 10 (Option.some Jvm.ClassFile.FieldType.int) 8 0 [(0, .ref a0), (1, .int a1), (2, .int a2), (3, .int a3)] [] p0 (f_X1_over p0 a0 a1 a2 a3)
  refine x_cl1 (fun e0 => ?_)
  refine x_aload_nr 0 dX1_over_0 rfl rfl (n := 1) rfl ?_
  refine x_getR fl_X1_56 dX1_over_1 (n := 4) rfl (fun x1 => ?_)
  refine x_ifnull dX1_over_4 (t := 16) (by decide) (n := 7) rfl (fun e => ?_) (fun b2 e => ?_)
  · subst e
    refine x_sub [0] [(0, .ref a0)] rfl ?_
    exact f_X1_over_16_ok hO a0  p0
  · subst e
    refine x_iload_n 3 dX1_over_7 rfl rfl (n := 8) rfl ?_
    refine x_iconst 0 dX1_over_8 rfl (n := 9) rfl ?_
    refine x_iconst 1 dX1_over_9 rfl (n := 10) rfl ?_
    refine x_callS_I [.int a3, .int 0, .int 1] [] (f_X1_isIn_ok hO p0 a3 0 1) md_X1_isIn q247 q248 dX1_over_10 rfl rfl (by decide) (Nat.le_of_ble_eq_true rfl) (n := 13) rfl (fun x6 p5 => ?_)
    refine x_if_ne dX1_over_13 (t := 22) (by decide) (n := 16) rfl (fun _ => ?_) (fun _ => ?_)
    · refine x_iload_n 1 dX1_over_22 rfl rfl (n := 23) rfl ?_
      refine x_iconst 1 dX1_over_23 rfl (n := 24) rfl ?_
      refine x_bipush 99 dX1_over_24 rfl (n := 26) rfl ?_
      refine x_callS_I [.int a1, .int 1, .int 99] [] (f_X1_isIn_ok hO p5 a1 1 99) md_X1_isIn q247 q248 dX1_over_26 rfl rfl (by decide) (Nat.le_of_ble_eq_true rfl) (n := 29) rfl (fun x8 p7 => ?_)
      refine x_if_eq dX1_over_29 (t := 42) (by decide) (n := 32) rfl (fun _ => ?_) (fun _ => ?_)
      · refine x_sub [0] [(0, .ref a0)] rfl ?_
        exact f_X1_over_42_ok hO a0  p7
      · refine x_iload_n 2 dX1_over_32 rfl rfl (n := 33) rfl ?_
        refine x_iconst 1 dX1_over_33 rfl (n := 34) rfl ?_
        refine x_bipush 99 dX1_over_34 rfl (n := 36) rfl ?_
        refine x_callS_I [.int a2, .int 1, .int 99] [] (f_X1_isIn_ok hO p7 a2 1 99) md_X1_isIn q247 q248 dX1_over_36 rfl rfl (by decide) (Nat.le_of_ble_eq_true rfl) (n := 39) rfl (fun x12 p11 => ?_)
        refine x_if_ne dX1_over_39 (t := 48) (by decide) (n := 42) rfl (fun _ => ?_) (fun _ => ?_)
        · refine x_bipush (-2) dX1_over_48 rfl (n := 50) rfl ?_
          refine x_istore [(4, .int (-2)), (0, .ref a0), (1, .int a1), (2, .int a2), (3, .int a3)] dX1_over_50 (by decide) rfl (n := 52) rfl ?_
          refine x_bipush (-2) dX1_over_52 rfl (n := 54) rfl ?_
          refine x_istore [(5, .int (-2)), (4, .int (-2)), (0, .ref a0), (1, .int a1), (2, .int a2), (3, .int a3)] dX1_over_54 (by decide) rfl (n := 56) rfl ?_
          refine x_iconst 0 dX1_over_56 rfl (n := 57) rfl ?_
          refine x_istore [(6, .int 0), (5, .int (-2)), (4, .int (-2)), (0, .ref a0), (1, .int a1), (2, .int a2), (3, .int a3)] dX1_over_57 (by decide) rfl (n := 59) rfl ?_
          refine x_sub [3, 4, 5, 6, 2, 1, 0] [(0, .ref a0), (1, .int a1), (2, .int a2), (3, .int a3), (4, .int (-2)), (5, .int (-2)), (6, .int 0)] rfl ?_
          exact f_X1_over_59_lp hO a0 FU a1 a2 a3 (-2) (-2) 0 p11
        · refine x_sub [0] [(0, .ref a0)] rfl ?_
          exact f_X1_over_42_ok hO a0  p11
    · refine x_sub [0] [(0, .ref a0)] rfl ?_
      exact f_X1_over_16_ok hO a0  p5
abbrev cJ34_init_3 : ByteArray := prog_83_method_2_code
def yJ34_init_3 : MethodName := ⟨RJ34, "<init>", "()V"⟩
def dkwJ34_init_3_0 : List UInt8 := [42, 187, 0, 13, 89, 183, 0, 15, 183, 0, 16, 177]
abbrev dktJ34_init_3_0 : List UInt8 := dkwJ34_init_3_0 ++ []
theorem dksJ34_init_3_0 : cJ34_init_3.data.toList.drop 0 = dktJ34_init_3_0 := by decide +kernel
theorem dJ34_init_3_0 : decode cJ34_init_3 0 = .ok (.aload_n 0, 1) := dk_42 (dk_at dksJ34_init_3_0 0 rfl rfl)
theorem dJ34_init_3_1 : decode cJ34_init_3 1 = .ok (.new 13, 3) := dk_187 0 13 (dk_at dksJ34_init_3_0 1 rfl rfl)
theorem dJ34_init_3_4 : decode cJ34_init_3 4 = .ok (.dup, 1) := dk_89 (dk_at dksJ34_init_3_0 4 rfl rfl)
theorem dJ34_init_3_5 : decode cJ34_init_3 5 = .ok (.invokespecial 15, 3) := dk_183 0 15 (dk_at dksJ34_init_3_0 5 rfl rfl)
theorem dJ34_init_3_8 : decode cJ34_init_3 8 = .ok (.invokespecial 16, 3) := dk_183 0 16 (dk_at dksJ34_init_3_0 8 rfl rfl)
theorem dJ34_init_3_11 : decode cJ34_init_3 11 = .ok (.return_, 1) := dk_177 (dk_at dksJ34_init_3_0 11 rfl rfl)
theorem md_J34_init_3 : xMd yJ34_init_3 cJ34_init_3 1 (Option.none : Option Jvm.ClassFile.FieldType) 0 := ⟨q2412, q173, by decide, by decide +kernel, by decide +kernel, by decide +kernel⟩
def f_J34_init_3 (p0 : PH) (a0 : Nat) : Option (xO × PH) :=
  (xnew p0 15 [.null, .null, .null, .null, .int 0, .int 0, .null, .null, .null] fun b1 p2 =>
  (xcV (f_J5_init p2 b1 ) fun p3 =>
  (xcV (f_J34_init_2 p3 a0 (some b1)) fun p4 =>
  (rV p4))))
theorem f_J34_init_3_ok {G : xG} (hO : xOK G) (p0 : PH) (a0 : Nat) : CT G 4 yJ34_init_3 cJ34_init_3 1 (Option.none : Option Jvm.ClassFile.FieldType) [.ref a0] p0 (f_J34_init_3 p0 a0) := by
  refine CT_of hO (by decide +kernel) (by decide +kernel) (Nat.le_of_ble_eq_true rfl) ?_
  show X G "java/util/TreeSet" "<init>" cJ34_init_3 1 (Option.none : Option Jvm.ClassFile.FieldType) 4 0 [(0, .ref a0)] [] p0 (f_J34_init_3 p0 a0)
  refine x_aload_nr 0 dJ34_init_3_0 rfl rfl (n := 1) rfl ?_
  refine x_new cl_15 (by decide) q2193 q319 q132 rfl dJ34_init_3_1 (n := 4) rfl (fun b1 p2 => ?_)
  refine x_dup dJ34_init_3_4 rfl (n := 5) rfl ?_
  refine x_callI_V [] [.ref b1, .ref a0] (f_J5_init_ok hO p2 b1 ) md_J5_init rfl q2413 q321 dJ34_init_3_5 rfl rfl (by decide) (Nat.le_of_ble_eq_true rfl) (n := 8) rfl (fun p3 => ?_)
  refine x_callI_V [.ref b1] [] (f_J34_init_2_ok hO p3 a0 (some b1)) md_J34_init_2 rfl q2197 q2198 dJ34_init_3_8 rfl rfl (by decide) (Nat.le_of_ble_eq_true rfl) (n := 11) rfl (fun p4 => ?_)
  exact x_return dJ34_init_3_11
abbrev cX1_pairs : ByteArray := prog_1_method_55_code
def yX1_pairs : MethodName := ⟨RX1, "pairs", "(LForestLegs$Course;)Ljava/util/TreeSet;"⟩
def dkwX1_pairs_2 : List UInt8 := [43, 176]
abbrev dktX1_pairs_2 : List UInt8 := dkwX1_pairs_2 ++ []
def dkwX1_pairs_1 : List UInt8 := [100, 182, 0, 173, 104, 42, 28, 182, 0, 173, 96, 184, 0, 131, 182, 1, 68, 87, 132, 2, 1, 167, 255, 221]
abbrev dktX1_pairs_1 : List UInt8 := dkwX1_pairs_1 ++ dktX1_pairs_2
def dkwX1_pairs_0 : List UInt8 := [187, 1, 65, 89, 183, 1, 67, 76, 4, 61, 28, 42, 182, 0, 99, 162, 0, 33, 43, 16, 100, 42, 28, 4]
abbrev dktX1_pairs_0 : List UInt8 := dkwX1_pairs_0 ++ dktX1_pairs_1
theorem dksX1_pairs_0 : cX1_pairs.data.toList.drop 0 = dktX1_pairs_0 := by decide +kernel
theorem dksX1_pairs_1 : cX1_pairs.data.toList.drop 24 = dktX1_pairs_1 := dk_seg dksX1_pairs_0 24 rfl rfl
theorem dksX1_pairs_2 : cX1_pairs.data.toList.drop 48 = dktX1_pairs_2 := dk_seg dksX1_pairs_1 24 rfl rfl
theorem dX1_pairs_0 : decode cX1_pairs 0 = .ok (.new 321, 3) := dk_187 1 65 (dk_at dksX1_pairs_0 0 rfl rfl)
theorem dX1_pairs_3 : decode cX1_pairs 3 = .ok (.dup, 1) := dk_89 (dk_at dksX1_pairs_0 3 rfl rfl)
theorem dX1_pairs_4 : decode cX1_pairs 4 = .ok (.invokespecial 323, 3) := dk_183 1 67 (dk_at dksX1_pairs_0 4 rfl rfl)
theorem dX1_pairs_7 : decode cX1_pairs 7 = .ok (.astore_n 1, 1) := dk_76 (dk_at dksX1_pairs_0 7 rfl rfl)
theorem dX1_pairs_8 : decode cX1_pairs 8 = .ok (.iconst 1, 1) := dk_4 (dk_at dksX1_pairs_0 8 rfl rfl)
theorem dX1_pairs_9 : decode cX1_pairs 9 = .ok (.istore_n 2, 1) := dk_61 (dk_at dksX1_pairs_0 9 rfl rfl)
theorem dX1_pairs_10 : decode cX1_pairs 10 = .ok (.iload_n 2, 1) := dk_28 (dk_at dksX1_pairs_0 10 rfl rfl)
theorem dX1_pairs_11 : decode cX1_pairs 11 = .ok (.aload_n 0, 1) := dk_42 (dk_at dksX1_pairs_0 11 rfl rfl)
theorem dX1_pairs_12 : decode cX1_pairs 12 = .ok (.invokevirtual 99, 3) := dk_182 0 99 (dk_at dksX1_pairs_0 12 rfl rfl)
theorem dX1_pairs_15 : decode cX1_pairs 15 = .ok (.if_icmp .ge 33, 3) := dk_162 0 33 (dk_at dksX1_pairs_0 15 rfl rfl)
theorem dX1_pairs_18 : decode cX1_pairs 18 = .ok (.aload_n 1, 1) := dk_43 (dk_at dksX1_pairs_0 18 rfl rfl)
theorem dX1_pairs_19 : decode cX1_pairs 19 = .ok (.bipush 100, 2) := dk_16 100 (dk_at dksX1_pairs_0 19 rfl rfl)
theorem dX1_pairs_21 : decode cX1_pairs 21 = .ok (.aload_n 0, 1) := dk_42 (dk_at dksX1_pairs_0 21 rfl rfl)
theorem dX1_pairs_22 : decode cX1_pairs 22 = .ok (.iload_n 2, 1) := dk_28 (dk_at dksX1_pairs_0 22 rfl rfl)
theorem dX1_pairs_23 : decode cX1_pairs 23 = .ok (.iconst 1, 1) := dk_4 (dk_at dksX1_pairs_0 23 rfl rfl)
theorem dX1_pairs_24 : decode cX1_pairs 24 = .ok (.isub, 1) := dk_100 (dk_at dksX1_pairs_1 0 rfl rfl)
theorem dX1_pairs_25 : decode cX1_pairs 25 = .ok (.invokevirtual 173, 3) := dk_182 0 173 (dk_at dksX1_pairs_1 1 rfl rfl)
theorem dX1_pairs_28 : decode cX1_pairs 28 = .ok (.imul, 1) := dk_104 (dk_at dksX1_pairs_1 4 rfl rfl)
theorem dX1_pairs_29 : decode cX1_pairs 29 = .ok (.aload_n 0, 1) := dk_42 (dk_at dksX1_pairs_1 5 rfl rfl)
theorem dX1_pairs_30 : decode cX1_pairs 30 = .ok (.iload_n 2, 1) := dk_28 (dk_at dksX1_pairs_1 6 rfl rfl)
theorem dX1_pairs_31 : decode cX1_pairs 31 = .ok (.invokevirtual 173, 3) := dk_182 0 173 (dk_at dksX1_pairs_1 7 rfl rfl)
theorem dX1_pairs_34 : decode cX1_pairs 34 = .ok (.iadd, 1) := dk_96 (dk_at dksX1_pairs_1 10 rfl rfl)
theorem dX1_pairs_35 : decode cX1_pairs 35 = .ok (.invokestatic 131, 3) := dk_184 0 131 (dk_at dksX1_pairs_1 11 rfl rfl)
theorem dX1_pairs_38 : decode cX1_pairs 38 = .ok (.invokevirtual 324, 3) := dk_182 1 68 (dk_at dksX1_pairs_1 14 rfl rfl)
theorem dX1_pairs_41 : decode cX1_pairs 41 = .ok (.pop, 1) := dk_87 (dk_at dksX1_pairs_1 17 rfl rfl)
theorem dX1_pairs_42 : decode cX1_pairs 42 = .ok (.iinc 2 1, 3) := dk_132 2 1 (dk_at dksX1_pairs_1 18 rfl rfl)
theorem dX1_pairs_45 : decode cX1_pairs 45 = .ok (.goto (-35), 3) := dk_167 255 221 (dk_at dksX1_pairs_1 21 rfl rfl)
theorem dX1_pairs_48 : decode cX1_pairs 48 = .ok (.aload_n 1, 1) := dk_43 (dk_at dksX1_pairs_2 0 rfl rfl)
theorem dX1_pairs_49 : decode cX1_pairs 49 = .ok (.areturn, 1) := dk_176 (dk_at dksX1_pairs_2 1 rfl rfl)
theorem md_X1_pairs : xMd yX1_pairs cX1_pairs 3 (Option.some (Jvm.ClassFile.FieldType.object "java/util/TreeSet")) 1 := ⟨q2408, q123, by decide, by decide +kernel, by decide +kernel, by decide +kernel⟩
def f_X1_pairs_10F   (k10 : Option Nat × Nat × Int32 × PH → Option (xO × PH)) (p : Option Nat × Nat × Int32 × PH) : Option (xO × PH) := match p with
  | (v0, v1, v2, p0) => (xnul v0 none fun b4 =>
  (xcI (f_X6_size p0 b4 ) fun x6 p5 =>
  (if x6 ≤ v2 then
  (rR (some v1) p5) else
  (xcI (f_X6_code p5 b4 (v2 - 1)) fun x8 p7 =>
  (xcI (f_X6_code p7 b4 v2) fun x10 p9 =>
  (xcR (f_J19_valueOf p9 ((100 * x8) + x10)) fun x12 p11 =>
  (xcI (f_J34_add p11 v1 x12) fun x14 p13 =>
  (bnd (v2 + 1) fun x15 =>
  (k10 (((some b4)), v1, x15, p13))))))))))
def f_X1_pairs (p0 : PH) (a0 : Option Nat) : Option (xO × PH) :=
  (xnew p0 23 [.null] fun b1 p2 =>
  (xcV (f_J34_init_3 p2 b1 ) fun p3 =>
  (lp (f_X1_pairs_10F) FU (a0, b1, 1, p3))))
theorem f_X1_pairs_10F_ok {G : xG} (hO : xOK G)   {k10 : Option Nat × Nat × Int32 × PH → Option (xO × PH)} (hk10 : ∀ (v0 : Option Nat) (v1 : Nat) (v2 : Int32) (p0 : PH), X G "ForestLegs" "pairs" cX1_pairs 3 (Option.some (Jvm.ClassFile.FieldType.object "java/util/TreeSet")) 10 10 [(0, va_rf v0), (1, .ref v1), (2, .int v2)] [] p0 (k10 (v0, v1, v2, p0))) (v0 : Option Nat) (v1 : Nat) (v2 : Int32) (p0 : PH) : X G "ForestLegs" "pairs" cX1_pairs 3 (Option.some (Jvm.ClassFile.FieldType.object "java/util/TreeSet")) 10 10 [(0, va_rf v0), (1, .ref v1), (2, .int v2)] [] p0 (f_X1_pairs_10F k10 (v0, v1, v2, p0)) := by
  unfold f_X1_pairs_10F
  refine x_iload_n 2 dX1_pairs_10 rfl rfl (n := 11) rfl ?_
  refine x_aload_n 0 dX1_pairs_11 rfl rfl (n := 12) rfl ?_
  refine x_sm (fun b4 e => ?_)
  subst e
  refine x_callV_I [] [.int v2] (f_X6_size_ok hO p0 b4 ) rc_X6_size md_X6_size rfl q1575 q1199 q1200 dX1_pairs_12 rfl rfl (by decide) (Nat.le_of_ble_eq_true rfl) (n := 15) rfl (fun x6 p5 => ?_)
  refine x_icmp_ge dX1_pairs_15 (t := 48) (by decide) (n := 18) rfl (fun _ => ?_) (fun _ => ?_)
  · refine x_aload_nr 1 dX1_pairs_48 rfl rfl (n := 49) rfl ?_
    exact x_areturn (x := some v1) (Or.inl ⟨_, rfl⟩) dX1_pairs_49
  · refine x_aload_nr 1 dX1_pairs_18 rfl rfl (n := 19) rfl ?_
    refine x_bipush 100 dX1_pairs_19 rfl (n := 21) rfl ?_
    refine x_aload_nr 0 dX1_pairs_21 rfl rfl (n := 22) rfl ?_
    refine x_iload_n 2 dX1_pairs_22 rfl rfl (n := 23) rfl ?_
    refine x_iconst 1 dX1_pairs_23 rfl (n := 24) rfl ?_
    refine x_isub dX1_pairs_24 (n := 25) rfl ?_
    refine x_callV_I [.int (v2 - 1)] [.int 100, .ref v1] (f_X6_code_ok hO p5 b4 (v2 - 1)) rc_X6_code md_X6_code rfl q1775 q1205 q1206 dX1_pairs_25 rfl rfl (by decide) (Nat.le_of_ble_eq_true rfl) (n := 28) rfl (fun x8 p7 => ?_)
    refine x_imul dX1_pairs_28 (n := 29) rfl ?_
    refine x_aload_nr 0 dX1_pairs_29 rfl rfl (n := 30) rfl ?_
    refine x_iload_n 2 dX1_pairs_30 rfl rfl (n := 31) rfl ?_
    refine x_callV_I [.int v2] [.int (100 * x8), .ref v1] (f_X6_code_ok hO p7 b4 v2) rc_X6_code md_X6_code rfl q1775 q1205 q1206 dX1_pairs_31 rfl rfl (by decide) (Nat.le_of_ble_eq_true rfl) (n := 34) rfl (fun x10 p9 => ?_)
    refine x_iadd dX1_pairs_34 (n := 35) rfl ?_
    refine x_callS_R [.int ((100 * x8) + x10)] [.ref v1] (f_J19_valueOf_ok hO p9 ((100 * x8) + x10)) md_J19_valueOf q1582 q1213 dX1_pairs_35 rfl rfl (by decide) (Nat.le_of_ble_eq_true rfl) (n := 38) rfl (fun x12 p11 => ?_)
    refine x_callV_I [va_rf x12] [] (f_J34_add_ok hO p11 v1 x12) rc_J34_add md_J34_add rfl q2414 q2232 q2233 dX1_pairs_38 rfl rfl (by decide) (Nat.le_of_ble_eq_true rfl) (n := 41) rfl (fun x14 p13 => ?_)
    refine x_pop dX1_pairs_41 rfl (n := 42) rfl ?_
    refine x_iincB 2 (fun x15 => [(2, .int x15), (0, .ref b4), (1, .ref v1)]) dX1_pairs_42 rfl rfl (by decide) (fun _ => rfl) (n := 45) rfl (fun x15 => ?_)
    refine x_goto dX1_pairs_45 (n := 10) (by decide) ?_
    refine x_sub [1, 2, 0] [(0, .ref b4), (1, .ref v1), (2, .int x15)] rfl ?_
    exact hk10 ((some b4)) v1 x15 p13
theorem f_X1_pairs_10_lp {G : xG} (hO : xOK G)   (n : Nat) (v0 : Option Nat) (v1 : Nat) (v2 : Int32) (p0 : PH) : X G "ForestLegs" "pairs" cX1_pairs 3 (Option.some (Jvm.ClassFile.FieldType.object "java/util/TreeSet")) 10 10 [(0, va_rf v0), (1, .ref v1), (2, .int v2)] [] p0 (lp (f_X1_pairs_10F) n (v0, v1, v2, p0)) :=
  lp_ok (W := fun p K => X G "ForestLegs" "pairs" cX1_pairs 3 (Option.some (Jvm.ClassFile.FieldType.object "java/util/TreeSet")) 10 10 [(0, va_rf p.1), (1, .ref p.2.1), (2, .int p.2.2.1)] [] p.2.2.2 K) (fun _ => x_no) (fun k hk => fun (v0, v1, v2, p0) => f_X1_pairs_10F_ok hO (fun v0 v1 v2 p0 => hk (v0, v1, v2, p0)) v0 v1 v2 p0) n (v0, v1, v2, p0)
theorem f_X1_pairs_ok {G : xG} (hO : xOK G) (p0 : PH) (a0 : Option Nat) : CT G 10 yX1_pairs cX1_pairs 3 (Option.some (Jvm.ClassFile.FieldType.object "java/util/TreeSet")) [va_rf a0] p0 (f_X1_pairs p0 a0) := by
  refine CT_of hO (by decide +kernel) (by decide +kernel) (lg_slen _ (by simp only [List.map, xcat]; exact Nat.le_of_ble_eq_true rfl)) ?_
  rw [show lv_args 0 [va_rf a0] = [(0, va_rf a0)] from by simp only [lv_args, xcat] <;> rfl]
  show X G "ForestLegs" "pairs" cX1_pairs 3 (Option.some (Jvm.ClassFile.FieldType.object "java/util/TreeSet")) 10 0 [(0, va_rf a0)] [] p0 (f_X1_pairs p0 a0)
  refine x_new cl_23 (by decide) q2409 q2187 q173 rfl dX1_pairs_0 (n := 3) rfl (fun b1 p2 => ?_)
  refine x_dup dX1_pairs_3 rfl (n := 4) rfl ?_
  refine x_callI_V [] [.ref b1] (f_J34_init_3_ok hO p2 b1 ) md_J34_init_3 rfl q2410 q2411 dX1_pairs_4 rfl rfl (by decide) (Nat.le_of_ble_eq_true rfl) (n := 7) rfl (fun p3 => ?_)
  refine x_astore_nr [(1, .ref b1), (0, va_rf a0)] dX1_pairs_7 rfl (by decide) (by simp only [xst, List.filter_cons, List.filter_nil, xcat] <;> rfl) (n := 8) rfl ?_
  refine x_iconst 1 dX1_pairs_8 rfl (n := 9) rfl ?_
  refine x_istore_n [(2, .int 1), (1, .ref b1), (0, va_rf a0)] dX1_pairs_9 rfl (by decide) rfl (n := 10) rfl ?_
  refine x_sub [2, 1, 0] [(0, va_rf a0), (1, .ref b1), (2, .int 1)] rfl ?_
  exact f_X1_pairs_10_lp hO FU a0 b1 1 p3
abbrev cJ34_contains : ByteArray := prog_83_method_11_code
def yJ34_contains : MethodName := ⟨RJ34, "contains", "(Ljava/lang/Object;)Z"⟩
def dkwJ34_contains_0 : List UInt8 := [42, 180, 0, 7, 43, 185, 0, 61, 2, 0, 172]
abbrev dktJ34_contains_0 : List UInt8 := dkwJ34_contains_0 ++ []
theorem dksJ34_contains_0 : cJ34_contains.data.toList.drop 0 = dktJ34_contains_0 := by decide +kernel
theorem dJ34_contains_0 : decode cJ34_contains 0 = .ok (.aload_n 0, 1) := dk_42 (dk_at dksJ34_contains_0 0 rfl rfl)
theorem dJ34_contains_1 : decode cJ34_contains 1 = .ok (.getfield 7, 3) := dk_180 0 7 (dk_at dksJ34_contains_0 1 rfl rfl)
theorem dJ34_contains_4 : decode cJ34_contains 4 = .ok (.aload_n 1, 1) := dk_43 (dk_at dksJ34_contains_0 4 rfl rfl)
theorem dJ34_contains_5 : decode cJ34_contains 5 = .ok (.invokeinterface 61 2, 5) := by decide +kernel
theorem dJ34_contains_10 : decode cJ34_contains 10 = .ok (.ireturn, 1) := dk_172 (dk_at dksJ34_contains_0 10 rfl rfl)
theorem md_J34_contains : xMd yJ34_contains cJ34_contains 2 (Option.some Jvm.ClassFile.FieldType.boolean) 1 := ⟨q2563, q173, by decide, by decide +kernel, by decide +kernel, by decide +kernel⟩
def f_J34_contains (p0 : PH) (a0 : Nat) (a1 : Option Nat) : Option (xO × PH) :=
  (xcl1 p0 a0 23 (xgR p0 a0 23 0 fun x1 =>
  (xnul x1 none fun b2 =>
  (xcI (f_J5_containsKey p0 b2 a1) fun x4 p3 =>
  (if vp_nar .boolean x4 = x4 then rI x4 p3 else none)))))
theorem rc_J34_contains {p0 : PH} {a0 : Nat} {a1 : Option Nat} : ∀ z, f_J34_contains p0 a0 a1 = some z → xco p0 a0 = some 23 := fun z h => xcl1_some h
theorem f_J34_contains_ok {G : xG} (hO : xOK G) (p0 : PH) (a0 : Nat) (a1 : Option Nat) : CT G 7 yJ34_contains cJ34_contains 2 (Option.some Jvm.ClassFile.FieldType.boolean) [.ref a0, va_rf a1] p0 (f_J34_contains p0 a0 a1) := by
  refine CT_of hO (by decide +kernel) (by decide +kernel) (lg_slen _ (by simp only [List.map, xcat]; exact Nat.le_of_ble_eq_true rfl)) ?_
  rw [show lv_args 0 [.ref a0, va_rf a1] = [(0, .ref a0), (1, va_rf a1)] from by simp only [lv_args, xcat] <;> rfl]
  show X G "java/util/TreeSet" "contains" cJ34_contains 2 (Option.some Jvm.ClassFile.FieldType.boolean) 7 0 [(0, .ref a0), (1, va_rf a1)] [] p0 (f_J34_contains p0 a0 a1)
  refine x_cl1 (fun e0 => ?_)
  refine x_aload_nr 0 dJ34_contains_0 rfl rfl (n := 1) rfl ?_
  refine x_getR fl_J34_7 dJ34_contains_1 (n := 4) rfl (fun x1 => ?_)
  refine x_aload_n 1 dJ34_contains_4 rfl rfl (n := 5) rfl ?_
  refine x_sm (fun b2 e => ?_)
  subst e
  refine x_callJ_I [va_rf a1] [] (f_J5_containsKey_ok hO p0 b2 a1) rc_J5_containsKey md_J5_containsKey rfl lx_has fd_containsKey dJ34_contains_5 rfl rfl (by decide) (Nat.le_of_ble_eq_true rfl) (n := 10) rfl (fun x4 p3 => ?_)
  exact x_nreturn rfl dJ34_contains_10
abbrev cJ5_fixAfterDeletion : ByteArray := prog_77_method_85_code
def yJ5_fixAfterDeletion : MethodName := ⟨RJ5, "fixAfterDeletion", "(Ljava/util/TreeMap$Entry;)V"⟩
def dkwJ5_fixAfterDeletion_14 : List UInt8 := [182, 1, 58, 42, 180, 0, 101, 76, 167, 254, 170, 43, 4, 184, 1, 51, 177]
abbrev dktJ5_fixAfterDeletion_14 : List UInt8 := dkwJ5_fixAfterDeletion_14 ++ []
def dkwJ5_fixAfterDeletion_13 : List UInt8 := [184, 1, 51, 43, 184, 1, 38, 4, 184, 1, 51, 44, 184, 1, 41, 4, 184, 1, 51, 42, 43, 184, 1, 38]
abbrev dktJ5_fixAfterDeletion_13 : List UInt8 := dkwJ5_fixAfterDeletion_13 ++ dktJ5_fixAfterDeletion_14
def dkwJ5_fixAfterDeletion_12 : List UInt8 := [184, 1, 51, 42, 44, 182, 1, 55, 43, 184, 1, 38, 184, 1, 41, 77, 44, 43, 184, 1, 38, 184, 1, 47]
abbrev dktJ5_fixAfterDeletion_12 : List UInt8 := dkwJ5_fixAfterDeletion_12 ++ dktJ5_fixAfterDeletion_13
def dkwJ5_fixAfterDeletion_11 : List UInt8 := [167, 0, 80, 44, 184, 1, 41, 184, 1, 47, 4, 160, 0, 29, 44, 184, 1, 44, 4, 184, 1, 51, 44, 3]
abbrev dktJ5_fixAfterDeletion_11 : List UInt8 := dkwJ5_fixAfterDeletion_11 ++ dktJ5_fixAfterDeletion_12
def dkwJ5_fixAfterDeletion_10 : List UInt8 := [160, 0, 27, 44, 184, 1, 41, 184, 1, 47, 4, 160, 0, 16, 44, 3, 184, 1, 51, 43, 184, 1, 38, 76]
abbrev dktJ5_fixAfterDeletion_10 : List UInt8 := dkwJ5_fixAfterDeletion_10 ++ dktJ5_fixAfterDeletion_11
def dkwJ5_fixAfterDeletion_9 : List UInt8 := [42, 43, 184, 1, 38, 182, 1, 58, 43, 184, 1, 38, 184, 1, 41, 77, 44, 184, 1, 44, 184, 1, 47, 4]
abbrev dktJ5_fixAfterDeletion_9 : List UInt8 := dkwJ5_fixAfterDeletion_9 ++ dktJ5_fixAfterDeletion_10
def dkwJ5_fixAfterDeletion_8 : List UInt8 := [184, 1, 41, 77, 44, 184, 1, 47, 154, 0, 32, 44, 4, 184, 1, 51, 43, 184, 1, 38, 3, 184, 1, 51]
abbrev dktJ5_fixAfterDeletion_8 : List UInt8 := dkwJ5_fixAfterDeletion_8 ++ dktJ5_fixAfterDeletion_9
def dkwJ5_fixAfterDeletion_7 : List UInt8 := [4, 184, 1, 51, 42, 43, 184, 1, 38, 182, 1, 55, 42, 180, 0, 101, 76, 167, 255, 73, 43, 184, 1, 38]
abbrev dktJ5_fixAfterDeletion_7 : List UInt8 := dkwJ5_fixAfterDeletion_7 ++ dktJ5_fixAfterDeletion_8
def dkwJ5_fixAfterDeletion_6 : List UInt8 := [77, 44, 43, 184, 1, 38, 184, 1, 47, 184, 1, 51, 43, 184, 1, 38, 4, 184, 1, 51, 44, 184, 1, 44]
abbrev dktJ5_fixAfterDeletion_6 : List UInt8 := dkwJ5_fixAfterDeletion_6 ++ dktJ5_fixAfterDeletion_7
def dkwJ5_fixAfterDeletion_5 : List UInt8 := [184, 1, 41, 4, 184, 1, 51, 44, 3, 184, 1, 51, 42, 44, 182, 1, 58, 43, 184, 1, 38, 184, 1, 44]
abbrev dktJ5_fixAfterDeletion_5 : List UInt8 := dkwJ5_fixAfterDeletion_5 ++ dktJ5_fixAfterDeletion_6
def dkwJ5_fixAfterDeletion_4 : List UInt8 := [184, 1, 51, 43, 184, 1, 38, 76, 167, 0, 80, 44, 184, 1, 44, 184, 1, 47, 4, 160, 0, 29, 44]
abbrev dktJ5_fixAfterDeletion_4 : List UInt8 := dkwJ5_fixAfterDeletion_4 ++ dktJ5_fixAfterDeletion_5
def dkwJ5_fixAfterDeletion_3 : List UInt8 := [184, 1, 41, 184, 1, 47, 4, 160, 0, 27, 44, 184, 1, 44, 184, 1, 47, 4, 160, 0, 16, 44, 3]
abbrev dktJ5_fixAfterDeletion_3 : List UInt8 := dkwJ5_fixAfterDeletion_3 ++ dktJ5_fixAfterDeletion_4
def dkwJ5_fixAfterDeletion_2 : List UInt8 := [184, 1, 38, 3, 184, 1, 51, 42, 43, 184, 1, 38, 182, 1, 55, 43, 184, 1, 38, 184, 1, 44, 77, 44]
abbrev dktJ5_fixAfterDeletion_2 : List UInt8 := dkwJ5_fixAfterDeletion_2 ++ dktJ5_fixAfterDeletion_3
def dkwJ5_fixAfterDeletion_1 : List UInt8 := [166, 0, 162, 43, 184, 1, 38, 184, 1, 44, 77, 44, 184, 1, 47, 154, 0, 32, 44, 4, 184, 1, 51, 43]
abbrev dktJ5_fixAfterDeletion_1 : List UInt8 := dkwJ5_fixAfterDeletion_1 ++ dktJ5_fixAfterDeletion_2
def dkwJ5_fixAfterDeletion_0 : List UInt8 := [43, 42, 180, 0, 101, 165, 1, 84, 43, 184, 1, 47, 4, 160, 1, 76, 43, 43, 184, 1, 38, 184, 1, 41]
abbrev dktJ5_fixAfterDeletion_0 : List UInt8 := dkwJ5_fixAfterDeletion_0 ++ dktJ5_fixAfterDeletion_1
theorem dksJ5_fixAfterDeletion_0 : cJ5_fixAfterDeletion.data.toList.drop 0 = dktJ5_fixAfterDeletion_0 := by decide +kernel
theorem dksJ5_fixAfterDeletion_1 : cJ5_fixAfterDeletion.data.toList.drop 24 = dktJ5_fixAfterDeletion_1 := dk_seg dksJ5_fixAfterDeletion_0 24 rfl rfl
theorem dksJ5_fixAfterDeletion_2 : cJ5_fixAfterDeletion.data.toList.drop 48 = dktJ5_fixAfterDeletion_2 := dk_seg dksJ5_fixAfterDeletion_1 24 rfl rfl
theorem dksJ5_fixAfterDeletion_3 : cJ5_fixAfterDeletion.data.toList.drop 72 = dktJ5_fixAfterDeletion_3 := dk_seg dksJ5_fixAfterDeletion_2 24 rfl rfl
theorem dksJ5_fixAfterDeletion_4 : cJ5_fixAfterDeletion.data.toList.drop 95 = dktJ5_fixAfterDeletion_4 := dk_seg dksJ5_fixAfterDeletion_3 23 rfl rfl
theorem dksJ5_fixAfterDeletion_5 : cJ5_fixAfterDeletion.data.toList.drop 118 = dktJ5_fixAfterDeletion_5 := dk_seg dksJ5_fixAfterDeletion_4 23 rfl rfl
theorem dksJ5_fixAfterDeletion_6 : cJ5_fixAfterDeletion.data.toList.drop 142 = dktJ5_fixAfterDeletion_6 := dk_seg dksJ5_fixAfterDeletion_5 24 rfl rfl
theorem dksJ5_fixAfterDeletion_7 : cJ5_fixAfterDeletion.data.toList.drop 166 = dktJ5_fixAfterDeletion_7 := dk_seg dksJ5_fixAfterDeletion_6 24 rfl rfl
theorem dksJ5_fixAfterDeletion_8 : cJ5_fixAfterDeletion.data.toList.drop 190 = dktJ5_fixAfterDeletion_8 := dk_seg dksJ5_fixAfterDeletion_7 24 rfl rfl
theorem dksJ5_fixAfterDeletion_9 : cJ5_fixAfterDeletion.data.toList.drop 214 = dktJ5_fixAfterDeletion_9 := dk_seg dksJ5_fixAfterDeletion_8 24 rfl rfl
theorem dksJ5_fixAfterDeletion_10 : cJ5_fixAfterDeletion.data.toList.drop 238 = dktJ5_fixAfterDeletion_10 := dk_seg dksJ5_fixAfterDeletion_9 24 rfl rfl
theorem dksJ5_fixAfterDeletion_11 : cJ5_fixAfterDeletion.data.toList.drop 262 = dktJ5_fixAfterDeletion_11 := dk_seg dksJ5_fixAfterDeletion_10 24 rfl rfl
theorem dksJ5_fixAfterDeletion_12 : cJ5_fixAfterDeletion.data.toList.drop 286 = dktJ5_fixAfterDeletion_12 := dk_seg dksJ5_fixAfterDeletion_11 24 rfl rfl
theorem dksJ5_fixAfterDeletion_13 : cJ5_fixAfterDeletion.data.toList.drop 310 = dktJ5_fixAfterDeletion_13 := dk_seg dksJ5_fixAfterDeletion_12 24 rfl rfl
theorem dksJ5_fixAfterDeletion_14 : cJ5_fixAfterDeletion.data.toList.drop 334 = dktJ5_fixAfterDeletion_14 := dk_seg dksJ5_fixAfterDeletion_13 24 rfl rfl
theorem dJ5_fixAfterDeletion_0 : decode cJ5_fixAfterDeletion 0 = .ok (.aload_n 1, 1) := dk_43 (dk_at dksJ5_fixAfterDeletion_0 0 rfl rfl)
theorem dJ5_fixAfterDeletion_1 : decode cJ5_fixAfterDeletion 1 = .ok (.aload_n 0, 1) := dk_42 (dk_at dksJ5_fixAfterDeletion_0 1 rfl rfl)
theorem dJ5_fixAfterDeletion_2 : decode cJ5_fixAfterDeletion 2 = .ok (.getfield 101, 3) := dk_180 0 101 (dk_at dksJ5_fixAfterDeletion_0 2 rfl rfl)
theorem dJ5_fixAfterDeletion_5 : decode cJ5_fixAfterDeletion 5 = .ok (.if_acmp .eq 340, 3) := dk_165 1 84 (dk_at dksJ5_fixAfterDeletion_0 5 rfl rfl)
theorem dJ5_fixAfterDeletion_8 : decode cJ5_fixAfterDeletion 8 = .ok (.aload_n 1, 1) := dk_43 (dk_at dksJ5_fixAfterDeletion_0 8 rfl rfl)
theorem dJ5_fixAfterDeletion_9 : decode cJ5_fixAfterDeletion 9 = .ok (.invokestatic 303, 3) := dk_184 1 47 (dk_at dksJ5_fixAfterDeletion_0 9 rfl rfl)
theorem dJ5_fixAfterDeletion_12 : decode cJ5_fixAfterDeletion 12 = .ok (.iconst 1, 1) := dk_4 (dk_at dksJ5_fixAfterDeletion_0 12 rfl rfl)
theorem dJ5_fixAfterDeletion_13 : decode cJ5_fixAfterDeletion 13 = .ok (.if_icmp .ne 332, 3) := dk_160 1 76 (dk_at dksJ5_fixAfterDeletion_0 13 rfl rfl)
theorem dJ5_fixAfterDeletion_16 : decode cJ5_fixAfterDeletion 16 = .ok (.aload_n 1, 1) := dk_43 (dk_at dksJ5_fixAfterDeletion_0 16 rfl rfl)
theorem dJ5_fixAfterDeletion_17 : decode cJ5_fixAfterDeletion 17 = .ok (.aload_n 1, 1) := dk_43 (dk_at dksJ5_fixAfterDeletion_0 17 rfl rfl)
theorem dJ5_fixAfterDeletion_18 : decode cJ5_fixAfterDeletion 18 = .ok (.invokestatic 294, 3) := dk_184 1 38 (dk_at dksJ5_fixAfterDeletion_0 18 rfl rfl)
theorem dJ5_fixAfterDeletion_21 : decode cJ5_fixAfterDeletion 21 = .ok (.invokestatic 297, 3) := dk_184 1 41 (dk_at dksJ5_fixAfterDeletion_0 21 rfl rfl)
theorem dJ5_fixAfterDeletion_24 : decode cJ5_fixAfterDeletion 24 = .ok (.if_acmp .ne 162, 3) := dk_166 0 162 (dk_at dksJ5_fixAfterDeletion_1 0 rfl rfl)
theorem dJ5_fixAfterDeletion_27 : decode cJ5_fixAfterDeletion 27 = .ok (.aload_n 1, 1) := dk_43 (dk_at dksJ5_fixAfterDeletion_1 3 rfl rfl)
theorem dJ5_fixAfterDeletion_28 : decode cJ5_fixAfterDeletion 28 = .ok (.invokestatic 294, 3) := dk_184 1 38 (dk_at dksJ5_fixAfterDeletion_1 4 rfl rfl)
theorem dJ5_fixAfterDeletion_31 : decode cJ5_fixAfterDeletion 31 = .ok (.invokestatic 300, 3) := dk_184 1 44 (dk_at dksJ5_fixAfterDeletion_1 7 rfl rfl)
theorem dJ5_fixAfterDeletion_34 : decode cJ5_fixAfterDeletion 34 = .ok (.astore_n 2, 1) := dk_77 (dk_at dksJ5_fixAfterDeletion_1 10 rfl rfl)
theorem dJ5_fixAfterDeletion_35 : decode cJ5_fixAfterDeletion 35 = .ok (.aload_n 2, 1) := dk_44 (dk_at dksJ5_fixAfterDeletion_1 11 rfl rfl)
theorem dJ5_fixAfterDeletion_36 : decode cJ5_fixAfterDeletion 36 = .ok (.invokestatic 303, 3) := dk_184 1 47 (dk_at dksJ5_fixAfterDeletion_1 12 rfl rfl)
theorem dJ5_fixAfterDeletion_39 : decode cJ5_fixAfterDeletion 39 = .ok (.ifCond .ne 32, 3) := dk_154 0 32 (dk_at dksJ5_fixAfterDeletion_1 15 rfl rfl)
theorem dJ5_fixAfterDeletion_42 : decode cJ5_fixAfterDeletion 42 = .ok (.aload_n 2, 1) := dk_44 (dk_at dksJ5_fixAfterDeletion_1 18 rfl rfl)
theorem dJ5_fixAfterDeletion_43 : decode cJ5_fixAfterDeletion 43 = .ok (.iconst 1, 1) := dk_4 (dk_at dksJ5_fixAfterDeletion_1 19 rfl rfl)
theorem dJ5_fixAfterDeletion_44 : decode cJ5_fixAfterDeletion 44 = .ok (.invokestatic 307, 3) := dk_184 1 51 (dk_at dksJ5_fixAfterDeletion_1 20 rfl rfl)
theorem dJ5_fixAfterDeletion_47 : decode cJ5_fixAfterDeletion 47 = .ok (.aload_n 1, 1) := dk_43 (dk_at dksJ5_fixAfterDeletion_1 23 rfl rfl)
theorem dJ5_fixAfterDeletion_48 : decode cJ5_fixAfterDeletion 48 = .ok (.invokestatic 294, 3) := dk_184 1 38 (dk_at dksJ5_fixAfterDeletion_2 0 rfl rfl)
theorem dJ5_fixAfterDeletion_51 : decode cJ5_fixAfterDeletion 51 = .ok (.iconst 0, 1) := dk_3 (dk_at dksJ5_fixAfterDeletion_2 3 rfl rfl)
theorem dJ5_fixAfterDeletion_52 : decode cJ5_fixAfterDeletion 52 = .ok (.invokestatic 307, 3) := dk_184 1 51 (dk_at dksJ5_fixAfterDeletion_2 4 rfl rfl)
theorem dJ5_fixAfterDeletion_55 : decode cJ5_fixAfterDeletion 55 = .ok (.aload_n 0, 1) := dk_42 (dk_at dksJ5_fixAfterDeletion_2 7 rfl rfl)
theorem dJ5_fixAfterDeletion_56 : decode cJ5_fixAfterDeletion 56 = .ok (.aload_n 1, 1) := dk_43 (dk_at dksJ5_fixAfterDeletion_2 8 rfl rfl)
theorem dJ5_fixAfterDeletion_57 : decode cJ5_fixAfterDeletion 57 = .ok (.invokestatic 294, 3) := dk_184 1 38 (dk_at dksJ5_fixAfterDeletion_2 9 rfl rfl)
theorem dJ5_fixAfterDeletion_60 : decode cJ5_fixAfterDeletion 60 = .ok (.invokevirtual 311, 3) := dk_182 1 55 (dk_at dksJ5_fixAfterDeletion_2 12 rfl rfl)
theorem dJ5_fixAfterDeletion_63 : decode cJ5_fixAfterDeletion 63 = .ok (.aload_n 1, 1) := dk_43 (dk_at dksJ5_fixAfterDeletion_2 15 rfl rfl)
theorem dJ5_fixAfterDeletion_64 : decode cJ5_fixAfterDeletion 64 = .ok (.invokestatic 294, 3) := dk_184 1 38 (dk_at dksJ5_fixAfterDeletion_2 16 rfl rfl)
theorem dJ5_fixAfterDeletion_67 : decode cJ5_fixAfterDeletion 67 = .ok (.invokestatic 300, 3) := dk_184 1 44 (dk_at dksJ5_fixAfterDeletion_2 19 rfl rfl)
theorem dJ5_fixAfterDeletion_70 : decode cJ5_fixAfterDeletion 70 = .ok (.astore_n 2, 1) := dk_77 (dk_at dksJ5_fixAfterDeletion_2 22 rfl rfl)
theorem dJ5_fixAfterDeletion_71 : decode cJ5_fixAfterDeletion 71 = .ok (.aload_n 2, 1) := dk_44 (dk_at dksJ5_fixAfterDeletion_2 23 rfl rfl)
theorem dJ5_fixAfterDeletion_72 : decode cJ5_fixAfterDeletion 72 = .ok (.invokestatic 297, 3) := dk_184 1 41 (dk_at dksJ5_fixAfterDeletion_3 0 rfl rfl)
theorem dJ5_fixAfterDeletion_75 : decode cJ5_fixAfterDeletion 75 = .ok (.invokestatic 303, 3) := dk_184 1 47 (dk_at dksJ5_fixAfterDeletion_3 3 rfl rfl)
theorem dJ5_fixAfterDeletion_78 : decode cJ5_fixAfterDeletion 78 = .ok (.iconst 1, 1) := dk_4 (dk_at dksJ5_fixAfterDeletion_3 6 rfl rfl)
theorem dJ5_fixAfterDeletion_79 : decode cJ5_fixAfterDeletion 79 = .ok (.if_icmp .ne 27, 3) := dk_160 0 27 (dk_at dksJ5_fixAfterDeletion_3 7 rfl rfl)
theorem dJ5_fixAfterDeletion_82 : decode cJ5_fixAfterDeletion 82 = .ok (.aload_n 2, 1) := dk_44 (dk_at dksJ5_fixAfterDeletion_3 10 rfl rfl)
theorem dJ5_fixAfterDeletion_83 : decode cJ5_fixAfterDeletion 83 = .ok (.invokestatic 300, 3) := dk_184 1 44 (dk_at dksJ5_fixAfterDeletion_3 11 rfl rfl)
theorem dJ5_fixAfterDeletion_86 : decode cJ5_fixAfterDeletion 86 = .ok (.invokestatic 303, 3) := dk_184 1 47 (dk_at dksJ5_fixAfterDeletion_3 14 rfl rfl)
theorem dJ5_fixAfterDeletion_89 : decode cJ5_fixAfterDeletion 89 = .ok (.iconst 1, 1) := dk_4 (dk_at dksJ5_fixAfterDeletion_3 17 rfl rfl)
theorem dJ5_fixAfterDeletion_90 : decode cJ5_fixAfterDeletion 90 = .ok (.if_icmp .ne 16, 3) := dk_160 0 16 (dk_at dksJ5_fixAfterDeletion_3 18 rfl rfl)
theorem dJ5_fixAfterDeletion_93 : decode cJ5_fixAfterDeletion 93 = .ok (.aload_n 2, 1) := dk_44 (dk_at dksJ5_fixAfterDeletion_3 21 rfl rfl)
theorem dJ5_fixAfterDeletion_94 : decode cJ5_fixAfterDeletion 94 = .ok (.iconst 0, 1) := dk_3 (dk_at dksJ5_fixAfterDeletion_3 22 rfl rfl)
theorem dJ5_fixAfterDeletion_95 : decode cJ5_fixAfterDeletion 95 = .ok (.invokestatic 307, 3) := dk_184 1 51 (dk_at dksJ5_fixAfterDeletion_4 0 rfl rfl)
theorem dJ5_fixAfterDeletion_98 : decode cJ5_fixAfterDeletion 98 = .ok (.aload_n 1, 1) := dk_43 (dk_at dksJ5_fixAfterDeletion_4 3 rfl rfl)
theorem dJ5_fixAfterDeletion_99 : decode cJ5_fixAfterDeletion 99 = .ok (.invokestatic 294, 3) := dk_184 1 38 (dk_at dksJ5_fixAfterDeletion_4 4 rfl rfl)
theorem dJ5_fixAfterDeletion_102 : decode cJ5_fixAfterDeletion 102 = .ok (.astore_n 1, 1) := dk_76 (dk_at dksJ5_fixAfterDeletion_4 7 rfl rfl)
theorem dJ5_fixAfterDeletion_103 : decode cJ5_fixAfterDeletion 103 = .ok (.goto 80, 3) := dk_167 0 80 (dk_at dksJ5_fixAfterDeletion_4 8 rfl rfl)
theorem dJ5_fixAfterDeletion_106 : decode cJ5_fixAfterDeletion 106 = .ok (.aload_n 2, 1) := dk_44 (dk_at dksJ5_fixAfterDeletion_4 11 rfl rfl)
theorem dJ5_fixAfterDeletion_107 : decode cJ5_fixAfterDeletion 107 = .ok (.invokestatic 300, 3) := dk_184 1 44 (dk_at dksJ5_fixAfterDeletion_4 12 rfl rfl)
theorem dJ5_fixAfterDeletion_110 : decode cJ5_fixAfterDeletion 110 = .ok (.invokestatic 303, 3) := dk_184 1 47 (dk_at dksJ5_fixAfterDeletion_4 15 rfl rfl)
theorem dJ5_fixAfterDeletion_113 : decode cJ5_fixAfterDeletion 113 = .ok (.iconst 1, 1) := dk_4 (dk_at dksJ5_fixAfterDeletion_4 18 rfl rfl)
theorem dJ5_fixAfterDeletion_114 : decode cJ5_fixAfterDeletion 114 = .ok (.if_icmp .ne 29, 3) := dk_160 0 29 (dk_at dksJ5_fixAfterDeletion_4 19 rfl rfl)
theorem dJ5_fixAfterDeletion_117 : decode cJ5_fixAfterDeletion 117 = .ok (.aload_n 2, 1) := dk_44 (dk_at dksJ5_fixAfterDeletion_4 22 rfl rfl)
theorem dJ5_fixAfterDeletion_118 : decode cJ5_fixAfterDeletion 118 = .ok (.invokestatic 297, 3) := dk_184 1 41 (dk_at dksJ5_fixAfterDeletion_5 0 rfl rfl)
theorem dJ5_fixAfterDeletion_121 : decode cJ5_fixAfterDeletion 121 = .ok (.iconst 1, 1) := dk_4 (dk_at dksJ5_fixAfterDeletion_5 3 rfl rfl)
theorem dJ5_fixAfterDeletion_122 : decode cJ5_fixAfterDeletion 122 = .ok (.invokestatic 307, 3) := dk_184 1 51 (dk_at dksJ5_fixAfterDeletion_5 4 rfl rfl)
theorem dJ5_fixAfterDeletion_125 : decode cJ5_fixAfterDeletion 125 = .ok (.aload_n 2, 1) := dk_44 (dk_at dksJ5_fixAfterDeletion_5 7 rfl rfl)
theorem dJ5_fixAfterDeletion_126 : decode cJ5_fixAfterDeletion 126 = .ok (.iconst 0, 1) := dk_3 (dk_at dksJ5_fixAfterDeletion_5 8 rfl rfl)
theorem dJ5_fixAfterDeletion_127 : decode cJ5_fixAfterDeletion 127 = .ok (.invokestatic 307, 3) := dk_184 1 51 (dk_at dksJ5_fixAfterDeletion_5 9 rfl rfl)
theorem dJ5_fixAfterDeletion_130 : decode cJ5_fixAfterDeletion 130 = .ok (.aload_n 0, 1) := dk_42 (dk_at dksJ5_fixAfterDeletion_5 12 rfl rfl)
theorem dJ5_fixAfterDeletion_131 : decode cJ5_fixAfterDeletion 131 = .ok (.aload_n 2, 1) := dk_44 (dk_at dksJ5_fixAfterDeletion_5 13 rfl rfl)
theorem dJ5_fixAfterDeletion_132 : decode cJ5_fixAfterDeletion 132 = .ok (.invokevirtual 314, 3) := dk_182 1 58 (dk_at dksJ5_fixAfterDeletion_5 14 rfl rfl)
theorem dJ5_fixAfterDeletion_135 : decode cJ5_fixAfterDeletion 135 = .ok (.aload_n 1, 1) := dk_43 (dk_at dksJ5_fixAfterDeletion_5 17 rfl rfl)
theorem dJ5_fixAfterDeletion_136 : decode cJ5_fixAfterDeletion 136 = .ok (.invokestatic 294, 3) := dk_184 1 38 (dk_at dksJ5_fixAfterDeletion_5 18 rfl rfl)
theorem dJ5_fixAfterDeletion_139 : decode cJ5_fixAfterDeletion 139 = .ok (.invokestatic 300, 3) := dk_184 1 44 (dk_at dksJ5_fixAfterDeletion_5 21 rfl rfl)
theorem dJ5_fixAfterDeletion_142 : decode cJ5_fixAfterDeletion 142 = .ok (.astore_n 2, 1) := dk_77 (dk_at dksJ5_fixAfterDeletion_6 0 rfl rfl)
theorem dJ5_fixAfterDeletion_143 : decode cJ5_fixAfterDeletion 143 = .ok (.aload_n 2, 1) := dk_44 (dk_at dksJ5_fixAfterDeletion_6 1 rfl rfl)
theorem dJ5_fixAfterDeletion_144 : decode cJ5_fixAfterDeletion 144 = .ok (.aload_n 1, 1) := dk_43 (dk_at dksJ5_fixAfterDeletion_6 2 rfl rfl)
theorem dJ5_fixAfterDeletion_145 : decode cJ5_fixAfterDeletion 145 = .ok (.invokestatic 294, 3) := dk_184 1 38 (dk_at dksJ5_fixAfterDeletion_6 3 rfl rfl)
theorem dJ5_fixAfterDeletion_148 : decode cJ5_fixAfterDeletion 148 = .ok (.invokestatic 303, 3) := dk_184 1 47 (dk_at dksJ5_fixAfterDeletion_6 6 rfl rfl)
theorem dJ5_fixAfterDeletion_151 : decode cJ5_fixAfterDeletion 151 = .ok (.invokestatic 307, 3) := dk_184 1 51 (dk_at dksJ5_fixAfterDeletion_6 9 rfl rfl)
theorem dJ5_fixAfterDeletion_154 : decode cJ5_fixAfterDeletion 154 = .ok (.aload_n 1, 1) := dk_43 (dk_at dksJ5_fixAfterDeletion_6 12 rfl rfl)
theorem dJ5_fixAfterDeletion_155 : decode cJ5_fixAfterDeletion 155 = .ok (.invokestatic 294, 3) := dk_184 1 38 (dk_at dksJ5_fixAfterDeletion_6 13 rfl rfl)
theorem dJ5_fixAfterDeletion_158 : decode cJ5_fixAfterDeletion 158 = .ok (.iconst 1, 1) := dk_4 (dk_at dksJ5_fixAfterDeletion_6 16 rfl rfl)
theorem dJ5_fixAfterDeletion_159 : decode cJ5_fixAfterDeletion 159 = .ok (.invokestatic 307, 3) := dk_184 1 51 (dk_at dksJ5_fixAfterDeletion_6 17 rfl rfl)
theorem dJ5_fixAfterDeletion_162 : decode cJ5_fixAfterDeletion 162 = .ok (.aload_n 2, 1) := dk_44 (dk_at dksJ5_fixAfterDeletion_6 20 rfl rfl)
theorem dJ5_fixAfterDeletion_163 : decode cJ5_fixAfterDeletion 163 = .ok (.invokestatic 300, 3) := dk_184 1 44 (dk_at dksJ5_fixAfterDeletion_6 21 rfl rfl)
theorem dJ5_fixAfterDeletion_166 : decode cJ5_fixAfterDeletion 166 = .ok (.iconst 1, 1) := dk_4 (dk_at dksJ5_fixAfterDeletion_7 0 rfl rfl)
theorem dJ5_fixAfterDeletion_167 : decode cJ5_fixAfterDeletion 167 = .ok (.invokestatic 307, 3) := dk_184 1 51 (dk_at dksJ5_fixAfterDeletion_7 1 rfl rfl)
theorem dJ5_fixAfterDeletion_170 : decode cJ5_fixAfterDeletion 170 = .ok (.aload_n 0, 1) := dk_42 (dk_at dksJ5_fixAfterDeletion_7 4 rfl rfl)
theorem dJ5_fixAfterDeletion_171 : decode cJ5_fixAfterDeletion 171 = .ok (.aload_n 1, 1) := dk_43 (dk_at dksJ5_fixAfterDeletion_7 5 rfl rfl)
theorem dJ5_fixAfterDeletion_172 : decode cJ5_fixAfterDeletion 172 = .ok (.invokestatic 294, 3) := dk_184 1 38 (dk_at dksJ5_fixAfterDeletion_7 6 rfl rfl)
theorem dJ5_fixAfterDeletion_175 : decode cJ5_fixAfterDeletion 175 = .ok (.invokevirtual 311, 3) := dk_182 1 55 (dk_at dksJ5_fixAfterDeletion_7 9 rfl rfl)
theorem dJ5_fixAfterDeletion_178 : decode cJ5_fixAfterDeletion 178 = .ok (.aload_n 0, 1) := dk_42 (dk_at dksJ5_fixAfterDeletion_7 12 rfl rfl)
theorem dJ5_fixAfterDeletion_179 : decode cJ5_fixAfterDeletion 179 = .ok (.getfield 101, 3) := dk_180 0 101 (dk_at dksJ5_fixAfterDeletion_7 13 rfl rfl)
theorem dJ5_fixAfterDeletion_182 : decode cJ5_fixAfterDeletion 182 = .ok (.astore_n 1, 1) := dk_76 (dk_at dksJ5_fixAfterDeletion_7 16 rfl rfl)
theorem dJ5_fixAfterDeletion_183 : decode cJ5_fixAfterDeletion 183 = .ok (.goto (-183), 3) := dk_167 255 73 (dk_at dksJ5_fixAfterDeletion_7 17 rfl rfl)
theorem dJ5_fixAfterDeletion_186 : decode cJ5_fixAfterDeletion 186 = .ok (.aload_n 1, 1) := dk_43 (dk_at dksJ5_fixAfterDeletion_7 20 rfl rfl)
theorem dJ5_fixAfterDeletion_187 : decode cJ5_fixAfterDeletion 187 = .ok (.invokestatic 294, 3) := dk_184 1 38 (dk_at dksJ5_fixAfterDeletion_7 21 rfl rfl)
theorem dJ5_fixAfterDeletion_190 : decode cJ5_fixAfterDeletion 190 = .ok (.invokestatic 297, 3) := dk_184 1 41 (dk_at dksJ5_fixAfterDeletion_8 0 rfl rfl)
theorem dJ5_fixAfterDeletion_193 : decode cJ5_fixAfterDeletion 193 = .ok (.astore_n 2, 1) := dk_77 (dk_at dksJ5_fixAfterDeletion_8 3 rfl rfl)
theorem dJ5_fixAfterDeletion_194 : decode cJ5_fixAfterDeletion 194 = .ok (.aload_n 2, 1) := dk_44 (dk_at dksJ5_fixAfterDeletion_8 4 rfl rfl)
theorem dJ5_fixAfterDeletion_195 : decode cJ5_fixAfterDeletion 195 = .ok (.invokestatic 303, 3) := dk_184 1 47 (dk_at dksJ5_fixAfterDeletion_8 5 rfl rfl)
theorem dJ5_fixAfterDeletion_198 : decode cJ5_fixAfterDeletion 198 = .ok (.ifCond .ne 32, 3) := dk_154 0 32 (dk_at dksJ5_fixAfterDeletion_8 8 rfl rfl)
theorem dJ5_fixAfterDeletion_201 : decode cJ5_fixAfterDeletion 201 = .ok (.aload_n 2, 1) := dk_44 (dk_at dksJ5_fixAfterDeletion_8 11 rfl rfl)
theorem dJ5_fixAfterDeletion_202 : decode cJ5_fixAfterDeletion 202 = .ok (.iconst 1, 1) := dk_4 (dk_at dksJ5_fixAfterDeletion_8 12 rfl rfl)
theorem dJ5_fixAfterDeletion_203 : decode cJ5_fixAfterDeletion 203 = .ok (.invokestatic 307, 3) := dk_184 1 51 (dk_at dksJ5_fixAfterDeletion_8 13 rfl rfl)
theorem dJ5_fixAfterDeletion_206 : decode cJ5_fixAfterDeletion 206 = .ok (.aload_n 1, 1) := dk_43 (dk_at dksJ5_fixAfterDeletion_8 16 rfl rfl)
theorem dJ5_fixAfterDeletion_207 : decode cJ5_fixAfterDeletion 207 = .ok (.invokestatic 294, 3) := dk_184 1 38 (dk_at dksJ5_fixAfterDeletion_8 17 rfl rfl)
theorem dJ5_fixAfterDeletion_210 : decode cJ5_fixAfterDeletion 210 = .ok (.iconst 0, 1) := dk_3 (dk_at dksJ5_fixAfterDeletion_8 20 rfl rfl)
theorem dJ5_fixAfterDeletion_211 : decode cJ5_fixAfterDeletion 211 = .ok (.invokestatic 307, 3) := dk_184 1 51 (dk_at dksJ5_fixAfterDeletion_8 21 rfl rfl)
theorem dJ5_fixAfterDeletion_214 : decode cJ5_fixAfterDeletion 214 = .ok (.aload_n 0, 1) := dk_42 (dk_at dksJ5_fixAfterDeletion_9 0 rfl rfl)
theorem dJ5_fixAfterDeletion_215 : decode cJ5_fixAfterDeletion 215 = .ok (.aload_n 1, 1) := dk_43 (dk_at dksJ5_fixAfterDeletion_9 1 rfl rfl)
theorem dJ5_fixAfterDeletion_216 : decode cJ5_fixAfterDeletion 216 = .ok (.invokestatic 294, 3) := dk_184 1 38 (dk_at dksJ5_fixAfterDeletion_9 2 rfl rfl)
theorem dJ5_fixAfterDeletion_219 : decode cJ5_fixAfterDeletion 219 = .ok (.invokevirtual 314, 3) := dk_182 1 58 (dk_at dksJ5_fixAfterDeletion_9 5 rfl rfl)
theorem dJ5_fixAfterDeletion_222 : decode cJ5_fixAfterDeletion 222 = .ok (.aload_n 1, 1) := dk_43 (dk_at dksJ5_fixAfterDeletion_9 8 rfl rfl)
theorem dJ5_fixAfterDeletion_223 : decode cJ5_fixAfterDeletion 223 = .ok (.invokestatic 294, 3) := dk_184 1 38 (dk_at dksJ5_fixAfterDeletion_9 9 rfl rfl)
theorem dJ5_fixAfterDeletion_226 : decode cJ5_fixAfterDeletion 226 = .ok (.invokestatic 297, 3) := dk_184 1 41 (dk_at dksJ5_fixAfterDeletion_9 12 rfl rfl)
theorem dJ5_fixAfterDeletion_229 : decode cJ5_fixAfterDeletion 229 = .ok (.astore_n 2, 1) := dk_77 (dk_at dksJ5_fixAfterDeletion_9 15 rfl rfl)
theorem dJ5_fixAfterDeletion_230 : decode cJ5_fixAfterDeletion 230 = .ok (.aload_n 2, 1) := dk_44 (dk_at dksJ5_fixAfterDeletion_9 16 rfl rfl)
theorem dJ5_fixAfterDeletion_231 : decode cJ5_fixAfterDeletion 231 = .ok (.invokestatic 300, 3) := dk_184 1 44 (dk_at dksJ5_fixAfterDeletion_9 17 rfl rfl)
theorem dJ5_fixAfterDeletion_234 : decode cJ5_fixAfterDeletion 234 = .ok (.invokestatic 303, 3) := dk_184 1 47 (dk_at dksJ5_fixAfterDeletion_9 20 rfl rfl)
theorem dJ5_fixAfterDeletion_237 : decode cJ5_fixAfterDeletion 237 = .ok (.iconst 1, 1) := dk_4 (dk_at dksJ5_fixAfterDeletion_9 23 rfl rfl)
theorem dJ5_fixAfterDeletion_238 : decode cJ5_fixAfterDeletion 238 = .ok (.if_icmp .ne 27, 3) := dk_160 0 27 (dk_at dksJ5_fixAfterDeletion_10 0 rfl rfl)
theorem dJ5_fixAfterDeletion_241 : decode cJ5_fixAfterDeletion 241 = .ok (.aload_n 2, 1) := dk_44 (dk_at dksJ5_fixAfterDeletion_10 3 rfl rfl)
theorem dJ5_fixAfterDeletion_242 : decode cJ5_fixAfterDeletion 242 = .ok (.invokestatic 297, 3) := dk_184 1 41 (dk_at dksJ5_fixAfterDeletion_10 4 rfl rfl)
theorem dJ5_fixAfterDeletion_245 : decode cJ5_fixAfterDeletion 245 = .ok (.invokestatic 303, 3) := dk_184 1 47 (dk_at dksJ5_fixAfterDeletion_10 7 rfl rfl)
theorem dJ5_fixAfterDeletion_248 : decode cJ5_fixAfterDeletion 248 = .ok (.iconst 1, 1) := dk_4 (dk_at dksJ5_fixAfterDeletion_10 10 rfl rfl)
theorem dJ5_fixAfterDeletion_249 : decode cJ5_fixAfterDeletion 249 = .ok (.if_icmp .ne 16, 3) := dk_160 0 16 (dk_at dksJ5_fixAfterDeletion_10 11 rfl rfl)
theorem dJ5_fixAfterDeletion_252 : decode cJ5_fixAfterDeletion 252 = .ok (.aload_n 2, 1) := dk_44 (dk_at dksJ5_fixAfterDeletion_10 14 rfl rfl)
theorem dJ5_fixAfterDeletion_253 : decode cJ5_fixAfterDeletion 253 = .ok (.iconst 0, 1) := dk_3 (dk_at dksJ5_fixAfterDeletion_10 15 rfl rfl)
theorem dJ5_fixAfterDeletion_254 : decode cJ5_fixAfterDeletion 254 = .ok (.invokestatic 307, 3) := dk_184 1 51 (dk_at dksJ5_fixAfterDeletion_10 16 rfl rfl)
theorem dJ5_fixAfterDeletion_257 : decode cJ5_fixAfterDeletion 257 = .ok (.aload_n 1, 1) := dk_43 (dk_at dksJ5_fixAfterDeletion_10 19 rfl rfl)
theorem dJ5_fixAfterDeletion_258 : decode cJ5_fixAfterDeletion 258 = .ok (.invokestatic 294, 3) := dk_184 1 38 (dk_at dksJ5_fixAfterDeletion_10 20 rfl rfl)
theorem dJ5_fixAfterDeletion_261 : decode cJ5_fixAfterDeletion 261 = .ok (.astore_n 1, 1) := dk_76 (dk_at dksJ5_fixAfterDeletion_10 23 rfl rfl)
theorem dJ5_fixAfterDeletion_262 : decode cJ5_fixAfterDeletion 262 = .ok (.goto 80, 3) := dk_167 0 80 (dk_at dksJ5_fixAfterDeletion_11 0 rfl rfl)
theorem dJ5_fixAfterDeletion_265 : decode cJ5_fixAfterDeletion 265 = .ok (.aload_n 2, 1) := dk_44 (dk_at dksJ5_fixAfterDeletion_11 3 rfl rfl)
theorem dJ5_fixAfterDeletion_266 : decode cJ5_fixAfterDeletion 266 = .ok (.invokestatic 297, 3) := dk_184 1 41 (dk_at dksJ5_fixAfterDeletion_11 4 rfl rfl)
theorem dJ5_fixAfterDeletion_269 : decode cJ5_fixAfterDeletion 269 = .ok (.invokestatic 303, 3) := dk_184 1 47 (dk_at dksJ5_fixAfterDeletion_11 7 rfl rfl)
theorem dJ5_fixAfterDeletion_272 : decode cJ5_fixAfterDeletion 272 = .ok (.iconst 1, 1) := dk_4 (dk_at dksJ5_fixAfterDeletion_11 10 rfl rfl)
theorem dJ5_fixAfterDeletion_273 : decode cJ5_fixAfterDeletion 273 = .ok (.if_icmp .ne 29, 3) := dk_160 0 29 (dk_at dksJ5_fixAfterDeletion_11 11 rfl rfl)
theorem dJ5_fixAfterDeletion_276 : decode cJ5_fixAfterDeletion 276 = .ok (.aload_n 2, 1) := dk_44 (dk_at dksJ5_fixAfterDeletion_11 14 rfl rfl)
theorem dJ5_fixAfterDeletion_277 : decode cJ5_fixAfterDeletion 277 = .ok (.invokestatic 300, 3) := dk_184 1 44 (dk_at dksJ5_fixAfterDeletion_11 15 rfl rfl)
theorem dJ5_fixAfterDeletion_280 : decode cJ5_fixAfterDeletion 280 = .ok (.iconst 1, 1) := dk_4 (dk_at dksJ5_fixAfterDeletion_11 18 rfl rfl)
theorem dJ5_fixAfterDeletion_281 : decode cJ5_fixAfterDeletion 281 = .ok (.invokestatic 307, 3) := dk_184 1 51 (dk_at dksJ5_fixAfterDeletion_11 19 rfl rfl)
theorem dJ5_fixAfterDeletion_284 : decode cJ5_fixAfterDeletion 284 = .ok (.aload_n 2, 1) := dk_44 (dk_at dksJ5_fixAfterDeletion_11 22 rfl rfl)
theorem dJ5_fixAfterDeletion_285 : decode cJ5_fixAfterDeletion 285 = .ok (.iconst 0, 1) := dk_3 (dk_at dksJ5_fixAfterDeletion_11 23 rfl rfl)
theorem dJ5_fixAfterDeletion_286 : decode cJ5_fixAfterDeletion 286 = .ok (.invokestatic 307, 3) := dk_184 1 51 (dk_at dksJ5_fixAfterDeletion_12 0 rfl rfl)
theorem dJ5_fixAfterDeletion_289 : decode cJ5_fixAfterDeletion 289 = .ok (.aload_n 0, 1) := dk_42 (dk_at dksJ5_fixAfterDeletion_12 3 rfl rfl)
theorem dJ5_fixAfterDeletion_290 : decode cJ5_fixAfterDeletion 290 = .ok (.aload_n 2, 1) := dk_44 (dk_at dksJ5_fixAfterDeletion_12 4 rfl rfl)
theorem dJ5_fixAfterDeletion_291 : decode cJ5_fixAfterDeletion 291 = .ok (.invokevirtual 311, 3) := dk_182 1 55 (dk_at dksJ5_fixAfterDeletion_12 5 rfl rfl)
theorem dJ5_fixAfterDeletion_294 : decode cJ5_fixAfterDeletion 294 = .ok (.aload_n 1, 1) := dk_43 (dk_at dksJ5_fixAfterDeletion_12 8 rfl rfl)
theorem dJ5_fixAfterDeletion_295 : decode cJ5_fixAfterDeletion 295 = .ok (.invokestatic 294, 3) := dk_184 1 38 (dk_at dksJ5_fixAfterDeletion_12 9 rfl rfl)
theorem dJ5_fixAfterDeletion_298 : decode cJ5_fixAfterDeletion 298 = .ok (.invokestatic 297, 3) := dk_184 1 41 (dk_at dksJ5_fixAfterDeletion_12 12 rfl rfl)
theorem dJ5_fixAfterDeletion_301 : decode cJ5_fixAfterDeletion 301 = .ok (.astore_n 2, 1) := dk_77 (dk_at dksJ5_fixAfterDeletion_12 15 rfl rfl)
theorem dJ5_fixAfterDeletion_302 : decode cJ5_fixAfterDeletion 302 = .ok (.aload_n 2, 1) := dk_44 (dk_at dksJ5_fixAfterDeletion_12 16 rfl rfl)
theorem dJ5_fixAfterDeletion_303 : decode cJ5_fixAfterDeletion 303 = .ok (.aload_n 1, 1) := dk_43 (dk_at dksJ5_fixAfterDeletion_12 17 rfl rfl)
theorem dJ5_fixAfterDeletion_304 : decode cJ5_fixAfterDeletion 304 = .ok (.invokestatic 294, 3) := dk_184 1 38 (dk_at dksJ5_fixAfterDeletion_12 18 rfl rfl)
theorem dJ5_fixAfterDeletion_307 : decode cJ5_fixAfterDeletion 307 = .ok (.invokestatic 303, 3) := dk_184 1 47 (dk_at dksJ5_fixAfterDeletion_12 21 rfl rfl)
theorem dJ5_fixAfterDeletion_310 : decode cJ5_fixAfterDeletion 310 = .ok (.invokestatic 307, 3) := dk_184 1 51 (dk_at dksJ5_fixAfterDeletion_13 0 rfl rfl)
theorem dJ5_fixAfterDeletion_313 : decode cJ5_fixAfterDeletion 313 = .ok (.aload_n 1, 1) := dk_43 (dk_at dksJ5_fixAfterDeletion_13 3 rfl rfl)
theorem dJ5_fixAfterDeletion_314 : decode cJ5_fixAfterDeletion 314 = .ok (.invokestatic 294, 3) := dk_184 1 38 (dk_at dksJ5_fixAfterDeletion_13 4 rfl rfl)
theorem dJ5_fixAfterDeletion_317 : decode cJ5_fixAfterDeletion 317 = .ok (.iconst 1, 1) := dk_4 (dk_at dksJ5_fixAfterDeletion_13 7 rfl rfl)
theorem dJ5_fixAfterDeletion_318 : decode cJ5_fixAfterDeletion 318 = .ok (.invokestatic 307, 3) := dk_184 1 51 (dk_at dksJ5_fixAfterDeletion_13 8 rfl rfl)
theorem dJ5_fixAfterDeletion_321 : decode cJ5_fixAfterDeletion 321 = .ok (.aload_n 2, 1) := dk_44 (dk_at dksJ5_fixAfterDeletion_13 11 rfl rfl)
theorem dJ5_fixAfterDeletion_322 : decode cJ5_fixAfterDeletion 322 = .ok (.invokestatic 297, 3) := dk_184 1 41 (dk_at dksJ5_fixAfterDeletion_13 12 rfl rfl)
theorem dJ5_fixAfterDeletion_325 : decode cJ5_fixAfterDeletion 325 = .ok (.iconst 1, 1) := dk_4 (dk_at dksJ5_fixAfterDeletion_13 15 rfl rfl)
theorem dJ5_fixAfterDeletion_326 : decode cJ5_fixAfterDeletion 326 = .ok (.invokestatic 307, 3) := dk_184 1 51 (dk_at dksJ5_fixAfterDeletion_13 16 rfl rfl)
theorem dJ5_fixAfterDeletion_329 : decode cJ5_fixAfterDeletion 329 = .ok (.aload_n 0, 1) := dk_42 (dk_at dksJ5_fixAfterDeletion_13 19 rfl rfl)
theorem dJ5_fixAfterDeletion_330 : decode cJ5_fixAfterDeletion 330 = .ok (.aload_n 1, 1) := dk_43 (dk_at dksJ5_fixAfterDeletion_13 20 rfl rfl)
theorem dJ5_fixAfterDeletion_331 : decode cJ5_fixAfterDeletion 331 = .ok (.invokestatic 294, 3) := dk_184 1 38 (dk_at dksJ5_fixAfterDeletion_13 21 rfl rfl)
theorem dJ5_fixAfterDeletion_334 : decode cJ5_fixAfterDeletion 334 = .ok (.invokevirtual 314, 3) := dk_182 1 58 (dk_at dksJ5_fixAfterDeletion_14 0 rfl rfl)
theorem dJ5_fixAfterDeletion_337 : decode cJ5_fixAfterDeletion 337 = .ok (.aload_n 0, 1) := dk_42 (dk_at dksJ5_fixAfterDeletion_14 3 rfl rfl)
theorem dJ5_fixAfterDeletion_338 : decode cJ5_fixAfterDeletion 338 = .ok (.getfield 101, 3) := dk_180 0 101 (dk_at dksJ5_fixAfterDeletion_14 4 rfl rfl)
theorem dJ5_fixAfterDeletion_341 : decode cJ5_fixAfterDeletion 341 = .ok (.astore_n 1, 1) := dk_76 (dk_at dksJ5_fixAfterDeletion_14 7 rfl rfl)
theorem dJ5_fixAfterDeletion_342 : decode cJ5_fixAfterDeletion 342 = .ok (.goto (-342), 3) := dk_167 254 170 (dk_at dksJ5_fixAfterDeletion_14 8 rfl rfl)
theorem dJ5_fixAfterDeletion_345 : decode cJ5_fixAfterDeletion 345 = .ok (.aload_n 1, 1) := dk_43 (dk_at dksJ5_fixAfterDeletion_14 11 rfl rfl)
theorem dJ5_fixAfterDeletion_346 : decode cJ5_fixAfterDeletion 346 = .ok (.iconst 1, 1) := dk_4 (dk_at dksJ5_fixAfterDeletion_14 12 rfl rfl)
theorem dJ5_fixAfterDeletion_347 : decode cJ5_fixAfterDeletion 347 = .ok (.invokestatic 307, 3) := dk_184 1 51 (dk_at dksJ5_fixAfterDeletion_14 13 rfl rfl)
theorem dJ5_fixAfterDeletion_350 : decode cJ5_fixAfterDeletion 350 = .ok (.return_, 1) := dk_177 (dk_at dksJ5_fixAfterDeletion_14 16 rfl rfl)
theorem md_J5_fixAfterDeletion : xMd yJ5_fixAfterDeletion cJ5_fixAfterDeletion 3 (Option.none : Option Jvm.ClassFile.FieldType) 1 := ⟨q2686, q132, by decide, by decide +kernel, by decide +kernel, by decide +kernel⟩
def f_J5_fixAfterDeletion_345 (a0 : Nat)  (v1 : Option Nat) (p0 : PH) : Option (xO × PH) :=
  (xcV (f_J5_setColor p0 v1 1) fun p2 =>
  (rV p2))
def f_J5_fixAfterDeletion_342 (a0 : Nat) (k0 : Option Nat × PH → Option (xO × PH)) (v1 : Option Nat) (p0 : PH) : Option (xO × PH) :=
  (k0 (v1, p0))
def f_J5_fixAfterDeletion_302 (a0 : Nat) (k0 : Option Nat × PH → Option (xO × PH)) (v1 : Option Nat) (v2 : Option Nat) (p0 : PH) : Option (xO × PH) :=
  (xcR (f_J5_parentOf p0 v1) fun x24 p23 =>
  (xcI (f_J5_colorOf p23 x24) fun x26 p25 =>
  (xcV (f_J5_setColor p25 v2 x26) fun p27 =>
  (xcR (f_J5_parentOf p27 v1) fun x29 p28 =>
  (xcV (f_J5_setColor p28 x29 1) fun p30 =>
  (xcR (f_J5_leftOf p30 v2) fun x32 p31 =>
  (xcV (f_J5_setColor p31 x32 1) fun p33 =>
  (xcR (f_J5_parentOf p33 v1) fun x35 p34 =>
  (xcV (f_J5_rotateRight p34 a0 x35) fun p36 =>
  (xgR p36 a0 15 3 fun x37 =>
  (f_J5_fixAfterDeletion_342 a0 k0 x37 p36)))))))))))
def f_J5_fixAfterDeletion_265 (a0 : Nat) (k0 : Option Nat × PH → Option (xO × PH)) (v1 : Option Nat) (v2 : Option Nat) (p0 : PH) : Option (xO × PH) :=
  (xcR (f_J5_leftOf p0 v2) fun x20 p19 =>
  (xcI (f_J5_colorOf p19 x20) fun x22 p21 =>
  (if x22 = 1 then
  (xcR (f_J5_rightOf p21 v2) fun x39 p38 =>
  (xcV (f_J5_setColor p38 x39 1) fun p40 =>
  (xcV (f_J5_setColor p40 v2 0) fun p41 =>
  (xcV (f_J5_rotateLeft p41 a0 v2) fun p42 =>
  (xcR (f_J5_parentOf p42 v1) fun x44 p43 =>
  (xcR (f_J5_leftOf p43 x44) fun x46 p45 =>
  (f_J5_fixAfterDeletion_302 a0 k0 v1 x46 p45))))))) else
  (f_J5_fixAfterDeletion_302 a0 k0 v1 v2 p21))))
def f_J5_fixAfterDeletion_230 (a0 : Nat) (k0 : Option Nat × PH → Option (xO × PH)) (v1 : Option Nat) (v2 : Option Nat) (p0 : PH) : Option (xO × PH) :=
  (xcR (f_J5_rightOf p0 v2) fun x16 p15 =>
  (xcI (f_J5_colorOf p15 x16) fun x18 p17 =>
  (if x18 = 1 then
  (xcR (f_J5_leftOf p17 v2) fun x48 p47 =>
  (xcI (f_J5_colorOf p47 x48) fun x50 p49 =>
  (if x50 = 1 then
  (xcV (f_J5_setColor p49 v2 0) fun p51 =>
  (xcR (f_J5_parentOf p51 v1) fun x53 p52 =>
  (f_J5_fixAfterDeletion_342 a0 k0 x53 p52))) else
  (f_J5_fixAfterDeletion_265 a0 k0 v1 v2 p49)))) else
  (f_J5_fixAfterDeletion_265 a0 k0 v1 v2 p17))))
def f_J5_fixAfterDeletion_183 (a0 : Nat) (k0 : Option Nat × PH → Option (xO × PH)) (v1 : Option Nat) (p0 : PH) : Option (xO × PH) :=
  (k0 (v1, p0))
def f_J5_fixAfterDeletion_143 (a0 : Nat) (k0 : Option Nat × PH → Option (xO × PH)) (v1 : Option Nat) (v2 : Option Nat) (p0 : PH) : Option (xO × PH) :=
  (xcR (f_J5_parentOf p0 v1) fun x80 p79 =>
  (xcI (f_J5_colorOf p79 x80) fun x82 p81 =>
  (xcV (f_J5_setColor p81 v2 x82) fun p83 =>
  (xcR (f_J5_parentOf p83 v1) fun x85 p84 =>
  (xcV (f_J5_setColor p84 x85 1) fun p86 =>
  (xcR (f_J5_rightOf p86 v2) fun x88 p87 =>
  (xcV (f_J5_setColor p87 x88 1) fun p89 =>
  (xcR (f_J5_parentOf p89 v1) fun x91 p90 =>
  (xcV (f_J5_rotateLeft p90 a0 x91) fun p92 =>
  (xgR p92 a0 15 3 fun x93 =>
  (f_J5_fixAfterDeletion_183 a0 k0 x93 p92)))))))))))
def f_J5_fixAfterDeletion_106 (a0 : Nat) (k0 : Option Nat × PH → Option (xO × PH)) (v1 : Option Nat) (v2 : Option Nat) (p0 : PH) : Option (xO × PH) :=
  (xcR (f_J5_rightOf p0 v2) fun x76 p75 =>
  (xcI (f_J5_colorOf p75 x76) fun x78 p77 =>
  (if x78 = 1 then
  (xcR (f_J5_leftOf p77 v2) fun x95 p94 =>
  (xcV (f_J5_setColor p94 x95 1) fun p96 =>
  (xcV (f_J5_setColor p96 v2 0) fun p97 =>
  (xcV (f_J5_rotateRight p97 a0 v2) fun p98 =>
  (xcR (f_J5_parentOf p98 v1) fun x100 p99 =>
  (xcR (f_J5_rightOf p99 x100) fun x102 p101 =>
  (f_J5_fixAfterDeletion_143 a0 k0 v1 x102 p101))))))) else
  (f_J5_fixAfterDeletion_143 a0 k0 v1 v2 p77))))
def f_J5_fixAfterDeletion_71 (a0 : Nat) (k0 : Option Nat × PH → Option (xO × PH)) (v1 : Option Nat) (v2 : Option Nat) (p0 : PH) : Option (xO × PH) :=
  (xcR (f_J5_leftOf p0 v2) fun x72 p71 =>
  (xcI (f_J5_colorOf p71 x72) fun x74 p73 =>
  (if x74 = 1 then
  (xcR (f_J5_rightOf p73 v2) fun x104 p103 =>
  (xcI (f_J5_colorOf p103 x104) fun x106 p105 =>
  (if x106 = 1 then
  (xcV (f_J5_setColor p105 v2 0) fun p107 =>
  (xcR (f_J5_parentOf p107 v1) fun x109 p108 =>
  (f_J5_fixAfterDeletion_183 a0 k0 x109 p108))) else
  (f_J5_fixAfterDeletion_106 a0 k0 v1 v2 p105)))) else
  (f_J5_fixAfterDeletion_106 a0 k0 v1 v2 p73))))
def f_J5_fixAfterDeletion_0F (a0 : Nat)  (k0 : Option Nat × PH → Option (xO × PH)) (p : Option Nat × PH) : Option (xO × PH) := match p with
  | (v1, p0) => (xgR p0 a0 15 3 fun x1 =>
  (if v1 = x1 then
  (f_J5_fixAfterDeletion_345 a0 v1 p0) else
  (xcI (f_J5_colorOf p0 v1) fun x4 p3 =>
  (if x4 = 1 then
  (xcR (f_J5_parentOf p3 v1) fun x6 p5 =>
  (xcR (f_J5_leftOf p5 x6) fun x8 p7 =>
  (if v1 = x8 then
  (xcR (f_J5_parentOf p7 v1) fun x66 p65 =>
  (xcR (f_J5_rightOf p65 x66) fun x68 p67 =>
  (xcI (f_J5_colorOf p67 x68) fun x70 p69 =>
  (if x70 = 0 then
  (xcV (f_J5_setColor p69 x68 1) fun p110 =>
  (xcR (f_J5_parentOf p110 v1) fun x112 p111 =>
  (xcV (f_J5_setColor p111 x112 0) fun p113 =>
  (xcR (f_J5_parentOf p113 v1) fun x115 p114 =>
  (xcV (f_J5_rotateLeft p114 a0 x115) fun p116 =>
  (xcR (f_J5_parentOf p116 v1) fun x118 p117 =>
  (xcR (f_J5_rightOf p117 x118) fun x120 p119 =>
  (f_J5_fixAfterDeletion_71 a0 k0 v1 x120 p119)))))))) else
  (f_J5_fixAfterDeletion_71 a0 k0 v1 x68 p69))))) else
  (xcR (f_J5_parentOf p7 v1) fun x10 p9 =>
  (xcR (f_J5_leftOf p9 x10) fun x12 p11 =>
  (xcI (f_J5_colorOf p11 x12) fun x14 p13 =>
  (if x14 = 0 then
  (xcV (f_J5_setColor p13 x12 1) fun p54 =>
  (xcR (f_J5_parentOf p54 v1) fun x56 p55 =>
  (xcV (f_J5_setColor p55 x56 0) fun p57 =>
  (xcR (f_J5_parentOf p57 v1) fun x59 p58 =>
  (xcV (f_J5_rotateRight p58 a0 x59) fun p60 =>
  (xcR (f_J5_parentOf p60 v1) fun x62 p61 =>
  (xcR (f_J5_leftOf p61 x62) fun x64 p63 =>
  (f_J5_fixAfterDeletion_230 a0 k0 v1 x64 p63)))))))) else
  (f_J5_fixAfterDeletion_230 a0 k0 v1 x12 p13)))))))) else
  (f_J5_fixAfterDeletion_345 a0 v1 p3)))))
def f_J5_fixAfterDeletion (p0 : PH) (a0 : Nat) (a1 : Option Nat) : Option (xO × PH) :=
  (xcl1 p0 a0 15 (lp (f_J5_fixAfterDeletion_0F a0) FU (a1, p0)))
theorem rc_J5_fixAfterDeletion {p0 : PH} {a0 : Nat} {a1 : Option Nat} : ∀ z, f_J5_fixAfterDeletion p0 a0 a1 = some z → xco p0 a0 = some 15 := fun z h => xcl1_some h
theorem f_J5_fixAfterDeletion_345_ok {G : xG} (hO : xOK G) (a0 : Nat)  (v1 : Option Nat) (p0 : PH) : X G "java/util/TreeMap" "fixAfterDeletion" cJ5_fixAfterDeletion 3 (Option.none : Option Jvm.ClassFile.FieldType) 1 345 [(1, va_rf v1)] [] p0 (f_J5_fixAfterDeletion_345 a0 v1 p0) := by
  unfold f_J5_fixAfterDeletion_345
  refine x_aload_n 0 dJ5_fixAfterDeletion_345 rfl rfl (n := 346) rfl ?_
  refine x_iconst 1 dJ5_fixAfterDeletion_346 rfl (n := 347) rfl ?_
  refine x_callS_V [va_rf v1, .int 1] [] (f_J5_setColor_ok hO p0 v1 1) md_J5_setColor q1374 q1375 dJ5_fixAfterDeletion_347 rfl rfl (by decide) (Nat.le_of_ble_eq_true rfl) (n := 350) rfl (fun p2 => ?_)
  exact x_return dJ5_fixAfterDeletion_350
theorem f_J5_fixAfterDeletion_342_ok {G : xG} (hO : xOK G) (a0 : Nat) {k0 : Option Nat × PH → Option (xO × PH)} (hk0 : ∀ (v1 : Option Nat) (p0 : PH), X G "java/util/TreeMap" "fixAfterDeletion" cJ5_fixAfterDeletion 3 (Option.none : Option Jvm.ClassFile.FieldType) 1 0 [(0, .ref a0), (1, va_rf v1)] [] p0 (k0 (v1, p0))) (v1 : Option Nat) (p0 : PH) : X G "java/util/TreeMap" "fixAfterDeletion" cJ5_fixAfterDeletion 3 (Option.none : Option Jvm.ClassFile.FieldType) 1 342 [(0, .ref a0), (1, va_rf v1)] [] p0 (f_J5_fixAfterDeletion_342 a0 k0 v1 p0) := by
  unfold f_J5_fixAfterDeletion_342
  refine x_goto dJ5_fixAfterDeletion_342 (n := 0) (by decide) ?_
  exact hk0 v1 p0
theorem f_J5_fixAfterDeletion_302_ok {G : xG} (hO : xOK G) (a0 : Nat) {k0 : Option Nat × PH → Option (xO × PH)} (hk0 : ∀ (v1 : Option Nat) (p0 : PH), X G "java/util/TreeMap" "fixAfterDeletion" cJ5_fixAfterDeletion 3 (Option.none : Option Jvm.ClassFile.FieldType) 1 0 [(0, .ref a0), (1, va_rf v1)] [] p0 (k0 (v1, p0))) (v1 : Option Nat) (v2 : Option Nat) (p0 : PH) : X G "java/util/TreeMap" "fixAfterDeletion" cJ5_fixAfterDeletion 3 (Option.none : Option Jvm.ClassFile.FieldType) 1 302 [(0, .ref a0), (1, va_rf v1), (2, va_rf v2)] [] p0 (f_J5_fixAfterDeletion_302 a0 k0 v1 v2 p0) := by
  unfold f_J5_fixAfterDeletion_302
  refine x_aload_n 2 dJ5_fixAfterDeletion_302 rfl rfl (n := 303) rfl ?_
  refine x_aload_n 1 dJ5_fixAfterDeletion_303 rfl rfl (n := 304) rfl ?_
  refine x_callS_R [va_rf v1] [va_rf v2] (f_J5_parentOf_ok hO p0 v1) md_J5_parentOf q1362 q1363 dJ5_fixAfterDeletion_304 rfl rfl (by decide) (by simp only [List.map, xcat]; exact Nat.le_of_ble_eq_true rfl) (n := 307) rfl (fun x24 p23 => ?_)
  refine x_callS_I [va_rf x24] [va_rf v2] (f_J5_colorOf_ok hO p23 x24) md_J5_colorOf q1371 q1372 dJ5_fixAfterDeletion_307 rfl rfl (by decide) (by simp only [List.map, xcat]; exact Nat.le_of_ble_eq_true rfl) (n := 310) rfl (fun x26 p25 => ?_)
  refine x_callS_V [va_rf v2, .int x26] [] (f_J5_setColor_ok hO p25 v2 x26) md_J5_setColor q1374 q1375 dJ5_fixAfterDeletion_310 rfl rfl (by decide) (Nat.le_of_ble_eq_true rfl) (n := 313) rfl (fun p27 => ?_)
  refine x_aload_n 1 dJ5_fixAfterDeletion_313 rfl rfl (n := 314) rfl ?_
  refine x_callS_R [va_rf v1] [] (f_J5_parentOf_ok hO p27 v1) md_J5_parentOf q1362 q1363 dJ5_fixAfterDeletion_314 rfl rfl (by decide) (Nat.le_of_ble_eq_true rfl) (n := 317) rfl (fun x29 p28 => ?_)
  refine x_iconst 1 dJ5_fixAfterDeletion_317 rfl (n := 318) rfl ?_
  refine x_callS_V [va_rf x29, .int 1] [] (f_J5_setColor_ok hO p28 x29 1) md_J5_setColor q1374 q1375 dJ5_fixAfterDeletion_318 rfl rfl (by decide) (Nat.le_of_ble_eq_true rfl) (n := 321) rfl (fun p30 => ?_)
  refine x_aload_n 2 dJ5_fixAfterDeletion_321 rfl rfl (n := 322) rfl ?_
  refine x_callS_R [va_rf v2] [] (f_J5_leftOf_ok hO p30 v2) md_J5_leftOf q1365 q1366 dJ5_fixAfterDeletion_322 rfl rfl (by decide) (Nat.le_of_ble_eq_true rfl) (n := 325) rfl (fun x32 p31 => ?_)
  refine x_iconst 1 dJ5_fixAfterDeletion_325 rfl (n := 326) rfl ?_
  refine x_callS_V [va_rf x32, .int 1] [] (f_J5_setColor_ok hO p31 x32 1) md_J5_setColor q1374 q1375 dJ5_fixAfterDeletion_326 rfl rfl (by decide) (Nat.le_of_ble_eq_true rfl) (n := 329) rfl (fun p33 => ?_)
  refine x_aload_nr 0 dJ5_fixAfterDeletion_329 rfl rfl (n := 330) rfl ?_
  refine x_aload_n 1 dJ5_fixAfterDeletion_330 rfl rfl (n := 331) rfl ?_
  refine x_callS_R [va_rf v1] [.ref a0] (f_J5_parentOf_ok hO p33 v1) md_J5_parentOf q1362 q1363 dJ5_fixAfterDeletion_331 rfl rfl (by decide) (Nat.le_of_ble_eq_true rfl) (n := 334) rfl (fun x35 p34 => ?_)
  refine x_callV_V [va_rf x35] [] (f_J5_rotateRight_ok hO p34 a0 x35) rc_J5_rotateRight md_J5_rotateRight rfl q1381 q1383 qs22 dJ5_fixAfterDeletion_334 rfl rfl (by decide) (Nat.le_of_ble_eq_true rfl) (n := 337) rfl (fun p36 => ?_)
  refine x_aload_nr 0 dJ5_fixAfterDeletion_337 rfl rfl (n := 338) rfl ?_
  refine x_getR fl_J5_101 dJ5_fixAfterDeletion_338 (n := 341) rfl (fun x37 => ?_)
  refine x_astore_n [(1, va_rf x37), (0, .ref a0), (2, va_rf v2)] dJ5_fixAfterDeletion_341 rfl (by decide) rfl (n := 342) rfl ?_
  refine x_sub [1, 0] [(0, .ref a0), (1, va_rf x37)] rfl ?_
  exact f_J5_fixAfterDeletion_342_ok hO a0 hk0 x37 p36
theorem f_J5_fixAfterDeletion_265_ok {G : xG} (hO : xOK G) (a0 : Nat) {k0 : Option Nat × PH → Option (xO × PH)} (hk0 : ∀ (v1 : Option Nat) (p0 : PH), X G "java/util/TreeMap" "fixAfterDeletion" cJ5_fixAfterDeletion 3 (Option.none : Option Jvm.ClassFile.FieldType) 1 0 [(0, .ref a0), (1, va_rf v1)] [] p0 (k0 (v1, p0))) (v1 : Option Nat) (v2 : Option Nat) (p0 : PH) : X G "java/util/TreeMap" "fixAfterDeletion" cJ5_fixAfterDeletion 3 (Option.none : Option Jvm.ClassFile.FieldType) 1 265 [(0, .ref a0), (1, va_rf v1), (2, va_rf v2)] [] p0 (f_J5_fixAfterDeletion_265 a0 k0 v1 v2 p0) := by
  unfold f_J5_fixAfterDeletion_265
  refine x_aload_n 2 dJ5_fixAfterDeletion_265 rfl rfl (n := 266) rfl ?_
  refine x_callS_R [va_rf v2] [] (f_J5_leftOf_ok hO p0 v2) md_J5_leftOf q1365 q1366 dJ5_fixAfterDeletion_266 rfl rfl (by decide) (Nat.le_of_ble_eq_true rfl) (n := 269) rfl (fun x20 p19 => ?_)
  refine x_callS_I [va_rf x20] [] (f_J5_colorOf_ok hO p19 x20) md_J5_colorOf q1371 q1372 dJ5_fixAfterDeletion_269 rfl rfl (by decide) (Nat.le_of_ble_eq_true rfl) (n := 272) rfl (fun x22 p21 => ?_)
  refine x_iconst 1 dJ5_fixAfterDeletion_272 rfl (n := 273) rfl ?_
  refine x_icmp_ne dJ5_fixAfterDeletion_273 (t := 302) (by decide) (n := 276) rfl (fun _ => ?_) (fun _ => ?_)
  · exact f_J5_fixAfterDeletion_302_ok hO a0 hk0 v1 v2 p21
  · refine x_aload_n 2 dJ5_fixAfterDeletion_276 rfl rfl (n := 277) rfl ?_
    refine x_callS_R [va_rf v2] [] (f_J5_rightOf_ok hO p21 v2) md_J5_rightOf q1368 q1369 dJ5_fixAfterDeletion_277 rfl rfl (by decide) (Nat.le_of_ble_eq_true rfl) (n := 280) rfl (fun x39 p38 => ?_)
    refine x_iconst 1 dJ5_fixAfterDeletion_280 rfl (n := 281) rfl ?_
    refine x_callS_V [va_rf x39, .int 1] [] (f_J5_setColor_ok hO p38 x39 1) md_J5_setColor q1374 q1375 dJ5_fixAfterDeletion_281 rfl rfl (by decide) (Nat.le_of_ble_eq_true rfl) (n := 284) rfl (fun p40 => ?_)
    refine x_aload_n 2 dJ5_fixAfterDeletion_284 rfl rfl (n := 285) rfl ?_
    refine x_iconst 0 dJ5_fixAfterDeletion_285 rfl (n := 286) rfl ?_
    refine x_callS_V [va_rf v2, .int 0] [] (f_J5_setColor_ok hO p40 v2 0) md_J5_setColor q1374 q1375 dJ5_fixAfterDeletion_286 rfl rfl (by decide) (Nat.le_of_ble_eq_true rfl) (n := 289) rfl (fun p41 => ?_)
    refine x_aload_nr 0 dJ5_fixAfterDeletion_289 rfl rfl (n := 290) rfl ?_
    refine x_aload_n 2 dJ5_fixAfterDeletion_290 rfl rfl (n := 291) rfl ?_
    refine x_callV_V [va_rf v2] [] (f_J5_rotateLeft_ok hO p41 a0 v2) rc_J5_rotateLeft md_J5_rotateLeft rfl q1377 q1379 qs21 dJ5_fixAfterDeletion_291 rfl rfl (by decide) (Nat.le_of_ble_eq_true rfl) (n := 294) rfl (fun p42 => ?_)
    refine x_aload_n 1 dJ5_fixAfterDeletion_294 rfl rfl (n := 295) rfl ?_
    refine x_callS_R [va_rf v1] [] (f_J5_parentOf_ok hO p42 v1) md_J5_parentOf q1362 q1363 dJ5_fixAfterDeletion_295 rfl rfl (by decide) (Nat.le_of_ble_eq_true rfl) (n := 298) rfl (fun x44 p43 => ?_)
    refine x_callS_R [va_rf x44] [] (f_J5_leftOf_ok hO p43 x44) md_J5_leftOf q1365 q1366 dJ5_fixAfterDeletion_298 rfl rfl (by decide) (Nat.le_of_ble_eq_true rfl) (n := 301) rfl (fun x46 p45 => ?_)
    refine x_astore_n [(2, va_rf x46), (0, .ref a0), (1, va_rf v1)] dJ5_fixAfterDeletion_301 rfl (by decide) (by simp only [xst, List.filter_cons, List.filter_nil, xcat] <;> rfl) (n := 302) rfl ?_
    refine x_sub [1, 2, 0] [(0, .ref a0), (1, va_rf v1), (2, va_rf x46)] rfl ?_
    exact f_J5_fixAfterDeletion_302_ok hO a0 hk0 v1 x46 p45
theorem f_J5_fixAfterDeletion_230_ok {G : xG} (hO : xOK G) (a0 : Nat) {k0 : Option Nat × PH → Option (xO × PH)} (hk0 : ∀ (v1 : Option Nat) (p0 : PH), X G "java/util/TreeMap" "fixAfterDeletion" cJ5_fixAfterDeletion 3 (Option.none : Option Jvm.ClassFile.FieldType) 1 0 [(0, .ref a0), (1, va_rf v1)] [] p0 (k0 (v1, p0))) (v1 : Option Nat) (v2 : Option Nat) (p0 : PH) : X G "java/util/TreeMap" "fixAfterDeletion" cJ5_fixAfterDeletion 3 (Option.none : Option Jvm.ClassFile.FieldType) 1 230 [(0, .ref a0), (1, va_rf v1), (2, va_rf v2)] [] p0 (f_J5_fixAfterDeletion_230 a0 k0 v1 v2 p0) := by
  unfold f_J5_fixAfterDeletion_230
  refine x_aload_n 2 dJ5_fixAfterDeletion_230 rfl rfl (n := 231) rfl ?_
  refine x_callS_R [va_rf v2] [] (f_J5_rightOf_ok hO p0 v2) md_J5_rightOf q1368 q1369 dJ5_fixAfterDeletion_231 rfl rfl (by decide) (Nat.le_of_ble_eq_true rfl) (n := 234) rfl (fun x16 p15 => ?_)
  refine x_callS_I [va_rf x16] [] (f_J5_colorOf_ok hO p15 x16) md_J5_colorOf q1371 q1372 dJ5_fixAfterDeletion_234 rfl rfl (by decide) (Nat.le_of_ble_eq_true rfl) (n := 237) rfl (fun x18 p17 => ?_)
  refine x_iconst 1 dJ5_fixAfterDeletion_237 rfl (n := 238) rfl ?_
  refine x_icmp_ne dJ5_fixAfterDeletion_238 (t := 265) (by decide) (n := 241) rfl (fun _ => ?_) (fun _ => ?_)
  · exact f_J5_fixAfterDeletion_265_ok hO a0 hk0 v1 v2 p17
  · refine x_aload_n 2 dJ5_fixAfterDeletion_241 rfl rfl (n := 242) rfl ?_
    refine x_callS_R [va_rf v2] [] (f_J5_leftOf_ok hO p17 v2) md_J5_leftOf q1365 q1366 dJ5_fixAfterDeletion_242 rfl rfl (by decide) (Nat.le_of_ble_eq_true rfl) (n := 245) rfl (fun x48 p47 => ?_)
    refine x_callS_I [va_rf x48] [] (f_J5_colorOf_ok hO p47 x48) md_J5_colorOf q1371 q1372 dJ5_fixAfterDeletion_245 rfl rfl (by decide) (Nat.le_of_ble_eq_true rfl) (n := 248) rfl (fun x50 p49 => ?_)
    refine x_iconst 1 dJ5_fixAfterDeletion_248 rfl (n := 249) rfl ?_
    refine x_icmp_ne dJ5_fixAfterDeletion_249 (t := 265) (by decide) (n := 252) rfl (fun _ => ?_) (fun _ => ?_)
    · exact f_J5_fixAfterDeletion_265_ok hO a0 hk0 v1 v2 p49
    · refine x_aload_n 2 dJ5_fixAfterDeletion_252 rfl rfl (n := 253) rfl ?_
      refine x_iconst 0 dJ5_fixAfterDeletion_253 rfl (n := 254) rfl ?_
      refine x_callS_V [va_rf v2, .int 0] [] (f_J5_setColor_ok hO p49 v2 0) md_J5_setColor q1374 q1375 dJ5_fixAfterDeletion_254 rfl rfl (by decide) (Nat.le_of_ble_eq_true rfl) (n := 257) rfl (fun p51 => ?_)
      refine x_aload_n 1 dJ5_fixAfterDeletion_257 rfl rfl (n := 258) rfl ?_
      refine x_callS_R [va_rf v1] [] (f_J5_parentOf_ok hO p51 v1) md_J5_parentOf q1362 q1363 dJ5_fixAfterDeletion_258 rfl rfl (by decide) (Nat.le_of_ble_eq_true rfl) (n := 261) rfl (fun x53 p52 => ?_)
      refine x_astore_n [(1, va_rf x53), (0, .ref a0), (2, va_rf v2)] dJ5_fixAfterDeletion_261 rfl (by decide) rfl (n := 262) rfl ?_
      refine x_goto dJ5_fixAfterDeletion_262 (n := 342) (by decide) ?_
      refine x_sub [1, 0] [(0, .ref a0), (1, va_rf x53)] rfl ?_
      exact f_J5_fixAfterDeletion_342_ok hO a0 hk0 x53 p52
theorem f_J5_fixAfterDeletion_183_ok {G : xG} (hO : xOK G) (a0 : Nat) {k0 : Option Nat × PH → Option (xO × PH)} (hk0 : ∀ (v1 : Option Nat) (p0 : PH), X G "java/util/TreeMap" "fixAfterDeletion" cJ5_fixAfterDeletion 3 (Option.none : Option Jvm.ClassFile.FieldType) 1 0 [(0, .ref a0), (1, va_rf v1)] [] p0 (k0 (v1, p0))) (v1 : Option Nat) (p0 : PH) : X G "java/util/TreeMap" "fixAfterDeletion" cJ5_fixAfterDeletion 3 (Option.none : Option Jvm.ClassFile.FieldType) 1 183 [(0, .ref a0), (1, va_rf v1)] [] p0 (f_J5_fixAfterDeletion_183 a0 k0 v1 p0) := by
  unfold f_J5_fixAfterDeletion_183
  refine x_goto dJ5_fixAfterDeletion_183 (n := 0) (by decide) ?_
  exact hk0 v1 p0
theorem f_J5_fixAfterDeletion_143_ok {G : xG} (hO : xOK G) (a0 : Nat) {k0 : Option Nat × PH → Option (xO × PH)} (hk0 : ∀ (v1 : Option Nat) (p0 : PH), X G "java/util/TreeMap" "fixAfterDeletion" cJ5_fixAfterDeletion 3 (Option.none : Option Jvm.ClassFile.FieldType) 1 0 [(0, .ref a0), (1, va_rf v1)] [] p0 (k0 (v1, p0))) (v1 : Option Nat) (v2 : Option Nat) (p0 : PH) : X G "java/util/TreeMap" "fixAfterDeletion" cJ5_fixAfterDeletion 3 (Option.none : Option Jvm.ClassFile.FieldType) 1 143 [(0, .ref a0), (1, va_rf v1), (2, va_rf v2)] [] p0 (f_J5_fixAfterDeletion_143 a0 k0 v1 v2 p0) := by
  unfold f_J5_fixAfterDeletion_143
  refine x_aload_n 2 dJ5_fixAfterDeletion_143 rfl rfl (n := 144) rfl ?_
  refine x_aload_n 1 dJ5_fixAfterDeletion_144 rfl rfl (n := 145) rfl ?_
  refine x_callS_R [va_rf v1] [va_rf v2] (f_J5_parentOf_ok hO p0 v1) md_J5_parentOf q1362 q1363 dJ5_fixAfterDeletion_145 rfl rfl (by decide) (by simp only [List.map, xcat]; exact Nat.le_of_ble_eq_true rfl) (n := 148) rfl (fun x80 p79 => ?_)
  refine x_callS_I [va_rf x80] [va_rf v2] (f_J5_colorOf_ok hO p79 x80) md_J5_colorOf q1371 q1372 dJ5_fixAfterDeletion_148 rfl rfl (by decide) (by simp only [List.map, xcat]; exact Nat.le_of_ble_eq_true rfl) (n := 151) rfl (fun x82 p81 => ?_)
  refine x_callS_V [va_rf v2, .int x82] [] (f_J5_setColor_ok hO p81 v2 x82) md_J5_setColor q1374 q1375 dJ5_fixAfterDeletion_151 rfl rfl (by decide) (Nat.le_of_ble_eq_true rfl) (n := 154) rfl (fun p83 => ?_)
  refine x_aload_n 1 dJ5_fixAfterDeletion_154 rfl rfl (n := 155) rfl ?_
  refine x_callS_R [va_rf v1] [] (f_J5_parentOf_ok hO p83 v1) md_J5_parentOf q1362 q1363 dJ5_fixAfterDeletion_155 rfl rfl (by decide) (Nat.le_of_ble_eq_true rfl) (n := 158) rfl (fun x85 p84 => ?_)
  refine x_iconst 1 dJ5_fixAfterDeletion_158 rfl (n := 159) rfl ?_
  refine x_callS_V [va_rf x85, .int 1] [] (f_J5_setColor_ok hO p84 x85 1) md_J5_setColor q1374 q1375 dJ5_fixAfterDeletion_159 rfl rfl (by decide) (Nat.le_of_ble_eq_true rfl) (n := 162) rfl (fun p86 => ?_)
  refine x_aload_n 2 dJ5_fixAfterDeletion_162 rfl rfl (n := 163) rfl ?_
  refine x_callS_R [va_rf v2] [] (f_J5_rightOf_ok hO p86 v2) md_J5_rightOf q1368 q1369 dJ5_fixAfterDeletion_163 rfl rfl (by decide) (Nat.le_of_ble_eq_true rfl) (n := 166) rfl (fun x88 p87 => ?_)
  refine x_iconst 1 dJ5_fixAfterDeletion_166 rfl (n := 167) rfl ?_
  refine x_callS_V [va_rf x88, .int 1] [] (f_J5_setColor_ok hO p87 x88 1) md_J5_setColor q1374 q1375 dJ5_fixAfterDeletion_167 rfl rfl (by decide) (Nat.le_of_ble_eq_true rfl) (n := 170) rfl (fun p89 => ?_)
  refine x_aload_nr 0 dJ5_fixAfterDeletion_170 rfl rfl (n := 171) rfl ?_
  refine x_aload_n 1 dJ5_fixAfterDeletion_171 rfl rfl (n := 172) rfl ?_
  refine x_callS_R [va_rf v1] [.ref a0] (f_J5_parentOf_ok hO p89 v1) md_J5_parentOf q1362 q1363 dJ5_fixAfterDeletion_172 rfl rfl (by decide) (Nat.le_of_ble_eq_true rfl) (n := 175) rfl (fun x91 p90 => ?_)
  refine x_callV_V [va_rf x91] [] (f_J5_rotateLeft_ok hO p90 a0 x91) rc_J5_rotateLeft md_J5_rotateLeft rfl q1377 q1379 qs21 dJ5_fixAfterDeletion_175 rfl rfl (by decide) (Nat.le_of_ble_eq_true rfl) (n := 178) rfl (fun p92 => ?_)
  refine x_aload_nr 0 dJ5_fixAfterDeletion_178 rfl rfl (n := 179) rfl ?_
  refine x_getR fl_J5_101 dJ5_fixAfterDeletion_179 (n := 182) rfl (fun x93 => ?_)
  refine x_astore_n [(1, va_rf x93), (0, .ref a0), (2, va_rf v2)] dJ5_fixAfterDeletion_182 rfl (by decide) rfl (n := 183) rfl ?_
  refine x_sub [1, 0] [(0, .ref a0), (1, va_rf x93)] rfl ?_
  exact f_J5_fixAfterDeletion_183_ok hO a0 hk0 x93 p92
theorem f_J5_fixAfterDeletion_106_ok {G : xG} (hO : xOK G) (a0 : Nat) {k0 : Option Nat × PH → Option (xO × PH)} (hk0 : ∀ (v1 : Option Nat) (p0 : PH), X G "java/util/TreeMap" "fixAfterDeletion" cJ5_fixAfterDeletion 3 (Option.none : Option Jvm.ClassFile.FieldType) 1 0 [(0, .ref a0), (1, va_rf v1)] [] p0 (k0 (v1, p0))) (v1 : Option Nat) (v2 : Option Nat) (p0 : PH) : X G "java/util/TreeMap" "fixAfterDeletion" cJ5_fixAfterDeletion 3 (Option.none : Option Jvm.ClassFile.FieldType) 1 106 [(0, .ref a0), (1, va_rf v1), (2, va_rf v2)] [] p0 (f_J5_fixAfterDeletion_106 a0 k0 v1 v2 p0) := by
  unfold f_J5_fixAfterDeletion_106
  refine x_aload_n 2 dJ5_fixAfterDeletion_106 rfl rfl (n := 107) rfl ?_
  refine x_callS_R [va_rf v2] [] (f_J5_rightOf_ok hO p0 v2) md_J5_rightOf q1368 q1369 dJ5_fixAfterDeletion_107 rfl rfl (by decide) (Nat.le_of_ble_eq_true rfl) (n := 110) rfl (fun x76 p75 => ?_)
  refine x_callS_I [va_rf x76] [] (f_J5_colorOf_ok hO p75 x76) md_J5_colorOf q1371 q1372 dJ5_fixAfterDeletion_110 rfl rfl (by decide) (Nat.le_of_ble_eq_true rfl) (n := 113) rfl (fun x78 p77 => ?_)
  refine x_iconst 1 dJ5_fixAfterDeletion_113 rfl (n := 114) rfl ?_
  refine x_icmp_ne dJ5_fixAfterDeletion_114 (t := 143) (by decide) (n := 117) rfl (fun _ => ?_) (fun _ => ?_)
  · exact f_J5_fixAfterDeletion_143_ok hO a0 hk0 v1 v2 p77
  · refine x_aload_n 2 dJ5_fixAfterDeletion_117 rfl rfl (n := 118) rfl ?_
    refine x_callS_R [va_rf v2] [] (f_J5_leftOf_ok hO p77 v2) md_J5_leftOf q1365 q1366 dJ5_fixAfterDeletion_118 rfl rfl (by decide) (Nat.le_of_ble_eq_true rfl) (n := 121) rfl (fun x95 p94 => ?_)
    refine x_iconst 1 dJ5_fixAfterDeletion_121 rfl (n := 122) rfl ?_
    refine x_callS_V [va_rf x95, .int 1] [] (f_J5_setColor_ok hO p94 x95 1) md_J5_setColor q1374 q1375 dJ5_fixAfterDeletion_122 rfl rfl (by decide) (Nat.le_of_ble_eq_true rfl) (n := 125) rfl (fun p96 => ?_)
    refine x_aload_n 2 dJ5_fixAfterDeletion_125 rfl rfl (n := 126) rfl ?_
    refine x_iconst 0 dJ5_fixAfterDeletion_126 rfl (n := 127) rfl ?_
    refine x_callS_V [va_rf v2, .int 0] [] (f_J5_setColor_ok hO p96 v2 0) md_J5_setColor q1374 q1375 dJ5_fixAfterDeletion_127 rfl rfl (by decide) (Nat.le_of_ble_eq_true rfl) (n := 130) rfl (fun p97 => ?_)
    refine x_aload_nr 0 dJ5_fixAfterDeletion_130 rfl rfl (n := 131) rfl ?_
    refine x_aload_n 2 dJ5_fixAfterDeletion_131 rfl rfl (n := 132) rfl ?_
    refine x_callV_V [va_rf v2] [] (f_J5_rotateRight_ok hO p97 a0 v2) rc_J5_rotateRight md_J5_rotateRight rfl q1381 q1383 qs22 dJ5_fixAfterDeletion_132 rfl rfl (by decide) (Nat.le_of_ble_eq_true rfl) (n := 135) rfl (fun p98 => ?_)
    refine x_aload_n 1 dJ5_fixAfterDeletion_135 rfl rfl (n := 136) rfl ?_
    refine x_callS_R [va_rf v1] [] (f_J5_parentOf_ok hO p98 v1) md_J5_parentOf q1362 q1363 dJ5_fixAfterDeletion_136 rfl rfl (by decide) (Nat.le_of_ble_eq_true rfl) (n := 139) rfl (fun x100 p99 => ?_)
    refine x_callS_R [va_rf x100] [] (f_J5_rightOf_ok hO p99 x100) md_J5_rightOf q1368 q1369 dJ5_fixAfterDeletion_139 rfl rfl (by decide) (Nat.le_of_ble_eq_true rfl) (n := 142) rfl (fun x102 p101 => ?_)
    refine x_astore_n [(2, va_rf x102), (0, .ref a0), (1, va_rf v1)] dJ5_fixAfterDeletion_142 rfl (by decide) (by simp only [xst, List.filter_cons, List.filter_nil, xcat] <;> rfl) (n := 143) rfl ?_
    refine x_sub [1, 2, 0] [(0, .ref a0), (1, va_rf v1), (2, va_rf x102)] rfl ?_
    exact f_J5_fixAfterDeletion_143_ok hO a0 hk0 v1 x102 p101
theorem f_J5_fixAfterDeletion_71_ok {G : xG} (hO : xOK G) (a0 : Nat) {k0 : Option Nat × PH → Option (xO × PH)} (hk0 : ∀ (v1 : Option Nat) (p0 : PH), X G "java/util/TreeMap" "fixAfterDeletion" cJ5_fixAfterDeletion 3 (Option.none : Option Jvm.ClassFile.FieldType) 1 0 [(0, .ref a0), (1, va_rf v1)] [] p0 (k0 (v1, p0))) (v1 : Option Nat) (v2 : Option Nat) (p0 : PH) : X G "java/util/TreeMap" "fixAfterDeletion" cJ5_fixAfterDeletion 3 (Option.none : Option Jvm.ClassFile.FieldType) 1 71 [(0, .ref a0), (1, va_rf v1), (2, va_rf v2)] [] p0 (f_J5_fixAfterDeletion_71 a0 k0 v1 v2 p0) := by
  unfold f_J5_fixAfterDeletion_71
  refine x_aload_n 2 dJ5_fixAfterDeletion_71 rfl rfl (n := 72) rfl ?_
  refine x_callS_R [va_rf v2] [] (f_J5_leftOf_ok hO p0 v2) md_J5_leftOf q1365 q1366 dJ5_fixAfterDeletion_72 rfl rfl (by decide) (Nat.le_of_ble_eq_true rfl) (n := 75) rfl (fun x72 p71 => ?_)
  refine x_callS_I [va_rf x72] [] (f_J5_colorOf_ok hO p71 x72) md_J5_colorOf q1371 q1372 dJ5_fixAfterDeletion_75 rfl rfl (by decide) (Nat.le_of_ble_eq_true rfl) (n := 78) rfl (fun x74 p73 => ?_)
  refine x_iconst 1 dJ5_fixAfterDeletion_78 rfl (n := 79) rfl ?_
  refine x_icmp_ne dJ5_fixAfterDeletion_79 (t := 106) (by decide) (n := 82) rfl (fun _ => ?_) (fun _ => ?_)
  · exact f_J5_fixAfterDeletion_106_ok hO a0 hk0 v1 v2 p73
  · refine x_aload_n 2 dJ5_fixAfterDeletion_82 rfl rfl (n := 83) rfl ?_
    refine x_callS_R [va_rf v2] [] (f_J5_rightOf_ok hO p73 v2) md_J5_rightOf q1368 q1369 dJ5_fixAfterDeletion_83 rfl rfl (by decide) (Nat.le_of_ble_eq_true rfl) (n := 86) rfl (fun x104 p103 => ?_)
    refine x_callS_I [va_rf x104] [] (f_J5_colorOf_ok hO p103 x104) md_J5_colorOf q1371 q1372 dJ5_fixAfterDeletion_86 rfl rfl (by decide) (Nat.le_of_ble_eq_true rfl) (n := 89) rfl (fun x106 p105 => ?_)
    refine x_iconst 1 dJ5_fixAfterDeletion_89 rfl (n := 90) rfl ?_
    refine x_icmp_ne dJ5_fixAfterDeletion_90 (t := 106) (by decide) (n := 93) rfl (fun _ => ?_) (fun _ => ?_)
    · exact f_J5_fixAfterDeletion_106_ok hO a0 hk0 v1 v2 p105
    · refine x_aload_n 2 dJ5_fixAfterDeletion_93 rfl rfl (n := 94) rfl ?_
      refine x_iconst 0 dJ5_fixAfterDeletion_94 rfl (n := 95) rfl ?_
      refine x_callS_V [va_rf v2, .int 0] [] (f_J5_setColor_ok hO p105 v2 0) md_J5_setColor q1374 q1375 dJ5_fixAfterDeletion_95 rfl rfl (by decide) (Nat.le_of_ble_eq_true rfl) (n := 98) rfl (fun p107 => ?_)
      refine x_aload_n 1 dJ5_fixAfterDeletion_98 rfl rfl (n := 99) rfl ?_
      refine x_callS_R [va_rf v1] [] (f_J5_parentOf_ok hO p107 v1) md_J5_parentOf q1362 q1363 dJ5_fixAfterDeletion_99 rfl rfl (by decide) (Nat.le_of_ble_eq_true rfl) (n := 102) rfl (fun x109 p108 => ?_)
      refine x_astore_n [(1, va_rf x109), (0, .ref a0), (2, va_rf v2)] dJ5_fixAfterDeletion_102 rfl (by decide) rfl (n := 103) rfl ?_
      refine x_goto dJ5_fixAfterDeletion_103 (n := 183) (by decide) ?_
      refine x_sub [1, 0] [(0, .ref a0), (1, va_rf x109)] rfl ?_
      exact f_J5_fixAfterDeletion_183_ok hO a0 hk0 x109 p108
theorem f_J5_fixAfterDeletion_0F_ok {G : xG} (hO : xOK G) (a0 : Nat)  {k0 : Option Nat × PH → Option (xO × PH)} (hk0 : ∀ (v1 : Option Nat) (p0 : PH), X G "java/util/TreeMap" "fixAfterDeletion" cJ5_fixAfterDeletion 3 (Option.none : Option Jvm.ClassFile.FieldType) 1 0 [(0, .ref a0), (1, va_rf v1)] [] p0 (k0 (v1, p0))) (v1 : Option Nat) (p0 : PH) : X G "java/util/TreeMap" "fixAfterDeletion" cJ5_fixAfterDeletion 3 (Option.none : Option Jvm.ClassFile.FieldType) 1 0 [(0, .ref a0), (1, va_rf v1)] [] p0 (f_J5_fixAfterDeletion_0F a0 k0 (v1, p0)) := by
  unfold f_J5_fixAfterDeletion_0F
  refine x_aload_n 1 dJ5_fixAfterDeletion_0 rfl rfl (n := 1) rfl ?_
  refine x_aload_nr 0 dJ5_fixAfterDeletion_1 rfl rfl (n := 2) rfl ?_
  refine x_getR fl_J5_101 dJ5_fixAfterDeletion_2 (n := 5) rfl (fun x1 => ?_)
  refine x_acmp_eq (x := v1) (y := x1) dJ5_fixAfterDeletion_5 (t := 345) (by decide) (n := 8) rfl (fun _ => ?_) (fun _ => ?_)
  · refine x_sub [1] [(1, va_rf v1)] rfl ?_
    exact f_J5_fixAfterDeletion_345_ok hO a0 v1 p0
  · refine x_aload_n 1 dJ5_fixAfterDeletion_8 rfl rfl (n := 9) rfl ?_
    refine x_callS_I [va_rf v1] [] (f_J5_colorOf_ok hO p0 v1) md_J5_colorOf q1371 q1372 dJ5_fixAfterDeletion_9 rfl rfl (by decide) (Nat.le_of_ble_eq_true rfl) (n := 12) rfl (fun x4 p3 => ?_)
    refine x_iconst 1 dJ5_fixAfterDeletion_12 rfl (n := 13) rfl ?_
    refine x_icmp_ne dJ5_fixAfterDeletion_13 (t := 345) (by decide) (n := 16) rfl (fun _ => ?_) (fun _ => ?_)
    · refine x_sub [1] [(1, va_rf v1)] rfl ?_
      exact f_J5_fixAfterDeletion_345_ok hO a0 v1 p3
    · refine x_aload_n 1 dJ5_fixAfterDeletion_16 rfl rfl (n := 17) rfl ?_
      refine x_aload_n 1 dJ5_fixAfterDeletion_17 rfl rfl (n := 18) rfl ?_
      refine x_callS_R [va_rf v1] [va_rf v1] (f_J5_parentOf_ok hO p3 v1) md_J5_parentOf q1362 q1363 dJ5_fixAfterDeletion_18 rfl rfl (by decide) (by simp only [List.map, xcat]; exact Nat.le_of_ble_eq_true rfl) (n := 21) rfl (fun x6 p5 => ?_)
      refine x_callS_R [va_rf x6] [va_rf v1] (f_J5_leftOf_ok hO p5 x6) md_J5_leftOf q1365 q1366 dJ5_fixAfterDeletion_21 rfl rfl (by decide) (by simp only [List.map, xcat]; exact Nat.le_of_ble_eq_true rfl) (n := 24) rfl (fun x8 p7 => ?_)
      refine x_acmp_ne (x := v1) (y := x8) dJ5_fixAfterDeletion_24 (t := 186) (by decide) (n := 27) rfl (fun _ => ?_) (fun _ => ?_)
      · refine x_aload_n 1 dJ5_fixAfterDeletion_186 rfl rfl (n := 187) rfl ?_
        refine x_callS_R [va_rf v1] [] (f_J5_parentOf_ok hO p7 v1) md_J5_parentOf q1362 q1363 dJ5_fixAfterDeletion_187 rfl rfl (by decide) (Nat.le_of_ble_eq_true rfl) (n := 190) rfl (fun x10 p9 => ?_)
        refine x_callS_R [va_rf x10] [] (f_J5_leftOf_ok hO p9 x10) md_J5_leftOf q1365 q1366 dJ5_fixAfterDeletion_190 rfl rfl (by decide) (Nat.le_of_ble_eq_true rfl) (n := 193) rfl (fun x12 p11 => ?_)
        refine x_astore_n [(2, va_rf x12), (0, .ref a0), (1, va_rf v1)] dJ5_fixAfterDeletion_193 rfl (by decide) (by simp only [xst, List.filter_cons, List.filter_nil, xcat] <;> rfl) (n := 194) rfl ?_
        refine x_aload_n 0 dJ5_fixAfterDeletion_194 rfl rfl (n := 195) rfl ?_
        refine x_callS_I [va_rf x12] [] (f_J5_colorOf_ok hO p11 x12) md_J5_colorOf q1371 q1372 dJ5_fixAfterDeletion_195 rfl rfl (by decide) (Nat.le_of_ble_eq_true rfl) (n := 198) rfl (fun x14 p13 => ?_)
        refine x_if_ne dJ5_fixAfterDeletion_198 (t := 230) (by decide) (n := 201) rfl (fun _ => ?_) (fun _ => ?_)
        · refine x_sub [1, 2, 0] [(0, .ref a0), (1, va_rf v1), (2, va_rf x12)] rfl ?_
          exact f_J5_fixAfterDeletion_230_ok hO a0 hk0 v1 x12 p13
        · refine x_aload_n 0 dJ5_fixAfterDeletion_201 rfl rfl (n := 202) rfl ?_
          refine x_iconst 1 dJ5_fixAfterDeletion_202 rfl (n := 203) rfl ?_
          refine x_callS_V [va_rf x12, .int 1] [] (f_J5_setColor_ok hO p13 x12 1) md_J5_setColor q1374 q1375 dJ5_fixAfterDeletion_203 rfl rfl (by decide) (Nat.le_of_ble_eq_true rfl) (n := 206) rfl (fun p54 => ?_)
          refine x_aload_n 2 dJ5_fixAfterDeletion_206 rfl rfl (n := 207) rfl ?_
          refine x_callS_R [va_rf v1] [] (f_J5_parentOf_ok hO p54 v1) md_J5_parentOf q1362 q1363 dJ5_fixAfterDeletion_207 rfl rfl (by decide) (Nat.le_of_ble_eq_true rfl) (n := 210) rfl (fun x56 p55 => ?_)
          refine x_iconst 0 dJ5_fixAfterDeletion_210 rfl (n := 211) rfl ?_
          refine x_callS_V [va_rf x56, .int 0] [] (f_J5_setColor_ok hO p55 x56 0) md_J5_setColor q1374 q1375 dJ5_fixAfterDeletion_211 rfl rfl (by decide) (Nat.le_of_ble_eq_true rfl) (n := 214) rfl (fun p57 => ?_)
          refine x_aload_nr 1 dJ5_fixAfterDeletion_214 rfl rfl (n := 215) rfl ?_
          refine x_aload_n 2 dJ5_fixAfterDeletion_215 rfl rfl (n := 216) rfl ?_
          refine x_callS_R [va_rf v1] [.ref a0] (f_J5_parentOf_ok hO p57 v1) md_J5_parentOf q1362 q1363 dJ5_fixAfterDeletion_216 rfl rfl (by decide) (Nat.le_of_ble_eq_true rfl) (n := 219) rfl (fun x59 p58 => ?_)
          refine x_callV_V [va_rf x59] [] (f_J5_rotateRight_ok hO p58 a0 x59) rc_J5_rotateRight md_J5_rotateRight rfl q1381 q1383 qs22 dJ5_fixAfterDeletion_219 rfl rfl (by decide) (Nat.le_of_ble_eq_true rfl) (n := 222) rfl (fun p60 => ?_)
          refine x_aload_n 2 dJ5_fixAfterDeletion_222 rfl rfl (n := 223) rfl ?_
          refine x_callS_R [va_rf v1] [] (f_J5_parentOf_ok hO p60 v1) md_J5_parentOf q1362 q1363 dJ5_fixAfterDeletion_223 rfl rfl (by decide) (Nat.le_of_ble_eq_true rfl) (n := 226) rfl (fun x62 p61 => ?_)
          refine x_callS_R [va_rf x62] [] (f_J5_leftOf_ok hO p61 x62) md_J5_leftOf q1365 q1366 dJ5_fixAfterDeletion_226 rfl rfl (by decide) (Nat.le_of_ble_eq_true rfl) (n := 229) rfl (fun x64 p63 => ?_)
          refine x_astore_n [(2, va_rf x64), (0, .ref a0), (1, va_rf v1)] dJ5_fixAfterDeletion_229 rfl (by decide) (by simp only [xst, List.filter_cons, List.filter_nil, xcat] <;> rfl) (n := 230) rfl ?_
          refine x_sub [1, 2, 0] [(0, .ref a0), (1, va_rf v1), (2, va_rf x64)] rfl ?_
          exact f_J5_fixAfterDeletion_230_ok hO a0 hk0 v1 x64 p63
      · refine x_aload_n 1 dJ5_fixAfterDeletion_27 rfl rfl (n := 28) rfl ?_
        refine x_callS_R [va_rf v1] [] (f_J5_parentOf_ok hO p7 v1) md_J5_parentOf q1362 q1363 dJ5_fixAfterDeletion_28 rfl rfl (by decide) (Nat.le_of_ble_eq_true rfl) (n := 31) rfl (fun x66 p65 => ?_)
        refine x_callS_R [va_rf x66] [] (f_J5_rightOf_ok hO p65 x66) md_J5_rightOf q1368 q1369 dJ5_fixAfterDeletion_31 rfl rfl (by decide) (Nat.le_of_ble_eq_true rfl) (n := 34) rfl (fun x68 p67 => ?_)
        refine x_astore_n [(2, va_rf x68), (0, .ref a0), (1, va_rf v1)] dJ5_fixAfterDeletion_34 rfl (by decide) (by simp only [xst, List.filter_cons, List.filter_nil, xcat] <;> rfl) (n := 35) rfl ?_
        refine x_aload_n 0 dJ5_fixAfterDeletion_35 rfl rfl (n := 36) rfl ?_
        refine x_callS_I [va_rf x68] [] (f_J5_colorOf_ok hO p67 x68) md_J5_colorOf q1371 q1372 dJ5_fixAfterDeletion_36 rfl rfl (by decide) (Nat.le_of_ble_eq_true rfl) (n := 39) rfl (fun x70 p69 => ?_)
        refine x_if_ne dJ5_fixAfterDeletion_39 (t := 71) (by decide) (n := 42) rfl (fun _ => ?_) (fun _ => ?_)
        · refine x_sub [1, 2, 0] [(0, .ref a0), (1, va_rf v1), (2, va_rf x68)] rfl ?_
          exact f_J5_fixAfterDeletion_71_ok hO a0 hk0 v1 x68 p69
        · refine x_aload_n 0 dJ5_fixAfterDeletion_42 rfl rfl (n := 43) rfl ?_
          refine x_iconst 1 dJ5_fixAfterDeletion_43 rfl (n := 44) rfl ?_
          refine x_callS_V [va_rf x68, .int 1] [] (f_J5_setColor_ok hO p69 x68 1) md_J5_setColor q1374 q1375 dJ5_fixAfterDeletion_44 rfl rfl (by decide) (Nat.le_of_ble_eq_true rfl) (n := 47) rfl (fun p110 => ?_)
          refine x_aload_n 2 dJ5_fixAfterDeletion_47 rfl rfl (n := 48) rfl ?_
          refine x_callS_R [va_rf v1] [] (f_J5_parentOf_ok hO p110 v1) md_J5_parentOf q1362 q1363 dJ5_fixAfterDeletion_48 rfl rfl (by decide) (Nat.le_of_ble_eq_true rfl) (n := 51) rfl (fun x112 p111 => ?_)
          refine x_iconst 0 dJ5_fixAfterDeletion_51 rfl (n := 52) rfl ?_
          refine x_callS_V [va_rf x112, .int 0] [] (f_J5_setColor_ok hO p111 x112 0) md_J5_setColor q1374 q1375 dJ5_fixAfterDeletion_52 rfl rfl (by decide) (Nat.le_of_ble_eq_true rfl) (n := 55) rfl (fun p113 => ?_)
          refine x_aload_nr 1 dJ5_fixAfterDeletion_55 rfl rfl (n := 56) rfl ?_
          refine x_aload_n 2 dJ5_fixAfterDeletion_56 rfl rfl (n := 57) rfl ?_
          refine x_callS_R [va_rf v1] [.ref a0] (f_J5_parentOf_ok hO p113 v1) md_J5_parentOf q1362 q1363 dJ5_fixAfterDeletion_57 rfl rfl (by decide) (Nat.le_of_ble_eq_true rfl) (n := 60) rfl (fun x115 p114 => ?_)
          refine x_callV_V [va_rf x115] [] (f_J5_rotateLeft_ok hO p114 a0 x115) rc_J5_rotateLeft md_J5_rotateLeft rfl q1377 q1379 qs21 dJ5_fixAfterDeletion_60 rfl rfl (by decide) (Nat.le_of_ble_eq_true rfl) (n := 63) rfl (fun p116 => ?_)
          refine x_aload_n 2 dJ5_fixAfterDeletion_63 rfl rfl (n := 64) rfl ?_
          refine x_callS_R [va_rf v1] [] (f_J5_parentOf_ok hO p116 v1) md_J5_parentOf q1362 q1363 dJ5_fixAfterDeletion_64 rfl rfl (by decide) (Nat.le_of_ble_eq_true rfl) (n := 67) rfl (fun x118 p117 => ?_)
          refine x_callS_R [va_rf x118] [] (f_J5_rightOf_ok hO p117 x118) md_J5_rightOf q1368 q1369 dJ5_fixAfterDeletion_67 rfl rfl (by decide) (Nat.le_of_ble_eq_true rfl) (n := 70) rfl (fun x120 p119 => ?_)
          refine x_astore_n [(2, va_rf x120), (0, .ref a0), (1, va_rf v1)] dJ5_fixAfterDeletion_70 rfl (by decide) (by simp only [xst, List.filter_cons, List.filter_nil, xcat] <;> rfl) (n := 71) rfl ?_
          refine x_sub [1, 2, 0] [(0, .ref a0), (1, va_rf v1), (2, va_rf x120)] rfl ?_
          exact f_J5_fixAfterDeletion_71_ok hO a0 hk0 v1 x120 p119
theorem f_J5_fixAfterDeletion_0_lp {G : xG} (hO : xOK G) (a0 : Nat)  (n : Nat) (v1 : Option Nat) (p0 : PH) : X G "java/util/TreeMap" "fixAfterDeletion" cJ5_fixAfterDeletion 3 (Option.none : Option Jvm.ClassFile.FieldType) 1 0 [(0, .ref a0), (1, va_rf v1)] [] p0 (lp (f_J5_fixAfterDeletion_0F a0) n (v1, p0)) :=
  lp_ok (W := fun p K => X G "java/util/TreeMap" "fixAfterDeletion" cJ5_fixAfterDeletion 3 (Option.none : Option Jvm.ClassFile.FieldType) 1 0 [(0, .ref a0), (1, va_rf p.1)] [] p.2 K) (fun _ => x_no) (fun k hk => fun (v1, p0) => f_J5_fixAfterDeletion_0F_ok hO a0 (fun v1 p0 => hk (v1, p0)) v1 p0) n (v1, p0)
theorem f_J5_fixAfterDeletion_ok {G : xG} (hO : xOK G) (p0 : PH) (a0 : Nat) (a1 : Option Nat) : CT G 1 yJ5_fixAfterDeletion cJ5_fixAfterDeletion 3 (Option.none : Option Jvm.ClassFile.FieldType) [.ref a0, va_rf a1] p0 (f_J5_fixAfterDeletion p0 a0 a1) := by
  refine CT_of hO (by decide +kernel) (by decide +kernel) (lg_slen _ (by simp only [List.map, xcat]; exact Nat.le_of_ble_eq_true rfl)) ?_
  rw [show lv_args 0 [.ref a0, va_rf a1] = [(0, .ref a0), (1, va_rf a1)] from by simp only [lv_args, xcat] <;> rfl]
  show X G "java/util/TreeMap" "fixAfterDeletion" cJ5_fixAfterDeletion 3 (Option.none : Option Jvm.ClassFile.FieldType) 1 0 [(0, .ref a0), (1, va_rf a1)] [] p0 (f_J5_fixAfterDeletion p0 a0 a1)
  refine x_cl1 (fun e0 => ?_)
  exact f_J5_fixAfterDeletion_0_lp hO a0 FU a1 p0
abbrev cJ5_deleteEntry : ByteArray := prog_77_method_84_code
def yJ5_deleteEntry : MethodName := ⟨RJ5, "deleteEntry", "(Ljava/util/TreeMap$Entry;)V"⟩
def dkwJ5_deleteEntry_10 : List UInt8 := [180, 0, 124, 1, 181, 0, 114, 43, 1, 181, 0, 124, 177]
abbrev dktJ5_deleteEntry_10 : List UInt8 := dkwJ5_deleteEntry_10 ++ []
def dkwJ5_deleteEntry_9 : List UInt8 := [180, 0, 124, 1, 181, 0, 111, 167, 0, 22, 43, 43, 180, 0, 124, 180, 0, 114, 166, 0, 11, 43]
abbrev dktJ5_deleteEntry_9 : List UInt8 := dkwJ5_deleteEntry_9 ++ dktJ5_deleteEntry_10
def dkwJ5_deleteEntry_8 : List UInt8 := [182, 1, 61, 43, 180, 0, 124, 198, 0, 49, 43, 43, 180, 0, 124, 180, 0, 111, 166, 0, 14, 43]
abbrev dktJ5_deleteEntry_8 : List UInt8 := dkwJ5_deleteEntry_8 ++ dktJ5_deleteEntry_9
def dkwJ5_deleteEntry_7 : List UInt8 := [180, 0, 124, 199, 0, 11, 42, 1, 181, 0, 101, 167, 0, 69, 43, 180, 1, 34, 4, 160, 0, 8, 42, 43]
abbrev dktJ5_deleteEntry_7 : List UInt8 := dkwJ5_deleteEntry_7 ++ dktJ5_deleteEntry_8
def dkwJ5_deleteEntry_6 : List UInt8 := [181, 0, 114, 181, 0, 111, 43, 180, 1, 34, 4, 160, 0, 92, 42, 44, 182, 1, 61, 167, 0, 84, 43]
abbrev dktJ5_deleteEntry_6 : List UInt8 := dkwJ5_deleteEntry_6 ++ dktJ5_deleteEntry_7
def dkwJ5_deleteEntry_5 : List UInt8 := [181, 0, 111, 167, 0, 11, 43, 180, 0, 124, 44, 181, 0, 114, 43, 43, 43, 1, 90, 181, 0, 124, 90]
abbrev dktJ5_deleteEntry_5 : List UInt8 := dkwJ5_deleteEntry_5 ++ dktJ5_deleteEntry_6
def dkwJ5_deleteEntry_4 : List UInt8 := [44, 181, 0, 101, 167, 0, 33, 43, 43, 180, 0, 124, 180, 0, 111, 166, 0, 14, 43, 180, 0, 124, 44]
abbrev dktJ5_deleteEntry_4 : List UInt8 := dkwJ5_deleteEntry_4 ++ dktJ5_deleteEntry_5
def dkwJ5_deleteEntry_3 : List UInt8 := [180, 0, 114, 77, 44, 198, 0, 87, 44, 43, 180, 0, 124, 181, 0, 124, 43, 180, 0, 124, 199, 0, 11, 42]
abbrev dktJ5_deleteEntry_3 : List UInt8 := dkwJ5_deleteEntry_3 ++ dktJ5_deleteEntry_4
def dkwJ5_deleteEntry_2 : List UInt8 := [44, 180, 0, 58, 181, 0, 58, 44, 76, 43, 180, 0, 111, 198, 0, 10, 43, 180, 0, 111, 167, 0, 7, 43]
abbrev dktJ5_deleteEntry_2 : List UInt8 := dkwJ5_deleteEntry_2 ++ dktJ5_deleteEntry_3
def dkwJ5_deleteEntry_1 : List UInt8 := [198, 0, 33, 43, 180, 0, 114, 198, 0, 26, 43, 184, 0, 68, 77, 43, 44, 180, 0, 105, 181, 0, 105, 43]
abbrev dktJ5_deleteEntry_1 : List UInt8 := dkwJ5_deleteEntry_1 ++ dktJ5_deleteEntry_2
def dkwJ5_deleteEntry_0 : List UInt8 := [42, 89, 180, 0, 13, 4, 96, 181, 0, 13, 42, 89, 180, 0, 7, 4, 100, 181, 0, 7, 43, 180, 0, 111]
abbrev dktJ5_deleteEntry_0 : List UInt8 := dkwJ5_deleteEntry_0 ++ dktJ5_deleteEntry_1
theorem dksJ5_deleteEntry_0 : cJ5_deleteEntry.data.toList.drop 0 = dktJ5_deleteEntry_0 := by decide +kernel
theorem dksJ5_deleteEntry_1 : cJ5_deleteEntry.data.toList.drop 24 = dktJ5_deleteEntry_1 := dk_seg dksJ5_deleteEntry_0 24 rfl rfl
theorem dksJ5_deleteEntry_2 : cJ5_deleteEntry.data.toList.drop 48 = dktJ5_deleteEntry_2 := dk_seg dksJ5_deleteEntry_1 24 rfl rfl
theorem dksJ5_deleteEntry_3 : cJ5_deleteEntry.data.toList.drop 72 = dktJ5_deleteEntry_3 := dk_seg dksJ5_deleteEntry_2 24 rfl rfl
theorem dksJ5_deleteEntry_4 : cJ5_deleteEntry.data.toList.drop 96 = dktJ5_deleteEntry_4 := dk_seg dksJ5_deleteEntry_3 24 rfl rfl
theorem dksJ5_deleteEntry_5 : cJ5_deleteEntry.data.toList.drop 119 = dktJ5_deleteEntry_5 := dk_seg dksJ5_deleteEntry_4 23 rfl rfl
theorem dksJ5_deleteEntry_6 : cJ5_deleteEntry.data.toList.drop 142 = dktJ5_deleteEntry_6 := dk_seg dksJ5_deleteEntry_5 23 rfl rfl
theorem dksJ5_deleteEntry_7 : cJ5_deleteEntry.data.toList.drop 165 = dktJ5_deleteEntry_7 := dk_seg dksJ5_deleteEntry_6 23 rfl rfl
theorem dksJ5_deleteEntry_8 : cJ5_deleteEntry.data.toList.drop 189 = dktJ5_deleteEntry_8 := dk_seg dksJ5_deleteEntry_7 24 rfl rfl
theorem dksJ5_deleteEntry_9 : cJ5_deleteEntry.data.toList.drop 211 = dktJ5_deleteEntry_9 := dk_seg dksJ5_deleteEntry_8 22 rfl rfl
theorem dksJ5_deleteEntry_10 : cJ5_deleteEntry.data.toList.drop 233 = dktJ5_deleteEntry_10 := dk_seg dksJ5_deleteEntry_9 22 rfl rfl
theorem dJ5_deleteEntry_0 : decode cJ5_deleteEntry 0 = .ok (.aload_n 0, 1) := dk_42 (dk_at dksJ5_deleteEntry_0 0 rfl rfl)
theorem dJ5_deleteEntry_1 : decode cJ5_deleteEntry 1 = .ok (.dup, 1) := dk_89 (dk_at dksJ5_deleteEntry_0 1 rfl rfl)
theorem dJ5_deleteEntry_2 : decode cJ5_deleteEntry 2 = .ok (.getfield 13, 3) := dk_180 0 13 (dk_at dksJ5_deleteEntry_0 2 rfl rfl)
theorem dJ5_deleteEntry_5 : decode cJ5_deleteEntry 5 = .ok (.iconst 1, 1) := dk_4 (dk_at dksJ5_deleteEntry_0 5 rfl rfl)
theorem dJ5_deleteEntry_6 : decode cJ5_deleteEntry 6 = .ok (.iadd, 1) := dk_96 (dk_at dksJ5_deleteEntry_0 6 rfl rfl)
theorem dJ5_deleteEntry_7 : decode cJ5_deleteEntry 7 = .ok (.putfield 13, 3) := dk_181 0 13 (dk_at dksJ5_deleteEntry_0 7 rfl rfl)
theorem dJ5_deleteEntry_10 : decode cJ5_deleteEntry 10 = .ok (.aload_n 0, 1) := dk_42 (dk_at dksJ5_deleteEntry_0 10 rfl rfl)
theorem dJ5_deleteEntry_11 : decode cJ5_deleteEntry 11 = .ok (.dup, 1) := dk_89 (dk_at dksJ5_deleteEntry_0 11 rfl rfl)
theorem dJ5_deleteEntry_12 : decode cJ5_deleteEntry 12 = .ok (.getfield 7, 3) := dk_180 0 7 (dk_at dksJ5_deleteEntry_0 12 rfl rfl)
theorem dJ5_deleteEntry_15 : decode cJ5_deleteEntry 15 = .ok (.iconst 1, 1) := dk_4 (dk_at dksJ5_deleteEntry_0 15 rfl rfl)
theorem dJ5_deleteEntry_16 : decode cJ5_deleteEntry 16 = .ok (.isub, 1) := dk_100 (dk_at dksJ5_deleteEntry_0 16 rfl rfl)
theorem dJ5_deleteEntry_17 : decode cJ5_deleteEntry 17 = .ok (.putfield 7, 3) := dk_181 0 7 (dk_at dksJ5_deleteEntry_0 17 rfl rfl)
theorem dJ5_deleteEntry_20 : decode cJ5_deleteEntry 20 = .ok (.aload_n 1, 1) := dk_43 (dk_at dksJ5_deleteEntry_0 20 rfl rfl)
theorem dJ5_deleteEntry_21 : decode cJ5_deleteEntry 21 = .ok (.getfield 111, 3) := dk_180 0 111 (dk_at dksJ5_deleteEntry_0 21 rfl rfl)
theorem dJ5_deleteEntry_24 : decode cJ5_deleteEntry 24 = .ok (.ifnull 33, 3) := dk_198 0 33 (dk_at dksJ5_deleteEntry_1 0 rfl rfl)
theorem dJ5_deleteEntry_27 : decode cJ5_deleteEntry 27 = .ok (.aload_n 1, 1) := dk_43 (dk_at dksJ5_deleteEntry_1 3 rfl rfl)
theorem dJ5_deleteEntry_28 : decode cJ5_deleteEntry 28 = .ok (.getfield 114, 3) := dk_180 0 114 (dk_at dksJ5_deleteEntry_1 4 rfl rfl)
theorem dJ5_deleteEntry_31 : decode cJ5_deleteEntry 31 = .ok (.ifnull 26, 3) := dk_198 0 26 (dk_at dksJ5_deleteEntry_1 7 rfl rfl)
theorem dJ5_deleteEntry_34 : decode cJ5_deleteEntry 34 = .ok (.aload_n 1, 1) := dk_43 (dk_at dksJ5_deleteEntry_1 10 rfl rfl)
theorem dJ5_deleteEntry_35 : decode cJ5_deleteEntry 35 = .ok (.invokestatic 68, 3) := dk_184 0 68 (dk_at dksJ5_deleteEntry_1 11 rfl rfl)
theorem dJ5_deleteEntry_38 : decode cJ5_deleteEntry 38 = .ok (.astore_n 2, 1) := dk_77 (dk_at dksJ5_deleteEntry_1 14 rfl rfl)
theorem dJ5_deleteEntry_39 : decode cJ5_deleteEntry 39 = .ok (.aload_n 1, 1) := dk_43 (dk_at dksJ5_deleteEntry_1 15 rfl rfl)
theorem dJ5_deleteEntry_40 : decode cJ5_deleteEntry 40 = .ok (.aload_n 2, 1) := dk_44 (dk_at dksJ5_deleteEntry_1 16 rfl rfl)
theorem dJ5_deleteEntry_41 : decode cJ5_deleteEntry 41 = .ok (.getfield 105, 3) := dk_180 0 105 (dk_at dksJ5_deleteEntry_1 17 rfl rfl)
theorem dJ5_deleteEntry_44 : decode cJ5_deleteEntry 44 = .ok (.putfield 105, 3) := dk_181 0 105 (dk_at dksJ5_deleteEntry_1 20 rfl rfl)
theorem dJ5_deleteEntry_47 : decode cJ5_deleteEntry 47 = .ok (.aload_n 1, 1) := dk_43 (dk_at dksJ5_deleteEntry_1 23 rfl rfl)
theorem dJ5_deleteEntry_48 : decode cJ5_deleteEntry 48 = .ok (.aload_n 2, 1) := dk_44 (dk_at dksJ5_deleteEntry_2 0 rfl rfl)
theorem dJ5_deleteEntry_49 : decode cJ5_deleteEntry 49 = .ok (.getfield 58, 3) := dk_180 0 58 (dk_at dksJ5_deleteEntry_2 1 rfl rfl)
theorem dJ5_deleteEntry_52 : decode cJ5_deleteEntry 52 = .ok (.putfield 58, 3) := dk_181 0 58 (dk_at dksJ5_deleteEntry_2 4 rfl rfl)
theorem dJ5_deleteEntry_55 : decode cJ5_deleteEntry 55 = .ok (.aload_n 2, 1) := dk_44 (dk_at dksJ5_deleteEntry_2 7 rfl rfl)
theorem dJ5_deleteEntry_56 : decode cJ5_deleteEntry 56 = .ok (.astore_n 1, 1) := dk_76 (dk_at dksJ5_deleteEntry_2 8 rfl rfl)
theorem dJ5_deleteEntry_57 : decode cJ5_deleteEntry 57 = .ok (.aload_n 1, 1) := dk_43 (dk_at dksJ5_deleteEntry_2 9 rfl rfl)
theorem dJ5_deleteEntry_58 : decode cJ5_deleteEntry 58 = .ok (.getfield 111, 3) := dk_180 0 111 (dk_at dksJ5_deleteEntry_2 10 rfl rfl)
theorem dJ5_deleteEntry_61 : decode cJ5_deleteEntry 61 = .ok (.ifnull 10, 3) := dk_198 0 10 (dk_at dksJ5_deleteEntry_2 13 rfl rfl)
theorem dJ5_deleteEntry_64 : decode cJ5_deleteEntry 64 = .ok (.aload_n 1, 1) := dk_43 (dk_at dksJ5_deleteEntry_2 16 rfl rfl)
theorem dJ5_deleteEntry_65 : decode cJ5_deleteEntry 65 = .ok (.getfield 111, 3) := dk_180 0 111 (dk_at dksJ5_deleteEntry_2 17 rfl rfl)
theorem dJ5_deleteEntry_68 : decode cJ5_deleteEntry 68 = .ok (.goto 7, 3) := dk_167 0 7 (dk_at dksJ5_deleteEntry_2 20 rfl rfl)
theorem dJ5_deleteEntry_71 : decode cJ5_deleteEntry 71 = .ok (.aload_n 1, 1) := dk_43 (dk_at dksJ5_deleteEntry_2 23 rfl rfl)
theorem dJ5_deleteEntry_72 : decode cJ5_deleteEntry 72 = .ok (.getfield 114, 3) := dk_180 0 114 (dk_at dksJ5_deleteEntry_3 0 rfl rfl)
theorem dJ5_deleteEntry_75 : decode cJ5_deleteEntry 75 = .ok (.astore_n 2, 1) := dk_77 (dk_at dksJ5_deleteEntry_3 3 rfl rfl)
theorem dJ5_deleteEntry_76 : decode cJ5_deleteEntry 76 = .ok (.aload_n 2, 1) := dk_44 (dk_at dksJ5_deleteEntry_3 4 rfl rfl)
theorem dJ5_deleteEntry_77 : decode cJ5_deleteEntry 77 = .ok (.ifnull 87, 3) := dk_198 0 87 (dk_at dksJ5_deleteEntry_3 5 rfl rfl)
theorem dJ5_deleteEntry_80 : decode cJ5_deleteEntry 80 = .ok (.aload_n 2, 1) := dk_44 (dk_at dksJ5_deleteEntry_3 8 rfl rfl)
theorem dJ5_deleteEntry_81 : decode cJ5_deleteEntry 81 = .ok (.aload_n 1, 1) := dk_43 (dk_at dksJ5_deleteEntry_3 9 rfl rfl)
theorem dJ5_deleteEntry_82 : decode cJ5_deleteEntry 82 = .ok (.getfield 124, 3) := dk_180 0 124 (dk_at dksJ5_deleteEntry_3 10 rfl rfl)
theorem dJ5_deleteEntry_85 : decode cJ5_deleteEntry 85 = .ok (.putfield 124, 3) := dk_181 0 124 (dk_at dksJ5_deleteEntry_3 13 rfl rfl)
theorem dJ5_deleteEntry_88 : decode cJ5_deleteEntry 88 = .ok (.aload_n 1, 1) := dk_43 (dk_at dksJ5_deleteEntry_3 16 rfl rfl)
theorem dJ5_deleteEntry_89 : decode cJ5_deleteEntry 89 = .ok (.getfield 124, 3) := dk_180 0 124 (dk_at dksJ5_deleteEntry_3 17 rfl rfl)
theorem dJ5_deleteEntry_92 : decode cJ5_deleteEntry 92 = .ok (.ifnonnull 11, 3) := dk_199 0 11 (dk_at dksJ5_deleteEntry_3 20 rfl rfl)
theorem dJ5_deleteEntry_95 : decode cJ5_deleteEntry 95 = .ok (.aload_n 0, 1) := dk_42 (dk_at dksJ5_deleteEntry_3 23 rfl rfl)
theorem dJ5_deleteEntry_96 : decode cJ5_deleteEntry 96 = .ok (.aload_n 2, 1) := dk_44 (dk_at dksJ5_deleteEntry_4 0 rfl rfl)
theorem dJ5_deleteEntry_97 : decode cJ5_deleteEntry 97 = .ok (.putfield 101, 3) := dk_181 0 101 (dk_at dksJ5_deleteEntry_4 1 rfl rfl)
theorem dJ5_deleteEntry_100 : decode cJ5_deleteEntry 100 = .ok (.goto 33, 3) := dk_167 0 33 (dk_at dksJ5_deleteEntry_4 4 rfl rfl)
theorem dJ5_deleteEntry_103 : decode cJ5_deleteEntry 103 = .ok (.aload_n 1, 1) := dk_43 (dk_at dksJ5_deleteEntry_4 7 rfl rfl)
theorem dJ5_deleteEntry_104 : decode cJ5_deleteEntry 104 = .ok (.aload_n 1, 1) := dk_43 (dk_at dksJ5_deleteEntry_4 8 rfl rfl)
theorem dJ5_deleteEntry_105 : decode cJ5_deleteEntry 105 = .ok (.getfield 124, 3) := dk_180 0 124 (dk_at dksJ5_deleteEntry_4 9 rfl rfl)
theorem dJ5_deleteEntry_108 : decode cJ5_deleteEntry 108 = .ok (.getfield 111, 3) := dk_180 0 111 (dk_at dksJ5_deleteEntry_4 12 rfl rfl)
theorem dJ5_deleteEntry_111 : decode cJ5_deleteEntry 111 = .ok (.if_acmp .ne 14, 3) := dk_166 0 14 (dk_at dksJ5_deleteEntry_4 15 rfl rfl)
theorem dJ5_deleteEntry_114 : decode cJ5_deleteEntry 114 = .ok (.aload_n 1, 1) := dk_43 (dk_at dksJ5_deleteEntry_4 18 rfl rfl)
theorem dJ5_deleteEntry_115 : decode cJ5_deleteEntry 115 = .ok (.getfield 124, 3) := dk_180 0 124 (dk_at dksJ5_deleteEntry_4 19 rfl rfl)
theorem dJ5_deleteEntry_118 : decode cJ5_deleteEntry 118 = .ok (.aload_n 2, 1) := dk_44 (dk_at dksJ5_deleteEntry_4 22 rfl rfl)
theorem dJ5_deleteEntry_119 : decode cJ5_deleteEntry 119 = .ok (.putfield 111, 3) := dk_181 0 111 (dk_at dksJ5_deleteEntry_5 0 rfl rfl)
theorem dJ5_deleteEntry_122 : decode cJ5_deleteEntry 122 = .ok (.goto 11, 3) := dk_167 0 11 (dk_at dksJ5_deleteEntry_5 3 rfl rfl)
theorem dJ5_deleteEntry_125 : decode cJ5_deleteEntry 125 = .ok (.aload_n 1, 1) := dk_43 (dk_at dksJ5_deleteEntry_5 6 rfl rfl)
theorem dJ5_deleteEntry_126 : decode cJ5_deleteEntry 126 = .ok (.getfield 124, 3) := dk_180 0 124 (dk_at dksJ5_deleteEntry_5 7 rfl rfl)
theorem dJ5_deleteEntry_129 : decode cJ5_deleteEntry 129 = .ok (.aload_n 2, 1) := dk_44 (dk_at dksJ5_deleteEntry_5 10 rfl rfl)
theorem dJ5_deleteEntry_130 : decode cJ5_deleteEntry 130 = .ok (.putfield 114, 3) := dk_181 0 114 (dk_at dksJ5_deleteEntry_5 11 rfl rfl)
theorem dJ5_deleteEntry_133 : decode cJ5_deleteEntry 133 = .ok (.aload_n 1, 1) := dk_43 (dk_at dksJ5_deleteEntry_5 14 rfl rfl)
theorem dJ5_deleteEntry_134 : decode cJ5_deleteEntry 134 = .ok (.aload_n 1, 1) := dk_43 (dk_at dksJ5_deleteEntry_5 15 rfl rfl)
theorem dJ5_deleteEntry_135 : decode cJ5_deleteEntry 135 = .ok (.aload_n 1, 1) := dk_43 (dk_at dksJ5_deleteEntry_5 16 rfl rfl)
theorem dJ5_deleteEntry_136 : decode cJ5_deleteEntry 136 = .ok (.aconst_null, 1) := dk_1 (dk_at dksJ5_deleteEntry_5 17 rfl rfl)
theorem dJ5_deleteEntry_137 : decode cJ5_deleteEntry 137 = .ok (.dup_x1, 1) := dk_90 (dk_at dksJ5_deleteEntry_5 18 rfl rfl)
theorem dJ5_deleteEntry_138 : decode cJ5_deleteEntry 138 = .ok (.putfield 124, 3) := dk_181 0 124 (dk_at dksJ5_deleteEntry_5 19 rfl rfl)
theorem dJ5_deleteEntry_141 : decode cJ5_deleteEntry 141 = .ok (.dup_x1, 1) := dk_90 (dk_at dksJ5_deleteEntry_5 22 rfl rfl)
theorem dJ5_deleteEntry_142 : decode cJ5_deleteEntry 142 = .ok (.putfield 114, 3) := dk_181 0 114 (dk_at dksJ5_deleteEntry_6 0 rfl rfl)
theorem dJ5_deleteEntry_145 : decode cJ5_deleteEntry 145 = .ok (.putfield 111, 3) := dk_181 0 111 (dk_at dksJ5_deleteEntry_6 3 rfl rfl)
theorem dJ5_deleteEntry_148 : decode cJ5_deleteEntry 148 = .ok (.aload_n 1, 1) := dk_43 (dk_at dksJ5_deleteEntry_6 6 rfl rfl)
theorem dJ5_deleteEntry_149 : decode cJ5_deleteEntry 149 = .ok (.getfield 290, 3) := dk_180 1 34 (dk_at dksJ5_deleteEntry_6 7 rfl rfl)
theorem dJ5_deleteEntry_152 : decode cJ5_deleteEntry 152 = .ok (.iconst 1, 1) := dk_4 (dk_at dksJ5_deleteEntry_6 10 rfl rfl)
theorem dJ5_deleteEntry_153 : decode cJ5_deleteEntry 153 = .ok (.if_icmp .ne 92, 3) := dk_160 0 92 (dk_at dksJ5_deleteEntry_6 11 rfl rfl)
theorem dJ5_deleteEntry_156 : decode cJ5_deleteEntry 156 = .ok (.aload_n 0, 1) := dk_42 (dk_at dksJ5_deleteEntry_6 14 rfl rfl)
theorem dJ5_deleteEntry_157 : decode cJ5_deleteEntry 157 = .ok (.aload_n 2, 1) := dk_44 (dk_at dksJ5_deleteEntry_6 15 rfl rfl)
theorem dJ5_deleteEntry_158 : decode cJ5_deleteEntry 158 = .ok (.invokevirtual 317, 3) := dk_182 1 61 (dk_at dksJ5_deleteEntry_6 16 rfl rfl)
theorem dJ5_deleteEntry_161 : decode cJ5_deleteEntry 161 = .ok (.goto 84, 3) := dk_167 0 84 (dk_at dksJ5_deleteEntry_6 19 rfl rfl)
theorem dJ5_deleteEntry_164 : decode cJ5_deleteEntry 164 = .ok (.aload_n 1, 1) := dk_43 (dk_at dksJ5_deleteEntry_6 22 rfl rfl)
theorem dJ5_deleteEntry_165 : decode cJ5_deleteEntry 165 = .ok (.getfield 124, 3) := dk_180 0 124 (dk_at dksJ5_deleteEntry_7 0 rfl rfl)
theorem dJ5_deleteEntry_168 : decode cJ5_deleteEntry 168 = .ok (.ifnonnull 11, 3) := dk_199 0 11 (dk_at dksJ5_deleteEntry_7 3 rfl rfl)
theorem dJ5_deleteEntry_171 : decode cJ5_deleteEntry 171 = .ok (.aload_n 0, 1) := dk_42 (dk_at dksJ5_deleteEntry_7 6 rfl rfl)
theorem dJ5_deleteEntry_172 : decode cJ5_deleteEntry 172 = .ok (.aconst_null, 1) := dk_1 (dk_at dksJ5_deleteEntry_7 7 rfl rfl)
theorem dJ5_deleteEntry_173 : decode cJ5_deleteEntry 173 = .ok (.putfield 101, 3) := dk_181 0 101 (dk_at dksJ5_deleteEntry_7 8 rfl rfl)
theorem dJ5_deleteEntry_176 : decode cJ5_deleteEntry 176 = .ok (.goto 69, 3) := dk_167 0 69 (dk_at dksJ5_deleteEntry_7 11 rfl rfl)
theorem dJ5_deleteEntry_179 : decode cJ5_deleteEntry 179 = .ok (.aload_n 1, 1) := dk_43 (dk_at dksJ5_deleteEntry_7 14 rfl rfl)
theorem dJ5_deleteEntry_180 : decode cJ5_deleteEntry 180 = .ok (.getfield 290, 3) := dk_180 1 34 (dk_at dksJ5_deleteEntry_7 15 rfl rfl)
theorem dJ5_deleteEntry_183 : decode cJ5_deleteEntry 183 = .ok (.iconst 1, 1) := dk_4 (dk_at dksJ5_deleteEntry_7 18 rfl rfl)
theorem dJ5_deleteEntry_184 : decode cJ5_deleteEntry 184 = .ok (.if_icmp .ne 8, 3) := dk_160 0 8 (dk_at dksJ5_deleteEntry_7 19 rfl rfl)
theorem dJ5_deleteEntry_187 : decode cJ5_deleteEntry 187 = .ok (.aload_n 0, 1) := dk_42 (dk_at dksJ5_deleteEntry_7 22 rfl rfl)
theorem dJ5_deleteEntry_188 : decode cJ5_deleteEntry 188 = .ok (.aload_n 1, 1) := dk_43 (dk_at dksJ5_deleteEntry_7 23 rfl rfl)
theorem dJ5_deleteEntry_189 : decode cJ5_deleteEntry 189 = .ok (.invokevirtual 317, 3) := dk_182 1 61 (dk_at dksJ5_deleteEntry_8 0 rfl rfl)
theorem dJ5_deleteEntry_192 : decode cJ5_deleteEntry 192 = .ok (.aload_n 1, 1) := dk_43 (dk_at dksJ5_deleteEntry_8 3 rfl rfl)
theorem dJ5_deleteEntry_193 : decode cJ5_deleteEntry 193 = .ok (.getfield 124, 3) := dk_180 0 124 (dk_at dksJ5_deleteEntry_8 4 rfl rfl)
theorem dJ5_deleteEntry_196 : decode cJ5_deleteEntry 196 = .ok (.ifnull 49, 3) := dk_198 0 49 (dk_at dksJ5_deleteEntry_8 7 rfl rfl)
theorem dJ5_deleteEntry_199 : decode cJ5_deleteEntry 199 = .ok (.aload_n 1, 1) := dk_43 (dk_at dksJ5_deleteEntry_8 10 rfl rfl)
theorem dJ5_deleteEntry_200 : decode cJ5_deleteEntry 200 = .ok (.aload_n 1, 1) := dk_43 (dk_at dksJ5_deleteEntry_8 11 rfl rfl)
theorem dJ5_deleteEntry_201 : decode cJ5_deleteEntry 201 = .ok (.getfield 124, 3) := dk_180 0 124 (dk_at dksJ5_deleteEntry_8 12 rfl rfl)
theorem dJ5_deleteEntry_204 : decode cJ5_deleteEntry 204 = .ok (.getfield 111, 3) := dk_180 0 111 (dk_at dksJ5_deleteEntry_8 15 rfl rfl)
theorem dJ5_deleteEntry_207 : decode cJ5_deleteEntry 207 = .ok (.if_acmp .ne 14, 3) := dk_166 0 14 (dk_at dksJ5_deleteEntry_8 18 rfl rfl)
theorem dJ5_deleteEntry_210 : decode cJ5_deleteEntry 210 = .ok (.aload_n 1, 1) := dk_43 (dk_at dksJ5_deleteEntry_8 21 rfl rfl)
theorem dJ5_deleteEntry_211 : decode cJ5_deleteEntry 211 = .ok (.getfield 124, 3) := dk_180 0 124 (dk_at dksJ5_deleteEntry_9 0 rfl rfl)
theorem dJ5_deleteEntry_214 : decode cJ5_deleteEntry 214 = .ok (.aconst_null, 1) := dk_1 (dk_at dksJ5_deleteEntry_9 3 rfl rfl)
theorem dJ5_deleteEntry_215 : decode cJ5_deleteEntry 215 = .ok (.putfield 111, 3) := dk_181 0 111 (dk_at dksJ5_deleteEntry_9 4 rfl rfl)
theorem dJ5_deleteEntry_218 : decode cJ5_deleteEntry 218 = .ok (.goto 22, 3) := dk_167 0 22 (dk_at dksJ5_deleteEntry_9 7 rfl rfl)
theorem dJ5_deleteEntry_221 : decode cJ5_deleteEntry 221 = .ok (.aload_n 1, 1) := dk_43 (dk_at dksJ5_deleteEntry_9 10 rfl rfl)
theorem dJ5_deleteEntry_222 : decode cJ5_deleteEntry 222 = .ok (.aload_n 1, 1) := dk_43 (dk_at dksJ5_deleteEntry_9 11 rfl rfl)
theorem dJ5_deleteEntry_223 : decode cJ5_deleteEntry 223 = .ok (.getfield 124, 3) := dk_180 0 124 (dk_at dksJ5_deleteEntry_9 12 rfl rfl)
theorem dJ5_deleteEntry_226 : decode cJ5_deleteEntry 226 = .ok (.getfield 114, 3) := dk_180 0 114 (dk_at dksJ5_deleteEntry_9 15 rfl rfl)
theorem dJ5_deleteEntry_229 : decode cJ5_deleteEntry 229 = .ok (.if_acmp .ne 11, 3) := dk_166 0 11 (dk_at dksJ5_deleteEntry_9 18 rfl rfl)
theorem dJ5_deleteEntry_232 : decode cJ5_deleteEntry 232 = .ok (.aload_n 1, 1) := dk_43 (dk_at dksJ5_deleteEntry_9 21 rfl rfl)
theorem dJ5_deleteEntry_233 : decode cJ5_deleteEntry 233 = .ok (.getfield 124, 3) := dk_180 0 124 (dk_at dksJ5_deleteEntry_10 0 rfl rfl)
theorem dJ5_deleteEntry_236 : decode cJ5_deleteEntry 236 = .ok (.aconst_null, 1) := dk_1 (dk_at dksJ5_deleteEntry_10 3 rfl rfl)
theorem dJ5_deleteEntry_237 : decode cJ5_deleteEntry 237 = .ok (.putfield 114, 3) := dk_181 0 114 (dk_at dksJ5_deleteEntry_10 4 rfl rfl)
theorem dJ5_deleteEntry_240 : decode cJ5_deleteEntry 240 = .ok (.aload_n 1, 1) := dk_43 (dk_at dksJ5_deleteEntry_10 7 rfl rfl)
theorem dJ5_deleteEntry_241 : decode cJ5_deleteEntry 241 = .ok (.aconst_null, 1) := dk_1 (dk_at dksJ5_deleteEntry_10 8 rfl rfl)
theorem dJ5_deleteEntry_242 : decode cJ5_deleteEntry 242 = .ok (.putfield 124, 3) := dk_181 0 124 (dk_at dksJ5_deleteEntry_10 9 rfl rfl)
theorem dJ5_deleteEntry_245 : decode cJ5_deleteEntry 245 = .ok (.return_, 1) := dk_177 (dk_at dksJ5_deleteEntry_10 12 rfl rfl)
theorem md_J5_deleteEntry : xMd yJ5_deleteEntry cJ5_deleteEntry 3 (Option.none : Option Jvm.ClassFile.FieldType) 1 := ⟨q2681, q132, by decide, by decide +kernel, by decide +kernel, by decide +kernel⟩
def f_J5_deleteEntry_240 (a0 : Nat)  (v1 : Option Nat) (p0 : PH) : Option (xO × PH) :=
  (xnul v1 none fun b27 =>
  (xpF p0 b27 19 4 (va_rf none) fun p28 =>
  (rV p28)))
def f_J5_deleteEntry_192 (a0 : Nat)  (v1 : Option Nat) (p0 : PH) : Option (xO × PH) :=
  (xnul v1 none fun b18 =>
  (xgR p0 b18 19 4 fun x19 =>
  (xnul x19 (rV p0) fun b20 =>
  (xgR p0 b18 19 4 fun x21 =>
  (xnul x21 none fun b22 =>
  (xgR p0 b22 19 2 fun x23 =>
  (if (some b18) = x23 then
  (xgR p0 b18 19 4 fun x32 =>
  (xnul x32 none fun b33 =>
  (xpF p0 b33 19 2 (va_rf none) fun p34 =>
  (f_J5_deleteEntry_240 a0 ((some b18)) p34)))) else
  (xgR p0 b18 19 4 fun x24 =>
  (xnul x24 none fun b25 =>
  (xgR p0 b25 19 3 fun x26 =>
  (if (some b18) = x26 then
  (xgR p0 b18 19 4 fun x29 =>
  (xnul x29 none fun b30 =>
  (xpF p0 b30 19 3 (va_rf none) fun p31 =>
  (f_J5_deleteEntry_240 a0 ((some b18)) p31)))) else
  (f_J5_deleteEntry_240 a0 ((some b18)) p0))))))))))))
def f_J5_deleteEntry_133 (a0 : Nat)  (v1 : Option Nat) (v2 : Option Nat) (p0 : PH) : Option (xO × PH) :=
  (xnul v1 none fun b42 =>
  (xpF p0 b42 19 4 (va_rf none) fun p43 =>
  (xpF p43 b42 19 3 (va_rf none) fun p44 =>
  (xpF p44 b42 19 2 (va_rf none) fun p45 =>
  (xgI p45 b42 19 5 fun x46 =>
  (if x46 = 1 then
  (xcV (f_J5_fixAfterDeletion p45 a0 v2) fun p47 =>
  (rV p47)) else
  (rV p45)))))))
def f_J5_deleteEntry_75 (a0 : Nat)  (v1 : Option Nat) (w0 : Option Nat) (p0 : PH) : Option (xO × PH) :=
  (xnul w0 (xnul v1 none fun b13 =>
  (xgR p0 b13 19 4 fun x14 =>
  (xnul x14 (xpF p0 a0 15 3 (va_rf none) fun p16 =>
  (rV p16)) fun b15 =>
  (xgI p0 b13 19 5 fun x17 =>
  (if x17 = 1 then
  (xcV (f_J5_fixAfterDeletion p0 a0 (some b13)) fun p35 =>
  (f_J5_deleteEntry_192 a0 ((some b13)) p35)) else
  (f_J5_deleteEntry_192 a0 ((some b13)) p0)))))) fun b12 =>
  (xnul v1 none fun b36 =>
  (xgR p0 b36 19 4 fun x37 =>
  (xpF p0 b12 19 4 (va_rf x37) fun p38 =>
  (xgR p38 b36 19 4 fun x39 =>
  (xnul x39 (xpF p38 a0 15 3 (.ref b12) fun p41 =>
  (f_J5_deleteEntry_133 a0 ((some b36)) ((some b12)) p41)) fun b40 =>
  (xgR p38 b36 19 4 fun x48 =>
  (xnul x48 none fun b49 =>
  (xgR p38 b49 19 2 fun x50 =>
  (if (some b36) = x50 then
  (xgR p38 b36 19 4 fun x54 =>
  (xnul x54 none fun b55 =>
  (xpF p38 b55 19 2 (.ref b12) fun p56 =>
  (f_J5_deleteEntry_133 a0 ((some b36)) ((some b12)) p56)))) else
  (xgR p38 b36 19 4 fun x51 =>
  (xnul x51 none fun b52 =>
  (xpF p38 b52 19 3 (.ref b12) fun p53 =>
  (f_J5_deleteEntry_133 a0 ((some b36)) ((some b12)) p53))))))))))))))
def f_J5_deleteEntry_57 (a0 : Nat)  (v1 : Option Nat) (p0 : PH) : Option (xO × PH) :=
  (xnul v1 none fun b8 =>
  (xgR p0 b8 19 2 fun x9 =>
  (xnul x9 (xgR p0 b8 19 3 fun x11 =>
  (f_J5_deleteEntry_75 a0 ((some b8)) x11 p0)) fun b10 =>
  (xgR p0 b8 19 2 fun x57 =>
  (f_J5_deleteEntry_75 a0 ((some b8)) x57 p0)))))
def f_J5_deleteEntry (p0 : PH) (a0 : Nat) (a1 : Option Nat) : Option (xO × PH) :=
  (xcl1 p0 a0 15 (xgI p0 a0 15 5 fun x1 =>
  (xpF p0 a0 15 5 (.int (x1 + 1)) fun p2 =>
  (xgI p2 a0 15 4 fun x3 =>
  (xpF p2 a0 15 4 (.int (x3 - 1)) fun p4 =>
  (xnul a1 none fun b5 =>
  (xgR p4 b5 19 2 fun x6 =>
  (xnul x6 (f_J5_deleteEntry_57 a0 ((some b5)) p4) fun b7 =>
  (xgR p4 b5 19 3 fun x58 =>
  (xnul x58 (f_J5_deleteEntry_57 a0 ((some b5)) p4) fun b59 =>
  (xcR (f_J5_successor p4 (some b5)) fun x61 p60 =>
  (xnul x61 none fun b62 =>
  (xgR p60 b62 19 0 fun x63 =>
  (xpF p60 b5 19 0 (va_rf x63) fun p64 =>
  (xgR p64 b62 19 1 fun x65 =>
  (xpF p64 b5 19 1 (va_rf x65) fun p66 =>
  (f_J5_deleteEntry_57 a0 ((some b62)) p66)))))))))))))))))
theorem rc_J5_deleteEntry {p0 : PH} {a0 : Nat} {a1 : Option Nat} : ∀ z, f_J5_deleteEntry p0 a0 a1 = some z → xco p0 a0 = some 15 := fun z h => xcl1_some h
theorem f_J5_deleteEntry_240_ok {G : xG} (hO : xOK G) (a0 : Nat)  (v1 : Option Nat) (p0 : PH) : X G "java/util/TreeMap" "deleteEntry" cJ5_deleteEntry 3 (Option.none : Option Jvm.ClassFile.FieldType) 2 240 [(1, va_rf v1)] [] p0 (f_J5_deleteEntry_240 a0 v1 p0) := by
  unfold f_J5_deleteEntry_240
  refine x_aload_n 0 dJ5_deleteEntry_240 rfl rfl (n := 241) rfl ?_
  refine x_null dJ5_deleteEntry_241 (n := 242) rfl ?_
  refine x_sm (fun b27 e => ?_)
  subst e
  refine x_pF (pl_J5_124 _ _ (xfit_o (none))) dJ5_deleteEntry_242 (n := 245) rfl (fun p28 => ?_)
  exact x_return dJ5_deleteEntry_245
theorem f_J5_deleteEntry_192_ok {G : xG} (hO : xOK G) (a0 : Nat)  (v1 : Option Nat) (p0 : PH) : X G "java/util/TreeMap" "deleteEntry" cJ5_deleteEntry 3 (Option.none : Option Jvm.ClassFile.FieldType) 2 192 [(1, va_rf v1)] [] p0 (f_J5_deleteEntry_192 a0 v1 p0) := by
  unfold f_J5_deleteEntry_192
  refine x_aload_n 0 dJ5_deleteEntry_192 rfl rfl (n := 193) rfl ?_
  refine x_sm (fun b18 e => ?_)
  subst e
  refine x_getR fl_J5_124 dJ5_deleteEntry_193 (n := 196) rfl (fun x19 => ?_)
  refine x_ifnull dJ5_deleteEntry_196 (t := 245) (by decide) (n := 199) rfl (fun e => ?_) (fun b20 e => ?_)
  · subst e
    exact x_return dJ5_deleteEntry_245
  · subst e
    refine x_aload_nr 0 dJ5_deleteEntry_199 rfl rfl (n := 200) rfl ?_
    refine x_aload_nr 0 dJ5_deleteEntry_200 rfl rfl (n := 201) rfl ?_
    refine x_getR fl_J5_124 dJ5_deleteEntry_201 (n := 204) rfl (fun x21 => ?_)
    refine x_sm (fun b22 e => ?_)
    subst e
    refine x_getR fl_J5_111 dJ5_deleteEntry_204 (n := 207) rfl (fun x23 => ?_)
    refine x_acmp_ne (x := some b18) (y := x23) dJ5_deleteEntry_207 (t := 221) (by decide) (n := 210) rfl (fun _ => ?_) (fun _ => ?_)
    · refine x_aload_nr 0 dJ5_deleteEntry_221 rfl rfl (n := 222) rfl ?_
      refine x_aload_nr 0 dJ5_deleteEntry_222 rfl rfl (n := 223) rfl ?_
      refine x_getR fl_J5_124 dJ5_deleteEntry_223 (n := 226) rfl (fun x24 => ?_)
      refine x_sm (fun b25 e => ?_)
      subst e
      refine x_getR fl_J5_114 dJ5_deleteEntry_226 (n := 229) rfl (fun x26 => ?_)
      refine x_acmp_ne (x := some b18) (y := x26) dJ5_deleteEntry_229 (t := 240) (by decide) (n := 232) rfl (fun _ => ?_) (fun _ => ?_)
      · exact f_J5_deleteEntry_240_ok hO a0 ((some b18)) p0
      · refine x_aload_nr 0 dJ5_deleteEntry_232 rfl rfl (n := 233) rfl ?_
        refine x_getR fl_J5_124 dJ5_deleteEntry_233 (n := 236) rfl (fun x29 => ?_)
        refine x_null dJ5_deleteEntry_236 (n := 237) rfl ?_
        refine x_sm (fun b30 e => ?_)
        subst e
        refine x_pF (pl_J5_114 _ _ (xfit_o (none))) dJ5_deleteEntry_237 (n := 240) rfl (fun p31 => ?_)
        exact f_J5_deleteEntry_240_ok hO a0 ((some b18)) p31
    · refine x_aload_nr 0 dJ5_deleteEntry_210 rfl rfl (n := 211) rfl ?_
      refine x_getR fl_J5_124 dJ5_deleteEntry_211 (n := 214) rfl (fun x32 => ?_)
      refine x_null dJ5_deleteEntry_214 (n := 215) rfl ?_
      refine x_sm (fun b33 e => ?_)
      subst e
      refine x_pF (pl_J5_111 _ _ (xfit_o (none))) dJ5_deleteEntry_215 (n := 218) rfl (fun p34 => ?_)
      refine x_goto dJ5_deleteEntry_218 (n := 240) (by decide) ?_
      exact f_J5_deleteEntry_240_ok hO a0 ((some b18)) p34
theorem f_J5_deleteEntry_133_ok {G : xG} (hO : xOK G) (a0 : Nat)  (v1 : Option Nat) (v2 : Option Nat) (p0 : PH) : X G "java/util/TreeMap" "deleteEntry" cJ5_deleteEntry 3 (Option.none : Option Jvm.ClassFile.FieldType) 2 133 [(0, .ref a0), (1, va_rf v1), (2, va_rf v2)] [] p0 (f_J5_deleteEntry_133 a0 v1 v2 p0) := by
  unfold f_J5_deleteEntry_133
  refine x_aload_n 1 dJ5_deleteEntry_133 rfl rfl (n := 134) rfl ?_
  refine x_aload_n 1 dJ5_deleteEntry_134 rfl rfl (n := 135) rfl ?_
  refine x_aload_n 1 dJ5_deleteEntry_135 rfl rfl (n := 136) rfl ?_
  refine x_null dJ5_deleteEntry_136 (n := 137) rfl ?_
  refine x_dup_x1 dJ5_deleteEntry_137 (xcat _) (xcat _) (n := 138) rfl ?_
  refine x_sm (fun b42 e => ?_)
  subst e
  refine x_pF (pl_J5_124 _ _ (xfit_o (none))) dJ5_deleteEntry_138 (n := 141) rfl (fun p43 => ?_)
  refine x_dup_x1 dJ5_deleteEntry_141 (xcat _) rfl (n := 142) rfl ?_
  refine x_pF (pl_J5_114 _ _ (xfit_o (none))) dJ5_deleteEntry_142 (n := 145) rfl (fun p44 => ?_)
  refine x_pF (pl_J5_111 _ _ (xfit_o (none))) dJ5_deleteEntry_145 (n := 148) rfl (fun p45 => ?_)
  refine x_aload_nr 1 dJ5_deleteEntry_148 rfl rfl (n := 149) rfl ?_
  refine x_getI fl_J5_290 dJ5_deleteEntry_149 (n := 152) rfl (fun x46 => ?_)
  refine x_iconst 1 dJ5_deleteEntry_152 rfl (n := 153) rfl ?_
  refine x_icmp_ne dJ5_deleteEntry_153 (t := 245) (by decide) (n := 156) rfl (fun _ => ?_) (fun _ => ?_)
  · exact x_return dJ5_deleteEntry_245
  · refine x_aload_nr 0 dJ5_deleteEntry_156 rfl rfl (n := 157) rfl ?_
    refine x_aload_n 2 dJ5_deleteEntry_157 rfl rfl (n := 158) rfl ?_
    refine x_callV_V [va_rf v2] [] (f_J5_fixAfterDeletion_ok hO p45 a0 v2) rc_J5_fixAfterDeletion md_J5_fixAfterDeletion rfl q2683 q2685 qs58 dJ5_deleteEntry_158 rfl rfl (by decide) (Nat.le_of_ble_eq_true rfl) (n := 161) rfl (fun p47 => ?_)
    refine x_goto dJ5_deleteEntry_161 (n := 245) (by decide) ?_
    exact x_return dJ5_deleteEntry_245
theorem f_J5_deleteEntry_75_ok {G : xG} (hO : xOK G) (a0 : Nat)  (v1 : Option Nat) (w0 : Option Nat) (p0 : PH) : X G "java/util/TreeMap" "deleteEntry" cJ5_deleteEntry 3 (Option.none : Option Jvm.ClassFile.FieldType) 2 75 [(0, .ref a0), (1, va_rf v1)] [va_rf w0] p0 (f_J5_deleteEntry_75 a0 v1 w0 p0) := by
  unfold f_J5_deleteEntry_75
  refine x_astore_n [(2, va_rf w0), (0, .ref a0), (1, va_rf v1)] dJ5_deleteEntry_75 rfl (by decide) (by simp only [xst, List.filter_cons, List.filter_nil, xcat] <;> rfl) (n := 76) rfl ?_
  refine x_aload_n 0 dJ5_deleteEntry_76 rfl rfl (n := 77) rfl ?_
  refine x_ifnull dJ5_deleteEntry_77 (t := 164) (by decide) (n := 80) rfl (fun e => ?_) (fun b12 e => ?_)
  · subst e
    refine x_aload_n 2 dJ5_deleteEntry_164 rfl rfl (n := 165) rfl ?_
    refine x_sm (fun b13 e => ?_)
    subst e
    refine x_getR fl_J5_124 dJ5_deleteEntry_165 (n := 168) rfl (fun x14 => ?_)
    refine x_ifnonnull dJ5_deleteEntry_168 (t := 179) (by decide) (n := 171) rfl (fun e => ?_) (fun b15 e => ?_)
    · subst e
      refine x_aload_nr 1 dJ5_deleteEntry_171 rfl rfl (n := 172) rfl ?_
      refine x_null dJ5_deleteEntry_172 (n := 173) rfl ?_
      refine x_pF (pl_J5_101 _ _ (xfit_o (none))) dJ5_deleteEntry_173 (n := 176) rfl (fun p16 => ?_)
      refine x_goto dJ5_deleteEntry_176 (n := 245) (by decide) ?_
      exact x_return dJ5_deleteEntry_245
    · subst e
      refine x_aload_nr 2 dJ5_deleteEntry_179 rfl rfl (n := 180) rfl ?_
      refine x_getI fl_J5_290 dJ5_deleteEntry_180 (n := 183) rfl (fun x17 => ?_)
      refine x_iconst 1 dJ5_deleteEntry_183 rfl (n := 184) rfl ?_
      refine x_icmp_ne dJ5_deleteEntry_184 (t := 192) (by decide) (n := 187) rfl (fun _ => ?_) (fun _ => ?_)
      · refine x_sub [2] [(1, .ref b13)] rfl ?_
        exact f_J5_deleteEntry_192_ok hO a0 ((some b13)) p0
      · refine x_aload_nr 1 dJ5_deleteEntry_187 rfl rfl (n := 188) rfl ?_
        refine x_aload_nr 2 dJ5_deleteEntry_188 rfl rfl (n := 189) rfl ?_
        refine x_callV_V [.ref b13] [] (f_J5_fixAfterDeletion_ok hO p0 a0 (some b13)) rc_J5_fixAfterDeletion md_J5_fixAfterDeletion rfl q2683 q2685 qs58 dJ5_deleteEntry_189 rfl rfl (by decide) (Nat.le_of_ble_eq_true rfl) (n := 192) rfl (fun p35 => ?_)
        refine x_sub [2] [(1, .ref b13)] rfl ?_
        exact f_J5_deleteEntry_192_ok hO a0 ((some b13)) p35
  · subst e
    refine x_aload_nr 0 dJ5_deleteEntry_80 rfl rfl (n := 81) rfl ?_
    refine x_aload_n 2 dJ5_deleteEntry_81 rfl rfl (n := 82) rfl ?_
    refine x_sm (fun b36 e => ?_)
    subst e
    refine x_getR fl_J5_124 dJ5_deleteEntry_82 (n := 85) rfl (fun x37 => ?_)
    refine x_pF (pl_J5_124 _ _ (xfit_o (x37))) dJ5_deleteEntry_85 (n := 88) rfl (fun p38 => ?_)
    refine x_aload_nr 2 dJ5_deleteEntry_88 rfl rfl (n := 89) rfl ?_
    refine x_getR fl_J5_124 dJ5_deleteEntry_89 (n := 92) rfl (fun x39 => ?_)
    refine x_ifnonnull dJ5_deleteEntry_92 (t := 103) (by decide) (n := 95) rfl (fun e => ?_) (fun b40 e => ?_)
    · subst e
      refine x_aload_nr 1 dJ5_deleteEntry_95 rfl rfl (n := 96) rfl ?_
      refine x_aload_nr 0 dJ5_deleteEntry_96 rfl rfl (n := 97) rfl ?_
      refine x_pF (pl_J5_101 _ _ (xfit_o (some b12))) dJ5_deleteEntry_97 (n := 100) rfl (fun p41 => ?_)
      refine x_goto dJ5_deleteEntry_100 (n := 133) (by decide) ?_
      refine x_sub [1, 2, 0] [(0, .ref a0), (1, .ref b36), (2, .ref b12)] rfl ?_
      exact f_J5_deleteEntry_133_ok hO a0 ((some b36)) ((some b12)) p41
    · subst e
      refine x_aload_nr 2 dJ5_deleteEntry_103 rfl rfl (n := 104) rfl ?_
      refine x_aload_nr 2 dJ5_deleteEntry_104 rfl rfl (n := 105) rfl ?_
      refine x_getR fl_J5_124 dJ5_deleteEntry_105 (n := 108) rfl (fun x48 => ?_)
      refine x_sm (fun b49 e => ?_)
      subst e
      refine x_getR fl_J5_111 dJ5_deleteEntry_108 (n := 111) rfl (fun x50 => ?_)
      refine x_acmp_ne (x := some b36) (y := x50) dJ5_deleteEntry_111 (t := 125) (by decide) (n := 114) rfl (fun _ => ?_) (fun _ => ?_)
      · refine x_aload_nr 2 dJ5_deleteEntry_125 rfl rfl (n := 126) rfl ?_
        refine x_getR fl_J5_124 dJ5_deleteEntry_126 (n := 129) rfl (fun x51 => ?_)
        refine x_aload_nr 0 dJ5_deleteEntry_129 rfl rfl (n := 130) rfl ?_
        refine x_sm (fun b52 e => ?_)
        subst e
        refine x_pF (pl_J5_114 _ _ (xfit_o (some b12))) dJ5_deleteEntry_130 (n := 133) rfl (fun p53 => ?_)
        refine x_sub [1, 2, 0] [(0, .ref a0), (1, .ref b36), (2, .ref b12)] rfl ?_
        exact f_J5_deleteEntry_133_ok hO a0 ((some b36)) ((some b12)) p53
      · refine x_aload_nr 2 dJ5_deleteEntry_114 rfl rfl (n := 115) rfl ?_
        refine x_getR fl_J5_124 dJ5_deleteEntry_115 (n := 118) rfl (fun x54 => ?_)
        refine x_aload_nr 0 dJ5_deleteEntry_118 rfl rfl (n := 119) rfl ?_
        refine x_sm (fun b55 e => ?_)
        subst e
        refine x_pF (pl_J5_111 _ _ (xfit_o (some b12))) dJ5_deleteEntry_119 (n := 122) rfl (fun p56 => ?_)
        refine x_goto dJ5_deleteEntry_122 (n := 133) (by decide) ?_
        refine x_sub [1, 2, 0] [(0, .ref a0), (1, .ref b36), (2, .ref b12)] rfl ?_
        exact f_J5_deleteEntry_133_ok hO a0 ((some b36)) ((some b12)) p56
theorem f_J5_deleteEntry_57_ok {G : xG} (hO : xOK G) (a0 : Nat)  (v1 : Option Nat) (p0 : PH) : X G "java/util/TreeMap" "deleteEntry" cJ5_deleteEntry 3 (Option.none : Option Jvm.ClassFile.FieldType) 2 57 [(0, .ref a0), (1, va_rf v1)] [] p0 (f_J5_deleteEntry_57 a0 v1 p0) := by
  unfold f_J5_deleteEntry_57
  refine x_aload_n 1 dJ5_deleteEntry_57 rfl rfl (n := 58) rfl ?_
  refine x_sm (fun b8 e => ?_)
  subst e
  refine x_getR fl_J5_111 dJ5_deleteEntry_58 (n := 61) rfl (fun x9 => ?_)
  refine x_ifnull dJ5_deleteEntry_61 (t := 71) (by decide) (n := 64) rfl (fun e => ?_) (fun b10 e => ?_)
  · subst e
    refine x_aload_nr 1 dJ5_deleteEntry_71 rfl rfl (n := 72) rfl ?_
    refine x_getR fl_J5_114 dJ5_deleteEntry_72 (n := 75) rfl (fun x11 => ?_)
    exact f_J5_deleteEntry_75_ok hO a0 ((some b8)) x11 p0
  · subst e
    refine x_aload_nr 1 dJ5_deleteEntry_64 rfl rfl (n := 65) rfl ?_
    refine x_getR fl_J5_111 dJ5_deleteEntry_65 (n := 68) rfl (fun x57 => ?_)
    refine x_goto dJ5_deleteEntry_68 (n := 75) (by decide) ?_
    exact f_J5_deleteEntry_75_ok hO a0 ((some b8)) x57 p0
theorem f_J5_deleteEntry_ok {G : xG} (hO : xOK G) (p0 : PH) (a0 : Nat) (a1 : Option Nat) : CT G 2 yJ5_deleteEntry cJ5_deleteEntry 3 (Option.none : Option Jvm.ClassFile.FieldType) [.ref a0, va_rf a1] p0 (f_J5_deleteEntry p0 a0 a1) := by
  refine CT_of hO (by decide +kernel) (by decide +kernel) (lg_slen _ (by simp only [List.map, xcat]; exact Nat.le_of_ble_eq_true rfl)) ?_
  rw [show lv_args 0 [.ref a0, va_rf a1] = [(0, .ref a0), (1, va_rf a1)] from by simp only [lv_args, xcat] <;> rfl]
  show X G "java/util/TreeMap" "deleteEntry" cJ5_deleteEntry 3 (Option.none : Option Jvm.ClassFile.FieldType) 2 0 [(0, .ref a0), (1, va_rf a1)] [] p0 (f_J5_deleteEntry p0 a0 a1)
  refine x_cl1 (fun e0 => ?_)
  refine x_aload_nr 0 dJ5_deleteEntry_0 rfl rfl (n := 1) rfl ?_
  refine x_dup dJ5_deleteEntry_1 rfl (n := 2) rfl ?_
  refine x_getI fl_J5_13 dJ5_deleteEntry_2 (n := 5) rfl (fun x1 => ?_)
  refine x_iconst 1 dJ5_deleteEntry_5 rfl (n := 6) rfl ?_
  refine x_iadd dJ5_deleteEntry_6 (n := 7) rfl ?_
  refine x_pF (pl_J5_13 _ _ ⟨rfl, rfl⟩) dJ5_deleteEntry_7 (n := 10) rfl (fun p2 => ?_)
  refine x_aload_nr 0 dJ5_deleteEntry_10 rfl rfl (n := 11) rfl ?_
  refine x_dup dJ5_deleteEntry_11 rfl (n := 12) rfl ?_
  refine x_getI fl_J5_7 dJ5_deleteEntry_12 (n := 15) rfl (fun x3 => ?_)
  refine x_iconst 1 dJ5_deleteEntry_15 rfl (n := 16) rfl ?_
  refine x_isub dJ5_deleteEntry_16 (n := 17) rfl ?_
  refine x_pF (pl_J5_7 _ _ ⟨rfl, rfl⟩) dJ5_deleteEntry_17 (n := 20) rfl (fun p4 => ?_)
  refine x_aload_n 1 dJ5_deleteEntry_20 rfl rfl (n := 21) rfl ?_
  refine x_sm (fun b5 e => ?_)
  subst e
  refine x_getR fl_J5_111 dJ5_deleteEntry_21 (n := 24) rfl (fun x6 => ?_)
  refine x_ifnull dJ5_deleteEntry_24 (t := 57) (by decide) (n := 27) rfl (fun e => ?_) (fun b7 e => ?_)
  · subst e
    exact f_J5_deleteEntry_57_ok hO a0 ((some b5)) p4
  · subst e
    refine x_aload_nr 1 dJ5_deleteEntry_27 rfl rfl (n := 28) rfl ?_
    refine x_getR fl_J5_114 dJ5_deleteEntry_28 (n := 31) rfl (fun x58 => ?_)
    refine x_ifnull dJ5_deleteEntry_31 (t := 57) (by decide) (n := 34) rfl (fun e => ?_) (fun b59 e => ?_)
    · subst e
      exact f_J5_deleteEntry_57_ok hO a0 ((some b5)) p4
    · subst e
      refine x_aload_nr 1 dJ5_deleteEntry_34 rfl rfl (n := 35) rfl ?_
      refine x_callS_R [.ref b5] [] (f_J5_successor_ok hO p4 (some b5)) md_J5_successor q2682 q1943 dJ5_deleteEntry_35 rfl rfl (by decide) (Nat.le_of_ble_eq_true rfl) (n := 38) rfl (fun x61 p60 => ?_)
      refine x_astore_n [(2, va_rf x61), (0, .ref a0), (1, .ref b5)] dJ5_deleteEntry_38 rfl (by decide) rfl (n := 39) rfl ?_
      refine x_aload_nr 2 dJ5_deleteEntry_39 rfl rfl (n := 40) rfl ?_
      refine x_aload_n 0 dJ5_deleteEntry_40 rfl rfl (n := 41) rfl ?_
      refine x_sm (fun b62 e => ?_)
      subst e
      refine x_getR fl_J5_105 dJ5_deleteEntry_41 (n := 44) rfl (fun x63 => ?_)
      refine x_pF (pl_J5_105 _ _ (xfit_o (x63))) dJ5_deleteEntry_44 (n := 47) rfl (fun p64 => ?_)
      refine x_aload_nr 2 dJ5_deleteEntry_47 rfl rfl (n := 48) rfl ?_
      refine x_aload_nr 0 dJ5_deleteEntry_48 rfl rfl (n := 49) rfl ?_
      refine x_getR fl_J5_58 dJ5_deleteEntry_49 (n := 52) rfl (fun x65 => ?_)
      refine x_pF (pl_J5_58 _ _ (xfit_o (x65))) dJ5_deleteEntry_52 (n := 55) rfl (fun p66 => ?_)
      refine x_aload_nr 0 dJ5_deleteEntry_55 rfl rfl (n := 56) rfl ?_
      refine x_astore_nr [(1, .ref b62), (2, .ref b62), (0, .ref a0)] dJ5_deleteEntry_56 rfl (by decide) rfl (n := 57) rfl ?_
      refine x_sub [2, 0] [(0, .ref a0), (1, .ref b62)] rfl ?_
      exact f_J5_deleteEntry_57_ok hO a0 ((some b62)) p66
abbrev cJ36_remove : ByteArray := prog_82_method_5_code
def yJ36_remove : MethodName := ⟨RJ36, "remove", "()V"⟩
def dkwJ36_remove_3 : List UInt8 := [180, 0, 22, 182, 0, 53, 42, 42, 180, 0, 1, 180, 0, 13, 181, 0, 19, 42, 1, 181, 0, 22, 177]
abbrev dktJ36_remove_3 : List UInt8 := dkwJ36_remove_3 ++ []
def dkwJ36_remove_2 : List UInt8 := [42, 180, 0, 22, 180, 0, 50, 198, 0, 11, 42, 42, 180, 0, 22, 181, 0, 26, 42, 180, 0, 1, 42]
abbrev dktJ36_remove_2 : List UInt8 := dkwJ36_remove_2 ++ dktJ36_remove_3
def dkwJ36_remove_1 : List UInt8 := [180, 0, 19, 159, 0, 11, 187, 0, 32, 89, 183, 0, 34, 191, 42, 180, 0, 22, 180, 0, 45, 198, 0, 21]
abbrev dktJ36_remove_1 : List UInt8 := dkwJ36_remove_1 ++ dktJ36_remove_2
def dkwJ36_remove_0 : List UInt8 := [42, 180, 0, 22, 199, 0, 11, 187, 0, 42, 89, 183, 0, 44, 191, 42, 180, 0, 1, 180, 0, 13, 42]
abbrev dktJ36_remove_0 : List UInt8 := dkwJ36_remove_0 ++ dktJ36_remove_1
theorem dksJ36_remove_0 : cJ36_remove.data.toList.drop 0 = dktJ36_remove_0 := by decide +kernel
theorem dksJ36_remove_1 : cJ36_remove.data.toList.drop 23 = dktJ36_remove_1 := dk_seg dksJ36_remove_0 23 rfl rfl
theorem dksJ36_remove_2 : cJ36_remove.data.toList.drop 47 = dktJ36_remove_2 := dk_seg dksJ36_remove_1 24 rfl rfl
theorem dksJ36_remove_3 : cJ36_remove.data.toList.drop 70 = dktJ36_remove_3 := dk_seg dksJ36_remove_2 23 rfl rfl
theorem dJ36_remove_0 : decode cJ36_remove 0 = .ok (.aload_n 0, 1) := dk_42 (dk_at dksJ36_remove_0 0 rfl rfl)
theorem dJ36_remove_1 : decode cJ36_remove 1 = .ok (.getfield 22, 3) := dk_180 0 22 (dk_at dksJ36_remove_0 1 rfl rfl)
theorem dJ36_remove_4 : decode cJ36_remove 4 = .ok (.ifnonnull 11, 3) := dk_199 0 11 (dk_at dksJ36_remove_0 4 rfl rfl)
theorem dJ36_remove_7 : decode cJ36_remove 7 = .ok (.new 42, 3) := dk_187 0 42 (dk_at dksJ36_remove_0 7 rfl rfl)
theorem dJ36_remove_10 : decode cJ36_remove 10 = .ok (.dup, 1) := dk_89 (dk_at dksJ36_remove_0 10 rfl rfl)
theorem dJ36_remove_11 : decode cJ36_remove 11 = .ok (.invokespecial 44, 3) := dk_183 0 44 (dk_at dksJ36_remove_0 11 rfl rfl)
theorem dJ36_remove_14 : decode cJ36_remove 14 = .ok (.athrow, 1) := dk_191 (dk_at dksJ36_remove_0 14 rfl rfl)
theorem dJ36_remove_15 : decode cJ36_remove 15 = .ok (.aload_n 0, 1) := dk_42 (dk_at dksJ36_remove_0 15 rfl rfl)
theorem dJ36_remove_16 : decode cJ36_remove 16 = .ok (.getfield 1, 3) := dk_180 0 1 (dk_at dksJ36_remove_0 16 rfl rfl)
theorem dJ36_remove_19 : decode cJ36_remove 19 = .ok (.getfield 13, 3) := dk_180 0 13 (dk_at dksJ36_remove_0 19 rfl rfl)
theorem dJ36_remove_22 : decode cJ36_remove 22 = .ok (.aload_n 0, 1) := dk_42 (dk_at dksJ36_remove_0 22 rfl rfl)
theorem dJ36_remove_23 : decode cJ36_remove 23 = .ok (.getfield 19, 3) := dk_180 0 19 (dk_at dksJ36_remove_1 0 rfl rfl)
theorem dJ36_remove_26 : decode cJ36_remove 26 = .ok (.if_icmp .eq 11, 3) := dk_159 0 11 (dk_at dksJ36_remove_1 3 rfl rfl)
theorem dJ36_remove_29 : decode cJ36_remove 29 = .ok (.new 32, 3) := dk_187 0 32 (dk_at dksJ36_remove_1 6 rfl rfl)
theorem dJ36_remove_32 : decode cJ36_remove 32 = .ok (.dup, 1) := dk_89 (dk_at dksJ36_remove_1 9 rfl rfl)
theorem dJ36_remove_33 : decode cJ36_remove 33 = .ok (.invokespecial 34, 3) := dk_183 0 34 (dk_at dksJ36_remove_1 10 rfl rfl)
theorem dJ36_remove_36 : decode cJ36_remove 36 = .ok (.athrow, 1) := dk_191 (dk_at dksJ36_remove_1 13 rfl rfl)
theorem dJ36_remove_37 : decode cJ36_remove 37 = .ok (.aload_n 0, 1) := dk_42 (dk_at dksJ36_remove_1 14 rfl rfl)
theorem dJ36_remove_38 : decode cJ36_remove 38 = .ok (.getfield 22, 3) := dk_180 0 22 (dk_at dksJ36_remove_1 15 rfl rfl)
theorem dJ36_remove_41 : decode cJ36_remove 41 = .ok (.getfield 45, 3) := dk_180 0 45 (dk_at dksJ36_remove_1 18 rfl rfl)
theorem dJ36_remove_44 : decode cJ36_remove 44 = .ok (.ifnull 21, 3) := dk_198 0 21 (dk_at dksJ36_remove_1 21 rfl rfl)
theorem dJ36_remove_47 : decode cJ36_remove 47 = .ok (.aload_n 0, 1) := dk_42 (dk_at dksJ36_remove_2 0 rfl rfl)
theorem dJ36_remove_48 : decode cJ36_remove 48 = .ok (.getfield 22, 3) := dk_180 0 22 (dk_at dksJ36_remove_2 1 rfl rfl)
theorem dJ36_remove_51 : decode cJ36_remove 51 = .ok (.getfield 50, 3) := dk_180 0 50 (dk_at dksJ36_remove_2 4 rfl rfl)
theorem dJ36_remove_54 : decode cJ36_remove 54 = .ok (.ifnull 11, 3) := dk_198 0 11 (dk_at dksJ36_remove_2 7 rfl rfl)
theorem dJ36_remove_57 : decode cJ36_remove 57 = .ok (.aload_n 0, 1) := dk_42 (dk_at dksJ36_remove_2 10 rfl rfl)
theorem dJ36_remove_58 : decode cJ36_remove 58 = .ok (.aload_n 0, 1) := dk_42 (dk_at dksJ36_remove_2 11 rfl rfl)
theorem dJ36_remove_59 : decode cJ36_remove 59 = .ok (.getfield 22, 3) := dk_180 0 22 (dk_at dksJ36_remove_2 12 rfl rfl)
theorem dJ36_remove_62 : decode cJ36_remove 62 = .ok (.putfield 26, 3) := dk_181 0 26 (dk_at dksJ36_remove_2 15 rfl rfl)
theorem dJ36_remove_65 : decode cJ36_remove 65 = .ok (.aload_n 0, 1) := dk_42 (dk_at dksJ36_remove_2 18 rfl rfl)
theorem dJ36_remove_66 : decode cJ36_remove 66 = .ok (.getfield 1, 3) := dk_180 0 1 (dk_at dksJ36_remove_2 19 rfl rfl)
theorem dJ36_remove_69 : decode cJ36_remove 69 = .ok (.aload_n 0, 1) := dk_42 (dk_at dksJ36_remove_2 22 rfl rfl)
theorem dJ36_remove_70 : decode cJ36_remove 70 = .ok (.getfield 22, 3) := dk_180 0 22 (dk_at dksJ36_remove_3 0 rfl rfl)
theorem dJ36_remove_73 : decode cJ36_remove 73 = .ok (.invokevirtual 53, 3) := dk_182 0 53 (dk_at dksJ36_remove_3 3 rfl rfl)
theorem dJ36_remove_76 : decode cJ36_remove 76 = .ok (.aload_n 0, 1) := dk_42 (dk_at dksJ36_remove_3 6 rfl rfl)
theorem dJ36_remove_77 : decode cJ36_remove 77 = .ok (.aload_n 0, 1) := dk_42 (dk_at dksJ36_remove_3 7 rfl rfl)
theorem dJ36_remove_78 : decode cJ36_remove 78 = .ok (.getfield 1, 3) := dk_180 0 1 (dk_at dksJ36_remove_3 8 rfl rfl)
theorem dJ36_remove_81 : decode cJ36_remove 81 = .ok (.getfield 13, 3) := dk_180 0 13 (dk_at dksJ36_remove_3 11 rfl rfl)
theorem dJ36_remove_84 : decode cJ36_remove 84 = .ok (.putfield 19, 3) := dk_181 0 19 (dk_at dksJ36_remove_3 14 rfl rfl)
theorem dJ36_remove_87 : decode cJ36_remove 87 = .ok (.aload_n 0, 1) := dk_42 (dk_at dksJ36_remove_3 17 rfl rfl)
theorem dJ36_remove_88 : decode cJ36_remove 88 = .ok (.aconst_null, 1) := dk_1 (dk_at dksJ36_remove_3 18 rfl rfl)
theorem dJ36_remove_89 : decode cJ36_remove 89 = .ok (.putfield 22, 3) := dk_181 0 22 (dk_at dksJ36_remove_3 19 rfl rfl)
theorem dJ36_remove_92 : decode cJ36_remove 92 = .ok (.return_, 1) := dk_177 (dk_at dksJ36_remove_3 22 rfl rfl)
theorem md_J36_remove : xMd yJ36_remove cJ36_remove 1 (Option.none : Option Jvm.ClassFile.FieldType) 0 := ⟨q2677, q176, by decide, by decide +kernel, by decide +kernel, by decide +kernel⟩
def f_J36_remove_65 (a0 : Nat)   (p0 : PH) : Option (xO × PH) :=
  (xgR p0 a0 25 3 fun x11 =>
  (xgR p0 a0 25 1 fun x12 =>
  (xnul x11 none fun b13 =>
  (xcV (f_J5_deleteEntry p0 b13 x12) fun p14 =>
  (xgR p14 a0 25 3 fun x15 =>
  (xnul x15 none fun b16 =>
  (xgI p14 b16 15 5 fun x17 =>
  (xpF p14 a0 25 2 (.int x17) fun p18 =>
  (xpF p18 a0 25 1 (va_rf none) fun p19 =>
  (rV p19))))))))))
def f_J36_remove (p0 : PH) (a0 : Nat) : Option (xO × PH) :=
  (xcl1 p0 a0 25 (xgR p0 a0 25 1 fun x1 =>
  (xnul x1 none fun b2 =>
  (xgR p0 a0 25 3 fun x3 =>
  (xnul x3 none fun b4 =>
  (xgI p0 b4 15 5 fun x5 =>
  (xgI p0 a0 25 2 fun x6 =>
  (if x5 = x6 then
  (xgR p0 a0 25 1 fun x7 =>
  (xnul x7 none fun b8 =>
  (xgR p0 b8 19 2 fun x9 =>
  (xnul x9 (f_J36_remove_65 a0  p0) fun b10 =>
  (xgR p0 a0 25 1 fun x20 =>
  (xnul x20 none fun b21 =>
  (xgR p0 b21 19 3 fun x22 =>
  (xnul x22 (f_J36_remove_65 a0  p0) fun b23 =>
  (xgR p0 a0 25 1 fun x24 =>
  (xpF p0 a0 25 0 (va_rf x24) fun p25 =>
  (f_J36_remove_65 a0  p25))))))))))) else
  none))))))))
theorem rc_J36_remove {p0 : PH} {a0 : Nat} : ∀ z, f_J36_remove p0 a0 = some z → xco p0 a0 = some 25 := fun z h => xcl1_some h
theorem f_J36_remove_65_ok {G : xG} (hO : xOK G) (a0 : Nat)   (p0 : PH) : X G "java/util/TreeMap$PrivateEntryIterator" "remove" cJ36_remove 1 (Option.none : Option Jvm.ClassFile.FieldType) 3 65 [(0, .ref a0)] [] p0 (f_J36_remove_65 a0  p0) := by
  unfold f_J36_remove_65
  refine x_aload_nr 0 dJ36_remove_65 rfl rfl (n := 66) rfl ?_
  refine x_getR fl_J36_1 dJ36_remove_66 (n := 69) rfl (fun x11 => ?_)
  refine x_aload_nr 0 dJ36_remove_69 rfl rfl (n := 70) rfl ?_
  refine x_getR fl_J36_22 dJ36_remove_70 (n := 73) rfl (fun x12 => ?_)
  refine x_sm (fun b13 e => ?_)
  subst e
  refine x_callVN_V [va_rf x12] [] (f_J5_deleteEntry_ok hO p0 b13 x12) rc_J5_deleteEntry md_J5_deleteEntry rfl q2678 q2680 qs57 dJ36_remove_73 rfl rfl (by decide) (Nat.le_of_ble_eq_true rfl) (n := 76) rfl (fun p14 => ?_)
  refine x_aload_nr 0 dJ36_remove_76 rfl rfl (n := 77) rfl ?_
  refine x_aload_nr 0 dJ36_remove_77 rfl rfl (n := 78) rfl ?_
  refine x_getR fl_J36_1 dJ36_remove_78 (n := 81) rfl (fun x15 => ?_)
  refine x_sm (fun b16 e => ?_)
  subst e
  refine x_getI fl_J36_13 dJ36_remove_81 (n := 84) rfl (fun x17 => ?_)
  refine x_pF (pl_J36_19 _ _ ⟨rfl, rfl⟩) dJ36_remove_84 (n := 87) rfl (fun p18 => ?_)
  refine x_aload_nr 0 dJ36_remove_87 rfl rfl (n := 88) rfl ?_
  refine x_null dJ36_remove_88 (n := 89) rfl ?_
  refine x_pF (pl_J36_22 _ _ (xfit_o (none))) dJ36_remove_89 (n := 92) rfl (fun p19 => ?_)
  exact x_return dJ36_remove_92
theorem f_J36_remove_ok {G : xG} (hO : xOK G) (p0 : PH) (a0 : Nat) : CT G 3 yJ36_remove cJ36_remove 1 (Option.none : Option Jvm.ClassFile.FieldType) [.ref a0] p0 (f_J36_remove p0 a0) := by
  refine CT_of hO (by decide +kernel) (by decide +kernel) (Nat.le_of_ble_eq_true rfl) ?_
  show X G "java/util/TreeMap$PrivateEntryIterator" "remove" cJ36_remove 1 (Option.none : Option Jvm.ClassFile.FieldType) 3 0 [(0, .ref a0)] [] p0 (f_J36_remove p0 a0)
  refine x_cl1 (fun e0 => ?_)
  refine x_aload_nr 0 dJ36_remove_0 rfl rfl (n := 1) rfl ?_
  refine x_getR fl_J36_22 dJ36_remove_1 (n := 4) rfl (fun x1 => ?_)
  refine x_ifnonnull dJ36_remove_4 (t := 15) (by decide) (n := 7) rfl (fun e => ?_) (fun b2 e => ?_)
  · subst e
    exact x_no
  · subst e
    refine x_aload_nr 0 dJ36_remove_15 rfl rfl (n := 16) rfl ?_
    refine x_getR fl_J36_1 dJ36_remove_16 (n := 19) rfl (fun x3 => ?_)
    refine x_sm (fun b4 e => ?_)
    subst e
    refine x_getI fl_J36_13 dJ36_remove_19 (n := 22) rfl (fun x5 => ?_)
    refine x_aload_nr 0 dJ36_remove_22 rfl rfl (n := 23) rfl ?_
    refine x_getI fl_J36_19 dJ36_remove_23 (n := 26) rfl (fun x6 => ?_)
    refine x_icmp_eq dJ36_remove_26 (t := 37) (by decide) (n := 29) rfl (fun _ => ?_) (fun _ => ?_)
    · refine x_aload_nr 0 dJ36_remove_37 rfl rfl (n := 38) rfl ?_
      refine x_getR fl_J36_22 dJ36_remove_38 (n := 41) rfl (fun x7 => ?_)
      refine x_sm (fun b8 e => ?_)
      subst e
      refine x_getR fl_J36_45 dJ36_remove_41 (n := 44) rfl (fun x9 => ?_)
      refine x_ifnull dJ36_remove_44 (t := 65) (by decide) (n := 47) rfl (fun e => ?_) (fun b10 e => ?_)
      · subst e
        exact f_J36_remove_65_ok hO a0  p0
      · subst e
        refine x_aload_nr 0 dJ36_remove_47 rfl rfl (n := 48) rfl ?_
        refine x_getR fl_J36_22 dJ36_remove_48 (n := 51) rfl (fun x20 => ?_)
        refine x_sm (fun b21 e => ?_)
        subst e
        refine x_getR fl_J36_50 dJ36_remove_51 (n := 54) rfl (fun x22 => ?_)
        refine x_ifnull dJ36_remove_54 (t := 65) (by decide) (n := 57) rfl (fun e => ?_) (fun b23 e => ?_)
        · subst e
          exact f_J36_remove_65_ok hO a0  p0
        · subst e
          refine x_aload_nr 0 dJ36_remove_57 rfl rfl (n := 58) rfl ?_
          refine x_aload_nr 0 dJ36_remove_58 rfl rfl (n := 59) rfl ?_
          refine x_getR fl_J36_22 dJ36_remove_59 (n := 62) rfl (fun x24 => ?_)
          refine x_pF (pl_J36_26 _ _ (xfit_o (x24))) dJ36_remove_62 (n := 65) rfl (fun p25 => ?_)
          exact f_J36_remove_65_ok hO a0  p25
    · exact x_no
abbrev cJ0_retainAll : ByteArray := prog_40_method_14_code
def yJ0_retainAll : MethodName := ⟨RJ0, "retainAll", "(Ljava/util/Collection;)Z"⟩
def dkwJ0_retainAll_2 : List UInt8 := [28, 172]
abbrev dktJ0_retainAll_2 : List UInt8 := dkwJ0_retainAll_2 ++ []
def dkwJ0_retainAll_1 : List UInt8 := [185, 0, 23, 1, 0, 185, 0, 91, 2, 0, 154, 255, 235, 45, 185, 0, 73, 1, 0, 4, 61, 167, 255, 224]
abbrev dktJ0_retainAll_1 : List UInt8 := dkwJ0_retainAll_1 ++ dktJ0_retainAll_2
def dkwJ0_retainAll_0 : List UInt8 := [43, 184, 0, 85, 87, 3, 61, 42, 182, 0, 13, 78, 45, 185, 0, 17, 1, 0, 153, 0, 29, 43, 45]
abbrev dktJ0_retainAll_0 : List UInt8 := dkwJ0_retainAll_0 ++ dktJ0_retainAll_1
theorem dksJ0_retainAll_0 : cJ0_retainAll.data.toList.drop 0 = dktJ0_retainAll_0 := by decide +kernel
theorem dksJ0_retainAll_1 : cJ0_retainAll.data.toList.drop 23 = dktJ0_retainAll_1 := dk_seg dksJ0_retainAll_0 23 rfl rfl
theorem dksJ0_retainAll_2 : cJ0_retainAll.data.toList.drop 47 = dktJ0_retainAll_2 := dk_seg dksJ0_retainAll_1 24 rfl rfl
theorem dJ0_retainAll_0 : decode cJ0_retainAll 0 = .ok (.aload_n 1, 1) := dk_43 (dk_at dksJ0_retainAll_0 0 rfl rfl)
theorem dJ0_retainAll_1 : decode cJ0_retainAll 1 = .ok (.invokestatic 85, 3) := dk_184 0 85 (dk_at dksJ0_retainAll_0 1 rfl rfl)
theorem dJ0_retainAll_4 : decode cJ0_retainAll 4 = .ok (.pop, 1) := dk_87 (dk_at dksJ0_retainAll_0 4 rfl rfl)
theorem dJ0_retainAll_5 : decode cJ0_retainAll 5 = .ok (.iconst 0, 1) := dk_3 (dk_at dksJ0_retainAll_0 5 rfl rfl)
theorem dJ0_retainAll_6 : decode cJ0_retainAll 6 = .ok (.istore_n 2, 1) := dk_61 (dk_at dksJ0_retainAll_0 6 rfl rfl)
theorem dJ0_retainAll_7 : decode cJ0_retainAll 7 = .ok (.aload_n 0, 1) := dk_42 (dk_at dksJ0_retainAll_0 7 rfl rfl)
theorem dJ0_retainAll_8 : decode cJ0_retainAll 8 = .ok (.invokevirtual 13, 3) := dk_182 0 13 (dk_at dksJ0_retainAll_0 8 rfl rfl)
theorem dJ0_retainAll_11 : decode cJ0_retainAll 11 = .ok (.astore_n 3, 1) := dk_78 (dk_at dksJ0_retainAll_0 11 rfl rfl)
theorem dJ0_retainAll_12 : decode cJ0_retainAll 12 = .ok (.aload_n 3, 1) := dk_45 (dk_at dksJ0_retainAll_0 12 rfl rfl)
theorem dJ0_retainAll_13 : decode cJ0_retainAll 13 = .ok (.invokeinterface 17 1, 5) := by decide +kernel
theorem dJ0_retainAll_18 : decode cJ0_retainAll 18 = .ok (.ifCond .eq 29, 3) := dk_153 0 29 (dk_at dksJ0_retainAll_0 18 rfl rfl)
theorem dJ0_retainAll_21 : decode cJ0_retainAll 21 = .ok (.aload_n 1, 1) := dk_43 (dk_at dksJ0_retainAll_0 21 rfl rfl)
theorem dJ0_retainAll_22 : decode cJ0_retainAll 22 = .ok (.aload_n 3, 1) := dk_45 (dk_at dksJ0_retainAll_0 22 rfl rfl)
theorem dJ0_retainAll_23 : decode cJ0_retainAll 23 = .ok (.invokeinterface 23 1, 5) := by decide +kernel
theorem dJ0_retainAll_28 : decode cJ0_retainAll 28 = .ok (.invokeinterface 91 2, 5) := by decide +kernel
theorem dJ0_retainAll_33 : decode cJ0_retainAll 33 = .ok (.ifCond .ne (-21), 3) := dk_154 255 235 (dk_at dksJ0_retainAll_1 10 rfl rfl)
theorem dJ0_retainAll_36 : decode cJ0_retainAll 36 = .ok (.aload_n 3, 1) := dk_45 (dk_at dksJ0_retainAll_1 13 rfl rfl)
theorem dJ0_retainAll_37 : decode cJ0_retainAll 37 = .ok (.invokeinterface 73 1, 5) := by decide +kernel
theorem dJ0_retainAll_42 : decode cJ0_retainAll 42 = .ok (.iconst 1, 1) := dk_4 (dk_at dksJ0_retainAll_1 19 rfl rfl)
theorem dJ0_retainAll_43 : decode cJ0_retainAll 43 = .ok (.istore_n 2, 1) := dk_61 (dk_at dksJ0_retainAll_1 20 rfl rfl)
theorem dJ0_retainAll_44 : decode cJ0_retainAll 44 = .ok (.goto (-32), 3) := dk_167 255 224 (dk_at dksJ0_retainAll_1 21 rfl rfl)
theorem dJ0_retainAll_47 : decode cJ0_retainAll 47 = .ok (.iload_n 2, 1) := dk_28 (dk_at dksJ0_retainAll_2 0 rfl rfl)
theorem dJ0_retainAll_48 : decode cJ0_retainAll 48 = .ok (.ireturn, 1) := dk_172 (dk_at dksJ0_retainAll_2 1 rfl rfl)
theorem md_J0_retainAll : xMd yJ0_retainAll cJ0_retainAll 4 (Option.some Jvm.ClassFile.FieldType.boolean) 1 := ⟨q2420, q124, by decide, by decide +kernel, by decide +kernel, by decide +kernel⟩
def f_J0_retainAll_12F (a0 : Nat)  (k12 : Option Nat × Int32 × Option Nat × PH → Option (xO × PH)) (p : Option Nat × Int32 × Option Nat × PH) : Option (xO × PH) := match p with
  | (v1, v2, v3, p0) => (xnul v3 none fun b5 =>
  (xsw p0 b5 fun c7 =>
  (if c7 = 20 then
  (xcI (f_J26_hasNext p0 b5 ) fun x10 p9 =>
  (if x10 = 0 then
  (if vp_nar .boolean v2 = v2 then rI v2 p9 else none) else
  (xsw p9 b5 fun c12 =>
  (if c12 = 20 then
  (xcR (f_J26_next p9 b5 ) fun x15 p14 =>
  (xnul v1 none fun b16 =>
  (xcI (f_J34_contains p14 b16 x15) fun x18 p17 =>
  (if x18 = 0 then
  (xcV (f_J36_remove p17 b5 ) fun p19 =>
  (k12 (((some b16)), 1, ((some b5)), p19))) else
  (k12 (((some b16)), v2, ((some b5)), p17)))))) else
  (if c12 = 25 then
  (xcR (f_J37_next p9 b5 ) fun x21 p20 =>
  (xnul v1 none fun b22 =>
  (xcI (f_J34_contains p20 b22 x21) fun x24 p23 =>
  (if x24 = 0 then
  (xcV (f_J36_remove p23 b5 ) fun p25 =>
  (k12 (((some b22)), 1, ((some b5)), p25))) else
  (k12 (((some b22)), v2, ((some b5)), p23)))))) else
  none))))) else
  (if c7 = 25 then
  (xcI (f_J36_hasNext p0 b5 ) fun x27 p26 =>
  (if x27 = 0 then
  (if vp_nar .boolean v2 = v2 then rI v2 p26 else none) else
  (xsw p26 b5 fun c29 =>
  (if c29 = 20 then
  (xcR (f_J26_next p26 b5 ) fun x32 p31 =>
  (xnul v1 none fun b33 =>
  (xcI (f_J34_contains p31 b33 x32) fun x35 p34 =>
  (if x35 = 0 then
  (xcV (f_J36_remove p34 b5 ) fun p36 =>
  (k12 (((some b33)), 1, ((some b5)), p36))) else
  (k12 (((some b33)), v2, ((some b5)), p34)))))) else
  (if c29 = 25 then
  (xcR (f_J37_next p26 b5 ) fun x38 p37 =>
  (xnul v1 none fun b39 =>
  (xcI (f_J34_contains p37 b39 x38) fun x41 p40 =>
  (if x41 = 0 then
  (xcV (f_J36_remove p40 b5 ) fun p42 =>
  (k12 (((some b39)), 1, ((some b5)), p42))) else
  (k12 (((some b39)), v2, ((some b5)), p40)))))) else
  none))))) else
  none))))
def f_J0_retainAll (p0 : PH) (a0 : Nat) (a1 : Option Nat) : Option (xO × PH) :=
  (xcl1 p0 a0 23 (xcR (f_J20_requireNonNull p0 a1) fun x2 p1 =>
  (xcR (f_J34_iterator p1 a0 ) fun x4 p3 =>
  (lp (f_J0_retainAll_12F a0) FU (a1, 0, x4, p3)))))
theorem rc_J0_retainAll {p0 : PH} {a0 : Nat} {a1 : Option Nat} : ∀ z, f_J0_retainAll p0 a0 a1 = some z → xco p0 a0 = some 23 := fun z h => xcl1_some h
theorem f_J0_retainAll_12F_ok {G : xG} (hO : xOK G) (a0 : Nat)  {k12 : Option Nat × Int32 × Option Nat × PH → Option (xO × PH)} (hk12 : ∀ (v1 : Option Nat) (v2 : Int32) (v3 : Option Nat) (p0 : PH), X G "java/util/AbstractCollection" "retainAll" cJ0_retainAll 4 (Option.some Jvm.ClassFile.FieldType.boolean) 8 12 [(1, va_rf v1), (2, .int v2), (3, va_rf v3)] [] p0 (k12 (v1, v2, v3, p0))) (v1 : Option Nat) (v2 : Int32) (v3 : Option Nat) (p0 : PH) : X G "java/util/AbstractCollection" "retainAll" cJ0_retainAll 4 (Option.some Jvm.ClassFile.FieldType.boolean) 8 12 [(1, va_rf v1), (2, .int v2), (3, va_rf v3)] [] p0 (f_J0_retainAll_12F a0 k12 (v1, v2, v3, p0)) := by
  unfold f_J0_retainAll_12F
  refine x_aload_n 2 dJ0_retainAll_12 rfl rfl (n := 13) rfl ?_
  refine x_sm (fun b5 e => ?_)
  subst e
  refine x_sw (fun c7 e => ?_)
  refine x_ite (fun h => ?_) (fun _ => ?_)
  · subst h
    refine x_callF_I [] [] (f_J26_hasNext_ok hO p0 b5 ) rc_J26_hasNext md_J26_hasNext rfl q2480 fc_java_util_ArrayList_Itr_java_util_Iterator_hasNext_0_Z dJ0_retainAll_13 rfl rfl (by decide) (Nat.le_of_ble_eq_true rfl) (n := 18) rfl (fun x10 p9 => ?_)
    refine x_if_eq dJ0_retainAll_18 (t := 47) (by decide) (n := 21) rfl (fun _ => ?_) (fun _ => ?_)
    · refine x_iload_n 1 dJ0_retainAll_47 rfl rfl (n := 48) rfl ?_
      exact x_nreturn rfl dJ0_retainAll_48
    · refine x_aload_n 0 dJ0_retainAll_21 rfl rfl (n := 22) rfl ?_
      refine x_aload_nr 2 dJ0_retainAll_22 rfl rfl (n := 23) rfl ?_
      refine x_sw (fun c12 e => ?_)
      refine x_ite (fun h => ?_) (fun _ => ?_)
      · subst h
        refine x_callF_R [] [va_rf v1] (f_J26_next_ok hO p9 b5 ) rc_J26_next md_J26_next rfl q2482 fc_java_util_ArrayList_Itr_java_util_Iterator_next_0_Ljaval dJ0_retainAll_23 rfl rfl (by decide) (by simp only [List.map, xcat]; exact Nat.le_of_ble_eq_true rfl) (n := 28) rfl (fun x15 p14 => ?_)
        refine x_sm (fun b16 e => ?_)
        subst e
        refine x_callF_I [va_rf x15] [] (f_J34_contains_ok hO p14 b16 x15) rc_J34_contains md_J34_contains rfl q2484 fc_java_util_TreeSet_java_util_Collection_contains_1_Ljaval dJ0_retainAll_28 rfl rfl (by decide) (Nat.le_of_ble_eq_true rfl) (n := 33) rfl (fun x18 p17 => ?_)
        refine x_if_ne dJ0_retainAll_33 (t := 12) (by decide) (n := 36) rfl (fun _ => ?_) (fun _ => ?_)
        · exact hk12 ((some b16)) v2 ((some b5)) p17
        · refine x_aload_nr 2 dJ0_retainAll_36 rfl rfl (n := 37) rfl ?_
          refine x_callF_V [] [] (f_J36_remove_ok hO p17 b5 ) rc_J36_remove md_J36_remove rfl q2566 fc_java_util_TreeMap_KeyIterator_java_util_Iterator_remove_0_V dJ0_retainAll_37 rfl rfl (by decide) (Nat.le_of_ble_eq_true rfl) (n := 42) rfl (fun p19 => ?_)
          refine x_iconst 1 dJ0_retainAll_42 rfl (n := 43) rfl ?_
          refine x_istore_n [(2, .int 1), (1, .ref b16), (3, .ref b5)] dJ0_retainAll_43 rfl (by decide) rfl (n := 44) rfl ?_
          refine x_goto dJ0_retainAll_44 (n := 12) (by decide) ?_
          refine x_sub [1, 0, 2] [(1, .ref b16), (2, .int 1), (3, .ref b5)] rfl ?_
          exact hk12 ((some b16)) 1 ((some b5)) p19
      refine x_ite (fun h => ?_) (fun _ => ?_)
      · subst h
        refine x_callF_R [] [va_rf v1] (f_J37_next_ok hO p9 b5 ) rc_J37_next md_J37_next rfl q2482 fc_java_util_TreeMap_KeyIterator_java_util_Iterator_next_0_Ljaval dJ0_retainAll_23 rfl rfl (by decide) (by simp only [List.map, xcat]; exact Nat.le_of_ble_eq_true rfl) (n := 28) rfl (fun x21 p20 => ?_)
        refine x_sm (fun b22 e => ?_)
        subst e
        refine x_callF_I [va_rf x21] [] (f_J34_contains_ok hO p20 b22 x21) rc_J34_contains md_J34_contains rfl q2484 fc_java_util_TreeSet_java_util_Collection_contains_1_Ljaval dJ0_retainAll_28 rfl rfl (by decide) (Nat.le_of_ble_eq_true rfl) (n := 33) rfl (fun x24 p23 => ?_)
        refine x_if_ne dJ0_retainAll_33 (t := 12) (by decide) (n := 36) rfl (fun _ => ?_) (fun _ => ?_)
        · exact hk12 ((some b22)) v2 ((some b5)) p23
        · refine x_aload_nr 2 dJ0_retainAll_36 rfl rfl (n := 37) rfl ?_
          refine x_callF_V [] [] (f_J36_remove_ok hO p23 b5 ) rc_J36_remove md_J36_remove rfl q2566 fc_java_util_TreeMap_KeyIterator_java_util_Iterator_remove_0_V dJ0_retainAll_37 rfl rfl (by decide) (Nat.le_of_ble_eq_true rfl) (n := 42) rfl (fun p25 => ?_)
          refine x_iconst 1 dJ0_retainAll_42 rfl (n := 43) rfl ?_
          refine x_istore_n [(2, .int 1), (1, .ref b22), (3, .ref b5)] dJ0_retainAll_43 rfl (by decide) rfl (n := 44) rfl ?_
          refine x_goto dJ0_retainAll_44 (n := 12) (by decide) ?_
          refine x_sub [1, 0, 2] [(1, .ref b22), (2, .int 1), (3, .ref b5)] rfl ?_
          exact hk12 ((some b22)) 1 ((some b5)) p25
      exact x_no
  refine x_ite (fun h => ?_) (fun _ => ?_)
  · subst h
    refine x_callF_I [] [] (f_J36_hasNext_ok hO p0 b5 ) rc_J36_hasNext md_J36_hasNext rfl q2480 fc_java_util_TreeMap_KeyIterator_java_util_Iterator_hasNext_0_Z dJ0_retainAll_13 rfl rfl (by decide) (Nat.le_of_ble_eq_true rfl) (n := 18) rfl (fun x27 p26 => ?_)
    refine x_if_eq dJ0_retainAll_18 (t := 47) (by decide) (n := 21) rfl (fun _ => ?_) (fun _ => ?_)
    · refine x_iload_n 1 dJ0_retainAll_47 rfl rfl (n := 48) rfl ?_
      exact x_nreturn rfl dJ0_retainAll_48
    · refine x_aload_n 0 dJ0_retainAll_21 rfl rfl (n := 22) rfl ?_
      refine x_aload_nr 2 dJ0_retainAll_22 rfl rfl (n := 23) rfl ?_
      refine x_sw (fun c29 e => ?_)
      refine x_ite (fun h => ?_) (fun _ => ?_)
      · subst h
        refine x_callF_R [] [va_rf v1] (f_J26_next_ok hO p26 b5 ) rc_J26_next md_J26_next rfl q2482 fc_java_util_ArrayList_Itr_java_util_Iterator_next_0_Ljaval dJ0_retainAll_23 rfl rfl (by decide) (by simp only [List.map, xcat]; exact Nat.le_of_ble_eq_true rfl) (n := 28) rfl (fun x32 p31 => ?_)
        refine x_sm (fun b33 e => ?_)
        subst e
        refine x_callF_I [va_rf x32] [] (f_J34_contains_ok hO p31 b33 x32) rc_J34_contains md_J34_contains rfl q2484 fc_java_util_TreeSet_java_util_Collection_contains_1_Ljaval dJ0_retainAll_28 rfl rfl (by decide) (Nat.le_of_ble_eq_true rfl) (n := 33) rfl (fun x35 p34 => ?_)
        refine x_if_ne dJ0_retainAll_33 (t := 12) (by decide) (n := 36) rfl (fun _ => ?_) (fun _ => ?_)
        · exact hk12 ((some b33)) v2 ((some b5)) p34
        · refine x_aload_nr 2 dJ0_retainAll_36 rfl rfl (n := 37) rfl ?_
          refine x_callF_V [] [] (f_J36_remove_ok hO p34 b5 ) rc_J36_remove md_J36_remove rfl q2566 fc_java_util_TreeMap_KeyIterator_java_util_Iterator_remove_0_V dJ0_retainAll_37 rfl rfl (by decide) (Nat.le_of_ble_eq_true rfl) (n := 42) rfl (fun p36 => ?_)
          refine x_iconst 1 dJ0_retainAll_42 rfl (n := 43) rfl ?_
          refine x_istore_n [(2, .int 1), (1, .ref b33), (3, .ref b5)] dJ0_retainAll_43 rfl (by decide) rfl (n := 44) rfl ?_
          refine x_goto dJ0_retainAll_44 (n := 12) (by decide) ?_
          refine x_sub [1, 0, 2] [(1, .ref b33), (2, .int 1), (3, .ref b5)] rfl ?_
          exact hk12 ((some b33)) 1 ((some b5)) p36
      refine x_ite (fun h => ?_) (fun _ => ?_)
      · subst h
        refine x_callF_R [] [va_rf v1] (f_J37_next_ok hO p26 b5 ) rc_J37_next md_J37_next rfl q2482 fc_java_util_TreeMap_KeyIterator_java_util_Iterator_next_0_Ljaval dJ0_retainAll_23 rfl rfl (by decide) (by simp only [List.map, xcat]; exact Nat.le_of_ble_eq_true rfl) (n := 28) rfl (fun x38 p37 => ?_)
        refine x_sm (fun b39 e => ?_)
        subst e
        refine x_callF_I [va_rf x38] [] (f_J34_contains_ok hO p37 b39 x38) rc_J34_contains md_J34_contains rfl q2484 fc_java_util_TreeSet_java_util_Collection_contains_1_Ljaval dJ0_retainAll_28 rfl rfl (by decide) (Nat.le_of_ble_eq_true rfl) (n := 33) rfl (fun x41 p40 => ?_)
        refine x_if_ne dJ0_retainAll_33 (t := 12) (by decide) (n := 36) rfl (fun _ => ?_) (fun _ => ?_)
        · exact hk12 ((some b39)) v2 ((some b5)) p40
        · refine x_aload_nr 2 dJ0_retainAll_36 rfl rfl (n := 37) rfl ?_
          refine x_callF_V [] [] (f_J36_remove_ok hO p40 b5 ) rc_J36_remove md_J36_remove rfl q2566 fc_java_util_TreeMap_KeyIterator_java_util_Iterator_remove_0_V dJ0_retainAll_37 rfl rfl (by decide) (Nat.le_of_ble_eq_true rfl) (n := 42) rfl (fun p42 => ?_)
          refine x_iconst 1 dJ0_retainAll_42 rfl (n := 43) rfl ?_
          refine x_istore_n [(2, .int 1), (1, .ref b39), (3, .ref b5)] dJ0_retainAll_43 rfl (by decide) rfl (n := 44) rfl ?_
          refine x_goto dJ0_retainAll_44 (n := 12) (by decide) ?_
          refine x_sub [1, 0, 2] [(1, .ref b39), (2, .int 1), (3, .ref b5)] rfl ?_
          exact hk12 ((some b39)) 1 ((some b5)) p42
      exact x_no
  exact x_no
theorem f_J0_retainAll_12_lp {G : xG} (hO : xOK G) (a0 : Nat)  (n : Nat) (v1 : Option Nat) (v2 : Int32) (v3 : Option Nat) (p0 : PH) : X G "java/util/AbstractCollection" "retainAll" cJ0_retainAll 4 (Option.some Jvm.ClassFile.FieldType.boolean) 8 12 [(1, va_rf v1), (2, .int v2), (3, va_rf v3)] [] p0 (lp (f_J0_retainAll_12F a0) n (v1, v2, v3, p0)) :=
  lp_ok (W := fun p K => X G "java/util/AbstractCollection" "retainAll" cJ0_retainAll 4 (Option.some Jvm.ClassFile.FieldType.boolean) 8 12 [(1, va_rf p.1), (2, .int p.2.1), (3, va_rf p.2.2.1)] [] p.2.2.2 K) (fun _ => x_no) (fun k hk => fun (v1, v2, v3, p0) => f_J0_retainAll_12F_ok hO a0 (fun v1 v2 v3 p0 => hk (v1, v2, v3, p0)) v1 v2 v3 p0) n (v1, v2, v3, p0)
theorem f_J0_retainAll_ok {G : xG} (hO : xOK G) (p0 : PH) (a0 : Nat) (a1 : Option Nat) : CT G 8 yJ0_retainAll cJ0_retainAll 4 (Option.some Jvm.ClassFile.FieldType.boolean) [.ref a0, va_rf a1] p0 (f_J0_retainAll p0 a0 a1) := by
  refine CT_of hO (by decide +kernel) (by decide +kernel) (lg_slen _ (by simp only [List.map, xcat]; exact Nat.le_of_ble_eq_true rfl)) ?_
  rw [show lv_args 0 [.ref a0, va_rf a1] = [(0, .ref a0), (1, va_rf a1)] from by simp only [lv_args, xcat] <;> rfl]
  show X G "java/util/AbstractCollection" "retainAll" cJ0_retainAll 4 (Option.some Jvm.ClassFile.FieldType.boolean) 8 0 [(0, .ref a0), (1, va_rf a1)] [] p0 (f_J0_retainAll p0 a0 a1)
  refine x_cl1 (fun e0 => ?_)
  refine x_aload_n 1 dJ0_retainAll_0 rfl rfl (n := 1) rfl ?_
  refine x_callS_R [va_rf a1] [] (f_J20_requireNonNull_ok hO p0 a1) md_J20_requireNonNull q2421 q968 dJ0_retainAll_1 rfl rfl (by decide) (Nat.le_of_ble_eq_true rfl) (n := 4) rfl (fun x2 p1 => ?_)
  refine x_pop dJ0_retainAll_4 (xcat _) (n := 5) rfl ?_
  refine x_iconst 0 dJ0_retainAll_5 rfl (n := 6) rfl ?_
  refine x_istore_n [(2, .int 0), (0, .ref a0), (1, va_rf a1)] dJ0_retainAll_6 rfl (by decide) (by simp only [xst, List.filter_cons, List.filter_nil, xcat] <;> rfl) (n := 7) rfl ?_
  refine x_aload_nr 1 dJ0_retainAll_7 rfl rfl (n := 8) rfl ?_
  refine x_callU_R (x := ⟨"java/util/AbstractCollection", "iterator", "()Ljava/util/Iterator;"⟩) (owner := "java/util/AbstractCollection") [] [] (f_J34_iterator_ok hO p1 a0 ) rc_J34_iterator md_J34_iterator rfl q2422 q2424 ⟨by decide +kernel, by decide +kernel⟩ (Or.inr (Or.inl q2423)) q2245 q2478 (by decide +kernel) dJ0_retainAll_8 rfl rfl (by decide) (Nat.le_of_ble_eq_true rfl) (n := 11) rfl (fun x4 p3 => ?_)
  refine x_astore_n [(3, va_rf x4), (2, .int 0), (0, .ref a0), (1, va_rf a1)] dJ0_retainAll_11 rfl (by decide) rfl (n := 12) rfl ?_
  refine x_sub [3, 1, 0] [(1, va_rf a1), (2, .int 0), (3, va_rf x4)] rfl ?_
  exact f_J0_retainAll_12_lp hO a0 FU a1 0 x4 p3
abbrev cJ5_size : ByteArray := prog_77_method_5_code
def yJ5_size : MethodName := ⟨RJ5, "size", "()I"⟩
theorem dJ5_size_0 : decode cJ5_size 0 = .ok (.aload_n 0, 1) := by decide +kernel
theorem dJ5_size_1 : decode cJ5_size 1 = .ok (.getfield 7, 3) := by decide +kernel
theorem dJ5_size_4 : decode cJ5_size 4 = .ok (.ireturn, 1) := by decide +kernel
theorem md_J5_size : xMd yJ5_size cJ5_size 1 (Option.some Jvm.ClassFile.FieldType.int) 0 := ⟨q2698, q132, by decide, by decide +kernel, by decide +kernel, by decide +kernel⟩
def f_J5_size (p0 : PH) (a0 : Nat) : Option (xO × PH) :=
  (xcl1 p0 a0 15 (xgI p0 a0 15 4 fun x1 =>
  (rI x1 p0)))
theorem rc_J5_size {p0 : PH} {a0 : Nat} : ∀ z, f_J5_size p0 a0 = some z → xco p0 a0 = some 15 := fun z h => xcl1_some h
theorem f_J5_size_ok {G : xG} (hO : xOK G) (p0 : PH) (a0 : Nat) : CT G 0 yJ5_size cJ5_size 1 (Option.some Jvm.ClassFile.FieldType.int) [.ref a0] p0 (f_J5_size p0 a0) := by
  refine CT_of hO (by decide +kernel) (by decide +kernel) (Nat.le_of_ble_eq_true rfl) ?_
  show X G "java/util/TreeMap" "size" cJ5_size 1 (Option.some Jvm.ClassFile.FieldType.int) 0 0 [(0, .ref a0)] [] p0 (f_J5_size p0 a0)
  refine x_cl1 (fun e0 => ?_)
  refine x_aload_nr 0 dJ5_size_0 rfl rfl (n := 1) rfl ?_
  refine x_getI fl_J5_7 dJ5_size_1 (n := 4) rfl (fun x1 => ?_)
  exact x_ireturn dJ5_size_4
abbrev cJ34_size : ByteArray := prog_83_method_9_code
def yJ34_size : MethodName := ⟨RJ34, "size", "()I"⟩
def dkwJ34_size_0 : List UInt8 := [42, 180, 0, 7, 185, 0, 53, 1, 0, 172]
abbrev dktJ34_size_0 : List UInt8 := dkwJ34_size_0 ++ []
theorem dksJ34_size_0 : cJ34_size.data.toList.drop 0 = dktJ34_size_0 := by decide +kernel
theorem dJ34_size_0 : decode cJ34_size 0 = .ok (.aload_n 0, 1) := dk_42 (dk_at dksJ34_size_0 0 rfl rfl)
theorem dJ34_size_1 : decode cJ34_size 1 = .ok (.getfield 7, 3) := dk_180 0 7 (dk_at dksJ34_size_0 1 rfl rfl)
theorem dJ34_size_4 : decode cJ34_size 4 = .ok (.invokeinterface 53 1, 5) := by decide +kernel
theorem dJ34_size_9 : decode cJ34_size 9 = .ok (.ireturn, 1) := dk_172 (dk_at dksJ34_size_0 9 rfl rfl)
theorem md_J34_size : xMd yJ34_size cJ34_size 1 (Option.some Jvm.ClassFile.FieldType.int) 0 := ⟨q2690, q173, by decide, by decide +kernel, by decide +kernel, by decide +kernel⟩
def f_J34_size (p0 : PH) (a0 : Nat) : Option (xO × PH) :=
  (xcl1 p0 a0 23 (xgR p0 a0 23 0 fun x1 =>
  (xnul x1 none fun b2 =>
  (xcI (f_J5_size p0 b2 ) fun x4 p3 =>
  (rI x4 p3)))))
theorem rc_J34_size {p0 : PH} {a0 : Nat} : ∀ z, f_J34_size p0 a0 = some z → xco p0 a0 = some 23 := fun z h => xcl1_some h
theorem f_J34_size_ok {G : xG} (hO : xOK G) (p0 : PH) (a0 : Nat) : CT G 1 yJ34_size cJ34_size 1 (Option.some Jvm.ClassFile.FieldType.int) [.ref a0] p0 (f_J34_size p0 a0) := by
  refine CT_of hO (by decide +kernel) (by decide +kernel) (Nat.le_of_ble_eq_true rfl) ?_
  show X G "java/util/TreeSet" "size" cJ34_size 1 (Option.some Jvm.ClassFile.FieldType.int) 1 0 [(0, .ref a0)] [] p0 (f_J34_size p0 a0)
  refine x_cl1 (fun e0 => ?_)
  refine x_aload_nr 0 dJ34_size_0 rfl rfl (n := 1) rfl ?_
  refine x_getR fl_J34_7 dJ34_size_1 (n := 4) rfl (fun x1 => ?_)
  refine x_sm (fun b2 e => ?_)
  subst e
  refine x_callJ_I [] [] (f_J5_size_ok hO p0 b2 ) rc_J5_size md_J5_size rfl lx_size fd_size dJ34_size_4 rfl rfl (by decide) (Nat.le_of_ble_eq_true rfl) (n := 9) rfl (fun x4 p3 => ?_)
  exact x_ireturn dJ34_size_9
abbrev cX1_common : ByteArray := prog_1_method_56_code
def yX1_common : MethodName := ⟨RX1, "common", "(II)I"⟩
def dkwX1_common_3 : List UInt8 := [182, 0, 83, 172]
abbrev dktX1_common_3 : List UInt8 := dkwX1_common_3 ++ []
def dkwX1_common_2 : List UInt8 := [180, 0, 86, 28, 185, 0, 93, 2, 0, 192, 0, 97, 184, 1, 69, 182, 1, 73, 87, 42, 45, 182, 1, 77]
abbrev dktX1_common_2 : List UInt8 := dkwX1_common_2 ++ dktX1_common_3
def dkwX1_common_1 : List UInt8 := [180, 0, 56, 180, 0, 86, 27, 185, 0, 93, 2, 0, 192, 0, 97, 184, 1, 69, 78, 45, 42, 180, 0, 56]
abbrev dktX1_common_1 : List UInt8 := dkwX1_common_1 ++ dktX1_common_2
def dkwX1_common_0 : List UInt8 := [42, 27, 182, 0, 89, 153, 0, 11, 42, 28, 182, 0, 89, 154, 0, 9, 42, 4, 182, 0, 40, 172, 42]
abbrev dktX1_common_0 : List UInt8 := dkwX1_common_0 ++ dktX1_common_1
theorem dksX1_common_0 : cX1_common.data.toList.drop 0 = dktX1_common_0 := by decide +kernel
theorem dksX1_common_1 : cX1_common.data.toList.drop 23 = dktX1_common_1 := dk_seg dksX1_common_0 23 rfl rfl
theorem dksX1_common_2 : cX1_common.data.toList.drop 47 = dktX1_common_2 := dk_seg dksX1_common_1 24 rfl rfl
theorem dksX1_common_3 : cX1_common.data.toList.drop 71 = dktX1_common_3 := dk_seg dksX1_common_2 24 rfl rfl
theorem dX1_common_0 : decode cX1_common 0 = .ok (.aload_n 0, 1) := dk_42 (dk_at dksX1_common_0 0 rfl rfl)
theorem dX1_common_1 : decode cX1_common 1 = .ok (.iload_n 1, 1) := dk_27 (dk_at dksX1_common_0 1 rfl rfl)
theorem dX1_common_2 : decode cX1_common 2 = .ok (.invokevirtual 89, 3) := dk_182 0 89 (dk_at dksX1_common_0 2 rfl rfl)
theorem dX1_common_5 : decode cX1_common 5 = .ok (.ifCond .eq 11, 3) := dk_153 0 11 (dk_at dksX1_common_0 5 rfl rfl)
theorem dX1_common_8 : decode cX1_common 8 = .ok (.aload_n 0, 1) := dk_42 (dk_at dksX1_common_0 8 rfl rfl)
theorem dX1_common_9 : decode cX1_common 9 = .ok (.iload_n 2, 1) := dk_28 (dk_at dksX1_common_0 9 rfl rfl)
theorem dX1_common_10 : decode cX1_common 10 = .ok (.invokevirtual 89, 3) := dk_182 0 89 (dk_at dksX1_common_0 10 rfl rfl)
theorem dX1_common_13 : decode cX1_common 13 = .ok (.ifCond .ne 9, 3) := dk_154 0 9 (dk_at dksX1_common_0 13 rfl rfl)
theorem dX1_common_16 : decode cX1_common 16 = .ok (.aload_n 0, 1) := dk_42 (dk_at dksX1_common_0 16 rfl rfl)
theorem dX1_common_17 : decode cX1_common 17 = .ok (.iconst 1, 1) := dk_4 (dk_at dksX1_common_0 17 rfl rfl)
theorem dX1_common_18 : decode cX1_common 18 = .ok (.invokevirtual 40, 3) := dk_182 0 40 (dk_at dksX1_common_0 18 rfl rfl)
theorem dX1_common_21 : decode cX1_common 21 = .ok (.ireturn, 1) := dk_172 (dk_at dksX1_common_0 21 rfl rfl)
theorem dX1_common_22 : decode cX1_common 22 = .ok (.aload_n 0, 1) := dk_42 (dk_at dksX1_common_0 22 rfl rfl)
theorem dX1_common_23 : decode cX1_common 23 = .ok (.getfield 56, 3) := dk_180 0 56 (dk_at dksX1_common_1 0 rfl rfl)
theorem dX1_common_26 : decode cX1_common 26 = .ok (.getfield 86, 3) := dk_180 0 86 (dk_at dksX1_common_1 3 rfl rfl)
theorem dX1_common_29 : decode cX1_common 29 = .ok (.iload_n 1, 1) := dk_27 (dk_at dksX1_common_1 6 rfl rfl)
theorem dX1_common_30 : decode cX1_common 30 = .ok (.invokeinterface 93 2, 5) := by decide +kernel
theorem dX1_common_35 : decode cX1_common 35 = .ok (.checkcast 97, 3) := dk_192 0 97 (dk_at dksX1_common_1 12 rfl rfl)
theorem dX1_common_38 : decode cX1_common 38 = .ok (.invokestatic 325, 3) := dk_184 1 69 (dk_at dksX1_common_1 15 rfl rfl)
theorem dX1_common_41 : decode cX1_common 41 = .ok (.astore_n 3, 1) := dk_78 (dk_at dksX1_common_1 18 rfl rfl)
theorem dX1_common_42 : decode cX1_common 42 = .ok (.aload_n 3, 1) := dk_45 (dk_at dksX1_common_1 19 rfl rfl)
theorem dX1_common_43 : decode cX1_common 43 = .ok (.aload_n 0, 1) := dk_42 (dk_at dksX1_common_1 20 rfl rfl)
theorem dX1_common_44 : decode cX1_common 44 = .ok (.getfield 56, 3) := dk_180 0 56 (dk_at dksX1_common_1 21 rfl rfl)
theorem dX1_common_47 : decode cX1_common 47 = .ok (.getfield 86, 3) := dk_180 0 86 (dk_at dksX1_common_2 0 rfl rfl)
theorem dX1_common_50 : decode cX1_common 50 = .ok (.iload_n 2, 1) := dk_28 (dk_at dksX1_common_2 3 rfl rfl)
theorem dX1_common_51 : decode cX1_common 51 = .ok (.invokeinterface 93 2, 5) := by decide +kernel
theorem dX1_common_56 : decode cX1_common 56 = .ok (.checkcast 97, 3) := dk_192 0 97 (dk_at dksX1_common_2 9 rfl rfl)
theorem dX1_common_59 : decode cX1_common 59 = .ok (.invokestatic 325, 3) := dk_184 1 69 (dk_at dksX1_common_2 12 rfl rfl)
theorem dX1_common_62 : decode cX1_common 62 = .ok (.invokevirtual 329, 3) := dk_182 1 73 (dk_at dksX1_common_2 15 rfl rfl)
theorem dX1_common_65 : decode cX1_common 65 = .ok (.pop, 1) := dk_87 (dk_at dksX1_common_2 18 rfl rfl)
theorem dX1_common_66 : decode cX1_common 66 = .ok (.aload_n 0, 1) := dk_42 (dk_at dksX1_common_2 19 rfl rfl)
theorem dX1_common_67 : decode cX1_common 67 = .ok (.aload_n 3, 1) := dk_45 (dk_at dksX1_common_2 20 rfl rfl)
theorem dX1_common_68 : decode cX1_common 68 = .ok (.invokevirtual 333, 3) := dk_182 1 77 (dk_at dksX1_common_2 21 rfl rfl)
theorem dX1_common_71 : decode cX1_common 71 = .ok (.invokevirtual 83, 3) := dk_182 0 83 (dk_at dksX1_common_3 0 rfl rfl)
theorem dX1_common_74 : decode cX1_common 74 = .ok (.ireturn, 1) := dk_172 (dk_at dksX1_common_3 3 rfl rfl)
theorem md_X1_common : xMd yX1_common cX1_common 4 (Option.some Jvm.ClassFile.FieldType.int) 2 := ⟨q2405, q123, by decide, by decide +kernel, by decide +kernel, by decide +kernel⟩
def f_X1_common_16 (a0 : Nat)   (p0 : PH) : Option (xO × PH) :=
  (xcI (f_X1_refused p0 a0 1) fun x4 p3 =>
  (rI x4 p3))
def f_X1_common (p0 : PH) (a0 : Nat) (a1 : Int32) (a2 : Int32) : Option (xO × PH) :=
  (xcl1 p0 a0 0 (xcI (f_X1_isCourse p0 a0 a1) fun x2 p1 =>
  (if x2 = 0 then
  (f_X1_common_16 a0  p1) else
  (xcI (f_X1_isCourse p1 a0 a2) fun x6 p5 =>
  (if x6 = 0 then
  (f_X1_common_16 a0  p5) else
  (xgR p5 a0 0 5 fun x7 =>
  (xnul x7 none fun b8 =>
  (xgR p5 b8 3 0 fun x9 =>
  (xnul x9 none fun b10 =>
  (xcR (f_J3_get p5 b10 a1) fun x12 p11 =>
  (xcst p11 (x12) [5]
  (xcR (f_X1_pairs p11 x12) fun x14 p13 =>
  (xgR p13 a0 0 5 fun x15 =>
  (xnul x15 none fun b16 =>
  (xgR p13 b16 3 0 fun x17 =>
  (xnul x17 none fun b18 =>
  (xcR (f_J3_get p13 b18 a2) fun x20 p19 =>
  (xcst p19 (x20) [5]
  (xcR (f_X1_pairs p19 x20) fun x22 p21 =>
  (xnul x14 none fun b23 =>
  (xcI (f_J0_retainAll p21 b23 x22) fun x25 p24 =>
  (xcI (f_J34_size p24 b23 ) fun x27 p26 =>
  (xcI (f_X1_fine p26 a0 x27) fun x29 p28 =>
  (rI x29 p28))))))))))))))))))))))))
theorem rc_X1_common {p0 : PH} {a0 : Nat} {a1 : Int32} {a2 : Int32} : ∀ z, f_X1_common p0 a0 a1 a2 = some z → xco p0 a0 = some 0 := fun z h => xcl1_some h
theorem f_X1_common_16_ok {G : xG} (hO : xOK G) (a0 : Nat)   (p0 : PH) : X G "ForestLegs" "common" cX1_common 4 (Option.some Jvm.ClassFile.FieldType.int) 11 16 [(0, .ref a0)] [] p0 (f_X1_common_16 a0  p0) := by
  unfold f_X1_common_16
  refine x_aload_nr 0 dX1_common_16 rfl rfl (n := 17) rfl ?_
  refine x_iconst 1 dX1_common_17 rfl (n := 18) rfl ?_
  refine x_callV_I [.int 1] [] (f_X1_refused_ok hO p0 a0 1) rc_X1_refused md_X1_refused rfl q250 q252 qs0 dX1_common_18 rfl rfl (by decide) (Nat.le_of_ble_eq_true rfl) (n := 21) rfl (fun x4 p3 => ?_)
  exact x_ireturn dX1_common_21
theorem f_X1_common_ok {G : xG} (hO : xOK G) (p0 : PH) (a0 : Nat) (a1 : Int32) (a2 : Int32) : CT G 11 yX1_common cX1_common 4 (Option.some Jvm.ClassFile.FieldType.int) [.ref a0, .int a1, .int a2] p0 (f_X1_common p0 a0 a1 a2) := by
  refine CT_of hO (by decide +kernel) (by decide +kernel) (Nat.le_of_ble_eq_true rfl) ?_
  show X G "ForestLegs" "common" cX1_common 4 (Option.some Jvm.ClassFile.FieldType.int) 11 0 [(0, .ref a0), (1, .int a1), (2, .int a2)] [] p0 (f_X1_common p0 a0 a1 a2)
  refine x_cl1 (fun e0 => ?_)
  refine x_aload_nr 0 dX1_common_0 rfl rfl (n := 1) rfl ?_
  refine x_iload_n 1 dX1_common_1 rfl rfl (n := 2) rfl ?_
  refine x_callV_I [.int a1] [] (f_X1_isCourse_ok hO p0 a0 a1) rc_X1_isCourse md_X1_isCourse rfl q1566 q1568 qs29 dX1_common_2 rfl rfl (by decide) (Nat.le_of_ble_eq_true rfl) (n := 5) rfl (fun x2 p1 => ?_)
  refine x_if_eq dX1_common_5 (t := 16) (by decide) (n := 8) rfl (fun _ => ?_) (fun _ => ?_)
  · refine x_sub [0] [(0, .ref a0)] rfl ?_
    exact f_X1_common_16_ok hO a0  p1
  · refine x_aload_nr 0 dX1_common_8 rfl rfl (n := 9) rfl ?_
    refine x_iload_n 2 dX1_common_9 rfl rfl (n := 10) rfl ?_
    refine x_callV_I [.int a2] [] (f_X1_isCourse_ok hO p1 a0 a2) rc_X1_isCourse md_X1_isCourse rfl q1566 q1568 qs29 dX1_common_10 rfl rfl (by decide) (Nat.le_of_ble_eq_true rfl) (n := 13) rfl (fun x6 p5 => ?_)
    refine x_if_ne dX1_common_13 (t := 22) (by decide) (n := 16) rfl (fun _ => ?_) (fun _ => ?_)
    · refine x_aload_nr 0 dX1_common_22 rfl rfl (n := 23) rfl ?_
      refine x_getR fl_X1_56 dX1_common_23 (n := 26) rfl (fun x7 => ?_)
      refine x_sm (fun b8 e => ?_)
      subst e
      refine x_getR fl_X1_86 dX1_common_26 (n := 29) rfl (fun x9 => ?_)
      refine x_iload_n 1 dX1_common_29 rfl rfl (n := 30) rfl ?_
      refine x_sm (fun b10 e => ?_)
      subst e
      refine x_callF_R [.int a1] [] (f_J3_get_ok hO p5 b10 a1) rc_J3_get md_J3_get rfl q1497 fc_java_util_ArrayList_java_util_List_get_1_ILjava dX1_common_30 rfl rfl (by decide) (Nat.le_of_ble_eq_true rfl) (n := 35) rfl (fun x12 p11 => ?_)
      refine x_cast (x := x12) (cs := [5]) q1574 cst_ForestLegs_Course dX1_common_35 (n := 38) rfl ?_
      refine x_callS_R [va_rf x12] [] (f_X1_pairs_ok hO p11 x12) md_X1_pairs q2406 q2407 dX1_common_38 rfl rfl (by decide) (Nat.le_of_ble_eq_true rfl) (n := 41) rfl (fun x14 p13 => ?_)
      refine x_astore_n [(3, va_rf x14), (0, .ref a0), (1, .int a1), (2, .int a2)] dX1_common_41 rfl (by decide) rfl (n := 42) rfl ?_
      refine x_aload_n 0 dX1_common_42 rfl rfl (n := 43) rfl ?_
      refine x_aload_nr 1 dX1_common_43 rfl rfl (n := 44) rfl ?_
      refine x_getR fl_X1_56 dX1_common_44 (n := 47) rfl (fun x15 => ?_)
      refine x_sm (fun b16 e => ?_)
      subst e
      refine x_getR fl_X1_86 dX1_common_47 (n := 50) rfl (fun x17 => ?_)
      refine x_iload_n 3 dX1_common_50 rfl rfl (n := 51) rfl ?_
      refine x_sm (fun b18 e => ?_)
      subst e
      refine x_callF_R [.int a2] [va_rf x14] (f_J3_get_ok hO p13 b18 a2) rc_J3_get md_J3_get rfl q1497 fc_java_util_ArrayList_java_util_List_get_1_ILjava dX1_common_51 rfl rfl (by decide) (by simp only [List.map, xcat]; exact Nat.le_of_ble_eq_true rfl) (n := 56) rfl (fun x20 p19 => ?_)
      refine x_cast (x := x20) (cs := [5]) q1574 cst_ForestLegs_Course dX1_common_56 (n := 59) rfl ?_
      refine x_callS_R [va_rf x20] [va_rf x14] (f_X1_pairs_ok hO p19 x20) md_X1_pairs q2406 q2407 dX1_common_59 rfl rfl (by decide) (by simp only [List.map, xcat]; exact Nat.le_of_ble_eq_true rfl) (n := 62) rfl (fun x22 p21 => ?_)
      refine x_sm (fun b23 e => ?_)
      subst e
      refine x_callU_I (x := ⟨"java/util/TreeSet", "retainAll", "(Ljava/util/Collection;)Z"⟩) (owner := "java/util/AbstractCollection") [va_rf x22] [] (f_J0_retainAll_ok hO p21 b23 x22) rc_J0_retainAll md_J0_retainAll rfl q2415 q2416 ⟨by decide +kernel, by decide +kernel⟩ (Or.inl rfl) q2419 q2418 (by decide +kernel) dX1_common_62 rfl rfl (by decide) (Nat.le_of_ble_eq_true rfl) (n := 65) rfl (fun x25 p24 => ?_)
      refine x_pop dX1_common_65 rfl (n := 66) rfl ?_
      refine x_aload_nr 1 dX1_common_66 rfl rfl (n := 67) rfl ?_
      refine x_aload_nr 0 dX1_common_67 rfl rfl (n := 68) rfl ?_
      refine x_callV_I [] [.ref a0] (f_J34_size_ok hO p24 b23 ) rc_J34_size md_J34_size rfl q2687 q2688 q2689 dX1_common_68 rfl rfl (by decide) (Nat.le_of_ble_eq_true rfl) (n := 71) rfl (fun x27 p26 => ?_)
      refine x_callV_I [.int x27] [] (f_X1_fine_ok hO p26 a0 x27) rc_X1_fine md_X1_fine rfl q1480 q1482 qs26 dX1_common_71 rfl rfl (by decide) (Nat.le_of_ble_eq_true rfl) (n := 74) rfl (fun x29 p28 => ?_)
      exact x_ireturn dX1_common_74
    · refine x_sub [0] [(0, .ref a0)] rfl ?_
      exact f_X1_common_16_ok hO a0  p5
abbrev cJ1_elementAt : ByteArray := prog_45_method_10_code
def yJ1_elementAt : MethodName := ⟨RJ1, "elementAt", "([Ljava/lang/Object;I)Ljava/lang/Object;"⟩
def dkwJ1_elementAt_0 : List UInt8 := [42, 27, 50, 176]
abbrev dktJ1_elementAt_0 : List UInt8 := dkwJ1_elementAt_0 ++ []
theorem dksJ1_elementAt_0 : cJ1_elementAt.data.toList.drop 0 = dktJ1_elementAt_0 := by decide +kernel
theorem dJ1_elementAt_0 : decode cJ1_elementAt 0 = .ok (.aload_n 0, 1) := dk_42 (dk_at dksJ1_elementAt_0 0 rfl rfl)
theorem dJ1_elementAt_1 : decode cJ1_elementAt 1 = .ok (.iload_n 1, 1) := dk_27 (dk_at dksJ1_elementAt_0 1 rfl rfl)
theorem dJ1_elementAt_2 : decode cJ1_elementAt 2 = .ok (.aaload, 1) := dk_50 (dk_at dksJ1_elementAt_0 2 rfl rfl)
theorem dJ1_elementAt_3 : decode cJ1_elementAt 3 = .ok (.areturn, 1) := dk_176 (dk_at dksJ1_elementAt_0 3 rfl rfl)
theorem md_J1_elementAt : xMd yJ1_elementAt cJ1_elementAt 2 (Option.some (Jvm.ClassFile.FieldType.object "java/lang/Object")) 2 := ⟨q1925, q125, by decide, by decide +kernel, by decide +kernel, by decide +kernel⟩
def f_J1_elementAt (p0 : PH) (a0 : Option Nat) (a1 : Int32) : Option (xO × PH) :=
  (xnul a0 none fun b1 =>
  (xaR p0 b1 4 a1 fun x2 =>
  (rR x2 p0)))
theorem f_J1_elementAt_ok {G : xG} (hO : xOK G) (p0 : PH) (a0 : Option Nat) (a1 : Int32) : CT G 0 yJ1_elementAt cJ1_elementAt 2 (Option.some (Jvm.ClassFile.FieldType.object "java/lang/Object")) [va_rf a0, .int a1] p0 (f_J1_elementAt p0 a0 a1) := by
  refine CT_of hO (by decide +kernel) (by decide +kernel) (lg_slen _ (by simp only [List.map, xcat]; exact Nat.le_of_ble_eq_true rfl)) ?_
  rw [show lv_args 0 [va_rf a0, .int a1] = [(0, va_rf a0), (1, .int a1)] from by simp only [lv_args, xcat] <;> rfl]
  show X G "java/util/ArrayDeque" "elementAt" cJ1_elementAt 2 (Option.some (Jvm.ClassFile.FieldType.object "java/lang/Object")) 0 0 [(0, va_rf a0), (1, .int a1)] [] p0 (f_J1_elementAt p0 a0 a1)
  refine x_aload_n 0 dJ1_elementAt_0 rfl rfl (n := 1) rfl ?_
  refine x_iload_n 1 dJ1_elementAt_1 rfl rfl (n := 2) rfl ?_
  refine x_sm (fun b1 e => ?_)
  subst e
  refine x_aald (t := 4) rfl rfl dJ1_elementAt_2 (n := 3) rfl (fun x2 => ?_)
  exact x_areturn (x := x2) (Or.inl ⟨_, rfl⟩) dJ1_elementAt_3
abbrev cJ1_inc : ByteArray := prog_45_method_6_code
def yJ1_inc : MethodName := ⟨RJ1, "inc", "(II)I"⟩
def dkwJ1_inc_0 : List UInt8 := [132, 0, 1, 26, 27, 161, 0, 5, 3, 59, 26, 172]
abbrev dktJ1_inc_0 : List UInt8 := dkwJ1_inc_0 ++ []
theorem dksJ1_inc_0 : cJ1_inc.data.toList.drop 0 = dktJ1_inc_0 := by decide +kernel
theorem dJ1_inc_0 : decode cJ1_inc 0 = .ok (.iinc 0 1, 3) := dk_132 0 1 (dk_at dksJ1_inc_0 0 rfl rfl)
theorem dJ1_inc_3 : decode cJ1_inc 3 = .ok (.iload_n 0, 1) := dk_26 (dk_at dksJ1_inc_0 3 rfl rfl)
theorem dJ1_inc_4 : decode cJ1_inc 4 = .ok (.iload_n 1, 1) := dk_27 (dk_at dksJ1_inc_0 4 rfl rfl)
theorem dJ1_inc_5 : decode cJ1_inc 5 = .ok (.if_icmp .lt 5, 3) := dk_161 0 5 (dk_at dksJ1_inc_0 5 rfl rfl)
theorem dJ1_inc_8 : decode cJ1_inc 8 = .ok (.iconst 0, 1) := dk_3 (dk_at dksJ1_inc_0 8 rfl rfl)
theorem dJ1_inc_9 : decode cJ1_inc 9 = .ok (.istore_n 0, 1) := dk_59 (dk_at dksJ1_inc_0 9 rfl rfl)
theorem dJ1_inc_10 : decode cJ1_inc 10 = .ok (.iload_n 0, 1) := dk_26 (dk_at dksJ1_inc_0 10 rfl rfl)
theorem dJ1_inc_11 : decode cJ1_inc 11 = .ok (.ireturn, 1) := dk_172 (dk_at dksJ1_inc_0 11 rfl rfl)
theorem md_J1_inc : xMd yJ1_inc cJ1_inc 2 (Option.some Jvm.ClassFile.FieldType.int) 2 := ⟨q1894, q125, by decide, by decide +kernel, by decide +kernel, by decide +kernel⟩
def f_J1_inc (p0 : PH) (a0 : Int32) (a1 : Int32) : Option (xO × PH) :=
  (bnd (a0 + 1) fun x1 =>
  (if x1 < a1 then
  (rI x1 p0) else
  (rI 0 p0)))
theorem f_J1_inc_ok {G : xG} (hO : xOK G) (p0 : PH) (a0 : Int32) (a1 : Int32) : CT G 0 yJ1_inc cJ1_inc 2 (Option.some Jvm.ClassFile.FieldType.int) [.int a0, .int a1] p0 (f_J1_inc p0 a0 a1) := by
  refine CT_of hO (by decide +kernel) (by decide +kernel) (Nat.le_of_ble_eq_true rfl) ?_
  show X G "java/util/ArrayDeque" "inc" cJ1_inc 2 (Option.some Jvm.ClassFile.FieldType.int) 0 0 [(0, .int a0), (1, .int a1)] [] p0 (f_J1_inc p0 a0 a1)
  refine x_iincB 0 (fun x1 => [(0, .int x1), (1, .int a1)]) dJ1_inc_0 rfl rfl (by decide) (fun _ => rfl) (n := 3) rfl (fun x1 => ?_)
  refine x_iload_n 0 dJ1_inc_3 rfl rfl (n := 4) rfl ?_
  refine x_iload_n 1 dJ1_inc_4 rfl rfl (n := 5) rfl ?_
  refine x_icmp_lt dJ1_inc_5 (t := 10) (by decide) (n := 8) rfl (fun _ => ?_) (fun _ => ?_)
  · refine x_iload_n 0 dJ1_inc_10 rfl rfl (n := 11) rfl ?_
    exact x_ireturn dJ1_inc_11
  · refine x_iconst 0 dJ1_inc_8 rfl (n := 9) rfl ?_
    refine x_istore_n [(0, .int 0), (1, .int a1)] dJ1_inc_9 rfl (by decide) rfl (n := 10) rfl ?_
    refine x_iload_n 0 dJ1_inc_10 rfl rfl (n := 11) rfl ?_
    exact x_ireturn dJ1_inc_11
abbrev cJ1_pollFirst : ByteArray := prog_45_method_20_code
def yJ1_pollFirst : MethodName := ⟨RJ1, "pollFirst", "()Ljava/lang/Object;"⟩
def dkwJ1_pollFirst_1 : List UInt8 := [42, 28, 43, 190, 184, 0, 74, 181, 0, 24, 45, 176]
abbrev dktJ1_pollFirst_1 : List UInt8 := dkwJ1_pollFirst_1 ++ []
def dkwJ1_pollFirst_0 : List UInt8 := [42, 180, 0, 3, 89, 76, 42, 180, 0, 24, 89, 61, 184, 0, 103, 78, 45, 198, 0, 17, 43, 28, 1, 83]
abbrev dktJ1_pollFirst_0 : List UInt8 := dkwJ1_pollFirst_0 ++ dktJ1_pollFirst_1
theorem dksJ1_pollFirst_0 : cJ1_pollFirst.data.toList.drop 0 = dktJ1_pollFirst_0 := by decide +kernel
theorem dksJ1_pollFirst_1 : cJ1_pollFirst.data.toList.drop 24 = dktJ1_pollFirst_1 := dk_seg dksJ1_pollFirst_0 24 rfl rfl
theorem dJ1_pollFirst_0 : decode cJ1_pollFirst 0 = .ok (.aload_n 0, 1) := dk_42 (dk_at dksJ1_pollFirst_0 0 rfl rfl)
theorem dJ1_pollFirst_1 : decode cJ1_pollFirst 1 = .ok (.getfield 3, 3) := dk_180 0 3 (dk_at dksJ1_pollFirst_0 1 rfl rfl)
theorem dJ1_pollFirst_4 : decode cJ1_pollFirst 4 = .ok (.dup, 1) := dk_89 (dk_at dksJ1_pollFirst_0 4 rfl rfl)
theorem dJ1_pollFirst_5 : decode cJ1_pollFirst 5 = .ok (.astore_n 1, 1) := dk_76 (dk_at dksJ1_pollFirst_0 5 rfl rfl)
theorem dJ1_pollFirst_6 : decode cJ1_pollFirst 6 = .ok (.aload_n 0, 1) := dk_42 (dk_at dksJ1_pollFirst_0 6 rfl rfl)
theorem dJ1_pollFirst_7 : decode cJ1_pollFirst 7 = .ok (.getfield 24, 3) := dk_180 0 24 (dk_at dksJ1_pollFirst_0 7 rfl rfl)
theorem dJ1_pollFirst_10 : decode cJ1_pollFirst 10 = .ok (.dup, 1) := dk_89 (dk_at dksJ1_pollFirst_0 10 rfl rfl)
theorem dJ1_pollFirst_11 : decode cJ1_pollFirst 11 = .ok (.istore_n 2, 1) := dk_61 (dk_at dksJ1_pollFirst_0 11 rfl rfl)
theorem dJ1_pollFirst_12 : decode cJ1_pollFirst 12 = .ok (.invokestatic 103, 3) := dk_184 0 103 (dk_at dksJ1_pollFirst_0 12 rfl rfl)
theorem dJ1_pollFirst_15 : decode cJ1_pollFirst 15 = .ok (.astore_n 3, 1) := dk_78 (dk_at dksJ1_pollFirst_0 15 rfl rfl)
theorem dJ1_pollFirst_16 : decode cJ1_pollFirst 16 = .ok (.aload_n 3, 1) := dk_45 (dk_at dksJ1_pollFirst_0 16 rfl rfl)
theorem dJ1_pollFirst_17 : decode cJ1_pollFirst 17 = .ok (.ifnull 17, 3) := dk_198 0 17 (dk_at dksJ1_pollFirst_0 17 rfl rfl)
theorem dJ1_pollFirst_20 : decode cJ1_pollFirst 20 = .ok (.aload_n 1, 1) := dk_43 (dk_at dksJ1_pollFirst_0 20 rfl rfl)
theorem dJ1_pollFirst_21 : decode cJ1_pollFirst 21 = .ok (.iload_n 2, 1) := dk_28 (dk_at dksJ1_pollFirst_0 21 rfl rfl)
theorem dJ1_pollFirst_22 : decode cJ1_pollFirst 22 = .ok (.aconst_null, 1) := dk_1 (dk_at dksJ1_pollFirst_0 22 rfl rfl)
theorem dJ1_pollFirst_23 : decode cJ1_pollFirst 23 = .ok (.aastore, 1) := dk_83 (dk_at dksJ1_pollFirst_0 23 rfl rfl)
theorem dJ1_pollFirst_24 : decode cJ1_pollFirst 24 = .ok (.aload_n 0, 1) := dk_42 (dk_at dksJ1_pollFirst_1 0 rfl rfl)
theorem dJ1_pollFirst_25 : decode cJ1_pollFirst 25 = .ok (.iload_n 2, 1) := dk_28 (dk_at dksJ1_pollFirst_1 1 rfl rfl)
theorem dJ1_pollFirst_26 : decode cJ1_pollFirst 26 = .ok (.aload_n 1, 1) := dk_43 (dk_at dksJ1_pollFirst_1 2 rfl rfl)
theorem dJ1_pollFirst_27 : decode cJ1_pollFirst 27 = .ok (.arraylength, 1) := dk_190 (dk_at dksJ1_pollFirst_1 3 rfl rfl)
theorem dJ1_pollFirst_28 : decode cJ1_pollFirst 28 = .ok (.invokestatic 74, 3) := dk_184 0 74 (dk_at dksJ1_pollFirst_1 4 rfl rfl)
theorem dJ1_pollFirst_31 : decode cJ1_pollFirst 31 = .ok (.putfield 24, 3) := dk_181 0 24 (dk_at dksJ1_pollFirst_1 7 rfl rfl)
theorem dJ1_pollFirst_34 : decode cJ1_pollFirst 34 = .ok (.aload_n 3, 1) := dk_45 (dk_at dksJ1_pollFirst_1 10 rfl rfl)
theorem dJ1_pollFirst_35 : decode cJ1_pollFirst 35 = .ok (.areturn, 1) := dk_176 (dk_at dksJ1_pollFirst_1 11 rfl rfl)
theorem md_J1_pollFirst : xMd yJ1_pollFirst cJ1_pollFirst 4 (Option.some (Jvm.ClassFile.FieldType.object "java/lang/Object")) 0 := ⟨q1922, q125, by decide, by decide +kernel, by decide +kernel, by decide +kernel⟩
def f_J1_pollFirst (p0 : PH) (a0 : Nat) : Option (xO × PH) :=
  (xcl1 p0 a0 13 (xgR p0 a0 13 0 fun x1 =>
  (xgI p0 a0 13 1 fun x2 =>
  (xcR (f_J1_elementAt p0 x1 x2) fun x4 p3 =>
  (xnul x4 (rR none p3) fun b5 =>
  (xnul x1 none fun b6 =>
  (xsR p3 b6 4 x2 (none) fun p7 =>
  (xlen p7 b6 fun x8 =>
  (xcI (f_J1_inc p7 x2 x8) fun x10 p9 =>
  (xpF p9 a0 13 1 (.int x10) fun p11 =>
  (rR (some b5) p11)))))))))))
theorem rc_J1_pollFirst {p0 : PH} {a0 : Nat} : ∀ z, f_J1_pollFirst p0 a0 = some z → xco p0 a0 = some 13 := fun z h => xcl1_some h
theorem f_J1_pollFirst_ok {G : xG} (hO : xOK G) (p0 : PH) (a0 : Nat) : CT G 1 yJ1_pollFirst cJ1_pollFirst 4 (Option.some (Jvm.ClassFile.FieldType.object "java/lang/Object")) [.ref a0] p0 (f_J1_pollFirst p0 a0) := by
  refine CT_of hO (by decide +kernel) (by decide +kernel) (Nat.le_of_ble_eq_true rfl) ?_
  show X G "java/util/ArrayDeque" "pollFirst" cJ1_pollFirst 4 (Option.some (Jvm.ClassFile.FieldType.object "java/lang/Object")) 1 0 [(0, .ref a0)] [] p0 (f_J1_pollFirst p0 a0)
  refine x_cl1 (fun e0 => ?_)
  refine x_aload_nr 0 dJ1_pollFirst_0 rfl rfl (n := 1) rfl ?_
  refine x_getR fl_J1_3 dJ1_pollFirst_1 (n := 4) rfl (fun x1 => ?_)
  refine x_dup dJ1_pollFirst_4 (xcat _) (n := 5) rfl ?_
  refine x_astore_n [(1, va_rf x1), (0, .ref a0)] dJ1_pollFirst_5 rfl (by decide) rfl (n := 6) rfl ?_
  refine x_aload_nr 1 dJ1_pollFirst_6 rfl rfl (n := 7) rfl ?_
  refine x_getI fl_J1_24 dJ1_pollFirst_7 (n := 10) rfl (fun x2 => ?_)
  refine x_dup dJ1_pollFirst_10 rfl (n := 11) rfl ?_
  refine x_istore_n [(2, .int x2), (1, va_rf x1), (0, .ref a0)] dJ1_pollFirst_11 rfl (by decide) (by simp only [xst, List.filter_cons, List.filter_nil, xcat] <;> rfl) (n := 12) rfl ?_
  refine x_callS_R [va_rf x1, .int x2] [] (f_J1_elementAt_ok hO p0 x1 x2) md_J1_elementAt q1923 q1924 dJ1_pollFirst_12 rfl rfl (by decide) (Nat.le_of_ble_eq_true rfl) (n := 15) rfl (fun x4 p3 => ?_)
  refine x_astore_n [(3, va_rf x4), (2, .int x2), (1, va_rf x1), (0, .ref a0)] dJ1_pollFirst_15 rfl (by decide) rfl (n := 16) rfl ?_
  refine x_aload_n 0 dJ1_pollFirst_16 rfl rfl (n := 17) rfl ?_
  refine x_ifnull dJ1_pollFirst_17 (t := 34) (by decide) (n := 20) rfl (fun e => ?_) (fun b5 e => ?_)
  · subst e
    refine x_aload_n 0 dJ1_pollFirst_34 rfl rfl (n := 35) rfl ?_
    exact x_areturn (x := none) (Or.inl ⟨_, rfl⟩) dJ1_pollFirst_35
  · subst e
    refine x_aload_n 2 dJ1_pollFirst_20 rfl rfl (n := 21) rfl ?_
    refine x_iload_n 1 dJ1_pollFirst_21 rfl rfl (n := 22) rfl ?_
    refine x_null dJ1_pollFirst_22 (n := 23) rfl ?_
    refine x_sm (fun b6 e => ?_)
    subst e
    refine x_aast (t := 4) (x := none) rfl (by decide) dJ1_pollFirst_23 (n := 24) rfl (fun p7 => ?_)
    refine x_aload_nr 3 dJ1_pollFirst_24 rfl rfl (n := 25) rfl ?_
    refine x_iload_n 1 dJ1_pollFirst_25 rfl rfl (n := 26) rfl ?_
    refine x_aload_nr 2 dJ1_pollFirst_26 rfl rfl (n := 27) rfl ?_
    refine x_alen dJ1_pollFirst_27 (n := 28) rfl (fun x8 => ?_)
    refine x_callS_I [.int x2, .int x8] [.ref a0] (f_J1_inc_ok hO p7 x2 x8) md_J1_inc q1926 q1893 dJ1_pollFirst_28 rfl rfl (by decide) (Nat.le_of_ble_eq_true rfl) (n := 31) rfl (fun x10 p9 => ?_)
    refine x_pF (pl_J1_24 _ _ ⟨rfl, rfl⟩) dJ1_pollFirst_31 (n := 34) rfl (fun p11 => ?_)
    refine x_aload_nr 0 dJ1_pollFirst_34 rfl rfl (n := 35) rfl ?_
    exact x_areturn (x := some b5) (Or.inl ⟨_, rfl⟩) dJ1_pollFirst_35
abbrev cJ1_removeFirst : ByteArray := prog_45_method_18_code
def yJ1_removeFirst : MethodName := ⟨RJ1, "removeFirst", "()Ljava/lang/Object;"⟩
def dkwJ1_removeFirst_0 : List UInt8 := [42, 182, 0, 93, 76, 43, 199, 0, 11, 187, 0, 97, 89, 183, 0, 99, 191, 43, 176]
abbrev dktJ1_removeFirst_0 : List UInt8 := dkwJ1_removeFirst_0 ++ []
theorem dksJ1_removeFirst_0 : cJ1_removeFirst.data.toList.drop 0 = dktJ1_removeFirst_0 := by decide +kernel
theorem dJ1_removeFirst_0 : decode cJ1_removeFirst 0 = .ok (.aload_n 0, 1) := dk_42 (dk_at dksJ1_removeFirst_0 0 rfl rfl)
theorem dJ1_removeFirst_1 : decode cJ1_removeFirst 1 = .ok (.invokevirtual 93, 3) := dk_182 0 93 (dk_at dksJ1_removeFirst_0 1 rfl rfl)
theorem dJ1_removeFirst_4 : decode cJ1_removeFirst 4 = .ok (.astore_n 1, 1) := dk_76 (dk_at dksJ1_removeFirst_0 4 rfl rfl)
theorem dJ1_removeFirst_5 : decode cJ1_removeFirst 5 = .ok (.aload_n 1, 1) := dk_43 (dk_at dksJ1_removeFirst_0 5 rfl rfl)
theorem dJ1_removeFirst_6 : decode cJ1_removeFirst 6 = .ok (.ifnonnull 11, 3) := dk_199 0 11 (dk_at dksJ1_removeFirst_0 6 rfl rfl)
theorem dJ1_removeFirst_9 : decode cJ1_removeFirst 9 = .ok (.new 97, 3) := dk_187 0 97 (dk_at dksJ1_removeFirst_0 9 rfl rfl)
theorem dJ1_removeFirst_12 : decode cJ1_removeFirst 12 = .ok (.dup, 1) := dk_89 (dk_at dksJ1_removeFirst_0 12 rfl rfl)
theorem dJ1_removeFirst_13 : decode cJ1_removeFirst 13 = .ok (.invokespecial 99, 3) := dk_183 0 99 (dk_at dksJ1_removeFirst_0 13 rfl rfl)
theorem dJ1_removeFirst_16 : decode cJ1_removeFirst 16 = .ok (.athrow, 1) := dk_191 (dk_at dksJ1_removeFirst_0 16 rfl rfl)
theorem dJ1_removeFirst_17 : decode cJ1_removeFirst 17 = .ok (.aload_n 1, 1) := dk_43 (dk_at dksJ1_removeFirst_0 17 rfl rfl)
theorem dJ1_removeFirst_18 : decode cJ1_removeFirst 18 = .ok (.areturn, 1) := dk_176 (dk_at dksJ1_removeFirst_0 18 rfl rfl)
theorem md_J1_removeFirst : xMd yJ1_removeFirst cJ1_removeFirst 2 (Option.some (Jvm.ClassFile.FieldType.object "java/lang/Object")) 0 := ⟨q2710, q125, by decide, by decide +kernel, by decide +kernel, by decide +kernel⟩
def f_J1_removeFirst (p0 : PH) (a0 : Nat) : Option (xO × PH) :=
  (xcl1 p0 a0 13 (xcR (f_J1_pollFirst p0 a0 ) fun x2 p1 =>
  (xnul x2 none fun b3 =>
  (rR (some b3) p1))))
theorem rc_J1_removeFirst {p0 : PH} {a0 : Nat} : ∀ z, f_J1_removeFirst p0 a0 = some z → xco p0 a0 = some 13 := fun z h => xcl1_some h
theorem f_J1_removeFirst_ok {G : xG} (hO : xOK G) (p0 : PH) (a0 : Nat) : CT G 2 yJ1_removeFirst cJ1_removeFirst 2 (Option.some (Jvm.ClassFile.FieldType.object "java/lang/Object")) [.ref a0] p0 (f_J1_removeFirst p0 a0) := by
  refine CT_of hO (by decide +kernel) (by decide +kernel) (Nat.le_of_ble_eq_true rfl) ?_
  show X G "java/util/ArrayDeque" "removeFirst" cJ1_removeFirst 2 (Option.some (Jvm.ClassFile.FieldType.object "java/lang/Object")) 2 0 [(0, .ref a0)] [] p0 (f_J1_removeFirst p0 a0)
  refine x_cl1 (fun e0 => ?_)
  refine x_aload_nr 0 dJ1_removeFirst_0 rfl rfl (n := 1) rfl ?_
  refine x_callV_R [] [] (f_J1_pollFirst_ok hO p0 a0 ) rc_J1_pollFirst md_J1_pollFirst rfl q1919 q1920 q1921 dJ1_removeFirst_1 rfl rfl (by decide) (Nat.le_of_ble_eq_true rfl) (n := 4) rfl (fun x2 p1 => ?_)
  refine x_astore_n [(1, va_rf x2), (0, .ref a0)] dJ1_removeFirst_4 rfl (by decide) rfl (n := 5) rfl ?_
  refine x_aload_n 0 dJ1_removeFirst_5 rfl rfl (n := 6) rfl ?_
  refine x_ifnonnull dJ1_removeFirst_6 (t := 17) (by decide) (n := 9) rfl (fun e => ?_) (fun b3 e => ?_)
  · subst e
    exact x_no
  · subst e
    refine x_aload_nr 0 dJ1_removeFirst_17 rfl rfl (n := 18) rfl ?_
    exact x_areturn (x := some b3) (Or.inl ⟨_, rfl⟩) dJ1_removeFirst_18
abbrev cJ1_addLast : ByteArray := prog_45_method_13_code
def yJ1_addLast : MethodName := ⟨RJ1, "addLast", "(Ljava/lang/Object;)V"⟩
def dkwJ1_addLast_2 : List UInt8 := [182, 0, 71, 177]
abbrev dktJ1_addLast_2 : List UInt8 := dkwJ1_addLast_2 ++ []
def dkwJ1_addLast_1 : List UInt8 := [42, 180, 0, 24, 42, 42, 180, 0, 20, 44, 190, 184, 0, 74, 90, 181, 0, 20, 160, 0, 8, 42, 4]
abbrev dktJ1_addLast_1 : List UInt8 := dkwJ1_addLast_1 ++ dktJ1_addLast_2
def dkwJ1_addLast_0 : List UInt8 := [43, 199, 0, 11, 187, 0, 65, 89, 183, 0, 67, 191, 42, 180, 0, 3, 77, 44, 42, 180, 0, 20, 43, 83]
abbrev dktJ1_addLast_0 : List UInt8 := dkwJ1_addLast_0 ++ dktJ1_addLast_1
theorem dksJ1_addLast_0 : cJ1_addLast.data.toList.drop 0 = dktJ1_addLast_0 := by decide +kernel
theorem dksJ1_addLast_1 : cJ1_addLast.data.toList.drop 24 = dktJ1_addLast_1 := dk_seg dksJ1_addLast_0 24 rfl rfl
theorem dksJ1_addLast_2 : cJ1_addLast.data.toList.drop 47 = dktJ1_addLast_2 := dk_seg dksJ1_addLast_1 23 rfl rfl
theorem dJ1_addLast_0 : decode cJ1_addLast 0 = .ok (.aload_n 1, 1) := dk_43 (dk_at dksJ1_addLast_0 0 rfl rfl)
theorem dJ1_addLast_1 : decode cJ1_addLast 1 = .ok (.ifnonnull 11, 3) := dk_199 0 11 (dk_at dksJ1_addLast_0 1 rfl rfl)
theorem dJ1_addLast_4 : decode cJ1_addLast 4 = .ok (.new 65, 3) := dk_187 0 65 (dk_at dksJ1_addLast_0 4 rfl rfl)
theorem dJ1_addLast_7 : decode cJ1_addLast 7 = .ok (.dup, 1) := dk_89 (dk_at dksJ1_addLast_0 7 rfl rfl)
theorem dJ1_addLast_8 : decode cJ1_addLast 8 = .ok (.invokespecial 67, 3) := dk_183 0 67 (dk_at dksJ1_addLast_0 8 rfl rfl)
theorem dJ1_addLast_11 : decode cJ1_addLast 11 = .ok (.athrow, 1) := dk_191 (dk_at dksJ1_addLast_0 11 rfl rfl)
theorem dJ1_addLast_12 : decode cJ1_addLast 12 = .ok (.aload_n 0, 1) := dk_42 (dk_at dksJ1_addLast_0 12 rfl rfl)
theorem dJ1_addLast_13 : decode cJ1_addLast 13 = .ok (.getfield 3, 3) := dk_180 0 3 (dk_at dksJ1_addLast_0 13 rfl rfl)
theorem dJ1_addLast_16 : decode cJ1_addLast 16 = .ok (.astore_n 2, 1) := dk_77 (dk_at dksJ1_addLast_0 16 rfl rfl)
theorem dJ1_addLast_17 : decode cJ1_addLast 17 = .ok (.aload_n 2, 1) := dk_44 (dk_at dksJ1_addLast_0 17 rfl rfl)
theorem dJ1_addLast_18 : decode cJ1_addLast 18 = .ok (.aload_n 0, 1) := dk_42 (dk_at dksJ1_addLast_0 18 rfl rfl)
theorem dJ1_addLast_19 : decode cJ1_addLast 19 = .ok (.getfield 20, 3) := dk_180 0 20 (dk_at dksJ1_addLast_0 19 rfl rfl)
theorem dJ1_addLast_22 : decode cJ1_addLast 22 = .ok (.aload_n 1, 1) := dk_43 (dk_at dksJ1_addLast_0 22 rfl rfl)
theorem dJ1_addLast_23 : decode cJ1_addLast 23 = .ok (.aastore, 1) := dk_83 (dk_at dksJ1_addLast_0 23 rfl rfl)
theorem dJ1_addLast_24 : decode cJ1_addLast 24 = .ok (.aload_n 0, 1) := dk_42 (dk_at dksJ1_addLast_1 0 rfl rfl)
theorem dJ1_addLast_25 : decode cJ1_addLast 25 = .ok (.getfield 24, 3) := dk_180 0 24 (dk_at dksJ1_addLast_1 1 rfl rfl)
theorem dJ1_addLast_28 : decode cJ1_addLast 28 = .ok (.aload_n 0, 1) := dk_42 (dk_at dksJ1_addLast_1 4 rfl rfl)
theorem dJ1_addLast_29 : decode cJ1_addLast 29 = .ok (.aload_n 0, 1) := dk_42 (dk_at dksJ1_addLast_1 5 rfl rfl)
theorem dJ1_addLast_30 : decode cJ1_addLast 30 = .ok (.getfield 20, 3) := dk_180 0 20 (dk_at dksJ1_addLast_1 6 rfl rfl)
theorem dJ1_addLast_33 : decode cJ1_addLast 33 = .ok (.aload_n 2, 1) := dk_44 (dk_at dksJ1_addLast_1 9 rfl rfl)
theorem dJ1_addLast_34 : decode cJ1_addLast 34 = .ok (.arraylength, 1) := dk_190 (dk_at dksJ1_addLast_1 10 rfl rfl)
theorem dJ1_addLast_35 : decode cJ1_addLast 35 = .ok (.invokestatic 74, 3) := dk_184 0 74 (dk_at dksJ1_addLast_1 11 rfl rfl)
theorem dJ1_addLast_38 : decode cJ1_addLast 38 = .ok (.dup_x1, 1) := dk_90 (dk_at dksJ1_addLast_1 14 rfl rfl)
theorem dJ1_addLast_39 : decode cJ1_addLast 39 = .ok (.putfield 20, 3) := dk_181 0 20 (dk_at dksJ1_addLast_1 15 rfl rfl)
theorem dJ1_addLast_42 : decode cJ1_addLast 42 = .ok (.if_icmp .ne 8, 3) := dk_160 0 8 (dk_at dksJ1_addLast_1 18 rfl rfl)
theorem dJ1_addLast_45 : decode cJ1_addLast 45 = .ok (.aload_n 0, 1) := dk_42 (dk_at dksJ1_addLast_1 21 rfl rfl)
theorem dJ1_addLast_46 : decode cJ1_addLast 46 = .ok (.iconst 1, 1) := dk_4 (dk_at dksJ1_addLast_1 22 rfl rfl)
theorem dJ1_addLast_47 : decode cJ1_addLast 47 = .ok (.invokevirtual 71, 3) := dk_182 0 71 (dk_at dksJ1_addLast_2 0 rfl rfl)
theorem dJ1_addLast_50 : decode cJ1_addLast 50 = .ok (.return_, 1) := dk_177 (dk_at dksJ1_addLast_2 3 rfl rfl)
theorem md_J1_addLast : xMd yJ1_addLast cJ1_addLast 3 (Option.none : Option Jvm.ClassFile.FieldType) 1 := ⟨q2657, q125, by decide, by decide +kernel, by decide +kernel, by decide +kernel⟩
def f_J1_addLast (p0 : PH) (a0 : Nat) (a1 : Option Nat) : Option (xO × PH) :=
  (xcl1 p0 a0 13 (xnul a1 none fun b1 =>
  (xgR p0 a0 13 0 fun x2 =>
  (xgI p0 a0 13 2 fun x3 =>
  (xnul x2 none fun b4 =>
  (xsR p0 b4 4 x3 (some b1) fun p5 =>
  (xgI p5 a0 13 1 fun x6 =>
  (xgI p5 a0 13 2 fun x7 =>
  (xlen p5 b4 fun x8 =>
  (xcI (f_J1_inc p5 x7 x8) fun x10 p9 =>
  (xpF p9 a0 13 2 (.int x10) fun p11 =>
  (if x6 = x10 then
  none else
  (rV p11)))))))))))))
theorem rc_J1_addLast {p0 : PH} {a0 : Nat} {a1 : Option Nat} : ∀ z, f_J1_addLast p0 a0 a1 = some z → xco p0 a0 = some 13 := fun z h => xcl1_some h
theorem f_J1_addLast_ok {G : xG} (hO : xOK G) (p0 : PH) (a0 : Nat) (a1 : Option Nat) : CT G 1 yJ1_addLast cJ1_addLast 3 (Option.none : Option Jvm.ClassFile.FieldType) [.ref a0, va_rf a1] p0 (f_J1_addLast p0 a0 a1) := by
  refine CT_of hO (by decide +kernel) (by decide +kernel) (lg_slen _ (by simp only [List.map, xcat]; exact Nat.le_of_ble_eq_true rfl)) ?_
  rw [show lv_args 0 [.ref a0, va_rf a1] = [(0, .ref a0), (1, va_rf a1)] from by simp only [lv_args, xcat] <;> rfl]
  show X G "java/util/ArrayDeque" "addLast" cJ1_addLast 3 (Option.none : Option Jvm.ClassFile.FieldType) 1 0 [(0, .ref a0), (1, va_rf a1)] [] p0 (f_J1_addLast p0 a0 a1)
  refine x_cl1 (fun e0 => ?_)
  refine x_aload_n 1 dJ1_addLast_0 rfl rfl (n := 1) rfl ?_
  refine x_ifnonnull dJ1_addLast_1 (t := 12) (by decide) (n := 4) rfl (fun e => ?_) (fun b1 e => ?_)
  · subst e
    exact x_no
  · subst e
    refine x_aload_nr 0 dJ1_addLast_12 rfl rfl (n := 13) rfl ?_
    refine x_getR fl_J1_3 dJ1_addLast_13 (n := 16) rfl (fun x2 => ?_)
    refine x_astore_n [(2, va_rf x2), (0, .ref a0), (1, .ref b1)] dJ1_addLast_16 rfl (by decide) rfl (n := 17) rfl ?_
    refine x_aload_n 0 dJ1_addLast_17 rfl rfl (n := 18) rfl ?_
    refine x_aload_nr 1 dJ1_addLast_18 rfl rfl (n := 19) rfl ?_
    refine x_getI fl_J1_20 dJ1_addLast_19 (n := 22) rfl (fun x3 => ?_)
    refine x_aload_nr 2 dJ1_addLast_22 rfl rfl (n := 23) rfl ?_
    refine x_sm (fun b4 e => ?_)
    subst e
    refine x_aast (t := 4) (x := some b1) rfl (by decide) dJ1_addLast_23 (n := 24) rfl (fun p5 => ?_)
    refine x_aload_nr 1 dJ1_addLast_24 rfl rfl (n := 25) rfl ?_
    refine x_getI fl_J1_24 dJ1_addLast_25 (n := 28) rfl (fun x6 => ?_)
    refine x_aload_nr 1 dJ1_addLast_28 rfl rfl (n := 29) rfl ?_
    refine x_aload_nr 1 dJ1_addLast_29 rfl rfl (n := 30) rfl ?_
    refine x_getI fl_J1_20 dJ1_addLast_30 (n := 33) rfl (fun x7 => ?_)
    refine x_aload_nr 0 dJ1_addLast_33 rfl rfl (n := 34) rfl ?_
    refine x_alen dJ1_addLast_34 (n := 35) rfl (fun x8 => ?_)
    refine x_callS_I [.int x7, .int x8] [.ref a0, .int x6] (f_J1_inc_ok hO p5 x7 x8) md_J1_inc q1926 q1893 dJ1_addLast_35 rfl rfl (by decide) (Nat.le_of_ble_eq_true rfl) (n := 38) rfl (fun x10 p9 => ?_)
    refine x_dup_x1 dJ1_addLast_38 rfl rfl (n := 39) rfl ?_
    refine x_pF (pl_J1_20 _ _ ⟨rfl, rfl⟩) dJ1_addLast_39 (n := 42) rfl (fun p11 => ?_)
    refine x_icmp_ne dJ1_addLast_42 (t := 50) (by decide) (n := 45) rfl (fun _ => ?_) (fun _ => ?_)
    · exact x_return dJ1_addLast_50
    · refine x_aload_nr 1 dJ1_addLast_45 rfl rfl (n := 46) rfl ?_
      refine x_iconst 1 dJ1_addLast_46 rfl (n := 47) rfl ?_
      exact x_no
abbrev cJ3_toArray : ByteArray := prog_47_method_16_code
def yJ3_toArray : MethodName := ⟨RJ3, "toArray", "()[Ljava/lang/Object;"⟩
def dkwJ3_toArray_0 : List UInt8 := [42, 180, 0, 9, 42, 180, 0, 48, 184, 0, 66, 176]
abbrev dktJ3_toArray_0 : List UInt8 := dkwJ3_toArray_0 ++ []
theorem dksJ3_toArray_0 : cJ3_toArray.data.toList.drop 0 = dktJ3_toArray_0 := by decide +kernel
theorem dJ3_toArray_0 : decode cJ3_toArray 0 = .ok (.aload_n 0, 1) := dk_42 (dk_at dksJ3_toArray_0 0 rfl rfl)
theorem dJ3_toArray_1 : decode cJ3_toArray 1 = .ok (.getfield 9, 3) := dk_180 0 9 (dk_at dksJ3_toArray_0 1 rfl rfl)
theorem dJ3_toArray_4 : decode cJ3_toArray 4 = .ok (.aload_n 0, 1) := dk_42 (dk_at dksJ3_toArray_0 4 rfl rfl)
theorem dJ3_toArray_5 : decode cJ3_toArray 5 = .ok (.getfield 48, 3) := dk_180 0 48 (dk_at dksJ3_toArray_0 5 rfl rfl)
theorem dJ3_toArray_8 : decode cJ3_toArray 8 = .ok (.invokestatic 66, 3) := dk_184 0 66 (dk_at dksJ3_toArray_0 8 rfl rfl)
theorem dJ3_toArray_11 : decode cJ3_toArray 11 = .ok (.areturn, 1) := dk_176 (dk_at dksJ3_toArray_0 11 rfl rfl)
theorem md_J3_toArray : xMd yJ3_toArray cJ3_toArray 1 (Option.some (Jvm.ClassFile.FieldType.array (Jvm.ClassFile.FieldType.object "java/lang/Object"))) 0 := ⟨q2758, q130, by decide, by decide +kernel, by decide +kernel, by decide +kernel⟩
def f_J3_toArray (p0 : PH) (a0 : Nat) : Option (xO × PH) :=
  (xcl1 p0 a0 14 (xgR p0 a0 14 1 fun x1 =>
  (xgI p0 a0 14 2 fun x2 =>
  (xcR (f_J17_copyOf_2 p0 x1 x2) fun x4 p3 =>
  (rR x4 p3)))))
theorem rc_J3_toArray {p0 : PH} {a0 : Nat} : ∀ z, f_J3_toArray p0 a0 = some z → xco p0 a0 = some 14 := fun z h => xcl1_some h
theorem f_J3_toArray_ok {G : xG} (hO : xOK G) (p0 : PH) (a0 : Nat) : CT G 3 yJ3_toArray cJ3_toArray 1 (Option.some (Jvm.ClassFile.FieldType.array (Jvm.ClassFile.FieldType.object "java/lang/Object"))) [.ref a0] p0 (f_J3_toArray p0 a0) := by
  refine CT_of hO (by decide +kernel) (by decide +kernel) (Nat.le_of_ble_eq_true rfl) ?_
  show X G "java/util/ArrayList" "toArray" cJ3_toArray 1 (Option.some (Jvm.ClassFile.FieldType.array (Jvm.ClassFile.FieldType.object "java/lang/Object"))) 3 0 [(0, .ref a0)] [] p0 (f_J3_toArray p0 a0)
  refine x_cl1 (fun e0 => ?_)
  refine x_aload_nr 0 dJ3_toArray_0 rfl rfl (n := 1) rfl ?_
  refine x_getR fl_J3_9 dJ3_toArray_1 (n := 4) rfl (fun x1 => ?_)
  refine x_aload_nr 0 dJ3_toArray_4 rfl rfl (n := 5) rfl ?_
  refine x_getI fl_J3_48 dJ3_toArray_5 (n := 8) rfl (fun x2 => ?_)
  refine x_callS_R [va_rf x1, .int x2] [] (f_J17_copyOf_2_ok hO p0 x1 x2) md_J17_copyOf_2 q1255 q1256 dJ3_toArray_8 rfl rfl (by decide) (Nat.le_of_ble_eq_true rfl) (n := 11) rfl (fun x4 p3 => ?_)
  exact x_areturn (x := x4) (Or.inr ⟨_, rfl⟩) dJ3_toArray_11
abbrev cJ3_addAll : ByteArray := prog_47_method_41_code
def yJ3_addAll : MethodName := ⟨RJ3, "addAll", "(Ljava/util/Collection;)Z"⟩
def dkwJ3_addAll_3 : List UInt8 := [181, 0, 48, 4, 172]
abbrev dktJ3_addAll_3 : List UInt8 := dkwJ3_addAll_3 ++ []
def dkwJ3_addAll_2 : List UInt8 := [21, 5, 29, 96, 182, 0, 69, 58, 4, 44, 3, 25, 4, 21, 5, 29, 184, 0, 112, 42, 21, 5, 29, 96]
abbrev dktJ3_addAll_2 : List UInt8 := dkwJ3_addAll_2 ++ dktJ3_addAll_3
def dkwJ3_addAll_1 : List UInt8 := [3, 172, 29, 42, 180, 0, 9, 89, 58, 4, 190, 42, 180, 0, 48, 89, 54, 5, 100, 164, 0, 13, 42]
abbrev dktJ3_addAll_1 : List UInt8 := dkwJ3_addAll_1 ++ dktJ3_addAll_2
def dkwJ3_addAll_0 : List UInt8 := [43, 185, 0, 42, 1, 0, 77, 42, 89, 180, 0, 63, 4, 96, 181, 0, 63, 44, 190, 62, 29, 154, 0, 5]
abbrev dktJ3_addAll_0 : List UInt8 := dkwJ3_addAll_0 ++ dktJ3_addAll_1
theorem dksJ3_addAll_0 : cJ3_addAll.data.toList.drop 0 = dktJ3_addAll_0 := by decide +kernel
theorem dksJ3_addAll_1 : cJ3_addAll.data.toList.drop 24 = dktJ3_addAll_1 := dk_seg dksJ3_addAll_0 24 rfl rfl
theorem dksJ3_addAll_2 : cJ3_addAll.data.toList.drop 47 = dktJ3_addAll_2 := dk_seg dksJ3_addAll_1 23 rfl rfl
theorem dksJ3_addAll_3 : cJ3_addAll.data.toList.drop 71 = dktJ3_addAll_3 := dk_seg dksJ3_addAll_2 24 rfl rfl
theorem dJ3_addAll_0 : decode cJ3_addAll 0 = .ok (.aload_n 1, 1) := dk_43 (dk_at dksJ3_addAll_0 0 rfl rfl)
theorem dJ3_addAll_1 : decode cJ3_addAll 1 = .ok (.invokeinterface 42 1, 5) := by decide +kernel
theorem dJ3_addAll_6 : decode cJ3_addAll 6 = .ok (.astore_n 2, 1) := dk_77 (dk_at dksJ3_addAll_0 6 rfl rfl)
theorem dJ3_addAll_7 : decode cJ3_addAll 7 = .ok (.aload_n 0, 1) := dk_42 (dk_at dksJ3_addAll_0 7 rfl rfl)
theorem dJ3_addAll_8 : decode cJ3_addAll 8 = .ok (.dup, 1) := dk_89 (dk_at dksJ3_addAll_0 8 rfl rfl)
theorem dJ3_addAll_9 : decode cJ3_addAll 9 = .ok (.getfield 63, 3) := dk_180 0 63 (dk_at dksJ3_addAll_0 9 rfl rfl)
theorem dJ3_addAll_12 : decode cJ3_addAll 12 = .ok (.iconst 1, 1) := dk_4 (dk_at dksJ3_addAll_0 12 rfl rfl)
theorem dJ3_addAll_13 : decode cJ3_addAll 13 = .ok (.iadd, 1) := dk_96 (dk_at dksJ3_addAll_0 13 rfl rfl)
theorem dJ3_addAll_14 : decode cJ3_addAll 14 = .ok (.putfield 63, 3) := dk_181 0 63 (dk_at dksJ3_addAll_0 14 rfl rfl)
theorem dJ3_addAll_17 : decode cJ3_addAll 17 = .ok (.aload_n 2, 1) := dk_44 (dk_at dksJ3_addAll_0 17 rfl rfl)
theorem dJ3_addAll_18 : decode cJ3_addAll 18 = .ok (.arraylength, 1) := dk_190 (dk_at dksJ3_addAll_0 18 rfl rfl)
theorem dJ3_addAll_19 : decode cJ3_addAll 19 = .ok (.istore_n 3, 1) := dk_62 (dk_at dksJ3_addAll_0 19 rfl rfl)
theorem dJ3_addAll_20 : decode cJ3_addAll 20 = .ok (.iload_n 3, 1) := dk_29 (dk_at dksJ3_addAll_0 20 rfl rfl)
theorem dJ3_addAll_21 : decode cJ3_addAll 21 = .ok (.ifCond .ne 5, 3) := dk_154 0 5 (dk_at dksJ3_addAll_0 21 rfl rfl)
theorem dJ3_addAll_24 : decode cJ3_addAll 24 = .ok (.iconst 0, 1) := dk_3 (dk_at dksJ3_addAll_1 0 rfl rfl)
theorem dJ3_addAll_25 : decode cJ3_addAll 25 = .ok (.ireturn, 1) := dk_172 (dk_at dksJ3_addAll_1 1 rfl rfl)
theorem dJ3_addAll_26 : decode cJ3_addAll 26 = .ok (.iload_n 3, 1) := dk_29 (dk_at dksJ3_addAll_1 2 rfl rfl)
theorem dJ3_addAll_27 : decode cJ3_addAll 27 = .ok (.aload_n 0, 1) := dk_42 (dk_at dksJ3_addAll_1 3 rfl rfl)
theorem dJ3_addAll_28 : decode cJ3_addAll 28 = .ok (.getfield 9, 3) := dk_180 0 9 (dk_at dksJ3_addAll_1 4 rfl rfl)
theorem dJ3_addAll_31 : decode cJ3_addAll 31 = .ok (.dup, 1) := dk_89 (dk_at dksJ3_addAll_1 7 rfl rfl)
theorem dJ3_addAll_32 : decode cJ3_addAll 32 = .ok (.astore 4, 2) := dk_58 4 (dk_at dksJ3_addAll_1 8 rfl rfl)
theorem dJ3_addAll_34 : decode cJ3_addAll 34 = .ok (.arraylength, 1) := dk_190 (dk_at dksJ3_addAll_1 10 rfl rfl)
theorem dJ3_addAll_35 : decode cJ3_addAll 35 = .ok (.aload_n 0, 1) := dk_42 (dk_at dksJ3_addAll_1 11 rfl rfl)
theorem dJ3_addAll_36 : decode cJ3_addAll 36 = .ok (.getfield 48, 3) := dk_180 0 48 (dk_at dksJ3_addAll_1 12 rfl rfl)
theorem dJ3_addAll_39 : decode cJ3_addAll 39 = .ok (.dup, 1) := dk_89 (dk_at dksJ3_addAll_1 15 rfl rfl)
theorem dJ3_addAll_40 : decode cJ3_addAll 40 = .ok (.istore 5, 2) := dk_54 5 (dk_at dksJ3_addAll_1 16 rfl rfl)
theorem dJ3_addAll_42 : decode cJ3_addAll 42 = .ok (.isub, 1) := dk_100 (dk_at dksJ3_addAll_1 18 rfl rfl)
theorem dJ3_addAll_43 : decode cJ3_addAll 43 = .ok (.if_icmp .le 13, 3) := dk_164 0 13 (dk_at dksJ3_addAll_1 19 rfl rfl)
theorem dJ3_addAll_46 : decode cJ3_addAll 46 = .ok (.aload_n 0, 1) := dk_42 (dk_at dksJ3_addAll_1 22 rfl rfl)
theorem dJ3_addAll_47 : decode cJ3_addAll 47 = .ok (.iload 5, 2) := dk_21 5 (dk_at dksJ3_addAll_2 0 rfl rfl)
theorem dJ3_addAll_49 : decode cJ3_addAll 49 = .ok (.iload_n 3, 1) := dk_29 (dk_at dksJ3_addAll_2 2 rfl rfl)
theorem dJ3_addAll_50 : decode cJ3_addAll 50 = .ok (.iadd, 1) := dk_96 (dk_at dksJ3_addAll_2 3 rfl rfl)
theorem dJ3_addAll_51 : decode cJ3_addAll 51 = .ok (.invokevirtual 69, 3) := dk_182 0 69 (dk_at dksJ3_addAll_2 4 rfl rfl)
theorem dJ3_addAll_54 : decode cJ3_addAll 54 = .ok (.astore 4, 2) := dk_58 4 (dk_at dksJ3_addAll_2 7 rfl rfl)
theorem dJ3_addAll_56 : decode cJ3_addAll 56 = .ok (.aload_n 2, 1) := dk_44 (dk_at dksJ3_addAll_2 9 rfl rfl)
theorem dJ3_addAll_57 : decode cJ3_addAll 57 = .ok (.iconst 0, 1) := dk_3 (dk_at dksJ3_addAll_2 10 rfl rfl)
theorem dJ3_addAll_58 : decode cJ3_addAll 58 = .ok (.aload 4, 2) := dk_25 4 (dk_at dksJ3_addAll_2 11 rfl rfl)
theorem dJ3_addAll_60 : decode cJ3_addAll 60 = .ok (.iload 5, 2) := dk_21 5 (dk_at dksJ3_addAll_2 13 rfl rfl)
theorem dJ3_addAll_62 : decode cJ3_addAll 62 = .ok (.iload_n 3, 1) := dk_29 (dk_at dksJ3_addAll_2 15 rfl rfl)
theorem dJ3_addAll_63 : decode cJ3_addAll 63 = .ok (.invokestatic 112, 3) := dk_184 0 112 (dk_at dksJ3_addAll_2 16 rfl rfl)
theorem dJ3_addAll_66 : decode cJ3_addAll 66 = .ok (.aload_n 0, 1) := dk_42 (dk_at dksJ3_addAll_2 19 rfl rfl)
theorem dJ3_addAll_67 : decode cJ3_addAll 67 = .ok (.iload 5, 2) := dk_21 5 (dk_at dksJ3_addAll_2 20 rfl rfl)
theorem dJ3_addAll_69 : decode cJ3_addAll 69 = .ok (.iload_n 3, 1) := dk_29 (dk_at dksJ3_addAll_2 22 rfl rfl)
theorem dJ3_addAll_70 : decode cJ3_addAll 70 = .ok (.iadd, 1) := dk_96 (dk_at dksJ3_addAll_2 23 rfl rfl)
theorem dJ3_addAll_71 : decode cJ3_addAll 71 = .ok (.putfield 48, 3) := dk_181 0 48 (dk_at dksJ3_addAll_3 0 rfl rfl)
theorem dJ3_addAll_74 : decode cJ3_addAll 74 = .ok (.iconst 1, 1) := dk_4 (dk_at dksJ3_addAll_3 3 rfl rfl)
theorem dJ3_addAll_75 : decode cJ3_addAll 75 = .ok (.ireturn, 1) := dk_172 (dk_at dksJ3_addAll_3 4 rfl rfl)
theorem md_J3_addAll : xMd yJ3_addAll cJ3_addAll 6 (Option.some Jvm.ClassFile.FieldType.boolean) 1 := ⟨q2736, q130, by decide, by decide +kernel, by decide +kernel, by decide +kernel⟩
def f_J3_addAll_56 (a0 : Nat)  (v2 : Option Nat) (v3 : Int32) (v4 : Option Nat) (v5 : Int32) (p0 : PH) : Option (xO × PH) :=
  (xnul v2 none fun b12 =>
  (xnul v4 none fun b13 =>
  (xcpR p0 b12 b13 0 v5 v3 fun p14 =>
  (xpF p14 a0 14 2 (.int (v5 + v3)) fun p15 =>
  (if vp_nar .boolean 1 = 1 then rI 1 p15 else none)))))
def f_J3_addAll (p0 : PH) (a0 : Nat) (a1 : Option Nat) : Option (xO × PH) :=
  (xcl1 p0 a0 14 (xnul a1 none fun b1 =>
  (xcR (f_J3_toArray p0 b1 ) fun x3 p2 =>
  (xgI p2 a0 14 0 fun x4 =>
  (xpF p2 a0 14 0 (.int (x4 + 1)) fun p5 =>
  (xnul x3 none fun b6 =>
  (xlen p5 b6 fun x7 =>
  (if x7 = 0 then
  (if vp_nar .boolean 0 = 0 then rI 0 p5 else none) else
  (xgR p5 a0 14 1 fun x8 =>
  (xnul x8 none fun b9 =>
  (xlen p5 b9 fun x10 =>
  (xgI p5 a0 14 2 fun x11 =>
  (if x7 ≤ (x10 - x11) then
  (f_J3_addAll_56 a0 ((some b6)) x7 ((some b9)) x11 p5) else
  (xcR (f_J3_grow_2 p5 a0 (x11 + x7)) fun x17 p16 =>
  (f_J3_addAll_56 a0 ((some b6)) x7 x17 x11 p16)))))))))))))))
theorem rc_J3_addAll {p0 : PH} {a0 : Nat} {a1 : Option Nat} : ∀ z, f_J3_addAll p0 a0 a1 = some z → xco p0 a0 = some 14 := fun z h => xcl1_some h
theorem f_J3_addAll_56_ok {G : xG} (hO : xOK G) (a0 : Nat)  (v2 : Option Nat) (v3 : Int32) (v4 : Option Nat) (v5 : Int32) (p0 : PH) : X G "java/util/ArrayList" "addAll" cJ3_addAll 6 (Option.some Jvm.ClassFile.FieldType.boolean) 4 56 [(0, .ref a0), (2, va_rf v2), (3, .int v3), (4, va_rf v4), (5, .int v5)] [] p0 (f_J3_addAll_56 a0 v2 v3 v4 v5 p0) := by
  unfold f_J3_addAll_56
  refine x_aload_n 1 dJ3_addAll_56 rfl rfl (n := 57) rfl ?_
  refine x_iconst 0 dJ3_addAll_57 rfl (n := 58) rfl ?_
  refine x_aload 3 dJ3_addAll_58 rfl (n := 60) rfl ?_
  refine x_iload 4 dJ3_addAll_60 rfl (n := 62) rfl ?_
  refine x_iload_n 2 dJ3_addAll_62 rfl rfl (n := 63) rfl ?_
  refine x_sm (fun b12 e => ?_)
  subst e
  refine x_sm (fun b13 e => ?_)
  subst e
  refine x_cpR arc_J3_112 dJ3_addAll_63 (by decide) (Nat.le_of_ble_eq_true rfl) (n := 66) rfl (fun p14 => ?_)
  refine x_aload_nr 0 dJ3_addAll_66 rfl rfl (n := 67) rfl ?_
  refine x_iload 4 dJ3_addAll_67 rfl (n := 69) rfl ?_
  refine x_iload_n 2 dJ3_addAll_69 rfl rfl (n := 70) rfl ?_
  refine x_iadd dJ3_addAll_70 (n := 71) rfl ?_
  refine x_pF (pl_J3_48 _ _ ⟨rfl, rfl⟩) dJ3_addAll_71 (n := 74) rfl (fun p15 => ?_)
  refine x_iconst 1 dJ3_addAll_74 rfl (n := 75) rfl ?_
  exact x_nreturn rfl dJ3_addAll_75
theorem f_J3_addAll_ok {G : xG} (hO : xOK G) (p0 : PH) (a0 : Nat) (a1 : Option Nat) : CT G 4 yJ3_addAll cJ3_addAll 6 (Option.some Jvm.ClassFile.FieldType.boolean) [.ref a0, va_rf a1] p0 (f_J3_addAll p0 a0 a1) := by
  refine CT_of hO (by decide +kernel) (by decide +kernel) (lg_slen _ (by simp only [List.map, xcat]; exact Nat.le_of_ble_eq_true rfl)) ?_
  rw [show lv_args 0 [.ref a0, va_rf a1] = [(0, .ref a0), (1, va_rf a1)] from by simp only [lv_args, xcat] <;> rfl]
  show X G "java/util/ArrayList" "addAll" cJ3_addAll 6 (Option.some Jvm.ClassFile.FieldType.boolean) 4 0 [(0, .ref a0), (1, va_rf a1)] [] p0 (f_J3_addAll p0 a0 a1)
  refine x_cl1 (fun e0 => ?_)
  refine x_aload_n 1 dJ3_addAll_0 rfl rfl (n := 1) rfl ?_
  refine x_sm (fun b1 e => ?_)
  subst e
  refine x_callF_R [] [] (f_J3_toArray_ok hO p0 b1 ) rc_J3_toArray md_J3_toArray rfl q2738 fc_java_util_ArrayList_java_util_Collection_toArray_0_Ljaval dJ3_addAll_1 rfl rfl (by decide) (Nat.le_of_ble_eq_true rfl) (n := 6) rfl (fun x3 p2 => ?_)
  refine x_astore_n [(2, va_rf x3), (0, .ref a0), (1, .ref b1)] dJ3_addAll_6 rfl (by decide) rfl (n := 7) rfl ?_
  refine x_aload_nr 1 dJ3_addAll_7 rfl rfl (n := 8) rfl ?_
  refine x_dup dJ3_addAll_8 rfl (n := 9) rfl ?_
  refine x_getI fl_J3_63 dJ3_addAll_9 (n := 12) rfl (fun x4 => ?_)
  refine x_iconst 1 dJ3_addAll_12 rfl (n := 13) rfl ?_
  refine x_iadd dJ3_addAll_13 (n := 14) rfl ?_
  refine x_pF (pl_J3_63 _ _ ⟨rfl, rfl⟩) dJ3_addAll_14 (n := 17) rfl (fun p5 => ?_)
  refine x_aload_n 0 dJ3_addAll_17 rfl rfl (n := 18) rfl ?_
  refine x_sm (fun b6 e => ?_)
  subst e
  refine x_alen dJ3_addAll_18 (n := 19) rfl (fun x7 => ?_)
  refine x_istore_n [(3, .int x7), (2, .ref b6), (0, .ref a0), (1, .ref b1)] dJ3_addAll_19 rfl (by decide) rfl (n := 20) rfl ?_
  refine x_iload_n 0 dJ3_addAll_20 rfl rfl (n := 21) rfl ?_
  refine x_if_ne dJ3_addAll_21 (t := 26) (by decide) (n := 24) rfl (fun _ => ?_) (fun _ => ?_)
  · refine x_iload_n 0 dJ3_addAll_26 rfl rfl (n := 27) rfl ?_
    refine x_aload_nr 2 dJ3_addAll_27 rfl rfl (n := 28) rfl ?_
    refine x_getR fl_J3_9 dJ3_addAll_28 (n := 31) rfl (fun x8 => ?_)
    refine x_dup dJ3_addAll_31 (xcat _) (n := 32) rfl ?_
    refine x_astore [(4, va_rf x8), (3, .int x7), (2, .ref b6), (0, .ref a0), (1, .ref b1)] dJ3_addAll_32 (by decide) rfl (n := 34) rfl ?_
    refine x_sm (fun b9 e => ?_)
    subst e
    refine x_alen dJ3_addAll_34 (n := 35) rfl (fun x10 => ?_)
    refine x_aload_nr 3 dJ3_addAll_35 rfl rfl (n := 36) rfl ?_
    refine x_getI fl_J3_48 dJ3_addAll_36 (n := 39) rfl (fun x11 => ?_)
    refine x_dup dJ3_addAll_39 rfl (n := 40) rfl ?_
    refine x_istore [(5, .int x11), (4, .ref b9), (3, .int x7), (2, .ref b6), (0, .ref a0), (1, .ref b1)] dJ3_addAll_40 (by decide) rfl (n := 42) rfl ?_
    refine x_isub dJ3_addAll_42 (n := 43) rfl ?_
    refine x_icmp_le dJ3_addAll_43 (t := 56) (by decide) (n := 46) rfl (fun _ => ?_) (fun _ => ?_)
    · refine x_sub [4, 3, 2, 1, 0] [(0, .ref a0), (2, .ref b6), (3, .int x7), (4, .ref b9), (5, .int x11)] rfl ?_
      exact f_J3_addAll_56_ok hO a0 ((some b6)) x7 ((some b9)) x11 p5
    · refine x_aload_nr 4 dJ3_addAll_46 rfl rfl (n := 47) rfl ?_
      refine x_iload 0 dJ3_addAll_47 rfl (n := 49) rfl ?_
      refine x_iload_n 2 dJ3_addAll_49 rfl rfl (n := 50) rfl ?_
      refine x_iadd dJ3_addAll_50 (n := 51) rfl ?_
      refine x_callV_R [.int (x11 + x7)] [] (f_J3_grow_2_ok hO p5 a0 (x11 + x7)) rc_J3_grow_2 md_J3_grow_2 rfl q1248 q1250 qs15 dJ3_addAll_51 rfl rfl (by decide) (Nat.le_of_ble_eq_true rfl) (n := 54) rfl (fun x17 p16 => ?_)
      refine x_astore [(4, va_rf x17), (5, .int x11), (3, .int x7), (2, .ref b6), (0, .ref a0), (1, .ref b1)] dJ3_addAll_54 (by decide) rfl (n := 56) rfl ?_
      refine x_sub [4, 3, 2, 0, 1] [(0, .ref a0), (2, .ref b6), (3, .int x7), (4, va_rf x17), (5, .int x11)] rfl ?_
      exact f_J3_addAll_56_ok hO a0 ((some b6)) x7 x17 x11 p16
  · refine x_iconst 0 dJ3_addAll_24 rfl (n := 25) rfl ?_
    exact x_nreturn rfl dJ3_addAll_25
abbrev cX6_copy : ByteArray := prog_4_method_2_code
def yX6_copy : MethodName := ⟨RX6, "copy", "()LForestLegs$Course;"⟩
def dkwX6_copy_1 : List UInt8 := [185, 0, 25, 2, 0, 87, 43, 176]
abbrev dktX6_copy_1 : List UInt8 := dkwX6_copy_1 ++ []
def dkwX6_copy_0 : List UInt8 := [187, 0, 13, 89, 42, 180, 0, 18, 183, 0, 22, 76, 43, 180, 0, 12, 42, 180, 0, 12]
abbrev dktX6_copy_0 : List UInt8 := dkwX6_copy_0 ++ dktX6_copy_1
theorem dksX6_copy_0 : cX6_copy.data.toList.drop 0 = dktX6_copy_0 := by decide +kernel
theorem dksX6_copy_1 : cX6_copy.data.toList.drop 20 = dktX6_copy_1 := dk_seg dksX6_copy_0 20 rfl rfl
theorem dX6_copy_0 : decode cX6_copy 0 = .ok (.new 13, 3) := dk_187 0 13 (dk_at dksX6_copy_0 0 rfl rfl)
theorem dX6_copy_3 : decode cX6_copy 3 = .ok (.dup, 1) := dk_89 (dk_at dksX6_copy_0 3 rfl rfl)
theorem dX6_copy_4 : decode cX6_copy 4 = .ok (.aload_n 0, 1) := dk_42 (dk_at dksX6_copy_0 4 rfl rfl)
theorem dX6_copy_5 : decode cX6_copy 5 = .ok (.getfield 18, 3) := dk_180 0 18 (dk_at dksX6_copy_0 5 rfl rfl)
theorem dX6_copy_8 : decode cX6_copy 8 = .ok (.invokespecial 22, 3) := dk_183 0 22 (dk_at dksX6_copy_0 8 rfl rfl)
theorem dX6_copy_11 : decode cX6_copy 11 = .ok (.astore_n 1, 1) := dk_76 (dk_at dksX6_copy_0 11 rfl rfl)
theorem dX6_copy_12 : decode cX6_copy 12 = .ok (.aload_n 1, 1) := dk_43 (dk_at dksX6_copy_0 12 rfl rfl)
theorem dX6_copy_13 : decode cX6_copy 13 = .ok (.getfield 12, 3) := dk_180 0 12 (dk_at dksX6_copy_0 13 rfl rfl)
theorem dX6_copy_16 : decode cX6_copy 16 = .ok (.aload_n 0, 1) := dk_42 (dk_at dksX6_copy_0 16 rfl rfl)
theorem dX6_copy_17 : decode cX6_copy 17 = .ok (.getfield 12, 3) := dk_180 0 12 (dk_at dksX6_copy_0 17 rfl rfl)
theorem dX6_copy_20 : decode cX6_copy 20 = .ok (.invokeinterface 25 2, 5) := by decide +kernel
theorem dX6_copy_25 : decode cX6_copy 25 = .ok (.pop, 1) := dk_87 (dk_at dksX6_copy_1 5 rfl rfl)
theorem dX6_copy_26 : decode cX6_copy 26 = .ok (.aload_n 1, 1) := dk_43 (dk_at dksX6_copy_1 6 rfl rfl)
theorem dX6_copy_27 : decode cX6_copy 27 = .ok (.areturn, 1) := dk_176 (dk_at dksX6_copy_1 7 rfl rfl)
theorem md_X6_copy : xMd yX6_copy cX6_copy 2 (Option.some (Jvm.ClassFile.FieldType.object "ForestLegs$Course")) 0 := ⟨q2725, q147, by decide, by decide +kernel, by decide +kernel, by decide +kernel⟩
def f_X6_copy (p0 : PH) (a0 : Nat) : Option (xO × PH) :=
  (xcl1 p0 a0 5 (xnew p0 5 [.null, .null] fun b1 p2 =>
  (xgR p2 a0 5 0 fun x3 =>
  (xcV (f_X6_init p2 b1 x3) fun p4 =>
  (xgR p4 b1 5 1 fun x5 =>
  (xgR p4 a0 5 1 fun x6 =>
  (xnul x5 none fun b7 =>
  (xcI (f_J3_addAll p4 b7 x6) fun x9 p8 =>
  (rR (some b1) p8)))))))))
theorem rc_X6_copy {p0 : PH} {a0 : Nat} : ∀ z, f_X6_copy p0 a0 = some z → xco p0 a0 = some 5 := fun z h => xcl1_some h
theorem f_X6_copy_ok {G : xG} (hO : xOK G) (p0 : PH) (a0 : Nat) : CT G 5 yX6_copy cX6_copy 2 (Option.some (Jvm.ClassFile.FieldType.object "ForestLegs$Course")) [.ref a0] p0 (f_X6_copy p0 a0) := by
  refine CT_of hO (by decide +kernel) (by decide +kernel) (Nat.le_of_ble_eq_true rfl) ?_
  show X G "ForestLegs$Course" "copy" cX6_copy 2 (Option.some (Jvm.ClassFile.FieldType.object "ForestLegs$Course")) 5 0 [(0, .ref a0)] [] p0 (f_X6_copy p0 a0)
  refine x_cl1 (fun e0 => ?_)
  refine x_new cl_5 (by decide) q2726 q818 q147 rfl dX6_copy_0 (n := 3) rfl (fun b1 p2 => ?_)
  refine x_dup dX6_copy_3 rfl (n := 4) rfl ?_
  refine x_aload_nr 0 dX6_copy_4 rfl rfl (n := 5) rfl ?_
  refine x_getR fl_X6_18 dX6_copy_5 (n := 8) rfl (fun x3 => ?_)
  refine x_callI_V [va_rf x3] [.ref b1] (f_X6_init_ok hO p2 b1 x3) md_X6_init rfl q2727 q1178 dX6_copy_8 rfl rfl (by decide) (Nat.le_of_ble_eq_true rfl) (n := 11) rfl (fun p4 => ?_)
  refine x_astore_nr [(1, .ref b1), (0, .ref a0)] dX6_copy_11 rfl (by decide) rfl (n := 12) rfl ?_
  refine x_aload_nr 0 dX6_copy_12 rfl rfl (n := 13) rfl ?_
  refine x_getR fl_X6_12 dX6_copy_13 (n := 16) rfl (fun x5 => ?_)
  refine x_aload_nr 1 dX6_copy_16 rfl rfl (n := 17) rfl ?_
  refine x_getR fl_X6_12 dX6_copy_17 (n := 20) rfl (fun x6 => ?_)
  refine x_sm (fun b7 e => ?_)
  subst e
  refine x_callF_I [va_rf x6] [] (f_J3_addAll_ok hO p4 b7 x6) rc_J3_addAll md_J3_addAll rfl q2729 fc_java_util_ArrayList_java_util_List_addAll_1_Ljavau dX6_copy_20 rfl rfl (by decide) (Nat.le_of_ble_eq_true rfl) (n := 25) rfl (fun x9 p8 => ?_)
  refine x_pop dX6_copy_25 rfl (n := 26) rfl ?_
  refine x_aload_nr 0 dX6_copy_26 rfl rfl (n := 27) rfl ?_
  exact x_areturn (x := some b1) (Or.inl ⟨_, rfl⟩) dX6_copy_27
abbrev cX7_copy : ByteArray := prog_11_method_2_code
def yX7_copy : MethodName := ⟨RX7, "copy", "()LForestLegs$Runner;"⟩
def dkwX7_copy_1 : List UInt8 := [43, 42, 180, 0, 32, 181, 0, 32, 43, 180, 0, 12, 42, 180, 0, 12, 185, 0, 35, 2, 0, 87, 43, 176]
abbrev dktX7_copy_1 : List UInt8 := dkwX7_copy_1 ++ []
def dkwX7_copy_0 : List UInt8 := [187, 0, 13, 89, 42, 180, 0, 18, 42, 180, 0, 22, 183, 0, 26, 76, 43, 42, 180, 0, 29, 181, 0, 29]
abbrev dktX7_copy_0 : List UInt8 := dkwX7_copy_0 ++ dktX7_copy_1
theorem dksX7_copy_0 : cX7_copy.data.toList.drop 0 = dktX7_copy_0 := by decide +kernel
theorem dksX7_copy_1 : cX7_copy.data.toList.drop 24 = dktX7_copy_1 := dk_seg dksX7_copy_0 24 rfl rfl
theorem dX7_copy_0 : decode cX7_copy 0 = .ok (.new 13, 3) := dk_187 0 13 (dk_at dksX7_copy_0 0 rfl rfl)
theorem dX7_copy_3 : decode cX7_copy 3 = .ok (.dup, 1) := dk_89 (dk_at dksX7_copy_0 3 rfl rfl)
theorem dX7_copy_4 : decode cX7_copy 4 = .ok (.aload_n 0, 1) := dk_42 (dk_at dksX7_copy_0 4 rfl rfl)
theorem dX7_copy_5 : decode cX7_copy 5 = .ok (.getfield 18, 3) := dk_180 0 18 (dk_at dksX7_copy_0 5 rfl rfl)
theorem dX7_copy_8 : decode cX7_copy 8 = .ok (.aload_n 0, 1) := dk_42 (dk_at dksX7_copy_0 8 rfl rfl)
theorem dX7_copy_9 : decode cX7_copy 9 = .ok (.getfield 22, 3) := dk_180 0 22 (dk_at dksX7_copy_0 9 rfl rfl)
theorem dX7_copy_12 : decode cX7_copy 12 = .ok (.invokespecial 26, 3) := dk_183 0 26 (dk_at dksX7_copy_0 12 rfl rfl)
theorem dX7_copy_15 : decode cX7_copy 15 = .ok (.astore_n 1, 1) := dk_76 (dk_at dksX7_copy_0 15 rfl rfl)
theorem dX7_copy_16 : decode cX7_copy 16 = .ok (.aload_n 1, 1) := dk_43 (dk_at dksX7_copy_0 16 rfl rfl)
theorem dX7_copy_17 : decode cX7_copy 17 = .ok (.aload_n 0, 1) := dk_42 (dk_at dksX7_copy_0 17 rfl rfl)
theorem dX7_copy_18 : decode cX7_copy 18 = .ok (.getfield 29, 3) := dk_180 0 29 (dk_at dksX7_copy_0 18 rfl rfl)
theorem dX7_copy_21 : decode cX7_copy 21 = .ok (.putfield 29, 3) := dk_181 0 29 (dk_at dksX7_copy_0 21 rfl rfl)
theorem dX7_copy_24 : decode cX7_copy 24 = .ok (.aload_n 1, 1) := dk_43 (dk_at dksX7_copy_1 0 rfl rfl)
theorem dX7_copy_25 : decode cX7_copy 25 = .ok (.aload_n 0, 1) := dk_42 (dk_at dksX7_copy_1 1 rfl rfl)
theorem dX7_copy_26 : decode cX7_copy 26 = .ok (.getfield 32, 3) := dk_180 0 32 (dk_at dksX7_copy_1 2 rfl rfl)
theorem dX7_copy_29 : decode cX7_copy 29 = .ok (.putfield 32, 3) := dk_181 0 32 (dk_at dksX7_copy_1 5 rfl rfl)
theorem dX7_copy_32 : decode cX7_copy 32 = .ok (.aload_n 1, 1) := dk_43 (dk_at dksX7_copy_1 8 rfl rfl)
theorem dX7_copy_33 : decode cX7_copy 33 = .ok (.getfield 12, 3) := dk_180 0 12 (dk_at dksX7_copy_1 9 rfl rfl)
theorem dX7_copy_36 : decode cX7_copy 36 = .ok (.aload_n 0, 1) := dk_42 (dk_at dksX7_copy_1 12 rfl rfl)
theorem dX7_copy_37 : decode cX7_copy 37 = .ok (.getfield 12, 3) := dk_180 0 12 (dk_at dksX7_copy_1 13 rfl rfl)
theorem dX7_copy_40 : decode cX7_copy 40 = .ok (.invokeinterface 35 2, 5) := by decide +kernel
theorem dX7_copy_45 : decode cX7_copy 45 = .ok (.pop, 1) := dk_87 (dk_at dksX7_copy_1 21 rfl rfl)
theorem dX7_copy_46 : decode cX7_copy 46 = .ok (.aload_n 1, 1) := dk_43 (dk_at dksX7_copy_1 22 rfl rfl)
theorem dX7_copy_47 : decode cX7_copy 47 = .ok (.areturn, 1) := dk_176 (dk_at dksX7_copy_1 23 rfl rfl)
theorem md_X7_copy : xMd yX7_copy cX7_copy 2 (Option.some (Jvm.ClassFile.FieldType.object "ForestLegs$Runner")) 0 := ⟨q2791, q156, by decide, by decide +kernel, by decide +kernel, by decide +kernel⟩
def f_X7_copy (p0 : PH) (a0 : Nat) : Option (xO × PH) :=
  (xcl1 p0 a0 6 (xnew p0 6 [.null, .int 0, .int 0, .int 0, .null] fun b1 p2 =>
  (xgR p2 a0 6 0 fun x3 =>
  (xgI p2 a0 6 1 fun x4 =>
  (xcV (f_X7_init p2 b1 x3 x4) fun p5 =>
  (xgI p5 a0 6 2 fun x6 =>
  (xpF p5 b1 6 2 (.int x6) fun p7 =>
  (xgI p7 a0 6 3 fun x8 =>
  (xpF p7 b1 6 3 (.int x8) fun p9 =>
  (xgR p9 b1 6 4 fun x10 =>
  (xgR p9 a0 6 4 fun x11 =>
  (xnul x10 none fun b12 =>
  (xcI (f_J3_addAll p9 b12 x11) fun x14 p13 =>
  (rR (some b1) p13))))))))))))))
theorem rc_X7_copy {p0 : PH} {a0 : Nat} : ∀ z, f_X7_copy p0 a0 = some z → xco p0 a0 = some 6 := fun z h => xcl1_some h
theorem f_X7_copy_ok {G : xG} (hO : xOK G) (p0 : PH) (a0 : Nat) : CT G 5 yX7_copy cX7_copy 2 (Option.some (Jvm.ClassFile.FieldType.object "ForestLegs$Runner")) [.ref a0] p0 (f_X7_copy p0 a0) := by
  refine CT_of hO (by decide +kernel) (by decide +kernel) (Nat.le_of_ble_eq_true rfl) ?_
  show X G "ForestLegs$Runner" "copy" cX7_copy 2 (Option.some (Jvm.ClassFile.FieldType.object "ForestLegs$Runner")) 5 0 [(0, .ref a0)] [] p0 (f_X7_copy p0 a0)
  refine x_cl1 (fun e0 => ?_)
  refine x_new cl_6 (by decide) q2792 q1396 q156 rfl dX7_copy_0 (n := 3) rfl (fun b1 p2 => ?_)
  refine x_dup dX7_copy_3 rfl (n := 4) rfl ?_
  refine x_aload_nr 0 dX7_copy_4 rfl rfl (n := 5) rfl ?_
  refine x_getR fl_X7_18 dX7_copy_5 (n := 8) rfl (fun x3 => ?_)
  refine x_aload_nr 0 dX7_copy_8 rfl rfl (n := 9) rfl ?_
  refine x_getI fl_X7_22 dX7_copy_9 (n := 12) rfl (fun x4 => ?_)
  refine x_callI_V [va_rf x3, .int x4] [.ref b1] (f_X7_init_ok hO p2 b1 x3 x4) md_X7_init rfl q2793 q1398 dX7_copy_12 rfl rfl (by decide) (Nat.le_of_ble_eq_true rfl) (n := 15) rfl (fun p5 => ?_)
  refine x_astore_nr [(1, .ref b1), (0, .ref a0)] dX7_copy_15 rfl (by decide) rfl (n := 16) rfl ?_
  refine x_aload_nr 0 dX7_copy_16 rfl rfl (n := 17) rfl ?_
  refine x_aload_nr 1 dX7_copy_17 rfl rfl (n := 18) rfl ?_
  refine x_getI fl_X7_29 dX7_copy_18 (n := 21) rfl (fun x6 => ?_)
  refine x_pF (pl_X7_29 _ _ ⟨rfl, rfl⟩) dX7_copy_21 (n := 24) rfl (fun p7 => ?_)
  refine x_aload_nr 0 dX7_copy_24 rfl rfl (n := 25) rfl ?_
  refine x_aload_nr 1 dX7_copy_25 rfl rfl (n := 26) rfl ?_
  refine x_getI fl_X7_32 dX7_copy_26 (n := 29) rfl (fun x8 => ?_)
  refine x_pF (pl_X7_32 _ _ ⟨rfl, rfl⟩) dX7_copy_29 (n := 32) rfl (fun p9 => ?_)
  refine x_aload_nr 0 dX7_copy_32 rfl rfl (n := 33) rfl ?_
  refine x_getR fl_X7_12 dX7_copy_33 (n := 36) rfl (fun x10 => ?_)
  refine x_aload_nr 1 dX7_copy_36 rfl rfl (n := 37) rfl ?_
  refine x_getR fl_X7_12 dX7_copy_37 (n := 40) rfl (fun x11 => ?_)
  refine x_sm (fun b12 e => ?_)
  subst e
  refine x_callF_I [va_rf x11] [] (f_J3_addAll_ok hO p9 b12 x11) rc_J3_addAll md_J3_addAll rfl q2795 fc_java_util_ArrayList_java_util_List_addAll_1_Ljavau dX7_copy_40 rfl rfl (by decide) (Nat.le_of_ble_eq_true rfl) (n := 45) rfl (fun x14 p13 => ?_)
  refine x_pop dX7_copy_45 rfl (n := 46) rfl ?_
  refine x_aload_nr 0 dX7_copy_46 rfl rfl (n := 47) rfl ?_
  exact x_areturn (x := some b1) (Or.inl ⟨_, rfl⟩) dX7_copy_47
abbrev cX4_copy : ByteArray := prog_7_method_2_code
def yX4_copy : MethodName := ⟨RX4, "copy", "()LForestLegs$Meet;"⟩
def dkwX4_copy_5 : List UInt8 := [180, 0, 27, 181, 0, 27, 43, 176]
abbrev dktX4_copy_5 : List UInt8 := dkwX4_copy_5 ++ []
def dkwX4_copy_4 : List UInt8 := [182, 0, 59, 185, 0, 53, 2, 0, 87, 167, 255, 223, 43, 42, 180, 0, 23, 181, 0, 23, 43, 42]
abbrev dktX4_copy_4 : List UInt8 := dkwX4_copy_4 ++ dktX4_copy_5
def dkwX4_copy_3 : List UInt8 := [185, 0, 37, 1, 0, 153, 0, 30, 44, 185, 0, 43, 1, 0, 192, 0, 57, 78, 43, 180, 0, 20, 45]
abbrev dktX4_copy_3 : List UInt8 := dkwX4_copy_3 ++ dktX4_copy_4
def dkwX4_copy_2 : List UInt8 := [185, 0, 53, 2, 0, 87, 167, 255, 223, 42, 180, 0, 20, 185, 0, 31, 1, 0, 77, 44]
abbrev dktX4_copy_2 : List UInt8 := dkwX4_copy_2 ++ dktX4_copy_3
def dkwX4_copy_1 : List UInt8 := [153, 0, 30, 44, 185, 0, 43, 1, 0, 192, 0, 47, 78, 43, 180, 0, 14, 45, 182, 0, 49]
abbrev dktX4_copy_1 : List UInt8 := dkwX4_copy_1 ++ dktX4_copy_2
def dkwX4_copy_0 : List UInt8 := [187, 0, 15, 89, 183, 0, 30, 76, 42, 180, 0, 14, 185, 0, 31, 1, 0, 77, 44, 185, 0, 37, 1, 0]
abbrev dktX4_copy_0 : List UInt8 := dkwX4_copy_0 ++ dktX4_copy_1
theorem dksX4_copy_0 : cX4_copy.data.toList.drop 0 = dktX4_copy_0 := by decide +kernel
theorem dksX4_copy_1 : cX4_copy.data.toList.drop 24 = dktX4_copy_1 := dk_seg dksX4_copy_0 24 rfl rfl
theorem dksX4_copy_2 : cX4_copy.data.toList.drop 45 = dktX4_copy_2 := dk_seg dksX4_copy_1 21 rfl rfl
theorem dksX4_copy_3 : cX4_copy.data.toList.drop 65 = dktX4_copy_3 := dk_seg dksX4_copy_2 20 rfl rfl
theorem dksX4_copy_4 : cX4_copy.data.toList.drop 88 = dktX4_copy_4 := dk_seg dksX4_copy_3 23 rfl rfl
theorem dksX4_copy_5 : cX4_copy.data.toList.drop 110 = dktX4_copy_5 := dk_seg dksX4_copy_4 22 rfl rfl
theorem dX4_copy_0 : decode cX4_copy 0 = .ok (.new 15, 3) := dk_187 0 15 (dk_at dksX4_copy_0 0 rfl rfl)
theorem dX4_copy_3 : decode cX4_copy 3 = .ok (.dup, 1) := dk_89 (dk_at dksX4_copy_0 3 rfl rfl)
theorem dX4_copy_4 : decode cX4_copy 4 = .ok (.invokespecial 30, 3) := dk_183 0 30 (dk_at dksX4_copy_0 4 rfl rfl)
theorem dX4_copy_7 : decode cX4_copy 7 = .ok (.astore_n 1, 1) := dk_76 (dk_at dksX4_copy_0 7 rfl rfl)
theorem dX4_copy_8 : decode cX4_copy 8 = .ok (.aload_n 0, 1) := dk_42 (dk_at dksX4_copy_0 8 rfl rfl)
theorem dX4_copy_9 : decode cX4_copy 9 = .ok (.getfield 14, 3) := dk_180 0 14 (dk_at dksX4_copy_0 9 rfl rfl)
theorem dX4_copy_12 : decode cX4_copy 12 = .ok (.invokeinterface 31 1, 5) := by decide +kernel
theorem dX4_copy_17 : decode cX4_copy 17 = .ok (.astore_n 2, 1) := dk_77 (dk_at dksX4_copy_0 17 rfl rfl)
theorem dX4_copy_18 : decode cX4_copy 18 = .ok (.aload_n 2, 1) := dk_44 (dk_at dksX4_copy_0 18 rfl rfl)
theorem dX4_copy_19 : decode cX4_copy 19 = .ok (.invokeinterface 37 1, 5) := by decide +kernel
theorem dX4_copy_24 : decode cX4_copy 24 = .ok (.ifCond .eq 30, 3) := dk_153 0 30 (dk_at dksX4_copy_1 0 rfl rfl)
theorem dX4_copy_27 : decode cX4_copy 27 = .ok (.aload_n 2, 1) := dk_44 (dk_at dksX4_copy_1 3 rfl rfl)
theorem dX4_copy_28 : decode cX4_copy 28 = .ok (.invokeinterface 43 1, 5) := by decide +kernel
theorem dX4_copy_33 : decode cX4_copy 33 = .ok (.checkcast 47, 3) := dk_192 0 47 (dk_at dksX4_copy_1 9 rfl rfl)
theorem dX4_copy_36 : decode cX4_copy 36 = .ok (.astore_n 3, 1) := dk_78 (dk_at dksX4_copy_1 12 rfl rfl)
theorem dX4_copy_37 : decode cX4_copy 37 = .ok (.aload_n 1, 1) := dk_43 (dk_at dksX4_copy_1 13 rfl rfl)
theorem dX4_copy_38 : decode cX4_copy 38 = .ok (.getfield 14, 3) := dk_180 0 14 (dk_at dksX4_copy_1 14 rfl rfl)
theorem dX4_copy_41 : decode cX4_copy 41 = .ok (.aload_n 3, 1) := dk_45 (dk_at dksX4_copy_1 17 rfl rfl)
theorem dX4_copy_42 : decode cX4_copy 42 = .ok (.invokevirtual 49, 3) := dk_182 0 49 (dk_at dksX4_copy_1 18 rfl rfl)
theorem dX4_copy_45 : decode cX4_copy 45 = .ok (.invokeinterface 53 2, 5) := by decide +kernel
theorem dX4_copy_50 : decode cX4_copy 50 = .ok (.pop, 1) := dk_87 (dk_at dksX4_copy_2 5 rfl rfl)
theorem dX4_copy_51 : decode cX4_copy 51 = .ok (.goto (-33), 3) := dk_167 255 223 (dk_at dksX4_copy_2 6 rfl rfl)
theorem dX4_copy_54 : decode cX4_copy 54 = .ok (.aload_n 0, 1) := dk_42 (dk_at dksX4_copy_2 9 rfl rfl)
theorem dX4_copy_55 : decode cX4_copy 55 = .ok (.getfield 20, 3) := dk_180 0 20 (dk_at dksX4_copy_2 10 rfl rfl)
theorem dX4_copy_58 : decode cX4_copy 58 = .ok (.invokeinterface 31 1, 5) := by decide +kernel
theorem dX4_copy_63 : decode cX4_copy 63 = .ok (.astore_n 2, 1) := dk_77 (dk_at dksX4_copy_2 18 rfl rfl)
theorem dX4_copy_64 : decode cX4_copy 64 = .ok (.aload_n 2, 1) := dk_44 (dk_at dksX4_copy_2 19 rfl rfl)
theorem dX4_copy_65 : decode cX4_copy 65 = .ok (.invokeinterface 37 1, 5) := by decide +kernel
theorem dX4_copy_70 : decode cX4_copy 70 = .ok (.ifCond .eq 30, 3) := dk_153 0 30 (dk_at dksX4_copy_3 5 rfl rfl)
theorem dX4_copy_73 : decode cX4_copy 73 = .ok (.aload_n 2, 1) := dk_44 (dk_at dksX4_copy_3 8 rfl rfl)
theorem dX4_copy_74 : decode cX4_copy 74 = .ok (.invokeinterface 43 1, 5) := by decide +kernel
theorem dX4_copy_79 : decode cX4_copy 79 = .ok (.checkcast 57, 3) := dk_192 0 57 (dk_at dksX4_copy_3 14 rfl rfl)
theorem dX4_copy_82 : decode cX4_copy 82 = .ok (.astore_n 3, 1) := dk_78 (dk_at dksX4_copy_3 17 rfl rfl)
theorem dX4_copy_83 : decode cX4_copy 83 = .ok (.aload_n 1, 1) := dk_43 (dk_at dksX4_copy_3 18 rfl rfl)
theorem dX4_copy_84 : decode cX4_copy 84 = .ok (.getfield 20, 3) := dk_180 0 20 (dk_at dksX4_copy_3 19 rfl rfl)
theorem dX4_copy_87 : decode cX4_copy 87 = .ok (.aload_n 3, 1) := dk_45 (dk_at dksX4_copy_3 22 rfl rfl)
theorem dX4_copy_88 : decode cX4_copy 88 = .ok (.invokevirtual 59, 3) := dk_182 0 59 (dk_at dksX4_copy_4 0 rfl rfl)
theorem dX4_copy_91 : decode cX4_copy 91 = .ok (.invokeinterface 53 2, 5) := by decide +kernel
theorem dX4_copy_96 : decode cX4_copy 96 = .ok (.pop, 1) := dk_87 (dk_at dksX4_copy_4 8 rfl rfl)
theorem dX4_copy_97 : decode cX4_copy 97 = .ok (.goto (-33), 3) := dk_167 255 223 (dk_at dksX4_copy_4 9 rfl rfl)
theorem dX4_copy_100 : decode cX4_copy 100 = .ok (.aload_n 1, 1) := dk_43 (dk_at dksX4_copy_4 12 rfl rfl)
theorem dX4_copy_101 : decode cX4_copy 101 = .ok (.aload_n 0, 1) := dk_42 (dk_at dksX4_copy_4 13 rfl rfl)
theorem dX4_copy_102 : decode cX4_copy 102 = .ok (.getfield 23, 3) := dk_180 0 23 (dk_at dksX4_copy_4 14 rfl rfl)
theorem dX4_copy_105 : decode cX4_copy 105 = .ok (.putfield 23, 3) := dk_181 0 23 (dk_at dksX4_copy_4 17 rfl rfl)
theorem dX4_copy_108 : decode cX4_copy 108 = .ok (.aload_n 1, 1) := dk_43 (dk_at dksX4_copy_4 20 rfl rfl)
theorem dX4_copy_109 : decode cX4_copy 109 = .ok (.aload_n 0, 1) := dk_42 (dk_at dksX4_copy_4 21 rfl rfl)
theorem dX4_copy_110 : decode cX4_copy 110 = .ok (.getfield 27, 3) := dk_180 0 27 (dk_at dksX4_copy_5 0 rfl rfl)
theorem dX4_copy_113 : decode cX4_copy 113 = .ok (.putfield 27, 3) := dk_181 0 27 (dk_at dksX4_copy_5 3 rfl rfl)
theorem dX4_copy_116 : decode cX4_copy 116 = .ok (.aload_n 1, 1) := dk_43 (dk_at dksX4_copy_5 6 rfl rfl)
theorem dX4_copy_117 : decode cX4_copy 117 = .ok (.areturn, 1) := dk_176 (dk_at dksX4_copy_5 7 rfl rfl)
theorem md_X4_copy : xMd yX4_copy cX4_copy 4 (Option.some (Jvm.ClassFile.FieldType.object "ForestLegs$Meet")) 0 := ⟨q2717, q128, by decide, by decide +kernel, by decide +kernel, by decide +kernel⟩
def f_X4_copy_64F (a0 : Nat)  (k64 : Nat × Option Nat × PH → Option (xO × PH)) (p : Nat × Option Nat × PH) : Option (xO × PH) := match p with
  | (v1, v2, p0) => (xnul v2 none fun b18 =>
  (xsw p0 b18 fun c20 =>
  (if c20 = 20 then
  (xcI (f_J26_hasNext p0 b18 ) fun x23 p22 =>
  (if x23 = 0 then
  (xgI p22 a0 3 2 fun x24 =>
  (xpF p22 v1 3 2 (.int x24) fun p25 =>
  (xgI p25 a0 3 3 fun x26 =>
  (xpF p25 v1 3 3 (.int x26) fun p27 =>
  (rR (some v1) p27))))) else
  (xsw p22 b18 fun c29 =>
  (if c29 = 20 then
  (xcR (f_J26_next p22 b18 ) fun x32 p31 =>
  (xcst p31 (x32) [6]
  (xgR p31 v1 3 1 fun x33 =>
  (xnul x32 none fun b34 =>
  (xcR (f_X7_copy p31 b34 ) fun x36 p35 =>
  (xnul x33 none fun b37 =>
  (xcI (f_J3_add p35 b37 x36) fun x39 p38 =>
  (k64 (v1, ((some b18)), p38))))))))) else
  (if c29 = 25 then
  (xcR (f_J37_next p22 b18 ) fun x41 p40 =>
  (xcst p40 (x41) [6]
  (xgR p40 v1 3 1 fun x42 =>
  (xnul x41 none fun b43 =>
  (xcR (f_X7_copy p40 b43 ) fun x45 p44 =>
  (xnul x42 none fun b46 =>
  (xcI (f_J3_add p44 b46 x45) fun x48 p47 =>
  (k64 (v1, ((some b18)), p47))))))))) else
  none))))) else
  (if c20 = 25 then
  (xcI (f_J36_hasNext p0 b18 ) fun x50 p49 =>
  (if x50 = 0 then
  (xgI p49 a0 3 2 fun x51 =>
  (xpF p49 v1 3 2 (.int x51) fun p52 =>
  (xgI p52 a0 3 3 fun x53 =>
  (xpF p52 v1 3 3 (.int x53) fun p54 =>
  (rR (some v1) p54))))) else
  (xsw p49 b18 fun c56 =>
  (if c56 = 20 then
  (xcR (f_J26_next p49 b18 ) fun x59 p58 =>
  (xcst p58 (x59) [6]
  (xgR p58 v1 3 1 fun x60 =>
  (xnul x59 none fun b61 =>
  (xcR (f_X7_copy p58 b61 ) fun x63 p62 =>
  (xnul x60 none fun b64 =>
  (xcI (f_J3_add p62 b64 x63) fun x66 p65 =>
  (k64 (v1, ((some b18)), p65))))))))) else
  (if c56 = 25 then
  (xcR (f_J37_next p49 b18 ) fun x68 p67 =>
  (xcst p67 (x68) [6]
  (xgR p67 v1 3 1 fun x69 =>
  (xnul x68 none fun b70 =>
  (xcR (f_X7_copy p67 b70 ) fun x72 p71 =>
  (xnul x69 none fun b73 =>
  (xcI (f_J3_add p71 b73 x72) fun x75 p74 =>
  (k64 (v1, ((some b18)), p74))))))))) else
  none))))) else
  none))))
def f_X4_copy_18F (a0 : Nat)  (k18 : Nat × Option Nat × PH → Option (xO × PH)) (p : Nat × Option Nat × PH) : Option (xO × PH) := match p with
  | (v1, v2, p0) => (xnul v2 none fun b8 =>
  (xsw p0 b8 fun c10 =>
  (if c10 = 20 then
  (xcI (f_J26_hasNext p0 b8 ) fun x13 p12 =>
  (if x13 = 0 then
  (xgR p12 a0 3 1 fun x14 =>
  (xnul x14 none fun b15 =>
  (xcR (f_J3_iterator p12 b15 ) fun x17 p16 =>
  (lp (f_X4_copy_64F a0) FU (v1, x17, p16))))) else
  (xsw p12 b8 fun c77 =>
  (if c77 = 20 then
  (xcR (f_J26_next p12 b8 ) fun x80 p79 =>
  (xcst p79 (x80) [5]
  (xgR p79 v1 3 0 fun x81 =>
  (xnul x80 none fun b82 =>
  (xcR (f_X6_copy p79 b82 ) fun x84 p83 =>
  (xnul x81 none fun b85 =>
  (xcI (f_J3_add p83 b85 x84) fun x87 p86 =>
  (k18 (v1, ((some b8)), p86))))))))) else
  (if c77 = 25 then
  (xcR (f_J37_next p12 b8 ) fun x89 p88 =>
  (xcst p88 (x89) [5]
  (xgR p88 v1 3 0 fun x90 =>
  (xnul x89 none fun b91 =>
  (xcR (f_X6_copy p88 b91 ) fun x93 p92 =>
  (xnul x90 none fun b94 =>
  (xcI (f_J3_add p92 b94 x93) fun x96 p95 =>
  (k18 (v1, ((some b8)), p95))))))))) else
  none))))) else
  (if c10 = 25 then
  (xcI (f_J36_hasNext p0 b8 ) fun x98 p97 =>
  (if x98 = 0 then
  (xgR p97 a0 3 1 fun x99 =>
  (xnul x99 none fun b100 =>
  (xcR (f_J3_iterator p97 b100 ) fun x102 p101 =>
  (lp (f_X4_copy_64F a0) FU (v1, x102, p101))))) else
  (xsw p97 b8 fun c104 =>
  (if c104 = 20 then
  (xcR (f_J26_next p97 b8 ) fun x107 p106 =>
  (xcst p106 (x107) [5]
  (xgR p106 v1 3 0 fun x108 =>
  (xnul x107 none fun b109 =>
  (xcR (f_X6_copy p106 b109 ) fun x111 p110 =>
  (xnul x108 none fun b112 =>
  (xcI (f_J3_add p110 b112 x111) fun x114 p113 =>
  (k18 (v1, ((some b8)), p113))))))))) else
  (if c104 = 25 then
  (xcR (f_J37_next p97 b8 ) fun x116 p115 =>
  (xcst p115 (x116) [5]
  (xgR p115 v1 3 0 fun x117 =>
  (xnul x116 none fun b118 =>
  (xcR (f_X6_copy p115 b118 ) fun x120 p119 =>
  (xnul x117 none fun b121 =>
  (xcI (f_J3_add p119 b121 x120) fun x123 p122 =>
  (k18 (v1, ((some b8)), p122))))))))) else
  none))))) else
  none))))
def f_X4_copy (p0 : PH) (a0 : Nat) : Option (xO × PH) :=
  (xcl1 p0 a0 3 (xnew p0 3 [.null, .null, .int 0, .int 0, .null] fun b1 p2 =>
  (xcV (f_X4_init p2 b1 ) fun p3 =>
  (xgR p3 a0 3 0 fun x4 =>
  (xnul x4 none fun b5 =>
  (xcR (f_J3_iterator p3 b5 ) fun x7 p6 =>
  (lp (f_X4_copy_18F a0) FU (b1, x7, p6))))))))
theorem rc_X4_copy {p0 : PH} {a0 : Nat} : ∀ z, f_X4_copy p0 a0 = some z → xco p0 a0 = some 3 := fun z h => xcl1_some h
theorem f_X4_copy_64F_ok {G : xG} (hO : xOK G) (a0 : Nat)  {k64 : Nat × Option Nat × PH → Option (xO × PH)} (hk64 : ∀ (v1 : Nat) (v2 : Option Nat) (p0 : PH), X G "ForestLegs$Meet" "copy" cX4_copy 4 (Option.some (Jvm.ClassFile.FieldType.object "ForestLegs$Meet")) 7 64 [(0, .ref a0), (1, .ref v1), (2, va_rf v2)] [] p0 (k64 (v1, v2, p0))) (v1 : Nat) (v2 : Option Nat) (p0 : PH) : X G "ForestLegs$Meet" "copy" cX4_copy 4 (Option.some (Jvm.ClassFile.FieldType.object "ForestLegs$Meet")) 7 64 [(0, .ref a0), (1, .ref v1), (2, va_rf v2)] [] p0 (f_X4_copy_64F a0 k64 (v1, v2, p0)) := by
  unfold f_X4_copy_64F
  refine x_aload_n 2 dX4_copy_64 rfl rfl (n := 65) rfl ?_
  refine x_sm (fun b18 e => ?_)
  subst e
  refine x_sw (fun c20 e => ?_)
  refine x_ite (fun h => ?_) (fun _ => ?_)
  · subst h
    refine x_callF_I [] [] (f_J26_hasNext_ok hO p0 b18 ) rc_J26_hasNext md_J26_hasNext rfl q2317 fc_java_util_ArrayList_Itr_java_util_Iterator_hasNext_0_Z dX4_copy_65 rfl rfl (by decide) (Nat.le_of_ble_eq_true rfl) (n := 70) rfl (fun x23 p22 => ?_)
    refine x_if_eq dX4_copy_70 (t := 100) (by decide) (n := 73) rfl (fun _ => ?_) (fun _ => ?_)
    · refine x_aload_nr 1 dX4_copy_100 rfl rfl (n := 101) rfl ?_
      refine x_aload_nr 0 dX4_copy_101 rfl rfl (n := 102) rfl ?_
      refine x_getI fl_X4_23 dX4_copy_102 (n := 105) rfl (fun x24 => ?_)
      refine x_pF (pl_X4_23 _ _ ⟨rfl, rfl⟩) dX4_copy_105 (n := 108) rfl (fun p25 => ?_)
      refine x_aload_nr 1 dX4_copy_108 rfl rfl (n := 109) rfl ?_
      refine x_aload_nr 0 dX4_copy_109 rfl rfl (n := 110) rfl ?_
      refine x_getI fl_X4_27 dX4_copy_110 (n := 113) rfl (fun x26 => ?_)
      refine x_pF (pl_X4_27 _ _ ⟨rfl, rfl⟩) dX4_copy_113 (n := 116) rfl (fun p27 => ?_)
      refine x_aload_nr 1 dX4_copy_116 rfl rfl (n := 117) rfl ?_
      exact x_areturn (x := some v1) (Or.inl ⟨_, rfl⟩) dX4_copy_117
    · refine x_aload_nr 2 dX4_copy_73 rfl rfl (n := 74) rfl ?_
      refine x_sw (fun c29 e => ?_)
      refine x_ite (fun h => ?_) (fun _ => ?_)
      · subst h
        refine x_callF_R [] [] (f_J26_next_ok hO p22 b18 ) rc_J26_next md_J26_next rfl q2319 fc_java_util_ArrayList_Itr_java_util_Iterator_next_0_Ljaval dX4_copy_74 rfl rfl (by decide) (Nat.le_of_ble_eq_true rfl) (n := 79) rfl (fun x32 p31 => ?_)
        refine x_cast (x := x32) (cs := [6]) q1512 cst_ForestLegs_Runner dX4_copy_79 (n := 82) rfl ?_
        refine x_astore_n [(3, va_rf x32), (0, .ref a0), (1, .ref v1), (2, .ref b18)] dX4_copy_82 rfl (by decide) rfl (n := 83) rfl ?_
        refine x_aload_nr 2 dX4_copy_83 rfl rfl (n := 84) rfl ?_
        refine x_getR fl_X4_20 dX4_copy_84 (n := 87) rfl (fun x33 => ?_)
        refine x_aload_n 0 dX4_copy_87 rfl rfl (n := 88) rfl ?_
        refine x_sm (fun b34 e => ?_)
        subst e
        refine x_callV_R [] [va_rf x33] (f_X7_copy_ok hO p31 b34 ) rc_X7_copy md_X7_copy rfl q2788 q2789 q2790 dX4_copy_88 rfl rfl (by decide) (by simp only [List.map, xcat]; exact Nat.le_of_ble_eq_true rfl) (n := 91) rfl (fun x36 p35 => ?_)
        refine x_sm (fun b37 e => ?_)
        subst e
        refine x_callF_I [va_rf x36] [] (f_J3_add_ok hO p35 b37 x36) rc_J3_add md_J3_add rfl q2323 fc_java_util_ArrayList_java_util_List_add_1_Ljaval dX4_copy_91 rfl rfl (by decide) (Nat.le_of_ble_eq_true rfl) (n := 96) rfl (fun x39 p38 => ?_)
        refine x_pop dX4_copy_96 rfl (n := 97) rfl ?_
        refine x_goto dX4_copy_97 (n := 64) (by decide) ?_
        refine x_sub [1, 2, 3] [(0, .ref a0), (1, .ref v1), (2, .ref b18)] rfl ?_
        exact hk64 v1 ((some b18)) p38
      refine x_ite (fun h => ?_) (fun _ => ?_)
      · subst h
        refine x_callF_R [] [] (f_J37_next_ok hO p22 b18 ) rc_J37_next md_J37_next rfl q2319 fc_java_util_TreeMap_KeyIterator_java_util_Iterator_next_0_Ljaval dX4_copy_74 rfl rfl (by decide) (Nat.le_of_ble_eq_true rfl) (n := 79) rfl (fun x41 p40 => ?_)
        refine x_cast (x := x41) (cs := [6]) q1512 cst_ForestLegs_Runner dX4_copy_79 (n := 82) rfl ?_
        refine x_astore_n [(3, va_rf x41), (0, .ref a0), (1, .ref v1), (2, .ref b18)] dX4_copy_82 rfl (by decide) rfl (n := 83) rfl ?_
        refine x_aload_nr 2 dX4_copy_83 rfl rfl (n := 84) rfl ?_
        refine x_getR fl_X4_20 dX4_copy_84 (n := 87) rfl (fun x42 => ?_)
        refine x_aload_n 0 dX4_copy_87 rfl rfl (n := 88) rfl ?_
        refine x_sm (fun b43 e => ?_)
        subst e
        refine x_callV_R [] [va_rf x42] (f_X7_copy_ok hO p40 b43 ) rc_X7_copy md_X7_copy rfl q2788 q2789 q2790 dX4_copy_88 rfl rfl (by decide) (by simp only [List.map, xcat]; exact Nat.le_of_ble_eq_true rfl) (n := 91) rfl (fun x45 p44 => ?_)
        refine x_sm (fun b46 e => ?_)
        subst e
        refine x_callF_I [va_rf x45] [] (f_J3_add_ok hO p44 b46 x45) rc_J3_add md_J3_add rfl q2323 fc_java_util_ArrayList_java_util_List_add_1_Ljaval dX4_copy_91 rfl rfl (by decide) (Nat.le_of_ble_eq_true rfl) (n := 96) rfl (fun x48 p47 => ?_)
        refine x_pop dX4_copy_96 rfl (n := 97) rfl ?_
        refine x_goto dX4_copy_97 (n := 64) (by decide) ?_
        refine x_sub [1, 2, 3] [(0, .ref a0), (1, .ref v1), (2, .ref b18)] rfl ?_
        exact hk64 v1 ((some b18)) p47
      exact x_no
  refine x_ite (fun h => ?_) (fun _ => ?_)
  · subst h
    refine x_callF_I [] [] (f_J36_hasNext_ok hO p0 b18 ) rc_J36_hasNext md_J36_hasNext rfl q2317 fc_java_util_TreeMap_KeyIterator_java_util_Iterator_hasNext_0_Z dX4_copy_65 rfl rfl (by decide) (Nat.le_of_ble_eq_true rfl) (n := 70) rfl (fun x50 p49 => ?_)
    refine x_if_eq dX4_copy_70 (t := 100) (by decide) (n := 73) rfl (fun _ => ?_) (fun _ => ?_)
    · refine x_aload_nr 1 dX4_copy_100 rfl rfl (n := 101) rfl ?_
      refine x_aload_nr 0 dX4_copy_101 rfl rfl (n := 102) rfl ?_
      refine x_getI fl_X4_23 dX4_copy_102 (n := 105) rfl (fun x51 => ?_)
      refine x_pF (pl_X4_23 _ _ ⟨rfl, rfl⟩) dX4_copy_105 (n := 108) rfl (fun p52 => ?_)
      refine x_aload_nr 1 dX4_copy_108 rfl rfl (n := 109) rfl ?_
      refine x_aload_nr 0 dX4_copy_109 rfl rfl (n := 110) rfl ?_
      refine x_getI fl_X4_27 dX4_copy_110 (n := 113) rfl (fun x53 => ?_)
      refine x_pF (pl_X4_27 _ _ ⟨rfl, rfl⟩) dX4_copy_113 (n := 116) rfl (fun p54 => ?_)
      refine x_aload_nr 1 dX4_copy_116 rfl rfl (n := 117) rfl ?_
      exact x_areturn (x := some v1) (Or.inl ⟨_, rfl⟩) dX4_copy_117
    · refine x_aload_nr 2 dX4_copy_73 rfl rfl (n := 74) rfl ?_
      refine x_sw (fun c56 e => ?_)
      refine x_ite (fun h => ?_) (fun _ => ?_)
      · subst h
        refine x_callF_R [] [] (f_J26_next_ok hO p49 b18 ) rc_J26_next md_J26_next rfl q2319 fc_java_util_ArrayList_Itr_java_util_Iterator_next_0_Ljaval dX4_copy_74 rfl rfl (by decide) (Nat.le_of_ble_eq_true rfl) (n := 79) rfl (fun x59 p58 => ?_)
        refine x_cast (x := x59) (cs := [6]) q1512 cst_ForestLegs_Runner dX4_copy_79 (n := 82) rfl ?_
        refine x_astore_n [(3, va_rf x59), (0, .ref a0), (1, .ref v1), (2, .ref b18)] dX4_copy_82 rfl (by decide) rfl (n := 83) rfl ?_
        refine x_aload_nr 2 dX4_copy_83 rfl rfl (n := 84) rfl ?_
        refine x_getR fl_X4_20 dX4_copy_84 (n := 87) rfl (fun x60 => ?_)
        refine x_aload_n 0 dX4_copy_87 rfl rfl (n := 88) rfl ?_
        refine x_sm (fun b61 e => ?_)
        subst e
        refine x_callV_R [] [va_rf x60] (f_X7_copy_ok hO p58 b61 ) rc_X7_copy md_X7_copy rfl q2788 q2789 q2790 dX4_copy_88 rfl rfl (by decide) (by simp only [List.map, xcat]; exact Nat.le_of_ble_eq_true rfl) (n := 91) rfl (fun x63 p62 => ?_)
        refine x_sm (fun b64 e => ?_)
        subst e
        refine x_callF_I [va_rf x63] [] (f_J3_add_ok hO p62 b64 x63) rc_J3_add md_J3_add rfl q2323 fc_java_util_ArrayList_java_util_List_add_1_Ljaval dX4_copy_91 rfl rfl (by decide) (Nat.le_of_ble_eq_true rfl) (n := 96) rfl (fun x66 p65 => ?_)
        refine x_pop dX4_copy_96 rfl (n := 97) rfl ?_
        refine x_goto dX4_copy_97 (n := 64) (by decide) ?_
        refine x_sub [1, 2, 3] [(0, .ref a0), (1, .ref v1), (2, .ref b18)] rfl ?_
        exact hk64 v1 ((some b18)) p65
      refine x_ite (fun h => ?_) (fun _ => ?_)
      · subst h
        refine x_callF_R [] [] (f_J37_next_ok hO p49 b18 ) rc_J37_next md_J37_next rfl q2319 fc_java_util_TreeMap_KeyIterator_java_util_Iterator_next_0_Ljaval dX4_copy_74 rfl rfl (by decide) (Nat.le_of_ble_eq_true rfl) (n := 79) rfl (fun x68 p67 => ?_)
        refine x_cast (x := x68) (cs := [6]) q1512 cst_ForestLegs_Runner dX4_copy_79 (n := 82) rfl ?_
        refine x_astore_n [(3, va_rf x68), (0, .ref a0), (1, .ref v1), (2, .ref b18)] dX4_copy_82 rfl (by decide) rfl (n := 83) rfl ?_
        refine x_aload_nr 2 dX4_copy_83 rfl rfl (n := 84) rfl ?_
        refine x_getR fl_X4_20 dX4_copy_84 (n := 87) rfl (fun x69 => ?_)
        refine x_aload_n 0 dX4_copy_87 rfl rfl (n := 88) rfl ?_
        refine x_sm (fun b70 e => ?_)
        subst e
        refine x_callV_R [] [va_rf x69] (f_X7_copy_ok hO p67 b70 ) rc_X7_copy md_X7_copy rfl q2788 q2789 q2790 dX4_copy_88 rfl rfl (by decide) (by simp only [List.map, xcat]; exact Nat.le_of_ble_eq_true rfl) (n := 91) rfl (fun x72 p71 => ?_)
        refine x_sm (fun b73 e => ?_)
        subst e
        refine x_callF_I [va_rf x72] [] (f_J3_add_ok hO p71 b73 x72) rc_J3_add md_J3_add rfl q2323 fc_java_util_ArrayList_java_util_List_add_1_Ljaval dX4_copy_91 rfl rfl (by decide) (Nat.le_of_ble_eq_true rfl) (n := 96) rfl (fun x75 p74 => ?_)
        refine x_pop dX4_copy_96 rfl (n := 97) rfl ?_
        refine x_goto dX4_copy_97 (n := 64) (by decide) ?_
        refine x_sub [1, 2, 3] [(0, .ref a0), (1, .ref v1), (2, .ref b18)] rfl ?_
        exact hk64 v1 ((some b18)) p74
      exact x_no
  exact x_no
theorem f_X4_copy_64_lp {G : xG} (hO : xOK G) (a0 : Nat)  (n : Nat) (v1 : Nat) (v2 : Option Nat) (p0 : PH) : X G "ForestLegs$Meet" "copy" cX4_copy 4 (Option.some (Jvm.ClassFile.FieldType.object "ForestLegs$Meet")) 7 64 [(0, .ref a0), (1, .ref v1), (2, va_rf v2)] [] p0 (lp (f_X4_copy_64F a0) n (v1, v2, p0)) :=
  lp_ok (W := fun p K => X G "ForestLegs$Meet" "copy" cX4_copy 4 (Option.some (Jvm.ClassFile.FieldType.object "ForestLegs$Meet")) 7 64 [(0, .ref a0), (1, .ref p.1), (2, va_rf p.2.1)] [] p.2.2 K) (fun _ => x_no) (fun k hk => fun (v1, v2, p0) => f_X4_copy_64F_ok hO a0 (fun v1 v2 p0 => hk (v1, v2, p0)) v1 v2 p0) n (v1, v2, p0)
theorem f_X4_copy_18F_ok {G : xG} (hO : xOK G) (a0 : Nat)  {k18 : Nat × Option Nat × PH → Option (xO × PH)} (hk18 : ∀ (v1 : Nat) (v2 : Option Nat) (p0 : PH), X G "ForestLegs$Meet" "copy" cX4_copy 4 (Option.some (Jvm.ClassFile.FieldType.object "ForestLegs$Meet")) 7 18 [(0, .ref a0), (1, .ref v1), (2, va_rf v2)] [] p0 (k18 (v1, v2, p0))) (v1 : Nat) (v2 : Option Nat) (p0 : PH) : X G "ForestLegs$Meet" "copy" cX4_copy 4 (Option.some (Jvm.ClassFile.FieldType.object "ForestLegs$Meet")) 7 18 [(0, .ref a0), (1, .ref v1), (2, va_rf v2)] [] p0 (f_X4_copy_18F a0 k18 (v1, v2, p0)) := by
  unfold f_X4_copy_18F
  refine x_aload_n 2 dX4_copy_18 rfl rfl (n := 19) rfl ?_
  refine x_sm (fun b8 e => ?_)
  subst e
  refine x_sw (fun c10 e => ?_)
  refine x_ite (fun h => ?_) (fun _ => ?_)
  · subst h
    refine x_callF_I [] [] (f_J26_hasNext_ok hO p0 b8 ) rc_J26_hasNext md_J26_hasNext rfl q2317 fc_java_util_ArrayList_Itr_java_util_Iterator_hasNext_0_Z dX4_copy_19 rfl rfl (by decide) (Nat.le_of_ble_eq_true rfl) (n := 24) rfl (fun x13 p12 => ?_)
    refine x_if_eq dX4_copy_24 (t := 54) (by decide) (n := 27) rfl (fun _ => ?_) (fun _ => ?_)
    · refine x_aload_nr 0 dX4_copy_54 rfl rfl (n := 55) rfl ?_
      refine x_getR fl_X4_20 dX4_copy_55 (n := 58) rfl (fun x14 => ?_)
      refine x_sm (fun b15 e => ?_)
      subst e
      refine x_callF_R [] [] (f_J3_iterator_ok hO p12 b15 ) rc_J3_iterator md_J3_iterator rfl q2721 fc_java_util_ArrayList_java_util_List_iterator_0_Ljavau dX4_copy_58 rfl rfl (by decide) (Nat.le_of_ble_eq_true rfl) (n := 63) rfl (fun x17 p16 => ?_)
      refine x_astore_n [(2, va_rf x17), (0, .ref a0), (1, .ref v1)] dX4_copy_63 rfl (by decide) rfl (n := 64) rfl ?_
      refine x_sub [1, 2, 0] [(0, .ref a0), (1, .ref v1), (2, va_rf x17)] rfl ?_
      exact f_X4_copy_64_lp hO a0 FU v1 x17 p16
    · refine x_aload_nr 2 dX4_copy_27 rfl rfl (n := 28) rfl ?_
      refine x_sw (fun c77 e => ?_)
      refine x_ite (fun h => ?_) (fun _ => ?_)
      · subst h
        refine x_callF_R [] [] (f_J26_next_ok hO p12 b8 ) rc_J26_next md_J26_next rfl q2319 fc_java_util_ArrayList_Itr_java_util_Iterator_next_0_Ljaval dX4_copy_28 rfl rfl (by decide) (Nat.le_of_ble_eq_true rfl) (n := 33) rfl (fun x80 p79 => ?_)
        refine x_cast (x := x80) (cs := [5]) q1513 cst_ForestLegs_Course dX4_copy_33 (n := 36) rfl ?_
        refine x_astore_n [(3, va_rf x80), (0, .ref a0), (1, .ref v1), (2, .ref b8)] dX4_copy_36 rfl (by decide) rfl (n := 37) rfl ?_
        refine x_aload_nr 2 dX4_copy_37 rfl rfl (n := 38) rfl ?_
        refine x_getR fl_X4_14 dX4_copy_38 (n := 41) rfl (fun x81 => ?_)
        refine x_aload_n 0 dX4_copy_41 rfl rfl (n := 42) rfl ?_
        refine x_sm (fun b82 e => ?_)
        subst e
        refine x_callV_R [] [va_rf x81] (f_X6_copy_ok hO p79 b82 ) rc_X6_copy md_X6_copy rfl q2722 q2723 q2724 dX4_copy_42 rfl rfl (by decide) (by simp only [List.map, xcat]; exact Nat.le_of_ble_eq_true rfl) (n := 45) rfl (fun x84 p83 => ?_)
        refine x_sm (fun b85 e => ?_)
        subst e
        refine x_callF_I [va_rf x84] [] (f_J3_add_ok hO p83 b85 x84) rc_J3_add md_J3_add rfl q2323 fc_java_util_ArrayList_java_util_List_add_1_Ljaval dX4_copy_45 rfl rfl (by decide) (Nat.le_of_ble_eq_true rfl) (n := 50) rfl (fun x87 p86 => ?_)
        refine x_pop dX4_copy_50 rfl (n := 51) rfl ?_
        refine x_goto dX4_copy_51 (n := 18) (by decide) ?_
        refine x_sub [1, 2, 3] [(0, .ref a0), (1, .ref v1), (2, .ref b8)] rfl ?_
        exact hk18 v1 ((some b8)) p86
      refine x_ite (fun h => ?_) (fun _ => ?_)
      · subst h
        refine x_callF_R [] [] (f_J37_next_ok hO p12 b8 ) rc_J37_next md_J37_next rfl q2319 fc_java_util_TreeMap_KeyIterator_java_util_Iterator_next_0_Ljaval dX4_copy_28 rfl rfl (by decide) (Nat.le_of_ble_eq_true rfl) (n := 33) rfl (fun x89 p88 => ?_)
        refine x_cast (x := x89) (cs := [5]) q1513 cst_ForestLegs_Course dX4_copy_33 (n := 36) rfl ?_
        refine x_astore_n [(3, va_rf x89), (0, .ref a0), (1, .ref v1), (2, .ref b8)] dX4_copy_36 rfl (by decide) rfl (n := 37) rfl ?_
        refine x_aload_nr 2 dX4_copy_37 rfl rfl (n := 38) rfl ?_
        refine x_getR fl_X4_14 dX4_copy_38 (n := 41) rfl (fun x90 => ?_)
        refine x_aload_n 0 dX4_copy_41 rfl rfl (n := 42) rfl ?_
        refine x_sm (fun b91 e => ?_)
        subst e
        refine x_callV_R [] [va_rf x90] (f_X6_copy_ok hO p88 b91 ) rc_X6_copy md_X6_copy rfl q2722 q2723 q2724 dX4_copy_42 rfl rfl (by decide) (by simp only [List.map, xcat]; exact Nat.le_of_ble_eq_true rfl) (n := 45) rfl (fun x93 p92 => ?_)
        refine x_sm (fun b94 e => ?_)
        subst e
        refine x_callF_I [va_rf x93] [] (f_J3_add_ok hO p92 b94 x93) rc_J3_add md_J3_add rfl q2323 fc_java_util_ArrayList_java_util_List_add_1_Ljaval dX4_copy_45 rfl rfl (by decide) (Nat.le_of_ble_eq_true rfl) (n := 50) rfl (fun x96 p95 => ?_)
        refine x_pop dX4_copy_50 rfl (n := 51) rfl ?_
        refine x_goto dX4_copy_51 (n := 18) (by decide) ?_
        refine x_sub [1, 2, 3] [(0, .ref a0), (1, .ref v1), (2, .ref b8)] rfl ?_
        exact hk18 v1 ((some b8)) p95
      exact x_no
  refine x_ite (fun h => ?_) (fun _ => ?_)
  · subst h
    refine x_callF_I [] [] (f_J36_hasNext_ok hO p0 b8 ) rc_J36_hasNext md_J36_hasNext rfl q2317 fc_java_util_TreeMap_KeyIterator_java_util_Iterator_hasNext_0_Z dX4_copy_19 rfl rfl (by decide) (Nat.le_of_ble_eq_true rfl) (n := 24) rfl (fun x98 p97 => ?_)
    refine x_if_eq dX4_copy_24 (t := 54) (by decide) (n := 27) rfl (fun _ => ?_) (fun _ => ?_)
    · refine x_aload_nr 0 dX4_copy_54 rfl rfl (n := 55) rfl ?_
      refine x_getR fl_X4_20 dX4_copy_55 (n := 58) rfl (fun x99 => ?_)
      refine x_sm (fun b100 e => ?_)
      subst e
      refine x_callF_R [] [] (f_J3_iterator_ok hO p97 b100 ) rc_J3_iterator md_J3_iterator rfl q2721 fc_java_util_ArrayList_java_util_List_iterator_0_Ljavau dX4_copy_58 rfl rfl (by decide) (Nat.le_of_ble_eq_true rfl) (n := 63) rfl (fun x102 p101 => ?_)
      refine x_astore_n [(2, va_rf x102), (0, .ref a0), (1, .ref v1)] dX4_copy_63 rfl (by decide) rfl (n := 64) rfl ?_
      refine x_sub [1, 2, 0] [(0, .ref a0), (1, .ref v1), (2, va_rf x102)] rfl ?_
      exact f_X4_copy_64_lp hO a0 FU v1 x102 p101
    · refine x_aload_nr 2 dX4_copy_27 rfl rfl (n := 28) rfl ?_
      refine x_sw (fun c104 e => ?_)
      refine x_ite (fun h => ?_) (fun _ => ?_)
      · subst h
        refine x_callF_R [] [] (f_J26_next_ok hO p97 b8 ) rc_J26_next md_J26_next rfl q2319 fc_java_util_ArrayList_Itr_java_util_Iterator_next_0_Ljaval dX4_copy_28 rfl rfl (by decide) (Nat.le_of_ble_eq_true rfl) (n := 33) rfl (fun x107 p106 => ?_)
        refine x_cast (x := x107) (cs := [5]) q1513 cst_ForestLegs_Course dX4_copy_33 (n := 36) rfl ?_
        refine x_astore_n [(3, va_rf x107), (0, .ref a0), (1, .ref v1), (2, .ref b8)] dX4_copy_36 rfl (by decide) rfl (n := 37) rfl ?_
        refine x_aload_nr 2 dX4_copy_37 rfl rfl (n := 38) rfl ?_
        refine x_getR fl_X4_14 dX4_copy_38 (n := 41) rfl (fun x108 => ?_)
        refine x_aload_n 0 dX4_copy_41 rfl rfl (n := 42) rfl ?_
        refine x_sm (fun b109 e => ?_)
        subst e
        refine x_callV_R [] [va_rf x108] (f_X6_copy_ok hO p106 b109 ) rc_X6_copy md_X6_copy rfl q2722 q2723 q2724 dX4_copy_42 rfl rfl (by decide) (by simp only [List.map, xcat]; exact Nat.le_of_ble_eq_true rfl) (n := 45) rfl (fun x111 p110 => ?_)
        refine x_sm (fun b112 e => ?_)
        subst e
        refine x_callF_I [va_rf x111] [] (f_J3_add_ok hO p110 b112 x111) rc_J3_add md_J3_add rfl q2323 fc_java_util_ArrayList_java_util_List_add_1_Ljaval dX4_copy_45 rfl rfl (by decide) (Nat.le_of_ble_eq_true rfl) (n := 50) rfl (fun x114 p113 => ?_)
        refine x_pop dX4_copy_50 rfl (n := 51) rfl ?_
        refine x_goto dX4_copy_51 (n := 18) (by decide) ?_
        refine x_sub [1, 2, 3] [(0, .ref a0), (1, .ref v1), (2, .ref b8)] rfl ?_
        exact hk18 v1 ((some b8)) p113
      refine x_ite (fun h => ?_) (fun _ => ?_)
      · subst h
        refine x_callF_R [] [] (f_J37_next_ok hO p97 b8 ) rc_J37_next md_J37_next rfl q2319 fc_java_util_TreeMap_KeyIterator_java_util_Iterator_next_0_Ljaval dX4_copy_28 rfl rfl (by decide) (Nat.le_of_ble_eq_true rfl) (n := 33) rfl (fun x116 p115 => ?_)
        refine x_cast (x := x116) (cs := [5]) q1513 cst_ForestLegs_Course dX4_copy_33 (n := 36) rfl ?_
        refine x_astore_n [(3, va_rf x116), (0, .ref a0), (1, .ref v1), (2, .ref b8)] dX4_copy_36 rfl (by decide) rfl (n := 37) rfl ?_
        refine x_aload_nr 2 dX4_copy_37 rfl rfl (n := 38) rfl ?_
        refine x_getR fl_X4_14 dX4_copy_38 (n := 41) rfl (fun x117 => ?_)
        refine x_aload_n 0 dX4_copy_41 rfl rfl (n := 42) rfl ?_
        refine x_sm (fun b118 e => ?_)
        subst e
        refine x_callV_R [] [va_rf x117] (f_X6_copy_ok hO p115 b118 ) rc_X6_copy md_X6_copy rfl q2722 q2723 q2724 dX4_copy_42 rfl rfl (by decide) (by simp only [List.map, xcat]; exact Nat.le_of_ble_eq_true rfl) (n := 45) rfl (fun x120 p119 => ?_)
        refine x_sm (fun b121 e => ?_)
        subst e
        refine x_callF_I [va_rf x120] [] (f_J3_add_ok hO p119 b121 x120) rc_J3_add md_J3_add rfl q2323 fc_java_util_ArrayList_java_util_List_add_1_Ljaval dX4_copy_45 rfl rfl (by decide) (Nat.le_of_ble_eq_true rfl) (n := 50) rfl (fun x123 p122 => ?_)
        refine x_pop dX4_copy_50 rfl (n := 51) rfl ?_
        refine x_goto dX4_copy_51 (n := 18) (by decide) ?_
        refine x_sub [1, 2, 3] [(0, .ref a0), (1, .ref v1), (2, .ref b8)] rfl ?_
        exact hk18 v1 ((some b8)) p122
      exact x_no
  exact x_no
theorem f_X4_copy_18_lp {G : xG} (hO : xOK G) (a0 : Nat)  (n : Nat) (v1 : Nat) (v2 : Option Nat) (p0 : PH) : X G "ForestLegs$Meet" "copy" cX4_copy 4 (Option.some (Jvm.ClassFile.FieldType.object "ForestLegs$Meet")) 7 18 [(0, .ref a0), (1, .ref v1), (2, va_rf v2)] [] p0 (lp (f_X4_copy_18F a0) n (v1, v2, p0)) :=
  lp_ok (W := fun p K => X G "ForestLegs$Meet" "copy" cX4_copy 4 (Option.some (Jvm.ClassFile.FieldType.object "ForestLegs$Meet")) 7 18 [(0, .ref a0), (1, .ref p.1), (2, va_rf p.2.1)] [] p.2.2 K) (fun _ => x_no) (fun k hk => fun (v1, v2, p0) => f_X4_copy_18F_ok hO a0 (fun v1 v2 p0 => hk (v1, v2, p0)) v1 v2 p0) n (v1, v2, p0)
theorem f_X4_copy_ok {G : xG} (hO : xOK G) (p0 : PH) (a0 : Nat) : CT G 7 yX4_copy cX4_copy 4 (Option.some (Jvm.ClassFile.FieldType.object "ForestLegs$Meet")) [.ref a0] p0 (f_X4_copy p0 a0) := by
  refine CT_of hO (by decide +kernel) (by decide +kernel) (Nat.le_of_ble_eq_true rfl) ?_
  show X G "ForestLegs$Meet" "copy" cX4_copy 4 (Option.some (Jvm.ClassFile.FieldType.object "ForestLegs$Meet")) 7 0 [(0, .ref a0)] [] p0 (f_X4_copy p0 a0)
  refine x_cl1 (fun e0 => ?_)
  refine x_new cl_3 (by decide) q2718 q261 q128 rfl dX4_copy_0 (n := 3) rfl (fun b1 p2 => ?_)
  refine x_dup dX4_copy_3 rfl (n := 4) rfl ?_
  refine x_callI_V [] [.ref b1] (f_X4_init_ok hO p2 b1 ) md_X4_init rfl q2719 q263 dX4_copy_4 rfl rfl (by decide) (Nat.le_of_ble_eq_true rfl) (n := 7) rfl (fun p3 => ?_)
  refine x_astore_nr [(1, .ref b1), (0, .ref a0)] dX4_copy_7 rfl (by decide) rfl (n := 8) rfl ?_
  refine x_aload_nr 1 dX4_copy_8 rfl rfl (n := 9) rfl ?_
  refine x_getR fl_X4_14 dX4_copy_9 (n := 12) rfl (fun x4 => ?_)
  refine x_sm (fun b5 e => ?_)
  subst e
  refine x_callF_R [] [] (f_J3_iterator_ok hO p3 b5 ) rc_J3_iterator md_J3_iterator rfl q2721 fc_java_util_ArrayList_java_util_List_iterator_0_Ljavau dX4_copy_12 rfl rfl (by decide) (Nat.le_of_ble_eq_true rfl) (n := 17) rfl (fun x7 p6 => ?_)
  refine x_astore_n [(2, va_rf x7), (1, .ref b1), (0, .ref a0)] dX4_copy_17 rfl (by decide) rfl (n := 18) rfl ?_
  refine x_sub [2, 1, 0] [(0, .ref a0), (1, .ref b1), (2, va_rf x7)] rfl ?_
  exact f_X4_copy_18_lp hO a0 FU b1 x7 p6
abbrev cX1_acts : ByteArray := prog_1_method_57_code
def yX1_acts : MethodName := ⟨RX1, "acts", "()LForestLegs$Meet;"⟩
def dkwX1_acts_1 : List UInt8 := [42, 180, 0, 56, 182, 1, 81, 42, 42, 180, 0, 56, 182, 1, 85, 181, 0, 56, 42, 180, 0, 56, 176]
abbrev dktX1_acts_1 : List UInt8 := dkwX1_acts_1 ++ []
def dkwX1_acts_0 : List UInt8 := [42, 180, 0, 29, 182, 0, 124, 16, 10, 160, 0, 11, 42, 180, 0, 29, 182, 1, 78, 87, 42, 180, 0, 29]
abbrev dktX1_acts_0 : List UInt8 := dkwX1_acts_0 ++ dktX1_acts_1
theorem dksX1_acts_0 : cX1_acts.data.toList.drop 0 = dktX1_acts_0 := by decide +kernel
theorem dksX1_acts_1 : cX1_acts.data.toList.drop 24 = dktX1_acts_1 := dk_seg dksX1_acts_0 24 rfl rfl
theorem dX1_acts_0 : decode cX1_acts 0 = .ok (.aload_n 0, 1) := dk_42 (dk_at dksX1_acts_0 0 rfl rfl)
theorem dX1_acts_1 : decode cX1_acts 1 = .ok (.getfield 29, 3) := dk_180 0 29 (dk_at dksX1_acts_0 1 rfl rfl)
theorem dX1_acts_4 : decode cX1_acts 4 = .ok (.invokevirtual 124, 3) := dk_182 0 124 (dk_at dksX1_acts_0 4 rfl rfl)
theorem dX1_acts_7 : decode cX1_acts 7 = .ok (.bipush 10, 2) := dk_16 10 (dk_at dksX1_acts_0 7 rfl rfl)
theorem dX1_acts_9 : decode cX1_acts 9 = .ok (.if_icmp .ne 11, 3) := dk_160 0 11 (dk_at dksX1_acts_0 9 rfl rfl)
theorem dX1_acts_12 : decode cX1_acts 12 = .ok (.aload_n 0, 1) := dk_42 (dk_at dksX1_acts_0 12 rfl rfl)
theorem dX1_acts_13 : decode cX1_acts 13 = .ok (.getfield 29, 3) := dk_180 0 29 (dk_at dksX1_acts_0 13 rfl rfl)
theorem dX1_acts_16 : decode cX1_acts 16 = .ok (.invokevirtual 334, 3) := dk_182 1 78 (dk_at dksX1_acts_0 16 rfl rfl)
theorem dX1_acts_19 : decode cX1_acts 19 = .ok (.pop, 1) := dk_87 (dk_at dksX1_acts_0 19 rfl rfl)
theorem dX1_acts_20 : decode cX1_acts 20 = .ok (.aload_n 0, 1) := dk_42 (dk_at dksX1_acts_0 20 rfl rfl)
theorem dX1_acts_21 : decode cX1_acts 21 = .ok (.getfield 29, 3) := dk_180 0 29 (dk_at dksX1_acts_0 21 rfl rfl)
theorem dX1_acts_24 : decode cX1_acts 24 = .ok (.aload_n 0, 1) := dk_42 (dk_at dksX1_acts_1 0 rfl rfl)
theorem dX1_acts_25 : decode cX1_acts 25 = .ok (.getfield 56, 3) := dk_180 0 56 (dk_at dksX1_acts_1 1 rfl rfl)
theorem dX1_acts_28 : decode cX1_acts 28 = .ok (.invokevirtual 337, 3) := dk_182 1 81 (dk_at dksX1_acts_1 4 rfl rfl)
theorem dX1_acts_31 : decode cX1_acts 31 = .ok (.aload_n 0, 1) := dk_42 (dk_at dksX1_acts_1 7 rfl rfl)
theorem dX1_acts_32 : decode cX1_acts 32 = .ok (.aload_n 0, 1) := dk_42 (dk_at dksX1_acts_1 8 rfl rfl)
theorem dX1_acts_33 : decode cX1_acts 33 = .ok (.getfield 56, 3) := dk_180 0 56 (dk_at dksX1_acts_1 9 rfl rfl)
theorem dX1_acts_36 : decode cX1_acts 36 = .ok (.invokevirtual 341, 3) := dk_182 1 85 (dk_at dksX1_acts_1 12 rfl rfl)
theorem dX1_acts_39 : decode cX1_acts 39 = .ok (.putfield 56, 3) := dk_181 0 56 (dk_at dksX1_acts_1 15 rfl rfl)
theorem dX1_acts_42 : decode cX1_acts 42 = .ok (.aload_n 0, 1) := dk_42 (dk_at dksX1_acts_1 18 rfl rfl)
theorem dX1_acts_43 : decode cX1_acts 43 = .ok (.getfield 56, 3) := dk_180 0 56 (dk_at dksX1_acts_1 19 rfl rfl)
theorem dX1_acts_46 : decode cX1_acts 46 = .ok (.areturn, 1) := dk_176 (dk_at dksX1_acts_1 22 rfl rfl)
theorem md_X1_acts : xMd yX1_acts cX1_acts 1 (Option.some (Jvm.ClassFile.FieldType.object "ForestLegs$Meet")) 0 := ⟨q2706, q123, by decide, by decide +kernel, by decide +kernel, by decide +kernel⟩
def f_X1_acts_20 (a0 : Nat)   (p0 : PH) : Option (xO × PH) :=
  (xgR p0 a0 0 6 fun x5 =>
  (xgR p0 a0 0 5 fun x6 =>
  (xnul x5 none fun b7 =>
  (xcV (f_J1_addLast p0 b7 x6) fun p8 =>
  (xgR p8 a0 0 5 fun x9 =>
  (xnul x9 none fun b10 =>
  (xcR (f_X4_copy p8 b10 ) fun x12 p11 =>
  (xpF p11 a0 0 5 (va_rf x12) fun p13 =>
  (xgR p13 a0 0 5 fun x14 =>
  (rR x14 p13))))))))))
def f_X1_acts (p0 : PH) (a0 : Nat) : Option (xO × PH) :=
  (xcl1 p0 a0 0 (xgR p0 a0 0 6 fun x1 =>
  (xnul x1 none fun b2 =>
  (xcI (f_J1_size p0 b2 ) fun x4 p3 =>
  (if x4 = 10 then
  (xgR p3 a0 0 6 fun x15 =>
  (xnul x15 none fun b16 =>
  (xcR (f_J1_removeFirst p3 b16 ) fun x18 p17 =>
  (f_X1_acts_20 a0  p17)))) else
  (f_X1_acts_20 a0  p3))))))
theorem rc_X1_acts {p0 : PH} {a0 : Nat} : ∀ z, f_X1_acts p0 a0 = some z → xco p0 a0 = some 0 := fun z h => xcl1_some h
theorem f_X1_acts_20_ok {G : xG} (hO : xOK G) (a0 : Nat)   (p0 : PH) : X G "ForestLegs" "acts" cX1_acts 1 (Option.some (Jvm.ClassFile.FieldType.object "ForestLegs$Meet")) 8 20 [(0, .ref a0)] [] p0 (f_X1_acts_20 a0  p0) := by
  unfold f_X1_acts_20
  refine x_aload_nr 0 dX1_acts_20 rfl rfl (n := 21) rfl ?_
  refine x_getR fl_X1_29 dX1_acts_21 (n := 24) rfl (fun x5 => ?_)
  refine x_aload_nr 0 dX1_acts_24 rfl rfl (n := 25) rfl ?_
  refine x_getR fl_X1_56 dX1_acts_25 (n := 28) rfl (fun x6 => ?_)
  refine x_sm (fun b7 e => ?_)
  subst e
  refine x_callV_V [va_rf x6] [] (f_J1_addLast_ok hO p0 b7 x6) rc_J1_addLast md_J1_addLast rfl q2713 q2655 q2656 dX1_acts_28 rfl rfl (by decide) (Nat.le_of_ble_eq_true rfl) (n := 31) rfl (fun p8 => ?_)
  refine x_aload_nr 0 dX1_acts_31 rfl rfl (n := 32) rfl ?_
  refine x_aload_nr 0 dX1_acts_32 rfl rfl (n := 33) rfl ?_
  refine x_getR fl_X1_56 dX1_acts_33 (n := 36) rfl (fun x9 => ?_)
  refine x_sm (fun b10 e => ?_)
  subst e
  refine x_callV_R [] [.ref a0] (f_X4_copy_ok hO p8 b10 ) rc_X4_copy md_X4_copy rfl q2714 q2715 q2716 dX1_acts_36 rfl rfl (by decide) (Nat.le_of_ble_eq_true rfl) (n := 39) rfl (fun x12 p11 => ?_)
  refine x_pF (pl_X1_56 _ _ (xfit_o (x12))) dX1_acts_39 (n := 42) rfl (fun p13 => ?_)
  refine x_aload_nr 0 dX1_acts_42 rfl rfl (n := 43) rfl ?_
  refine x_getR fl_X1_56 dX1_acts_43 (n := 46) rfl (fun x14 => ?_)
  exact x_areturn (x := x14) (Or.inl ⟨_, rfl⟩) dX1_acts_46
theorem f_X1_acts_ok {G : xG} (hO : xOK G) (p0 : PH) (a0 : Nat) : CT G 8 yX1_acts cX1_acts 1 (Option.some (Jvm.ClassFile.FieldType.object "ForestLegs$Meet")) [.ref a0] p0 (f_X1_acts p0 a0) := by
  refine CT_of hO (by decide +kernel) (by decide +kernel) (Nat.le_of_ble_eq_true rfl) ?_
  show X G "ForestLegs" "acts" cX1_acts 1 (Option.some (Jvm.ClassFile.FieldType.object "ForestLegs$Meet")) 8 0 [(0, .ref a0)] [] p0 (f_X1_acts p0 a0)
  refine x_cl1 (fun e0 => ?_)
  refine x_aload_nr 0 dX1_acts_0 rfl rfl (n := 1) rfl ?_
  refine x_getR fl_X1_29 dX1_acts_1 (n := 4) rfl (fun x1 => ?_)
  refine x_sm (fun b2 e => ?_)
  subst e
  refine x_callV_I [] [] (f_J1_size_ok hO p0 b2 ) rc_J1_size md_J1_size rfl q1555 q1556 q1557 dX1_acts_4 rfl rfl (by decide) (Nat.le_of_ble_eq_true rfl) (n := 7) rfl (fun x4 p3 => ?_)
  refine x_bipush 10 dX1_acts_7 rfl (n := 9) rfl ?_
  refine x_icmp_ne dX1_acts_9 (t := 20) (by decide) (n := 12) rfl (fun _ => ?_) (fun _ => ?_)
  · exact f_X1_acts_20_ok hO a0  p3
  · refine x_aload_nr 0 dX1_acts_12 rfl rfl (n := 13) rfl ?_
    refine x_getR fl_X1_29 dX1_acts_13 (n := 16) rfl (fun x15 => ?_)
    refine x_sm (fun b16 e => ?_)
    subst e
    refine x_callV_R [] [] (f_J1_removeFirst_ok hO p3 b16 ) rc_J1_removeFirst md_J1_removeFirst rfl q2707 q2708 q2709 dX1_acts_16 rfl rfl (by decide) (Nat.le_of_ble_eq_true rfl) (n := 19) rfl (fun x18 p17 => ?_)
    refine x_pop dX1_acts_19 (xcat _) (n := 20) rfl ?_
    exact f_X1_acts_20_ok hO a0  p17
abbrev cJ3_rangeCheckForAdd : ByteArray := prog_47_method_45_code
def yJ3_rangeCheckForAdd : MethodName := ⟨RJ3, "rangeCheckForAdd", "(I)V"⟩
def dkwJ3_rangeCheckForAdd_1 : List UInt8 := [191, 177]
abbrev dktJ3_rangeCheckForAdd_1 : List UInt8 := dkwJ3_rangeCheckForAdd_1 ++ []
def dkwJ3_rangeCheckForAdd_0 : List UInt8 := [27, 42, 180, 0, 48, 163, 0, 7, 27, 156, 0, 16, 187, 0, 187, 89, 42, 27, 182, 0, 198, 183, 0, 193]
abbrev dktJ3_rangeCheckForAdd_0 : List UInt8 := dkwJ3_rangeCheckForAdd_0 ++ dktJ3_rangeCheckForAdd_1
theorem dksJ3_rangeCheckForAdd_0 : cJ3_rangeCheckForAdd.data.toList.drop 0 = dktJ3_rangeCheckForAdd_0 := by decide +kernel
theorem dksJ3_rangeCheckForAdd_1 : cJ3_rangeCheckForAdd.data.toList.drop 24 = dktJ3_rangeCheckForAdd_1 := dk_seg dksJ3_rangeCheckForAdd_0 24 rfl rfl
theorem dJ3_rangeCheckForAdd_0 : decode cJ3_rangeCheckForAdd 0 = .ok (.iload_n 1, 1) := dk_27 (dk_at dksJ3_rangeCheckForAdd_0 0 rfl rfl)
theorem dJ3_rangeCheckForAdd_1 : decode cJ3_rangeCheckForAdd 1 = .ok (.aload_n 0, 1) := dk_42 (dk_at dksJ3_rangeCheckForAdd_0 1 rfl rfl)
theorem dJ3_rangeCheckForAdd_2 : decode cJ3_rangeCheckForAdd 2 = .ok (.getfield 48, 3) := dk_180 0 48 (dk_at dksJ3_rangeCheckForAdd_0 2 rfl rfl)
theorem dJ3_rangeCheckForAdd_5 : decode cJ3_rangeCheckForAdd 5 = .ok (.if_icmp .gt 7, 3) := dk_163 0 7 (dk_at dksJ3_rangeCheckForAdd_0 5 rfl rfl)
theorem dJ3_rangeCheckForAdd_8 : decode cJ3_rangeCheckForAdd 8 = .ok (.iload_n 1, 1) := dk_27 (dk_at dksJ3_rangeCheckForAdd_0 8 rfl rfl)
theorem dJ3_rangeCheckForAdd_9 : decode cJ3_rangeCheckForAdd 9 = .ok (.ifCond .ge 16, 3) := dk_156 0 16 (dk_at dksJ3_rangeCheckForAdd_0 9 rfl rfl)
theorem dJ3_rangeCheckForAdd_12 : decode cJ3_rangeCheckForAdd 12 = .ok (.new 187, 3) := dk_187 0 187 (dk_at dksJ3_rangeCheckForAdd_0 12 rfl rfl)
theorem dJ3_rangeCheckForAdd_15 : decode cJ3_rangeCheckForAdd 15 = .ok (.dup, 1) := dk_89 (dk_at dksJ3_rangeCheckForAdd_0 15 rfl rfl)
theorem dJ3_rangeCheckForAdd_16 : decode cJ3_rangeCheckForAdd 16 = .ok (.aload_n 0, 1) := dk_42 (dk_at dksJ3_rangeCheckForAdd_0 16 rfl rfl)
theorem dJ3_rangeCheckForAdd_17 : decode cJ3_rangeCheckForAdd 17 = .ok (.iload_n 1, 1) := dk_27 (dk_at dksJ3_rangeCheckForAdd_0 17 rfl rfl)
theorem dJ3_rangeCheckForAdd_18 : decode cJ3_rangeCheckForAdd 18 = .ok (.invokevirtual 198, 3) := dk_182 0 198 (dk_at dksJ3_rangeCheckForAdd_0 18 rfl rfl)
theorem dJ3_rangeCheckForAdd_21 : decode cJ3_rangeCheckForAdd 21 = .ok (.invokespecial 193, 3) := dk_183 0 193 (dk_at dksJ3_rangeCheckForAdd_0 21 rfl rfl)
theorem dJ3_rangeCheckForAdd_24 : decode cJ3_rangeCheckForAdd 24 = .ok (.athrow, 1) := dk_191 (dk_at dksJ3_rangeCheckForAdd_1 0 rfl rfl)
theorem dJ3_rangeCheckForAdd_25 : decode cJ3_rangeCheckForAdd 25 = .ok (.return_, 1) := dk_177 (dk_at dksJ3_rangeCheckForAdd_1 1 rfl rfl)
theorem md_J3_rangeCheckForAdd : xMd yJ3_rangeCheckForAdd cJ3_rangeCheckForAdd 2 (Option.none : Option Jvm.ClassFile.FieldType) 1 := ⟨q2809, q130, by decide, by decide +kernel, by decide +kernel, by decide +kernel⟩
def f_J3_rangeCheckForAdd_12 (a0 : Nat)  (v1 : Int32) (p0 : PH) : Option (xO × PH) :=
  none
def f_J3_rangeCheckForAdd (p0 : PH) (a0 : Nat) (a1 : Int32) : Option (xO × PH) :=
  (xcl1 p0 a0 14 (xgI p0 a0 14 2 fun x1 =>
  (if x1 < a1 then
  (f_J3_rangeCheckForAdd_12 a0 a1 p0) else
  (if 0 ≤ a1 then
  (rV p0) else
  (f_J3_rangeCheckForAdd_12 a0 a1 p0)))))
theorem rc_J3_rangeCheckForAdd {p0 : PH} {a0 : Nat} {a1 : Int32} : ∀ z, f_J3_rangeCheckForAdd p0 a0 a1 = some z → xco p0 a0 = some 14 := fun z h => xcl1_some h
theorem f_J3_rangeCheckForAdd_12_ok {G : xG} (hO : xOK G) (a0 : Nat)  (v1 : Int32) (p0 : PH) : X G "java/util/ArrayList" "rangeCheckForAdd" cJ3_rangeCheckForAdd 2 (Option.none : Option Jvm.ClassFile.FieldType) 0 12 [(0, .ref a0), (1, .int v1)] [] p0 (f_J3_rangeCheckForAdd_12 a0 v1 p0) := by
  unfold f_J3_rangeCheckForAdd_12
  exact x_no
theorem f_J3_rangeCheckForAdd_ok {G : xG} (hO : xOK G) (p0 : PH) (a0 : Nat) (a1 : Int32) : CT G 0 yJ3_rangeCheckForAdd cJ3_rangeCheckForAdd 2 (Option.none : Option Jvm.ClassFile.FieldType) [.ref a0, .int a1] p0 (f_J3_rangeCheckForAdd p0 a0 a1) := by
  refine CT_of hO (by decide +kernel) (by decide +kernel) (Nat.le_of_ble_eq_true rfl) ?_
  show X G "java/util/ArrayList" "rangeCheckForAdd" cJ3_rangeCheckForAdd 2 (Option.none : Option Jvm.ClassFile.FieldType) 0 0 [(0, .ref a0), (1, .int a1)] [] p0 (f_J3_rangeCheckForAdd p0 a0 a1)
  refine x_cl1 (fun e0 => ?_)
  refine x_iload_n 1 dJ3_rangeCheckForAdd_0 rfl rfl (n := 1) rfl ?_
  refine x_aload_nr 0 dJ3_rangeCheckForAdd_1 rfl rfl (n := 2) rfl ?_
  refine x_getI fl_J3_48 dJ3_rangeCheckForAdd_2 (n := 5) rfl (fun x1 => ?_)
  refine x_icmp_gt dJ3_rangeCheckForAdd_5 (t := 12) (by decide) (n := 8) rfl (fun _ => ?_) (fun _ => ?_)
  · exact f_J3_rangeCheckForAdd_12_ok hO a0 a1 p0
  · refine x_iload_n 1 dJ3_rangeCheckForAdd_8 rfl rfl (n := 9) rfl ?_
    refine x_if_ge dJ3_rangeCheckForAdd_9 (t := 25) (by decide) (n := 12) rfl (fun _ => ?_) (fun _ => ?_)
    · exact x_return dJ3_rangeCheckForAdd_25
    · exact f_J3_rangeCheckForAdd_12_ok hO a0 a1 p0
abbrev cJ3_add_3 : ByteArray := prog_47_method_26_code
def yJ3_add_3 : MethodName := ⟨RJ3, "add", "(ILjava/lang/Object;)V"⟩
def dkwJ3_add_3_2 : List UInt8 := [29, 27, 100, 184, 0, 112, 25, 4, 27, 44, 83, 42, 29, 4, 96, 181, 0, 48, 177]
abbrev dktJ3_add_3_2 : List UInt8 := dkwJ3_add_3_2 ++ []
def dkwJ3_add_3_1 : List UInt8 := [180, 0, 9, 89, 58, 4, 190, 160, 0, 9, 42, 182, 0, 129, 58, 4, 25, 4, 27, 25, 4, 27, 4, 96]
abbrev dktJ3_add_3_1 : List UInt8 := dkwJ3_add_3_1 ++ dktJ3_add_3_2
def dkwJ3_add_3_0 : List UInt8 := [42, 27, 182, 0, 135, 42, 89, 180, 0, 63, 4, 96, 181, 0, 63, 42, 180, 0, 48, 89, 62, 42]
abbrev dktJ3_add_3_0 : List UInt8 := dkwJ3_add_3_0 ++ dktJ3_add_3_1
theorem dksJ3_add_3_0 : cJ3_add_3.data.toList.drop 0 = dktJ3_add_3_0 := by decide +kernel
theorem dksJ3_add_3_1 : cJ3_add_3.data.toList.drop 22 = dktJ3_add_3_1 := dk_seg dksJ3_add_3_0 22 rfl rfl
theorem dksJ3_add_3_2 : cJ3_add_3.data.toList.drop 46 = dktJ3_add_3_2 := dk_seg dksJ3_add_3_1 24 rfl rfl
theorem dJ3_add_3_0 : decode cJ3_add_3 0 = .ok (.aload_n 0, 1) := dk_42 (dk_at dksJ3_add_3_0 0 rfl rfl)
theorem dJ3_add_3_1 : decode cJ3_add_3 1 = .ok (.iload_n 1, 1) := dk_27 (dk_at dksJ3_add_3_0 1 rfl rfl)
theorem dJ3_add_3_2 : decode cJ3_add_3 2 = .ok (.invokevirtual 135, 3) := dk_182 0 135 (dk_at dksJ3_add_3_0 2 rfl rfl)
theorem dJ3_add_3_5 : decode cJ3_add_3 5 = .ok (.aload_n 0, 1) := dk_42 (dk_at dksJ3_add_3_0 5 rfl rfl)
theorem dJ3_add_3_6 : decode cJ3_add_3 6 = .ok (.dup, 1) := dk_89 (dk_at dksJ3_add_3_0 6 rfl rfl)
theorem dJ3_add_3_7 : decode cJ3_add_3 7 = .ok (.getfield 63, 3) := dk_180 0 63 (dk_at dksJ3_add_3_0 7 rfl rfl)
theorem dJ3_add_3_10 : decode cJ3_add_3 10 = .ok (.iconst 1, 1) := dk_4 (dk_at dksJ3_add_3_0 10 rfl rfl)
theorem dJ3_add_3_11 : decode cJ3_add_3 11 = .ok (.iadd, 1) := dk_96 (dk_at dksJ3_add_3_0 11 rfl rfl)
theorem dJ3_add_3_12 : decode cJ3_add_3 12 = .ok (.putfield 63, 3) := dk_181 0 63 (dk_at dksJ3_add_3_0 12 rfl rfl)
theorem dJ3_add_3_15 : decode cJ3_add_3 15 = .ok (.aload_n 0, 1) := dk_42 (dk_at dksJ3_add_3_0 15 rfl rfl)
theorem dJ3_add_3_16 : decode cJ3_add_3 16 = .ok (.getfield 48, 3) := dk_180 0 48 (dk_at dksJ3_add_3_0 16 rfl rfl)
theorem dJ3_add_3_19 : decode cJ3_add_3 19 = .ok (.dup, 1) := dk_89 (dk_at dksJ3_add_3_0 19 rfl rfl)
theorem dJ3_add_3_20 : decode cJ3_add_3 20 = .ok (.istore_n 3, 1) := dk_62 (dk_at dksJ3_add_3_0 20 rfl rfl)
theorem dJ3_add_3_21 : decode cJ3_add_3 21 = .ok (.aload_n 0, 1) := dk_42 (dk_at dksJ3_add_3_0 21 rfl rfl)
theorem dJ3_add_3_22 : decode cJ3_add_3 22 = .ok (.getfield 9, 3) := dk_180 0 9 (dk_at dksJ3_add_3_1 0 rfl rfl)
theorem dJ3_add_3_25 : decode cJ3_add_3 25 = .ok (.dup, 1) := dk_89 (dk_at dksJ3_add_3_1 3 rfl rfl)
theorem dJ3_add_3_26 : decode cJ3_add_3 26 = .ok (.astore 4, 2) := dk_58 4 (dk_at dksJ3_add_3_1 4 rfl rfl)
theorem dJ3_add_3_28 : decode cJ3_add_3 28 = .ok (.arraylength, 1) := dk_190 (dk_at dksJ3_add_3_1 6 rfl rfl)
theorem dJ3_add_3_29 : decode cJ3_add_3 29 = .ok (.if_icmp .ne 9, 3) := dk_160 0 9 (dk_at dksJ3_add_3_1 7 rfl rfl)
theorem dJ3_add_3_32 : decode cJ3_add_3 32 = .ok (.aload_n 0, 1) := dk_42 (dk_at dksJ3_add_3_1 10 rfl rfl)
theorem dJ3_add_3_33 : decode cJ3_add_3 33 = .ok (.invokevirtual 129, 3) := dk_182 0 129 (dk_at dksJ3_add_3_1 11 rfl rfl)
theorem dJ3_add_3_36 : decode cJ3_add_3 36 = .ok (.astore 4, 2) := dk_58 4 (dk_at dksJ3_add_3_1 14 rfl rfl)
theorem dJ3_add_3_38 : decode cJ3_add_3 38 = .ok (.aload 4, 2) := dk_25 4 (dk_at dksJ3_add_3_1 16 rfl rfl)
theorem dJ3_add_3_40 : decode cJ3_add_3 40 = .ok (.iload_n 1, 1) := dk_27 (dk_at dksJ3_add_3_1 18 rfl rfl)
theorem dJ3_add_3_41 : decode cJ3_add_3 41 = .ok (.aload 4, 2) := dk_25 4 (dk_at dksJ3_add_3_1 19 rfl rfl)
theorem dJ3_add_3_43 : decode cJ3_add_3 43 = .ok (.iload_n 1, 1) := dk_27 (dk_at dksJ3_add_3_1 21 rfl rfl)
theorem dJ3_add_3_44 : decode cJ3_add_3 44 = .ok (.iconst 1, 1) := dk_4 (dk_at dksJ3_add_3_1 22 rfl rfl)
theorem dJ3_add_3_45 : decode cJ3_add_3 45 = .ok (.iadd, 1) := dk_96 (dk_at dksJ3_add_3_1 23 rfl rfl)
theorem dJ3_add_3_46 : decode cJ3_add_3 46 = .ok (.iload_n 3, 1) := dk_29 (dk_at dksJ3_add_3_2 0 rfl rfl)
theorem dJ3_add_3_47 : decode cJ3_add_3 47 = .ok (.iload_n 1, 1) := dk_27 (dk_at dksJ3_add_3_2 1 rfl rfl)
theorem dJ3_add_3_48 : decode cJ3_add_3 48 = .ok (.isub, 1) := dk_100 (dk_at dksJ3_add_3_2 2 rfl rfl)
theorem dJ3_add_3_49 : decode cJ3_add_3 49 = .ok (.invokestatic 112, 3) := dk_184 0 112 (dk_at dksJ3_add_3_2 3 rfl rfl)
theorem dJ3_add_3_52 : decode cJ3_add_3 52 = .ok (.aload 4, 2) := dk_25 4 (dk_at dksJ3_add_3_2 6 rfl rfl)
theorem dJ3_add_3_54 : decode cJ3_add_3 54 = .ok (.iload_n 1, 1) := dk_27 (dk_at dksJ3_add_3_2 8 rfl rfl)
theorem dJ3_add_3_55 : decode cJ3_add_3 55 = .ok (.aload_n 2, 1) := dk_44 (dk_at dksJ3_add_3_2 9 rfl rfl)
theorem dJ3_add_3_56 : decode cJ3_add_3 56 = .ok (.aastore, 1) := dk_83 (dk_at dksJ3_add_3_2 10 rfl rfl)
theorem dJ3_add_3_57 : decode cJ3_add_3 57 = .ok (.aload_n 0, 1) := dk_42 (dk_at dksJ3_add_3_2 11 rfl rfl)
theorem dJ3_add_3_58 : decode cJ3_add_3 58 = .ok (.iload_n 3, 1) := dk_29 (dk_at dksJ3_add_3_2 12 rfl rfl)
theorem dJ3_add_3_59 : decode cJ3_add_3 59 = .ok (.iconst 1, 1) := dk_4 (dk_at dksJ3_add_3_2 13 rfl rfl)
theorem dJ3_add_3_60 : decode cJ3_add_3 60 = .ok (.iadd, 1) := dk_96 (dk_at dksJ3_add_3_2 14 rfl rfl)
theorem dJ3_add_3_61 : decode cJ3_add_3 61 = .ok (.putfield 48, 3) := dk_181 0 48 (dk_at dksJ3_add_3_2 15 rfl rfl)
theorem dJ3_add_3_64 : decode cJ3_add_3 64 = .ok (.return_, 1) := dk_177 (dk_at dksJ3_add_3_2 18 rfl rfl)
theorem md_J3_add_3 : xMd yJ3_add_3 cJ3_add_3 5 (Option.none : Option Jvm.ClassFile.FieldType) 2 := ⟨q2805, q130, by decide, by decide +kernel, by decide +kernel, by decide +kernel⟩
def f_J3_add_3_38 (a0 : Nat)  (v1 : Int32) (v2 : Option Nat) (v3 : Int32) (v4 : Option Nat) (p0 : PH) : Option (xO × PH) :=
  (xnul v4 none fun b8 =>
  (xcpR p0 b8 b8 v1 (v1 + 1) (v3 - v1) fun p9 =>
  (xsR p9 b8 4 v1 (v2) fun p10 =>
  (xpF p10 a0 14 2 (.int (v3 + 1)) fun p11 =>
  (rV p11)))))
def f_J3_add_3 (p0 : PH) (a0 : Nat) (a1 : Int32) (a2 : Option Nat) : Option (xO × PH) :=
  (xcl1 p0 a0 14 (xcV (f_J3_rangeCheckForAdd p0 a0 a1) fun p1 =>
  (xgI p1 a0 14 0 fun x2 =>
  (xpF p1 a0 14 0 (.int (x2 + 1)) fun p3 =>
  (xgI p3 a0 14 2 fun x4 =>
  (xgR p3 a0 14 1 fun x5 =>
  (xnul x5 none fun b6 =>
  (xlen p3 b6 fun x7 =>
  (if x4 = x7 then
  (xcR (f_J3_grow p3 a0 ) fun x13 p12 =>
  (f_J3_add_3_38 a0 a1 a2 x4 x13 p12)) else
  (f_J3_add_3_38 a0 a1 a2 x4 ((some b6)) p3))))))))))
theorem rc_J3_add_3 {p0 : PH} {a0 : Nat} {a1 : Int32} {a2 : Option Nat} : ∀ z, f_J3_add_3 p0 a0 a1 a2 = some z → xco p0 a0 = some 14 := fun z h => xcl1_some h
theorem f_J3_add_3_38_ok {G : xG} (hO : xOK G) (a0 : Nat)  (v1 : Int32) (v2 : Option Nat) (v3 : Int32) (v4 : Option Nat) (p0 : PH) : X G "java/util/ArrayList" "add" cJ3_add_3 5 (Option.none : Option Jvm.ClassFile.FieldType) 5 38 [(0, .ref a0), (1, .int v1), (2, va_rf v2), (3, .int v3), (4, va_rf v4)] [] p0 (f_J3_add_3_38 a0 v1 v2 v3 v4 p0) := by
  unfold f_J3_add_3_38
  refine x_aload 4 dJ3_add_3_38 rfl (n := 40) rfl ?_
  refine x_iload_n 1 dJ3_add_3_40 rfl rfl (n := 41) rfl ?_
  refine x_aload 4 dJ3_add_3_41 rfl (n := 43) rfl ?_
  refine x_iload_n 1 dJ3_add_3_43 rfl rfl (n := 44) rfl ?_
  refine x_iconst 1 dJ3_add_3_44 rfl (n := 45) rfl ?_
  refine x_iadd dJ3_add_3_45 (n := 46) rfl ?_
  refine x_iload_n 3 dJ3_add_3_46 rfl rfl (n := 47) rfl ?_
  refine x_iload_n 1 dJ3_add_3_47 rfl rfl (n := 48) rfl ?_
  refine x_isub dJ3_add_3_48 (n := 49) rfl ?_
  refine x_sm (fun b8 e => ?_)
  subst e
  refine x_cpR arc_J3_112 dJ3_add_3_49 (by decide) (Nat.le_of_ble_eq_true rfl) (n := 52) rfl (fun p9 => ?_)
  refine x_aloadr 4 dJ3_add_3_52 rfl (n := 54) rfl ?_
  refine x_iload_n 1 dJ3_add_3_54 rfl rfl (n := 55) rfl ?_
  refine x_aload_n 2 dJ3_add_3_55 rfl rfl (n := 56) rfl ?_
  refine x_aast (t := 4) (x := v2) rfl (by decide) dJ3_add_3_56 (n := 57) rfl (fun p10 => ?_)
  refine x_aload_nr 0 dJ3_add_3_57 rfl rfl (n := 58) rfl ?_
  refine x_iload_n 3 dJ3_add_3_58 rfl rfl (n := 59) rfl ?_
  refine x_iconst 1 dJ3_add_3_59 rfl (n := 60) rfl ?_
  refine x_iadd dJ3_add_3_60 (n := 61) rfl ?_
  refine x_pF (pl_J3_48 _ _ ⟨rfl, rfl⟩) dJ3_add_3_61 (n := 64) rfl (fun p11 => ?_)
  exact x_return dJ3_add_3_64
theorem f_J3_add_3_ok {G : xG} (hO : xOK G) (p0 : PH) (a0 : Nat) (a1 : Int32) (a2 : Option Nat) : CT G 5 yJ3_add_3 cJ3_add_3 5 (Option.none : Option Jvm.ClassFile.FieldType) [.ref a0, .int a1, va_rf a2] p0 (f_J3_add_3 p0 a0 a1 a2) := by
  refine CT_of hO (by decide +kernel) (by decide +kernel) (lg_slen _ (by simp only [List.map, xcat]; exact Nat.le_of_ble_eq_true rfl)) ?_
  rw [show lv_args 0 [.ref a0, .int a1, va_rf a2] = [(0, .ref a0), (1, .int a1), (2, va_rf a2)] from by simp only [lv_args, xcat] <;> rfl]
  show X G "java/util/ArrayList" "add" cJ3_add_3 5 (Option.none : Option Jvm.ClassFile.FieldType) 5 0 [(0, .ref a0), (1, .int a1), (2, va_rf a2)] [] p0 (f_J3_add_3 p0 a0 a1 a2)
  refine x_cl1 (fun e0 => ?_)
  refine x_aload_nr 0 dJ3_add_3_0 rfl rfl (n := 1) rfl ?_
  refine x_iload_n 1 dJ3_add_3_1 rfl rfl (n := 2) rfl ?_
  refine x_callV_V [.int a1] [] (f_J3_rangeCheckForAdd_ok hO p0 a0 a1) rc_J3_rangeCheckForAdd md_J3_rangeCheckForAdd rfl q2806 q2808 qs61 dJ3_add_3_2 rfl rfl (by decide) (Nat.le_of_ble_eq_true rfl) (n := 5) rfl (fun p1 => ?_)
  refine x_aload_nr 0 dJ3_add_3_5 rfl rfl (n := 6) rfl ?_
  refine x_dup dJ3_add_3_6 rfl (n := 7) rfl ?_
  refine x_getI fl_J3_63 dJ3_add_3_7 (n := 10) rfl (fun x2 => ?_)
  refine x_iconst 1 dJ3_add_3_10 rfl (n := 11) rfl ?_
  refine x_iadd dJ3_add_3_11 (n := 12) rfl ?_
  refine x_pF (pl_J3_63 _ _ ⟨rfl, rfl⟩) dJ3_add_3_12 (n := 15) rfl (fun p3 => ?_)
  refine x_aload_nr 0 dJ3_add_3_15 rfl rfl (n := 16) rfl ?_
  refine x_getI fl_J3_48 dJ3_add_3_16 (n := 19) rfl (fun x4 => ?_)
  refine x_dup dJ3_add_3_19 rfl (n := 20) rfl ?_
  refine x_istore_n [(3, .int x4), (0, .ref a0), (1, .int a1), (2, va_rf a2)] dJ3_add_3_20 rfl (by decide) (by simp only [xst, List.filter_cons, List.filter_nil, xcat] <;> rfl) (n := 21) rfl ?_
  refine x_aload_nr 1 dJ3_add_3_21 rfl rfl (n := 22) rfl ?_
  refine x_getR fl_J3_9 dJ3_add_3_22 (n := 25) rfl (fun x5 => ?_)
  refine x_dup dJ3_add_3_25 (xcat _) (n := 26) rfl ?_
  refine x_astore [(4, va_rf x5), (3, .int x4), (0, .ref a0), (1, .int a1), (2, va_rf a2)] dJ3_add_3_26 (by decide) rfl (n := 28) rfl ?_
  refine x_sm (fun b6 e => ?_)
  subst e
  refine x_alen dJ3_add_3_28 (n := 29) rfl (fun x7 => ?_)
  refine x_icmp_ne dJ3_add_3_29 (t := 38) (by decide) (n := 32) rfl (fun _ => ?_) (fun _ => ?_)
  · refine x_sub [2, 3, 4, 1, 0] [(0, .ref a0), (1, .int a1), (2, va_rf a2), (3, .int x4), (4, .ref b6)] rfl ?_
    exact f_J3_add_3_38_ok hO a0 a1 a2 x4 ((some b6)) p3
  · refine x_aload_nr 2 dJ3_add_3_32 rfl rfl (n := 33) rfl ?_
    refine x_callV_R [] [] (f_J3_grow_ok hO p3 a0 ) rc_J3_grow md_J3_grow rfl q1244 q1246 qs14 dJ3_add_3_33 rfl rfl (by decide) (Nat.le_of_ble_eq_true rfl) (n := 36) rfl (fun x13 p12 => ?_)
    refine x_astore [(4, va_rf x13), (3, .int x4), (0, .ref a0), (1, .int a1), (2, va_rf a2)] dJ3_add_3_36 (by decide) rfl (n := 38) rfl ?_
    refine x_sub [2, 3, 4, 1, 0] [(0, .ref a0), (1, .int a1), (2, va_rf a2), (3, .int x4), (4, va_rf x13)] rfl ?_
    exact f_J3_add_3_38_ok hO a0 a1 a2 x4 x13 p12
abbrev cX1_add : ByteArray := prog_1_method_58_code
def yX1_add : MethodName := ⟨RX1, "add", "(III)I"⟩
def dkwX1_add_7 : List UInt8 := [28, 29, 183, 1, 91, 185, 1, 94, 3, 0, 42, 21, 5, 182, 0, 83, 172]
abbrev dktX1_add_7 : List UInt8 := dkwX1_add_7 ++ []
def dkwX1_add_6 : List UInt8 := [182, 1, 88, 180, 0, 71, 27, 185, 0, 93, 2, 0, 192, 0, 103, 180, 0, 112, 21, 5, 187, 0, 214, 89]
abbrev dktX1_add_6 : List UInt8 := dkwX1_add_6 ++ dktX1_add_7
def dkwX1_add_5 : List UInt8 := [185, 0, 93, 2, 0, 192, 0, 214, 180, 0, 218, 29, 163, 0, 9, 132, 5, 1, 167, 255, 216, 42]
abbrev dktX1_add_5 : List UInt8 := dkwX1_add_5 ++ dktX1_add_6
def dkwX1_add_4 : List UInt8 := [25, 4, 180, 0, 112, 185, 0, 77, 1, 0, 162, 0, 31, 25, 4, 180, 0, 112, 21, 5]
abbrev dktX1_add_4 : List UInt8 := dkwX1_add_4 ++ dktX1_add_5
def dkwX1_add_3 : List UInt8 := [180, 0, 112, 185, 0, 77, 1, 0, 16, 16, 160, 0, 9, 42, 6, 182, 0, 40, 172, 3, 54, 5, 21, 5]
abbrev dktX1_add_3 : List UInt8 := dkwX1_add_3 ++ dktX1_add_4
def dkwX1_add_2 : List UInt8 := [180, 0, 199, 25, 4, 180, 0, 202, 184, 0, 36, 154, 0, 9, 42, 5, 182, 0, 40, 172, 25, 4]
abbrev dktX1_add_2 : List UInt8 := dkwX1_add_2 ++ dktX1_add_3
def dkwX1_add_1 : List UInt8 := [185, 0, 93, 2, 0, 192, 0, 103, 58, 4, 28, 4, 16, 99, 184, 0, 36, 153, 0, 20, 29, 25, 4]
abbrev dktX1_add_1 : List UInt8 := dkwX1_add_1 ++ dktX1_add_2
def dkwX1_add_0 : List UInt8 := [42, 27, 182, 0, 100, 154, 0, 9, 42, 4, 182, 0, 40, 172, 42, 180, 0, 56, 180, 0, 71, 27]
abbrev dktX1_add_0 : List UInt8 := dkwX1_add_0 ++ dktX1_add_1
theorem dksX1_add_0 : cX1_add.data.toList.drop 0 = dktX1_add_0 := by decide +kernel
theorem dksX1_add_1 : cX1_add.data.toList.drop 22 = dktX1_add_1 := dk_seg dksX1_add_0 22 rfl rfl
theorem dksX1_add_2 : cX1_add.data.toList.drop 45 = dktX1_add_2 := dk_seg dksX1_add_1 23 rfl rfl
theorem dksX1_add_3 : cX1_add.data.toList.drop 67 = dktX1_add_3 := dk_seg dksX1_add_2 22 rfl rfl
theorem dksX1_add_4 : cX1_add.data.toList.drop 91 = dktX1_add_4 := dk_seg dksX1_add_3 24 rfl rfl
theorem dksX1_add_5 : cX1_add.data.toList.drop 111 = dktX1_add_5 := dk_seg dksX1_add_4 20 rfl rfl
theorem dksX1_add_6 : cX1_add.data.toList.drop 133 = dktX1_add_6 := dk_seg dksX1_add_5 22 rfl rfl
theorem dksX1_add_7 : cX1_add.data.toList.drop 157 = dktX1_add_7 := dk_seg dksX1_add_6 24 rfl rfl
theorem dX1_add_0 : decode cX1_add 0 = .ok (.aload_n 0, 1) := dk_42 (dk_at dksX1_add_0 0 rfl rfl)
theorem dX1_add_1 : decode cX1_add 1 = .ok (.iload_n 1, 1) := dk_27 (dk_at dksX1_add_0 1 rfl rfl)
theorem dX1_add_2 : decode cX1_add 2 = .ok (.invokevirtual 100, 3) := dk_182 0 100 (dk_at dksX1_add_0 2 rfl rfl)
theorem dX1_add_5 : decode cX1_add 5 = .ok (.ifCond .ne 9, 3) := dk_154 0 9 (dk_at dksX1_add_0 5 rfl rfl)
theorem dX1_add_8 : decode cX1_add 8 = .ok (.aload_n 0, 1) := dk_42 (dk_at dksX1_add_0 8 rfl rfl)
theorem dX1_add_9 : decode cX1_add 9 = .ok (.iconst 1, 1) := dk_4 (dk_at dksX1_add_0 9 rfl rfl)
theorem dX1_add_10 : decode cX1_add 10 = .ok (.invokevirtual 40, 3) := dk_182 0 40 (dk_at dksX1_add_0 10 rfl rfl)
theorem dX1_add_13 : decode cX1_add 13 = .ok (.ireturn, 1) := dk_172 (dk_at dksX1_add_0 13 rfl rfl)
theorem dX1_add_14 : decode cX1_add 14 = .ok (.aload_n 0, 1) := dk_42 (dk_at dksX1_add_0 14 rfl rfl)
theorem dX1_add_15 : decode cX1_add 15 = .ok (.getfield 56, 3) := dk_180 0 56 (dk_at dksX1_add_0 15 rfl rfl)
theorem dX1_add_18 : decode cX1_add 18 = .ok (.getfield 71, 3) := dk_180 0 71 (dk_at dksX1_add_0 18 rfl rfl)
theorem dX1_add_21 : decode cX1_add 21 = .ok (.iload_n 1, 1) := dk_27 (dk_at dksX1_add_0 21 rfl rfl)
theorem dX1_add_22 : decode cX1_add 22 = .ok (.invokeinterface 93 2, 5) := by decide +kernel
theorem dX1_add_27 : decode cX1_add 27 = .ok (.checkcast 103, 3) := dk_192 0 103 (dk_at dksX1_add_1 5 rfl rfl)
theorem dX1_add_30 : decode cX1_add 30 = .ok (.astore 4, 2) := dk_58 4 (dk_at dksX1_add_1 8 rfl rfl)
theorem dX1_add_32 : decode cX1_add 32 = .ok (.iload_n 2, 1) := dk_28 (dk_at dksX1_add_1 10 rfl rfl)
theorem dX1_add_33 : decode cX1_add 33 = .ok (.iconst 1, 1) := dk_4 (dk_at dksX1_add_1 11 rfl rfl)
theorem dX1_add_34 : decode cX1_add 34 = .ok (.bipush 99, 2) := dk_16 99 (dk_at dksX1_add_1 12 rfl rfl)
theorem dX1_add_36 : decode cX1_add 36 = .ok (.invokestatic 36, 3) := dk_184 0 36 (dk_at dksX1_add_1 14 rfl rfl)
theorem dX1_add_39 : decode cX1_add 39 = .ok (.ifCond .eq 20, 3) := dk_153 0 20 (dk_at dksX1_add_1 17 rfl rfl)
theorem dX1_add_42 : decode cX1_add 42 = .ok (.iload_n 3, 1) := dk_29 (dk_at dksX1_add_1 20 rfl rfl)
theorem dX1_add_43 : decode cX1_add 43 = .ok (.aload 4, 2) := dk_25 4 (dk_at dksX1_add_1 21 rfl rfl)
theorem dX1_add_45 : decode cX1_add 45 = .ok (.getfield 199, 3) := dk_180 0 199 (dk_at dksX1_add_2 0 rfl rfl)
theorem dX1_add_48 : decode cX1_add 48 = .ok (.aload 4, 2) := dk_25 4 (dk_at dksX1_add_2 3 rfl rfl)
theorem dX1_add_50 : decode cX1_add 50 = .ok (.getfield 202, 3) := dk_180 0 202 (dk_at dksX1_add_2 5 rfl rfl)
theorem dX1_add_53 : decode cX1_add 53 = .ok (.invokestatic 36, 3) := dk_184 0 36 (dk_at dksX1_add_2 8 rfl rfl)
theorem dX1_add_56 : decode cX1_add 56 = .ok (.ifCond .ne 9, 3) := dk_154 0 9 (dk_at dksX1_add_2 11 rfl rfl)
theorem dX1_add_59 : decode cX1_add 59 = .ok (.aload_n 0, 1) := dk_42 (dk_at dksX1_add_2 14 rfl rfl)
theorem dX1_add_60 : decode cX1_add 60 = .ok (.iconst 2, 1) := dk_5 (dk_at dksX1_add_2 15 rfl rfl)
theorem dX1_add_61 : decode cX1_add 61 = .ok (.invokevirtual 40, 3) := dk_182 0 40 (dk_at dksX1_add_2 16 rfl rfl)
theorem dX1_add_64 : decode cX1_add 64 = .ok (.ireturn, 1) := dk_172 (dk_at dksX1_add_2 19 rfl rfl)
theorem dX1_add_65 : decode cX1_add 65 = .ok (.aload 4, 2) := dk_25 4 (dk_at dksX1_add_2 20 rfl rfl)
theorem dX1_add_67 : decode cX1_add 67 = .ok (.getfield 112, 3) := dk_180 0 112 (dk_at dksX1_add_3 0 rfl rfl)
theorem dX1_add_70 : decode cX1_add 70 = .ok (.invokeinterface 77 1, 5) := by decide +kernel
theorem dX1_add_75 : decode cX1_add 75 = .ok (.bipush 16, 2) := dk_16 16 (dk_at dksX1_add_3 8 rfl rfl)
theorem dX1_add_77 : decode cX1_add 77 = .ok (.if_icmp .ne 9, 3) := dk_160 0 9 (dk_at dksX1_add_3 10 rfl rfl)
theorem dX1_add_80 : decode cX1_add 80 = .ok (.aload_n 0, 1) := dk_42 (dk_at dksX1_add_3 13 rfl rfl)
theorem dX1_add_81 : decode cX1_add 81 = .ok (.iconst 3, 1) := dk_6 (dk_at dksX1_add_3 14 rfl rfl)
theorem dX1_add_82 : decode cX1_add 82 = .ok (.invokevirtual 40, 3) := dk_182 0 40 (dk_at dksX1_add_3 15 rfl rfl)
theorem dX1_add_85 : decode cX1_add 85 = .ok (.ireturn, 1) := dk_172 (dk_at dksX1_add_3 18 rfl rfl)
theorem dX1_add_86 : decode cX1_add 86 = .ok (.iconst 0, 1) := dk_3 (dk_at dksX1_add_3 19 rfl rfl)
theorem dX1_add_87 : decode cX1_add 87 = .ok (.istore 5, 2) := dk_54 5 (dk_at dksX1_add_3 20 rfl rfl)
theorem dX1_add_89 : decode cX1_add 89 = .ok (.iload 5, 2) := dk_21 5 (dk_at dksX1_add_3 22 rfl rfl)
theorem dX1_add_91 : decode cX1_add 91 = .ok (.aload 4, 2) := dk_25 4 (dk_at dksX1_add_4 0 rfl rfl)
theorem dX1_add_93 : decode cX1_add 93 = .ok (.getfield 112, 3) := dk_180 0 112 (dk_at dksX1_add_4 2 rfl rfl)
theorem dX1_add_96 : decode cX1_add 96 = .ok (.invokeinterface 77 1, 5) := by decide +kernel
theorem dX1_add_101 : decode cX1_add 101 = .ok (.if_icmp .ge 31, 3) := dk_162 0 31 (dk_at dksX1_add_4 10 rfl rfl)
theorem dX1_add_104 : decode cX1_add 104 = .ok (.aload 4, 2) := dk_25 4 (dk_at dksX1_add_4 13 rfl rfl)
theorem dX1_add_106 : decode cX1_add 106 = .ok (.getfield 112, 3) := dk_180 0 112 (dk_at dksX1_add_4 15 rfl rfl)
theorem dX1_add_109 : decode cX1_add 109 = .ok (.iload 5, 2) := dk_21 5 (dk_at dksX1_add_4 18 rfl rfl)
theorem dX1_add_111 : decode cX1_add 111 = .ok (.invokeinterface 93 2, 5) := by decide +kernel
theorem dX1_add_116 : decode cX1_add 116 = .ok (.checkcast 214, 3) := dk_192 0 214 (dk_at dksX1_add_5 5 rfl rfl)
theorem dX1_add_119 : decode cX1_add 119 = .ok (.getfield 218, 3) := dk_180 0 218 (dk_at dksX1_add_5 8 rfl rfl)
theorem dX1_add_122 : decode cX1_add 122 = .ok (.iload_n 3, 1) := dk_29 (dk_at dksX1_add_5 11 rfl rfl)
theorem dX1_add_123 : decode cX1_add 123 = .ok (.if_icmp .gt 9, 3) := dk_163 0 9 (dk_at dksX1_add_5 12 rfl rfl)
theorem dX1_add_126 : decode cX1_add 126 = .ok (.iinc 5 1, 3) := dk_132 5 1 (dk_at dksX1_add_5 15 rfl rfl)
theorem dX1_add_129 : decode cX1_add 129 = .ok (.goto (-40), 3) := dk_167 255 216 (dk_at dksX1_add_5 18 rfl rfl)
theorem dX1_add_132 : decode cX1_add 132 = .ok (.aload_n 0, 1) := dk_42 (dk_at dksX1_add_5 21 rfl rfl)
theorem dX1_add_133 : decode cX1_add 133 = .ok (.invokevirtual 344, 3) := dk_182 1 88 (dk_at dksX1_add_6 0 rfl rfl)
theorem dX1_add_136 : decode cX1_add 136 = .ok (.getfield 71, 3) := dk_180 0 71 (dk_at dksX1_add_6 3 rfl rfl)
theorem dX1_add_139 : decode cX1_add 139 = .ok (.iload_n 1, 1) := dk_27 (dk_at dksX1_add_6 6 rfl rfl)
theorem dX1_add_140 : decode cX1_add 140 = .ok (.invokeinterface 93 2, 5) := by decide +kernel
theorem dX1_add_145 : decode cX1_add 145 = .ok (.checkcast 103, 3) := dk_192 0 103 (dk_at dksX1_add_6 12 rfl rfl)
theorem dX1_add_148 : decode cX1_add 148 = .ok (.getfield 112, 3) := dk_180 0 112 (dk_at dksX1_add_6 15 rfl rfl)
theorem dX1_add_151 : decode cX1_add 151 = .ok (.iload 5, 2) := dk_21 5 (dk_at dksX1_add_6 18 rfl rfl)
theorem dX1_add_153 : decode cX1_add 153 = .ok (.new 214, 3) := dk_187 0 214 (dk_at dksX1_add_6 20 rfl rfl)
theorem dX1_add_156 : decode cX1_add 156 = .ok (.dup, 1) := dk_89 (dk_at dksX1_add_6 23 rfl rfl)
theorem dX1_add_157 : decode cX1_add 157 = .ok (.iload_n 2, 1) := dk_28 (dk_at dksX1_add_7 0 rfl rfl)
theorem dX1_add_158 : decode cX1_add 158 = .ok (.iload_n 3, 1) := dk_29 (dk_at dksX1_add_7 1 rfl rfl)
theorem dX1_add_159 : decode cX1_add 159 = .ok (.invokespecial 347, 3) := dk_183 1 91 (dk_at dksX1_add_7 2 rfl rfl)
theorem dX1_add_162 : decode cX1_add 162 = .ok (.invokeinterface 350 3, 5) := by decide +kernel
theorem dX1_add_167 : decode cX1_add 167 = .ok (.aload_n 0, 1) := dk_42 (dk_at dksX1_add_7 10 rfl rfl)
theorem dX1_add_168 : decode cX1_add 168 = .ok (.iload 5, 2) := dk_21 5 (dk_at dksX1_add_7 11 rfl rfl)
theorem dX1_add_170 : decode cX1_add 170 = .ok (.invokevirtual 83, 3) := dk_182 0 83 (dk_at dksX1_add_7 13 rfl rfl)
theorem dX1_add_173 : decode cX1_add 173 = .ok (.ireturn, 1) := dk_172 (dk_at dksX1_add_7 16 rfl rfl)
theorem md_X1_add : xMd yX1_add cX1_add 6 (Option.some Jvm.ClassFile.FieldType.int) 3 := ⟨q2702, q123, by decide, by decide +kernel, by decide +kernel, by decide +kernel⟩
def f_X1_add_59 (a0 : Nat)   (p0 : PH) : Option (xO × PH) :=
  (xcI (f_X1_refused p0 a0 2) fun x12 p11 =>
  (rI x12 p11))
def f_X1_add_132 (a0 : Nat)  (v1 : Int32) (v2 : Int32) (v3 : Int32) (v5 : Int32) (p0 : PH) : Option (xO × PH) :=
  (xcR (f_X1_acts p0 a0 ) fun x28 p27 =>
  (xnul x28 none fun b29 =>
  (xgR p27 b29 3 1 fun x30 =>
  (xnul x30 none fun b31 =>
  (xcR (f_J3_get p27 b31 v1) fun x33 p32 =>
  (xcst p32 (x33) [6]
  (xnul x33 none fun b34 =>
  (xgR p32 b34 6 4 fun x35 =>
  (xnew p32 7 [.int 0, .int 0] fun b36 p37 =>
  (xcV (f_X8_init p37 b36 v2 v3) fun p38 =>
  (xnul x35 none fun b39 =>
  (xcV (f_J3_add_3 p38 b39 v5 (some b36)) fun p40 =>
  (xcI (f_X1_fine p40 a0 v5) fun x42 p41 =>
  (rI x42 p41))))))))))))))
def f_X1_add_89F (a0 : Nat)  (k89 : Int32 × Int32 × Int32 × Option Nat × Int32 × PH → Option (xO × PH)) (p : Int32 × Int32 × Int32 × Option Nat × Int32 × PH) : Option (xO × PH) := match p with
  | (v1, v2, v3, v4, v5, p0) => (xnul v4 none fun b22 =>
  (xgR p0 b22 6 4 fun x23 =>
  (xnul x23 none fun b24 =>
  (xcI (f_J3_size p0 b24 ) fun x26 p25 =>
  (if x26 ≤ v5 then
  (f_X1_add_132 a0 v1 v2 v3 v5 p25) else
  (xgR p25 b22 6 4 fun x43 =>
  (xnul x43 none fun b44 =>
  (xcR (f_J3_get p25 b44 v5) fun x46 p45 =>
  (xcst p45 (x46) [7]
  (xnul x46 none fun b47 =>
  (xgI p45 b47 7 1 fun x48 =>
  (if v3 < x48 then
  (f_X1_add_132 a0 v1 v2 v3 v5 p45) else
  (bnd (v5 + 1) fun x49 =>
  (k89 (v1, v2, v3, ((some b22)), x49, p45)))))))))))))))
def f_X1_add (p0 : PH) (a0 : Nat) (a1 : Int32) (a2 : Int32) (a3 : Int32) : Option (xO × PH) :=
  (xcl1 p0 a0 0 (xcI (f_X1_isRunner p0 a0 a1) fun x2 p1 =>
  (if x2 = 0 then
  (xcI (f_X1_refused p1 a0 1) fun x53 p52 =>
  (rI x53 p52)) else
  (xgR p1 a0 0 5 fun x3 =>
  (xnul x3 none fun b4 =>
  (xgR p1 b4 3 1 fun x5 =>
  (xnul x5 none fun b6 =>
  (xcR (f_J3_get p1 b6 a1) fun x8 p7 =>
  (xcst p7 (x8) [6]
  (xcI (f_X1_isIn p7 a2 1 99) fun x10 p9 =>
  (if x10 = 0 then
  (f_X1_add_59 a0  p9) else
  (xnul x8 none fun b13 =>
  (xgI p9 b13 6 2 fun x14 =>
  (xgI p9 b13 6 3 fun x15 =>
  (xcI (f_X1_isIn p9 a3 x14 x15) fun x17 p16 =>
  (if x17 = 0 then
  (f_X1_add_59 a0  p16) else
  (xgR p16 b13 6 4 fun x18 =>
  (xnul x18 none fun b19 =>
  (xcI (f_J3_size p16 b19 ) fun x21 p20 =>
  (if x21 = 16 then
  (xcI (f_X1_refused p20 a0 3) fun x51 p50 =>
  (rI x51 p50)) else
  (lp (f_X1_add_89F a0) FU (a1, a2, a3, ((some b13)), 0, p20))))))))))))))))))))))
theorem rc_X1_add {p0 : PH} {a0 : Nat} {a1 : Int32} {a2 : Int32} {a3 : Int32} : ∀ z, f_X1_add p0 a0 a1 a2 a3 = some z → xco p0 a0 = some 0 := fun z h => xcl1_some h
theorem f_X1_add_59_ok {G : xG} (hO : xOK G) (a0 : Nat)   (p0 : PH) : X G "ForestLegs" "add" cX1_add 6 (Option.some Jvm.ClassFile.FieldType.int) 9 59 [(0, .ref a0)] [] p0 (f_X1_add_59 a0  p0) := by
  unfold f_X1_add_59
  refine x_aload_nr 0 dX1_add_59 rfl rfl (n := 60) rfl ?_
  refine x_iconst 2 dX1_add_60 rfl (n := 61) rfl ?_
  refine x_callV_I [.int 2] [] (f_X1_refused_ok hO p0 a0 2) rc_X1_refused md_X1_refused rfl q250 q252 qs0 dX1_add_61 rfl rfl (by decide) (Nat.le_of_ble_eq_true rfl) (n := 64) rfl (fun x12 p11 => ?_)
  exact x_ireturn dX1_add_64
theorem f_X1_add_132_ok {G : xG} (hO : xOK G) (a0 : Nat)  (v1 : Int32) (v2 : Int32) (v3 : Int32) (v5 : Int32) (p0 : PH) : X G "ForestLegs" "add" cX1_add 6 (Option.some Jvm.ClassFile.FieldType.int) 9 132 [(0, .ref a0), (1, .int v1), (2, .int v2), (3, .int v3), (5, .int v5)] [] p0 (f_X1_add_132 a0 v1 v2 v3 v5 p0) := by
  unfold f_X1_add_132
  refine x_aload_nr 0 dX1_add_132 rfl rfl (n := 133) rfl ?_
  refine x_callV_R [] [] (f_X1_acts_ok hO p0 a0 ) rc_X1_acts md_X1_acts rfl q2703 q2705 qs59 dX1_add_133 rfl rfl (by decide) (Nat.le_of_ble_eq_true rfl) (n := 136) rfl (fun x28 p27 => ?_)
  refine x_sm (fun b29 e => ?_)
  subst e
  refine x_getR fl_X1_71 dX1_add_136 (n := 139) rfl (fun x30 => ?_)
  refine x_iload_n 1 dX1_add_139 rfl rfl (n := 140) rfl ?_
  refine x_sm (fun b31 e => ?_)
  subst e
  refine x_callF_R [.int v1] [] (f_J3_get_ok hO p27 b31 v1) rc_J3_get md_J3_get rfl q1497 fc_java_util_ArrayList_java_util_List_get_1_ILjava dX1_add_140 rfl rfl (by decide) (Nat.le_of_ble_eq_true rfl) (n := 145) rfl (fun x33 p32 => ?_)
  refine x_cast (x := x33) (cs := [6]) q1498 cst_ForestLegs_Runner dX1_add_145 (n := 148) rfl ?_
  refine x_sm (fun b34 e => ?_)
  subst e
  refine x_getR fl_X1_112 dX1_add_148 (n := 151) rfl (fun x35 => ?_)
  refine x_iload 4 dX1_add_151 rfl (n := 153) rfl ?_
  refine x_new cl_7 (by decide) q1953 q1452 q157 rfl dX1_add_153 (n := 156) rfl (fun b36 p37 => ?_)
  refine x_dup dX1_add_156 rfl (n := 157) rfl ?_
  refine x_iload_n 2 dX1_add_157 rfl rfl (n := 158) rfl ?_
  refine x_iload_n 3 dX1_add_158 rfl rfl (n := 159) rfl ?_
  refine x_callI_V [.int v2, .int v3] [.ref b36, .int v5, va_rf x35] (f_X8_init_ok hO p37 b36 v2 v3) md_X8_init rfl q2796 q1454 dX1_add_159 rfl rfl (by decide) (by simp only [List.map, xcat]; exact Nat.le_of_ble_eq_true rfl) (n := 162) rfl (fun p38 => ?_)
  refine x_sm (fun b39 e => ?_)
  subst e
  refine x_callF_V [.int v5, .ref b36] [] (f_J3_add_3_ok hO p38 b39 v5 (some b36)) rc_J3_add_3 md_J3_add_3 rfl q2798 fc_java_util_ArrayList_java_util_List_add_2_ILjava dX1_add_162 rfl rfl (by decide) (Nat.le_of_ble_eq_true rfl) (n := 167) rfl (fun p40 => ?_)
  refine x_aload_nr 0 dX1_add_167 rfl rfl (n := 168) rfl ?_
  refine x_iload 4 dX1_add_168 rfl (n := 170) rfl ?_
  refine x_callV_I [.int v5] [] (f_X1_fine_ok hO p40 a0 v5) rc_X1_fine md_X1_fine rfl q1480 q1482 qs26 dX1_add_170 rfl rfl (by decide) (Nat.le_of_ble_eq_true rfl) (n := 173) rfl (fun x42 p41 => ?_)
  exact x_ireturn dX1_add_173
theorem f_X1_add_89F_ok {G : xG} (hO : xOK G) (a0 : Nat)  {k89 : Int32 × Int32 × Int32 × Option Nat × Int32 × PH → Option (xO × PH)} (hk89 : ∀ (v1 : Int32) (v2 : Int32) (v3 : Int32) (v4 : Option Nat) (v5 : Int32) (p0 : PH), X G "ForestLegs" "add" cX1_add 6 (Option.some Jvm.ClassFile.FieldType.int) 9 89 [(0, .ref a0), (1, .int v1), (2, .int v2), (3, .int v3), (4, va_rf v4), (5, .int v5)] [] p0 (k89 (v1, v2, v3, v4, v5, p0))) (v1 : Int32) (v2 : Int32) (v3 : Int32) (v4 : Option Nat) (v5 : Int32) (p0 : PH) : X G "ForestLegs" "add" cX1_add 6 (Option.some Jvm.ClassFile.FieldType.int) 9 89 [(0, .ref a0), (1, .int v1), (2, .int v2), (3, .int v3), (4, va_rf v4), (5, .int v5)] [] p0 (f_X1_add_89F a0 k89 (v1, v2, v3, v4, v5, p0)) := by
  unfold f_X1_add_89F
  refine x_iload 5 dX1_add_89 rfl (n := 91) rfl ?_
  refine x_aload 4 dX1_add_91 rfl (n := 93) rfl ?_
  refine x_sm (fun b22 e => ?_)
  subst e
  refine x_getR fl_X1_112 dX1_add_93 (n := 96) rfl (fun x23 => ?_)
  refine x_sm (fun b24 e => ?_)
  subst e
  refine x_callF_I [] [.int v5] (f_J3_size_ok hO p0 b24 ) rc_J3_size md_J3_size rfl q1479 fc_java_util_ArrayList_java_util_List_size_0_I dX1_add_96 rfl rfl (by decide) (Nat.le_of_ble_eq_true rfl) (n := 101) rfl (fun x26 p25 => ?_)
  refine x_icmp_ge dX1_add_101 (t := 132) (by decide) (n := 104) rfl (fun _ => ?_) (fun _ => ?_)
  · refine x_sub [0, 1, 2, 3, 5] [(0, .ref a0), (1, .int v1), (2, .int v2), (3, .int v3), (5, .int v5)] rfl ?_
    exact f_X1_add_132_ok hO a0 v1 v2 v3 v5 p25
  · refine x_aloadr 4 dX1_add_104 rfl (n := 106) rfl ?_
    refine x_getR fl_X1_112 dX1_add_106 (n := 109) rfl (fun x43 => ?_)
    refine x_iload 5 dX1_add_109 rfl (n := 111) rfl ?_
    refine x_sm (fun b44 e => ?_)
    subst e
    refine x_callF_R [.int v5] [] (f_J3_get_ok hO p25 b44 v5) rc_J3_get md_J3_get rfl q1497 fc_java_util_ArrayList_java_util_List_get_1_ILjava dX1_add_111 rfl rfl (by decide) (Nat.le_of_ble_eq_true rfl) (n := 116) rfl (fun x46 p45 => ?_)
    refine x_cast (x := x46) (cs := [7]) q1953 cst_ForestLegs_Punch dX1_add_116 (n := 119) rfl ?_
    refine x_sm (fun b47 e => ?_)
    subst e
    refine x_getI fl_X1_218 dX1_add_119 (n := 122) rfl (fun x48 => ?_)
    refine x_iload_n 3 dX1_add_122 rfl rfl (n := 123) rfl ?_
    refine x_icmp_gt dX1_add_123 (t := 132) (by decide) (n := 126) rfl (fun _ => ?_) (fun _ => ?_)
    · refine x_sub [0, 1, 2, 3, 5] [(0, .ref a0), (1, .int v1), (2, .int v2), (3, .int v3), (5, .int v5)] rfl ?_
      exact f_X1_add_132_ok hO a0 v1 v2 v3 v5 p45
    · refine x_iincB 5 (fun x49 => [(5, .int x49), (0, .ref a0), (1, .int v1), (2, .int v2), (3, .int v3), (4, .ref b22)]) dX1_add_126 rfl rfl (by decide) (fun _ => rfl) (n := 129) rfl (fun x49 => ?_)
      refine x_goto dX1_add_129 (n := 89) (by decide) ?_
      refine x_sub [1, 2, 3, 4, 5, 0] [(0, .ref a0), (1, .int v1), (2, .int v2), (3, .int v3), (4, .ref b22), (5, .int x49)] rfl ?_
      exact hk89 v1 v2 v3 ((some b22)) x49 p45
theorem f_X1_add_89_lp {G : xG} (hO : xOK G) (a0 : Nat)  (n : Nat) (v1 : Int32) (v2 : Int32) (v3 : Int32) (v4 : Option Nat) (v5 : Int32) (p0 : PH) : X G "ForestLegs" "add" cX1_add 6 (Option.some Jvm.ClassFile.FieldType.int) 9 89 [(0, .ref a0), (1, .int v1), (2, .int v2), (3, .int v3), (4, va_rf v4), (5, .int v5)] [] p0 (lp (f_X1_add_89F a0) n (v1, v2, v3, v4, v5, p0)) :=
  lp_ok (W := fun p K => X G "ForestLegs" "add" cX1_add 6 (Option.some Jvm.ClassFile.FieldType.int) 9 89 [(0, .ref a0), (1, .int p.1), (2, .int p.2.1), (3, .int p.2.2.1), (4, va_rf p.2.2.2.1), (5, .int p.2.2.2.2.1)] [] p.2.2.2.2.2 K) (fun _ => x_no) (fun k hk => fun (v1, v2, v3, v4, v5, p0) => f_X1_add_89F_ok hO a0 (fun v1 v2 v3 v4 v5 p0 => hk (v1, v2, v3, v4, v5, p0)) v1 v2 v3 v4 v5 p0) n (v1, v2, v3, v4, v5, p0)
theorem f_X1_add_ok {G : xG} (hO : xOK G) (p0 : PH) (a0 : Nat) (a1 : Int32) (a2 : Int32) (a3 : Int32) : CT G 9 yX1_add cX1_add 6 (Option.some Jvm.ClassFile.FieldType.int) [.ref a0, .int a1, .int a2, .int a3] p0 (f_X1_add p0 a0 a1 a2 a3) := by
  refine CT_of hO (by decide +kernel) (by decide +kernel) (Nat.le_of_ble_eq_true rfl) ?_
  show X G "ForestLegs" "add" cX1_add 6 (Option.some Jvm.ClassFile.FieldType.int) 9 0 [(0, .ref a0), (1, .int a1), (2, .int a2), (3, .int a3)] [] p0 (f_X1_add p0 a0 a1 a2 a3)
  refine x_cl1 (fun e0 => ?_)
  refine x_aload_nr 0 dX1_add_0 rfl rfl (n := 1) rfl ?_
  refine x_iload_n 1 dX1_add_1 rfl rfl (n := 2) rfl ?_
  refine x_callV_I [.int a1] [] (f_X1_isRunner_ok hO p0 a0 a1) rc_X1_isRunner md_X1_isRunner rfl q1780 q1782 qs41 dX1_add_2 rfl rfl (by decide) (Nat.le_of_ble_eq_true rfl) (n := 5) rfl (fun x2 p1 => ?_)
  refine x_if_ne dX1_add_5 (t := 14) (by decide) (n := 8) rfl (fun _ => ?_) (fun _ => ?_)
  · refine x_aload_nr 0 dX1_add_14 rfl rfl (n := 15) rfl ?_
    refine x_getR fl_X1_56 dX1_add_15 (n := 18) rfl (fun x3 => ?_)
    refine x_sm (fun b4 e => ?_)
    subst e
    refine x_getR fl_X1_71 dX1_add_18 (n := 21) rfl (fun x5 => ?_)
    refine x_iload_n 1 dX1_add_21 rfl rfl (n := 22) rfl ?_
    refine x_sm (fun b6 e => ?_)
    subst e
    refine x_callF_R [.int a1] [] (f_J3_get_ok hO p1 b6 a1) rc_J3_get md_J3_get rfl q1497 fc_java_util_ArrayList_java_util_List_get_1_ILjava dX1_add_22 rfl rfl (by decide) (Nat.le_of_ble_eq_true rfl) (n := 27) rfl (fun x8 p7 => ?_)
    refine x_cast (x := x8) (cs := [6]) q1498 cst_ForestLegs_Runner dX1_add_27 (n := 30) rfl ?_
    refine x_astore [(4, va_rf x8), (0, .ref a0), (1, .int a1), (2, .int a2), (3, .int a3)] dX1_add_30 (by decide) rfl (n := 32) rfl ?_
    refine x_iload_n 3 dX1_add_32 rfl rfl (n := 33) rfl ?_
    refine x_iconst 1 dX1_add_33 rfl (n := 34) rfl ?_
    refine x_bipush 99 dX1_add_34 rfl (n := 36) rfl ?_
    refine x_callS_I [.int a2, .int 1, .int 99] [] (f_X1_isIn_ok hO p7 a2 1 99) md_X1_isIn q247 q248 dX1_add_36 rfl rfl (by decide) (Nat.le_of_ble_eq_true rfl) (n := 39) rfl (fun x10 p9 => ?_)
    refine x_if_eq dX1_add_39 (t := 59) (by decide) (n := 42) rfl (fun _ => ?_) (fun _ => ?_)
    · refine x_sub [1] [(0, .ref a0)] rfl ?_
      exact f_X1_add_59_ok hO a0  p9
    · refine x_iload_n 4 dX1_add_42 rfl rfl (n := 43) rfl ?_
      refine x_aload 0 dX1_add_43 rfl (n := 45) rfl ?_
      refine x_sm (fun b13 e => ?_)
      subst e
      refine x_getI fl_X1_199 dX1_add_45 (n := 48) rfl (fun x14 => ?_)
      refine x_aloadr 0 dX1_add_48 rfl (n := 50) rfl ?_
      refine x_getI fl_X1_202 dX1_add_50 (n := 53) rfl (fun x15 => ?_)
      refine x_callS_I [.int a3, .int x14, .int x15] [] (f_X1_isIn_ok hO p9 a3 x14 x15) md_X1_isIn q247 q248 dX1_add_53 rfl rfl (by decide) (Nat.le_of_ble_eq_true rfl) (n := 56) rfl (fun x17 p16 => ?_)
      refine x_if_ne dX1_add_56 (t := 65) (by decide) (n := 59) rfl (fun _ => ?_) (fun _ => ?_)
      · refine x_aloadr 0 dX1_add_65 rfl (n := 67) rfl ?_
        refine x_getR fl_X1_112 dX1_add_67 (n := 70) rfl (fun x18 => ?_)
        refine x_sm (fun b19 e => ?_)
        subst e
        refine x_callF_I [] [] (f_J3_size_ok hO p16 b19 ) rc_J3_size md_J3_size rfl q1479 fc_java_util_ArrayList_java_util_List_size_0_I dX1_add_70 rfl rfl (by decide) (Nat.le_of_ble_eq_true rfl) (n := 75) rfl (fun x21 p20 => ?_)
        refine x_bipush 16 dX1_add_75 rfl (n := 77) rfl ?_
        refine x_icmp_ne dX1_add_77 (t := 86) (by decide) (n := 80) rfl (fun _ => ?_) (fun _ => ?_)
        · refine x_iconst 0 dX1_add_86 rfl (n := 87) rfl ?_
          refine x_istore [(5, .int 0), (4, .ref b13), (0, .ref a0), (1, .int a1), (2, .int a2), (3, .int a3)] dX1_add_87 (by decide) rfl (n := 89) rfl ?_
          refine x_sub [2, 3, 4, 5, 1, 0] [(0, .ref a0), (1, .int a1), (2, .int a2), (3, .int a3), (4, .ref b13), (5, .int 0)] rfl ?_
          exact f_X1_add_89_lp hO a0 FU a1 a2 a3 ((some b13)) 0 p20
        · refine x_aload_nr 1 dX1_add_80 rfl rfl (n := 81) rfl ?_
          refine x_iconst 3 dX1_add_81 rfl (n := 82) rfl ?_
          refine x_callV_I [.int 3] [] (f_X1_refused_ok hO p20 a0 3) rc_X1_refused md_X1_refused rfl q250 q252 qs0 dX1_add_82 rfl rfl (by decide) (Nat.le_of_ble_eq_true rfl) (n := 85) rfl (fun x51 p50 => ?_)
          exact x_ireturn dX1_add_85
      · refine x_sub [1] [(0, .ref a0)] rfl ?_
        exact f_X1_add_59_ok hO a0  p16
  · refine x_aload_nr 0 dX1_add_8 rfl rfl (n := 9) rfl ?_
    refine x_iconst 1 dX1_add_9 rfl (n := 10) rfl ?_
    refine x_callV_I [.int 1] [] (f_X1_refused_ok hO p1 a0 1) rc_X1_refused md_X1_refused rfl q250 q252 qs0 dX1_add_10 rfl rfl (by decide) (Nat.le_of_ble_eq_true rfl) (n := 13) rfl (fun x53 p52 => ?_)
    exact x_ireturn dX1_add_13
abbrev cJ3_fastRemove : ByteArray := prog_47_method_39_code
def yJ3_fastRemove : MethodName := ⟨RJ3, "fastRemove", "([Ljava/lang/Object;I)V"⟩
def dkwJ3_fastRemove_1 : List UInt8 := [4, 96, 43, 28, 29, 28, 100, 184, 0, 112, 43, 42, 29, 90, 181, 0, 48, 1, 83, 177]
abbrev dktJ3_fastRemove_1 : List UInt8 := dkwJ3_fastRemove_1 ++ []
def dkwJ3_fastRemove_0 : List UInt8 := [42, 89, 180, 0, 63, 4, 96, 181, 0, 63, 42, 180, 0, 48, 4, 100, 89, 62, 28, 164, 0, 15, 43, 28]
abbrev dktJ3_fastRemove_0 : List UInt8 := dkwJ3_fastRemove_0 ++ dktJ3_fastRemove_1
theorem dksJ3_fastRemove_0 : cJ3_fastRemove.data.toList.drop 0 = dktJ3_fastRemove_0 := by decide +kernel
theorem dksJ3_fastRemove_1 : cJ3_fastRemove.data.toList.drop 24 = dktJ3_fastRemove_1 := dk_seg dksJ3_fastRemove_0 24 rfl rfl
theorem dJ3_fastRemove_0 : decode cJ3_fastRemove 0 = .ok (.aload_n 0, 1) := dk_42 (dk_at dksJ3_fastRemove_0 0 rfl rfl)
theorem dJ3_fastRemove_1 : decode cJ3_fastRemove 1 = .ok (.dup, 1) := dk_89 (dk_at dksJ3_fastRemove_0 1 rfl rfl)
theorem dJ3_fastRemove_2 : decode cJ3_fastRemove 2 = .ok (.getfield 63, 3) := dk_180 0 63 (dk_at dksJ3_fastRemove_0 2 rfl rfl)
theorem dJ3_fastRemove_5 : decode cJ3_fastRemove 5 = .ok (.iconst 1, 1) := dk_4 (dk_at dksJ3_fastRemove_0 5 rfl rfl)
theorem dJ3_fastRemove_6 : decode cJ3_fastRemove 6 = .ok (.iadd, 1) := dk_96 (dk_at dksJ3_fastRemove_0 6 rfl rfl)
theorem dJ3_fastRemove_7 : decode cJ3_fastRemove 7 = .ok (.putfield 63, 3) := dk_181 0 63 (dk_at dksJ3_fastRemove_0 7 rfl rfl)
theorem dJ3_fastRemove_10 : decode cJ3_fastRemove 10 = .ok (.aload_n 0, 1) := dk_42 (dk_at dksJ3_fastRemove_0 10 rfl rfl)
theorem dJ3_fastRemove_11 : decode cJ3_fastRemove 11 = .ok (.getfield 48, 3) := dk_180 0 48 (dk_at dksJ3_fastRemove_0 11 rfl rfl)
theorem dJ3_fastRemove_14 : decode cJ3_fastRemove 14 = .ok (.iconst 1, 1) := dk_4 (dk_at dksJ3_fastRemove_0 14 rfl rfl)
theorem dJ3_fastRemove_15 : decode cJ3_fastRemove 15 = .ok (.isub, 1) := dk_100 (dk_at dksJ3_fastRemove_0 15 rfl rfl)
theorem dJ3_fastRemove_16 : decode cJ3_fastRemove 16 = .ok (.dup, 1) := dk_89 (dk_at dksJ3_fastRemove_0 16 rfl rfl)
theorem dJ3_fastRemove_17 : decode cJ3_fastRemove 17 = .ok (.istore_n 3, 1) := dk_62 (dk_at dksJ3_fastRemove_0 17 rfl rfl)
theorem dJ3_fastRemove_18 : decode cJ3_fastRemove 18 = .ok (.iload_n 2, 1) := dk_28 (dk_at dksJ3_fastRemove_0 18 rfl rfl)
theorem dJ3_fastRemove_19 : decode cJ3_fastRemove 19 = .ok (.if_icmp .le 15, 3) := dk_164 0 15 (dk_at dksJ3_fastRemove_0 19 rfl rfl)
theorem dJ3_fastRemove_22 : decode cJ3_fastRemove 22 = .ok (.aload_n 1, 1) := dk_43 (dk_at dksJ3_fastRemove_0 22 rfl rfl)
theorem dJ3_fastRemove_23 : decode cJ3_fastRemove 23 = .ok (.iload_n 2, 1) := dk_28 (dk_at dksJ3_fastRemove_0 23 rfl rfl)
theorem dJ3_fastRemove_24 : decode cJ3_fastRemove 24 = .ok (.iconst 1, 1) := dk_4 (dk_at dksJ3_fastRemove_1 0 rfl rfl)
theorem dJ3_fastRemove_25 : decode cJ3_fastRemove 25 = .ok (.iadd, 1) := dk_96 (dk_at dksJ3_fastRemove_1 1 rfl rfl)
theorem dJ3_fastRemove_26 : decode cJ3_fastRemove 26 = .ok (.aload_n 1, 1) := dk_43 (dk_at dksJ3_fastRemove_1 2 rfl rfl)
theorem dJ3_fastRemove_27 : decode cJ3_fastRemove 27 = .ok (.iload_n 2, 1) := dk_28 (dk_at dksJ3_fastRemove_1 3 rfl rfl)
theorem dJ3_fastRemove_28 : decode cJ3_fastRemove 28 = .ok (.iload_n 3, 1) := dk_29 (dk_at dksJ3_fastRemove_1 4 rfl rfl)
theorem dJ3_fastRemove_29 : decode cJ3_fastRemove 29 = .ok (.iload_n 2, 1) := dk_28 (dk_at dksJ3_fastRemove_1 5 rfl rfl)
theorem dJ3_fastRemove_30 : decode cJ3_fastRemove 30 = .ok (.isub, 1) := dk_100 (dk_at dksJ3_fastRemove_1 6 rfl rfl)
theorem dJ3_fastRemove_31 : decode cJ3_fastRemove 31 = .ok (.invokestatic 112, 3) := dk_184 0 112 (dk_at dksJ3_fastRemove_1 7 rfl rfl)
theorem dJ3_fastRemove_34 : decode cJ3_fastRemove 34 = .ok (.aload_n 1, 1) := dk_43 (dk_at dksJ3_fastRemove_1 10 rfl rfl)
theorem dJ3_fastRemove_35 : decode cJ3_fastRemove 35 = .ok (.aload_n 0, 1) := dk_42 (dk_at dksJ3_fastRemove_1 11 rfl rfl)
theorem dJ3_fastRemove_36 : decode cJ3_fastRemove 36 = .ok (.iload_n 3, 1) := dk_29 (dk_at dksJ3_fastRemove_1 12 rfl rfl)
theorem dJ3_fastRemove_37 : decode cJ3_fastRemove 37 = .ok (.dup_x1, 1) := dk_90 (dk_at dksJ3_fastRemove_1 13 rfl rfl)
theorem dJ3_fastRemove_38 : decode cJ3_fastRemove 38 = .ok (.putfield 48, 3) := dk_181 0 48 (dk_at dksJ3_fastRemove_1 14 rfl rfl)
theorem dJ3_fastRemove_41 : decode cJ3_fastRemove 41 = .ok (.aconst_null, 1) := dk_1 (dk_at dksJ3_fastRemove_1 17 rfl rfl)
theorem dJ3_fastRemove_42 : decode cJ3_fastRemove 42 = .ok (.aastore, 1) := dk_83 (dk_at dksJ3_fastRemove_1 18 rfl rfl)
theorem dJ3_fastRemove_43 : decode cJ3_fastRemove 43 = .ok (.return_, 1) := dk_177 (dk_at dksJ3_fastRemove_1 19 rfl rfl)
theorem md_J3_fastRemove : xMd yJ3_fastRemove cJ3_fastRemove 4 (Option.none : Option Jvm.ClassFile.FieldType) 2 := ⟨q2614, q130, by decide, by decide +kernel, by decide +kernel, by decide +kernel⟩
def f_J3_fastRemove_34 (a0 : Nat)  (v1 : Option Nat) (v3 : Int32) (p0 : PH) : Option (xO × PH) :=
  (xpF p0 a0 14 2 (.int v3) fun p5 =>
  (xnul v1 none fun b6 =>
  (xsR p5 b6 4 v3 (none) fun p7 =>
  (rV p7))))
def f_J3_fastRemove (p0 : PH) (a0 : Nat) (a1 : Option Nat) (a2 : Int32) : Option (xO × PH) :=
  (xcl1 p0 a0 14 (xgI p0 a0 14 0 fun x1 =>
  (xpF p0 a0 14 0 (.int (x1 + 1)) fun p2 =>
  (xgI p2 a0 14 2 fun x3 =>
  (bnd (x3 - 1) fun x4 =>
  (if x4 ≤ a2 then
  (f_J3_fastRemove_34 a0 a1 x4 p2) else
  (xnul a1 none fun b8 =>
  (xcpR p2 b8 b8 (a2 + 1) a2 (x4 - a2) fun p9 =>
  (f_J3_fastRemove_34 a0 ((some b8)) x4 p9)))))))))
theorem rc_J3_fastRemove {p0 : PH} {a0 : Nat} {a1 : Option Nat} {a2 : Int32} : ∀ z, f_J3_fastRemove p0 a0 a1 a2 = some z → xco p0 a0 = some 14 := fun z h => xcl1_some h
theorem f_J3_fastRemove_34_ok {G : xG} (hO : xOK G) (a0 : Nat)  (v1 : Option Nat) (v3 : Int32) (p0 : PH) : X G "java/util/ArrayList" "fastRemove" cJ3_fastRemove 4 (Option.none : Option Jvm.ClassFile.FieldType) 1 34 [(0, .ref a0), (1, va_rf v1), (3, .int v3)] [] p0 (f_J3_fastRemove_34 a0 v1 v3 p0) := by
  unfold f_J3_fastRemove_34
  refine x_aload_n 1 dJ3_fastRemove_34 rfl rfl (n := 35) rfl ?_
  refine x_aload_nr 0 dJ3_fastRemove_35 rfl rfl (n := 36) rfl ?_
  refine x_iload_n 2 dJ3_fastRemove_36 rfl rfl (n := 37) rfl ?_
  refine x_dup_x1 dJ3_fastRemove_37 rfl rfl (n := 38) rfl ?_
  refine x_pF (pl_J3_48 _ _ ⟨rfl, rfl⟩) dJ3_fastRemove_38 (n := 41) rfl (fun p5 => ?_)
  refine x_null dJ3_fastRemove_41 (n := 42) rfl ?_
  refine x_sm (fun b6 e => ?_)
  subst e
  refine x_aast (t := 4) (x := none) rfl (by decide) dJ3_fastRemove_42 (n := 43) rfl (fun p7 => ?_)
  exact x_return dJ3_fastRemove_43
theorem f_J3_fastRemove_ok {G : xG} (hO : xOK G) (p0 : PH) (a0 : Nat) (a1 : Option Nat) (a2 : Int32) : CT G 1 yJ3_fastRemove cJ3_fastRemove 4 (Option.none : Option Jvm.ClassFile.FieldType) [.ref a0, va_rf a1, .int a2] p0 (f_J3_fastRemove p0 a0 a1 a2) := by
  refine CT_of hO (by decide +kernel) (by decide +kernel) (lg_slen _ (by simp only [List.map, xcat]; exact Nat.le_of_ble_eq_true rfl)) ?_
  rw [show lv_args 0 [.ref a0, va_rf a1, .int a2] = [(0, .ref a0), (1, va_rf a1), (2, .int a2)] from by simp only [lv_args, xcat] <;> rfl]
  show X G "java/util/ArrayList" "fastRemove" cJ3_fastRemove 4 (Option.none : Option Jvm.ClassFile.FieldType) 1 0 [(0, .ref a0), (1, va_rf a1), (2, .int a2)] [] p0 (f_J3_fastRemove p0 a0 a1 a2)
  refine x_cl1 (fun e0 => ?_)
  refine x_aload_nr 0 dJ3_fastRemove_0 rfl rfl (n := 1) rfl ?_
  refine x_dup dJ3_fastRemove_1 rfl (n := 2) rfl ?_
  refine x_getI fl_J3_63 dJ3_fastRemove_2 (n := 5) rfl (fun x1 => ?_)
  refine x_iconst 1 dJ3_fastRemove_5 rfl (n := 6) rfl ?_
  refine x_iadd dJ3_fastRemove_6 (n := 7) rfl ?_
  refine x_pF (pl_J3_63 _ _ ⟨rfl, rfl⟩) dJ3_fastRemove_7 (n := 10) rfl (fun p2 => ?_)
  refine x_aload_nr 0 dJ3_fastRemove_10 rfl rfl (n := 11) rfl ?_
  refine x_getI fl_J3_48 dJ3_fastRemove_11 (n := 14) rfl (fun x3 => ?_)
  refine x_iconst 1 dJ3_fastRemove_14 rfl (n := 15) rfl ?_
  refine x_isub dJ3_fastRemove_15 (n := 16) rfl ?_
  refine x_nm (fun x4 => ?_)
  refine x_dup dJ3_fastRemove_16 rfl (n := 17) rfl ?_
  refine x_istore_n [(3, .int x4), (0, .ref a0), (1, va_rf a1), (2, .int a2)] dJ3_fastRemove_17 rfl (by decide) rfl (n := 18) rfl ?_
  refine x_iload_n 3 dJ3_fastRemove_18 rfl rfl (n := 19) rfl ?_
  refine x_icmp_le dJ3_fastRemove_19 (t := 34) (by decide) (n := 22) rfl (fun _ => ?_) (fun _ => ?_)
  · refine x_sub [1, 2, 0] [(0, .ref a0), (1, va_rf a1), (3, .int x4)] rfl ?_
    exact f_J3_fastRemove_34_ok hO a0 a1 x4 p2
  · refine x_aload_n 2 dJ3_fastRemove_22 rfl rfl (n := 23) rfl ?_
    refine x_iload_n 3 dJ3_fastRemove_23 rfl rfl (n := 24) rfl ?_
    refine x_iconst 1 dJ3_fastRemove_24 rfl (n := 25) rfl ?_
    refine x_iadd dJ3_fastRemove_25 (n := 26) rfl ?_
    refine x_aload_n 2 dJ3_fastRemove_26 rfl rfl (n := 27) rfl ?_
    refine x_iload_n 3 dJ3_fastRemove_27 rfl rfl (n := 28) rfl ?_
    refine x_iload_n 0 dJ3_fastRemove_28 rfl rfl (n := 29) rfl ?_
    refine x_iload_n 3 dJ3_fastRemove_29 rfl rfl (n := 30) rfl ?_
    refine x_isub dJ3_fastRemove_30 (n := 31) rfl ?_
    refine x_sm (fun b8 e => ?_)
    subst e
    refine x_cpR arc_J3_112 dJ3_fastRemove_31 (by decide) (Nat.le_of_ble_eq_true rfl) (n := 34) rfl (fun p9 => ?_)
    refine x_sub [1, 2, 0] [(0, .ref a0), (1, .ref b8), (3, .int x4)] rfl ?_
    exact f_J3_fastRemove_34_ok hO a0 ((some b8)) x4 p9
abbrev cJ3_remove : ByteArray := prog_47_method_29_code
def yJ3_remove : MethodName := ⟨RJ3, "remove", "(I)Ljava/lang/Object;"⟩
def dkwJ3_remove_1 : List UInt8 := [45, 176]
abbrev dktJ3_remove_1 : List UInt8 := dkwJ3_remove_1 ++ []
def dkwJ3_remove_0 : List UInt8 := [27, 42, 180, 0, 48, 184, 0, 118, 87, 42, 180, 0, 9, 77, 44, 27, 50, 78, 42, 44, 27, 182, 0, 144]
abbrev dktJ3_remove_0 : List UInt8 := dkwJ3_remove_0 ++ dktJ3_remove_1
theorem dksJ3_remove_0 : cJ3_remove.data.toList.drop 0 = dktJ3_remove_0 := by decide +kernel
theorem dksJ3_remove_1 : cJ3_remove.data.toList.drop 24 = dktJ3_remove_1 := dk_seg dksJ3_remove_0 24 rfl rfl
theorem dJ3_remove_0 : decode cJ3_remove 0 = .ok (.iload_n 1, 1) := dk_27 (dk_at dksJ3_remove_0 0 rfl rfl)
theorem dJ3_remove_1 : decode cJ3_remove 1 = .ok (.aload_n 0, 1) := dk_42 (dk_at dksJ3_remove_0 1 rfl rfl)
theorem dJ3_remove_2 : decode cJ3_remove 2 = .ok (.getfield 48, 3) := dk_180 0 48 (dk_at dksJ3_remove_0 2 rfl rfl)
theorem dJ3_remove_5 : decode cJ3_remove 5 = .ok (.invokestatic 118, 3) := dk_184 0 118 (dk_at dksJ3_remove_0 5 rfl rfl)
theorem dJ3_remove_8 : decode cJ3_remove 8 = .ok (.pop, 1) := dk_87 (dk_at dksJ3_remove_0 8 rfl rfl)
theorem dJ3_remove_9 : decode cJ3_remove 9 = .ok (.aload_n 0, 1) := dk_42 (dk_at dksJ3_remove_0 9 rfl rfl)
theorem dJ3_remove_10 : decode cJ3_remove 10 = .ok (.getfield 9, 3) := dk_180 0 9 (dk_at dksJ3_remove_0 10 rfl rfl)
theorem dJ3_remove_13 : decode cJ3_remove 13 = .ok (.astore_n 2, 1) := dk_77 (dk_at dksJ3_remove_0 13 rfl rfl)
theorem dJ3_remove_14 : decode cJ3_remove 14 = .ok (.aload_n 2, 1) := dk_44 (dk_at dksJ3_remove_0 14 rfl rfl)
theorem dJ3_remove_15 : decode cJ3_remove 15 = .ok (.iload_n 1, 1) := dk_27 (dk_at dksJ3_remove_0 15 rfl rfl)
theorem dJ3_remove_16 : decode cJ3_remove 16 = .ok (.aaload, 1) := dk_50 (dk_at dksJ3_remove_0 16 rfl rfl)
theorem dJ3_remove_17 : decode cJ3_remove 17 = .ok (.astore_n 3, 1) := dk_78 (dk_at dksJ3_remove_0 17 rfl rfl)
theorem dJ3_remove_18 : decode cJ3_remove 18 = .ok (.aload_n 0, 1) := dk_42 (dk_at dksJ3_remove_0 18 rfl rfl)
theorem dJ3_remove_19 : decode cJ3_remove 19 = .ok (.aload_n 2, 1) := dk_44 (dk_at dksJ3_remove_0 19 rfl rfl)
theorem dJ3_remove_20 : decode cJ3_remove 20 = .ok (.iload_n 1, 1) := dk_27 (dk_at dksJ3_remove_0 20 rfl rfl)
theorem dJ3_remove_21 : decode cJ3_remove 21 = .ok (.invokevirtual 144, 3) := dk_182 0 144 (dk_at dksJ3_remove_0 21 rfl rfl)
theorem dJ3_remove_24 : decode cJ3_remove 24 = .ok (.aload_n 3, 1) := dk_45 (dk_at dksJ3_remove_1 0 rfl rfl)
theorem dJ3_remove_25 : decode cJ3_remove 25 = .ok (.areturn, 1) := dk_176 (dk_at dksJ3_remove_1 1 rfl rfl)
theorem md_J3_remove : xMd yJ3_remove cJ3_remove 4 (Option.some (Jvm.ClassFile.FieldType.object "java/lang/Object")) 1 := ⟨q2610, q130, by decide, by decide +kernel, by decide +kernel, by decide +kernel⟩
def f_J3_remove (p0 : PH) (a0 : Nat) (a1 : Int32) : Option (xO × PH) :=
  (xcl1 p0 a0 14 (xgI p0 a0 14 2 fun x1 =>
  (xcI (f_J20_checkIndex p0 a1 x1) fun x3 p2 =>
  (xgR p2 a0 14 1 fun x4 =>
  (xnul x4 none fun b5 =>
  (xaR p2 b5 4 a1 fun x6 =>
  (xcV (f_J3_fastRemove p2 a0 (some b5) a1) fun p7 =>
  (rR x6 p7))))))))
theorem rc_J3_remove {p0 : PH} {a0 : Nat} {a1 : Int32} : ∀ z, f_J3_remove p0 a0 a1 = some z → xco p0 a0 = some 14 := fun z h => xcl1_some h
theorem f_J3_remove_ok {G : xG} (hO : xOK G) (p0 : PH) (a0 : Nat) (a1 : Int32) : CT G 2 yJ3_remove cJ3_remove 4 (Option.some (Jvm.ClassFile.FieldType.object "java/lang/Object")) [.ref a0, .int a1] p0 (f_J3_remove p0 a0 a1) := by
  refine CT_of hO (by decide +kernel) (by decide +kernel) (Nat.le_of_ble_eq_true rfl) ?_
  show X G "java/util/ArrayList" "remove" cJ3_remove 4 (Option.some (Jvm.ClassFile.FieldType.object "java/lang/Object")) 2 0 [(0, .ref a0), (1, .int a1)] [] p0 (f_J3_remove p0 a0 a1)
  refine x_cl1 (fun e0 => ?_)
  refine x_iload_n 1 dJ3_remove_0 rfl rfl (n := 1) rfl ?_
  refine x_aload_nr 0 dJ3_remove_1 rfl rfl (n := 2) rfl ?_
  refine x_getI fl_J3_48 dJ3_remove_2 (n := 5) rfl (fun x1 => ?_)
  refine x_callS_I [.int a1, .int x1] [] (f_J20_checkIndex_ok hO p0 a1 x1) md_J20_checkIndex q953 q954 dJ3_remove_5 rfl rfl (by decide) (Nat.le_of_ble_eq_true rfl) (n := 8) rfl (fun x3 p2 => ?_)
  refine x_pop dJ3_remove_8 rfl (n := 9) rfl ?_
  refine x_aload_nr 0 dJ3_remove_9 rfl rfl (n := 10) rfl ?_
  refine x_getR fl_J3_9 dJ3_remove_10 (n := 13) rfl (fun x4 => ?_)
  refine x_astore_n [(2, va_rf x4), (0, .ref a0), (1, .int a1)] dJ3_remove_13 rfl (by decide) rfl (n := 14) rfl ?_
  refine x_aload_n 0 dJ3_remove_14 rfl rfl (n := 15) rfl ?_
  refine x_iload_n 2 dJ3_remove_15 rfl rfl (n := 16) rfl ?_
  refine x_sm (fun b5 e => ?_)
  subst e
  refine x_aald (t := 4) rfl rfl dJ3_remove_16 (n := 17) rfl (fun x6 => ?_)
  refine x_astore_n [(3, va_rf x6), (2, .ref b5), (0, .ref a0), (1, .int a1)] dJ3_remove_17 rfl (by decide) rfl (n := 18) rfl ?_
  refine x_aload_nr 2 dJ3_remove_18 rfl rfl (n := 19) rfl ?_
  refine x_aload_nr 1 dJ3_remove_19 rfl rfl (n := 20) rfl ?_
  refine x_iload_n 3 dJ3_remove_20 rfl rfl (n := 21) rfl ?_
  refine x_callV_V [.ref b5, .int a1] [] (f_J3_fastRemove_ok hO p2 a0 (some b5) a1) rc_J3_fastRemove md_J3_fastRemove rfl q2611 q2613 qs53 dJ3_remove_21 rfl rfl (by decide) (Nat.le_of_ble_eq_true rfl) (n := 24) rfl (fun p7 => ?_)
  refine x_aload_n 0 dJ3_remove_24 rfl rfl (n := 25) rfl ?_
  exact x_areturn (x := x6) (Or.inl ⟨_, rfl⟩) dJ3_remove_25
abbrev cX1_drop : ByteArray := prog_1_method_59_code
def yX1_drop : MethodName := ⟨RX1, "drop", "(II)I"⟩
def dkwX1_drop_2 : List UInt8 := [182, 0, 83, 172]
abbrev dktX1_drop_2 : List UInt8 := dkwX1_drop_2 ++ []
def dkwX1_drop_1 : List UInt8 := [185, 0, 93, 2, 0, 192, 0, 103, 180, 0, 112, 28, 185, 1, 97, 2, 0, 192, 0, 214, 180, 0, 216]
abbrev dktX1_drop_1 : List UInt8 := dkwX1_drop_1 ++ dktX1_drop_2
def dkwX1_drop_0 : List UInt8 := [42, 27, 28, 182, 0, 211, 154, 0, 9, 42, 4, 182, 0, 40, 172, 42, 42, 182, 1, 88, 180, 0, 71, 27]
abbrev dktX1_drop_0 : List UInt8 := dkwX1_drop_0 ++ dktX1_drop_1
theorem dksX1_drop_0 : cX1_drop.data.toList.drop 0 = dktX1_drop_0 := by decide +kernel
theorem dksX1_drop_1 : cX1_drop.data.toList.drop 24 = dktX1_drop_1 := dk_seg dksX1_drop_0 24 rfl rfl
theorem dksX1_drop_2 : cX1_drop.data.toList.drop 47 = dktX1_drop_2 := dk_seg dksX1_drop_1 23 rfl rfl
theorem dX1_drop_0 : decode cX1_drop 0 = .ok (.aload_n 0, 1) := dk_42 (dk_at dksX1_drop_0 0 rfl rfl)
theorem dX1_drop_1 : decode cX1_drop 1 = .ok (.iload_n 1, 1) := dk_27 (dk_at dksX1_drop_0 1 rfl rfl)
theorem dX1_drop_2 : decode cX1_drop 2 = .ok (.iload_n 2, 1) := dk_28 (dk_at dksX1_drop_0 2 rfl rfl)
theorem dX1_drop_3 : decode cX1_drop 3 = .ok (.invokevirtual 211, 3) := dk_182 0 211 (dk_at dksX1_drop_0 3 rfl rfl)
theorem dX1_drop_6 : decode cX1_drop 6 = .ok (.ifCond .ne 9, 3) := dk_154 0 9 (dk_at dksX1_drop_0 6 rfl rfl)
theorem dX1_drop_9 : decode cX1_drop 9 = .ok (.aload_n 0, 1) := dk_42 (dk_at dksX1_drop_0 9 rfl rfl)
theorem dX1_drop_10 : decode cX1_drop 10 = .ok (.iconst 1, 1) := dk_4 (dk_at dksX1_drop_0 10 rfl rfl)
theorem dX1_drop_11 : decode cX1_drop 11 = .ok (.invokevirtual 40, 3) := dk_182 0 40 (dk_at dksX1_drop_0 11 rfl rfl)
theorem dX1_drop_14 : decode cX1_drop 14 = .ok (.ireturn, 1) := dk_172 (dk_at dksX1_drop_0 14 rfl rfl)
theorem dX1_drop_15 : decode cX1_drop 15 = .ok (.aload_n 0, 1) := dk_42 (dk_at dksX1_drop_0 15 rfl rfl)
theorem dX1_drop_16 : decode cX1_drop 16 = .ok (.aload_n 0, 1) := dk_42 (dk_at dksX1_drop_0 16 rfl rfl)
theorem dX1_drop_17 : decode cX1_drop 17 = .ok (.invokevirtual 344, 3) := dk_182 1 88 (dk_at dksX1_drop_0 17 rfl rfl)
theorem dX1_drop_20 : decode cX1_drop 20 = .ok (.getfield 71, 3) := dk_180 0 71 (dk_at dksX1_drop_0 20 rfl rfl)
theorem dX1_drop_23 : decode cX1_drop 23 = .ok (.iload_n 1, 1) := dk_27 (dk_at dksX1_drop_0 23 rfl rfl)
theorem dX1_drop_24 : decode cX1_drop 24 = .ok (.invokeinterface 93 2, 5) := by decide +kernel
theorem dX1_drop_29 : decode cX1_drop 29 = .ok (.checkcast 103, 3) := dk_192 0 103 (dk_at dksX1_drop_1 5 rfl rfl)
theorem dX1_drop_32 : decode cX1_drop 32 = .ok (.getfield 112, 3) := dk_180 0 112 (dk_at dksX1_drop_1 8 rfl rfl)
theorem dX1_drop_35 : decode cX1_drop 35 = .ok (.iload_n 2, 1) := dk_28 (dk_at dksX1_drop_1 11 rfl rfl)
theorem dX1_drop_36 : decode cX1_drop 36 = .ok (.invokeinterface 353 2, 5) := by decide +kernel
theorem dX1_drop_41 : decode cX1_drop 41 = .ok (.checkcast 214, 3) := dk_192 0 214 (dk_at dksX1_drop_1 17 rfl rfl)
theorem dX1_drop_44 : decode cX1_drop 44 = .ok (.getfield 216, 3) := dk_180 0 216 (dk_at dksX1_drop_1 20 rfl rfl)
theorem dX1_drop_47 : decode cX1_drop 47 = .ok (.invokevirtual 83, 3) := dk_182 0 83 (dk_at dksX1_drop_2 0 rfl rfl)
theorem dX1_drop_50 : decode cX1_drop 50 = .ok (.ireturn, 1) := dk_172 (dk_at dksX1_drop_2 3 rfl rfl)
theorem md_X1_drop : xMd yX1_drop cX1_drop 3 (Option.some Jvm.ClassFile.FieldType.int) 2 := ⟨q2813, q123, by decide, by decide +kernel, by decide +kernel, by decide +kernel⟩
def f_X1_drop (p0 : PH) (a0 : Nat) (a1 : Int32) (a2 : Int32) : Option (xO × PH) :=
  (xcl1 p0 a0 0 (xcI (f_X1_isPunch p0 a0 a1 a2) fun x2 p1 =>
  (if x2 = 0 then
  (xcI (f_X1_refused p1 a0 1) fun x20 p19 =>
  (rI x20 p19)) else
  (xcR (f_X1_acts p1 a0 ) fun x4 p3 =>
  (xnul x4 none fun b5 =>
  (xgR p3 b5 3 1 fun x6 =>
  (xnul x6 none fun b7 =>
  (xcR (f_J3_get p3 b7 a1) fun x9 p8 =>
  (xcst p8 (x9) [6]
  (xnul x9 none fun b10 =>
  (xgR p8 b10 6 4 fun x11 =>
  (xnul x11 none fun b12 =>
  (xcR (f_J3_remove p8 b12 a2) fun x14 p13 =>
  (xcst p13 (x14) [7]
  (xnul x14 none fun b15 =>
  (xgI p13 b15 7 0 fun x16 =>
  (xcI (f_X1_fine p13 a0 x16) fun x18 p17 =>
  (rI x18 p17))))))))))))))))))
theorem rc_X1_drop {p0 : PH} {a0 : Nat} {a1 : Int32} {a2 : Int32} : ∀ z, f_X1_drop p0 a0 a1 a2 = some z → xco p0 a0 = some 0 := fun z h => xcl1_some h
theorem f_X1_drop_ok {G : xG} (hO : xOK G) (p0 : PH) (a0 : Nat) (a1 : Int32) (a2 : Int32) : CT G 9 yX1_drop cX1_drop 3 (Option.some Jvm.ClassFile.FieldType.int) [.ref a0, .int a1, .int a2] p0 (f_X1_drop p0 a0 a1 a2) := by
  refine CT_of hO (by decide +kernel) (by decide +kernel) (Nat.le_of_ble_eq_true rfl) ?_
  show X G "ForestLegs" "drop" cX1_drop 3 (Option.some Jvm.ClassFile.FieldType.int) 9 0 [(0, .ref a0), (1, .int a1), (2, .int a2)] [] p0 (f_X1_drop p0 a0 a1 a2)
  refine x_cl1 (fun e0 => ?_)
  refine x_aload_nr 0 dX1_drop_0 rfl rfl (n := 1) rfl ?_
  refine x_iload_n 1 dX1_drop_1 rfl rfl (n := 2) rfl ?_
  refine x_iload_n 2 dX1_drop_2 rfl rfl (n := 3) rfl ?_
  refine x_callV_I [.int a1, .int a2] [] (f_X1_isPunch_ok hO p0 a0 a1 a2) rc_X1_isPunch md_X1_isPunch rfl q1949 q1951 qs43 dX1_drop_3 rfl rfl (by decide) (Nat.le_of_ble_eq_true rfl) (n := 6) rfl (fun x2 p1 => ?_)
  refine x_if_ne dX1_drop_6 (t := 15) (by decide) (n := 9) rfl (fun _ => ?_) (fun _ => ?_)
  · refine x_aload_nr 0 dX1_drop_15 rfl rfl (n := 16) rfl ?_
    refine x_aload_nr 0 dX1_drop_16 rfl rfl (n := 17) rfl ?_
    refine x_callV_R [] [.ref a0] (f_X1_acts_ok hO p1 a0 ) rc_X1_acts md_X1_acts rfl q2703 q2705 qs59 dX1_drop_17 rfl rfl (by decide) (Nat.le_of_ble_eq_true rfl) (n := 20) rfl (fun x4 p3 => ?_)
    refine x_sm (fun b5 e => ?_)
    subst e
    refine x_getR fl_X1_71 dX1_drop_20 (n := 23) rfl (fun x6 => ?_)
    refine x_iload_n 1 dX1_drop_23 rfl rfl (n := 24) rfl ?_
    refine x_sm (fun b7 e => ?_)
    subst e
    refine x_callF_R [.int a1] [.ref a0] (f_J3_get_ok hO p3 b7 a1) rc_J3_get md_J3_get rfl q1497 fc_java_util_ArrayList_java_util_List_get_1_ILjava dX1_drop_24 rfl rfl (by decide) (Nat.le_of_ble_eq_true rfl) (n := 29) rfl (fun x9 p8 => ?_)
    refine x_cast (x := x9) (cs := [6]) q1498 cst_ForestLegs_Runner dX1_drop_29 (n := 32) rfl ?_
    refine x_sm (fun b10 e => ?_)
    subst e
    refine x_getR fl_X1_112 dX1_drop_32 (n := 35) rfl (fun x11 => ?_)
    refine x_iload_n 2 dX1_drop_35 rfl rfl (n := 36) rfl ?_
    refine x_sm (fun b12 e => ?_)
    subst e
    refine x_callF_R [.int a2] [.ref a0] (f_J3_remove_ok hO p8 b12 a2) rc_J3_remove md_J3_remove rfl q2815 fc_java_util_ArrayList_java_util_List_remove_1_ILjava dX1_drop_36 rfl rfl (by decide) (Nat.le_of_ble_eq_true rfl) (n := 41) rfl (fun x14 p13 => ?_)
    refine x_cast (x := x14) (cs := [7]) q1953 cst_ForestLegs_Punch dX1_drop_41 (n := 44) rfl ?_
    refine x_sm (fun b15 e => ?_)
    subst e
    refine x_getI fl_X1_216 dX1_drop_44 (n := 47) rfl (fun x16 => ?_)
    refine x_callV_I [.int x16] [] (f_X1_fine_ok hO p13 a0 x16) rc_X1_fine md_X1_fine rfl q1480 q1482 qs26 dX1_drop_47 rfl rfl (by decide) (Nat.le_of_ble_eq_true rfl) (n := 50) rfl (fun x18 p17 => ?_)
    exact x_ireturn dX1_drop_50
  · refine x_aload_nr 0 dX1_drop_9 rfl rfl (n := 10) rfl ?_
    refine x_iconst 1 dX1_drop_10 rfl (n := 11) rfl ?_
    refine x_callV_I [.int 1] [] (f_X1_refused_ok hO p1 a0 1) rc_X1_refused md_X1_refused rfl q250 q252 qs0 dX1_drop_11 rfl rfl (by decide) (Nat.le_of_ble_eq_true rfl) (n := 14) rfl (fun x20 p19 => ?_)
    exact x_ireturn dX1_drop_14
abbrev cX1_start : ByteArray := prog_1_method_60_code
def yX1_start : MethodName := ⟨RX1, "start", "(II)I"⟩
def dkwX1_start_5 : List UInt8 := [182, 0, 83, 172]
abbrev dktX1_start_5 : List UInt8 := dkwX1_start_5 ++ []
def dkwX1_start_4 : List UInt8 := [182, 1, 88, 180, 0, 71, 27, 185, 0, 93, 2, 0, 192, 0, 103, 28, 181, 0, 199, 42, 45, 180, 0, 199]
abbrev dktX1_start_4 : List UInt8 := dkwX1_start_4 ++ dktX1_start_5
def dkwX1_start_3 : List UInt8 := [185, 0, 93, 2, 0, 192, 0, 214, 180, 0, 218, 28, 162, 0, 9, 42, 8, 182, 0, 40, 172, 42]
abbrev dktX1_start_3 : List UInt8 := dkwX1_start_3 ++ dktX1_start_4
def dkwX1_start_2 : List UInt8 := [5, 182, 0, 40, 172, 45, 180, 0, 112, 185, 0, 154, 1, 0, 154, 0, 29, 45, 180, 0, 112, 3]
abbrev dktX1_start_2 : List UInt8 := dkwX1_start_2 ++ dktX1_start_3
def dkwX1_start_1 : List UInt8 := [185, 0, 93, 2, 0, 192, 0, 103, 78, 28, 3, 45, 180, 0, 202, 4, 100, 184, 0, 36, 154, 0, 9, 42]
abbrev dktX1_start_1 : List UInt8 := dkwX1_start_1 ++ dktX1_start_2
def dkwX1_start_0 : List UInt8 := [42, 27, 182, 0, 100, 154, 0, 9, 42, 4, 182, 0, 40, 172, 42, 180, 0, 56, 180, 0, 71, 27]
abbrev dktX1_start_0 : List UInt8 := dkwX1_start_0 ++ dktX1_start_1
theorem dksX1_start_0 : cX1_start.data.toList.drop 0 = dktX1_start_0 := by decide +kernel
theorem dksX1_start_1 : cX1_start.data.toList.drop 22 = dktX1_start_1 := dk_seg dksX1_start_0 22 rfl rfl
theorem dksX1_start_2 : cX1_start.data.toList.drop 46 = dktX1_start_2 := dk_seg dksX1_start_1 24 rfl rfl
theorem dksX1_start_3 : cX1_start.data.toList.drop 68 = dktX1_start_3 := dk_seg dksX1_start_2 22 rfl rfl
theorem dksX1_start_4 : cX1_start.data.toList.drop 90 = dktX1_start_4 := dk_seg dksX1_start_3 22 rfl rfl
theorem dksX1_start_5 : cX1_start.data.toList.drop 114 = dktX1_start_5 := dk_seg dksX1_start_4 24 rfl rfl
theorem dX1_start_0 : decode cX1_start 0 = .ok (.aload_n 0, 1) := dk_42 (dk_at dksX1_start_0 0 rfl rfl)
theorem dX1_start_1 : decode cX1_start 1 = .ok (.iload_n 1, 1) := dk_27 (dk_at dksX1_start_0 1 rfl rfl)
theorem dX1_start_2 : decode cX1_start 2 = .ok (.invokevirtual 100, 3) := dk_182 0 100 (dk_at dksX1_start_0 2 rfl rfl)
theorem dX1_start_5 : decode cX1_start 5 = .ok (.ifCond .ne 9, 3) := dk_154 0 9 (dk_at dksX1_start_0 5 rfl rfl)
theorem dX1_start_8 : decode cX1_start 8 = .ok (.aload_n 0, 1) := dk_42 (dk_at dksX1_start_0 8 rfl rfl)
theorem dX1_start_9 : decode cX1_start 9 = .ok (.iconst 1, 1) := dk_4 (dk_at dksX1_start_0 9 rfl rfl)
theorem dX1_start_10 : decode cX1_start 10 = .ok (.invokevirtual 40, 3) := dk_182 0 40 (dk_at dksX1_start_0 10 rfl rfl)
theorem dX1_start_13 : decode cX1_start 13 = .ok (.ireturn, 1) := dk_172 (dk_at dksX1_start_0 13 rfl rfl)
theorem dX1_start_14 : decode cX1_start 14 = .ok (.aload_n 0, 1) := dk_42 (dk_at dksX1_start_0 14 rfl rfl)
theorem dX1_start_15 : decode cX1_start 15 = .ok (.getfield 56, 3) := dk_180 0 56 (dk_at dksX1_start_0 15 rfl rfl)
theorem dX1_start_18 : decode cX1_start 18 = .ok (.getfield 71, 3) := dk_180 0 71 (dk_at dksX1_start_0 18 rfl rfl)
theorem dX1_start_21 : decode cX1_start 21 = .ok (.iload_n 1, 1) := dk_27 (dk_at dksX1_start_0 21 rfl rfl)
theorem dX1_start_22 : decode cX1_start 22 = .ok (.invokeinterface 93 2, 5) := by decide +kernel
theorem dX1_start_27 : decode cX1_start 27 = .ok (.checkcast 103, 3) := dk_192 0 103 (dk_at dksX1_start_1 5 rfl rfl)
theorem dX1_start_30 : decode cX1_start 30 = .ok (.astore_n 3, 1) := dk_78 (dk_at dksX1_start_1 8 rfl rfl)
theorem dX1_start_31 : decode cX1_start 31 = .ok (.iload_n 2, 1) := dk_28 (dk_at dksX1_start_1 9 rfl rfl)
theorem dX1_start_32 : decode cX1_start 32 = .ok (.iconst 0, 1) := dk_3 (dk_at dksX1_start_1 10 rfl rfl)
theorem dX1_start_33 : decode cX1_start 33 = .ok (.aload_n 3, 1) := dk_45 (dk_at dksX1_start_1 11 rfl rfl)
theorem dX1_start_34 : decode cX1_start 34 = .ok (.getfield 202, 3) := dk_180 0 202 (dk_at dksX1_start_1 12 rfl rfl)
theorem dX1_start_37 : decode cX1_start 37 = .ok (.iconst 1, 1) := dk_4 (dk_at dksX1_start_1 15 rfl rfl)
theorem dX1_start_38 : decode cX1_start 38 = .ok (.isub, 1) := dk_100 (dk_at dksX1_start_1 16 rfl rfl)
theorem dX1_start_39 : decode cX1_start 39 = .ok (.invokestatic 36, 3) := dk_184 0 36 (dk_at dksX1_start_1 17 rfl rfl)
theorem dX1_start_42 : decode cX1_start 42 = .ok (.ifCond .ne 9, 3) := dk_154 0 9 (dk_at dksX1_start_1 20 rfl rfl)
theorem dX1_start_45 : decode cX1_start 45 = .ok (.aload_n 0, 1) := dk_42 (dk_at dksX1_start_1 23 rfl rfl)
theorem dX1_start_46 : decode cX1_start 46 = .ok (.iconst 2, 1) := dk_5 (dk_at dksX1_start_2 0 rfl rfl)
theorem dX1_start_47 : decode cX1_start 47 = .ok (.invokevirtual 40, 3) := dk_182 0 40 (dk_at dksX1_start_2 1 rfl rfl)
theorem dX1_start_50 : decode cX1_start 50 = .ok (.ireturn, 1) := dk_172 (dk_at dksX1_start_2 4 rfl rfl)
theorem dX1_start_51 : decode cX1_start 51 = .ok (.aload_n 3, 1) := dk_45 (dk_at dksX1_start_2 5 rfl rfl)
theorem dX1_start_52 : decode cX1_start 52 = .ok (.getfield 112, 3) := dk_180 0 112 (dk_at dksX1_start_2 6 rfl rfl)
theorem dX1_start_55 : decode cX1_start 55 = .ok (.invokeinterface 154 1, 5) := by decide +kernel
theorem dX1_start_60 : decode cX1_start 60 = .ok (.ifCond .ne 29, 3) := dk_154 0 29 (dk_at dksX1_start_2 14 rfl rfl)
theorem dX1_start_63 : decode cX1_start 63 = .ok (.aload_n 3, 1) := dk_45 (dk_at dksX1_start_2 17 rfl rfl)
theorem dX1_start_64 : decode cX1_start 64 = .ok (.getfield 112, 3) := dk_180 0 112 (dk_at dksX1_start_2 18 rfl rfl)
theorem dX1_start_67 : decode cX1_start 67 = .ok (.iconst 0, 1) := dk_3 (dk_at dksX1_start_2 21 rfl rfl)
theorem dX1_start_68 : decode cX1_start 68 = .ok (.invokeinterface 93 2, 5) := by decide +kernel
theorem dX1_start_73 : decode cX1_start 73 = .ok (.checkcast 214, 3) := dk_192 0 214 (dk_at dksX1_start_3 5 rfl rfl)
theorem dX1_start_76 : decode cX1_start 76 = .ok (.getfield 218, 3) := dk_180 0 218 (dk_at dksX1_start_3 8 rfl rfl)
theorem dX1_start_79 : decode cX1_start 79 = .ok (.iload_n 2, 1) := dk_28 (dk_at dksX1_start_3 11 rfl rfl)
theorem dX1_start_80 : decode cX1_start 80 = .ok (.if_icmp .ge 9, 3) := dk_162 0 9 (dk_at dksX1_start_3 12 rfl rfl)
theorem dX1_start_83 : decode cX1_start 83 = .ok (.aload_n 0, 1) := dk_42 (dk_at dksX1_start_3 15 rfl rfl)
theorem dX1_start_84 : decode cX1_start 84 = .ok (.iconst 5, 1) := dk_8 (dk_at dksX1_start_3 16 rfl rfl)
theorem dX1_start_85 : decode cX1_start 85 = .ok (.invokevirtual 40, 3) := dk_182 0 40 (dk_at dksX1_start_3 17 rfl rfl)
theorem dX1_start_88 : decode cX1_start 88 = .ok (.ireturn, 1) := dk_172 (dk_at dksX1_start_3 20 rfl rfl)
theorem dX1_start_89 : decode cX1_start 89 = .ok (.aload_n 0, 1) := dk_42 (dk_at dksX1_start_3 21 rfl rfl)
theorem dX1_start_90 : decode cX1_start 90 = .ok (.invokevirtual 344, 3) := dk_182 1 88 (dk_at dksX1_start_4 0 rfl rfl)
theorem dX1_start_93 : decode cX1_start 93 = .ok (.getfield 71, 3) := dk_180 0 71 (dk_at dksX1_start_4 3 rfl rfl)
theorem dX1_start_96 : decode cX1_start 96 = .ok (.iload_n 1, 1) := dk_27 (dk_at dksX1_start_4 6 rfl rfl)
theorem dX1_start_97 : decode cX1_start 97 = .ok (.invokeinterface 93 2, 5) := by decide +kernel
theorem dX1_start_102 : decode cX1_start 102 = .ok (.checkcast 103, 3) := dk_192 0 103 (dk_at dksX1_start_4 12 rfl rfl)
theorem dX1_start_105 : decode cX1_start 105 = .ok (.iload_n 2, 1) := dk_28 (dk_at dksX1_start_4 15 rfl rfl)
theorem dX1_start_106 : decode cX1_start 106 = .ok (.putfield 199, 3) := dk_181 0 199 (dk_at dksX1_start_4 16 rfl rfl)
theorem dX1_start_109 : decode cX1_start 109 = .ok (.aload_n 0, 1) := dk_42 (dk_at dksX1_start_4 19 rfl rfl)
theorem dX1_start_110 : decode cX1_start 110 = .ok (.aload_n 3, 1) := dk_45 (dk_at dksX1_start_4 20 rfl rfl)
theorem dX1_start_111 : decode cX1_start 111 = .ok (.getfield 199, 3) := dk_180 0 199 (dk_at dksX1_start_4 21 rfl rfl)
theorem dX1_start_114 : decode cX1_start 114 = .ok (.invokevirtual 83, 3) := dk_182 0 83 (dk_at dksX1_start_5 0 rfl rfl)
theorem dX1_start_117 : decode cX1_start 117 = .ok (.ireturn, 1) := dk_172 (dk_at dksX1_start_5 3 rfl rfl)
theorem md_X1_start : xMd yX1_start cX1_start 4 (Option.some Jvm.ClassFile.FieldType.int) 2 := ⟨q2824, q123, by decide, by decide +kernel, by decide +kernel, by decide +kernel⟩
def f_X1_start_89 (a0 : Nat)  (v1 : Int32) (v2 : Int32) (v3 : Option Nat) (p0 : PH) : Option (xO × PH) :=
  (xcR (f_X1_acts p0 a0 ) fun x18 p17 =>
  (xnul x18 none fun b19 =>
  (xgR p17 b19 3 1 fun x20 =>
  (xnul x20 none fun b21 =>
  (xcR (f_J3_get p17 b21 v1) fun x23 p22 =>
  (xcst p22 (x23) [6]
  (xnul x23 none fun b24 =>
  (xpF p22 b24 6 2 (.int v2) fun p25 =>
  (xnul v3 none fun b26 =>
  (xgI p25 b26 6 2 fun x27 =>
  (xcI (f_X1_fine p25 a0 x27) fun x29 p28 =>
  (rI x29 p28))))))))))))
def f_X1_start (p0 : PH) (a0 : Nat) (a1 : Int32) (a2 : Int32) : Option (xO × PH) :=
  (xcl1 p0 a0 0 (xcI (f_X1_isRunner p0 a0 a1) fun x2 p1 =>
  (if x2 = 0 then
  (xcI (f_X1_refused p1 a0 1) fun x41 p40 =>
  (rI x41 p40)) else
  (xgR p1 a0 0 5 fun x3 =>
  (xnul x3 none fun b4 =>
  (xgR p1 b4 3 1 fun x5 =>
  (xnul x5 none fun b6 =>
  (xcR (f_J3_get p1 b6 a1) fun x8 p7 =>
  (xcst p7 (x8) [6]
  (xnul x8 none fun b9 =>
  (xgI p7 b9 6 3 fun x10 =>
  (xcI (f_X1_isIn p7 a2 0 (x10 - 1)) fun x12 p11 =>
  (if x12 = 0 then
  (xcI (f_X1_refused p11 a0 2) fun x39 p38 =>
  (rI x39 p38)) else
  (xgR p11 b9 6 4 fun x13 =>
  (xnul x13 none fun b14 =>
  (xcI (f_J3_isEmpty p11 b14 ) fun x16 p15 =>
  (if x16 = 0 then
  (xgR p15 b9 6 4 fun x30 =>
  (xnul x30 none fun b31 =>
  (xcR (f_J3_get p15 b31 0) fun x33 p32 =>
  (xcst p32 (x33) [7]
  (xnul x33 none fun b34 =>
  (xgI p32 b34 7 1 fun x35 =>
  (if a2 ≤ x35 then
  (f_X1_start_89 a0 a1 a2 ((some b9)) p32) else
  (xcI (f_X1_refused p32 a0 5) fun x37 p36 =>
  (rI x37 p36))))))))) else
  (f_X1_start_89 a0 a1 a2 ((some b9)) p15))))))))))))))))))
theorem rc_X1_start {p0 : PH} {a0 : Nat} {a1 : Int32} {a2 : Int32} : ∀ z, f_X1_start p0 a0 a1 a2 = some z → xco p0 a0 = some 0 := fun z h => xcl1_some h
theorem f_X1_start_89_ok {G : xG} (hO : xOK G) (a0 : Nat)  (v1 : Int32) (v2 : Int32) (v3 : Option Nat) (p0 : PH) : X G "ForestLegs" "start" cX1_start 4 (Option.some Jvm.ClassFile.FieldType.int) 9 89 [(0, .ref a0), (1, .int v1), (2, .int v2), (3, va_rf v3)] [] p0 (f_X1_start_89 a0 v1 v2 v3 p0) := by
  unfold f_X1_start_89
  refine x_aload_nr 0 dX1_start_89 rfl rfl (n := 90) rfl ?_
  refine x_callV_R [] [] (f_X1_acts_ok hO p0 a0 ) rc_X1_acts md_X1_acts rfl q2703 q2705 qs59 dX1_start_90 rfl rfl (by decide) (Nat.le_of_ble_eq_true rfl) (n := 93) rfl (fun x18 p17 => ?_)
  refine x_sm (fun b19 e => ?_)
  subst e
  refine x_getR fl_X1_71 dX1_start_93 (n := 96) rfl (fun x20 => ?_)
  refine x_iload_n 1 dX1_start_96 rfl rfl (n := 97) rfl ?_
  refine x_sm (fun b21 e => ?_)
  subst e
  refine x_callF_R [.int v1] [] (f_J3_get_ok hO p17 b21 v1) rc_J3_get md_J3_get rfl q1497 fc_java_util_ArrayList_java_util_List_get_1_ILjava dX1_start_97 rfl rfl (by decide) (Nat.le_of_ble_eq_true rfl) (n := 102) rfl (fun x23 p22 => ?_)
  refine x_cast (x := x23) (cs := [6]) q1498 cst_ForestLegs_Runner dX1_start_102 (n := 105) rfl ?_
  refine x_iload_n 2 dX1_start_105 rfl rfl (n := 106) rfl ?_
  refine x_sm (fun b24 e => ?_)
  subst e
  refine x_pF (pl_X1_199 _ _ ⟨rfl, rfl⟩) dX1_start_106 (n := 109) rfl (fun p25 => ?_)
  refine x_aload_nr 0 dX1_start_109 rfl rfl (n := 110) rfl ?_
  refine x_aload_n 3 dX1_start_110 rfl rfl (n := 111) rfl ?_
  refine x_sm (fun b26 e => ?_)
  subst e
  refine x_getI fl_X1_199 dX1_start_111 (n := 114) rfl (fun x27 => ?_)
  refine x_callV_I [.int x27] [] (f_X1_fine_ok hO p25 a0 x27) rc_X1_fine md_X1_fine rfl q1480 q1482 qs26 dX1_start_114 rfl rfl (by decide) (Nat.le_of_ble_eq_true rfl) (n := 117) rfl (fun x29 p28 => ?_)
  exact x_ireturn dX1_start_117
theorem f_X1_start_ok {G : xG} (hO : xOK G) (p0 : PH) (a0 : Nat) (a1 : Int32) (a2 : Int32) : CT G 9 yX1_start cX1_start 4 (Option.some Jvm.ClassFile.FieldType.int) [.ref a0, .int a1, .int a2] p0 (f_X1_start p0 a0 a1 a2) := by
  refine CT_of hO (by decide +kernel) (by decide +kernel) (Nat.le_of_ble_eq_true rfl) ?_
  show X G "ForestLegs" "start" cX1_start 4 (Option.some Jvm.ClassFile.FieldType.int) 9 0 [(0, .ref a0), (1, .int a1), (2, .int a2)] [] p0 (f_X1_start p0 a0 a1 a2)
  refine x_cl1 (fun e0 => ?_)
  refine x_aload_nr 0 dX1_start_0 rfl rfl (n := 1) rfl ?_
  refine x_iload_n 1 dX1_start_1 rfl rfl (n := 2) rfl ?_
  refine x_callV_I [.int a1] [] (f_X1_isRunner_ok hO p0 a0 a1) rc_X1_isRunner md_X1_isRunner rfl q1780 q1782 qs41 dX1_start_2 rfl rfl (by decide) (Nat.le_of_ble_eq_true rfl) (n := 5) rfl (fun x2 p1 => ?_)
  refine x_if_ne dX1_start_5 (t := 14) (by decide) (n := 8) rfl (fun _ => ?_) (fun _ => ?_)
  · refine x_aload_nr 0 dX1_start_14 rfl rfl (n := 15) rfl ?_
    refine x_getR fl_X1_56 dX1_start_15 (n := 18) rfl (fun x3 => ?_)
    refine x_sm (fun b4 e => ?_)
    subst e
    refine x_getR fl_X1_71 dX1_start_18 (n := 21) rfl (fun x5 => ?_)
    refine x_iload_n 1 dX1_start_21 rfl rfl (n := 22) rfl ?_
    refine x_sm (fun b6 e => ?_)
    subst e
    refine x_callF_R [.int a1] [] (f_J3_get_ok hO p1 b6 a1) rc_J3_get md_J3_get rfl q1497 fc_java_util_ArrayList_java_util_List_get_1_ILjava dX1_start_22 rfl rfl (by decide) (Nat.le_of_ble_eq_true rfl) (n := 27) rfl (fun x8 p7 => ?_)
    refine x_cast (x := x8) (cs := [6]) q1498 cst_ForestLegs_Runner dX1_start_27 (n := 30) rfl ?_
    refine x_astore_n [(3, va_rf x8), (0, .ref a0), (1, .int a1), (2, .int a2)] dX1_start_30 rfl (by decide) rfl (n := 31) rfl ?_
    refine x_iload_n 3 dX1_start_31 rfl rfl (n := 32) rfl ?_
    refine x_iconst 0 dX1_start_32 rfl (n := 33) rfl ?_
    refine x_aload_n 0 dX1_start_33 rfl rfl (n := 34) rfl ?_
    refine x_sm (fun b9 e => ?_)
    subst e
    refine x_getI fl_X1_202 dX1_start_34 (n := 37) rfl (fun x10 => ?_)
    refine x_iconst 1 dX1_start_37 rfl (n := 38) rfl ?_
    refine x_isub dX1_start_38 (n := 39) rfl ?_
    refine x_callS_I [.int a2, .int 0, .int (x10 - 1)] [] (f_X1_isIn_ok hO p7 a2 0 (x10 - 1)) md_X1_isIn q247 q248 dX1_start_39 rfl rfl (by decide) (Nat.le_of_ble_eq_true rfl) (n := 42) rfl (fun x12 p11 => ?_)
    refine x_if_ne dX1_start_42 (t := 51) (by decide) (n := 45) rfl (fun _ => ?_) (fun _ => ?_)
    · refine x_aload_nr 0 dX1_start_51 rfl rfl (n := 52) rfl ?_
      refine x_getR fl_X1_112 dX1_start_52 (n := 55) rfl (fun x13 => ?_)
      refine x_sm (fun b14 e => ?_)
      subst e
      refine x_callF_I [] [] (f_J3_isEmpty_ok hO p11 b14 ) rc_J3_isEmpty md_J3_isEmpty rfl q1763 fc_java_util_ArrayList_java_util_List_isEmpty_0_Z dX1_start_55 rfl rfl (by decide) (Nat.le_of_ble_eq_true rfl) (n := 60) rfl (fun x16 p15 => ?_)
      refine x_if_ne dX1_start_60 (t := 89) (by decide) (n := 63) rfl (fun _ => ?_) (fun _ => ?_)
      · refine x_sub [1, 2, 3, 0] [(0, .ref a0), (1, .int a1), (2, .int a2), (3, .ref b9)] rfl ?_
        exact f_X1_start_89_ok hO a0 a1 a2 ((some b9)) p15
      · refine x_aload_nr 0 dX1_start_63 rfl rfl (n := 64) rfl ?_
        refine x_getR fl_X1_112 dX1_start_64 (n := 67) rfl (fun x30 => ?_)
        refine x_iconst 0 dX1_start_67 rfl (n := 68) rfl ?_
        refine x_sm (fun b31 e => ?_)
        subst e
        refine x_callF_R [.int 0] [] (f_J3_get_ok hO p15 b31 0) rc_J3_get md_J3_get rfl q1497 fc_java_util_ArrayList_java_util_List_get_1_ILjava dX1_start_68 rfl rfl (by decide) (Nat.le_of_ble_eq_true rfl) (n := 73) rfl (fun x33 p32 => ?_)
        refine x_cast (x := x33) (cs := [7]) q1953 cst_ForestLegs_Punch dX1_start_73 (n := 76) rfl ?_
        refine x_sm (fun b34 e => ?_)
        subst e
        refine x_getI fl_X1_218 dX1_start_76 (n := 79) rfl (fun x35 => ?_)
        refine x_iload_n 3 dX1_start_79 rfl rfl (n := 80) rfl ?_
        refine x_icmp_ge dX1_start_80 (t := 89) (by decide) (n := 83) rfl (fun _ => ?_) (fun _ => ?_)
        · refine x_sub [1, 2, 3, 0] [(0, .ref a0), (1, .int a1), (2, .int a2), (3, .ref b9)] rfl ?_
          exact f_X1_start_89_ok hO a0 a1 a2 ((some b9)) p32
        · refine x_aload_nr 1 dX1_start_83 rfl rfl (n := 84) rfl ?_
          refine x_iconst 5 dX1_start_84 rfl (n := 85) rfl ?_
          refine x_callV_I [.int 5] [] (f_X1_refused_ok hO p32 a0 5) rc_X1_refused md_X1_refused rfl q250 q252 qs0 dX1_start_85 rfl rfl (by decide) (Nat.le_of_ble_eq_true rfl) (n := 88) rfl (fun x37 p36 => ?_)
          exact x_ireturn dX1_start_88
    · refine x_aload_nr 1 dX1_start_45 rfl rfl (n := 46) rfl ?_
      refine x_iconst 2 dX1_start_46 rfl (n := 47) rfl ?_
      refine x_callV_I [.int 2] [] (f_X1_refused_ok hO p11 a0 2) rc_X1_refused md_X1_refused rfl q250 q252 qs0 dX1_start_47 rfl rfl (by decide) (Nat.le_of_ble_eq_true rfl) (n := 50) rfl (fun x39 p38 => ?_)
      exact x_ireturn dX1_start_50
  · refine x_aload_nr 0 dX1_start_8 rfl rfl (n := 9) rfl ?_
    refine x_iconst 1 dX1_start_9 rfl (n := 10) rfl ?_
    refine x_callV_I [.int 1] [] (f_X1_refused_ok hO p1 a0 1) rc_X1_refused md_X1_refused rfl q250 q252 qs0 dX1_start_10 rfl rfl (by decide) (Nat.le_of_ble_eq_true rfl) (n := 13) rfl (fun x41 p40 => ?_)
    exact x_ireturn dX1_start_13
abbrev cX1_finish : ByteArray := prog_1_method_61_code
def yX1_finish : MethodName := ⟨RX1, "finish", "(II)I"⟩
def dkwX1_finish_5 : List UInt8 := [185, 0, 93, 2, 0, 192, 0, 103, 28, 181, 0, 202, 42, 45, 180, 0, 202, 182, 0, 83, 172]
abbrev dktX1_finish_5 : List UInt8 := dkwX1_finish_5 ++ []
def dkwX1_finish_4 : List UInt8 := [180, 0, 218, 28, 164, 0, 9, 42, 8, 182, 0, 40, 172, 42, 182, 1, 88, 180, 0, 71, 27]
abbrev dktX1_finish_4 : List UInt8 := dkwX1_finish_4 ++ dktX1_finish_5
def dkwX1_finish_3 : List UInt8 := [180, 0, 112, 45, 180, 0, 112, 185, 0, 77, 1, 0, 4, 100, 185, 0, 93, 2, 0, 192, 0, 214]
abbrev dktX1_finish_3 : List UInt8 := dkwX1_finish_3 ++ dktX1_finish_4
def dkwX1_finish_2 : List UInt8 := [154, 0, 9, 42, 5, 182, 0, 40, 172, 45, 180, 0, 112, 185, 0, 154, 1, 0, 154, 0, 39, 45]
abbrev dktX1_finish_2 : List UInt8 := dkwX1_finish_2 ++ dktX1_finish_3
def dkwX1_finish_1 : List UInt8 := [185, 0, 93, 2, 0, 192, 0, 103, 78, 28, 45, 180, 0, 199, 4, 96, 17, 39, 15, 184, 0, 36]
abbrev dktX1_finish_1 : List UInt8 := dkwX1_finish_1 ++ dktX1_finish_2
def dkwX1_finish_0 : List UInt8 := [42, 27, 182, 0, 100, 154, 0, 9, 42, 4, 182, 0, 40, 172, 42, 180, 0, 56, 180, 0, 71, 27]
abbrev dktX1_finish_0 : List UInt8 := dkwX1_finish_0 ++ dktX1_finish_1
theorem dksX1_finish_0 : cX1_finish.data.toList.drop 0 = dktX1_finish_0 := by decide +kernel
theorem dksX1_finish_1 : cX1_finish.data.toList.drop 22 = dktX1_finish_1 := dk_seg dksX1_finish_0 22 rfl rfl
theorem dksX1_finish_2 : cX1_finish.data.toList.drop 44 = dktX1_finish_2 := dk_seg dksX1_finish_1 22 rfl rfl
theorem dksX1_finish_3 : cX1_finish.data.toList.drop 66 = dktX1_finish_3 := dk_seg dksX1_finish_2 22 rfl rfl
theorem dksX1_finish_4 : cX1_finish.data.toList.drop 88 = dktX1_finish_4 := dk_seg dksX1_finish_3 22 rfl rfl
theorem dksX1_finish_5 : cX1_finish.data.toList.drop 109 = dktX1_finish_5 := dk_seg dksX1_finish_4 21 rfl rfl
theorem dX1_finish_0 : decode cX1_finish 0 = .ok (.aload_n 0, 1) := dk_42 (dk_at dksX1_finish_0 0 rfl rfl)
theorem dX1_finish_1 : decode cX1_finish 1 = .ok (.iload_n 1, 1) := dk_27 (dk_at dksX1_finish_0 1 rfl rfl)
theorem dX1_finish_2 : decode cX1_finish 2 = .ok (.invokevirtual 100, 3) := dk_182 0 100 (dk_at dksX1_finish_0 2 rfl rfl)
theorem dX1_finish_5 : decode cX1_finish 5 = .ok (.ifCond .ne 9, 3) := dk_154 0 9 (dk_at dksX1_finish_0 5 rfl rfl)
theorem dX1_finish_8 : decode cX1_finish 8 = .ok (.aload_n 0, 1) := dk_42 (dk_at dksX1_finish_0 8 rfl rfl)
theorem dX1_finish_9 : decode cX1_finish 9 = .ok (.iconst 1, 1) := dk_4 (dk_at dksX1_finish_0 9 rfl rfl)
theorem dX1_finish_10 : decode cX1_finish 10 = .ok (.invokevirtual 40, 3) := dk_182 0 40 (dk_at dksX1_finish_0 10 rfl rfl)
theorem dX1_finish_13 : decode cX1_finish 13 = .ok (.ireturn, 1) := dk_172 (dk_at dksX1_finish_0 13 rfl rfl)
theorem dX1_finish_14 : decode cX1_finish 14 = .ok (.aload_n 0, 1) := dk_42 (dk_at dksX1_finish_0 14 rfl rfl)
theorem dX1_finish_15 : decode cX1_finish 15 = .ok (.getfield 56, 3) := dk_180 0 56 (dk_at dksX1_finish_0 15 rfl rfl)
theorem dX1_finish_18 : decode cX1_finish 18 = .ok (.getfield 71, 3) := dk_180 0 71 (dk_at dksX1_finish_0 18 rfl rfl)
theorem dX1_finish_21 : decode cX1_finish 21 = .ok (.iload_n 1, 1) := dk_27 (dk_at dksX1_finish_0 21 rfl rfl)
theorem dX1_finish_22 : decode cX1_finish 22 = .ok (.invokeinterface 93 2, 5) := by decide +kernel
theorem dX1_finish_27 : decode cX1_finish 27 = .ok (.checkcast 103, 3) := dk_192 0 103 (dk_at dksX1_finish_1 5 rfl rfl)
theorem dX1_finish_30 : decode cX1_finish 30 = .ok (.astore_n 3, 1) := dk_78 (dk_at dksX1_finish_1 8 rfl rfl)
theorem dX1_finish_31 : decode cX1_finish 31 = .ok (.iload_n 2, 1) := dk_28 (dk_at dksX1_finish_1 9 rfl rfl)
theorem dX1_finish_32 : decode cX1_finish 32 = .ok (.aload_n 3, 1) := dk_45 (dk_at dksX1_finish_1 10 rfl rfl)
theorem dX1_finish_33 : decode cX1_finish 33 = .ok (.getfield 199, 3) := dk_180 0 199 (dk_at dksX1_finish_1 11 rfl rfl)
theorem dX1_finish_36 : decode cX1_finish 36 = .ok (.iconst 1, 1) := dk_4 (dk_at dksX1_finish_1 14 rfl rfl)
theorem dX1_finish_37 : decode cX1_finish 37 = .ok (.iadd, 1) := dk_96 (dk_at dksX1_finish_1 15 rfl rfl)
theorem dX1_finish_38 : decode cX1_finish 38 = .ok (.sipush 9999, 3) := dk_17 39 15 (dk_at dksX1_finish_1 16 rfl rfl)
theorem dX1_finish_41 : decode cX1_finish 41 = .ok (.invokestatic 36, 3) := dk_184 0 36 (dk_at dksX1_finish_1 19 rfl rfl)
theorem dX1_finish_44 : decode cX1_finish 44 = .ok (.ifCond .ne 9, 3) := dk_154 0 9 (dk_at dksX1_finish_2 0 rfl rfl)
theorem dX1_finish_47 : decode cX1_finish 47 = .ok (.aload_n 0, 1) := dk_42 (dk_at dksX1_finish_2 3 rfl rfl)
theorem dX1_finish_48 : decode cX1_finish 48 = .ok (.iconst 2, 1) := dk_5 (dk_at dksX1_finish_2 4 rfl rfl)
theorem dX1_finish_49 : decode cX1_finish 49 = .ok (.invokevirtual 40, 3) := dk_182 0 40 (dk_at dksX1_finish_2 5 rfl rfl)
theorem dX1_finish_52 : decode cX1_finish 52 = .ok (.ireturn, 1) := dk_172 (dk_at dksX1_finish_2 8 rfl rfl)
theorem dX1_finish_53 : decode cX1_finish 53 = .ok (.aload_n 3, 1) := dk_45 (dk_at dksX1_finish_2 9 rfl rfl)
theorem dX1_finish_54 : decode cX1_finish 54 = .ok (.getfield 112, 3) := dk_180 0 112 (dk_at dksX1_finish_2 10 rfl rfl)
theorem dX1_finish_57 : decode cX1_finish 57 = .ok (.invokeinterface 154 1, 5) := by decide +kernel
theorem dX1_finish_62 : decode cX1_finish 62 = .ok (.ifCond .ne 39, 3) := dk_154 0 39 (dk_at dksX1_finish_2 18 rfl rfl)
theorem dX1_finish_65 : decode cX1_finish 65 = .ok (.aload_n 3, 1) := dk_45 (dk_at dksX1_finish_2 21 rfl rfl)
theorem dX1_finish_66 : decode cX1_finish 66 = .ok (.getfield 112, 3) := dk_180 0 112 (dk_at dksX1_finish_3 0 rfl rfl)
theorem dX1_finish_69 : decode cX1_finish 69 = .ok (.aload_n 3, 1) := dk_45 (dk_at dksX1_finish_3 3 rfl rfl)
theorem dX1_finish_70 : decode cX1_finish 70 = .ok (.getfield 112, 3) := dk_180 0 112 (dk_at dksX1_finish_3 4 rfl rfl)
theorem dX1_finish_73 : decode cX1_finish 73 = .ok (.invokeinterface 77 1, 5) := by decide +kernel
theorem dX1_finish_78 : decode cX1_finish 78 = .ok (.iconst 1, 1) := dk_4 (dk_at dksX1_finish_3 12 rfl rfl)
theorem dX1_finish_79 : decode cX1_finish 79 = .ok (.isub, 1) := dk_100 (dk_at dksX1_finish_3 13 rfl rfl)
theorem dX1_finish_80 : decode cX1_finish 80 = .ok (.invokeinterface 93 2, 5) := by decide +kernel
theorem dX1_finish_85 : decode cX1_finish 85 = .ok (.checkcast 214, 3) := dk_192 0 214 (dk_at dksX1_finish_3 19 rfl rfl)
theorem dX1_finish_88 : decode cX1_finish 88 = .ok (.getfield 218, 3) := dk_180 0 218 (dk_at dksX1_finish_4 0 rfl rfl)
theorem dX1_finish_91 : decode cX1_finish 91 = .ok (.iload_n 2, 1) := dk_28 (dk_at dksX1_finish_4 3 rfl rfl)
theorem dX1_finish_92 : decode cX1_finish 92 = .ok (.if_icmp .le 9, 3) := dk_164 0 9 (dk_at dksX1_finish_4 4 rfl rfl)
theorem dX1_finish_95 : decode cX1_finish 95 = .ok (.aload_n 0, 1) := dk_42 (dk_at dksX1_finish_4 7 rfl rfl)
theorem dX1_finish_96 : decode cX1_finish 96 = .ok (.iconst 5, 1) := dk_8 (dk_at dksX1_finish_4 8 rfl rfl)
theorem dX1_finish_97 : decode cX1_finish 97 = .ok (.invokevirtual 40, 3) := dk_182 0 40 (dk_at dksX1_finish_4 9 rfl rfl)
theorem dX1_finish_100 : decode cX1_finish 100 = .ok (.ireturn, 1) := dk_172 (dk_at dksX1_finish_4 12 rfl rfl)
theorem dX1_finish_101 : decode cX1_finish 101 = .ok (.aload_n 0, 1) := dk_42 (dk_at dksX1_finish_4 13 rfl rfl)
theorem dX1_finish_102 : decode cX1_finish 102 = .ok (.invokevirtual 344, 3) := dk_182 1 88 (dk_at dksX1_finish_4 14 rfl rfl)
theorem dX1_finish_105 : decode cX1_finish 105 = .ok (.getfield 71, 3) := dk_180 0 71 (dk_at dksX1_finish_4 17 rfl rfl)
theorem dX1_finish_108 : decode cX1_finish 108 = .ok (.iload_n 1, 1) := dk_27 (dk_at dksX1_finish_4 20 rfl rfl)
theorem dX1_finish_109 : decode cX1_finish 109 = .ok (.invokeinterface 93 2, 5) := by decide +kernel
theorem dX1_finish_114 : decode cX1_finish 114 = .ok (.checkcast 103, 3) := dk_192 0 103 (dk_at dksX1_finish_5 5 rfl rfl)
theorem dX1_finish_117 : decode cX1_finish 117 = .ok (.iload_n 2, 1) := dk_28 (dk_at dksX1_finish_5 8 rfl rfl)
theorem dX1_finish_118 : decode cX1_finish 118 = .ok (.putfield 202, 3) := dk_181 0 202 (dk_at dksX1_finish_5 9 rfl rfl)
theorem dX1_finish_121 : decode cX1_finish 121 = .ok (.aload_n 0, 1) := dk_42 (dk_at dksX1_finish_5 12 rfl rfl)
theorem dX1_finish_122 : decode cX1_finish 122 = .ok (.aload_n 3, 1) := dk_45 (dk_at dksX1_finish_5 13 rfl rfl)
theorem dX1_finish_123 : decode cX1_finish 123 = .ok (.getfield 202, 3) := dk_180 0 202 (dk_at dksX1_finish_5 14 rfl rfl)
theorem dX1_finish_126 : decode cX1_finish 126 = .ok (.invokevirtual 83, 3) := dk_182 0 83 (dk_at dksX1_finish_5 17 rfl rfl)
theorem dX1_finish_129 : decode cX1_finish 129 = .ok (.ireturn, 1) := dk_172 (dk_at dksX1_finish_5 20 rfl rfl)
theorem md_X1_finish : xMd yX1_finish cX1_finish 4 (Option.some Jvm.ClassFile.FieldType.int) 2 := ⟨q2828, q123, by decide, by decide +kernel, by decide +kernel, by decide +kernel⟩
def f_X1_finish_101 (a0 : Nat)  (v1 : Int32) (v2 : Int32) (v3 : Option Nat) (p0 : PH) : Option (xO × PH) :=
  (xcR (f_X1_acts p0 a0 ) fun x18 p17 =>
  (xnul x18 none fun b19 =>
  (xgR p17 b19 3 1 fun x20 =>
  (xnul x20 none fun b21 =>
  (xcR (f_J3_get p17 b21 v1) fun x23 p22 =>
  (xcst p22 (x23) [6]
  (xnul x23 none fun b24 =>
  (xpF p22 b24 6 3 (.int v2) fun p25 =>
  (xnul v3 none fun b26 =>
  (xgI p25 b26 6 3 fun x27 =>
  (xcI (f_X1_fine p25 a0 x27) fun x29 p28 =>
  (rI x29 p28))))))))))))
def f_X1_finish (p0 : PH) (a0 : Nat) (a1 : Int32) (a2 : Int32) : Option (xO × PH) :=
  (xcl1 p0 a0 0 (xcI (f_X1_isRunner p0 a0 a1) fun x2 p1 =>
  (if x2 = 0 then
  (xcI (f_X1_refused p1 a0 1) fun x45 p44 =>
  (rI x45 p44)) else
  (xgR p1 a0 0 5 fun x3 =>
  (xnul x3 none fun b4 =>
  (xgR p1 b4 3 1 fun x5 =>
  (xnul x5 none fun b6 =>
  (xcR (f_J3_get p1 b6 a1) fun x8 p7 =>
  (xcst p7 (x8) [6]
  (xnul x8 none fun b9 =>
  (xgI p7 b9 6 2 fun x10 =>
  (xcI (f_X1_isIn p7 a2 (x10 + 1) 9999) fun x12 p11 =>
  (if x12 = 0 then
  (xcI (f_X1_refused p11 a0 2) fun x43 p42 =>
  (rI x43 p42)) else
  (xgR p11 b9 6 4 fun x13 =>
  (xnul x13 none fun b14 =>
  (xcI (f_J3_isEmpty p11 b14 ) fun x16 p15 =>
  (if x16 = 0 then
  (xgR p15 b9 6 4 fun x30 =>
  (xgR p15 b9 6 4 fun x31 =>
  (xnul x31 none fun b32 =>
  (xcI (f_J3_size p15 b32 ) fun x34 p33 =>
  (xnul x30 none fun b35 =>
  (xcR (f_J3_get p33 b35 (x34 - 1)) fun x37 p36 =>
  (xcst p36 (x37) [7]
  (xnul x37 none fun b38 =>
  (xgI p36 b38 7 1 fun x39 =>
  (if x39 ≤ a2 then
  (f_X1_finish_101 a0 a1 a2 ((some b9)) p36) else
  (xcI (f_X1_refused p36 a0 5) fun x41 p40 =>
  (rI x41 p40)))))))))))) else
  (f_X1_finish_101 a0 a1 a2 ((some b9)) p15))))))))))))))))))
theorem rc_X1_finish {p0 : PH} {a0 : Nat} {a1 : Int32} {a2 : Int32} : ∀ z, f_X1_finish p0 a0 a1 a2 = some z → xco p0 a0 = some 0 := fun z h => xcl1_some h
theorem f_X1_finish_101_ok {G : xG} (hO : xOK G) (a0 : Nat)  (v1 : Int32) (v2 : Int32) (v3 : Option Nat) (p0 : PH) : X G "ForestLegs" "finish" cX1_finish 4 (Option.some Jvm.ClassFile.FieldType.int) 9 101 [(0, .ref a0), (1, .int v1), (2, .int v2), (3, va_rf v3)] [] p0 (f_X1_finish_101 a0 v1 v2 v3 p0) := by
  unfold f_X1_finish_101
  refine x_aload_nr 0 dX1_finish_101 rfl rfl (n := 102) rfl ?_
  refine x_callV_R [] [] (f_X1_acts_ok hO p0 a0 ) rc_X1_acts md_X1_acts rfl q2703 q2705 qs59 dX1_finish_102 rfl rfl (by decide) (Nat.le_of_ble_eq_true rfl) (n := 105) rfl (fun x18 p17 => ?_)
  refine x_sm (fun b19 e => ?_)
  subst e
  refine x_getR fl_X1_71 dX1_finish_105 (n := 108) rfl (fun x20 => ?_)
  refine x_iload_n 1 dX1_finish_108 rfl rfl (n := 109) rfl ?_
  refine x_sm (fun b21 e => ?_)
  subst e
  refine x_callF_R [.int v1] [] (f_J3_get_ok hO p17 b21 v1) rc_J3_get md_J3_get rfl q1497 fc_java_util_ArrayList_java_util_List_get_1_ILjava dX1_finish_109 rfl rfl (by decide) (Nat.le_of_ble_eq_true rfl) (n := 114) rfl (fun x23 p22 => ?_)
  refine x_cast (x := x23) (cs := [6]) q1498 cst_ForestLegs_Runner dX1_finish_114 (n := 117) rfl ?_
  refine x_iload_n 2 dX1_finish_117 rfl rfl (n := 118) rfl ?_
  refine x_sm (fun b24 e => ?_)
  subst e
  refine x_pF (pl_X1_202 _ _ ⟨rfl, rfl⟩) dX1_finish_118 (n := 121) rfl (fun p25 => ?_)
  refine x_aload_nr 0 dX1_finish_121 rfl rfl (n := 122) rfl ?_
  refine x_aload_n 3 dX1_finish_122 rfl rfl (n := 123) rfl ?_
  refine x_sm (fun b26 e => ?_)
  subst e
  refine x_getI fl_X1_202 dX1_finish_123 (n := 126) rfl (fun x27 => ?_)
  refine x_callV_I [.int x27] [] (f_X1_fine_ok hO p25 a0 x27) rc_X1_fine md_X1_fine rfl q1480 q1482 qs26 dX1_finish_126 rfl rfl (by decide) (Nat.le_of_ble_eq_true rfl) (n := 129) rfl (fun x29 p28 => ?_)
  exact x_ireturn dX1_finish_129
theorem f_X1_finish_ok {G : xG} (hO : xOK G) (p0 : PH) (a0 : Nat) (a1 : Int32) (a2 : Int32) : CT G 9 yX1_finish cX1_finish 4 (Option.some Jvm.ClassFile.FieldType.int) [.ref a0, .int a1, .int a2] p0 (f_X1_finish p0 a0 a1 a2) := by
  refine CT_of hO (by decide +kernel) (by decide +kernel) (Nat.le_of_ble_eq_true rfl) ?_
  show X G "ForestLegs" "finish" cX1_finish 4 (Option.some Jvm.ClassFile.FieldType.int) 9 0 [(0, .ref a0), (1, .int a1), (2, .int a2)] [] p0 (f_X1_finish p0 a0 a1 a2)
  refine x_cl1 (fun e0 => ?_)
  refine x_aload_nr 0 dX1_finish_0 rfl rfl (n := 1) rfl ?_
  refine x_iload_n 1 dX1_finish_1 rfl rfl (n := 2) rfl ?_
  refine x_callV_I [.int a1] [] (f_X1_isRunner_ok hO p0 a0 a1) rc_X1_isRunner md_X1_isRunner rfl q1780 q1782 qs41 dX1_finish_2 rfl rfl (by decide) (Nat.le_of_ble_eq_true rfl) (n := 5) rfl (fun x2 p1 => ?_)
  refine x_if_ne dX1_finish_5 (t := 14) (by decide) (n := 8) rfl (fun _ => ?_) (fun _ => ?_)
  · refine x_aload_nr 0 dX1_finish_14 rfl rfl (n := 15) rfl ?_
    refine x_getR fl_X1_56 dX1_finish_15 (n := 18) rfl (fun x3 => ?_)
    refine x_sm (fun b4 e => ?_)
    subst e
    refine x_getR fl_X1_71 dX1_finish_18 (n := 21) rfl (fun x5 => ?_)
    refine x_iload_n 1 dX1_finish_21 rfl rfl (n := 22) rfl ?_
    refine x_sm (fun b6 e => ?_)
    subst e
    refine x_callF_R [.int a1] [] (f_J3_get_ok hO p1 b6 a1) rc_J3_get md_J3_get rfl q1497 fc_java_util_ArrayList_java_util_List_get_1_ILjava dX1_finish_22 rfl rfl (by decide) (Nat.le_of_ble_eq_true rfl) (n := 27) rfl (fun x8 p7 => ?_)
    refine x_cast (x := x8) (cs := [6]) q1498 cst_ForestLegs_Runner dX1_finish_27 (n := 30) rfl ?_
    refine x_astore_n [(3, va_rf x8), (0, .ref a0), (1, .int a1), (2, .int a2)] dX1_finish_30 rfl (by decide) rfl (n := 31) rfl ?_
    refine x_iload_n 3 dX1_finish_31 rfl rfl (n := 32) rfl ?_
    refine x_aload_n 0 dX1_finish_32 rfl rfl (n := 33) rfl ?_
    refine x_sm (fun b9 e => ?_)
    subst e
    refine x_getI fl_X1_199 dX1_finish_33 (n := 36) rfl (fun x10 => ?_)
    refine x_iconst 1 dX1_finish_36 rfl (n := 37) rfl ?_
    refine x_iadd dX1_finish_37 (n := 38) rfl ?_
    refine x_sipush 9999 dX1_finish_38 rfl (n := 41) rfl ?_
    refine x_callS_I [.int a2, .int (x10 + 1), .int 9999] [] (f_X1_isIn_ok hO p7 a2 (x10 + 1) 9999) md_X1_isIn q247 q248 dX1_finish_41 rfl rfl (by decide) (Nat.le_of_ble_eq_true rfl) (n := 44) rfl (fun x12 p11 => ?_)
    refine x_if_ne dX1_finish_44 (t := 53) (by decide) (n := 47) rfl (fun _ => ?_) (fun _ => ?_)
    · refine x_aload_nr 0 dX1_finish_53 rfl rfl (n := 54) rfl ?_
      refine x_getR fl_X1_112 dX1_finish_54 (n := 57) rfl (fun x13 => ?_)
      refine x_sm (fun b14 e => ?_)
      subst e
      refine x_callF_I [] [] (f_J3_isEmpty_ok hO p11 b14 ) rc_J3_isEmpty md_J3_isEmpty rfl q1763 fc_java_util_ArrayList_java_util_List_isEmpty_0_Z dX1_finish_57 rfl rfl (by decide) (Nat.le_of_ble_eq_true rfl) (n := 62) rfl (fun x16 p15 => ?_)
      refine x_if_ne dX1_finish_62 (t := 101) (by decide) (n := 65) rfl (fun _ => ?_) (fun _ => ?_)
      · refine x_sub [1, 2, 3, 0] [(0, .ref a0), (1, .int a1), (2, .int a2), (3, .ref b9)] rfl ?_
        exact f_X1_finish_101_ok hO a0 a1 a2 ((some b9)) p15
      · refine x_aload_nr 0 dX1_finish_65 rfl rfl (n := 66) rfl ?_
        refine x_getR fl_X1_112 dX1_finish_66 (n := 69) rfl (fun x30 => ?_)
        refine x_aload_nr 0 dX1_finish_69 rfl rfl (n := 70) rfl ?_
        refine x_getR fl_X1_112 dX1_finish_70 (n := 73) rfl (fun x31 => ?_)
        refine x_sm (fun b32 e => ?_)
        subst e
        refine x_callF_I [] [va_rf x30] (f_J3_size_ok hO p15 b32 ) rc_J3_size md_J3_size rfl q1479 fc_java_util_ArrayList_java_util_List_size_0_I dX1_finish_73 rfl rfl (by decide) (by simp only [List.map, xcat]; exact Nat.le_of_ble_eq_true rfl) (n := 78) rfl (fun x34 p33 => ?_)
        refine x_iconst 1 dX1_finish_78 rfl (n := 79) rfl ?_
        refine x_isub dX1_finish_79 (n := 80) rfl ?_
        refine x_sm (fun b35 e => ?_)
        subst e
        refine x_callF_R [.int (x34 - 1)] [] (f_J3_get_ok hO p33 b35 (x34 - 1)) rc_J3_get md_J3_get rfl q1497 fc_java_util_ArrayList_java_util_List_get_1_ILjava dX1_finish_80 rfl rfl (by decide) (Nat.le_of_ble_eq_true rfl) (n := 85) rfl (fun x37 p36 => ?_)
        refine x_cast (x := x37) (cs := [7]) q1953 cst_ForestLegs_Punch dX1_finish_85 (n := 88) rfl ?_
        refine x_sm (fun b38 e => ?_)
        subst e
        refine x_getI fl_X1_218 dX1_finish_88 (n := 91) rfl (fun x39 => ?_)
        refine x_iload_n 3 dX1_finish_91 rfl rfl (n := 92) rfl ?_
        refine x_icmp_le dX1_finish_92 (t := 101) (by decide) (n := 95) rfl (fun _ => ?_) (fun _ => ?_)
        · refine x_sub [1, 2, 3, 0] [(0, .ref a0), (1, .int a1), (2, .int a2), (3, .ref b9)] rfl ?_
          exact f_X1_finish_101_ok hO a0 a1 a2 ((some b9)) p36
        · refine x_aload_nr 1 dX1_finish_95 rfl rfl (n := 96) rfl ?_
          refine x_iconst 5 dX1_finish_96 rfl (n := 97) rfl ?_
          refine x_callV_I [.int 5] [] (f_X1_refused_ok hO p36 a0 5) rc_X1_refused md_X1_refused rfl q250 q252 qs0 dX1_finish_97 rfl rfl (by decide) (Nat.le_of_ble_eq_true rfl) (n := 100) rfl (fun x41 p40 => ?_)
          exact x_ireturn dX1_finish_100
    · refine x_aload_nr 1 dX1_finish_47 rfl rfl (n := 48) rfl ?_
      refine x_iconst 2 dX1_finish_48 rfl (n := 49) rfl ?_
      refine x_callV_I [.int 2] [] (f_X1_refused_ok hO p11 a0 2) rc_X1_refused md_X1_refused rfl q250 q252 qs0 dX1_finish_49 rfl rfl (by decide) (Nat.le_of_ble_eq_true rfl) (n := 52) rfl (fun x43 p42 => ?_)
      exact x_ireturn dX1_finish_52
  · refine x_aload_nr 0 dX1_finish_8 rfl rfl (n := 9) rfl ?_
    refine x_iconst 1 dX1_finish_9 rfl (n := 10) rfl ?_
    refine x_callV_I [.int 1] [] (f_X1_refused_ok hO p1 a0 1) rc_X1_refused md_X1_refused rfl q250 q252 qs0 dX1_finish_10 rfl rfl (by decide) (Nat.le_of_ble_eq_true rfl) (n := 13) rfl (fun x45 p44 => ?_)
    exact x_ireturn dX1_finish_13
abbrev cX1_move : ByteArray := prog_1_method_62_code
def yX1_move : MethodName := ⟨RX1, "move", "(II)I"⟩
def dkwX1_move_2 : List UInt8 := [180, 0, 71, 27, 185, 0, 93, 2, 0, 192, 0, 103, 28, 181, 0, 105, 42, 29, 182, 0, 83, 172]
abbrev dktX1_move_2 : List UInt8 := dkwX1_move_2 ++ []
def dkwX1_move_1 : List UInt8 := [180, 0, 56, 180, 0, 71, 27, 185, 0, 93, 2, 0, 192, 0, 103, 180, 0, 105, 62, 42, 182, 1, 88]
abbrev dktX1_move_1 : List UInt8 := dkwX1_move_1 ++ dktX1_move_2
def dkwX1_move_0 : List UInt8 := [42, 27, 182, 0, 100, 153, 0, 11, 42, 28, 182, 0, 89, 154, 0, 9, 42, 4, 182, 0, 40, 172, 42]
abbrev dktX1_move_0 : List UInt8 := dkwX1_move_0 ++ dktX1_move_1
theorem dksX1_move_0 : cX1_move.data.toList.drop 0 = dktX1_move_0 := by decide +kernel
theorem dksX1_move_1 : cX1_move.data.toList.drop 23 = dktX1_move_1 := dk_seg dksX1_move_0 23 rfl rfl
theorem dksX1_move_2 : cX1_move.data.toList.drop 46 = dktX1_move_2 := dk_seg dksX1_move_1 23 rfl rfl
theorem dX1_move_0 : decode cX1_move 0 = .ok (.aload_n 0, 1) := dk_42 (dk_at dksX1_move_0 0 rfl rfl)
theorem dX1_move_1 : decode cX1_move 1 = .ok (.iload_n 1, 1) := dk_27 (dk_at dksX1_move_0 1 rfl rfl)
theorem dX1_move_2 : decode cX1_move 2 = .ok (.invokevirtual 100, 3) := dk_182 0 100 (dk_at dksX1_move_0 2 rfl rfl)
theorem dX1_move_5 : decode cX1_move 5 = .ok (.ifCond .eq 11, 3) := dk_153 0 11 (dk_at dksX1_move_0 5 rfl rfl)
theorem dX1_move_8 : decode cX1_move 8 = .ok (.aload_n 0, 1) := dk_42 (dk_at dksX1_move_0 8 rfl rfl)
theorem dX1_move_9 : decode cX1_move 9 = .ok (.iload_n 2, 1) := dk_28 (dk_at dksX1_move_0 9 rfl rfl)
theorem dX1_move_10 : decode cX1_move 10 = .ok (.invokevirtual 89, 3) := dk_182 0 89 (dk_at dksX1_move_0 10 rfl rfl)
theorem dX1_move_13 : decode cX1_move 13 = .ok (.ifCond .ne 9, 3) := dk_154 0 9 (dk_at dksX1_move_0 13 rfl rfl)
theorem dX1_move_16 : decode cX1_move 16 = .ok (.aload_n 0, 1) := dk_42 (dk_at dksX1_move_0 16 rfl rfl)
theorem dX1_move_17 : decode cX1_move 17 = .ok (.iconst 1, 1) := dk_4 (dk_at dksX1_move_0 17 rfl rfl)
theorem dX1_move_18 : decode cX1_move 18 = .ok (.invokevirtual 40, 3) := dk_182 0 40 (dk_at dksX1_move_0 18 rfl rfl)
theorem dX1_move_21 : decode cX1_move 21 = .ok (.ireturn, 1) := dk_172 (dk_at dksX1_move_0 21 rfl rfl)
theorem dX1_move_22 : decode cX1_move 22 = .ok (.aload_n 0, 1) := dk_42 (dk_at dksX1_move_0 22 rfl rfl)
theorem dX1_move_23 : decode cX1_move 23 = .ok (.getfield 56, 3) := dk_180 0 56 (dk_at dksX1_move_1 0 rfl rfl)
theorem dX1_move_26 : decode cX1_move 26 = .ok (.getfield 71, 3) := dk_180 0 71 (dk_at dksX1_move_1 3 rfl rfl)
theorem dX1_move_29 : decode cX1_move 29 = .ok (.iload_n 1, 1) := dk_27 (dk_at dksX1_move_1 6 rfl rfl)
theorem dX1_move_30 : decode cX1_move 30 = .ok (.invokeinterface 93 2, 5) := by decide +kernel
theorem dX1_move_35 : decode cX1_move 35 = .ok (.checkcast 103, 3) := dk_192 0 103 (dk_at dksX1_move_1 12 rfl rfl)
theorem dX1_move_38 : decode cX1_move 38 = .ok (.getfield 105, 3) := dk_180 0 105 (dk_at dksX1_move_1 15 rfl rfl)
theorem dX1_move_41 : decode cX1_move 41 = .ok (.istore_n 3, 1) := dk_62 (dk_at dksX1_move_1 18 rfl rfl)
theorem dX1_move_42 : decode cX1_move 42 = .ok (.aload_n 0, 1) := dk_42 (dk_at dksX1_move_1 19 rfl rfl)
theorem dX1_move_43 : decode cX1_move 43 = .ok (.invokevirtual 344, 3) := dk_182 1 88 (dk_at dksX1_move_1 20 rfl rfl)
theorem dX1_move_46 : decode cX1_move 46 = .ok (.getfield 71, 3) := dk_180 0 71 (dk_at dksX1_move_2 0 rfl rfl)
theorem dX1_move_49 : decode cX1_move 49 = .ok (.iload_n 1, 1) := dk_27 (dk_at dksX1_move_2 3 rfl rfl)
theorem dX1_move_50 : decode cX1_move 50 = .ok (.invokeinterface 93 2, 5) := by decide +kernel
theorem dX1_move_55 : decode cX1_move 55 = .ok (.checkcast 103, 3) := dk_192 0 103 (dk_at dksX1_move_2 9 rfl rfl)
theorem dX1_move_58 : decode cX1_move 58 = .ok (.iload_n 2, 1) := dk_28 (dk_at dksX1_move_2 12 rfl rfl)
theorem dX1_move_59 : decode cX1_move 59 = .ok (.putfield 105, 3) := dk_181 0 105 (dk_at dksX1_move_2 13 rfl rfl)
theorem dX1_move_62 : decode cX1_move 62 = .ok (.aload_n 0, 1) := dk_42 (dk_at dksX1_move_2 16 rfl rfl)
theorem dX1_move_63 : decode cX1_move 63 = .ok (.iload_n 3, 1) := dk_29 (dk_at dksX1_move_2 17 rfl rfl)
theorem dX1_move_64 : decode cX1_move 64 = .ok (.invokevirtual 83, 3) := dk_182 0 83 (dk_at dksX1_move_2 18 rfl rfl)
theorem dX1_move_67 : decode cX1_move 67 = .ok (.ireturn, 1) := dk_172 (dk_at dksX1_move_2 21 rfl rfl)
theorem md_X1_move : xMd yX1_move cX1_move 4 (Option.some Jvm.ClassFile.FieldType.int) 2 := ⟨q2832, q123, by decide, by decide +kernel, by decide +kernel, by decide +kernel⟩
def f_X1_move_16 (a0 : Nat)   (p0 : PH) : Option (xO × PH) :=
  (xcI (f_X1_refused p0 a0 1) fun x4 p3 =>
  (rI x4 p3))
def f_X1_move (p0 : PH) (a0 : Nat) (a1 : Int32) (a2 : Int32) : Option (xO × PH) :=
  (xcl1 p0 a0 0 (xcI (f_X1_isRunner p0 a0 a1) fun x2 p1 =>
  (if x2 = 0 then
  (f_X1_move_16 a0  p1) else
  (xcI (f_X1_isCourse p1 a0 a2) fun x6 p5 =>
  (if x6 = 0 then
  (f_X1_move_16 a0  p5) else
  (xgR p5 a0 0 5 fun x7 =>
  (xnul x7 none fun b8 =>
  (xgR p5 b8 3 1 fun x9 =>
  (xnul x9 none fun b10 =>
  (xcR (f_J3_get p5 b10 a1) fun x12 p11 =>
  (xcst p11 (x12) [6]
  (xnul x12 none fun b13 =>
  (xgI p11 b13 6 1 fun x14 =>
  (xcR (f_X1_acts p11 a0 ) fun x16 p15 =>
  (xnul x16 none fun b17 =>
  (xgR p15 b17 3 1 fun x18 =>
  (xnul x18 none fun b19 =>
  (xcR (f_J3_get p15 b19 a1) fun x21 p20 =>
  (xcst p20 (x21) [6]
  (xnul x21 none fun b22 =>
  (xpF p20 b22 6 1 (.int a2) fun p23 =>
  (xcI (f_X1_fine p23 a0 x14) fun x25 p24 =>
  (rI x25 p24)))))))))))))))))))))))
theorem rc_X1_move {p0 : PH} {a0 : Nat} {a1 : Int32} {a2 : Int32} : ∀ z, f_X1_move p0 a0 a1 a2 = some z → xco p0 a0 = some 0 := fun z h => xcl1_some h
theorem f_X1_move_16_ok {G : xG} (hO : xOK G) (a0 : Nat)   (p0 : PH) : X G "ForestLegs" "move" cX1_move 4 (Option.some Jvm.ClassFile.FieldType.int) 9 16 [(0, .ref a0)] [] p0 (f_X1_move_16 a0  p0) := by
  unfold f_X1_move_16
  refine x_aload_nr 0 dX1_move_16 rfl rfl (n := 17) rfl ?_
  refine x_iconst 1 dX1_move_17 rfl (n := 18) rfl ?_
  refine x_callV_I [.int 1] [] (f_X1_refused_ok hO p0 a0 1) rc_X1_refused md_X1_refused rfl q250 q252 qs0 dX1_move_18 rfl rfl (by decide) (Nat.le_of_ble_eq_true rfl) (n := 21) rfl (fun x4 p3 => ?_)
  exact x_ireturn dX1_move_21
theorem f_X1_move_ok {G : xG} (hO : xOK G) (p0 : PH) (a0 : Nat) (a1 : Int32) (a2 : Int32) : CT G 9 yX1_move cX1_move 4 (Option.some Jvm.ClassFile.FieldType.int) [.ref a0, .int a1, .int a2] p0 (f_X1_move p0 a0 a1 a2) := by
  refine CT_of hO (by decide +kernel) (by decide +kernel) (Nat.le_of_ble_eq_true rfl) ?_
  show X G "ForestLegs" "move" cX1_move 4 (Option.some Jvm.ClassFile.FieldType.int) 9 0 [(0, .ref a0), (1, .int a1), (2, .int a2)] [] p0 (f_X1_move p0 a0 a1 a2)
  refine x_cl1 (fun e0 => ?_)
  refine x_aload_nr 0 dX1_move_0 rfl rfl (n := 1) rfl ?_
  refine x_iload_n 1 dX1_move_1 rfl rfl (n := 2) rfl ?_
  refine x_callV_I [.int a1] [] (f_X1_isRunner_ok hO p0 a0 a1) rc_X1_isRunner md_X1_isRunner rfl q1780 q1782 qs41 dX1_move_2 rfl rfl (by decide) (Nat.le_of_ble_eq_true rfl) (n := 5) rfl (fun x2 p1 => ?_)
  refine x_if_eq dX1_move_5 (t := 16) (by decide) (n := 8) rfl (fun _ => ?_) (fun _ => ?_)
  · refine x_sub [0] [(0, .ref a0)] rfl ?_
    exact f_X1_move_16_ok hO a0  p1
  · refine x_aload_nr 0 dX1_move_8 rfl rfl (n := 9) rfl ?_
    refine x_iload_n 2 dX1_move_9 rfl rfl (n := 10) rfl ?_
    refine x_callV_I [.int a2] [] (f_X1_isCourse_ok hO p1 a0 a2) rc_X1_isCourse md_X1_isCourse rfl q1566 q1568 qs29 dX1_move_10 rfl rfl (by decide) (Nat.le_of_ble_eq_true rfl) (n := 13) rfl (fun x6 p5 => ?_)
    refine x_if_ne dX1_move_13 (t := 22) (by decide) (n := 16) rfl (fun _ => ?_) (fun _ => ?_)
    · refine x_aload_nr 0 dX1_move_22 rfl rfl (n := 23) rfl ?_
      refine x_getR fl_X1_56 dX1_move_23 (n := 26) rfl (fun x7 => ?_)
      refine x_sm (fun b8 e => ?_)
      subst e
      refine x_getR fl_X1_71 dX1_move_26 (n := 29) rfl (fun x9 => ?_)
      refine x_iload_n 1 dX1_move_29 rfl rfl (n := 30) rfl ?_
      refine x_sm (fun b10 e => ?_)
      subst e
      refine x_callF_R [.int a1] [] (f_J3_get_ok hO p5 b10 a1) rc_J3_get md_J3_get rfl q1497 fc_java_util_ArrayList_java_util_List_get_1_ILjava dX1_move_30 rfl rfl (by decide) (Nat.le_of_ble_eq_true rfl) (n := 35) rfl (fun x12 p11 => ?_)
      refine x_cast (x := x12) (cs := [6]) q1498 cst_ForestLegs_Runner dX1_move_35 (n := 38) rfl ?_
      refine x_sm (fun b13 e => ?_)
      subst e
      refine x_getI fl_X1_105 dX1_move_38 (n := 41) rfl (fun x14 => ?_)
      refine x_istore_n [(3, .int x14), (0, .ref a0), (1, .int a1), (2, .int a2)] dX1_move_41 rfl (by decide) rfl (n := 42) rfl ?_
      refine x_aload_nr 1 dX1_move_42 rfl rfl (n := 43) rfl ?_
      refine x_callV_R [] [] (f_X1_acts_ok hO p11 a0 ) rc_X1_acts md_X1_acts rfl q2703 q2705 qs59 dX1_move_43 rfl rfl (by decide) (Nat.le_of_ble_eq_true rfl) (n := 46) rfl (fun x16 p15 => ?_)
      refine x_sm (fun b17 e => ?_)
      subst e
      refine x_getR fl_X1_71 dX1_move_46 (n := 49) rfl (fun x18 => ?_)
      refine x_iload_n 2 dX1_move_49 rfl rfl (n := 50) rfl ?_
      refine x_sm (fun b19 e => ?_)
      subst e
      refine x_callF_R [.int a1] [] (f_J3_get_ok hO p15 b19 a1) rc_J3_get md_J3_get rfl q1497 fc_java_util_ArrayList_java_util_List_get_1_ILjava dX1_move_50 rfl rfl (by decide) (Nat.le_of_ble_eq_true rfl) (n := 55) rfl (fun x21 p20 => ?_)
      refine x_cast (x := x21) (cs := [6]) q1498 cst_ForestLegs_Runner dX1_move_55 (n := 58) rfl ?_
      refine x_iload_n 3 dX1_move_58 rfl rfl (n := 59) rfl ?_
      refine x_sm (fun b22 e => ?_)
      subst e
      refine x_pF (pl_X1_105 _ _ ⟨rfl, rfl⟩) dX1_move_59 (n := 62) rfl (fun p23 => ?_)
      refine x_aload_nr 1 dX1_move_62 rfl rfl (n := 63) rfl ?_
      refine x_iload_n 0 dX1_move_63 rfl rfl (n := 64) rfl ?_
      refine x_callV_I [.int x14] [] (f_X1_fine_ok hO p23 a0 x14) rc_X1_fine md_X1_fine rfl q1480 q1482 qs26 dX1_move_64 rfl rfl (by decide) (Nat.le_of_ble_eq_true rfl) (n := 67) rfl (fun x25 p24 => ?_)
      exact x_ireturn dX1_move_67
    · refine x_sub [0] [(0, .ref a0)] rfl ?_
      exact f_X1_move_16_ok hO a0  p5
abbrev cX1_become : ByteArray := prog_1_method_63_code
def yX1_become : MethodName := ⟨RX1, "become", "(II)I"⟩
def dkwX1_become_3 : List UInt8 := [154, 0, 10, 45, 180, 0, 118, 167, 0, 7, 45, 180, 0, 121, 182, 0, 83, 172]
abbrev dktX1_become_3 : List UInt8 := dkwX1_become_3 ++ []
def dkwX1_become_2 : List UInt8 := [58, 4, 27, 154, 0, 12, 25, 4, 28, 181, 0, 118, 167, 0, 9, 25, 4, 28, 181, 0, 121, 42, 27]
abbrev dktX1_become_2 : List UInt8 := dkwX1_become_2 ++ dktX1_become_3
def dkwX1_become_1 : List UInt8 := [17, 2, 88, 184, 0, 36, 154, 0, 9, 42, 5, 182, 0, 40, 172, 42, 180, 0, 56, 78, 42, 182, 1, 88]
abbrev dktX1_become_1 : List UInt8 := dkwX1_become_1 ++ dktX1_become_2
def dkwX1_become_0 : List UInt8 := [42, 180, 0, 56, 198, 0, 12, 27, 3, 4, 184, 0, 36, 154, 0, 9, 42, 4, 182, 0, 40, 172, 28, 3]
abbrev dktX1_become_0 : List UInt8 := dkwX1_become_0 ++ dktX1_become_1
theorem dksX1_become_0 : cX1_become.data.toList.drop 0 = dktX1_become_0 := by decide +kernel
theorem dksX1_become_1 : cX1_become.data.toList.drop 24 = dktX1_become_1 := dk_seg dksX1_become_0 24 rfl rfl
theorem dksX1_become_2 : cX1_become.data.toList.drop 48 = dktX1_become_2 := dk_seg dksX1_become_1 24 rfl rfl
theorem dksX1_become_3 : cX1_become.data.toList.drop 71 = dktX1_become_3 := dk_seg dksX1_become_2 23 rfl rfl
theorem dX1_become_0 : decode cX1_become 0 = .ok (.aload_n 0, 1) := dk_42 (dk_at dksX1_become_0 0 rfl rfl)
theorem dX1_become_1 : decode cX1_become 1 = .ok (.getfield 56, 3) := dk_180 0 56 (dk_at dksX1_become_0 1 rfl rfl)
theorem dX1_become_4 : decode cX1_become 4 = .ok (.ifnull 12, 3) := dk_198 0 12 (dk_at dksX1_become_0 4 rfl rfl)
theorem dX1_become_7 : decode cX1_become 7 = .ok (.iload_n 1, 1) := dk_27 (dk_at dksX1_become_0 7 rfl rfl)
theorem dX1_become_8 : decode cX1_become 8 = .ok (.iconst 0, 1) := dk_3 (dk_at dksX1_become_0 8 rfl rfl)
theorem dX1_become_9 : decode cX1_become 9 = .ok (.iconst 1, 1) := dk_4 (dk_at dksX1_become_0 9 rfl rfl)
theorem dX1_become_10 : decode cX1_become 10 = .ok (.invokestatic 36, 3) := dk_184 0 36 (dk_at dksX1_become_0 10 rfl rfl)
theorem dX1_become_13 : decode cX1_become 13 = .ok (.ifCond .ne 9, 3) := dk_154 0 9 (dk_at dksX1_become_0 13 rfl rfl)
theorem dX1_become_16 : decode cX1_become 16 = .ok (.aload_n 0, 1) := dk_42 (dk_at dksX1_become_0 16 rfl rfl)
theorem dX1_become_17 : decode cX1_become 17 = .ok (.iconst 1, 1) := dk_4 (dk_at dksX1_become_0 17 rfl rfl)
theorem dX1_become_18 : decode cX1_become 18 = .ok (.invokevirtual 40, 3) := dk_182 0 40 (dk_at dksX1_become_0 18 rfl rfl)
theorem dX1_become_21 : decode cX1_become 21 = .ok (.ireturn, 1) := dk_172 (dk_at dksX1_become_0 21 rfl rfl)
theorem dX1_become_22 : decode cX1_become 22 = .ok (.iload_n 2, 1) := dk_28 (dk_at dksX1_become_0 22 rfl rfl)
theorem dX1_become_23 : decode cX1_become 23 = .ok (.iconst 0, 1) := dk_3 (dk_at dksX1_become_0 23 rfl rfl)
theorem dX1_become_24 : decode cX1_become 24 = .ok (.sipush 600, 3) := dk_17 2 88 (dk_at dksX1_become_1 0 rfl rfl)
theorem dX1_become_27 : decode cX1_become 27 = .ok (.invokestatic 36, 3) := dk_184 0 36 (dk_at dksX1_become_1 3 rfl rfl)
theorem dX1_become_30 : decode cX1_become 30 = .ok (.ifCond .ne 9, 3) := dk_154 0 9 (dk_at dksX1_become_1 6 rfl rfl)
theorem dX1_become_33 : decode cX1_become 33 = .ok (.aload_n 0, 1) := dk_42 (dk_at dksX1_become_1 9 rfl rfl)
theorem dX1_become_34 : decode cX1_become 34 = .ok (.iconst 2, 1) := dk_5 (dk_at dksX1_become_1 10 rfl rfl)
theorem dX1_become_35 : decode cX1_become 35 = .ok (.invokevirtual 40, 3) := dk_182 0 40 (dk_at dksX1_become_1 11 rfl rfl)
theorem dX1_become_38 : decode cX1_become 38 = .ok (.ireturn, 1) := dk_172 (dk_at dksX1_become_1 14 rfl rfl)
theorem dX1_become_39 : decode cX1_become 39 = .ok (.aload_n 0, 1) := dk_42 (dk_at dksX1_become_1 15 rfl rfl)
theorem dX1_become_40 : decode cX1_become 40 = .ok (.getfield 56, 3) := dk_180 0 56 (dk_at dksX1_become_1 16 rfl rfl)
theorem dX1_become_43 : decode cX1_become 43 = .ok (.astore_n 3, 1) := dk_78 (dk_at dksX1_become_1 19 rfl rfl)
theorem dX1_become_44 : decode cX1_become 44 = .ok (.aload_n 0, 1) := dk_42 (dk_at dksX1_become_1 20 rfl rfl)
theorem dX1_become_45 : decode cX1_become 45 = .ok (.invokevirtual 344, 3) := dk_182 1 88 (dk_at dksX1_become_1 21 rfl rfl)
theorem dX1_become_48 : decode cX1_become 48 = .ok (.astore 4, 2) := dk_58 4 (dk_at dksX1_become_2 0 rfl rfl)
theorem dX1_become_50 : decode cX1_become 50 = .ok (.iload_n 1, 1) := dk_27 (dk_at dksX1_become_2 2 rfl rfl)
theorem dX1_become_51 : decode cX1_become 51 = .ok (.ifCond .ne 12, 3) := dk_154 0 12 (dk_at dksX1_become_2 3 rfl rfl)
theorem dX1_become_54 : decode cX1_become 54 = .ok (.aload 4, 2) := dk_25 4 (dk_at dksX1_become_2 6 rfl rfl)
theorem dX1_become_56 : decode cX1_become 56 = .ok (.iload_n 2, 1) := dk_28 (dk_at dksX1_become_2 8 rfl rfl)
theorem dX1_become_57 : decode cX1_become 57 = .ok (.putfield 118, 3) := dk_181 0 118 (dk_at dksX1_become_2 9 rfl rfl)
theorem dX1_become_60 : decode cX1_become 60 = .ok (.goto 9, 3) := dk_167 0 9 (dk_at dksX1_become_2 12 rfl rfl)
theorem dX1_become_63 : decode cX1_become 63 = .ok (.aload 4, 2) := dk_25 4 (dk_at dksX1_become_2 15 rfl rfl)
theorem dX1_become_65 : decode cX1_become 65 = .ok (.iload_n 2, 1) := dk_28 (dk_at dksX1_become_2 17 rfl rfl)
theorem dX1_become_66 : decode cX1_become 66 = .ok (.putfield 121, 3) := dk_181 0 121 (dk_at dksX1_become_2 18 rfl rfl)
theorem dX1_become_69 : decode cX1_become 69 = .ok (.aload_n 0, 1) := dk_42 (dk_at dksX1_become_2 21 rfl rfl)
theorem dX1_become_70 : decode cX1_become 70 = .ok (.iload_n 1, 1) := dk_27 (dk_at dksX1_become_2 22 rfl rfl)
theorem dX1_become_71 : decode cX1_become 71 = .ok (.ifCond .ne 10, 3) := dk_154 0 10 (dk_at dksX1_become_3 0 rfl rfl)
theorem dX1_become_74 : decode cX1_become 74 = .ok (.aload_n 3, 1) := dk_45 (dk_at dksX1_become_3 3 rfl rfl)
theorem dX1_become_75 : decode cX1_become 75 = .ok (.getfield 118, 3) := dk_180 0 118 (dk_at dksX1_become_3 4 rfl rfl)
theorem dX1_become_78 : decode cX1_become 78 = .ok (.goto 7, 3) := dk_167 0 7 (dk_at dksX1_become_3 7 rfl rfl)
theorem dX1_become_81 : decode cX1_become 81 = .ok (.aload_n 3, 1) := dk_45 (dk_at dksX1_become_3 10 rfl rfl)
theorem dX1_become_82 : decode cX1_become 82 = .ok (.getfield 121, 3) := dk_180 0 121 (dk_at dksX1_become_3 11 rfl rfl)
theorem dX1_become_85 : decode cX1_become 85 = .ok (.invokevirtual 83, 3) := dk_182 0 83 (dk_at dksX1_become_3 14 rfl rfl)
theorem dX1_become_88 : decode cX1_become 88 = .ok (.ireturn, 1) := dk_172 (dk_at dksX1_become_3 17 rfl rfl)
theorem md_X1_become : xMd yX1_become cX1_become 5 (Option.some Jvm.ClassFile.FieldType.int) 2 := ⟨q2836, q123, by decide, by decide +kernel, by decide +kernel, by decide +kernel⟩
def f_X1_become_16 (a0 : Nat)   (p0 : PH) : Option (xO × PH) :=
  (xcI (f_X1_refused p0 a0 1) fun x4 p3 =>
  (rI x4 p3))
def f_X1_become_85 (a0 : Nat)  (w1 : Int32) (p0 : PH) : Option (xO × PH) :=
  (xcI (f_X1_fine p0 a0 w1) fun x17 p16 =>
  (rI x17 p16))
def f_X1_become_69 (a0 : Nat)  (v1 : Int32) (v3 : Option Nat) (p0 : PH) : Option (xO × PH) :=
  (if v1 = 0 then
  (xnul v3 none fun b18 =>
  (xgI p0 b18 3 2 fun x19 =>
  (f_X1_become_85 a0 x19 p0))) else
  (xnul v3 none fun b14 =>
  (xgI p0 b14 3 3 fun x15 =>
  (f_X1_become_85 a0 x15 p0))))
def f_X1_become (p0 : PH) (a0 : Nat) (a1 : Int32) (a2 : Int32) : Option (xO × PH) :=
  (xcl1 p0 a0 0 (xgR p0 a0 0 5 fun x1 =>
  (xnul x1 (f_X1_become_16 a0  p0) fun b2 =>
  (xcI (f_X1_isIn p0 a1 0 1) fun x6 p5 =>
  (if x6 = 0 then
  (f_X1_become_16 a0  p5) else
  (xcI (f_X1_isIn p5 a2 0 600) fun x8 p7 =>
  (if x8 = 0 then
  (xcI (f_X1_refused p7 a0 2) fun x23 p22 =>
  (rI x23 p22)) else
  (xgR p7 a0 0 5 fun x9 =>
  (xcR (f_X1_acts p7 a0 ) fun x11 p10 =>
  (if a1 = 0 then
  (xnul x11 none fun b20 =>
  (xpF p10 b20 3 2 (.int a2) fun p21 =>
  (f_X1_become_69 a0 a1 x9 p21))) else
  (xnul x11 none fun b12 =>
  (xpF p10 b12 3 3 (.int a2) fun p13 =>
  (f_X1_become_69 a0 a1 x9 p13)))))))))))))
theorem rc_X1_become {p0 : PH} {a0 : Nat} {a1 : Int32} {a2 : Int32} : ∀ z, f_X1_become p0 a0 a1 a2 = some z → xco p0 a0 = some 0 := fun z h => xcl1_some h
theorem f_X1_become_16_ok {G : xG} (hO : xOK G) (a0 : Nat)   (p0 : PH) : X G "ForestLegs" "become" cX1_become 5 (Option.some Jvm.ClassFile.FieldType.int) 9 16 [(0, .ref a0)] [] p0 (f_X1_become_16 a0  p0) := by
  unfold f_X1_become_16
  refine x_aload_nr 0 dX1_become_16 rfl rfl (n := 17) rfl ?_
  refine x_iconst 1 dX1_become_17 rfl (n := 18) rfl ?_
  refine x_callV_I [.int 1] [] (f_X1_refused_ok hO p0 a0 1) rc_X1_refused md_X1_refused rfl q250 q252 qs0 dX1_become_18 rfl rfl (by decide) (Nat.le_of_ble_eq_true rfl) (n := 21) rfl (fun x4 p3 => ?_)
  exact x_ireturn dX1_become_21
theorem f_X1_become_85_ok {G : xG} (hO : xOK G) (a0 : Nat)  (w1 : Int32) (p0 : PH) : X G "ForestLegs" "become" cX1_become 5 (Option.some Jvm.ClassFile.FieldType.int) 9 85 [] [.int w1, .ref a0] p0 (f_X1_become_85 a0 w1 p0) := by
  unfold f_X1_become_85
  refine x_callV_I [.int w1] [] (f_X1_fine_ok hO p0 a0 w1) rc_X1_fine md_X1_fine rfl q1480 q1482 qs26 dX1_become_85 rfl rfl (by decide) (Nat.le_of_ble_eq_true rfl) (n := 88) rfl (fun x17 p16 => ?_)
  exact x_ireturn dX1_become_88
theorem f_X1_become_69_ok {G : xG} (hO : xOK G) (a0 : Nat)  (v1 : Int32) (v3 : Option Nat) (p0 : PH) : X G "ForestLegs" "become" cX1_become 5 (Option.some Jvm.ClassFile.FieldType.int) 9 69 [(0, .ref a0), (1, .int v1), (3, va_rf v3)] [] p0 (f_X1_become_69 a0 v1 v3 p0) := by
  unfold f_X1_become_69
  refine x_aload_nr 0 dX1_become_69 rfl rfl (n := 70) rfl ?_
  refine x_iload_n 1 dX1_become_70 rfl rfl (n := 71) rfl ?_
  refine x_if_ne dX1_become_71 (t := 81) (by decide) (n := 74) rfl (fun _ => ?_) (fun _ => ?_)
  · refine x_aload_n 2 dX1_become_81 rfl rfl (n := 82) rfl ?_
    refine x_sm (fun b14 e => ?_)
    subst e
    refine x_getI fl_X1_121 dX1_become_82 (n := 85) rfl (fun x15 => ?_)
    refine x_sub [] [] rfl ?_
    exact f_X1_become_85_ok hO a0 x15 p0
  · refine x_aload_n 2 dX1_become_74 rfl rfl (n := 75) rfl ?_
    refine x_sm (fun b18 e => ?_)
    subst e
    refine x_getI fl_X1_118 dX1_become_75 (n := 78) rfl (fun x19 => ?_)
    refine x_goto dX1_become_78 (n := 85) (by decide) ?_
    refine x_sub [] [] rfl ?_
    exact f_X1_become_85_ok hO a0 x19 p0
theorem f_X1_become_ok {G : xG} (hO : xOK G) (p0 : PH) (a0 : Nat) (a1 : Int32) (a2 : Int32) : CT G 9 yX1_become cX1_become 5 (Option.some Jvm.ClassFile.FieldType.int) [.ref a0, .int a1, .int a2] p0 (f_X1_become p0 a0 a1 a2) := by
  refine CT_of hO (by decide +kernel) (by decide +kernel) (Nat.le_of_ble_eq_true rfl) ?_
  show X G "ForestLegs" "become" cX1_become 5 (Option.some Jvm.ClassFile.FieldType.int) 9 0 [(0, .ref a0), (1, .int a1), (2, .int a2)] [] p0 (f_X1_become p0 a0 a1 a2)
  refine x_cl1 (fun e0 => ?_)
  refine x_aload_nr 0 dX1_become_0 rfl rfl (n := 1) rfl ?_
  refine x_getR fl_X1_56 dX1_become_1 (n := 4) rfl (fun x1 => ?_)
  refine x_ifnull dX1_become_4 (t := 16) (by decide) (n := 7) rfl (fun e => ?_) (fun b2 e => ?_)
  · subst e
    refine x_sub [0] [(0, .ref a0)] rfl ?_
    exact f_X1_become_16_ok hO a0  p0
  · subst e
    refine x_iload_n 1 dX1_become_7 rfl rfl (n := 8) rfl ?_
    refine x_iconst 0 dX1_become_8 rfl (n := 9) rfl ?_
    refine x_iconst 1 dX1_become_9 rfl (n := 10) rfl ?_
    refine x_callS_I [.int a1, .int 0, .int 1] [] (f_X1_isIn_ok hO p0 a1 0 1) md_X1_isIn q247 q248 dX1_become_10 rfl rfl (by decide) (Nat.le_of_ble_eq_true rfl) (n := 13) rfl (fun x6 p5 => ?_)
    refine x_if_ne dX1_become_13 (t := 22) (by decide) (n := 16) rfl (fun _ => ?_) (fun _ => ?_)
    · refine x_iload_n 2 dX1_become_22 rfl rfl (n := 23) rfl ?_
      refine x_iconst 0 dX1_become_23 rfl (n := 24) rfl ?_
      refine x_sipush 600 dX1_become_24 rfl (n := 27) rfl ?_
      refine x_callS_I [.int a2, .int 0, .int 600] [] (f_X1_isIn_ok hO p5 a2 0 600) md_X1_isIn q247 q248 dX1_become_27 rfl rfl (by decide) (Nat.le_of_ble_eq_true rfl) (n := 30) rfl (fun x8 p7 => ?_)
      refine x_if_ne dX1_become_30 (t := 39) (by decide) (n := 33) rfl (fun _ => ?_) (fun _ => ?_)
      · refine x_aload_nr 0 dX1_become_39 rfl rfl (n := 40) rfl ?_
        refine x_getR fl_X1_56 dX1_become_40 (n := 43) rfl (fun x9 => ?_)
        refine x_astore_n [(3, va_rf x9), (0, .ref a0), (1, .int a1), (2, .int a2)] dX1_become_43 rfl (by decide) rfl (n := 44) rfl ?_
        refine x_aload_nr 1 dX1_become_44 rfl rfl (n := 45) rfl ?_
        refine x_callV_R [] [] (f_X1_acts_ok hO p7 a0 ) rc_X1_acts md_X1_acts rfl q2703 q2705 qs59 dX1_become_45 rfl rfl (by decide) (Nat.le_of_ble_eq_true rfl) (n := 48) rfl (fun x11 p10 => ?_)
        refine x_astore [(4, va_rf x11), (3, va_rf x9), (0, .ref a0), (1, .int a1), (2, .int a2)] dX1_become_48 (by decide) (by simp only [xst, List.filter_cons, List.filter_nil, xcat] <;> rfl) (n := 50) rfl ?_
        refine x_iload_n 3 dX1_become_50 rfl rfl (n := 51) rfl ?_
        refine x_if_ne dX1_become_51 (t := 63) (by decide) (n := 54) rfl (fun _ => ?_) (fun _ => ?_)
        · refine x_aload 0 dX1_become_63 rfl (n := 65) rfl ?_
          refine x_iload_n 4 dX1_become_65 rfl rfl (n := 66) rfl ?_
          refine x_sm (fun b12 e => ?_)
          subst e
          refine x_pF (pl_X1_121 _ _ ⟨rfl, rfl⟩) dX1_become_66 (n := 69) rfl (fun p13 => ?_)
          refine x_sub [2, 3, 1] [(0, .ref a0), (1, .int a1), (3, va_rf x9)] rfl ?_
          exact f_X1_become_69_ok hO a0 a1 x9 p13
        · refine x_aload 0 dX1_become_54 rfl (n := 56) rfl ?_
          refine x_iload_n 4 dX1_become_56 rfl rfl (n := 57) rfl ?_
          refine x_sm (fun b20 e => ?_)
          subst e
          refine x_pF (pl_X1_118 _ _ ⟨rfl, rfl⟩) dX1_become_57 (n := 60) rfl (fun p21 => ?_)
          refine x_goto dX1_become_60 (n := 69) (by decide) ?_
          refine x_sub [2, 3, 1] [(0, .ref a0), (1, .int a1), (3, va_rf x9)] rfl ?_
          exact f_X1_become_69_ok hO a0 a1 x9 p21
      · refine x_aload_nr 0 dX1_become_33 rfl rfl (n := 34) rfl ?_
        refine x_iconst 2 dX1_become_34 rfl (n := 35) rfl ?_
        refine x_callV_I [.int 2] [] (f_X1_refused_ok hO p7 a0 2) rc_X1_refused md_X1_refused rfl q250 q252 qs0 dX1_become_35 rfl rfl (by decide) (Nat.le_of_ble_eq_true rfl) (n := 38) rfl (fun x23 p22 => ?_)
        exact x_ireturn dX1_become_38
    · refine x_sub [0] [(0, .ref a0)] rfl ?_
      exact f_X1_become_16_ok hO a0  p5
abbrev cX6_mayHave : ByteArray := prog_4_method_5_code
def yX6_mayHave : MethodName := ⟨RX6, "mayHave", "(II)Z"⟩
def dkwX6_mayHave_1 : List UInt8 := [159, 0, 14, 42, 27, 4, 96, 182, 0, 44, 28, 159, 0, 7, 4, 167, 0, 4, 3, 172]
abbrev dktX6_mayHave_1 : List UInt8 := dkwX6_mayHave_1 ++ []
def dkwX6_mayHave_0 : List UInt8 := [27, 153, 0, 14, 42, 27, 4, 100, 182, 0, 44, 28, 159, 0, 28, 27, 4, 96, 42, 182, 0, 48]
abbrev dktX6_mayHave_0 : List UInt8 := dkwX6_mayHave_0 ++ dktX6_mayHave_1
theorem dksX6_mayHave_0 : cX6_mayHave.data.toList.drop 0 = dktX6_mayHave_0 := by decide +kernel
theorem dksX6_mayHave_1 : cX6_mayHave.data.toList.drop 22 = dktX6_mayHave_1 := dk_seg dksX6_mayHave_0 22 rfl rfl
theorem dX6_mayHave_0 : decode cX6_mayHave 0 = .ok (.iload_n 1, 1) := dk_27 (dk_at dksX6_mayHave_0 0 rfl rfl)
theorem dX6_mayHave_1 : decode cX6_mayHave 1 = .ok (.ifCond .eq 14, 3) := dk_153 0 14 (dk_at dksX6_mayHave_0 1 rfl rfl)
theorem dX6_mayHave_4 : decode cX6_mayHave 4 = .ok (.aload_n 0, 1) := dk_42 (dk_at dksX6_mayHave_0 4 rfl rfl)
theorem dX6_mayHave_5 : decode cX6_mayHave 5 = .ok (.iload_n 1, 1) := dk_27 (dk_at dksX6_mayHave_0 5 rfl rfl)
theorem dX6_mayHave_6 : decode cX6_mayHave 6 = .ok (.iconst 1, 1) := dk_4 (dk_at dksX6_mayHave_0 6 rfl rfl)
theorem dX6_mayHave_7 : decode cX6_mayHave 7 = .ok (.isub, 1) := dk_100 (dk_at dksX6_mayHave_0 7 rfl rfl)
theorem dX6_mayHave_8 : decode cX6_mayHave 8 = .ok (.invokevirtual 44, 3) := dk_182 0 44 (dk_at dksX6_mayHave_0 8 rfl rfl)
theorem dX6_mayHave_11 : decode cX6_mayHave 11 = .ok (.iload_n 2, 1) := dk_28 (dk_at dksX6_mayHave_0 11 rfl rfl)
theorem dX6_mayHave_12 : decode cX6_mayHave 12 = .ok (.if_icmp .eq 28, 3) := dk_159 0 28 (dk_at dksX6_mayHave_0 12 rfl rfl)
theorem dX6_mayHave_15 : decode cX6_mayHave 15 = .ok (.iload_n 1, 1) := dk_27 (dk_at dksX6_mayHave_0 15 rfl rfl)
theorem dX6_mayHave_16 : decode cX6_mayHave 16 = .ok (.iconst 1, 1) := dk_4 (dk_at dksX6_mayHave_0 16 rfl rfl)
theorem dX6_mayHave_17 : decode cX6_mayHave 17 = .ok (.iadd, 1) := dk_96 (dk_at dksX6_mayHave_0 17 rfl rfl)
theorem dX6_mayHave_18 : decode cX6_mayHave 18 = .ok (.aload_n 0, 1) := dk_42 (dk_at dksX6_mayHave_0 18 rfl rfl)
theorem dX6_mayHave_19 : decode cX6_mayHave 19 = .ok (.invokevirtual 48, 3) := dk_182 0 48 (dk_at dksX6_mayHave_0 19 rfl rfl)
theorem dX6_mayHave_22 : decode cX6_mayHave 22 = .ok (.if_icmp .eq 14, 3) := dk_159 0 14 (dk_at dksX6_mayHave_1 0 rfl rfl)
theorem dX6_mayHave_25 : decode cX6_mayHave 25 = .ok (.aload_n 0, 1) := dk_42 (dk_at dksX6_mayHave_1 3 rfl rfl)
theorem dX6_mayHave_26 : decode cX6_mayHave 26 = .ok (.iload_n 1, 1) := dk_27 (dk_at dksX6_mayHave_1 4 rfl rfl)
theorem dX6_mayHave_27 : decode cX6_mayHave 27 = .ok (.iconst 1, 1) := dk_4 (dk_at dksX6_mayHave_1 5 rfl rfl)
theorem dX6_mayHave_28 : decode cX6_mayHave 28 = .ok (.iadd, 1) := dk_96 (dk_at dksX6_mayHave_1 6 rfl rfl)
theorem dX6_mayHave_29 : decode cX6_mayHave 29 = .ok (.invokevirtual 44, 3) := dk_182 0 44 (dk_at dksX6_mayHave_1 7 rfl rfl)
theorem dX6_mayHave_32 : decode cX6_mayHave 32 = .ok (.iload_n 2, 1) := dk_28 (dk_at dksX6_mayHave_1 10 rfl rfl)
theorem dX6_mayHave_33 : decode cX6_mayHave 33 = .ok (.if_icmp .eq 7, 3) := dk_159 0 7 (dk_at dksX6_mayHave_1 11 rfl rfl)
theorem dX6_mayHave_36 : decode cX6_mayHave 36 = .ok (.iconst 1, 1) := dk_4 (dk_at dksX6_mayHave_1 14 rfl rfl)
theorem dX6_mayHave_37 : decode cX6_mayHave 37 = .ok (.goto 4, 3) := dk_167 0 4 (dk_at dksX6_mayHave_1 15 rfl rfl)
theorem dX6_mayHave_40 : decode cX6_mayHave 40 = .ok (.iconst 0, 1) := dk_3 (dk_at dksX6_mayHave_1 18 rfl rfl)
theorem dX6_mayHave_41 : decode cX6_mayHave 41 = .ok (.ireturn, 1) := dk_172 (dk_at dksX6_mayHave_1 19 rfl rfl)
theorem md_X6_mayHave : xMd yX6_mayHave cX6_mayHave 3 (Option.some Jvm.ClassFile.FieldType.boolean) 2 := ⟨q2844, q147, by decide, by decide +kernel, by decide +kernel, by decide +kernel⟩
def f_X6_mayHave_15 (a0 : Nat)  (v1 : Int32) (v2 : Int32) (p0 : PH) : Option (xO × PH) :=
  (xcI (f_X6_size p0 a0 ) fun x2 p1 =>
  (if (v1 + 1) = x2 then
  (if vp_nar .boolean 1 = 1 then rI 1 p1 else none) else
  (xcI (f_X6_code p1 a0 (v1 + 1)) fun x4 p3 =>
  (if x4 = v2 then
  (if vp_nar .boolean 0 = 0 then rI 0 p3 else none) else
  (if vp_nar .boolean 1 = 1 then rI 1 p3 else none)))))
def f_X6_mayHave (p0 : PH) (a0 : Nat) (a1 : Int32) (a2 : Int32) : Option (xO × PH) :=
  (xcl1 p0 a0 5 (if a1 = 0 then
  (f_X6_mayHave_15 a0 a1 a2 p0) else
  (xcI (f_X6_code p0 a0 (a1 - 1)) fun x6 p5 =>
  (if x6 = a2 then
  (if vp_nar .boolean 0 = 0 then rI 0 p5 else none) else
  (f_X6_mayHave_15 a0 a1 a2 p5)))))
theorem rc_X6_mayHave {p0 : PH} {a0 : Nat} {a1 : Int32} {a2 : Int32} : ∀ z, f_X6_mayHave p0 a0 a1 a2 = some z → xco p0 a0 = some 5 := fun z h => xcl1_some h
theorem f_X6_mayHave_15_ok {G : xG} (hO : xOK G) (a0 : Nat)  (v1 : Int32) (v2 : Int32) (p0 : PH) : X G "ForestLegs$Course" "mayHave" cX6_mayHave 3 (Option.some Jvm.ClassFile.FieldType.boolean) 4 15 [(0, .ref a0), (1, .int v1), (2, .int v2)] [] p0 (f_X6_mayHave_15 a0 v1 v2 p0) := by
  unfold f_X6_mayHave_15
  refine x_iload_n 1 dX6_mayHave_15 rfl rfl (n := 16) rfl ?_
  refine x_iconst 1 dX6_mayHave_16 rfl (n := 17) rfl ?_
  refine x_iadd dX6_mayHave_17 (n := 18) rfl ?_
  refine x_aload_nr 0 dX6_mayHave_18 rfl rfl (n := 19) rfl ?_
  refine x_callV_I [] [.int (v1 + 1)] (f_X6_size_ok hO p0 a0 ) rc_X6_size md_X6_size rfl q2846 q1199 q1200 dX6_mayHave_19 rfl rfl (by decide) (Nat.le_of_ble_eq_true rfl) (n := 22) rfl (fun x2 p1 => ?_)
  refine x_icmp_eq dX6_mayHave_22 (t := 36) (by decide) (n := 25) rfl (fun _ => ?_) (fun _ => ?_)
  · refine x_iconst 1 dX6_mayHave_36 rfl (n := 37) rfl ?_
    refine x_goto dX6_mayHave_37 (n := 41) (by decide) ?_
    exact x_nreturn rfl dX6_mayHave_41
  · refine x_aload_nr 0 dX6_mayHave_25 rfl rfl (n := 26) rfl ?_
    refine x_iload_n 1 dX6_mayHave_26 rfl rfl (n := 27) rfl ?_
    refine x_iconst 1 dX6_mayHave_27 rfl (n := 28) rfl ?_
    refine x_iadd dX6_mayHave_28 (n := 29) rfl ?_
    refine x_callV_I [.int (v1 + 1)] [] (f_X6_code_ok hO p1 a0 (v1 + 1)) rc_X6_code md_X6_code rfl q2845 q1205 q1206 dX6_mayHave_29 rfl rfl (by decide) (Nat.le_of_ble_eq_true rfl) (n := 32) rfl (fun x4 p3 => ?_)
    refine x_iload_n 2 dX6_mayHave_32 rfl rfl (n := 33) rfl ?_
    refine x_icmp_eq dX6_mayHave_33 (t := 40) (by decide) (n := 36) rfl (fun _ => ?_) (fun _ => ?_)
    · refine x_iconst 0 dX6_mayHave_40 rfl (n := 41) rfl ?_
      exact x_nreturn rfl dX6_mayHave_41
    · refine x_iconst 1 dX6_mayHave_36 rfl (n := 37) rfl ?_
      refine x_goto dX6_mayHave_37 (n := 41) (by decide) ?_
      exact x_nreturn rfl dX6_mayHave_41
theorem f_X6_mayHave_ok {G : xG} (hO : xOK G) (p0 : PH) (a0 : Nat) (a1 : Int32) (a2 : Int32) : CT G 4 yX6_mayHave cX6_mayHave 3 (Option.some Jvm.ClassFile.FieldType.boolean) [.ref a0, .int a1, .int a2] p0 (f_X6_mayHave p0 a0 a1 a2) := by
  refine CT_of hO (by decide +kernel) (by decide +kernel) (Nat.le_of_ble_eq_true rfl) ?_
  show X G "ForestLegs$Course" "mayHave" cX6_mayHave 3 (Option.some Jvm.ClassFile.FieldType.boolean) 4 0 [(0, .ref a0), (1, .int a1), (2, .int a2)] [] p0 (f_X6_mayHave p0 a0 a1 a2)
  refine x_cl1 (fun e0 => ?_)
  refine x_iload_n 1 dX6_mayHave_0 rfl rfl (n := 1) rfl ?_
  refine x_if_eq dX6_mayHave_1 (t := 15) (by decide) (n := 4) rfl (fun _ => ?_) (fun _ => ?_)
  · exact f_X6_mayHave_15_ok hO a0 a1 a2 p0
  · refine x_aload_nr 0 dX6_mayHave_4 rfl rfl (n := 5) rfl ?_
    refine x_iload_n 1 dX6_mayHave_5 rfl rfl (n := 6) rfl ?_
    refine x_iconst 1 dX6_mayHave_6 rfl (n := 7) rfl ?_
    refine x_isub dX6_mayHave_7 (n := 8) rfl ?_
    refine x_callV_I [.int (a1 - 1)] [] (f_X6_code_ok hO p0 a0 (a1 - 1)) rc_X6_code md_X6_code rfl q2845 q1205 q1206 dX6_mayHave_8 rfl rfl (by decide) (Nat.le_of_ble_eq_true rfl) (n := 11) rfl (fun x6 p5 => ?_)
    refine x_iload_n 2 dX6_mayHave_11 rfl rfl (n := 12) rfl ?_
    refine x_icmp_eq dX6_mayHave_12 (t := 40) (by decide) (n := 15) rfl (fun _ => ?_) (fun _ => ?_)
    · refine x_iconst 0 dX6_mayHave_40 rfl (n := 41) rfl ?_
      exact x_nreturn rfl dX6_mayHave_41
    · exact f_X6_mayHave_15_ok hO a0 a1 a2 p5
abbrev cJ3_set : ByteArray := prog_47_method_23_code
def yJ3_set : MethodName := ⟨RJ3, "set", "(ILjava/lang/Object;)Ljava/lang/Object;"⟩
def dkwJ3_set_0 : List UInt8 := [27, 42, 180, 0, 48, 184, 0, 118, 87, 42, 27, 182, 0, 123, 78, 42, 180, 0, 9, 27, 44, 83, 45, 176]
abbrev dktJ3_set_0 : List UInt8 := dkwJ3_set_0 ++ []
theorem dksJ3_set_0 : cJ3_set.data.toList.drop 0 = dktJ3_set_0 := by decide +kernel
theorem dJ3_set_0 : decode cJ3_set 0 = .ok (.iload_n 1, 1) := dk_27 (dk_at dksJ3_set_0 0 rfl rfl)
theorem dJ3_set_1 : decode cJ3_set 1 = .ok (.aload_n 0, 1) := dk_42 (dk_at dksJ3_set_0 1 rfl rfl)
theorem dJ3_set_2 : decode cJ3_set 2 = .ok (.getfield 48, 3) := dk_180 0 48 (dk_at dksJ3_set_0 2 rfl rfl)
theorem dJ3_set_5 : decode cJ3_set 5 = .ok (.invokestatic 118, 3) := dk_184 0 118 (dk_at dksJ3_set_0 5 rfl rfl)
theorem dJ3_set_8 : decode cJ3_set 8 = .ok (.pop, 1) := dk_87 (dk_at dksJ3_set_0 8 rfl rfl)
theorem dJ3_set_9 : decode cJ3_set 9 = .ok (.aload_n 0, 1) := dk_42 (dk_at dksJ3_set_0 9 rfl rfl)
theorem dJ3_set_10 : decode cJ3_set 10 = .ok (.iload_n 1, 1) := dk_27 (dk_at dksJ3_set_0 10 rfl rfl)
theorem dJ3_set_11 : decode cJ3_set 11 = .ok (.invokevirtual 123, 3) := dk_182 0 123 (dk_at dksJ3_set_0 11 rfl rfl)
theorem dJ3_set_14 : decode cJ3_set 14 = .ok (.astore_n 3, 1) := dk_78 (dk_at dksJ3_set_0 14 rfl rfl)
theorem dJ3_set_15 : decode cJ3_set 15 = .ok (.aload_n 0, 1) := dk_42 (dk_at dksJ3_set_0 15 rfl rfl)
theorem dJ3_set_16 : decode cJ3_set 16 = .ok (.getfield 9, 3) := dk_180 0 9 (dk_at dksJ3_set_0 16 rfl rfl)
theorem dJ3_set_19 : decode cJ3_set 19 = .ok (.iload_n 1, 1) := dk_27 (dk_at dksJ3_set_0 19 rfl rfl)
theorem dJ3_set_20 : decode cJ3_set 20 = .ok (.aload_n 2, 1) := dk_44 (dk_at dksJ3_set_0 20 rfl rfl)
theorem dJ3_set_21 : decode cJ3_set 21 = .ok (.aastore, 1) := dk_83 (dk_at dksJ3_set_0 21 rfl rfl)
theorem dJ3_set_22 : decode cJ3_set 22 = .ok (.aload_n 3, 1) := dk_45 (dk_at dksJ3_set_0 22 rfl rfl)
theorem dJ3_set_23 : decode cJ3_set 23 = .ok (.areturn, 1) := dk_176 (dk_at dksJ3_set_0 23 rfl rfl)
theorem md_J3_set : xMd yJ3_set cJ3_set 4 (Option.some (Jvm.ClassFile.FieldType.object "java/lang/Object")) 2 := ⟨q2855, q130, by decide, by decide +kernel, by decide +kernel, by decide +kernel⟩
def f_J3_set (p0 : PH) (a0 : Nat) (a1 : Int32) (a2 : Option Nat) : Option (xO × PH) :=
  (xcl1 p0 a0 14 (xgI p0 a0 14 2 fun x1 =>
  (xcI (f_J20_checkIndex p0 a1 x1) fun x3 p2 =>
  (xcR (f_J3_elementData p2 a0 a1) fun x5 p4 =>
  (xgR p4 a0 14 1 fun x6 =>
  (xnul x6 none fun b7 =>
  (xsR p4 b7 4 a1 (a2) fun p8 =>
  (rR x5 p8))))))))
theorem rc_J3_set {p0 : PH} {a0 : Nat} {a1 : Int32} {a2 : Option Nat} : ∀ z, f_J3_set p0 a0 a1 a2 = some z → xco p0 a0 = some 14 := fun z h => xcl1_some h
theorem f_J3_set_ok {G : xG} (hO : xOK G) (p0 : PH) (a0 : Nat) (a1 : Int32) (a2 : Option Nat) : CT G 2 yJ3_set cJ3_set 4 (Option.some (Jvm.ClassFile.FieldType.object "java/lang/Object")) [.ref a0, .int a1, va_rf a2] p0 (f_J3_set p0 a0 a1 a2) := by
  refine CT_of hO (by decide +kernel) (by decide +kernel) (lg_slen _ (by simp only [List.map, xcat]; exact Nat.le_of_ble_eq_true rfl)) ?_
  rw [show lv_args 0 [.ref a0, .int a1, va_rf a2] = [(0, .ref a0), (1, .int a1), (2, va_rf a2)] from by simp only [lv_args, xcat] <;> rfl]
  show X G "java/util/ArrayList" "set" cJ3_set 4 (Option.some (Jvm.ClassFile.FieldType.object "java/lang/Object")) 2 0 [(0, .ref a0), (1, .int a1), (2, va_rf a2)] [] p0 (f_J3_set p0 a0 a1 a2)
  refine x_cl1 (fun e0 => ?_)
  refine x_iload_n 1 dJ3_set_0 rfl rfl (n := 1) rfl ?_
  refine x_aload_nr 0 dJ3_set_1 rfl rfl (n := 2) rfl ?_
  refine x_getI fl_J3_48 dJ3_set_2 (n := 5) rfl (fun x1 => ?_)
  refine x_callS_I [.int a1, .int x1] [] (f_J20_checkIndex_ok hO p0 a1 x1) md_J20_checkIndex q953 q954 dJ3_set_5 rfl rfl (by decide) (Nat.le_of_ble_eq_true rfl) (n := 8) rfl (fun x3 p2 => ?_)
  refine x_pop dJ3_set_8 rfl (n := 9) rfl ?_
  refine x_aload_nr 0 dJ3_set_9 rfl rfl (n := 10) rfl ?_
  refine x_iload_n 1 dJ3_set_10 rfl rfl (n := 11) rfl ?_
  refine x_callV_R [.int a1] [] (f_J3_elementData_ok hO p2 a0 a1) rc_J3_elementData md_J3_elementData rfl q957 q958 q959 dJ3_set_11 rfl rfl (by decide) (Nat.le_of_ble_eq_true rfl) (n := 14) rfl (fun x5 p4 => ?_)
  refine x_astore_n [(3, va_rf x5), (0, .ref a0), (1, .int a1), (2, va_rf a2)] dJ3_set_14 rfl (by decide) (by simp only [xst, List.filter_cons, List.filter_nil, xcat] <;> rfl) (n := 15) rfl ?_
  refine x_aload_nr 1 dJ3_set_15 rfl rfl (n := 16) rfl ?_
  refine x_getR fl_J3_9 dJ3_set_16 (n := 19) rfl (fun x6 => ?_)
  refine x_iload_n 2 dJ3_set_19 rfl rfl (n := 20) rfl ?_
  refine x_aload_n 3 dJ3_set_20 rfl rfl (n := 21) rfl ?_
  refine x_sm (fun b7 e => ?_)
  subst e
  refine x_aast (t := 4) (x := a2) rfl (by decide) dJ3_set_21 (n := 22) rfl (fun p8 => ?_)
  refine x_aload_n 0 dJ3_set_22 rfl rfl (n := 23) rfl ?_
  exact x_areturn (x := x5) (Or.inl ⟨_, rfl⟩) dJ3_set_23
abbrev cX1_recode : ByteArray := prog_1_method_64_code
def yX1_recode : MethodName := ⟨RX1, "recode", "(III)I"⟩
def dkwX1_recode_4 : List UInt8 := [185, 1, 106, 3, 0, 192, 0, 132, 182, 0, 158, 182, 0, 83, 172]
abbrev dktX1_recode_4 : List UInt8 := dkwX1_recode_4 ++ []
def dkwX1_recode_3 : List UInt8 := [180, 0, 86, 27, 185, 0, 93, 2, 0, 192, 0, 97, 180, 1, 103, 28, 29, 184, 0, 131]
abbrev dktX1_recode_3 : List UInt8 := dkwX1_recode_3 ++ dktX1_recode_4
def dkwX1_recode_2 : List UInt8 := [192, 0, 97, 28, 29, 182, 1, 100, 154, 0, 9, 42, 8, 182, 0, 40, 172, 42, 42, 182, 1, 88]
abbrev dktX1_recode_2 : List UInt8 := dkwX1_recode_2 ++ dktX1_recode_3
def dkwX1_recode_1 : List UInt8 := [154, 0, 9, 42, 5, 182, 0, 40, 172, 42, 180, 0, 56, 180, 0, 86, 27, 185, 0, 93, 2, 0]
abbrev dktX1_recode_1 : List UInt8 := dkwX1_recode_1 ++ dktX1_recode_2
def dkwX1_recode_0 : List UInt8 := [42, 27, 28, 182, 0, 170, 154, 0, 9, 42, 4, 182, 0, 40, 172, 29, 4, 16, 99, 184, 0, 36]
abbrev dktX1_recode_0 : List UInt8 := dkwX1_recode_0 ++ dktX1_recode_1
theorem dksX1_recode_0 : cX1_recode.data.toList.drop 0 = dktX1_recode_0 := by decide +kernel
theorem dksX1_recode_1 : cX1_recode.data.toList.drop 22 = dktX1_recode_1 := dk_seg dksX1_recode_0 22 rfl rfl
theorem dksX1_recode_2 : cX1_recode.data.toList.drop 44 = dktX1_recode_2 := dk_seg dksX1_recode_1 22 rfl rfl
theorem dksX1_recode_3 : cX1_recode.data.toList.drop 66 = dktX1_recode_3 := dk_seg dksX1_recode_2 22 rfl rfl
theorem dksX1_recode_4 : cX1_recode.data.toList.drop 86 = dktX1_recode_4 := dk_seg dksX1_recode_3 20 rfl rfl
theorem dX1_recode_0 : decode cX1_recode 0 = .ok (.aload_n 0, 1) := dk_42 (dk_at dksX1_recode_0 0 rfl rfl)
theorem dX1_recode_1 : decode cX1_recode 1 = .ok (.iload_n 1, 1) := dk_27 (dk_at dksX1_recode_0 1 rfl rfl)
theorem dX1_recode_2 : decode cX1_recode 2 = .ok (.iload_n 2, 1) := dk_28 (dk_at dksX1_recode_0 2 rfl rfl)
theorem dX1_recode_3 : decode cX1_recode 3 = .ok (.invokevirtual 170, 3) := dk_182 0 170 (dk_at dksX1_recode_0 3 rfl rfl)
theorem dX1_recode_6 : decode cX1_recode 6 = .ok (.ifCond .ne 9, 3) := dk_154 0 9 (dk_at dksX1_recode_0 6 rfl rfl)
theorem dX1_recode_9 : decode cX1_recode 9 = .ok (.aload_n 0, 1) := dk_42 (dk_at dksX1_recode_0 9 rfl rfl)
theorem dX1_recode_10 : decode cX1_recode 10 = .ok (.iconst 1, 1) := dk_4 (dk_at dksX1_recode_0 10 rfl rfl)
theorem dX1_recode_11 : decode cX1_recode 11 = .ok (.invokevirtual 40, 3) := dk_182 0 40 (dk_at dksX1_recode_0 11 rfl rfl)
theorem dX1_recode_14 : decode cX1_recode 14 = .ok (.ireturn, 1) := dk_172 (dk_at dksX1_recode_0 14 rfl rfl)
theorem dX1_recode_15 : decode cX1_recode 15 = .ok (.iload_n 3, 1) := dk_29 (dk_at dksX1_recode_0 15 rfl rfl)
theorem dX1_recode_16 : decode cX1_recode 16 = .ok (.iconst 1, 1) := dk_4 (dk_at dksX1_recode_0 16 rfl rfl)
theorem dX1_recode_17 : decode cX1_recode 17 = .ok (.bipush 99, 2) := dk_16 99 (dk_at dksX1_recode_0 17 rfl rfl)
theorem dX1_recode_19 : decode cX1_recode 19 = .ok (.invokestatic 36, 3) := dk_184 0 36 (dk_at dksX1_recode_0 19 rfl rfl)
theorem dX1_recode_22 : decode cX1_recode 22 = .ok (.ifCond .ne 9, 3) := dk_154 0 9 (dk_at dksX1_recode_1 0 rfl rfl)
theorem dX1_recode_25 : decode cX1_recode 25 = .ok (.aload_n 0, 1) := dk_42 (dk_at dksX1_recode_1 3 rfl rfl)
theorem dX1_recode_26 : decode cX1_recode 26 = .ok (.iconst 2, 1) := dk_5 (dk_at dksX1_recode_1 4 rfl rfl)
theorem dX1_recode_27 : decode cX1_recode 27 = .ok (.invokevirtual 40, 3) := dk_182 0 40 (dk_at dksX1_recode_1 5 rfl rfl)
theorem dX1_recode_30 : decode cX1_recode 30 = .ok (.ireturn, 1) := dk_172 (dk_at dksX1_recode_1 8 rfl rfl)
theorem dX1_recode_31 : decode cX1_recode 31 = .ok (.aload_n 0, 1) := dk_42 (dk_at dksX1_recode_1 9 rfl rfl)
theorem dX1_recode_32 : decode cX1_recode 32 = .ok (.getfield 56, 3) := dk_180 0 56 (dk_at dksX1_recode_1 10 rfl rfl)
theorem dX1_recode_35 : decode cX1_recode 35 = .ok (.getfield 86, 3) := dk_180 0 86 (dk_at dksX1_recode_1 13 rfl rfl)
theorem dX1_recode_38 : decode cX1_recode 38 = .ok (.iload_n 1, 1) := dk_27 (dk_at dksX1_recode_1 16 rfl rfl)
theorem dX1_recode_39 : decode cX1_recode 39 = .ok (.invokeinterface 93 2, 5) := by decide +kernel
theorem dX1_recode_44 : decode cX1_recode 44 = .ok (.checkcast 97, 3) := dk_192 0 97 (dk_at dksX1_recode_2 0 rfl rfl)
theorem dX1_recode_47 : decode cX1_recode 47 = .ok (.iload_n 2, 1) := dk_28 (dk_at dksX1_recode_2 3 rfl rfl)
theorem dX1_recode_48 : decode cX1_recode 48 = .ok (.iload_n 3, 1) := dk_29 (dk_at dksX1_recode_2 4 rfl rfl)
theorem dX1_recode_49 : decode cX1_recode 49 = .ok (.invokevirtual 356, 3) := dk_182 1 100 (dk_at dksX1_recode_2 5 rfl rfl)
theorem dX1_recode_52 : decode cX1_recode 52 = .ok (.ifCond .ne 9, 3) := dk_154 0 9 (dk_at dksX1_recode_2 8 rfl rfl)
theorem dX1_recode_55 : decode cX1_recode 55 = .ok (.aload_n 0, 1) := dk_42 (dk_at dksX1_recode_2 11 rfl rfl)
theorem dX1_recode_56 : decode cX1_recode 56 = .ok (.iconst 5, 1) := dk_8 (dk_at dksX1_recode_2 12 rfl rfl)
theorem dX1_recode_57 : decode cX1_recode 57 = .ok (.invokevirtual 40, 3) := dk_182 0 40 (dk_at dksX1_recode_2 13 rfl rfl)
theorem dX1_recode_60 : decode cX1_recode 60 = .ok (.ireturn, 1) := dk_172 (dk_at dksX1_recode_2 16 rfl rfl)
theorem dX1_recode_61 : decode cX1_recode 61 = .ok (.aload_n 0, 1) := dk_42 (dk_at dksX1_recode_2 17 rfl rfl)
theorem dX1_recode_62 : decode cX1_recode 62 = .ok (.aload_n 0, 1) := dk_42 (dk_at dksX1_recode_2 18 rfl rfl)
theorem dX1_recode_63 : decode cX1_recode 63 = .ok (.invokevirtual 344, 3) := dk_182 1 88 (dk_at dksX1_recode_2 19 rfl rfl)
theorem dX1_recode_66 : decode cX1_recode 66 = .ok (.getfield 86, 3) := dk_180 0 86 (dk_at dksX1_recode_3 0 rfl rfl)
theorem dX1_recode_69 : decode cX1_recode 69 = .ok (.iload_n 1, 1) := dk_27 (dk_at dksX1_recode_3 3 rfl rfl)
theorem dX1_recode_70 : decode cX1_recode 70 = .ok (.invokeinterface 93 2, 5) := by decide +kernel
theorem dX1_recode_75 : decode cX1_recode 75 = .ok (.checkcast 97, 3) := dk_192 0 97 (dk_at dksX1_recode_3 9 rfl rfl)
theorem dX1_recode_78 : decode cX1_recode 78 = .ok (.getfield 359, 3) := dk_180 1 103 (dk_at dksX1_recode_3 12 rfl rfl)
theorem dX1_recode_81 : decode cX1_recode 81 = .ok (.iload_n 2, 1) := dk_28 (dk_at dksX1_recode_3 15 rfl rfl)
theorem dX1_recode_82 : decode cX1_recode 82 = .ok (.iload_n 3, 1) := dk_29 (dk_at dksX1_recode_3 16 rfl rfl)
theorem dX1_recode_83 : decode cX1_recode 83 = .ok (.invokestatic 131, 3) := dk_184 0 131 (dk_at dksX1_recode_3 17 rfl rfl)
theorem dX1_recode_86 : decode cX1_recode 86 = .ok (.invokeinterface 362 3, 5) := by decide +kernel
theorem dX1_recode_91 : decode cX1_recode 91 = .ok (.checkcast 132, 3) := dk_192 0 132 (dk_at dksX1_recode_4 5 rfl rfl)
theorem dX1_recode_94 : decode cX1_recode 94 = .ok (.invokevirtual 158, 3) := dk_182 0 158 (dk_at dksX1_recode_4 8 rfl rfl)
theorem dX1_recode_97 : decode cX1_recode 97 = .ok (.invokevirtual 83, 3) := dk_182 0 83 (dk_at dksX1_recode_4 11 rfl rfl)
theorem dX1_recode_100 : decode cX1_recode 100 = .ok (.ireturn, 1) := dk_172 (dk_at dksX1_recode_4 14 rfl rfl)
theorem md_X1_recode : xMd yX1_recode cX1_recode 4 (Option.some Jvm.ClassFile.FieldType.int) 3 := ⟨q2840, q123, by decide, by decide +kernel, by decide +kernel, by decide +kernel⟩
def f_X1_recode (p0 : PH) (a0 : Nat) (a1 : Int32) (a2 : Int32) (a3 : Int32) : Option (xO × PH) :=
  (xcl1 p0 a0 0 (xcI (f_X1_isControl p0 a0 a1 a2) fun x2 p1 =>
  (if x2 = 0 then
  (xcI (f_X1_refused p1 a0 1) fun x38 p37 =>
  (rI x38 p37)) else
  (xcI (f_X1_isIn p1 a3 1 99) fun x4 p3 =>
  (if x4 = 0 then
  (xcI (f_X1_refused p3 a0 2) fun x36 p35 =>
  (rI x36 p35)) else
  (xgR p3 a0 0 5 fun x5 =>
  (xnul x5 none fun b6 =>
  (xgR p3 b6 3 0 fun x7 =>
  (xnul x7 none fun b8 =>
  (xcR (f_J3_get p3 b8 a1) fun x10 p9 =>
  (xcst p9 (x10) [5]
  (xnul x10 none fun b11 =>
  (xcI (f_X6_mayHave p9 b11 a2 a3) fun x13 p12 =>
  (if x13 = 0 then
  (xcI (f_X1_refused p12 a0 5) fun x34 p33 =>
  (rI x34 p33)) else
  (xcR (f_X1_acts p12 a0 ) fun x15 p14 =>
  (xnul x15 none fun b16 =>
  (xgR p14 b16 3 0 fun x17 =>
  (xnul x17 none fun b18 =>
  (xcR (f_J3_get p14 b18 a1) fun x20 p19 =>
  (xcst p19 (x20) [5]
  (xnul x20 none fun b21 =>
  (xgR p19 b21 5 1 fun x22 =>
  (xcR (f_J19_valueOf p19 a3) fun x24 p23 =>
  (xnul x22 none fun b25 =>
  (xcR (f_J3_set p23 b25 a2 x24) fun x27 p26 =>
  (xcst p26 (x27) [18]
  (xnul x27 none fun b28 =>
  (xcI (f_J19_intValue p26 b28 ) fun x30 p29 =>
  (xcI (f_X1_fine p29 a0 x30) fun x32 p31 =>
  (rI x32 p31))))))))))))))))))))))))))))))
theorem rc_X1_recode {p0 : PH} {a0 : Nat} {a1 : Int32} {a2 : Int32} {a3 : Int32} : ∀ z, f_X1_recode p0 a0 a1 a2 a3 = some z → xco p0 a0 = some 0 := fun z h => xcl1_some h
theorem f_X1_recode_ok {G : xG} (hO : xOK G) (p0 : PH) (a0 : Nat) (a1 : Int32) (a2 : Int32) (a3 : Int32) : CT G 9 yX1_recode cX1_recode 4 (Option.some Jvm.ClassFile.FieldType.int) [.ref a0, .int a1, .int a2, .int a3] p0 (f_X1_recode p0 a0 a1 a2 a3) := by
  refine CT_of hO (by decide +kernel) (by decide +kernel) (Nat.le_of_ble_eq_true rfl) ?_
  show X G "ForestLegs" "recode" cX1_recode 4 (Option.some Jvm.ClassFile.FieldType.int) 9 0 [(0, .ref a0), (1, .int a1), (2, .int a2), (3, .int a3)] [] p0 (f_X1_recode p0 a0 a1 a2 a3)
  refine x_cl1 (fun e0 => ?_)
  refine x_aload_nr 0 dX1_recode_0 rfl rfl (n := 1) rfl ?_
  refine x_iload_n 1 dX1_recode_1 rfl rfl (n := 2) rfl ?_
  refine x_iload_n 2 dX1_recode_2 rfl rfl (n := 3) rfl ?_
  refine x_callV_I [.int a1, .int a2] [] (f_X1_isControl_ok hO p0 a0 a1 a2) rc_X1_isControl md_X1_isControl rfl q1771 q1773 qs40 dX1_recode_3 rfl rfl (by decide) (Nat.le_of_ble_eq_true rfl) (n := 6) rfl (fun x2 p1 => ?_)
  refine x_if_ne dX1_recode_6 (t := 15) (by decide) (n := 9) rfl (fun _ => ?_) (fun _ => ?_)
  · refine x_iload_n 3 dX1_recode_15 rfl rfl (n := 16) rfl ?_
    refine x_iconst 1 dX1_recode_16 rfl (n := 17) rfl ?_
    refine x_bipush 99 dX1_recode_17 rfl (n := 19) rfl ?_
    refine x_callS_I [.int a3, .int 1, .int 99] [] (f_X1_isIn_ok hO p1 a3 1 99) md_X1_isIn q247 q248 dX1_recode_19 rfl rfl (by decide) (Nat.le_of_ble_eq_true rfl) (n := 22) rfl (fun x4 p3 => ?_)
    refine x_if_ne dX1_recode_22 (t := 31) (by decide) (n := 25) rfl (fun _ => ?_) (fun _ => ?_)
    · refine x_aload_nr 0 dX1_recode_31 rfl rfl (n := 32) rfl ?_
      refine x_getR fl_X1_56 dX1_recode_32 (n := 35) rfl (fun x5 => ?_)
      refine x_sm (fun b6 e => ?_)
      subst e
      refine x_getR fl_X1_86 dX1_recode_35 (n := 38) rfl (fun x7 => ?_)
      refine x_iload_n 1 dX1_recode_38 rfl rfl (n := 39) rfl ?_
      refine x_sm (fun b8 e => ?_)
      subst e
      refine x_callF_R [.int a1] [] (f_J3_get_ok hO p3 b8 a1) rc_J3_get md_J3_get rfl q1497 fc_java_util_ArrayList_java_util_List_get_1_ILjava dX1_recode_39 rfl rfl (by decide) (Nat.le_of_ble_eq_true rfl) (n := 44) rfl (fun x10 p9 => ?_)
      refine x_cast (x := x10) (cs := [5]) q1574 cst_ForestLegs_Course dX1_recode_44 (n := 47) rfl ?_
      refine x_iload_n 2 dX1_recode_47 rfl rfl (n := 48) rfl ?_
      refine x_iload_n 3 dX1_recode_48 rfl rfl (n := 49) rfl ?_
      refine x_sm (fun b11 e => ?_)
      subst e
      refine x_callV_I [.int a2, .int a3] [] (f_X6_mayHave_ok hO p9 b11 a2 a3) rc_X6_mayHave md_X6_mayHave rfl q2841 q2842 q2843 dX1_recode_49 rfl rfl (by decide) (Nat.le_of_ble_eq_true rfl) (n := 52) rfl (fun x13 p12 => ?_)
      refine x_if_ne dX1_recode_52 (t := 61) (by decide) (n := 55) rfl (fun _ => ?_) (fun _ => ?_)
      · refine x_aload_nr 0 dX1_recode_61 rfl rfl (n := 62) rfl ?_
        refine x_aload_nr 0 dX1_recode_62 rfl rfl (n := 63) rfl ?_
        refine x_callV_R [] [.ref a0] (f_X1_acts_ok hO p12 a0 ) rc_X1_acts md_X1_acts rfl q2703 q2705 qs59 dX1_recode_63 rfl rfl (by decide) (Nat.le_of_ble_eq_true rfl) (n := 66) rfl (fun x15 p14 => ?_)
        refine x_sm (fun b16 e => ?_)
        subst e
        refine x_getR fl_X1_86 dX1_recode_66 (n := 69) rfl (fun x17 => ?_)
        refine x_iload_n 1 dX1_recode_69 rfl rfl (n := 70) rfl ?_
        refine x_sm (fun b18 e => ?_)
        subst e
        refine x_callF_R [.int a1] [.ref a0] (f_J3_get_ok hO p14 b18 a1) rc_J3_get md_J3_get rfl q1497 fc_java_util_ArrayList_java_util_List_get_1_ILjava dX1_recode_70 rfl rfl (by decide) (Nat.le_of_ble_eq_true rfl) (n := 75) rfl (fun x20 p19 => ?_)
        refine x_cast (x := x20) (cs := [5]) q1574 cst_ForestLegs_Course dX1_recode_75 (n := 78) rfl ?_
        refine x_sm (fun b21 e => ?_)
        subst e
        refine x_getR fl_X1_359 dX1_recode_78 (n := 81) rfl (fun x22 => ?_)
        refine x_iload_n 2 dX1_recode_81 rfl rfl (n := 82) rfl ?_
        refine x_iload_n 3 dX1_recode_82 rfl rfl (n := 83) rfl ?_
        refine x_callS_R [.int a3] [.int a2, va_rf x22, .ref a0] (f_J19_valueOf_ok hO p19 a3) md_J19_valueOf q1582 q1213 dX1_recode_83 rfl rfl (by decide) (by simp only [List.map, xcat]; exact Nat.le_of_ble_eq_true rfl) (n := 86) rfl (fun x24 p23 => ?_)
        refine x_sm (fun b25 e => ?_)
        subst e
        refine x_callF_R [.int a2, va_rf x24] [.ref a0] (f_J3_set_ok hO p23 b25 a2 x24) rc_J3_set md_J3_set rfl q2848 fc_java_util_ArrayList_java_util_List_set_2_ILjava dX1_recode_86 rfl rfl (by decide) (Nat.le_of_ble_eq_true rfl) (n := 91) rfl (fun x27 p26 => ?_)
        refine x_cast (x := x27) (cs := [18]) q1764 cst_java_lang_Integer dX1_recode_91 (n := 94) rfl ?_
        refine x_sm (fun b28 e => ?_)
        subst e
        refine x_callV_I [] [.ref a0] (f_J19_intValue_ok hO p26 b28 ) rc_J19_intValue md_J19_intValue rfl q1765 q941 q942 dX1_recode_94 rfl rfl (by decide) (Nat.le_of_ble_eq_true rfl) (n := 97) rfl (fun x30 p29 => ?_)
        refine x_callV_I [.int x30] [] (f_X1_fine_ok hO p29 a0 x30) rc_X1_fine md_X1_fine rfl q1480 q1482 qs26 dX1_recode_97 rfl rfl (by decide) (Nat.le_of_ble_eq_true rfl) (n := 100) rfl (fun x32 p31 => ?_)
        exact x_ireturn dX1_recode_100
      · refine x_aload_nr 0 dX1_recode_55 rfl rfl (n := 56) rfl ?_
        refine x_iconst 5 dX1_recode_56 rfl (n := 57) rfl ?_
        refine x_callV_I [.int 5] [] (f_X1_refused_ok hO p12 a0 5) rc_X1_refused md_X1_refused rfl q250 q252 qs0 dX1_recode_57 rfl rfl (by decide) (Nat.le_of_ble_eq_true rfl) (n := 60) rfl (fun x34 p33 => ?_)
        exact x_ireturn dX1_recode_60
    · refine x_aload_nr 0 dX1_recode_25 rfl rfl (n := 26) rfl ?_
      refine x_iconst 2 dX1_recode_26 rfl (n := 27) rfl ?_
      refine x_callV_I [.int 2] [] (f_X1_refused_ok hO p3 a0 2) rc_X1_refused md_X1_refused rfl q250 q252 qs0 dX1_recode_27 rfl rfl (by decide) (Nat.le_of_ble_eq_true rfl) (n := 30) rfl (fun x36 p35 => ?_)
      exact x_ireturn dX1_recode_30
  · refine x_aload_nr 0 dX1_recode_9 rfl rfl (n := 10) rfl ?_
    refine x_iconst 1 dX1_recode_10 rfl (n := 11) rfl ?_
    refine x_callV_I [.int 1] [] (f_X1_refused_ok hO p1 a0 1) rc_X1_refused md_X1_refused rfl q250 q252 qs0 dX1_recode_11 rfl rfl (by decide) (Nat.le_of_ble_eq_true rfl) (n := 14) rfl (fun x38 p37 => ?_)
    exact x_ireturn dX1_recode_14
abbrev cX1_cancel : ByteArray := prog_1_method_65_code
def yX1_cancel : MethodName := ⟨RX1, "cancel", "(II)I"⟩
def dkwX1_cancel_4 : List UInt8 := [25, 4, 180, 1, 103, 28, 185, 1, 97, 2, 0, 87, 42, 25, 4, 182, 0, 99, 182, 0, 83, 172]
abbrev dktX1_cancel_4 : List UInt8 := dkwX1_cancel_4 ++ []
def dkwX1_cancel_3 : List UInt8 := [42, 8, 182, 0, 40, 172, 42, 182, 1, 88, 180, 0, 86, 27, 185, 0, 93, 2, 0, 192, 0, 97, 58, 4]
abbrev dktX1_cancel_3 : List UInt8 := dkwX1_cancel_3 ++ dktX1_cancel_4
def dkwX1_cancel_2 : List UInt8 := [45, 182, 0, 99, 162, 0, 26, 45, 28, 4, 100, 182, 0, 173, 45, 28, 4, 96, 182, 0, 173, 160, 0, 9]
abbrev dktX1_cancel_2 : List UInt8 := dkwX1_cancel_2 ++ dktX1_cancel_3
def dkwX1_cancel_1 : List UInt8 := [185, 0, 93, 2, 0, 192, 0, 97, 78, 45, 182, 0, 99, 4, 159, 0, 34, 28, 158, 0, 36, 28, 4, 96]
abbrev dktX1_cancel_1 : List UInt8 := dkwX1_cancel_1 ++ dktX1_cancel_2
def dkwX1_cancel_0 : List UInt8 := [42, 27, 28, 182, 0, 170, 154, 0, 9, 42, 4, 182, 0, 40, 172, 42, 180, 0, 56, 180, 0, 86, 27]
abbrev dktX1_cancel_0 : List UInt8 := dkwX1_cancel_0 ++ dktX1_cancel_1
theorem dksX1_cancel_0 : cX1_cancel.data.toList.drop 0 = dktX1_cancel_0 := by decide +kernel
theorem dksX1_cancel_1 : cX1_cancel.data.toList.drop 23 = dktX1_cancel_1 := dk_seg dksX1_cancel_0 23 rfl rfl
theorem dksX1_cancel_2 : cX1_cancel.data.toList.drop 47 = dktX1_cancel_2 := dk_seg dksX1_cancel_1 24 rfl rfl
theorem dksX1_cancel_3 : cX1_cancel.data.toList.drop 71 = dktX1_cancel_3 := dk_seg dksX1_cancel_2 24 rfl rfl
theorem dksX1_cancel_4 : cX1_cancel.data.toList.drop 95 = dktX1_cancel_4 := dk_seg dksX1_cancel_3 24 rfl rfl
theorem dX1_cancel_0 : decode cX1_cancel 0 = .ok (.aload_n 0, 1) := dk_42 (dk_at dksX1_cancel_0 0 rfl rfl)
theorem dX1_cancel_1 : decode cX1_cancel 1 = .ok (.iload_n 1, 1) := dk_27 (dk_at dksX1_cancel_0 1 rfl rfl)
theorem dX1_cancel_2 : decode cX1_cancel 2 = .ok (.iload_n 2, 1) := dk_28 (dk_at dksX1_cancel_0 2 rfl rfl)
theorem dX1_cancel_3 : decode cX1_cancel 3 = .ok (.invokevirtual 170, 3) := dk_182 0 170 (dk_at dksX1_cancel_0 3 rfl rfl)
theorem dX1_cancel_6 : decode cX1_cancel 6 = .ok (.ifCond .ne 9, 3) := dk_154 0 9 (dk_at dksX1_cancel_0 6 rfl rfl)
theorem dX1_cancel_9 : decode cX1_cancel 9 = .ok (.aload_n 0, 1) := dk_42 (dk_at dksX1_cancel_0 9 rfl rfl)
theorem dX1_cancel_10 : decode cX1_cancel 10 = .ok (.iconst 1, 1) := dk_4 (dk_at dksX1_cancel_0 10 rfl rfl)
theorem dX1_cancel_11 : decode cX1_cancel 11 = .ok (.invokevirtual 40, 3) := dk_182 0 40 (dk_at dksX1_cancel_0 11 rfl rfl)
theorem dX1_cancel_14 : decode cX1_cancel 14 = .ok (.ireturn, 1) := dk_172 (dk_at dksX1_cancel_0 14 rfl rfl)
theorem dX1_cancel_15 : decode cX1_cancel 15 = .ok (.aload_n 0, 1) := dk_42 (dk_at dksX1_cancel_0 15 rfl rfl)
theorem dX1_cancel_16 : decode cX1_cancel 16 = .ok (.getfield 56, 3) := dk_180 0 56 (dk_at dksX1_cancel_0 16 rfl rfl)
theorem dX1_cancel_19 : decode cX1_cancel 19 = .ok (.getfield 86, 3) := dk_180 0 86 (dk_at dksX1_cancel_0 19 rfl rfl)
theorem dX1_cancel_22 : decode cX1_cancel 22 = .ok (.iload_n 1, 1) := dk_27 (dk_at dksX1_cancel_0 22 rfl rfl)
theorem dX1_cancel_23 : decode cX1_cancel 23 = .ok (.invokeinterface 93 2, 5) := by decide +kernel
theorem dX1_cancel_28 : decode cX1_cancel 28 = .ok (.checkcast 97, 3) := dk_192 0 97 (dk_at dksX1_cancel_1 5 rfl rfl)
theorem dX1_cancel_31 : decode cX1_cancel 31 = .ok (.astore_n 3, 1) := dk_78 (dk_at dksX1_cancel_1 8 rfl rfl)
theorem dX1_cancel_32 : decode cX1_cancel 32 = .ok (.aload_n 3, 1) := dk_45 (dk_at dksX1_cancel_1 9 rfl rfl)
theorem dX1_cancel_33 : decode cX1_cancel 33 = .ok (.invokevirtual 99, 3) := dk_182 0 99 (dk_at dksX1_cancel_1 10 rfl rfl)
theorem dX1_cancel_36 : decode cX1_cancel 36 = .ok (.iconst 1, 1) := dk_4 (dk_at dksX1_cancel_1 13 rfl rfl)
theorem dX1_cancel_37 : decode cX1_cancel 37 = .ok (.if_icmp .eq 34, 3) := dk_159 0 34 (dk_at dksX1_cancel_1 14 rfl rfl)
theorem dX1_cancel_40 : decode cX1_cancel 40 = .ok (.iload_n 2, 1) := dk_28 (dk_at dksX1_cancel_1 17 rfl rfl)
theorem dX1_cancel_41 : decode cX1_cancel 41 = .ok (.ifCond .le 36, 3) := dk_158 0 36 (dk_at dksX1_cancel_1 18 rfl rfl)
theorem dX1_cancel_44 : decode cX1_cancel 44 = .ok (.iload_n 2, 1) := dk_28 (dk_at dksX1_cancel_1 21 rfl rfl)
theorem dX1_cancel_45 : decode cX1_cancel 45 = .ok (.iconst 1, 1) := dk_4 (dk_at dksX1_cancel_1 22 rfl rfl)
theorem dX1_cancel_46 : decode cX1_cancel 46 = .ok (.iadd, 1) := dk_96 (dk_at dksX1_cancel_1 23 rfl rfl)
theorem dX1_cancel_47 : decode cX1_cancel 47 = .ok (.aload_n 3, 1) := dk_45 (dk_at dksX1_cancel_2 0 rfl rfl)
theorem dX1_cancel_48 : decode cX1_cancel 48 = .ok (.invokevirtual 99, 3) := dk_182 0 99 (dk_at dksX1_cancel_2 1 rfl rfl)
theorem dX1_cancel_51 : decode cX1_cancel 51 = .ok (.if_icmp .ge 26, 3) := dk_162 0 26 (dk_at dksX1_cancel_2 4 rfl rfl)
theorem dX1_cancel_54 : decode cX1_cancel 54 = .ok (.aload_n 3, 1) := dk_45 (dk_at dksX1_cancel_2 7 rfl rfl)
theorem dX1_cancel_55 : decode cX1_cancel 55 = .ok (.iload_n 2, 1) := dk_28 (dk_at dksX1_cancel_2 8 rfl rfl)
theorem dX1_cancel_56 : decode cX1_cancel 56 = .ok (.iconst 1, 1) := dk_4 (dk_at dksX1_cancel_2 9 rfl rfl)
theorem dX1_cancel_57 : decode cX1_cancel 57 = .ok (.isub, 1) := dk_100 (dk_at dksX1_cancel_2 10 rfl rfl)
theorem dX1_cancel_58 : decode cX1_cancel 58 = .ok (.invokevirtual 173, 3) := dk_182 0 173 (dk_at dksX1_cancel_2 11 rfl rfl)
theorem dX1_cancel_61 : decode cX1_cancel 61 = .ok (.aload_n 3, 1) := dk_45 (dk_at dksX1_cancel_2 14 rfl rfl)
theorem dX1_cancel_62 : decode cX1_cancel 62 = .ok (.iload_n 2, 1) := dk_28 (dk_at dksX1_cancel_2 15 rfl rfl)
theorem dX1_cancel_63 : decode cX1_cancel 63 = .ok (.iconst 1, 1) := dk_4 (dk_at dksX1_cancel_2 16 rfl rfl)
theorem dX1_cancel_64 : decode cX1_cancel 64 = .ok (.iadd, 1) := dk_96 (dk_at dksX1_cancel_2 17 rfl rfl)
theorem dX1_cancel_65 : decode cX1_cancel 65 = .ok (.invokevirtual 173, 3) := dk_182 0 173 (dk_at dksX1_cancel_2 18 rfl rfl)
theorem dX1_cancel_68 : decode cX1_cancel 68 = .ok (.if_icmp .ne 9, 3) := dk_160 0 9 (dk_at dksX1_cancel_2 21 rfl rfl)
theorem dX1_cancel_71 : decode cX1_cancel 71 = .ok (.aload_n 0, 1) := dk_42 (dk_at dksX1_cancel_3 0 rfl rfl)
theorem dX1_cancel_72 : decode cX1_cancel 72 = .ok (.iconst 5, 1) := dk_8 (dk_at dksX1_cancel_3 1 rfl rfl)
theorem dX1_cancel_73 : decode cX1_cancel 73 = .ok (.invokevirtual 40, 3) := dk_182 0 40 (dk_at dksX1_cancel_3 2 rfl rfl)
theorem dX1_cancel_76 : decode cX1_cancel 76 = .ok (.ireturn, 1) := dk_172 (dk_at dksX1_cancel_3 5 rfl rfl)
theorem dX1_cancel_77 : decode cX1_cancel 77 = .ok (.aload_n 0, 1) := dk_42 (dk_at dksX1_cancel_3 6 rfl rfl)
theorem dX1_cancel_78 : decode cX1_cancel 78 = .ok (.invokevirtual 344, 3) := dk_182 1 88 (dk_at dksX1_cancel_3 7 rfl rfl)
theorem dX1_cancel_81 : decode cX1_cancel 81 = .ok (.getfield 86, 3) := dk_180 0 86 (dk_at dksX1_cancel_3 10 rfl rfl)
theorem dX1_cancel_84 : decode cX1_cancel 84 = .ok (.iload_n 1, 1) := dk_27 (dk_at dksX1_cancel_3 13 rfl rfl)
theorem dX1_cancel_85 : decode cX1_cancel 85 = .ok (.invokeinterface 93 2, 5) := by decide +kernel
theorem dX1_cancel_90 : decode cX1_cancel 90 = .ok (.checkcast 97, 3) := dk_192 0 97 (dk_at dksX1_cancel_3 19 rfl rfl)
theorem dX1_cancel_93 : decode cX1_cancel 93 = .ok (.astore 4, 2) := dk_58 4 (dk_at dksX1_cancel_3 22 rfl rfl)
theorem dX1_cancel_95 : decode cX1_cancel 95 = .ok (.aload 4, 2) := dk_25 4 (dk_at dksX1_cancel_4 0 rfl rfl)
theorem dX1_cancel_97 : decode cX1_cancel 97 = .ok (.getfield 359, 3) := dk_180 1 103 (dk_at dksX1_cancel_4 2 rfl rfl)
theorem dX1_cancel_100 : decode cX1_cancel 100 = .ok (.iload_n 2, 1) := dk_28 (dk_at dksX1_cancel_4 5 rfl rfl)
theorem dX1_cancel_101 : decode cX1_cancel 101 = .ok (.invokeinterface 353 2, 5) := by decide +kernel
theorem dX1_cancel_106 : decode cX1_cancel 106 = .ok (.pop, 1) := dk_87 (dk_at dksX1_cancel_4 11 rfl rfl)
theorem dX1_cancel_107 : decode cX1_cancel 107 = .ok (.aload_n 0, 1) := dk_42 (dk_at dksX1_cancel_4 12 rfl rfl)
theorem dX1_cancel_108 : decode cX1_cancel 108 = .ok (.aload 4, 2) := dk_25 4 (dk_at dksX1_cancel_4 13 rfl rfl)
theorem dX1_cancel_110 : decode cX1_cancel 110 = .ok (.invokevirtual 99, 3) := dk_182 0 99 (dk_at dksX1_cancel_4 15 rfl rfl)
theorem dX1_cancel_113 : decode cX1_cancel 113 = .ok (.invokevirtual 83, 3) := dk_182 0 83 (dk_at dksX1_cancel_4 18 rfl rfl)
theorem dX1_cancel_116 : decode cX1_cancel 116 = .ok (.ireturn, 1) := dk_172 (dk_at dksX1_cancel_4 21 rfl rfl)
theorem md_X1_cancel : xMd yX1_cancel cX1_cancel 5 (Option.some Jvm.ClassFile.FieldType.int) 2 := ⟨q2859, q123, by decide, by decide +kernel, by decide +kernel, by decide +kernel⟩
def f_X1_cancel_71 (a0 : Nat)   (p0 : PH) : Option (xO × PH) :=
  (xcI (f_X1_refused p0 a0 5) fun x13 p12 =>
  (rI x13 p12))
def f_X1_cancel_77 (a0 : Nat)  (v1 : Int32) (v2 : Int32) (p0 : PH) : Option (xO × PH) :=
  (xcR (f_X1_acts p0 a0 ) fun x15 p14 =>
  (xnul x15 none fun b16 =>
  (xgR p14 b16 3 0 fun x17 =>
  (xnul x17 none fun b18 =>
  (xcR (f_J3_get p14 b18 v1) fun x20 p19 =>
  (xcst p19 (x20) [5]
  (xnul x20 none fun b21 =>
  (xgR p19 b21 5 1 fun x22 =>
  (xnul x22 none fun b23 =>
  (xcR (f_J3_remove p19 b23 v2) fun x25 p24 =>
  (xcI (f_X6_size p24 b21 ) fun x27 p26 =>
  (xcI (f_X1_fine p26 a0 x27) fun x29 p28 =>
  (rI x29 p28)))))))))))))
def f_X1_cancel (p0 : PH) (a0 : Nat) (a1 : Int32) (a2 : Int32) : Option (xO × PH) :=
  (xcl1 p0 a0 0 (xcI (f_X1_isControl p0 a0 a1 a2) fun x2 p1 =>
  (if x2 = 0 then
  (xcI (f_X1_refused p1 a0 1) fun x37 p36 =>
  (rI x37 p36)) else
  (xgR p1 a0 0 5 fun x3 =>
  (xnul x3 none fun b4 =>
  (xgR p1 b4 3 0 fun x5 =>
  (xnul x5 none fun b6 =>
  (xcR (f_J3_get p1 b6 a1) fun x8 p7 =>
  (xcst p7 (x8) [5]
  (xnul x8 none fun b9 =>
  (xcI (f_X6_size p7 b9 ) fun x11 p10 =>
  (if x11 = 1 then
  (f_X1_cancel_71 a0  p10) else
  (if a2 ≤ 0 then
  (f_X1_cancel_77 a0 a1 a2 p10) else
  (xcI (f_X6_size p10 b9 ) fun x31 p30 =>
  (if x31 ≤ (a2 + 1) then
  (f_X1_cancel_77 a0 a1 a2 p30) else
  (xcI (f_X6_code p30 b9 (a2 - 1)) fun x33 p32 =>
  (xcI (f_X6_code p32 b9 (a2 + 1)) fun x35 p34 =>
  (if x33 = x35 then
  (f_X1_cancel_71 a0  p34) else
  (f_X1_cancel_77 a0 a1 a2 p34)))))))))))))))))))
theorem rc_X1_cancel {p0 : PH} {a0 : Nat} {a1 : Int32} {a2 : Int32} : ∀ z, f_X1_cancel p0 a0 a1 a2 = some z → xco p0 a0 = some 0 := fun z h => xcl1_some h
theorem f_X1_cancel_71_ok {G : xG} (hO : xOK G) (a0 : Nat)   (p0 : PH) : X G "ForestLegs" "cancel" cX1_cancel 5 (Option.some Jvm.ClassFile.FieldType.int) 9 71 [(0, .ref a0)] [] p0 (f_X1_cancel_71 a0  p0) := by
  unfold f_X1_cancel_71
  refine x_aload_nr 0 dX1_cancel_71 rfl rfl (n := 72) rfl ?_
  refine x_iconst 5 dX1_cancel_72 rfl (n := 73) rfl ?_
  refine x_callV_I [.int 5] [] (f_X1_refused_ok hO p0 a0 5) rc_X1_refused md_X1_refused rfl q250 q252 qs0 dX1_cancel_73 rfl rfl (by decide) (Nat.le_of_ble_eq_true rfl) (n := 76) rfl (fun x13 p12 => ?_)
  exact x_ireturn dX1_cancel_76
theorem f_X1_cancel_77_ok {G : xG} (hO : xOK G) (a0 : Nat)  (v1 : Int32) (v2 : Int32) (p0 : PH) : X G "ForestLegs" "cancel" cX1_cancel 5 (Option.some Jvm.ClassFile.FieldType.int) 9 77 [(0, .ref a0), (1, .int v1), (2, .int v2)] [] p0 (f_X1_cancel_77 a0 v1 v2 p0) := by
  unfold f_X1_cancel_77
  refine x_aload_nr 0 dX1_cancel_77 rfl rfl (n := 78) rfl ?_
  refine x_callV_R [] [] (f_X1_acts_ok hO p0 a0 ) rc_X1_acts md_X1_acts rfl q2703 q2705 qs59 dX1_cancel_78 rfl rfl (by decide) (Nat.le_of_ble_eq_true rfl) (n := 81) rfl (fun x15 p14 => ?_)
  refine x_sm (fun b16 e => ?_)
  subst e
  refine x_getR fl_X1_86 dX1_cancel_81 (n := 84) rfl (fun x17 => ?_)
  refine x_iload_n 1 dX1_cancel_84 rfl rfl (n := 85) rfl ?_
  refine x_sm (fun b18 e => ?_)
  subst e
  refine x_callF_R [.int v1] [] (f_J3_get_ok hO p14 b18 v1) rc_J3_get md_J3_get rfl q1497 fc_java_util_ArrayList_java_util_List_get_1_ILjava dX1_cancel_85 rfl rfl (by decide) (Nat.le_of_ble_eq_true rfl) (n := 90) rfl (fun x20 p19 => ?_)
  refine x_cast (x := x20) (cs := [5]) q1574 cst_ForestLegs_Course dX1_cancel_90 (n := 93) rfl ?_
  refine x_astore [(4, va_rf x20), (0, .ref a0), (1, .int v1), (2, .int v2)] dX1_cancel_93 (by decide) rfl (n := 95) rfl ?_
  refine x_aload 0 dX1_cancel_95 rfl (n := 97) rfl ?_
  refine x_sm (fun b21 e => ?_)
  subst e
  refine x_getR fl_X1_359 dX1_cancel_97 (n := 100) rfl (fun x22 => ?_)
  refine x_iload_n 3 dX1_cancel_100 rfl rfl (n := 101) rfl ?_
  refine x_sm (fun b23 e => ?_)
  subst e
  refine x_callF_R [.int v2] [] (f_J3_remove_ok hO p19 b23 v2) rc_J3_remove md_J3_remove rfl q2815 fc_java_util_ArrayList_java_util_List_remove_1_ILjava dX1_cancel_101 rfl rfl (by decide) (Nat.le_of_ble_eq_true rfl) (n := 106) rfl (fun x25 p24 => ?_)
  refine x_pop dX1_cancel_106 (xcat _) (n := 107) rfl ?_
  refine x_aload_nr 1 dX1_cancel_107 rfl rfl (n := 108) rfl ?_
  refine x_aloadr 0 dX1_cancel_108 rfl (n := 110) rfl ?_
  refine x_callV_I [] [.ref a0] (f_X6_size_ok hO p24 b21 ) rc_X6_size md_X6_size rfl q1575 q1199 q1200 dX1_cancel_110 rfl rfl (by decide) (Nat.le_of_ble_eq_true rfl) (n := 113) rfl (fun x27 p26 => ?_)
  refine x_callV_I [.int x27] [] (f_X1_fine_ok hO p26 a0 x27) rc_X1_fine md_X1_fine rfl q1480 q1482 qs26 dX1_cancel_113 rfl rfl (by decide) (Nat.le_of_ble_eq_true rfl) (n := 116) rfl (fun x29 p28 => ?_)
  exact x_ireturn dX1_cancel_116
theorem f_X1_cancel_ok {G : xG} (hO : xOK G) (p0 : PH) (a0 : Nat) (a1 : Int32) (a2 : Int32) : CT G 9 yX1_cancel cX1_cancel 5 (Option.some Jvm.ClassFile.FieldType.int) [.ref a0, .int a1, .int a2] p0 (f_X1_cancel p0 a0 a1 a2) := by
  refine CT_of hO (by decide +kernel) (by decide +kernel) (Nat.le_of_ble_eq_true rfl) ?_
  show X G "ForestLegs" "cancel" cX1_cancel 5 (Option.some Jvm.ClassFile.FieldType.int) 9 0 [(0, .ref a0), (1, .int a1), (2, .int a2)] [] p0 (f_X1_cancel p0 a0 a1 a2)
  refine x_cl1 (fun e0 => ?_)
  refine x_aload_nr 0 dX1_cancel_0 rfl rfl (n := 1) rfl ?_
  refine x_iload_n 1 dX1_cancel_1 rfl rfl (n := 2) rfl ?_
  refine x_iload_n 2 dX1_cancel_2 rfl rfl (n := 3) rfl ?_
  refine x_callV_I [.int a1, .int a2] [] (f_X1_isControl_ok hO p0 a0 a1 a2) rc_X1_isControl md_X1_isControl rfl q1771 q1773 qs40 dX1_cancel_3 rfl rfl (by decide) (Nat.le_of_ble_eq_true rfl) (n := 6) rfl (fun x2 p1 => ?_)
  refine x_if_ne dX1_cancel_6 (t := 15) (by decide) (n := 9) rfl (fun _ => ?_) (fun _ => ?_)
  · refine x_aload_nr 0 dX1_cancel_15 rfl rfl (n := 16) rfl ?_
    refine x_getR fl_X1_56 dX1_cancel_16 (n := 19) rfl (fun x3 => ?_)
    refine x_sm (fun b4 e => ?_)
    subst e
    refine x_getR fl_X1_86 dX1_cancel_19 (n := 22) rfl (fun x5 => ?_)
    refine x_iload_n 1 dX1_cancel_22 rfl rfl (n := 23) rfl ?_
    refine x_sm (fun b6 e => ?_)
    subst e
    refine x_callF_R [.int a1] [] (f_J3_get_ok hO p1 b6 a1) rc_J3_get md_J3_get rfl q1497 fc_java_util_ArrayList_java_util_List_get_1_ILjava dX1_cancel_23 rfl rfl (by decide) (Nat.le_of_ble_eq_true rfl) (n := 28) rfl (fun x8 p7 => ?_)
    refine x_cast (x := x8) (cs := [5]) q1574 cst_ForestLegs_Course dX1_cancel_28 (n := 31) rfl ?_
    refine x_astore_n [(3, va_rf x8), (0, .ref a0), (1, .int a1), (2, .int a2)] dX1_cancel_31 rfl (by decide) rfl (n := 32) rfl ?_
    refine x_aload_n 0 dX1_cancel_32 rfl rfl (n := 33) rfl ?_
    refine x_sm (fun b9 e => ?_)
    subst e
    refine x_callV_I [] [] (f_X6_size_ok hO p7 b9 ) rc_X6_size md_X6_size rfl q1575 q1199 q1200 dX1_cancel_33 rfl rfl (by decide) (Nat.le_of_ble_eq_true rfl) (n := 36) rfl (fun x11 p10 => ?_)
    refine x_iconst 1 dX1_cancel_36 rfl (n := 37) rfl ?_
    refine x_icmp_eq dX1_cancel_37 (t := 71) (by decide) (n := 40) rfl (fun _ => ?_) (fun _ => ?_)
    · refine x_sub [1] [(0, .ref a0)] rfl ?_
      exact f_X1_cancel_71_ok hO a0  p10
    · refine x_iload_n 3 dX1_cancel_40 rfl rfl (n := 41) rfl ?_
      refine x_if_le dX1_cancel_41 (t := 77) (by decide) (n := 44) rfl (fun _ => ?_) (fun _ => ?_)
      · refine x_sub [1, 2, 3] [(0, .ref a0), (1, .int a1), (2, .int a2)] rfl ?_
        exact f_X1_cancel_77_ok hO a0 a1 a2 p10
      · refine x_iload_n 3 dX1_cancel_44 rfl rfl (n := 45) rfl ?_
        refine x_iconst 1 dX1_cancel_45 rfl (n := 46) rfl ?_
        refine x_iadd dX1_cancel_46 (n := 47) rfl ?_
        refine x_aload_nr 0 dX1_cancel_47 rfl rfl (n := 48) rfl ?_
        refine x_callV_I [] [.int (a2 + 1)] (f_X6_size_ok hO p10 b9 ) rc_X6_size md_X6_size rfl q1575 q1199 q1200 dX1_cancel_48 rfl rfl (by decide) (Nat.le_of_ble_eq_true rfl) (n := 51) rfl (fun x31 p30 => ?_)
        refine x_icmp_ge dX1_cancel_51 (t := 77) (by decide) (n := 54) rfl (fun _ => ?_) (fun _ => ?_)
        · refine x_sub [1, 2, 3] [(0, .ref a0), (1, .int a1), (2, .int a2)] rfl ?_
          exact f_X1_cancel_77_ok hO a0 a1 a2 p30
        · refine x_aload_nr 0 dX1_cancel_54 rfl rfl (n := 55) rfl ?_
          refine x_iload_n 3 dX1_cancel_55 rfl rfl (n := 56) rfl ?_
          refine x_iconst 1 dX1_cancel_56 rfl (n := 57) rfl ?_
          refine x_isub dX1_cancel_57 (n := 58) rfl ?_
          refine x_callV_I [.int (a2 - 1)] [] (f_X6_code_ok hO p30 b9 (a2 - 1)) rc_X6_code md_X6_code rfl q1775 q1205 q1206 dX1_cancel_58 rfl rfl (by decide) (Nat.le_of_ble_eq_true rfl) (n := 61) rfl (fun x33 p32 => ?_)
          refine x_aload_nr 0 dX1_cancel_61 rfl rfl (n := 62) rfl ?_
          refine x_iload_n 3 dX1_cancel_62 rfl rfl (n := 63) rfl ?_
          refine x_iconst 1 dX1_cancel_63 rfl (n := 64) rfl ?_
          refine x_iadd dX1_cancel_64 (n := 65) rfl ?_
          refine x_callV_I [.int (a2 + 1)] [.int x33] (f_X6_code_ok hO p32 b9 (a2 + 1)) rc_X6_code md_X6_code rfl q1775 q1205 q1206 dX1_cancel_65 rfl rfl (by decide) (Nat.le_of_ble_eq_true rfl) (n := 68) rfl (fun x35 p34 => ?_)
          refine x_icmp_ne dX1_cancel_68 (t := 77) (by decide) (n := 71) rfl (fun _ => ?_) (fun _ => ?_)
          · refine x_sub [1, 2, 3] [(0, .ref a0), (1, .int a1), (2, .int a2)] rfl ?_
            exact f_X1_cancel_77_ok hO a0 a1 a2 p34
          · refine x_sub [1] [(0, .ref a0)] rfl ?_
            exact f_X1_cancel_71_ok hO a0  p34
  · refine x_aload_nr 0 dX1_cancel_9 rfl rfl (n := 10) rfl ?_
    refine x_iconst 1 dX1_cancel_10 rfl (n := 11) rfl ?_
    refine x_callV_I [.int 1] [] (f_X1_refused_ok hO p1 a0 1) rc_X1_refused md_X1_refused rfl q250 q252 qs0 dX1_cancel_11 rfl rfl (by decide) (Nat.le_of_ble_eq_true rfl) (n := 14) rfl (fun x37 p36 => ?_)
    exact x_ireturn dX1_cancel_14
abbrev cJ1_isEmpty : ByteArray := prog_45_method_38_code
def yJ1_isEmpty : MethodName := ⟨RJ1, "isEmpty", "()Z"⟩
def dkwJ1_isEmpty_0 : List UInt8 := [42, 180, 0, 24, 42, 180, 0, 20, 160, 0, 7, 4, 167, 0, 4, 3, 172]
abbrev dktJ1_isEmpty_0 : List UInt8 := dkwJ1_isEmpty_0 ++ []
theorem dksJ1_isEmpty_0 : cJ1_isEmpty.data.toList.drop 0 = dktJ1_isEmpty_0 := by decide +kernel
theorem dJ1_isEmpty_0 : decode cJ1_isEmpty 0 = .ok (.aload_n 0, 1) := dk_42 (dk_at dksJ1_isEmpty_0 0 rfl rfl)
theorem dJ1_isEmpty_1 : decode cJ1_isEmpty 1 = .ok (.getfield 24, 3) := dk_180 0 24 (dk_at dksJ1_isEmpty_0 1 rfl rfl)
theorem dJ1_isEmpty_4 : decode cJ1_isEmpty 4 = .ok (.aload_n 0, 1) := dk_42 (dk_at dksJ1_isEmpty_0 4 rfl rfl)
theorem dJ1_isEmpty_5 : decode cJ1_isEmpty 5 = .ok (.getfield 20, 3) := dk_180 0 20 (dk_at dksJ1_isEmpty_0 5 rfl rfl)
theorem dJ1_isEmpty_8 : decode cJ1_isEmpty 8 = .ok (.if_icmp .ne 7, 3) := dk_160 0 7 (dk_at dksJ1_isEmpty_0 8 rfl rfl)
theorem dJ1_isEmpty_11 : decode cJ1_isEmpty 11 = .ok (.iconst 1, 1) := dk_4 (dk_at dksJ1_isEmpty_0 11 rfl rfl)
theorem dJ1_isEmpty_12 : decode cJ1_isEmpty 12 = .ok (.goto 4, 3) := dk_167 0 4 (dk_at dksJ1_isEmpty_0 12 rfl rfl)
theorem dJ1_isEmpty_15 : decode cJ1_isEmpty 15 = .ok (.iconst 0, 1) := dk_3 (dk_at dksJ1_isEmpty_0 15 rfl rfl)
theorem dJ1_isEmpty_16 : decode cJ1_isEmpty 16 = .ok (.ireturn, 1) := dk_172 (dk_at dksJ1_isEmpty_0 16 rfl rfl)
theorem md_J1_isEmpty : xMd yJ1_isEmpty cJ1_isEmpty 1 (Option.some Jvm.ClassFile.FieldType.boolean) 0 := ⟨q1850, q125, by decide, by decide +kernel, by decide +kernel, by decide +kernel⟩
def f_J1_isEmpty (p0 : PH) (a0 : Nat) : Option (xO × PH) :=
  (xcl1 p0 a0 13 (xgI p0 a0 13 1 fun x1 =>
  (xgI p0 a0 13 2 fun x2 =>
  (if x1 = x2 then
  (if vp_nar .boolean 1 = 1 then rI 1 p0 else none) else
  (if vp_nar .boolean 0 = 0 then rI 0 p0 else none)))))
theorem rc_J1_isEmpty {p0 : PH} {a0 : Nat} : ∀ z, f_J1_isEmpty p0 a0 = some z → xco p0 a0 = some 13 := fun z h => xcl1_some h
theorem f_J1_isEmpty_ok {G : xG} (hO : xOK G) (p0 : PH) (a0 : Nat) : CT G 0 yJ1_isEmpty cJ1_isEmpty 1 (Option.some Jvm.ClassFile.FieldType.boolean) [.ref a0] p0 (f_J1_isEmpty p0 a0) := by
  refine CT_of hO (by decide +kernel) (by decide +kernel) (Nat.le_of_ble_eq_true rfl) ?_
  show X G "java/util/ArrayDeque" "isEmpty" cJ1_isEmpty 1 (Option.some Jvm.ClassFile.FieldType.boolean) 0 0 [(0, .ref a0)] [] p0 (f_J1_isEmpty p0 a0)
  refine x_cl1 (fun e0 => ?_)
  refine x_aload_nr 0 dJ1_isEmpty_0 rfl rfl (n := 1) rfl ?_
  refine x_getI fl_J1_24 dJ1_isEmpty_1 (n := 4) rfl (fun x1 => ?_)
  refine x_aload_nr 0 dJ1_isEmpty_4 rfl rfl (n := 5) rfl ?_
  refine x_getI fl_J1_20 dJ1_isEmpty_5 (n := 8) rfl (fun x2 => ?_)
  refine x_icmp_ne dJ1_isEmpty_8 (t := 15) (by decide) (n := 11) rfl (fun _ => ?_) (fun _ => ?_)
  · refine x_iconst 0 dJ1_isEmpty_15 rfl (n := 16) rfl ?_
    exact x_nreturn rfl dJ1_isEmpty_16
  · refine x_iconst 1 dJ1_isEmpty_11 rfl (n := 12) rfl ?_
    refine x_goto dJ1_isEmpty_12 (n := 16) (by decide) ?_
    exact x_nreturn rfl dJ1_isEmpty_16
abbrev cJ1_dec : ByteArray := prog_45_method_7_code
def yJ1_dec : MethodName := ⟨RJ1, "dec", "(II)I"⟩
def dkwJ1_dec_0 : List UInt8 := [132, 0, 255, 26, 156, 0, 7, 27, 4, 100, 59, 26, 172]
abbrev dktJ1_dec_0 : List UInt8 := dkwJ1_dec_0 ++ []
theorem dksJ1_dec_0 : cJ1_dec.data.toList.drop 0 = dktJ1_dec_0 := by decide +kernel
theorem dJ1_dec_0 : decode cJ1_dec 0 = .ok (.iinc 0 (-1), 3) := dk_132 0 255 (dk_at dksJ1_dec_0 0 rfl rfl)
theorem dJ1_dec_3 : decode cJ1_dec 3 = .ok (.iload_n 0, 1) := dk_26 (dk_at dksJ1_dec_0 3 rfl rfl)
theorem dJ1_dec_4 : decode cJ1_dec 4 = .ok (.ifCond .ge 7, 3) := dk_156 0 7 (dk_at dksJ1_dec_0 4 rfl rfl)
theorem dJ1_dec_7 : decode cJ1_dec 7 = .ok (.iload_n 1, 1) := dk_27 (dk_at dksJ1_dec_0 7 rfl rfl)
theorem dJ1_dec_8 : decode cJ1_dec 8 = .ok (.iconst 1, 1) := dk_4 (dk_at dksJ1_dec_0 8 rfl rfl)
theorem dJ1_dec_9 : decode cJ1_dec 9 = .ok (.isub, 1) := dk_100 (dk_at dksJ1_dec_0 9 rfl rfl)
theorem dJ1_dec_10 : decode cJ1_dec 10 = .ok (.istore_n 0, 1) := dk_59 (dk_at dksJ1_dec_0 10 rfl rfl)
theorem dJ1_dec_11 : decode cJ1_dec 11 = .ok (.iload_n 0, 1) := dk_26 (dk_at dksJ1_dec_0 11 rfl rfl)
theorem dJ1_dec_12 : decode cJ1_dec 12 = .ok (.ireturn, 1) := dk_172 (dk_at dksJ1_dec_0 12 rfl rfl)
theorem md_J1_dec : xMd yJ1_dec cJ1_dec 2 (Option.some Jvm.ClassFile.FieldType.int) 2 := ⟨q2581, q125, by decide, by decide +kernel, by decide +kernel, by decide +kernel⟩
def f_J1_dec (p0 : PH) (a0 : Int32) (a1 : Int32) : Option (xO × PH) :=
  (bnd (a0 + (-1)) fun x1 =>
  (if 0 ≤ x1 then
  (rI x1 p0) else
  (bnd (a1 - 1) fun x2 =>
  (rI x2 p0))))
theorem f_J1_dec_ok {G : xG} (hO : xOK G) (p0 : PH) (a0 : Int32) (a1 : Int32) : CT G 0 yJ1_dec cJ1_dec 2 (Option.some Jvm.ClassFile.FieldType.int) [.int a0, .int a1] p0 (f_J1_dec p0 a0 a1) := by
  refine CT_of hO (by decide +kernel) (by decide +kernel) (Nat.le_of_ble_eq_true rfl) ?_
  show X G "java/util/ArrayDeque" "dec" cJ1_dec 2 (Option.some Jvm.ClassFile.FieldType.int) 0 0 [(0, .int a0), (1, .int a1)] [] p0 (f_J1_dec p0 a0 a1)
  refine x_iincB 0 (fun x1 => [(0, .int x1), (1, .int a1)]) dJ1_dec_0 rfl rfl (by decide) (fun _ => rfl) (n := 3) rfl (fun x1 => ?_)
  refine x_iload_n 0 dJ1_dec_3 rfl rfl (n := 4) rfl ?_
  refine x_if_ge dJ1_dec_4 (t := 11) (by decide) (n := 7) rfl (fun _ => ?_) (fun _ => ?_)
  · refine x_iload_n 0 dJ1_dec_11 rfl rfl (n := 12) rfl ?_
    exact x_ireturn dJ1_dec_12
  · refine x_iload_n 1 dJ1_dec_7 rfl rfl (n := 8) rfl ?_
    refine x_iconst 1 dJ1_dec_8 rfl (n := 9) rfl ?_
    refine x_isub dJ1_dec_9 (n := 10) rfl ?_
    refine x_nm (fun x2 => ?_)
    refine x_istore_n [(0, .int x2), (1, .int a1)] dJ1_dec_10 rfl (by decide) rfl (n := 11) rfl ?_
    refine x_iload_n 0 dJ1_dec_11 rfl rfl (n := 12) rfl ?_
    exact x_ireturn dJ1_dec_12
abbrev cJ1_pollLast : ByteArray := prog_45_method_21_code
def yJ1_pollLast : MethodName := ⟨RJ1, "pollLast", "()Ljava/lang/Object;"⟩
def dkwJ1_pollLast_1 : List UInt8 := [198, 0, 12, 43, 42, 28, 90, 181, 0, 20, 1, 83, 45, 176]
abbrev dktJ1_pollLast_1 : List UInt8 := dkwJ1_pollLast_1 ++ []
def dkwJ1_pollLast_0 : List UInt8 := [42, 180, 0, 3, 89, 76, 42, 180, 0, 20, 43, 190, 184, 0, 68, 89, 61, 184, 0, 103, 78, 45]
abbrev dktJ1_pollLast_0 : List UInt8 := dkwJ1_pollLast_0 ++ dktJ1_pollLast_1
theorem dksJ1_pollLast_0 : cJ1_pollLast.data.toList.drop 0 = dktJ1_pollLast_0 := by decide +kernel
theorem dksJ1_pollLast_1 : cJ1_pollLast.data.toList.drop 22 = dktJ1_pollLast_1 := dk_seg dksJ1_pollLast_0 22 rfl rfl
theorem dJ1_pollLast_0 : decode cJ1_pollLast 0 = .ok (.aload_n 0, 1) := dk_42 (dk_at dksJ1_pollLast_0 0 rfl rfl)
theorem dJ1_pollLast_1 : decode cJ1_pollLast 1 = .ok (.getfield 3, 3) := dk_180 0 3 (dk_at dksJ1_pollLast_0 1 rfl rfl)
theorem dJ1_pollLast_4 : decode cJ1_pollLast 4 = .ok (.dup, 1) := dk_89 (dk_at dksJ1_pollLast_0 4 rfl rfl)
theorem dJ1_pollLast_5 : decode cJ1_pollLast 5 = .ok (.astore_n 1, 1) := dk_76 (dk_at dksJ1_pollLast_0 5 rfl rfl)
theorem dJ1_pollLast_6 : decode cJ1_pollLast 6 = .ok (.aload_n 0, 1) := dk_42 (dk_at dksJ1_pollLast_0 6 rfl rfl)
theorem dJ1_pollLast_7 : decode cJ1_pollLast 7 = .ok (.getfield 20, 3) := dk_180 0 20 (dk_at dksJ1_pollLast_0 7 rfl rfl)
theorem dJ1_pollLast_10 : decode cJ1_pollLast 10 = .ok (.aload_n 1, 1) := dk_43 (dk_at dksJ1_pollLast_0 10 rfl rfl)
theorem dJ1_pollLast_11 : decode cJ1_pollLast 11 = .ok (.arraylength, 1) := dk_190 (dk_at dksJ1_pollLast_0 11 rfl rfl)
theorem dJ1_pollLast_12 : decode cJ1_pollLast 12 = .ok (.invokestatic 68, 3) := dk_184 0 68 (dk_at dksJ1_pollLast_0 12 rfl rfl)
theorem dJ1_pollLast_15 : decode cJ1_pollLast 15 = .ok (.dup, 1) := dk_89 (dk_at dksJ1_pollLast_0 15 rfl rfl)
theorem dJ1_pollLast_16 : decode cJ1_pollLast 16 = .ok (.istore_n 2, 1) := dk_61 (dk_at dksJ1_pollLast_0 16 rfl rfl)
theorem dJ1_pollLast_17 : decode cJ1_pollLast 17 = .ok (.invokestatic 103, 3) := dk_184 0 103 (dk_at dksJ1_pollLast_0 17 rfl rfl)
theorem dJ1_pollLast_20 : decode cJ1_pollLast 20 = .ok (.astore_n 3, 1) := dk_78 (dk_at dksJ1_pollLast_0 20 rfl rfl)
theorem dJ1_pollLast_21 : decode cJ1_pollLast 21 = .ok (.aload_n 3, 1) := dk_45 (dk_at dksJ1_pollLast_0 21 rfl rfl)
theorem dJ1_pollLast_22 : decode cJ1_pollLast 22 = .ok (.ifnull 12, 3) := dk_198 0 12 (dk_at dksJ1_pollLast_1 0 rfl rfl)
theorem dJ1_pollLast_25 : decode cJ1_pollLast 25 = .ok (.aload_n 1, 1) := dk_43 (dk_at dksJ1_pollLast_1 3 rfl rfl)
theorem dJ1_pollLast_26 : decode cJ1_pollLast 26 = .ok (.aload_n 0, 1) := dk_42 (dk_at dksJ1_pollLast_1 4 rfl rfl)
theorem dJ1_pollLast_27 : decode cJ1_pollLast 27 = .ok (.iload_n 2, 1) := dk_28 (dk_at dksJ1_pollLast_1 5 rfl rfl)
theorem dJ1_pollLast_28 : decode cJ1_pollLast 28 = .ok (.dup_x1, 1) := dk_90 (dk_at dksJ1_pollLast_1 6 rfl rfl)
theorem dJ1_pollLast_29 : decode cJ1_pollLast 29 = .ok (.putfield 20, 3) := dk_181 0 20 (dk_at dksJ1_pollLast_1 7 rfl rfl)
theorem dJ1_pollLast_32 : decode cJ1_pollLast 32 = .ok (.aconst_null, 1) := dk_1 (dk_at dksJ1_pollLast_1 10 rfl rfl)
theorem dJ1_pollLast_33 : decode cJ1_pollLast 33 = .ok (.aastore, 1) := dk_83 (dk_at dksJ1_pollLast_1 11 rfl rfl)
theorem dJ1_pollLast_34 : decode cJ1_pollLast 34 = .ok (.aload_n 3, 1) := dk_45 (dk_at dksJ1_pollLast_1 12 rfl rfl)
theorem dJ1_pollLast_35 : decode cJ1_pollLast 35 = .ok (.areturn, 1) := dk_176 (dk_at dksJ1_pollLast_1 13 rfl rfl)
theorem md_J1_pollLast : xMd yJ1_pollLast cJ1_pollLast 4 (Option.some (Jvm.ClassFile.FieldType.object "java/lang/Object")) 0 := ⟨q2872, q125, by decide, by decide +kernel, by decide +kernel, by decide +kernel⟩
def f_J1_pollLast (p0 : PH) (a0 : Nat) : Option (xO × PH) :=
  (xcl1 p0 a0 13 (xgR p0 a0 13 0 fun x1 =>
  (xgI p0 a0 13 2 fun x2 =>
  (xnul x1 none fun b3 =>
  (xlen p0 b3 fun x4 =>
  (xcI (f_J1_dec p0 x2 x4) fun x6 p5 =>
  (xcR (f_J1_elementAt p5 (some b3) x6) fun x8 p7 =>
  (xnul x8 (rR none p7) fun b9 =>
  (xpF p7 a0 13 2 (.int x6) fun p10 =>
  (xsR p10 b3 4 x6 (none) fun p11 =>
  (rR (some b9) p11)))))))))))
theorem rc_J1_pollLast {p0 : PH} {a0 : Nat} : ∀ z, f_J1_pollLast p0 a0 = some z → xco p0 a0 = some 13 := fun z h => xcl1_some h
theorem f_J1_pollLast_ok {G : xG} (hO : xOK G) (p0 : PH) (a0 : Nat) : CT G 1 yJ1_pollLast cJ1_pollLast 4 (Option.some (Jvm.ClassFile.FieldType.object "java/lang/Object")) [.ref a0] p0 (f_J1_pollLast p0 a0) := by
  refine CT_of hO (by decide +kernel) (by decide +kernel) (Nat.le_of_ble_eq_true rfl) ?_
  show X G "java/util/ArrayDeque" "pollLast" cJ1_pollLast 4 (Option.some (Jvm.ClassFile.FieldType.object "java/lang/Object")) 1 0 [(0, .ref a0)] [] p0 (f_J1_pollLast p0 a0)
  refine x_cl1 (fun e0 => ?_)
  refine x_aload_nr 0 dJ1_pollLast_0 rfl rfl (n := 1) rfl ?_
  refine x_getR fl_J1_3 dJ1_pollLast_1 (n := 4) rfl (fun x1 => ?_)
  refine x_dup dJ1_pollLast_4 (xcat _) (n := 5) rfl ?_
  refine x_astore_n [(1, va_rf x1), (0, .ref a0)] dJ1_pollLast_5 rfl (by decide) rfl (n := 6) rfl ?_
  refine x_aload_nr 1 dJ1_pollLast_6 rfl rfl (n := 7) rfl ?_
  refine x_getI fl_J1_20 dJ1_pollLast_7 (n := 10) rfl (fun x2 => ?_)
  refine x_aload_n 0 dJ1_pollLast_10 rfl rfl (n := 11) rfl ?_
  refine x_sm (fun b3 e => ?_)
  subst e
  refine x_alen dJ1_pollLast_11 (n := 12) rfl (fun x4 => ?_)
  refine x_callS_I [.int x2, .int x4] [.ref b3] (f_J1_dec_ok hO p0 x2 x4) md_J1_dec q2579 q2580 dJ1_pollLast_12 rfl rfl (by decide) (Nat.le_of_ble_eq_true rfl) (n := 15) rfl (fun x6 p5 => ?_)
  refine x_dup dJ1_pollLast_15 rfl (n := 16) rfl ?_
  refine x_istore_n [(2, .int x6), (1, .ref b3), (0, .ref a0)] dJ1_pollLast_16 rfl (by decide) rfl (n := 17) rfl ?_
  refine x_callS_R [.ref b3, .int x6] [] (f_J1_elementAt_ok hO p5 (some b3) x6) md_J1_elementAt q1923 q1924 dJ1_pollLast_17 rfl rfl (by decide) (Nat.le_of_ble_eq_true rfl) (n := 20) rfl (fun x8 p7 => ?_)
  refine x_astore_n [(3, va_rf x8), (2, .int x6), (1, .ref b3), (0, .ref a0)] dJ1_pollLast_20 rfl (by decide) rfl (n := 21) rfl ?_
  refine x_aload_n 0 dJ1_pollLast_21 rfl rfl (n := 22) rfl ?_
  refine x_ifnull dJ1_pollLast_22 (t := 34) (by decide) (n := 25) rfl (fun e => ?_) (fun b9 e => ?_)
  · subst e
    refine x_aload_n 0 dJ1_pollLast_34 rfl rfl (n := 35) rfl ?_
    exact x_areturn (x := none) (Or.inl ⟨_, rfl⟩) dJ1_pollLast_35
  · subst e
    refine x_aload_nr 2 dJ1_pollLast_25 rfl rfl (n := 26) rfl ?_
    refine x_aload_nr 3 dJ1_pollLast_26 rfl rfl (n := 27) rfl ?_
    refine x_iload_n 1 dJ1_pollLast_27 rfl rfl (n := 28) rfl ?_
    refine x_dup_x1 dJ1_pollLast_28 rfl rfl (n := 29) rfl ?_
    refine x_pF (pl_J1_20 _ _ ⟨rfl, rfl⟩) dJ1_pollLast_29 (n := 32) rfl (fun p10 => ?_)
    refine x_null dJ1_pollLast_32 (n := 33) rfl ?_
    refine x_aast (t := 4) (x := none) rfl (by decide) dJ1_pollLast_33 (n := 34) rfl (fun p11 => ?_)
    refine x_aload_nr 0 dJ1_pollLast_34 rfl rfl (n := 35) rfl ?_
    exact x_areturn (x := some b9) (Or.inl ⟨_, rfl⟩) dJ1_pollLast_35
abbrev cJ1_removeLast : ByteArray := prog_45_method_19_code
def yJ1_removeLast : MethodName := ⟨RJ1, "removeLast", "()Ljava/lang/Object;"⟩
def dkwJ1_removeLast_0 : List UInt8 := [42, 182, 0, 100, 76, 43, 199, 0, 11, 187, 0, 97, 89, 183, 0, 99, 191, 43, 176]
abbrev dktJ1_removeLast_0 : List UInt8 := dkwJ1_removeLast_0 ++ []
theorem dksJ1_removeLast_0 : cJ1_removeLast.data.toList.drop 0 = dktJ1_removeLast_0 := by decide +kernel
theorem dJ1_removeLast_0 : decode cJ1_removeLast 0 = .ok (.aload_n 0, 1) := dk_42 (dk_at dksJ1_removeLast_0 0 rfl rfl)
theorem dJ1_removeLast_1 : decode cJ1_removeLast 1 = .ok (.invokevirtual 100, 3) := dk_182 0 100 (dk_at dksJ1_removeLast_0 1 rfl rfl)
theorem dJ1_removeLast_4 : decode cJ1_removeLast 4 = .ok (.astore_n 1, 1) := dk_76 (dk_at dksJ1_removeLast_0 4 rfl rfl)
theorem dJ1_removeLast_5 : decode cJ1_removeLast 5 = .ok (.aload_n 1, 1) := dk_43 (dk_at dksJ1_removeLast_0 5 rfl rfl)
theorem dJ1_removeLast_6 : decode cJ1_removeLast 6 = .ok (.ifnonnull 11, 3) := dk_199 0 11 (dk_at dksJ1_removeLast_0 6 rfl rfl)
theorem dJ1_removeLast_9 : decode cJ1_removeLast 9 = .ok (.new 97, 3) := dk_187 0 97 (dk_at dksJ1_removeLast_0 9 rfl rfl)
theorem dJ1_removeLast_12 : decode cJ1_removeLast 12 = .ok (.dup, 1) := dk_89 (dk_at dksJ1_removeLast_0 12 rfl rfl)
theorem dJ1_removeLast_13 : decode cJ1_removeLast 13 = .ok (.invokespecial 99, 3) := dk_183 0 99 (dk_at dksJ1_removeLast_0 13 rfl rfl)
theorem dJ1_removeLast_16 : decode cJ1_removeLast 16 = .ok (.athrow, 1) := dk_191 (dk_at dksJ1_removeLast_0 16 rfl rfl)
theorem dJ1_removeLast_17 : decode cJ1_removeLast 17 = .ok (.aload_n 1, 1) := dk_43 (dk_at dksJ1_removeLast_0 17 rfl rfl)
theorem dJ1_removeLast_18 : decode cJ1_removeLast 18 = .ok (.areturn, 1) := dk_176 (dk_at dksJ1_removeLast_0 18 rfl rfl)
theorem md_J1_removeLast : xMd yJ1_removeLast cJ1_removeLast 2 (Option.some (Jvm.ClassFile.FieldType.object "java/lang/Object")) 0 := ⟨q2868, q125, by decide, by decide +kernel, by decide +kernel, by decide +kernel⟩
def f_J1_removeLast (p0 : PH) (a0 : Nat) : Option (xO × PH) :=
  (xcl1 p0 a0 13 (xcR (f_J1_pollLast p0 a0 ) fun x2 p1 =>
  (xnul x2 none fun b3 =>
  (rR (some b3) p1))))
theorem rc_J1_removeLast {p0 : PH} {a0 : Nat} : ∀ z, f_J1_removeLast p0 a0 = some z → xco p0 a0 = some 13 := fun z h => xcl1_some h
theorem f_J1_removeLast_ok {G : xG} (hO : xOK G) (p0 : PH) (a0 : Nat) : CT G 2 yJ1_removeLast cJ1_removeLast 2 (Option.some (Jvm.ClassFile.FieldType.object "java/lang/Object")) [.ref a0] p0 (f_J1_removeLast p0 a0) := by
  refine CT_of hO (by decide +kernel) (by decide +kernel) (Nat.le_of_ble_eq_true rfl) ?_
  show X G "java/util/ArrayDeque" "removeLast" cJ1_removeLast 2 (Option.some (Jvm.ClassFile.FieldType.object "java/lang/Object")) 2 0 [(0, .ref a0)] [] p0 (f_J1_removeLast p0 a0)
  refine x_cl1 (fun e0 => ?_)
  refine x_aload_nr 0 dJ1_removeLast_0 rfl rfl (n := 1) rfl ?_
  refine x_callV_R [] [] (f_J1_pollLast_ok hO p0 a0 ) rc_J1_pollLast md_J1_pollLast rfl q2869 q2870 q2871 dJ1_removeLast_1 rfl rfl (by decide) (Nat.le_of_ble_eq_true rfl) (n := 4) rfl (fun x2 p1 => ?_)
  refine x_astore_n [(1, va_rf x2), (0, .ref a0)] dJ1_removeLast_4 rfl (by decide) rfl (n := 5) rfl ?_
  refine x_aload_n 0 dJ1_removeLast_5 rfl rfl (n := 6) rfl ?_
  refine x_ifnonnull dJ1_removeLast_6 (t := 17) (by decide) (n := 9) rfl (fun e => ?_) (fun b3 e => ?_)
  · subst e
    exact x_no
  · subst e
    refine x_aload_nr 0 dJ1_removeLast_17 rfl rfl (n := 18) rfl ?_
    exact x_areturn (x := some b3) (Or.inl ⟨_, rfl⟩) dJ1_removeLast_18
abbrev cX1_undo : ByteArray := prog_1_method_66_code
def yX1_undo : MethodName := ⟨RX1, "undo", "()I"⟩
def dkwX1_undo_2 : List UInt8 := [182, 0, 124, 182, 0, 83, 172]
abbrev dktX1_undo_2 : List UInt8 := dkwX1_undo_2 ++ []
def dkwX1_undo_1 : List UInt8 := [8, 182, 0, 40, 172, 42, 42, 180, 0, 29, 182, 1, 111, 192, 0, 72, 181, 0, 56, 42, 42, 180, 0, 29]
abbrev dktX1_undo_1 : List UInt8 := dkwX1_undo_1 ++ dktX1_undo_2
def dkwX1_undo_0 : List UInt8 := [42, 180, 0, 56, 199, 0, 9, 42, 4, 182, 0, 40, 172, 42, 180, 0, 29, 182, 1, 110, 153, 0, 9, 42]
abbrev dktX1_undo_0 : List UInt8 := dkwX1_undo_0 ++ dktX1_undo_1
theorem dksX1_undo_0 : cX1_undo.data.toList.drop 0 = dktX1_undo_0 := by decide +kernel
theorem dksX1_undo_1 : cX1_undo.data.toList.drop 24 = dktX1_undo_1 := dk_seg dksX1_undo_0 24 rfl rfl
theorem dksX1_undo_2 : cX1_undo.data.toList.drop 48 = dktX1_undo_2 := dk_seg dksX1_undo_1 24 rfl rfl
theorem dX1_undo_0 : decode cX1_undo 0 = .ok (.aload_n 0, 1) := dk_42 (dk_at dksX1_undo_0 0 rfl rfl)
theorem dX1_undo_1 : decode cX1_undo 1 = .ok (.getfield 56, 3) := dk_180 0 56 (dk_at dksX1_undo_0 1 rfl rfl)
theorem dX1_undo_4 : decode cX1_undo 4 = .ok (.ifnonnull 9, 3) := dk_199 0 9 (dk_at dksX1_undo_0 4 rfl rfl)
theorem dX1_undo_7 : decode cX1_undo 7 = .ok (.aload_n 0, 1) := dk_42 (dk_at dksX1_undo_0 7 rfl rfl)
theorem dX1_undo_8 : decode cX1_undo 8 = .ok (.iconst 1, 1) := dk_4 (dk_at dksX1_undo_0 8 rfl rfl)
theorem dX1_undo_9 : decode cX1_undo 9 = .ok (.invokevirtual 40, 3) := dk_182 0 40 (dk_at dksX1_undo_0 9 rfl rfl)
theorem dX1_undo_12 : decode cX1_undo 12 = .ok (.ireturn, 1) := dk_172 (dk_at dksX1_undo_0 12 rfl rfl)
theorem dX1_undo_13 : decode cX1_undo 13 = .ok (.aload_n 0, 1) := dk_42 (dk_at dksX1_undo_0 13 rfl rfl)
theorem dX1_undo_14 : decode cX1_undo 14 = .ok (.getfield 29, 3) := dk_180 0 29 (dk_at dksX1_undo_0 14 rfl rfl)
theorem dX1_undo_17 : decode cX1_undo 17 = .ok (.invokevirtual 366, 3) := dk_182 1 110 (dk_at dksX1_undo_0 17 rfl rfl)
theorem dX1_undo_20 : decode cX1_undo 20 = .ok (.ifCond .eq 9, 3) := dk_153 0 9 (dk_at dksX1_undo_0 20 rfl rfl)
theorem dX1_undo_23 : decode cX1_undo 23 = .ok (.aload_n 0, 1) := dk_42 (dk_at dksX1_undo_0 23 rfl rfl)
theorem dX1_undo_24 : decode cX1_undo 24 = .ok (.iconst 5, 1) := dk_8 (dk_at dksX1_undo_1 0 rfl rfl)
theorem dX1_undo_25 : decode cX1_undo 25 = .ok (.invokevirtual 40, 3) := dk_182 0 40 (dk_at dksX1_undo_1 1 rfl rfl)
theorem dX1_undo_28 : decode cX1_undo 28 = .ok (.ireturn, 1) := dk_172 (dk_at dksX1_undo_1 4 rfl rfl)
theorem dX1_undo_29 : decode cX1_undo 29 = .ok (.aload_n 0, 1) := dk_42 (dk_at dksX1_undo_1 5 rfl rfl)
theorem dX1_undo_30 : decode cX1_undo 30 = .ok (.aload_n 0, 1) := dk_42 (dk_at dksX1_undo_1 6 rfl rfl)
theorem dX1_undo_31 : decode cX1_undo 31 = .ok (.getfield 29, 3) := dk_180 0 29 (dk_at dksX1_undo_1 7 rfl rfl)
theorem dX1_undo_34 : decode cX1_undo 34 = .ok (.invokevirtual 367, 3) := dk_182 1 111 (dk_at dksX1_undo_1 10 rfl rfl)
theorem dX1_undo_37 : decode cX1_undo 37 = .ok (.checkcast 72, 3) := dk_192 0 72 (dk_at dksX1_undo_1 13 rfl rfl)
theorem dX1_undo_40 : decode cX1_undo 40 = .ok (.putfield 56, 3) := dk_181 0 56 (dk_at dksX1_undo_1 16 rfl rfl)
theorem dX1_undo_43 : decode cX1_undo 43 = .ok (.aload_n 0, 1) := dk_42 (dk_at dksX1_undo_1 19 rfl rfl)
theorem dX1_undo_44 : decode cX1_undo 44 = .ok (.aload_n 0, 1) := dk_42 (dk_at dksX1_undo_1 20 rfl rfl)
theorem dX1_undo_45 : decode cX1_undo 45 = .ok (.getfield 29, 3) := dk_180 0 29 (dk_at dksX1_undo_1 21 rfl rfl)
theorem dX1_undo_48 : decode cX1_undo 48 = .ok (.invokevirtual 124, 3) := dk_182 0 124 (dk_at dksX1_undo_2 0 rfl rfl)
theorem dX1_undo_51 : decode cX1_undo 51 = .ok (.invokevirtual 83, 3) := dk_182 0 83 (dk_at dksX1_undo_2 3 rfl rfl)
theorem dX1_undo_54 : decode cX1_undo 54 = .ok (.ireturn, 1) := dk_172 (dk_at dksX1_undo_2 6 rfl rfl)
theorem md_X1_undo : xMd yX1_undo cX1_undo 1 (Option.some Jvm.ClassFile.FieldType.int) 0 := ⟨q2863, q123, by decide, by decide +kernel, by decide +kernel, by decide +kernel⟩
def f_X1_undo (p0 : PH) (a0 : Nat) : Option (xO × PH) :=
  (xcl1 p0 a0 0 (xgR p0 a0 0 5 fun x1 =>
  (xnul x1 (xcI (f_X1_refused p0 a0 1) fun x4 p3 =>
  (rI x4 p3)) fun b2 =>
  (xgR p0 a0 0 6 fun x5 =>
  (xnul x5 none fun b6 =>
  (xcI (f_J1_isEmpty p0 b6 ) fun x8 p7 =>
  (if x8 = 0 then
  (xgR p7 a0 0 6 fun x9 =>
  (xnul x9 none fun b10 =>
  (xcR (f_J1_removeLast p7 b10 ) fun x12 p11 =>
  (xcst p11 (x12) [3]
  (xpF p11 a0 0 5 (va_rf x12) fun p13 =>
  (xgR p13 a0 0 6 fun x14 =>
  (xnul x14 none fun b15 =>
  (xcI (f_J1_size p13 b15 ) fun x17 p16 =>
  (xcI (f_X1_fine p16 a0 x17) fun x19 p18 =>
  (rI x19 p18)))))))))) else
  (xcI (f_X1_refused p7 a0 5) fun x21 p20 =>
  (rI x21 p20)))))))))
theorem rc_X1_undo {p0 : PH} {a0 : Nat} : ∀ z, f_X1_undo p0 a0 = some z → xco p0 a0 = some 0 := fun z h => xcl1_some h
theorem f_X1_undo_ok {G : xG} (hO : xOK G) (p0 : PH) (a0 : Nat) : CT G 3 yX1_undo cX1_undo 1 (Option.some Jvm.ClassFile.FieldType.int) [.ref a0] p0 (f_X1_undo p0 a0) := by
  refine CT_of hO (by decide +kernel) (by decide +kernel) (Nat.le_of_ble_eq_true rfl) ?_
  show X G "ForestLegs" "undo" cX1_undo 1 (Option.some Jvm.ClassFile.FieldType.int) 3 0 [(0, .ref a0)] [] p0 (f_X1_undo p0 a0)
  refine x_cl1 (fun e0 => ?_)
  refine x_aload_nr 0 dX1_undo_0 rfl rfl (n := 1) rfl ?_
  refine x_getR fl_X1_56 dX1_undo_1 (n := 4) rfl (fun x1 => ?_)
  refine x_ifnonnull dX1_undo_4 (t := 13) (by decide) (n := 7) rfl (fun e => ?_) (fun b2 e => ?_)
  · subst e
    refine x_aload_nr 0 dX1_undo_7 rfl rfl (n := 8) rfl ?_
    refine x_iconst 1 dX1_undo_8 rfl (n := 9) rfl ?_
    refine x_callV_I [.int 1] [] (f_X1_refused_ok hO p0 a0 1) rc_X1_refused md_X1_refused rfl q250 q252 qs0 dX1_undo_9 rfl rfl (by decide) (Nat.le_of_ble_eq_true rfl) (n := 12) rfl (fun x4 p3 => ?_)
    exact x_ireturn dX1_undo_12
  · subst e
    refine x_aload_nr 0 dX1_undo_13 rfl rfl (n := 14) rfl ?_
    refine x_getR fl_X1_29 dX1_undo_14 (n := 17) rfl (fun x5 => ?_)
    refine x_sm (fun b6 e => ?_)
    subst e
    refine x_callV_I [] [] (f_J1_isEmpty_ok hO p0 b6 ) rc_J1_isEmpty md_J1_isEmpty rfl q2864 q1848 q1849 dX1_undo_17 rfl rfl (by decide) (Nat.le_of_ble_eq_true rfl) (n := 20) rfl (fun x8 p7 => ?_)
    refine x_if_eq dX1_undo_20 (t := 29) (by decide) (n := 23) rfl (fun _ => ?_) (fun _ => ?_)
    · refine x_aload_nr 0 dX1_undo_29 rfl rfl (n := 30) rfl ?_
      refine x_aload_nr 0 dX1_undo_30 rfl rfl (n := 31) rfl ?_
      refine x_getR fl_X1_29 dX1_undo_31 (n := 34) rfl (fun x9 => ?_)
      refine x_sm (fun b10 e => ?_)
      subst e
      refine x_callV_R [] [.ref a0] (f_J1_removeLast_ok hO p7 b10 ) rc_J1_removeLast md_J1_removeLast rfl q2865 q2866 q2867 dX1_undo_34 rfl rfl (by decide) (Nat.le_of_ble_eq_true rfl) (n := 37) rfl (fun x12 p11 => ?_)
      refine x_cast (x := x12) (cs := [3]) q2873 cst_ForestLegs_Meet dX1_undo_37 (n := 40) rfl ?_
      refine x_pF (pl_X1_56 _ _ (xfit_o (x12))) dX1_undo_40 (n := 43) rfl (fun p13 => ?_)
      refine x_aload_nr 0 dX1_undo_43 rfl rfl (n := 44) rfl ?_
      refine x_aload_nr 0 dX1_undo_44 rfl rfl (n := 45) rfl ?_
      refine x_getR fl_X1_29 dX1_undo_45 (n := 48) rfl (fun x14 => ?_)
      refine x_sm (fun b15 e => ?_)
      subst e
      refine x_callV_I [] [.ref a0] (f_J1_size_ok hO p13 b15 ) rc_J1_size md_J1_size rfl q1555 q1556 q1557 dX1_undo_48 rfl rfl (by decide) (Nat.le_of_ble_eq_true rfl) (n := 51) rfl (fun x17 p16 => ?_)
      refine x_callV_I [.int x17] [] (f_X1_fine_ok hO p16 a0 x17) rc_X1_fine md_X1_fine rfl q1480 q1482 qs26 dX1_undo_51 rfl rfl (by decide) (Nat.le_of_ble_eq_true rfl) (n := 54) rfl (fun x19 p18 => ?_)
      exact x_ireturn dX1_undo_54
    · refine x_aload_nr 0 dX1_undo_23 rfl rfl (n := 24) rfl ?_
      refine x_iconst 5 dX1_undo_24 rfl (n := 25) rfl ?_
      refine x_callV_I [.int 5] [] (f_X1_refused_ok hO p7 a0 5) rc_X1_refused md_X1_refused rfl q250 q252 qs0 dX1_undo_25 rfl rfl (by decide) (Nat.le_of_ble_eq_true rfl) (n := 28) rfl (fun x21 p20 => ?_)
      exact x_ireturn dX1_undo_28
abbrev cX1_size : ByteArray := prog_1_method_68_code
def yX1_size : MethodName := ⟨RX1, "size", "()I"⟩
theorem dX1_size_0 : decode cX1_size 0 = .ok (.aload_n 0, 1) := by decide +kernel
theorem dX1_size_1 : decode cX1_size 1 = .ok (.getfield 33, 3) := by decide +kernel
theorem dX1_size_4 : decode cX1_size 4 = .ok (.ireturn, 1) := by decide +kernel
theorem md_X1_size : xMd yX1_size cX1_size 1 (Option.some Jvm.ClassFile.FieldType.int) 0 := ⟨q2877, q123, by decide, by decide +kernel, by decide +kernel, by decide +kernel⟩
def f_X1_size (p0 : PH) (a0 : Nat) : Option (xO × PH) :=
  (xcl1 p0 a0 0 (xgI p0 a0 0 3 fun x1 =>
  (rI x1 p0)))
theorem rc_X1_size {p0 : PH} {a0 : Nat} : ∀ z, f_X1_size p0 a0 = some z → xco p0 a0 = some 0 := fun z h => xcl1_some h
theorem f_X1_size_ok {G : xG} (hO : xOK G) (p0 : PH) (a0 : Nat) : CT G 0 yX1_size cX1_size 1 (Option.some Jvm.ClassFile.FieldType.int) [.ref a0] p0 (f_X1_size p0 a0) := by
  refine CT_of hO (by decide +kernel) (by decide +kernel) (Nat.le_of_ble_eq_true rfl) ?_
  show X G "ForestLegs" "size" cX1_size 1 (Option.some Jvm.ClassFile.FieldType.int) 0 0 [(0, .ref a0)] [] p0 (f_X1_size p0 a0)
  refine x_cl1 (fun e0 => ?_)
  refine x_aload_nr 0 dX1_size_0 rfl rfl (n := 1) rfl ?_
  refine x_getI fl_X1_33 dX1_size_1 (n := 4) rfl (fun x1 => ?_)
  exact x_ireturn dX1_size_4
abbrev cX1_trouble : ByteArray := prog_1_method_69_code
def yX1_trouble : MethodName := ⟨RX1, "trouble", "()I"⟩
theorem dX1_trouble_0 : decode cX1_trouble 0 = .ok (.aload_n 0, 1) := by decide +kernel
theorem dX1_trouble_1 : decode cX1_trouble 1 = .ok (.getfield 7, 3) := by decide +kernel
theorem dX1_trouble_4 : decode cX1_trouble 4 = .ok (.ireturn, 1) := by decide +kernel
theorem md_X1_trouble : xMd yX1_trouble cX1_trouble 1 (Option.some Jvm.ClassFile.FieldType.int) 0 := ⟨q2881, q123, by decide, by decide +kernel, by decide +kernel, by decide +kernel⟩
def f_X1_trouble (p0 : PH) (a0 : Nat) : Option (xO × PH) :=
  (xcl1 p0 a0 0 (xgI p0 a0 0 0 fun x1 =>
  (rI x1 p0)))
theorem rc_X1_trouble {p0 : PH} {a0 : Nat} : ∀ z, f_X1_trouble p0 a0 = some z → xco p0 a0 = some 0 := fun z h => xcl1_some h
theorem f_X1_trouble_ok {G : xG} (hO : xOK G) (p0 : PH) (a0 : Nat) : CT G 0 yX1_trouble cX1_trouble 1 (Option.some Jvm.ClassFile.FieldType.int) [.ref a0] p0 (f_X1_trouble p0 a0) := by
  refine CT_of hO (by decide +kernel) (by decide +kernel) (Nat.le_of_ble_eq_true rfl) ?_
  show X G "ForestLegs" "trouble" cX1_trouble 1 (Option.some Jvm.ClassFile.FieldType.int) 0 0 [(0, .ref a0)] [] p0 (f_X1_trouble p0 a0)
  refine x_cl1 (fun e0 => ?_)
  refine x_aload_nr 0 dX1_trouble_0 rfl rfl (n := 1) rfl ?_
  refine x_getI fl_X1_7 dX1_trouble_1 (n := 4) rfl (fun x1 => ?_)
  exact x_ireturn dX1_trouble_4
abbrev cX1_named : ByteArray := prog_1_method_67_code
def yX1_named : MethodName := ⟨RX1, "named", "(IZ)I"⟩
def dkwX1_named_10 : List UInt8 := [167, 255, 152, 187, 1, 135, 89, 183, 1, 137, 191]
abbrev dktX1_named_10 : List UInt8 := dkwX1_named_10 ++ []
def dkwX1_named_9 : List UInt8 := [185, 0, 93, 2, 0, 192, 0, 103, 180, 1, 129, 182, 1, 130, 153, 0, 6, 21, 7, 172, 132, 7, 1]
abbrev dktX1_named_9 : List UInt8 := dkwX1_named_9 ++ dktX1_named_10
def dkwX1_named_8 : List UInt8 := [185, 0, 93, 2, 0, 192, 0, 97, 180, 1, 125, 167, 0, 23, 42, 180, 0, 56, 180, 0, 71, 21, 7]
abbrev dktX1_named_8 : List UInt8 := dkwX1_named_8 ++ dktX1_named_9
def dkwX1_named_7 : List UInt8 := [185, 0, 77, 1, 0, 162, 0, 67, 25, 6, 28, 153, 0, 26, 42, 180, 0, 56, 180, 0, 86, 21, 7]
abbrev dktX1_named_7 : List UInt8 := dkwX1_named_7 ++ dktX1_named_8
def dkwX1_named_6 : List UInt8 := [180, 0, 56, 180, 0, 86, 185, 0, 77, 1, 0, 167, 0, 15, 42, 180, 0, 56, 180, 0, 71]
abbrev dktX1_named_6 : List UInt8 := dkwX1_named_6 ++ dktX1_named_7
def dkwX1_named_5 : List UInt8 := [182, 1, 121, 58, 6, 3, 54, 7, 42, 180, 0, 56, 198, 0, 103, 21, 7, 28, 153, 0, 18, 42]
abbrev dktX1_named_5 : List UInt8 := dkwX1_named_5 ++ dktX1_named_6
def dkwX1_named_4 : List UInt8 := [180, 0, 20, 21, 6, 51, 17, 0, 255, 126, 146, 182, 1, 117, 87, 132, 6, 1, 167, 255, 228, 25, 5]
abbrev dktX1_named_4 : List UInt8 := dkwX1_named_4 ++ dktX1_named_5
def dkwX1_named_3 : List UInt8 := [187, 1, 114, 89, 183, 1, 116, 58, 5, 29, 54, 6, 21, 6, 21, 4, 162, 0, 27, 25, 5, 42]
abbrev dktX1_named_3 : List UInt8 := dkwX1_named_3 ++ dktX1_named_4
def dkwX1_named_2 : List UInt8 := [164, 0, 23, 42, 180, 0, 20, 21, 4, 4, 100, 51, 16, 32, 160, 0, 9, 132, 4, 255, 167, 255, 233]
abbrev dktX1_named_2 : List UInt8 := dkwX1_named_2 ++ dktX1_named_3
def dkwX1_named_1 : List UInt8 := [162, 0, 20, 42, 180, 0, 20, 29, 51, 16, 32, 160, 0, 9, 132, 3, 1, 167, 255, 236, 21, 4, 29]
abbrev dktX1_named_1 : List UInt8 := dkwX1_named_1 ++ dktX1_named_2
def dkwX1_named_0 : List UInt8 := [3, 62, 27, 3, 42, 180, 0, 33, 184, 0, 36, 153, 0, 7, 27, 167, 0, 4, 3, 54, 4, 29, 21, 4]
abbrev dktX1_named_0 : List UInt8 := dkwX1_named_0 ++ dktX1_named_1
theorem dksX1_named_0 : cX1_named.data.toList.drop 0 = dktX1_named_0 := by decide +kernel
theorem dksX1_named_1 : cX1_named.data.toList.drop 24 = dktX1_named_1 := dk_seg dksX1_named_0 24 rfl rfl
theorem dksX1_named_2 : cX1_named.data.toList.drop 47 = dktX1_named_2 := dk_seg dksX1_named_1 23 rfl rfl
theorem dksX1_named_3 : cX1_named.data.toList.drop 70 = dktX1_named_3 := dk_seg dksX1_named_2 23 rfl rfl
theorem dksX1_named_4 : cX1_named.data.toList.drop 92 = dktX1_named_4 := dk_seg dksX1_named_3 22 rfl rfl
theorem dksX1_named_5 : cX1_named.data.toList.drop 115 = dktX1_named_5 := dk_seg dksX1_named_4 23 rfl rfl
theorem dksX1_named_6 : cX1_named.data.toList.drop 137 = dktX1_named_6 := dk_seg dksX1_named_5 22 rfl rfl
theorem dksX1_named_7 : cX1_named.data.toList.drop 158 = dktX1_named_7 := dk_seg dksX1_named_6 21 rfl rfl
theorem dksX1_named_8 : cX1_named.data.toList.drop 181 = dktX1_named_8 := dk_seg dksX1_named_7 23 rfl rfl
theorem dksX1_named_9 : cX1_named.data.toList.drop 204 = dktX1_named_9 := dk_seg dksX1_named_8 23 rfl rfl
theorem dksX1_named_10 : cX1_named.data.toList.drop 227 = dktX1_named_10 := dk_seg dksX1_named_9 23 rfl rfl
theorem dX1_named_0 : decode cX1_named 0 = .ok (.iconst 0, 1) := dk_3 (dk_at dksX1_named_0 0 rfl rfl)
theorem dX1_named_1 : decode cX1_named 1 = .ok (.istore_n 3, 1) := dk_62 (dk_at dksX1_named_0 1 rfl rfl)
theorem dX1_named_2 : decode cX1_named 2 = .ok (.iload_n 1, 1) := dk_27 (dk_at dksX1_named_0 2 rfl rfl)
theorem dX1_named_3 : decode cX1_named 3 = .ok (.iconst 0, 1) := dk_3 (dk_at dksX1_named_0 3 rfl rfl)
theorem dX1_named_4 : decode cX1_named 4 = .ok (.aload_n 0, 1) := dk_42 (dk_at dksX1_named_0 4 rfl rfl)
theorem dX1_named_5 : decode cX1_named 5 = .ok (.getfield 33, 3) := dk_180 0 33 (dk_at dksX1_named_0 5 rfl rfl)
theorem dX1_named_8 : decode cX1_named 8 = .ok (.invokestatic 36, 3) := dk_184 0 36 (dk_at dksX1_named_0 8 rfl rfl)
theorem dX1_named_11 : decode cX1_named 11 = .ok (.ifCond .eq 7, 3) := dk_153 0 7 (dk_at dksX1_named_0 11 rfl rfl)
theorem dX1_named_14 : decode cX1_named 14 = .ok (.iload_n 1, 1) := dk_27 (dk_at dksX1_named_0 14 rfl rfl)
theorem dX1_named_15 : decode cX1_named 15 = .ok (.goto 4, 3) := dk_167 0 4 (dk_at dksX1_named_0 15 rfl rfl)
theorem dX1_named_18 : decode cX1_named 18 = .ok (.iconst 0, 1) := dk_3 (dk_at dksX1_named_0 18 rfl rfl)
theorem dX1_named_19 : decode cX1_named 19 = .ok (.istore 4, 2) := dk_54 4 (dk_at dksX1_named_0 19 rfl rfl)
theorem dX1_named_21 : decode cX1_named 21 = .ok (.iload_n 3, 1) := dk_29 (dk_at dksX1_named_0 21 rfl rfl)
theorem dX1_named_22 : decode cX1_named 22 = .ok (.iload 4, 2) := dk_21 4 (dk_at dksX1_named_0 22 rfl rfl)
theorem dX1_named_24 : decode cX1_named 24 = .ok (.if_icmp .ge 20, 3) := dk_162 0 20 (dk_at dksX1_named_1 0 rfl rfl)
theorem dX1_named_27 : decode cX1_named 27 = .ok (.aload_n 0, 1) := dk_42 (dk_at dksX1_named_1 3 rfl rfl)
theorem dX1_named_28 : decode cX1_named 28 = .ok (.getfield 20, 3) := dk_180 0 20 (dk_at dksX1_named_1 4 rfl rfl)
theorem dX1_named_31 : decode cX1_named 31 = .ok (.iload_n 3, 1) := dk_29 (dk_at dksX1_named_1 7 rfl rfl)
theorem dX1_named_32 : decode cX1_named 32 = .ok (.baload, 1) := dk_51 (dk_at dksX1_named_1 8 rfl rfl)
theorem dX1_named_33 : decode cX1_named 33 = .ok (.bipush 32, 2) := dk_16 32 (dk_at dksX1_named_1 9 rfl rfl)
theorem dX1_named_35 : decode cX1_named 35 = .ok (.if_icmp .ne 9, 3) := dk_160 0 9 (dk_at dksX1_named_1 11 rfl rfl)
theorem dX1_named_38 : decode cX1_named 38 = .ok (.iinc 3 1, 3) := dk_132 3 1 (dk_at dksX1_named_1 14 rfl rfl)
theorem dX1_named_41 : decode cX1_named 41 = .ok (.goto (-20), 3) := dk_167 255 236 (dk_at dksX1_named_1 17 rfl rfl)
theorem dX1_named_44 : decode cX1_named 44 = .ok (.iload 4, 2) := dk_21 4 (dk_at dksX1_named_1 20 rfl rfl)
theorem dX1_named_46 : decode cX1_named 46 = .ok (.iload_n 3, 1) := dk_29 (dk_at dksX1_named_1 22 rfl rfl)
theorem dX1_named_47 : decode cX1_named 47 = .ok (.if_icmp .le 23, 3) := dk_164 0 23 (dk_at dksX1_named_2 0 rfl rfl)
theorem dX1_named_50 : decode cX1_named 50 = .ok (.aload_n 0, 1) := dk_42 (dk_at dksX1_named_2 3 rfl rfl)
theorem dX1_named_51 : decode cX1_named 51 = .ok (.getfield 20, 3) := dk_180 0 20 (dk_at dksX1_named_2 4 rfl rfl)
theorem dX1_named_54 : decode cX1_named 54 = .ok (.iload 4, 2) := dk_21 4 (dk_at dksX1_named_2 7 rfl rfl)
theorem dX1_named_56 : decode cX1_named 56 = .ok (.iconst 1, 1) := dk_4 (dk_at dksX1_named_2 9 rfl rfl)
theorem dX1_named_57 : decode cX1_named 57 = .ok (.isub, 1) := dk_100 (dk_at dksX1_named_2 10 rfl rfl)
theorem dX1_named_58 : decode cX1_named 58 = .ok (.baload, 1) := dk_51 (dk_at dksX1_named_2 11 rfl rfl)
theorem dX1_named_59 : decode cX1_named 59 = .ok (.bipush 32, 2) := dk_16 32 (dk_at dksX1_named_2 12 rfl rfl)
theorem dX1_named_61 : decode cX1_named 61 = .ok (.if_icmp .ne 9, 3) := dk_160 0 9 (dk_at dksX1_named_2 14 rfl rfl)
theorem dX1_named_64 : decode cX1_named 64 = .ok (.iinc 4 (-1), 3) := dk_132 4 255 (dk_at dksX1_named_2 17 rfl rfl)
theorem dX1_named_67 : decode cX1_named 67 = .ok (.goto (-23), 3) := dk_167 255 233 (dk_at dksX1_named_2 20 rfl rfl)
theorem dX1_named_70 : decode cX1_named 70 = .ok (.new 370, 3) := dk_187 1 114 (dk_at dksX1_named_3 0 rfl rfl)
theorem dX1_named_73 : decode cX1_named 73 = .ok (.dup, 1) := dk_89 (dk_at dksX1_named_3 3 rfl rfl)
theorem dX1_named_74 : decode cX1_named 74 = .ok (.invokespecial 372, 3) := dk_183 1 116 (dk_at dksX1_named_3 4 rfl rfl)
theorem dX1_named_77 : decode cX1_named 77 = .ok (.astore 5, 2) := dk_58 5 (dk_at dksX1_named_3 7 rfl rfl)
theorem dX1_named_79 : decode cX1_named 79 = .ok (.iload_n 3, 1) := dk_29 (dk_at dksX1_named_3 9 rfl rfl)
theorem dX1_named_80 : decode cX1_named 80 = .ok (.istore 6, 2) := dk_54 6 (dk_at dksX1_named_3 10 rfl rfl)
theorem dX1_named_82 : decode cX1_named 82 = .ok (.iload 6, 2) := dk_21 6 (dk_at dksX1_named_3 12 rfl rfl)
theorem dX1_named_84 : decode cX1_named 84 = .ok (.iload 4, 2) := dk_21 4 (dk_at dksX1_named_3 14 rfl rfl)
theorem dX1_named_86 : decode cX1_named 86 = .ok (.if_icmp .ge 27, 3) := dk_162 0 27 (dk_at dksX1_named_3 16 rfl rfl)
theorem dX1_named_89 : decode cX1_named 89 = .ok (.aload 5, 2) := dk_25 5 (dk_at dksX1_named_3 19 rfl rfl)
theorem dX1_named_91 : decode cX1_named 91 = .ok (.aload_n 0, 1) := dk_42 (dk_at dksX1_named_3 21 rfl rfl)
theorem dX1_named_92 : decode cX1_named 92 = .ok (.getfield 20, 3) := dk_180 0 20 (dk_at dksX1_named_4 0 rfl rfl)
theorem dX1_named_95 : decode cX1_named 95 = .ok (.iload 6, 2) := dk_21 6 (dk_at dksX1_named_4 3 rfl rfl)
theorem dX1_named_97 : decode cX1_named 97 = .ok (.baload, 1) := dk_51 (dk_at dksX1_named_4 5 rfl rfl)
theorem dX1_named_98 : decode cX1_named 98 = .ok (.sipush 255, 3) := dk_17 0 255 (dk_at dksX1_named_4 6 rfl rfl)
theorem dX1_named_101 : decode cX1_named 101 = .ok (.iand, 1) := dk_126 (dk_at dksX1_named_4 9 rfl rfl)
theorem dX1_named_102 : decode cX1_named 102 = .ok (.i2c, 1) := dk_146 (dk_at dksX1_named_4 10 rfl rfl)
theorem dX1_named_103 : decode cX1_named 103 = .ok (.invokevirtual 373, 3) := dk_182 1 117 (dk_at dksX1_named_4 11 rfl rfl)
theorem dX1_named_106 : decode cX1_named 106 = .ok (.pop, 1) := dk_87 (dk_at dksX1_named_4 14 rfl rfl)
theorem dX1_named_107 : decode cX1_named 107 = .ok (.iinc 6 1, 3) := dk_132 6 1 (dk_at dksX1_named_4 15 rfl rfl)
theorem dX1_named_110 : decode cX1_named 110 = .ok (.goto (-28), 3) := dk_167 255 228 (dk_at dksX1_named_4 18 rfl rfl)
theorem dX1_named_113 : decode cX1_named 113 = .ok (.aload 5, 2) := dk_25 5 (dk_at dksX1_named_4 21 rfl rfl)
theorem dX1_named_115 : decode cX1_named 115 = .ok (.invokevirtual 377, 3) := dk_182 1 121 (dk_at dksX1_named_5 0 rfl rfl)
theorem dX1_named_118 : decode cX1_named 118 = .ok (.astore 6, 2) := dk_58 6 (dk_at dksX1_named_5 3 rfl rfl)
theorem dX1_named_120 : decode cX1_named 120 = .ok (.iconst 0, 1) := dk_3 (dk_at dksX1_named_5 5 rfl rfl)
theorem dX1_named_121 : decode cX1_named 121 = .ok (.istore 7, 2) := dk_54 7 (dk_at dksX1_named_5 6 rfl rfl)
theorem dX1_named_123 : decode cX1_named 123 = .ok (.aload_n 0, 1) := dk_42 (dk_at dksX1_named_5 8 rfl rfl)
theorem dX1_named_124 : decode cX1_named 124 = .ok (.getfield 56, 3) := dk_180 0 56 (dk_at dksX1_named_5 9 rfl rfl)
theorem dX1_named_127 : decode cX1_named 127 = .ok (.ifnull 103, 3) := dk_198 0 103 (dk_at dksX1_named_5 12 rfl rfl)
theorem dX1_named_130 : decode cX1_named 130 = .ok (.iload 7, 2) := dk_21 7 (dk_at dksX1_named_5 15 rfl rfl)
theorem dX1_named_132 : decode cX1_named 132 = .ok (.iload_n 2, 1) := dk_28 (dk_at dksX1_named_5 17 rfl rfl)
theorem dX1_named_133 : decode cX1_named 133 = .ok (.ifCond .eq 18, 3) := dk_153 0 18 (dk_at dksX1_named_5 18 rfl rfl)
theorem dX1_named_136 : decode cX1_named 136 = .ok (.aload_n 0, 1) := dk_42 (dk_at dksX1_named_5 21 rfl rfl)
theorem dX1_named_137 : decode cX1_named 137 = .ok (.getfield 56, 3) := dk_180 0 56 (dk_at dksX1_named_6 0 rfl rfl)
theorem dX1_named_140 : decode cX1_named 140 = .ok (.getfield 86, 3) := dk_180 0 86 (dk_at dksX1_named_6 3 rfl rfl)
theorem dX1_named_143 : decode cX1_named 143 = .ok (.invokeinterface 77 1, 5) := by decide +kernel
theorem dX1_named_148 : decode cX1_named 148 = .ok (.goto 15, 3) := dk_167 0 15 (dk_at dksX1_named_6 11 rfl rfl)
theorem dX1_named_151 : decode cX1_named 151 = .ok (.aload_n 0, 1) := dk_42 (dk_at dksX1_named_6 14 rfl rfl)
theorem dX1_named_152 : decode cX1_named 152 = .ok (.getfield 56, 3) := dk_180 0 56 (dk_at dksX1_named_6 15 rfl rfl)
theorem dX1_named_155 : decode cX1_named 155 = .ok (.getfield 71, 3) := dk_180 0 71 (dk_at dksX1_named_6 18 rfl rfl)
theorem dX1_named_158 : decode cX1_named 158 = .ok (.invokeinterface 77 1, 5) := by decide +kernel
theorem dX1_named_163 : decode cX1_named 163 = .ok (.if_icmp .ge 67, 3) := dk_162 0 67 (dk_at dksX1_named_7 5 rfl rfl)
theorem dX1_named_166 : decode cX1_named 166 = .ok (.aload 6, 2) := dk_25 6 (dk_at dksX1_named_7 8 rfl rfl)
theorem dX1_named_168 : decode cX1_named 168 = .ok (.iload_n 2, 1) := dk_28 (dk_at dksX1_named_7 10 rfl rfl)
theorem dX1_named_169 : decode cX1_named 169 = .ok (.ifCond .eq 26, 3) := dk_153 0 26 (dk_at dksX1_named_7 11 rfl rfl)
theorem dX1_named_172 : decode cX1_named 172 = .ok (.aload_n 0, 1) := dk_42 (dk_at dksX1_named_7 14 rfl rfl)
theorem dX1_named_173 : decode cX1_named 173 = .ok (.getfield 56, 3) := dk_180 0 56 (dk_at dksX1_named_7 15 rfl rfl)
theorem dX1_named_176 : decode cX1_named 176 = .ok (.getfield 86, 3) := dk_180 0 86 (dk_at dksX1_named_7 18 rfl rfl)
theorem dX1_named_179 : decode cX1_named 179 = .ok (.iload 7, 2) := dk_21 7 (dk_at dksX1_named_7 21 rfl rfl)
theorem dX1_named_181 : decode cX1_named 181 = .ok (.invokeinterface 93 2, 5) := by decide +kernel
theorem dX1_named_186 : decode cX1_named 186 = .ok (.checkcast 97, 3) := dk_192 0 97 (dk_at dksX1_named_8 5 rfl rfl)
theorem dX1_named_189 : decode cX1_named 189 = .ok (.getfield 381, 3) := dk_180 1 125 (dk_at dksX1_named_8 8 rfl rfl)
theorem dX1_named_192 : decode cX1_named 192 = .ok (.goto 23, 3) := dk_167 0 23 (dk_at dksX1_named_8 11 rfl rfl)
theorem dX1_named_195 : decode cX1_named 195 = .ok (.aload_n 0, 1) := dk_42 (dk_at dksX1_named_8 14 rfl rfl)
theorem dX1_named_196 : decode cX1_named 196 = .ok (.getfield 56, 3) := dk_180 0 56 (dk_at dksX1_named_8 15 rfl rfl)
theorem dX1_named_199 : decode cX1_named 199 = .ok (.getfield 71, 3) := dk_180 0 71 (dk_at dksX1_named_8 18 rfl rfl)
theorem dX1_named_202 : decode cX1_named 202 = .ok (.iload 7, 2) := dk_21 7 (dk_at dksX1_named_8 21 rfl rfl)
theorem dX1_named_204 : decode cX1_named 204 = .ok (.invokeinterface 93 2, 5) := by decide +kernel
theorem dX1_named_209 : decode cX1_named 209 = .ok (.checkcast 103, 3) := dk_192 0 103 (dk_at dksX1_named_9 5 rfl rfl)
theorem dX1_named_212 : decode cX1_named 212 = .ok (.getfield 385, 3) := dk_180 1 129 (dk_at dksX1_named_9 8 rfl rfl)
theorem dX1_named_215 : decode cX1_named 215 = .ok (.invokevirtual 386, 3) := dk_182 1 130 (dk_at dksX1_named_9 11 rfl rfl)
theorem dX1_named_218 : decode cX1_named 218 = .ok (.ifCond .eq 6, 3) := dk_153 0 6 (dk_at dksX1_named_9 14 rfl rfl)
theorem dX1_named_221 : decode cX1_named 221 = .ok (.iload 7, 2) := dk_21 7 (dk_at dksX1_named_9 17 rfl rfl)
theorem dX1_named_223 : decode cX1_named 223 = .ok (.ireturn, 1) := dk_172 (dk_at dksX1_named_9 19 rfl rfl)
theorem dX1_named_224 : decode cX1_named 224 = .ok (.iinc 7 1, 3) := dk_132 7 1 (dk_at dksX1_named_9 20 rfl rfl)
theorem dX1_named_227 : decode cX1_named 227 = .ok (.goto (-104), 3) := dk_167 255 152 (dk_at dksX1_named_10 0 rfl rfl)
theorem dX1_named_230 : decode cX1_named 230 = .ok (.new 391, 3) := dk_187 1 135 (dk_at dksX1_named_10 3 rfl rfl)
theorem dX1_named_233 : decode cX1_named 233 = .ok (.dup, 1) := dk_89 (dk_at dksX1_named_10 6 rfl rfl)
theorem dX1_named_234 : decode cX1_named 234 = .ok (.invokespecial 393, 3) := dk_183 1 137 (dk_at dksX1_named_10 7 rfl rfl)
theorem dX1_named_237 : decode cX1_named 237 = .ok (.athrow, 1) := dk_191 (dk_at dksX1_named_10 10 rfl rfl)
theorem md_X1_named : xMd yX1_named cX1_named 8 (Option.some Jvm.ClassFile.FieldType.int) 2 := ⟨q2889, q123, by decide, by decide +kernel, by decide +kernel, by decide +kernel⟩
def f_X1_named_230 (a0 : Nat)   (p0 : PH) : Option (xO × PH) :=
  (xnse p0 fun b11 p12 =>
  (rT b11 p12))
def f_X1_named_215 (a0 : Nat) (k123 : Int32 × Option Nat × Int32 × PH → Option (xO × PH)) (v2 : Int32) (v6 : Option Nat) (v7 : Int32) (w0 : Option Nat) (w1 : Option Nat) (p0 : PH) : Option (xO × PH) :=
  (xnul w0 none fun b27 =>
  (xcI (f_J6_equals p0 b27 w1) fun x29 p28 =>
  (if x29 = 0 then
  (bnd (v7 + 1) fun x30 =>
  (k123 (v2, v6, x30, p28))) else
  (rI v7 p28))))
def f_X1_named_163 (a0 : Nat) (k123 : Int32 × Option Nat × Int32 × PH → Option (xO × PH)) (v2 : Int32) (v6 : Option Nat) (v7 : Int32) (w0 : Int32) (w1 : Int32) (p0 : PH) : Option (xO × PH) :=
  (if w1 ≤ w0 then
  (f_X1_named_230 a0  p0) else
  (if v2 = 0 then
  (xgR p0 a0 0 5 fun x19 =>
  (xnul x19 none fun b20 =>
  (xgR p0 b20 3 1 fun x21 =>
  (xnul x21 none fun b22 =>
  (xcR (f_J3_get p0 b22 v7) fun x24 p23 =>
  (xcst p23 (x24) [6]
  (xnul x24 none fun b25 =>
  (xgR p23 b25 6 0 fun x26 =>
  (f_X1_named_215 a0 k123 v2 v6 v7 v6 x26 p23))))))))) else
  (xgR p0 a0 0 5 fun x31 =>
  (xnul x31 none fun b32 =>
  (xgR p0 b32 3 0 fun x33 =>
  (xnul x33 none fun b34 =>
  (xcR (f_J3_get p0 b34 v7) fun x36 p35 =>
  (xcst p35 (x36) [5]
  (xnul x36 none fun b37 =>
  (xgR p35 b37 5 0 fun x38 =>
  (f_X1_named_215 a0 k123 v2 v6 v7 v6 x38 p35)))))))))))
def f_X1_named_123F (a0 : Nat)  (k123 : Int32 × Option Nat × Int32 × PH → Option (xO × PH)) (p : Int32 × Option Nat × Int32 × PH) : Option (xO × PH) := match p with
  | (v2, v6, v7, p0) => (xgR p0 a0 0 5 fun x9 =>
  (xnul x9 (f_X1_named_230 a0  p0) fun b10 =>
  (if v2 = 0 then
  (xgR p0 a0 0 5 fun x13 =>
  (xnul x13 none fun b14 =>
  (xgR p0 b14 3 1 fun x15 =>
  (xnul x15 none fun b16 =>
  (xcI (f_J3_size p0 b16 ) fun x18 p17 =>
  (f_X1_named_163 a0 k123 v2 v6 v7 v7 x18 p17)))))) else
  (xgR p0 a0 0 5 fun x39 =>
  (xnul x39 none fun b40 =>
  (xgR p0 b40 3 0 fun x41 =>
  (xnul x41 none fun b42 =>
  (xcI (f_J3_size p0 b42 ) fun x44 p43 =>
  (f_X1_named_163 a0 k123 v2 v6 v7 v7 x44 p43)))))))))
def f_X1_named_82F (a0 : Nat)  (k82 : Int32 × Int32 × Nat × Int32 × PH → Option (xO × PH)) (p : Int32 × Int32 × Nat × Int32 × PH) : Option (xO × PH) := match p with
  | (v2, v4, v5, v6, p0) => (if v4 ≤ v6 then
  (xcR (f_J15_toString p0 v5 ) fun x8 p7 =>
  (lp (f_X1_named_123F a0) FU (v2, x8, 0, p7))) else
  (xgR p0 a0 0 2 fun x45 =>
  (xnul x45 none fun b46 =>
  (xaI p0 b46 2 v6 fun x47 =>
  (xcR (f_J15_append p0 v5 (((x47 &&& 255).toUInt32 % 65536).toInt32)) fun x49 p48 =>
  (bnd (v6 + 1) fun x50 =>
  (k82 (v2, v4, v5, x50, p48))))))))
def f_X1_named_70 (a0 : Nat)  (v2 : Int32) (v3 : Int32) (v4 : Int32) (p0 : PH) : Option (xO × PH) :=
  (xnew p0 17 [.null, .int 0, .int 0, .int 0] fun b4 p5 =>
  (xcV (f_J15_init p5 b4 ) fun p6 =>
  (lp (f_X1_named_82F a0) FU (v2, v4, b4, v3, p6))))
def f_X1_named_44F (a0 : Nat)  (k44 : Int32 × Int32 × Int32 × PH → Option (xO × PH)) (p : Int32 × Int32 × Int32 × PH) : Option (xO × PH) := match p with
  | (v2, v3, v4, p0) => (if v4 ≤ v3 then
  (f_X1_named_70 a0 v2 v3 v4 p0) else
  (xgR p0 a0 0 2 fun x51 =>
  (xnul x51 none fun b52 =>
  (xaI p0 b52 2 (v4 - 1) fun x53 =>
  (if x53 = 32 then
  (bnd (v4 + (-1)) fun x54 =>
  (k44 (v2, v3, x54, p0))) else
  (f_X1_named_70 a0 v2 v3 v4 p0))))))
def f_X1_named_21F (a0 : Nat)  (k21 : Int32 × Int32 × Int32 × PH → Option (xO × PH)) (p : Int32 × Int32 × Int32 × PH) : Option (xO × PH) := match p with
  | (v2, v3, v4, p0) => (if v4 ≤ v3 then
  (lp (f_X1_named_44F a0) FU (v2, v3, v4, p0)) else
  (xgR p0 a0 0 2 fun x55 =>
  (xnul x55 none fun b56 =>
  (xaI p0 b56 2 v3 fun x57 =>
  (if x57 = 32 then
  (bnd (v3 + 1) fun x58 =>
  (k21 (v2, x58, v4, p0))) else
  (lp (f_X1_named_44F a0) FU (v2, v3, v4, p0)))))))
def f_X1_named_19 (a0 : Nat)  (v2 : Int32) (v3 : Int32) (w0 : Int32) (p0 : PH) : Option (xO × PH) :=
  (lp (f_X1_named_21F a0) FU (v2, v3, w0, p0))
def f_X1_named (p0 : PH) (a0 : Nat) (a1 : Int32) (a2 : Int32) : Option (xO × PH) :=
  (xcl1 p0 a0 0 (xgI p0 a0 0 3 fun x1 =>
  (xcI (f_X1_isIn p0 a1 0 x1) fun x3 p2 =>
  (if x3 = 0 then
  (f_X1_named_19 a0 a2 0 0 p2) else
  (f_X1_named_19 a0 a2 0 a1 p2)))))
theorem rc_X1_named {p0 : PH} {a0 : Nat} {a1 : Int32} {a2 : Int32} : ∀ z, f_X1_named p0 a0 a1 a2 = some z → xco p0 a0 = some 0 := fun z h => xcl1_some h
theorem f_X1_named_230_ok {G : xG} (hO : xOK G) (a0 : Nat)   (p0 : PH) : X G "ForestLegs" "named" cX1_named 8 (Option.some Jvm.ClassFile.FieldType.int) 6 230 [] [] p0 (f_X1_named_230 a0  p0) := by
  unfold f_X1_named_230
  refine x_nse q2895 q166 dX1_named_230 dX1_named_233 dX1_named_234 (by decide) (Nat.le_of_ble_eq_true rfl) (n := 237) rfl (fun b11 p12 => ?_)
  exact x_throw dX1_named_237 (by decide +kernel)
theorem f_X1_named_215_ok {G : xG} (hO : xOK G) (a0 : Nat) {k123 : Int32 × Option Nat × Int32 × PH → Option (xO × PH)} (hk123 : ∀ (v2 : Int32) (v6 : Option Nat) (v7 : Int32) (p0 : PH), X G "ForestLegs" "named" cX1_named 8 (Option.some Jvm.ClassFile.FieldType.int) 6 123 [(0, .ref a0), (2, .int v2), (6, va_rf v6), (7, .int v7)] [] p0 (k123 (v2, v6, v7, p0))) (v2 : Int32) (v6 : Option Nat) (v7 : Int32) (w0 : Option Nat) (w1 : Option Nat) (p0 : PH) : X G "ForestLegs" "named" cX1_named 8 (Option.some Jvm.ClassFile.FieldType.int) 6 215 [(0, .ref a0), (2, .int v2), (6, va_rf v6), (7, .int v7)] [va_rf w1, va_rf w0] p0 (f_X1_named_215 a0 k123 v2 v6 v7 w0 w1 p0) := by
  unfold f_X1_named_215
  refine x_sm (fun b27 e => ?_)
  subst e
  refine x_callV_I [va_rf w1] [] (f_J6_equals_ok hO p0 b27 w1) rc_J6_equals md_J6_equals rfl q2894 q793 q794 dX1_named_215 rfl rfl (by decide) (Nat.le_of_ble_eq_true rfl) (n := 218) rfl (fun x29 p28 => ?_)
  refine x_if_eq dX1_named_218 (t := 224) (by decide) (n := 221) rfl (fun _ => ?_) (fun _ => ?_)
  · refine x_iincB 3 (fun x30 => [(7, .int x30), (0, .ref a0), (2, .int v2), (6, va_rf v6)]) dX1_named_224 rfl rfl (by decide) (fun _ => (by simp only [xst, List.filter_cons, List.filter_nil, xcat] <;> rfl)) (n := 227) rfl (fun x30 => ?_)
    refine x_goto dX1_named_227 (n := 123) (by decide) ?_
    refine x_sub [1, 2, 3, 0] [(0, .ref a0), (2, .int v2), (6, va_rf v6), (7, .int x30)] rfl ?_
    exact hk123 v2 v6 x30 p28
  · refine x_iload 3 dX1_named_221 rfl (n := 223) rfl ?_
    exact x_ireturn dX1_named_223
theorem f_X1_named_163_ok {G : xG} (hO : xOK G) (a0 : Nat) {k123 : Int32 × Option Nat × Int32 × PH → Option (xO × PH)} (hk123 : ∀ (v2 : Int32) (v6 : Option Nat) (v7 : Int32) (p0 : PH), X G "ForestLegs" "named" cX1_named 8 (Option.some Jvm.ClassFile.FieldType.int) 6 123 [(0, .ref a0), (2, .int v2), (6, va_rf v6), (7, .int v7)] [] p0 (k123 (v2, v6, v7, p0))) (v2 : Int32) (v6 : Option Nat) (v7 : Int32) (w0 : Int32) (w1 : Int32) (p0 : PH) : X G "ForestLegs" "named" cX1_named 8 (Option.some Jvm.ClassFile.FieldType.int) 6 163 [(0, .ref a0), (2, .int v2), (6, va_rf v6), (7, .int v7)] [.int w1, .int w0] p0 (f_X1_named_163 a0 k123 v2 v6 v7 w0 w1 p0) := by
  unfold f_X1_named_163
  refine x_icmp_ge dX1_named_163 (t := 230) (by decide) (n := 166) rfl (fun _ => ?_) (fun _ => ?_)
  · refine x_sub [] [] rfl ?_
    exact f_X1_named_230_ok hO a0  p0
  · refine x_aload 2 dX1_named_166 rfl (n := 168) rfl ?_
    refine x_iload_n 1 dX1_named_168 rfl rfl (n := 169) rfl ?_
    refine x_if_eq dX1_named_169 (t := 195) (by decide) (n := 172) rfl (fun _ => ?_) (fun _ => ?_)
    · refine x_aload_nr 0 dX1_named_195 rfl rfl (n := 196) rfl ?_
      refine x_getR fl_X1_56 dX1_named_196 (n := 199) rfl (fun x19 => ?_)
      refine x_sm (fun b20 e => ?_)
      subst e
      refine x_getR fl_X1_71 dX1_named_199 (n := 202) rfl (fun x21 => ?_)
      refine x_iload 3 dX1_named_202 rfl (n := 204) rfl ?_
      refine x_sm (fun b22 e => ?_)
      subst e
      refine x_callF_R [.int v7] [va_rf v6] (f_J3_get_ok hO p0 b22 v7) rc_J3_get md_J3_get rfl q1497 fc_java_util_ArrayList_java_util_List_get_1_ILjava dX1_named_204 rfl rfl (by decide) (by simp only [List.map, xcat]; exact Nat.le_of_ble_eq_true rfl) (n := 209) rfl (fun x24 p23 => ?_)
      refine x_cast (x := x24) (cs := [6]) q1498 cst_ForestLegs_Runner dX1_named_209 (n := 212) rfl ?_
      refine x_sm (fun b25 e => ?_)
      subst e
      refine x_getR fl_X1_385 dX1_named_212 (n := 215) rfl (fun x26 => ?_)
      exact f_X1_named_215_ok hO a0 hk123 v2 v6 v7 v6 x26 p23
    · refine x_aload_nr 0 dX1_named_172 rfl rfl (n := 173) rfl ?_
      refine x_getR fl_X1_56 dX1_named_173 (n := 176) rfl (fun x31 => ?_)
      refine x_sm (fun b32 e => ?_)
      subst e
      refine x_getR fl_X1_86 dX1_named_176 (n := 179) rfl (fun x33 => ?_)
      refine x_iload 3 dX1_named_179 rfl (n := 181) rfl ?_
      refine x_sm (fun b34 e => ?_)
      subst e
      refine x_callF_R [.int v7] [va_rf v6] (f_J3_get_ok hO p0 b34 v7) rc_J3_get md_J3_get rfl q1497 fc_java_util_ArrayList_java_util_List_get_1_ILjava dX1_named_181 rfl rfl (by decide) (by simp only [List.map, xcat]; exact Nat.le_of_ble_eq_true rfl) (n := 186) rfl (fun x36 p35 => ?_)
      refine x_cast (x := x36) (cs := [5]) q1574 cst_ForestLegs_Course dX1_named_186 (n := 189) rfl ?_
      refine x_sm (fun b37 e => ?_)
      subst e
      refine x_getR fl_X1_381 dX1_named_189 (n := 192) rfl (fun x38 => ?_)
      refine x_goto dX1_named_192 (n := 215) (by decide) ?_
      exact f_X1_named_215_ok hO a0 hk123 v2 v6 v7 v6 x38 p35
theorem f_X1_named_123F_ok {G : xG} (hO : xOK G) (a0 : Nat)  {k123 : Int32 × Option Nat × Int32 × PH → Option (xO × PH)} (hk123 : ∀ (v2 : Int32) (v6 : Option Nat) (v7 : Int32) (p0 : PH), X G "ForestLegs" "named" cX1_named 8 (Option.some Jvm.ClassFile.FieldType.int) 6 123 [(0, .ref a0), (2, .int v2), (6, va_rf v6), (7, .int v7)] [] p0 (k123 (v2, v6, v7, p0))) (v2 : Int32) (v6 : Option Nat) (v7 : Int32) (p0 : PH) : X G "ForestLegs" "named" cX1_named 8 (Option.some Jvm.ClassFile.FieldType.int) 6 123 [(0, .ref a0), (2, .int v2), (6, va_rf v6), (7, .int v7)] [] p0 (f_X1_named_123F a0 k123 (v2, v6, v7, p0)) := by
  unfold f_X1_named_123F
  refine x_aload_nr 0 dX1_named_123 rfl rfl (n := 124) rfl ?_
  refine x_getR fl_X1_56 dX1_named_124 (n := 127) rfl (fun x9 => ?_)
  refine x_ifnull dX1_named_127 (t := 230) (by decide) (n := 130) rfl (fun e => ?_) (fun b10 e => ?_)
  · subst e
    refine x_sub [] [] rfl ?_
    exact f_X1_named_230_ok hO a0  p0
  · subst e
    refine x_iload 3 dX1_named_130 rfl (n := 132) rfl ?_
    refine x_iload_n 1 dX1_named_132 rfl rfl (n := 133) rfl ?_
    refine x_if_eq dX1_named_133 (t := 151) (by decide) (n := 136) rfl (fun _ => ?_) (fun _ => ?_)
    · refine x_aload_nr 0 dX1_named_151 rfl rfl (n := 152) rfl ?_
      refine x_getR fl_X1_56 dX1_named_152 (n := 155) rfl (fun x13 => ?_)
      refine x_sm (fun b14 e => ?_)
      subst e
      refine x_getR fl_X1_71 dX1_named_155 (n := 158) rfl (fun x15 => ?_)
      refine x_sm (fun b16 e => ?_)
      subst e
      refine x_callF_I [] [.int v7] (f_J3_size_ok hO p0 b16 ) rc_J3_size md_J3_size rfl q1479 fc_java_util_ArrayList_java_util_List_size_0_I dX1_named_158 rfl rfl (by decide) (Nat.le_of_ble_eq_true rfl) (n := 163) rfl (fun x18 p17 => ?_)
      exact f_X1_named_163_ok hO a0 hk123 v2 v6 v7 v7 x18 p17
    · refine x_aload_nr 0 dX1_named_136 rfl rfl (n := 137) rfl ?_
      refine x_getR fl_X1_56 dX1_named_137 (n := 140) rfl (fun x39 => ?_)
      refine x_sm (fun b40 e => ?_)
      subst e
      refine x_getR fl_X1_86 dX1_named_140 (n := 143) rfl (fun x41 => ?_)
      refine x_sm (fun b42 e => ?_)
      subst e
      refine x_callF_I [] [.int v7] (f_J3_size_ok hO p0 b42 ) rc_J3_size md_J3_size rfl q1479 fc_java_util_ArrayList_java_util_List_size_0_I dX1_named_143 rfl rfl (by decide) (Nat.le_of_ble_eq_true rfl) (n := 148) rfl (fun x44 p43 => ?_)
      refine x_goto dX1_named_148 (n := 163) (by decide) ?_
      exact f_X1_named_163_ok hO a0 hk123 v2 v6 v7 v7 x44 p43
theorem f_X1_named_123_lp {G : xG} (hO : xOK G) (a0 : Nat)  (n : Nat) (v2 : Int32) (v6 : Option Nat) (v7 : Int32) (p0 : PH) : X G "ForestLegs" "named" cX1_named 8 (Option.some Jvm.ClassFile.FieldType.int) 6 123 [(0, .ref a0), (2, .int v2), (6, va_rf v6), (7, .int v7)] [] p0 (lp (f_X1_named_123F a0) n (v2, v6, v7, p0)) :=
  lp_ok (W := fun p K => X G "ForestLegs" "named" cX1_named 8 (Option.some Jvm.ClassFile.FieldType.int) 6 123 [(0, .ref a0), (2, .int p.1), (6, va_rf p.2.1), (7, .int p.2.2.1)] [] p.2.2.2 K) (fun _ => x_no) (fun k hk => fun (v2, v6, v7, p0) => f_X1_named_123F_ok hO a0 (fun v2 v6 v7 p0 => hk (v2, v6, v7, p0)) v2 v6 v7 p0) n (v2, v6, v7, p0)
theorem f_X1_named_82F_ok {G : xG} (hO : xOK G) (a0 : Nat)  {k82 : Int32 × Int32 × Nat × Int32 × PH → Option (xO × PH)} (hk82 : ∀ (v2 : Int32) (v4 : Int32) (v5 : Nat) (v6 : Int32) (p0 : PH), X G "ForestLegs" "named" cX1_named 8 (Option.some Jvm.ClassFile.FieldType.int) 6 82 [(0, .ref a0), (2, .int v2), (4, .int v4), (5, .ref v5), (6, .int v6)] [] p0 (k82 (v2, v4, v5, v6, p0))) (v2 : Int32) (v4 : Int32) (v5 : Nat) (v6 : Int32) (p0 : PH) : X G "ForestLegs" "named" cX1_named 8 (Option.some Jvm.ClassFile.FieldType.int) 6 82 [(0, .ref a0), (2, .int v2), (4, .int v4), (5, .ref v5), (6, .int v6)] [] p0 (f_X1_named_82F a0 k82 (v2, v4, v5, v6, p0)) := by
  unfold f_X1_named_82F
  refine x_iload 4 dX1_named_82 rfl (n := 84) rfl ?_
  refine x_iload 2 dX1_named_84 rfl (n := 86) rfl ?_
  refine x_icmp_ge dX1_named_86 (t := 113) (by decide) (n := 89) rfl (fun _ => ?_) (fun _ => ?_)
  · refine x_aloadr 3 dX1_named_113 rfl (n := 115) rfl ?_
    refine x_callV_R [] [] (f_J15_toString_ok hO p0 v5 ) rc_J15_toString md_J15_toString rfl q2893 q684 q685 dX1_named_115 rfl rfl (by decide) (Nat.le_of_ble_eq_true rfl) (n := 118) rfl (fun x8 p7 => ?_)
    refine x_astore [(6, va_rf x8), (0, .ref a0), (2, .int v2), (4, .int v4), (5, .ref v5)] dX1_named_118 (by decide) rfl (n := 120) rfl ?_
    refine x_iconst 0 dX1_named_120 rfl (n := 121) rfl ?_
    refine x_istore [(7, .int 0), (6, va_rf x8), (0, .ref a0), (2, .int v2), (4, .int v4), (5, .ref v5)] dX1_named_121 (by decide) (by simp only [xst, List.filter_cons, List.filter_nil, xcat] <;> rfl) (n := 123) rfl ?_
    refine x_sub [2, 3, 1, 0] [(0, .ref a0), (2, .int v2), (6, va_rf x8), (7, .int 0)] rfl ?_
    exact f_X1_named_123_lp hO a0 FU v2 x8 0 p7
  · refine x_aloadr 3 dX1_named_89 rfl (n := 91) rfl ?_
    refine x_aload_nr 0 dX1_named_91 rfl rfl (n := 92) rfl ?_
    refine x_getR fl_X1_20 dX1_named_92 (n := 95) rfl (fun x45 => ?_)
    refine x_iload 4 dX1_named_95 rfl (n := 97) rfl ?_
    refine x_sm (fun b46 e => ?_)
    subst e
    refine x_bald (t := 2) rfl dX1_named_97 (n := 98) rfl (fun x47 => ?_)
    refine x_sipush 255 dX1_named_98 rfl (n := 101) rfl ?_
    refine x_iand dX1_named_101 (n := 102) rfl ?_
    refine x_i2c dX1_named_102 (n := 103) rfl ?_
    refine x_callV_R [.int (((x47 &&& 255).toUInt32 % 65536).toInt32)] [] (f_J15_append_ok hO p0 v5 (((x47 &&& 255).toUInt32 % 65536).toInt32)) rc_J15_append md_J15_append rfl q2892 q604 q605 dX1_named_103 rfl rfl (by decide) (Nat.le_of_ble_eq_true rfl) (n := 106) rfl (fun x49 p48 => ?_)
    refine x_pop dX1_named_106 (xcat _) (n := 107) rfl ?_
    refine x_iincB 4 (fun x50 => [(6, .int x50), (0, .ref a0), (2, .int v2), (4, .int v4), (5, .ref v5)]) dX1_named_107 rfl rfl (by decide) (fun _ => rfl) (n := 110) rfl (fun x50 => ?_)
    refine x_goto dX1_named_110 (n := 82) (by decide) ?_
    refine x_sub [1, 2, 3, 4, 0] [(0, .ref a0), (2, .int v2), (4, .int v4), (5, .ref v5), (6, .int x50)] rfl ?_
    exact hk82 v2 v4 v5 x50 p48
theorem f_X1_named_82_lp {G : xG} (hO : xOK G) (a0 : Nat)  (n : Nat) (v2 : Int32) (v4 : Int32) (v5 : Nat) (v6 : Int32) (p0 : PH) : X G "ForestLegs" "named" cX1_named 8 (Option.some Jvm.ClassFile.FieldType.int) 6 82 [(0, .ref a0), (2, .int v2), (4, .int v4), (5, .ref v5), (6, .int v6)] [] p0 (lp (f_X1_named_82F a0) n (v2, v4, v5, v6, p0)) :=
  lp_ok (W := fun p K => X G "ForestLegs" "named" cX1_named 8 (Option.some Jvm.ClassFile.FieldType.int) 6 82 [(0, .ref a0), (2, .int p.1), (4, .int p.2.1), (5, .ref p.2.2.1), (6, .int p.2.2.2.1)] [] p.2.2.2.2 K) (fun _ => x_no) (fun k hk => fun (v2, v4, v5, v6, p0) => f_X1_named_82F_ok hO a0 (fun v2 v4 v5 v6 p0 => hk (v2, v4, v5, v6, p0)) v2 v4 v5 v6 p0) n (v2, v4, v5, v6, p0)
theorem f_X1_named_70_ok {G : xG} (hO : xOK G) (a0 : Nat)  (v2 : Int32) (v3 : Int32) (v4 : Int32) (p0 : PH) : X G "ForestLegs" "named" cX1_named 8 (Option.some Jvm.ClassFile.FieldType.int) 6 70 [(0, .ref a0), (2, .int v2), (3, .int v3), (4, .int v4)] [] p0 (f_X1_named_70 a0 v2 v3 v4 p0) := by
  unfold f_X1_named_70
  refine x_new cl_17 (by decide) q2890 q574 q143 rfl dX1_named_70 (n := 73) rfl (fun b4 p5 => ?_)
  refine x_dup dX1_named_73 rfl (n := 74) rfl ?_
  refine x_callI_V [] [.ref b4] (f_J15_init_ok hO p5 b4 ) md_J15_init rfl q2891 q576 dX1_named_74 rfl rfl (by decide) (Nat.le_of_ble_eq_true rfl) (n := 77) rfl (fun p6 => ?_)
  refine x_astorer [(5, .ref b4), (0, .ref a0), (2, .int v2), (3, .int v3), (4, .int v4)] dX1_named_77 (by decide) rfl (n := 79) rfl ?_
  refine x_iload_n 3 dX1_named_79 rfl rfl (n := 80) rfl ?_
  refine x_istore [(6, .int v3), (5, .ref b4), (0, .ref a0), (2, .int v2), (3, .int v3), (4, .int v4)] dX1_named_80 (by decide) rfl (n := 82) rfl ?_
  refine x_sub [2, 3, 5, 1, 0] [(0, .ref a0), (2, .int v2), (4, .int v4), (5, .ref b4), (6, .int v3)] rfl ?_
  exact f_X1_named_82_lp hO a0 FU v2 v4 b4 v3 p6
theorem f_X1_named_44F_ok {G : xG} (hO : xOK G) (a0 : Nat)  {k44 : Int32 × Int32 × Int32 × PH → Option (xO × PH)} (hk44 : ∀ (v2 : Int32) (v3 : Int32) (v4 : Int32) (p0 : PH), X G "ForestLegs" "named" cX1_named 8 (Option.some Jvm.ClassFile.FieldType.int) 6 44 [(0, .ref a0), (2, .int v2), (3, .int v3), (4, .int v4)] [] p0 (k44 (v2, v3, v4, p0))) (v2 : Int32) (v3 : Int32) (v4 : Int32) (p0 : PH) : X G "ForestLegs" "named" cX1_named 8 (Option.some Jvm.ClassFile.FieldType.int) 6 44 [(0, .ref a0), (2, .int v2), (3, .int v3), (4, .int v4)] [] p0 (f_X1_named_44F a0 k44 (v2, v3, v4, p0)) := by
  unfold f_X1_named_44F
  refine x_iload 3 dX1_named_44 rfl (n := 46) rfl ?_
  refine x_iload_n 2 dX1_named_46 rfl rfl (n := 47) rfl ?_
  refine x_icmp_le dX1_named_47 (t := 70) (by decide) (n := 50) rfl (fun _ => ?_) (fun _ => ?_)
  · exact f_X1_named_70_ok hO a0 v2 v3 v4 p0
  · refine x_aload_nr 0 dX1_named_50 rfl rfl (n := 51) rfl ?_
    refine x_getR fl_X1_20 dX1_named_51 (n := 54) rfl (fun x51 => ?_)
    refine x_iload 3 dX1_named_54 rfl (n := 56) rfl ?_
    refine x_iconst 1 dX1_named_56 rfl (n := 57) rfl ?_
    refine x_isub dX1_named_57 (n := 58) rfl ?_
    refine x_sm (fun b52 e => ?_)
    subst e
    refine x_bald (t := 2) rfl dX1_named_58 (n := 59) rfl (fun x53 => ?_)
    refine x_bipush 32 dX1_named_59 rfl (n := 61) rfl ?_
    refine x_icmp_ne dX1_named_61 (t := 70) (by decide) (n := 64) rfl (fun _ => ?_) (fun _ => ?_)
    · exact f_X1_named_70_ok hO a0 v2 v3 v4 p0
    · refine x_iincB 3 (fun x54 => [(4, .int x54), (0, .ref a0), (2, .int v2), (3, .int v3)]) dX1_named_64 rfl rfl (by decide) (fun _ => rfl) (n := 67) rfl (fun x54 => ?_)
      refine x_goto dX1_named_67 (n := 44) (by decide) ?_
      refine x_sub [1, 2, 3, 0] [(0, .ref a0), (2, .int v2), (3, .int v3), (4, .int x54)] rfl ?_
      exact hk44 v2 v3 x54 p0
theorem f_X1_named_44_lp {G : xG} (hO : xOK G) (a0 : Nat)  (n : Nat) (v2 : Int32) (v3 : Int32) (v4 : Int32) (p0 : PH) : X G "ForestLegs" "named" cX1_named 8 (Option.some Jvm.ClassFile.FieldType.int) 6 44 [(0, .ref a0), (2, .int v2), (3, .int v3), (4, .int v4)] [] p0 (lp (f_X1_named_44F a0) n (v2, v3, v4, p0)) :=
  lp_ok (W := fun p K => X G "ForestLegs" "named" cX1_named 8 (Option.some Jvm.ClassFile.FieldType.int) 6 44 [(0, .ref a0), (2, .int p.1), (3, .int p.2.1), (4, .int p.2.2.1)] [] p.2.2.2 K) (fun _ => x_no) (fun k hk => fun (v2, v3, v4, p0) => f_X1_named_44F_ok hO a0 (fun v2 v3 v4 p0 => hk (v2, v3, v4, p0)) v2 v3 v4 p0) n (v2, v3, v4, p0)
theorem f_X1_named_21F_ok {G : xG} (hO : xOK G) (a0 : Nat)  {k21 : Int32 × Int32 × Int32 × PH → Option (xO × PH)} (hk21 : ∀ (v2 : Int32) (v3 : Int32) (v4 : Int32) (p0 : PH), X G "ForestLegs" "named" cX1_named 8 (Option.some Jvm.ClassFile.FieldType.int) 6 21 [(0, .ref a0), (2, .int v2), (3, .int v3), (4, .int v4)] [] p0 (k21 (v2, v3, v4, p0))) (v2 : Int32) (v3 : Int32) (v4 : Int32) (p0 : PH) : X G "ForestLegs" "named" cX1_named 8 (Option.some Jvm.ClassFile.FieldType.int) 6 21 [(0, .ref a0), (2, .int v2), (3, .int v3), (4, .int v4)] [] p0 (f_X1_named_21F a0 k21 (v2, v3, v4, p0)) := by
  unfold f_X1_named_21F
  refine x_iload_n 2 dX1_named_21 rfl rfl (n := 22) rfl ?_
  refine x_iload 3 dX1_named_22 rfl (n := 24) rfl ?_
  refine x_icmp_ge dX1_named_24 (t := 44) (by decide) (n := 27) rfl (fun _ => ?_) (fun _ => ?_)
  · exact f_X1_named_44_lp hO a0 FU v2 v3 v4 p0
  · refine x_aload_nr 0 dX1_named_27 rfl rfl (n := 28) rfl ?_
    refine x_getR fl_X1_20 dX1_named_28 (n := 31) rfl (fun x55 => ?_)
    refine x_iload_n 2 dX1_named_31 rfl rfl (n := 32) rfl ?_
    refine x_sm (fun b56 e => ?_)
    subst e
    refine x_bald (t := 2) rfl dX1_named_32 (n := 33) rfl (fun x57 => ?_)
    refine x_bipush 32 dX1_named_33 rfl (n := 35) rfl ?_
    refine x_icmp_ne dX1_named_35 (t := 44) (by decide) (n := 38) rfl (fun _ => ?_) (fun _ => ?_)
    · exact f_X1_named_44_lp hO a0 FU v2 v3 v4 p0
    · refine x_iincB 2 (fun x58 => [(3, .int x58), (0, .ref a0), (2, .int v2), (4, .int v4)]) dX1_named_38 rfl rfl (by decide) (fun _ => rfl) (n := 41) rfl (fun x58 => ?_)
      refine x_goto dX1_named_41 (n := 21) (by decide) ?_
      refine x_sub [1, 2, 0, 3] [(0, .ref a0), (2, .int v2), (3, .int x58), (4, .int v4)] rfl ?_
      exact hk21 v2 x58 v4 p0
theorem f_X1_named_21_lp {G : xG} (hO : xOK G) (a0 : Nat)  (n : Nat) (v2 : Int32) (v3 : Int32) (v4 : Int32) (p0 : PH) : X G "ForestLegs" "named" cX1_named 8 (Option.some Jvm.ClassFile.FieldType.int) 6 21 [(0, .ref a0), (2, .int v2), (3, .int v3), (4, .int v4)] [] p0 (lp (f_X1_named_21F a0) n (v2, v3, v4, p0)) :=
  lp_ok (W := fun p K => X G "ForestLegs" "named" cX1_named 8 (Option.some Jvm.ClassFile.FieldType.int) 6 21 [(0, .ref a0), (2, .int p.1), (3, .int p.2.1), (4, .int p.2.2.1)] [] p.2.2.2 K) (fun _ => x_no) (fun k hk => fun (v2, v3, v4, p0) => f_X1_named_21F_ok hO a0 (fun v2 v3 v4 p0 => hk (v2, v3, v4, p0)) v2 v3 v4 p0) n (v2, v3, v4, p0)
theorem f_X1_named_19_ok {G : xG} (hO : xOK G) (a0 : Nat)  (v2 : Int32) (v3 : Int32) (w0 : Int32) (p0 : PH) : X G "ForestLegs" "named" cX1_named 8 (Option.some Jvm.ClassFile.FieldType.int) 6 19 [(0, .ref a0), (2, .int v2), (3, .int v3)] [.int w0] p0 (f_X1_named_19 a0 v2 v3 w0 p0) := by
  unfold f_X1_named_19
  refine x_istore [(4, .int w0), (0, .ref a0), (2, .int v2), (3, .int v3)] dX1_named_19 (by decide) rfl (n := 21) rfl ?_
  refine x_sub [1, 2, 3, 0] [(0, .ref a0), (2, .int v2), (3, .int v3), (4, .int w0)] rfl ?_
  exact f_X1_named_21_lp hO a0 FU v2 v3 w0 p0
theorem f_X1_named_ok {G : xG} (hO : xOK G) (p0 : PH) (a0 : Nat) (a1 : Int32) (a2 : Int32) : CT G 6 yX1_named cX1_named 8 (Option.some Jvm.ClassFile.FieldType.int) [.ref a0, .int a1, .int a2] p0 (f_X1_named p0 a0 a1 a2) := by
  refine CT_of hO (by decide +kernel) (by decide +kernel) (Nat.le_of_ble_eq_true rfl) ?_
  show X G "ForestLegs" "named" cX1_named 8 (Option.some Jvm.ClassFile.FieldType.int) 6 0 [(0, .ref a0), (1, .int a1), (2, .int a2)] [] p0 (f_X1_named p0 a0 a1 a2)
  refine x_cl1 (fun e0 => ?_)
  refine x_iconst 0 dX1_named_0 rfl (n := 1) rfl ?_
  refine x_istore_n [(3, .int 0), (0, .ref a0), (1, .int a1), (2, .int a2)] dX1_named_1 rfl (by decide) rfl (n := 2) rfl ?_
  refine x_iload_n 2 dX1_named_2 rfl rfl (n := 3) rfl ?_
  refine x_iconst 0 dX1_named_3 rfl (n := 4) rfl ?_
  refine x_aload_nr 1 dX1_named_4 rfl rfl (n := 5) rfl ?_
  refine x_getI fl_X1_33 dX1_named_5 (n := 8) rfl (fun x1 => ?_)
  refine x_callS_I [.int a1, .int 0, .int x1] [] (f_X1_isIn_ok hO p0 a1 0 x1) md_X1_isIn q247 q248 dX1_named_8 rfl rfl (by decide) (Nat.le_of_ble_eq_true rfl) (n := 11) rfl (fun x3 p2 => ?_)
  refine x_if_eq dX1_named_11 (t := 18) (by decide) (n := 14) rfl (fun _ => ?_) (fun _ => ?_)
  · refine x_iconst 0 dX1_named_18 rfl (n := 19) rfl ?_
    refine x_sub [1, 3, 0] [(0, .ref a0), (2, .int a2), (3, .int 0)] rfl ?_
    exact f_X1_named_19_ok hO a0 a2 0 0 p2
  · refine x_iload_n 2 dX1_named_14 rfl rfl (n := 15) rfl ?_
    refine x_goto dX1_named_15 (n := 19) (by decide) ?_
    refine x_sub [1, 3, 0] [(0, .ref a0), (2, .int a2), (3, .int 0)] rfl ?_
    exact f_X1_named_19_ok hO a0 a2 0 a1 p2
abbrev cJ6_checkIndex : ByteArray := prog_31_method_155_code
def yJ6_checkIndex : MethodName := ⟨RJ6, "checkIndex", "(II)V"⟩
def dkwJ6_checkIndex_0 : List UInt8 := [26, 27, 178, 4, 29, 184, 4, 35, 87, 177]
abbrev dktJ6_checkIndex_0 : List UInt8 := dkwJ6_checkIndex_0 ++ []
theorem dksJ6_checkIndex_0 : cJ6_checkIndex.data.toList.drop 0 = dktJ6_checkIndex_0 := by decide +kernel
theorem dJ6_checkIndex_0 : decode cJ6_checkIndex 0 = .ok (.iload_n 0, 1) := dk_26 (dk_at dksJ6_checkIndex_0 0 rfl rfl)
theorem dJ6_checkIndex_1 : decode cJ6_checkIndex 1 = .ok (.iload_n 1, 1) := dk_27 (dk_at dksJ6_checkIndex_0 1 rfl rfl)
theorem dJ6_checkIndex_2 : decode cJ6_checkIndex 2 = .ok (.getstatic 1053, 3) := dk_178 4 29 (dk_at dksJ6_checkIndex_0 2 rfl rfl)
theorem dJ6_checkIndex_5 : decode cJ6_checkIndex 5 = .ok (.invokestatic 1059, 3) := dk_184 4 35 (dk_at dksJ6_checkIndex_0 5 rfl rfl)
theorem dJ6_checkIndex_8 : decode cJ6_checkIndex 8 = .ok (.pop, 1) := dk_87 (dk_at dksJ6_checkIndex_0 8 rfl rfl)
theorem dJ6_checkIndex_9 : decode cJ6_checkIndex 9 = .ok (.return_, 1) := dk_177 (dk_at dksJ6_checkIndex_0 9 rfl rfl)
theorem md_J6_checkIndex : xMd yJ6_checkIndex cJ6_checkIndex 2 (Option.none : Option Jvm.ClassFile.FieldType) 2 := ⟨q679, q133, by decide, by decide +kernel, by decide +kernel, by decide +kernel⟩
def f_J6_checkIndex (p0 : PH) (a0 : Int32) (a1 : Int32) : Option (xO × PH) :=
  (xcon p0 7 fun x1 =>
  (xcI (f_J10_checkIndex p0 a0 a1 x1) fun x3 p2 =>
  (rV p2)))
theorem f_J6_checkIndex_ok {G : xG} (hO : xOK G) (p0 : PH) (a0 : Int32) (a1 : Int32) : CT G 1 yJ6_checkIndex cJ6_checkIndex 2 (Option.none : Option Jvm.ClassFile.FieldType) [.int a0, .int a1] p0 (f_J6_checkIndex p0 a0 a1) := by
  refine CT_of hO (by decide +kernel) (by decide +kernel) (Nat.le_of_ble_eq_true rfl) ?_
  show X G "java/lang/String" "checkIndex" cJ6_checkIndex 2 (Option.none : Option Jvm.ClassFile.FieldType) 1 0 [(0, .int a0), (1, .int a1)] [] p0 (f_J6_checkIndex p0 a0 a1)
  refine x_iload_n 0 dJ6_checkIndex_0 rfl rfl (n := 1) rfl ?_
  refine x_iload_n 1 dJ6_checkIndex_1 rfl rfl (n := 2) rfl ?_
  refine x_getsR (j := 11) (k := 7) rfl rfl (Or.inl q460) dJ6_checkIndex_2 (n := 5) rfl (fun x1 => ?_)
  refine x_callS_I [.int a0, .int a1, va_rf x1] [] (f_J10_checkIndex_ok hO p0 a0 a1 x1) md_J10_checkIndex q680 q681 dJ6_checkIndex_5 rfl rfl (by decide) (Nat.le_of_ble_eq_true rfl) (n := 8) rfl (fun x3 p2 => ?_)
  refine x_pop dJ6_checkIndex_8 rfl (n := 9) rfl ?_
  exact x_return dJ6_checkIndex_9
abbrev cJ7_charAt : ByteArray := prog_33_method_2_code
def yJ7_charAt : MethodName := ⟨RJ7, "charAt", "([BI)C"⟩
def dkwJ7_charAt_0 : List UInt8 := [27, 42, 190, 184, 0, 9, 42, 27, 51, 17, 0, 255, 126, 146, 172]
abbrev dktJ7_charAt_0 : List UInt8 := dkwJ7_charAt_0 ++ []
theorem dksJ7_charAt_0 : cJ7_charAt.data.toList.drop 0 = dktJ7_charAt_0 := by decide +kernel
theorem dJ7_charAt_0 : decode cJ7_charAt 0 = .ok (.iload_n 1, 1) := dk_27 (dk_at dksJ7_charAt_0 0 rfl rfl)
theorem dJ7_charAt_1 : decode cJ7_charAt 1 = .ok (.aload_n 0, 1) := dk_42 (dk_at dksJ7_charAt_0 1 rfl rfl)
theorem dJ7_charAt_2 : decode cJ7_charAt 2 = .ok (.arraylength, 1) := dk_190 (dk_at dksJ7_charAt_0 2 rfl rfl)
theorem dJ7_charAt_3 : decode cJ7_charAt 3 = .ok (.invokestatic 9, 3) := dk_184 0 9 (dk_at dksJ7_charAt_0 3 rfl rfl)
theorem dJ7_charAt_6 : decode cJ7_charAt 6 = .ok (.aload_n 0, 1) := dk_42 (dk_at dksJ7_charAt_0 6 rfl rfl)
theorem dJ7_charAt_7 : decode cJ7_charAt 7 = .ok (.iload_n 1, 1) := dk_27 (dk_at dksJ7_charAt_0 7 rfl rfl)
theorem dJ7_charAt_8 : decode cJ7_charAt 8 = .ok (.baload, 1) := dk_51 (dk_at dksJ7_charAt_0 8 rfl rfl)
theorem dJ7_charAt_9 : decode cJ7_charAt 9 = .ok (.sipush 255, 3) := dk_17 0 255 (dk_at dksJ7_charAt_0 9 rfl rfl)
theorem dJ7_charAt_12 : decode cJ7_charAt 12 = .ok (.iand, 1) := dk_126 (dk_at dksJ7_charAt_0 12 rfl rfl)
theorem dJ7_charAt_13 : decode cJ7_charAt 13 = .ok (.i2c, 1) := dk_146 (dk_at dksJ7_charAt_0 13 rfl rfl)
theorem dJ7_charAt_14 : decode cJ7_charAt 14 = .ok (.ireturn, 1) := dk_172 (dk_at dksJ7_charAt_0 14 rfl rfl)
theorem md_J7_charAt : xMd yJ7_charAt cJ7_charAt 2 (Option.some Jvm.ClassFile.FieldType.char) 2 := ⟨q3054, q134, by decide, by decide +kernel, by decide +kernel, by decide +kernel⟩
def f_J7_charAt (p0 : PH) (a0 : Option Nat) (a1 : Int32) : Option (xO × PH) :=
  (xnul a0 none fun b1 =>
  (xlen p0 b1 fun x2 =>
  (xcV (f_J6_checkIndex p0 a1 x2) fun p3 =>
  (xaI p3 b1 2 a1 fun x4 =>
  (if vp_nar .char (((x4 &&& 255).toUInt32 % 65536).toInt32) = ((x4 &&& 255).toUInt32 % 65536).toInt32 then rI (((x4 &&& 255).toUInt32 % 65536).toInt32) p3 else none)))))
theorem f_J7_charAt_ok {G : xG} (hO : xOK G) (p0 : PH) (a0 : Option Nat) (a1 : Int32) : CT G 2 yJ7_charAt cJ7_charAt 2 (Option.some Jvm.ClassFile.FieldType.char) [va_rf a0, .int a1] p0 (f_J7_charAt p0 a0 a1) := by
  refine CT_of hO (by decide +kernel) (by decide +kernel) (lg_slen _ (by simp only [List.map, xcat]; exact Nat.le_of_ble_eq_true rfl)) ?_
  rw [show lv_args 0 [va_rf a0, .int a1] = [(0, va_rf a0), (1, .int a1)] from by simp only [lv_args, xcat] <;> rfl]
  show X G "java/lang/StringLatin1" "charAt" cJ7_charAt 2 (Option.some Jvm.ClassFile.FieldType.char) 2 0 [(0, va_rf a0), (1, .int a1)] [] p0 (f_J7_charAt p0 a0 a1)
  refine x_iload_n 1 dJ7_charAt_0 rfl rfl (n := 1) rfl ?_
  refine x_aload_n 0 dJ7_charAt_1 rfl rfl (n := 2) rfl ?_
  refine x_sm (fun b1 e => ?_)
  subst e
  refine x_alen dJ7_charAt_2 (n := 3) rfl (fun x2 => ?_)
  refine x_callS_V [.int a1, .int x2] [] (f_J6_checkIndex_ok hO p0 a1 x2) md_J6_checkIndex q3055 q678 dJ7_charAt_3 rfl rfl (by decide) (Nat.le_of_ble_eq_true rfl) (n := 6) rfl (fun p3 => ?_)
  refine x_aload_nr 0 dJ7_charAt_6 rfl rfl (n := 7) rfl ?_
  refine x_iload_n 1 dJ7_charAt_7 rfl rfl (n := 8) rfl ?_
  refine x_bald (t := 2) rfl dJ7_charAt_8 (n := 9) rfl (fun x4 => ?_)
  refine x_sipush 255 dJ7_charAt_9 rfl (n := 12) rfl ?_
  refine x_iand dJ7_charAt_12 (n := 13) rfl ?_
  refine x_i2c dJ7_charAt_13 (n := 14) rfl ?_
  exact x_nreturn rfl dJ7_charAt_14
abbrev cJ6_charAt : ByteArray := prog_31_method_56_code
def yJ6_charAt : MethodName := ⟨RJ6, "charAt", "(I)C"⟩
def dkwJ6_charAt_1 : List UInt8 := [172]
abbrev dktJ6_charAt_1 : List UInt8 := dkwJ6_charAt_1 ++ []
def dkwJ6_charAt_0 : List UInt8 := [42, 182, 1, 236, 153, 0, 12, 42, 180, 0, 9, 27, 184, 1, 239, 172, 42, 180, 0, 9, 27, 184, 1, 242]
abbrev dktJ6_charAt_0 : List UInt8 := dkwJ6_charAt_0 ++ dktJ6_charAt_1
theorem dksJ6_charAt_0 : cJ6_charAt.data.toList.drop 0 = dktJ6_charAt_0 := by decide +kernel
theorem dksJ6_charAt_1 : cJ6_charAt.data.toList.drop 24 = dktJ6_charAt_1 := dk_seg dksJ6_charAt_0 24 rfl rfl
theorem dJ6_charAt_0 : decode cJ6_charAt 0 = .ok (.aload_n 0, 1) := dk_42 (dk_at dksJ6_charAt_0 0 rfl rfl)
theorem dJ6_charAt_1 : decode cJ6_charAt 1 = .ok (.invokevirtual 492, 3) := dk_182 1 236 (dk_at dksJ6_charAt_0 1 rfl rfl)
theorem dJ6_charAt_4 : decode cJ6_charAt 4 = .ok (.ifCond .eq 12, 3) := dk_153 0 12 (dk_at dksJ6_charAt_0 4 rfl rfl)
theorem dJ6_charAt_7 : decode cJ6_charAt 7 = .ok (.aload_n 0, 1) := dk_42 (dk_at dksJ6_charAt_0 7 rfl rfl)
theorem dJ6_charAt_8 : decode cJ6_charAt 8 = .ok (.getfield 9, 3) := dk_180 0 9 (dk_at dksJ6_charAt_0 8 rfl rfl)
theorem dJ6_charAt_11 : decode cJ6_charAt 11 = .ok (.iload_n 1, 1) := dk_27 (dk_at dksJ6_charAt_0 11 rfl rfl)
theorem dJ6_charAt_12 : decode cJ6_charAt 12 = .ok (.invokestatic 495, 3) := dk_184 1 239 (dk_at dksJ6_charAt_0 12 rfl rfl)
theorem dJ6_charAt_15 : decode cJ6_charAt 15 = .ok (.ireturn, 1) := dk_172 (dk_at dksJ6_charAt_0 15 rfl rfl)
theorem dJ6_charAt_16 : decode cJ6_charAt 16 = .ok (.aload_n 0, 1) := dk_42 (dk_at dksJ6_charAt_0 16 rfl rfl)
theorem dJ6_charAt_17 : decode cJ6_charAt 17 = .ok (.getfield 9, 3) := dk_180 0 9 (dk_at dksJ6_charAt_0 17 rfl rfl)
theorem dJ6_charAt_20 : decode cJ6_charAt 20 = .ok (.iload_n 1, 1) := dk_27 (dk_at dksJ6_charAt_0 20 rfl rfl)
theorem dJ6_charAt_21 : decode cJ6_charAt 21 = .ok (.invokestatic 498, 3) := dk_184 1 242 (dk_at dksJ6_charAt_0 21 rfl rfl)
theorem dJ6_charAt_24 : decode cJ6_charAt 24 = .ok (.ireturn, 1) := dk_172 (dk_at dksJ6_charAt_1 0 rfl rfl)
theorem md_J6_charAt : xMd yJ6_charAt cJ6_charAt 2 (Option.some Jvm.ClassFile.FieldType.char) 1 := ⟨q3051, q133, by decide, by decide +kernel, by decide +kernel, by decide +kernel⟩
def f_J6_charAt (p0 : PH) (a0 : Nat) (a1 : Int32) : Option (xO × PH) :=
  (xcl1 p0 a0 16 (xcI (f_J6_isLatin1 p0 a0 ) fun x2 p1 =>
  (if x2 = 0 then
  (xgR p1 a0 16 0 fun x3 =>
  none) else
  (xgR p1 a0 16 0 fun x4 =>
  (xcI (f_J7_charAt p1 x4 a1) fun x6 p5 =>
  (if vp_nar .char x6 = x6 then rI x6 p5 else none))))))
theorem rc_J6_charAt {p0 : PH} {a0 : Nat} {a1 : Int32} : ∀ z, f_J6_charAt p0 a0 a1 = some z → xco p0 a0 = some 16 := fun z h => xcl1_some h
theorem f_J6_charAt_ok {G : xG} (hO : xOK G) (p0 : PH) (a0 : Nat) (a1 : Int32) : CT G 3 yJ6_charAt cJ6_charAt 2 (Option.some Jvm.ClassFile.FieldType.char) [.ref a0, .int a1] p0 (f_J6_charAt p0 a0 a1) := by
  refine CT_of hO (by decide +kernel) (by decide +kernel) (Nat.le_of_ble_eq_true rfl) ?_
  show X G "java/lang/String" "charAt" cJ6_charAt 2 (Option.some Jvm.ClassFile.FieldType.char) 3 0 [(0, .ref a0), (1, .int a1)] [] p0 (f_J6_charAt p0 a0 a1)
  refine x_cl1 (fun e0 => ?_)
  refine x_aload_nr 0 dJ6_charAt_0 rfl rfl (n := 1) rfl ?_
  refine x_callV_I [] [] (f_J6_isLatin1_ok hO p0 a0 ) rc_J6_isLatin1 md_J6_isLatin1 rfl q413 q414 q415 dJ6_charAt_1 rfl rfl (by decide) (Nat.le_of_ble_eq_true rfl) (n := 4) rfl (fun x2 p1 => ?_)
  refine x_if_eq dJ6_charAt_4 (t := 16) (by decide) (n := 7) rfl (fun _ => ?_) (fun _ => ?_)
  · refine x_aload_nr 0 dJ6_charAt_16 rfl rfl (n := 17) rfl ?_
    refine x_getR fl_J6_9 dJ6_charAt_17 (n := 20) rfl (fun x3 => ?_)
    refine x_iload_n 1 dJ6_charAt_20 rfl rfl (n := 21) rfl ?_
    exact x_no
  · refine x_aload_nr 0 dJ6_charAt_7 rfl rfl (n := 8) rfl ?_
    refine x_getR fl_J6_9 dJ6_charAt_8 (n := 11) rfl (fun x4 => ?_)
    refine x_iload_n 1 dJ6_charAt_11 rfl rfl (n := 12) rfl ?_
    refine x_callS_I [va_rf x4, .int a1] [] (f_J7_charAt_ok hO p1 x4 a1) md_J7_charAt q3052 q3053 dJ6_charAt_12 rfl rfl (by decide) (Nat.le_of_ble_eq_true rfl) (n := 15) rfl (fun x6 p5 => ?_)
    exact x_nreturn rfl dJ6_charAt_15
