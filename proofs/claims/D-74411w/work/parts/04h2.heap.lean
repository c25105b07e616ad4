set_option maxRecDepth 100000
set_option maxHeartbeats 4000000
abbrev cJ19_valueOf : ByteArray := prog_24_method_22_code
def yJ19_valueOf : MethodName := ⟨RJ19, "valueOf", "(I)Ljava/lang/Integer;"⟩
def dkwJ19_valueOf_1 : List UInt8 := [187, 0, 1, 89, 26, 183, 0, 199, 176]
abbrev dktJ19_valueOf_1 : List UInt8 := dkwJ19_valueOf_1 ++ []
def dkwJ19_valueOf_0 : List UInt8 := [26, 16, 128, 161, 0, 20, 26, 178, 0, 191, 163, 0, 13, 178, 0, 195, 26, 17, 0, 128, 96, 50, 176]
abbrev dktJ19_valueOf_0 : List UInt8 := dkwJ19_valueOf_0 ++ dktJ19_valueOf_1
theorem dksJ19_valueOf_0 : cJ19_valueOf.data.toList.drop 0 = dktJ19_valueOf_0 := by decide +kernel
theorem dksJ19_valueOf_1 : cJ19_valueOf.data.toList.drop 23 = dktJ19_valueOf_1 := dk_seg dksJ19_valueOf_0 23 rfl rfl
theorem dJ19_valueOf_0 : decode cJ19_valueOf 0 = .ok (.iload_n 0, 1) := dk_26 (dk_at dksJ19_valueOf_0 0 rfl rfl)
theorem dJ19_valueOf_1 : decode cJ19_valueOf 1 = .ok (.bipush (-128), 2) := dk_16 128 (dk_at dksJ19_valueOf_0 1 rfl rfl)
theorem dJ19_valueOf_3 : decode cJ19_valueOf 3 = .ok (.if_icmp .lt 20, 3) := dk_161 0 20 (dk_at dksJ19_valueOf_0 3 rfl rfl)
theorem dJ19_valueOf_6 : decode cJ19_valueOf 6 = .ok (.iload_n 0, 1) := dk_26 (dk_at dksJ19_valueOf_0 6 rfl rfl)
theorem dJ19_valueOf_7 : decode cJ19_valueOf 7 = .ok (.getstatic 191, 3) := dk_178 0 191 (dk_at dksJ19_valueOf_0 7 rfl rfl)
theorem dJ19_valueOf_10 : decode cJ19_valueOf 10 = .ok (.if_icmp .gt 13, 3) := dk_163 0 13 (dk_at dksJ19_valueOf_0 10 rfl rfl)
theorem dJ19_valueOf_13 : decode cJ19_valueOf 13 = .ok (.getstatic 195, 3) := dk_178 0 195 (dk_at dksJ19_valueOf_0 13 rfl rfl)
theorem dJ19_valueOf_16 : decode cJ19_valueOf 16 = .ok (.iload_n 0, 1) := dk_26 (dk_at dksJ19_valueOf_0 16 rfl rfl)
theorem dJ19_valueOf_17 : decode cJ19_valueOf 17 = .ok (.sipush 128, 3) := dk_17 0 128 (dk_at dksJ19_valueOf_0 17 rfl rfl)
theorem dJ19_valueOf_20 : decode cJ19_valueOf 20 = .ok (.iadd, 1) := dk_96 (dk_at dksJ19_valueOf_0 20 rfl rfl)
theorem dJ19_valueOf_21 : decode cJ19_valueOf 21 = .ok (.aaload, 1) := dk_50 (dk_at dksJ19_valueOf_0 21 rfl rfl)
theorem dJ19_valueOf_22 : decode cJ19_valueOf 22 = .ok (.areturn, 1) := dk_176 (dk_at dksJ19_valueOf_0 22 rfl rfl)
theorem dJ19_valueOf_23 : decode cJ19_valueOf 23 = .ok (.new 1, 3) := dk_187 0 1 (dk_at dksJ19_valueOf_1 0 rfl rfl)
theorem dJ19_valueOf_26 : decode cJ19_valueOf 26 = .ok (.dup, 1) := dk_89 (dk_at dksJ19_valueOf_1 3 rfl rfl)
theorem dJ19_valueOf_27 : decode cJ19_valueOf 27 = .ok (.iload_n 0, 1) := dk_26 (dk_at dksJ19_valueOf_1 4 rfl rfl)
theorem dJ19_valueOf_28 : decode cJ19_valueOf 28 = .ok (.invokespecial 199, 3) := dk_183 0 199 (dk_at dksJ19_valueOf_1 5 rfl rfl)
theorem dJ19_valueOf_31 : decode cJ19_valueOf 31 = .ok (.areturn, 1) := dk_176 (dk_at dksJ19_valueOf_1 8 rfl rfl)
theorem md_J19_valueOf : xMd yJ19_valueOf cJ19_valueOf 1 (Option.some (Jvm.ClassFile.FieldType.object "java/lang/Integer")) 1 := ⟨q1214, q149, by decide, by decide +kernel, by decide +kernel, by decide +kernel⟩
def f_J19_valueOf_23   (v0 : Int32) (p0 : PH) : Option (xO × PH) :=
  (xnew p0 18 [.int 0] fun b1 p2 =>
  (xcV (f_J19_init p2 b1 v0) fun p3 =>
  (rR (some b1) p3)))
def f_J19_valueOf (p0 : PH) (a0 : Int32) : Option (xO × PH) :=
  (if a0 < (-128) then
  (f_J19_valueOf_23 a0 p0) else
  (if 127 < a0 then
  (f_J19_valueOf_23 a0 p0) else
  (xcon p0 1 fun x4 =>
  (xnul x4 none fun b5 =>
  (xaR p0 b5 7 (a0 + 128) fun x6 =>
  (rR x6 p0))))))
theorem f_J19_valueOf_23_ok {G : xG} (hO : xOK G)   (v0 : Int32) (p0 : PH) : X G "java/lang/Integer" "valueOf" cJ19_valueOf 1 (Option.some (Jvm.ClassFile.FieldType.object "java/lang/Integer")) 3 23 [(0, .int v0)] [] p0 (f_J19_valueOf_23 v0 p0) := by
  unfold f_J19_valueOf_23
  refine x_new cl_18 (by decide) q995 q1219 q149 rfl dJ19_valueOf_23 (n := 26) rfl (fun b1 p2 => ?_)
  refine x_dup dJ19_valueOf_26 rfl (n := 27) rfl ?_
  refine x_iload_n 0 dJ19_valueOf_27 rfl rfl (n := 28) rfl ?_
  refine x_callI_V [.int v0] [.ref b1] (f_J19_init_ok hO p2 b1 v0) md_J19_init rfl q1220 q1221 dJ19_valueOf_28 rfl rfl (by decide) (Nat.le_of_ble_eq_true rfl) (n := 31) rfl (fun p3 => ?_)
  exact x_areturn (x := some b1) (Or.inl ⟨_, rfl⟩) dJ19_valueOf_31
theorem f_J19_valueOf_ok {G : xG} (hO : xOK G) (p0 : PH) (a0 : Int32) : CT G 3 yJ19_valueOf cJ19_valueOf 1 (Option.some (Jvm.ClassFile.FieldType.object "java/lang/Integer")) [.int a0] p0 (f_J19_valueOf p0 a0) := by
  refine CT_of hO (by decide +kernel) (by decide +kernel) (Nat.le_of_ble_eq_true rfl) ?_
  show X G "java/lang/Integer" "valueOf" cJ19_valueOf 1 (Option.some (Jvm.ClassFile.FieldType.object "java/lang/Integer")) 3 0 [(0, .int a0)] [] p0 (f_J19_valueOf p0 a0)
  refine x_iload_n 0 dJ19_valueOf_0 rfl rfl (n := 1) rfl ?_
  refine x_bipush (-128) dJ19_valueOf_1 rfl (n := 3) rfl ?_
  refine x_icmp_lt dJ19_valueOf_3 (t := 23) (by decide) (n := 6) rfl (fun _ => ?_) (fun _ => ?_)
  · exact f_J19_valueOf_23_ok hO a0 p0
  · refine x_iload_n 0 dJ19_valueOf_6 rfl rfl (n := 7) rfl ?_
    refine x_getsI (j := 2) rfl (Or.inl q1215) dJ19_valueOf_7 (n := 10) rfl ?_
    refine x_icmp_gt dJ19_valueOf_10 (t := 23) (by decide) (n := 13) rfl (fun _ => ?_) (fun _ => ?_)
    · exact f_J19_valueOf_23_ok hO a0 p0
    · refine x_getsR (j := 1) (k := 1) rfl rfl (Or.inl q1217) dJ19_valueOf_13 (n := 16) rfl (fun x4 => ?_)
      refine x_iload_n 0 dJ19_valueOf_16 rfl rfl (n := 17) rfl ?_
      refine x_sipush 128 dJ19_valueOf_17 rfl (n := 20) rfl ?_
      refine x_iadd dJ19_valueOf_20 (n := 21) rfl ?_
      refine x_sm (fun b5 e => ?_)
      subst e
      refine x_aald (t := 7) rfl rfl dJ19_valueOf_21 (n := 22) rfl (fun x6 => ?_)
      exact x_areturn (x := x6) (Or.inl ⟨_, rfl⟩) dJ19_valueOf_22
abbrev cJ17_copyOf_3 : ByteArray := prog_50_method_120_code
def yJ17_copyOf_3 : MethodName := ⟨RJ17, "copyOf", "([Ljava/lang/Object;ILjava/lang/Class;)[Ljava/lang/Object;"⟩
def dkwJ17_copyOf_3_1 : List UInt8 := [78, 42, 3, 45, 3, 42, 190, 27, 184, 1, 48, 184, 0, 150, 45, 176]
abbrev dktJ17_copyOf_3_1 : List UInt8 := dkwJ17_copyOf_3_1 ++ []
def dkwJ17_copyOf_3_0 : List UInt8 := [44, 18, 110, 166, 0, 10, 27, 189, 0, 2, 167, 0, 14, 44, 182, 0, 90, 27, 184, 0, 95, 192, 0, 110]
abbrev dktJ17_copyOf_3_0 : List UInt8 := dkwJ17_copyOf_3_0 ++ dktJ17_copyOf_3_1
theorem dksJ17_copyOf_3_0 : cJ17_copyOf_3.data.toList.drop 0 = dktJ17_copyOf_3_0 := by decide +kernel
theorem dksJ17_copyOf_3_1 : cJ17_copyOf_3.data.toList.drop 24 = dktJ17_copyOf_3_1 := dk_seg dksJ17_copyOf_3_0 24 rfl rfl
theorem dJ17_copyOf_3_0 : decode cJ17_copyOf_3 0 = .ok (.aload_n 2, 1) := dk_44 (dk_at dksJ17_copyOf_3_0 0 rfl rfl)
theorem dJ17_copyOf_3_1 : decode cJ17_copyOf_3 1 = .ok (.ldc 110, 2) := dk_18 110 (dk_at dksJ17_copyOf_3_0 1 rfl rfl)
theorem dJ17_copyOf_3_3 : decode cJ17_copyOf_3 3 = .ok (.if_acmp .ne 10, 3) := dk_166 0 10 (dk_at dksJ17_copyOf_3_0 3 rfl rfl)
theorem dJ17_copyOf_3_6 : decode cJ17_copyOf_3 6 = .ok (.iload_n 1, 1) := dk_27 (dk_at dksJ17_copyOf_3_0 6 rfl rfl)
theorem dJ17_copyOf_3_7 : decode cJ17_copyOf_3 7 = .ok (.anewarray 2, 3) := dk_189 0 2 (dk_at dksJ17_copyOf_3_0 7 rfl rfl)
theorem dJ17_copyOf_3_10 : decode cJ17_copyOf_3 10 = .ok (.goto 14, 3) := dk_167 0 14 (dk_at dksJ17_copyOf_3_0 10 rfl rfl)
theorem dJ17_copyOf_3_13 : decode cJ17_copyOf_3 13 = .ok (.aload_n 2, 1) := dk_44 (dk_at dksJ17_copyOf_3_0 13 rfl rfl)
theorem dJ17_copyOf_3_14 : decode cJ17_copyOf_3 14 = .ok (.invokevirtual 90, 3) := dk_182 0 90 (dk_at dksJ17_copyOf_3_0 14 rfl rfl)
theorem dJ17_copyOf_3_17 : decode cJ17_copyOf_3 17 = .ok (.iload_n 1, 1) := dk_27 (dk_at dksJ17_copyOf_3_0 17 rfl rfl)
theorem dJ17_copyOf_3_18 : decode cJ17_copyOf_3 18 = .ok (.invokestatic 95, 3) := dk_184 0 95 (dk_at dksJ17_copyOf_3_0 18 rfl rfl)
theorem dJ17_copyOf_3_21 : decode cJ17_copyOf_3 21 = .ok (.checkcast 110, 3) := dk_192 0 110 (dk_at dksJ17_copyOf_3_0 21 rfl rfl)
theorem dJ17_copyOf_3_24 : decode cJ17_copyOf_3 24 = .ok (.astore_n 3, 1) := dk_78 (dk_at dksJ17_copyOf_3_1 0 rfl rfl)
theorem dJ17_copyOf_3_25 : decode cJ17_copyOf_3 25 = .ok (.aload_n 0, 1) := dk_42 (dk_at dksJ17_copyOf_3_1 1 rfl rfl)
theorem dJ17_copyOf_3_26 : decode cJ17_copyOf_3 26 = .ok (.iconst 0, 1) := dk_3 (dk_at dksJ17_copyOf_3_1 2 rfl rfl)
theorem dJ17_copyOf_3_27 : decode cJ17_copyOf_3 27 = .ok (.aload_n 3, 1) := dk_45 (dk_at dksJ17_copyOf_3_1 3 rfl rfl)
theorem dJ17_copyOf_3_28 : decode cJ17_copyOf_3 28 = .ok (.iconst 0, 1) := dk_3 (dk_at dksJ17_copyOf_3_1 4 rfl rfl)
theorem dJ17_copyOf_3_29 : decode cJ17_copyOf_3 29 = .ok (.aload_n 0, 1) := dk_42 (dk_at dksJ17_copyOf_3_1 5 rfl rfl)
theorem dJ17_copyOf_3_30 : decode cJ17_copyOf_3 30 = .ok (.arraylength, 1) := dk_190 (dk_at dksJ17_copyOf_3_1 6 rfl rfl)
theorem dJ17_copyOf_3_31 : decode cJ17_copyOf_3 31 = .ok (.iload_n 1, 1) := dk_27 (dk_at dksJ17_copyOf_3_1 7 rfl rfl)
theorem dJ17_copyOf_3_32 : decode cJ17_copyOf_3 32 = .ok (.invokestatic 304, 3) := dk_184 1 48 (dk_at dksJ17_copyOf_3_1 8 rfl rfl)
theorem dJ17_copyOf_3_35 : decode cJ17_copyOf_3 35 = .ok (.invokestatic 150, 3) := dk_184 0 150 (dk_at dksJ17_copyOf_3_1 11 rfl rfl)
theorem dJ17_copyOf_3_38 : decode cJ17_copyOf_3 38 = .ok (.aload_n 3, 1) := dk_45 (dk_at dksJ17_copyOf_3_1 14 rfl rfl)
theorem dJ17_copyOf_3_39 : decode cJ17_copyOf_3 39 = .ok (.areturn, 1) := dk_176 (dk_at dksJ17_copyOf_3_1 15 rfl rfl)
theorem md_J17_copyOf_3 : xMd yJ17_copyOf_3 cJ17_copyOf_3 4 (Option.some (Jvm.ClassFile.FieldType.array (Jvm.ClassFile.FieldType.object "java/lang/Object"))) 3 := ⟨q1298, q145, by decide, by decide +kernel, by decide +kernel, by decide +kernel⟩
def f_J17_copyOf_3_24   (v0 : Option Nat) (v1 : Int32) (w0 : Nat) (p0 : PH) : Option (xO × PH) :=
  (xnul v0 none fun b4 =>
  (xlen p0 b4 fun x5 =>
  (xcI (f_J8_min p0 x5 v1) fun x7 p6 =>
  (xcpR p6 b4 w0 0 0 x7 fun p8 =>
  (rR (some w0) p8)))))
def f_J17_copyOf_3 (p0 : PH) (a0 : Option Nat) (a1 : Int32) (a2 : Option Nat) : Option (xO × PH) :=
  (xmir p0 fun b1 =>
  (if a2 = (some b1) then
  (xnaR p0 4 a1 fun b2 p3 =>
  (f_J17_copyOf_3_24 a0 a1 b2 p3)) else
  none))
theorem f_J17_copyOf_3_24_ok {G : xG} (hO : xOK G)   (v0 : Option Nat) (v1 : Int32) (w0 : Nat) (p0 : PH) : X G "java/util/Arrays" "copyOf" cJ17_copyOf_3 4 (Option.some (Jvm.ClassFile.FieldType.array (Jvm.ClassFile.FieldType.object "java/lang/Object"))) 1 24 [(0, va_rf v0), (1, .int v1)] [.ref w0] p0 (f_J17_copyOf_3_24 v0 v1 w0 p0) := by
  unfold f_J17_copyOf_3_24
  refine x_astore_nr [(3, .ref w0), (0, va_rf v0), (1, .int v1)] dJ17_copyOf_3_24 rfl (by decide) rfl (n := 25) rfl ?_
  refine x_aload_n 1 dJ17_copyOf_3_25 rfl rfl (n := 26) rfl ?_
  refine x_iconst 0 dJ17_copyOf_3_26 rfl (n := 27) rfl ?_
  refine x_aload_nr 0 dJ17_copyOf_3_27 rfl rfl (n := 28) rfl ?_
  refine x_iconst 0 dJ17_copyOf_3_28 rfl (n := 29) rfl ?_
  refine x_aload_n 1 dJ17_copyOf_3_29 rfl rfl (n := 30) rfl ?_
  refine x_sm (fun b4 e => ?_)
  subst e
  refine x_alen dJ17_copyOf_3_30 (n := 31) rfl (fun x5 => ?_)
  refine x_iload_n 2 dJ17_copyOf_3_31 rfl rfl (n := 32) rfl ?_
  refine x_callS_I [.int x5, .int v1] [.int 0, .ref w0, .int 0, .ref b4] (f_J8_min_ok hO p0 x5 v1) md_J8_min q637 q437 dJ17_copyOf_3_32 rfl rfl (by decide) (Nat.le_of_ble_eq_true rfl) (n := 35) rfl (fun x7 p6 => ?_)
  refine x_cpR arc_J17_150 dJ17_copyOf_3_35 (by decide) (Nat.le_of_ble_eq_true rfl) (n := 38) rfl (fun p8 => ?_)
  refine x_aload_nr 0 dJ17_copyOf_3_38 rfl rfl (n := 39) rfl ?_
  exact x_areturn (x := some w0) (Or.inr ⟨_, rfl⟩) dJ17_copyOf_3_39
theorem f_J17_copyOf_3_ok {G : xG} (hO : xOK G) (p0 : PH) (a0 : Option Nat) (a1 : Int32) (a2 : Option Nat) : CT G 1 yJ17_copyOf_3 cJ17_copyOf_3 4 (Option.some (Jvm.ClassFile.FieldType.array (Jvm.ClassFile.FieldType.object "java/lang/Object"))) [va_rf a0, .int a1, va_rf a2] p0 (f_J17_copyOf_3 p0 a0 a1 a2) := by
  refine CT_of hO (by decide +kernel) (by decide +kernel) (lg_slen _ (by simp only [List.map, xcat]; exact Nat.le_of_ble_eq_true rfl)) ?_
  rw [show lv_args 0 [va_rf a0, .int a1, va_rf a2] = [(0, va_rf a0), (1, .int a1), (2, va_rf a2)] from by simp only [lv_args, xcat] <;> rfl]
  show X G "java/util/Arrays" "copyOf" cJ17_copyOf_3 4 (Option.some (Jvm.ClassFile.FieldType.array (Jvm.ClassFile.FieldType.object "java/lang/Object"))) 1 0 [(0, va_rf a0), (1, .int a1), (2, va_rf a2)] [] p0 (f_J17_copyOf_3 p0 a0 a1 a2)
  refine x_aload_n 2 dJ17_copyOf_3_0 rfl rfl (n := 1) rfl ?_
  refine x_ldcM q1299 dJ17_copyOf_3_1 (n := 3) rfl (fun b1 => ?_)
  refine x_acmp_ne (x := a2) (y := some b1) dJ17_copyOf_3_3 (t := 13) (by decide) (n := 6) rfl (fun _ => ?_) (fun _ => ?_)
  · refine x_aload_n 2 dJ17_copyOf_3_13 rfl rfl (n := 14) rfl ?_
    exact x_no
  · refine x_iload_n 1 dJ17_copyOf_3_6 rfl rfl (n := 7) rfl ?_
    refine x_anew (t := 4) rfl (by decide) q1300 q199 dJ17_copyOf_3_7 (n := 10) rfl (fun b2 p3 => ?_)
    refine x_goto dJ17_copyOf_3_10 (n := 24) (by decide) ?_
    refine x_sub [0, 1] [(0, va_rf a0), (1, .int a1)] rfl ?_
    exact f_J17_copyOf_3_24_ok hO a0 a1 b2 p3
abbrev cJ17_copyOf_2 : ByteArray := prog_50_method_119_code
def yJ17_copyOf_2 : MethodName := ⟨RJ17, "copyOf", "([Ljava/lang/Object;I)[Ljava/lang/Object;"⟩
def dkwJ17_copyOf_2_0 : List UInt8 := [42, 27, 42, 182, 0, 86, 184, 1, 44, 176]
abbrev dktJ17_copyOf_2_0 : List UInt8 := dkwJ17_copyOf_2_0 ++ []
theorem dksJ17_copyOf_2_0 : cJ17_copyOf_2.data.toList.drop 0 = dktJ17_copyOf_2_0 := by decide +kernel
theorem dJ17_copyOf_2_0 : decode cJ17_copyOf_2 0 = .ok (.aload_n 0, 1) := dk_42 (dk_at dksJ17_copyOf_2_0 0 rfl rfl)
theorem dJ17_copyOf_2_1 : decode cJ17_copyOf_2 1 = .ok (.iload_n 1, 1) := dk_27 (dk_at dksJ17_copyOf_2_0 1 rfl rfl)
theorem dJ17_copyOf_2_2 : decode cJ17_copyOf_2 2 = .ok (.aload_n 0, 1) := dk_42 (dk_at dksJ17_copyOf_2_0 2 rfl rfl)
theorem dJ17_copyOf_2_3 : decode cJ17_copyOf_2 3 = .ok (.invokevirtual 86, 3) := dk_182 0 86 (dk_at dksJ17_copyOf_2_0 3 rfl rfl)
theorem dJ17_copyOf_2_6 : decode cJ17_copyOf_2 6 = .ok (.invokestatic 300, 3) := dk_184 1 44 (dk_at dksJ17_copyOf_2_0 6 rfl rfl)
theorem dJ17_copyOf_2_9 : decode cJ17_copyOf_2 9 = .ok (.areturn, 1) := dk_176 (dk_at dksJ17_copyOf_2_0 9 rfl rfl)
theorem md_J17_copyOf_2 : xMd yJ17_copyOf_2 cJ17_copyOf_2 2 (Option.some (Jvm.ClassFile.FieldType.array (Jvm.ClassFile.FieldType.object "java/lang/Object"))) 2 := ⟨q1257, q145, by decide, by decide +kernel, by decide +kernel, by decide +kernel⟩
def f_J17_copyOf_2 (p0 : PH) (a0 : Option Nat) (a1 : Int32) : Option (xO × PH) :=
  (xnul a0 none fun b1 =>
  (xgc p0 b1 fun b2 =>
  (xcR (f_J17_copyOf_3 p0 (some b1) a1 (some b2)) fun x4 p3 =>
  (rR x4 p3))))
theorem f_J17_copyOf_2_ok {G : xG} (hO : xOK G) (p0 : PH) (a0 : Option Nat) (a1 : Int32) : CT G 2 yJ17_copyOf_2 cJ17_copyOf_2 2 (Option.some (Jvm.ClassFile.FieldType.array (Jvm.ClassFile.FieldType.object "java/lang/Object"))) [va_rf a0, .int a1] p0 (f_J17_copyOf_2 p0 a0 a1) := by
  refine CT_of hO (by decide +kernel) (by decide +kernel) (lg_slen _ (by simp only [List.map, xcat]; exact Nat.le_of_ble_eq_true rfl)) ?_
  rw [show lv_args 0 [va_rf a0, .int a1] = [(0, va_rf a0), (1, .int a1)] from by simp only [lv_args, xcat] <;> rfl]
  show X G "java/util/Arrays" "copyOf" cJ17_copyOf_2 2 (Option.some (Jvm.ClassFile.FieldType.array (Jvm.ClassFile.FieldType.object "java/lang/Object"))) 2 0 [(0, va_rf a0), (1, .int a1)] [] p0 (f_J17_copyOf_2 p0 a0 a1)
  refine x_aload_n 0 dJ17_copyOf_2_0 rfl rfl (n := 1) rfl ?_
  refine x_iload_n 1 dJ17_copyOf_2_1 rfl rfl (n := 2) rfl ?_
  refine x_aload_n 0 dJ17_copyOf_2_2 rfl rfl (n := 3) rfl ?_
  refine x_sm (fun b1 e => ?_)
  subst e
  -- getClass
  refine x_getC gcs_J17_86 dJ17_copyOf_2_3 (by decide) (Nat.le_of_ble_eq_true rfl) (n := 6) rfl (fun b2 => ?_)
  refine x_callS_R [.ref b1, .int a1, .ref b2] [] (f_J17_copyOf_3_ok hO p0 (some b1) a1 (some b2)) md_J17_copyOf_3 q1296 q1297 dJ17_copyOf_2_6 rfl rfl (by decide) (Nat.le_of_ble_eq_true rfl) (n := 9) rfl (fun x4 p3 => ?_)
  exact x_areturn (x := x4) (Or.inr ⟨_, rfl⟩) dJ17_copyOf_2_9
abbrev cJ3_grow_2 : ByteArray := prog_47_method_6_code
def yJ3_grow_2 : MethodName := ⟨RJ3, "grow", "(I)[Ljava/lang/Object;"⟩
def dkwJ3_grow_2_2 : List UInt8 := [27, 184, 0, 79, 189, 0, 7, 90, 181, 0, 9, 176]
abbrev dktJ3_grow_2_2 : List UInt8 := dkwJ3_grow_2_2 ++ []
def dkwJ3_grow_2_1 : List UInt8 := [28, 4, 122, 184, 0, 73, 62, 42, 42, 180, 0, 9, 29, 184, 0, 66, 90, 181, 0, 9, 176, 42, 16, 10]
abbrev dktJ3_grow_2_1 : List UInt8 := dkwJ3_grow_2_1 ++ dktJ3_grow_2_2
def dkwJ3_grow_2_0 : List UInt8 := [42, 180, 0, 9, 190, 61, 28, 157, 0, 13, 42, 180, 0, 9, 178, 0, 39, 165, 0, 28, 28, 27, 28, 100]
abbrev dktJ3_grow_2_0 : List UInt8 := dkwJ3_grow_2_0 ++ dktJ3_grow_2_1
theorem dksJ3_grow_2_0 : cJ3_grow_2.data.toList.drop 0 = dktJ3_grow_2_0 := by decide +kernel
theorem dksJ3_grow_2_1 : cJ3_grow_2.data.toList.drop 24 = dktJ3_grow_2_1 := dk_seg dksJ3_grow_2_0 24 rfl rfl
theorem dksJ3_grow_2_2 : cJ3_grow_2.data.toList.drop 48 = dktJ3_grow_2_2 := dk_seg dksJ3_grow_2_1 24 rfl rfl
theorem dJ3_grow_2_0 : decode cJ3_grow_2 0 = .ok (.aload_n 0, 1) := dk_42 (dk_at dksJ3_grow_2_0 0 rfl rfl)
theorem dJ3_grow_2_1 : decode cJ3_grow_2 1 = .ok (.getfield 9, 3) := dk_180 0 9 (dk_at dksJ3_grow_2_0 1 rfl rfl)
theorem dJ3_grow_2_4 : decode cJ3_grow_2 4 = .ok (.arraylength, 1) := dk_190 (dk_at dksJ3_grow_2_0 4 rfl rfl)
theorem dJ3_grow_2_5 : decode cJ3_grow_2 5 = .ok (.istore_n 2, 1) := dk_61 (dk_at dksJ3_grow_2_0 5 rfl rfl)
theorem dJ3_grow_2_6 : decode cJ3_grow_2 6 = .ok (.iload_n 2, 1) := dk_28 (dk_at dksJ3_grow_2_0 6 rfl rfl)
theorem dJ3_grow_2_7 : decode cJ3_grow_2 7 = .ok (.ifCond .gt 13, 3) := dk_157 0 13 (dk_at dksJ3_grow_2_0 7 rfl rfl)
theorem dJ3_grow_2_10 : decode cJ3_grow_2 10 = .ok (.aload_n 0, 1) := dk_42 (dk_at dksJ3_grow_2_0 10 rfl rfl)
theorem dJ3_grow_2_11 : decode cJ3_grow_2 11 = .ok (.getfield 9, 3) := dk_180 0 9 (dk_at dksJ3_grow_2_0 11 rfl rfl)
theorem dJ3_grow_2_14 : decode cJ3_grow_2 14 = .ok (.getstatic 39, 3) := dk_178 0 39 (dk_at dksJ3_grow_2_0 14 rfl rfl)
theorem dJ3_grow_2_17 : decode cJ3_grow_2 17 = .ok (.if_acmp .eq 28, 3) := dk_165 0 28 (dk_at dksJ3_grow_2_0 17 rfl rfl)
theorem dJ3_grow_2_20 : decode cJ3_grow_2 20 = .ok (.iload_n 2, 1) := dk_28 (dk_at dksJ3_grow_2_0 20 rfl rfl)
theorem dJ3_grow_2_21 : decode cJ3_grow_2 21 = .ok (.iload_n 1, 1) := dk_27 (dk_at dksJ3_grow_2_0 21 rfl rfl)
theorem dJ3_grow_2_22 : decode cJ3_grow_2 22 = .ok (.iload_n 2, 1) := dk_28 (dk_at dksJ3_grow_2_0 22 rfl rfl)
theorem dJ3_grow_2_23 : decode cJ3_grow_2 23 = .ok (.isub, 1) := dk_100 (dk_at dksJ3_grow_2_0 23 rfl rfl)
theorem dJ3_grow_2_24 : decode cJ3_grow_2 24 = .ok (.iload_n 2, 1) := dk_28 (dk_at dksJ3_grow_2_1 0 rfl rfl)
theorem dJ3_grow_2_25 : decode cJ3_grow_2 25 = .ok (.iconst 1, 1) := dk_4 (dk_at dksJ3_grow_2_1 1 rfl rfl)
theorem dJ3_grow_2_26 : decode cJ3_grow_2 26 = .ok (.ishr, 1) := dk_122 (dk_at dksJ3_grow_2_1 2 rfl rfl)
theorem dJ3_grow_2_27 : decode cJ3_grow_2 27 = .ok (.invokestatic 73, 3) := dk_184 0 73 (dk_at dksJ3_grow_2_1 3 rfl rfl)
theorem dJ3_grow_2_30 : decode cJ3_grow_2 30 = .ok (.istore_n 3, 1) := dk_62 (dk_at dksJ3_grow_2_1 6 rfl rfl)
theorem dJ3_grow_2_31 : decode cJ3_grow_2 31 = .ok (.aload_n 0, 1) := dk_42 (dk_at dksJ3_grow_2_1 7 rfl rfl)
theorem dJ3_grow_2_32 : decode cJ3_grow_2 32 = .ok (.aload_n 0, 1) := dk_42 (dk_at dksJ3_grow_2_1 8 rfl rfl)
theorem dJ3_grow_2_33 : decode cJ3_grow_2 33 = .ok (.getfield 9, 3) := dk_180 0 9 (dk_at dksJ3_grow_2_1 9 rfl rfl)
theorem dJ3_grow_2_36 : decode cJ3_grow_2 36 = .ok (.iload_n 3, 1) := dk_29 (dk_at dksJ3_grow_2_1 12 rfl rfl)
theorem dJ3_grow_2_37 : decode cJ3_grow_2 37 = .ok (.invokestatic 66, 3) := dk_184 0 66 (dk_at dksJ3_grow_2_1 13 rfl rfl)
theorem dJ3_grow_2_40 : decode cJ3_grow_2 40 = .ok (.dup_x1, 1) := dk_90 (dk_at dksJ3_grow_2_1 16 rfl rfl)
theorem dJ3_grow_2_41 : decode cJ3_grow_2 41 = .ok (.putfield 9, 3) := dk_181 0 9 (dk_at dksJ3_grow_2_1 17 rfl rfl)
theorem dJ3_grow_2_44 : decode cJ3_grow_2 44 = .ok (.areturn, 1) := dk_176 (dk_at dksJ3_grow_2_1 20 rfl rfl)
theorem dJ3_grow_2_45 : decode cJ3_grow_2 45 = .ok (.aload_n 0, 1) := dk_42 (dk_at dksJ3_grow_2_1 21 rfl rfl)
theorem dJ3_grow_2_46 : decode cJ3_grow_2 46 = .ok (.bipush 10, 2) := dk_16 10 (dk_at dksJ3_grow_2_1 22 rfl rfl)
theorem dJ3_grow_2_48 : decode cJ3_grow_2 48 = .ok (.iload_n 1, 1) := dk_27 (dk_at dksJ3_grow_2_2 0 rfl rfl)
theorem dJ3_grow_2_49 : decode cJ3_grow_2 49 = .ok (.invokestatic 79, 3) := dk_184 0 79 (dk_at dksJ3_grow_2_2 1 rfl rfl)
theorem dJ3_grow_2_52 : decode cJ3_grow_2 52 = .ok (.anewarray 7, 3) := dk_189 0 7 (dk_at dksJ3_grow_2_2 4 rfl rfl)
theorem dJ3_grow_2_55 : decode cJ3_grow_2 55 = .ok (.dup_x1, 1) := dk_90 (dk_at dksJ3_grow_2_2 7 rfl rfl)
theorem dJ3_grow_2_56 : decode cJ3_grow_2 56 = .ok (.putfield 9, 3) := dk_181 0 9 (dk_at dksJ3_grow_2_2 8 rfl rfl)
theorem dJ3_grow_2_59 : decode cJ3_grow_2 59 = .ok (.areturn, 1) := dk_176 (dk_at dksJ3_grow_2_2 11 rfl rfl)
theorem md_J3_grow_2 : xMd yJ3_grow_2 cJ3_grow_2 4 (Option.some (Jvm.ClassFile.FieldType.array (Jvm.ClassFile.FieldType.object "java/lang/Object"))) 1 := ⟨q1251, q130, by decide, by decide +kernel, by decide +kernel, by decide +kernel⟩
def f_J3_grow_2_20 (a0 : Nat)  (v1 : Int32) (v2 : Int32) (p0 : PH) : Option (xO × PH) :=
  (xcI (f_J16_newLength p0 v2 (v1 - v2) (v2 >>> (1 &&& 31))) fun x5 p4 =>
  (xgR p4 a0 14 1 fun x6 =>
  (xcR (f_J17_copyOf_2 p4 x6 x5) fun x8 p7 =>
  (xpF p7 a0 14 1 (va_rf x8) fun p9 =>
  (rR x8 p9)))))
def f_J3_grow_2 (p0 : PH) (a0 : Nat) (a1 : Int32) : Option (xO × PH) :=
  (xcl1 p0 a0 14 (xgR p0 a0 14 1 fun x1 =>
  (xnul x1 none fun b2 =>
  (xlen p0 b2 fun x3 =>
  (if 0 < x3 then
  (f_J3_grow_2_20 a0 a1 x3 p0) else
  (xgR p0 a0 14 1 fun x10 =>
  (xcon p0 3 fun x11 =>
  (if x10 = x11 then
  (xcI (f_J8_max p0 10 a1) fun x13 p12 =>
  (xnaR p12 4 x13 fun b14 p15 =>
  (xpF p15 a0 14 1 (.ref b14) fun p16 =>
  (rR (some b14) p16)))) else
  (f_J3_grow_2_20 a0 a1 x3 p0)))))))))
theorem rc_J3_grow_2 {p0 : PH} {a0 : Nat} {a1 : Int32} : ∀ z, f_J3_grow_2 p0 a0 a1 = some z → xco p0 a0 = some 14 := fun z h => xcl1_some h
theorem f_J3_grow_2_20_ok {G : xG} (hO : xOK G) (a0 : Nat)  (v1 : Int32) (v2 : Int32) (p0 : PH) : X G "java/util/ArrayList" "grow" cJ3_grow_2 4 (Option.some (Jvm.ClassFile.FieldType.array (Jvm.ClassFile.FieldType.object "java/lang/Object"))) 3 20 [(0, .ref a0), (1, .int v1), (2, .int v2)] [] p0 (f_J3_grow_2_20 a0 v1 v2 p0) := by
  unfold f_J3_grow_2_20
  refine x_iload_n 2 dJ3_grow_2_20 rfl rfl (n := 21) rfl ?_
  refine x_iload_n 1 dJ3_grow_2_21 rfl rfl (n := 22) rfl ?_
  refine x_iload_n 2 dJ3_grow_2_22 rfl rfl (n := 23) rfl ?_
  refine x_isub dJ3_grow_2_23 (n := 24) rfl ?_
  refine x_iload_n 2 dJ3_grow_2_24 rfl rfl (n := 25) rfl ?_
  refine x_iconst 1 dJ3_grow_2_25 rfl (n := 26) rfl ?_
  refine x_ishr dJ3_grow_2_26 (n := 27) rfl ?_
  refine x_callS_I [.int v2, .int (v1 - v2), .int (v2 >>> (1 &&& 31))] [] (f_J16_newLength_ok hO p0 v2 (v1 - v2) (v2 >>> (1 &&& 31))) md_J16_newLength q1254 q619 dJ3_grow_2_27 rfl rfl (by decide) (Nat.le_of_ble_eq_true rfl) (n := 30) rfl (fun x5 p4 => ?_)
  refine x_istore_n [(3, .int x5), (0, .ref a0), (1, .int v1), (2, .int v2)] dJ3_grow_2_30 rfl (by decide) rfl (n := 31) rfl ?_
  refine x_aload_nr 1 dJ3_grow_2_31 rfl rfl (n := 32) rfl ?_
  refine x_aload_nr 1 dJ3_grow_2_32 rfl rfl (n := 33) rfl ?_
  refine x_getR fl_J3_9 dJ3_grow_2_33 (n := 36) rfl (fun x6 => ?_)
  refine x_iload_n 0 dJ3_grow_2_36 rfl rfl (n := 37) rfl ?_
  refine x_callS_R [va_rf x6, .int x5] [.ref a0] (f_J17_copyOf_2_ok hO p4 x6 x5) md_J17_copyOf_2 q1255 q1256 dJ3_grow_2_37 rfl rfl (by decide) (Nat.le_of_ble_eq_true rfl) (n := 40) rfl (fun x8 p7 => ?_)
  refine x_dup_x1 dJ3_grow_2_40 (xcat _) rfl (n := 41) rfl ?_
  refine x_pF (pl_J3_9 _ _ (xfit_a (x8))) dJ3_grow_2_41 (n := 44) rfl (fun p9 => ?_)
  exact x_areturn (x := x8) (Or.inr ⟨_, rfl⟩) dJ3_grow_2_44
theorem f_J3_grow_2_ok {G : xG} (hO : xOK G) (p0 : PH) (a0 : Nat) (a1 : Int32) : CT G 3 yJ3_grow_2 cJ3_grow_2 4 (Option.some (Jvm.ClassFile.FieldType.array (Jvm.ClassFile.FieldType.object "java/lang/Object"))) [.ref a0, .int a1] p0 (f_J3_grow_2 p0 a0 a1) := by
  refine CT_of hO (by decide +kernel) (by decide +kernel) (Nat.le_of_ble_eq_true rfl) ?_
  show X G "java/util/ArrayList" "grow" cJ3_grow_2 4 (Option.some (Jvm.ClassFile.FieldType.array (Jvm.ClassFile.FieldType.object "java/lang/Object"))) 3 0 [(0, .ref a0), (1, .int a1)] [] p0 (f_J3_grow_2 p0 a0 a1)
  refine x_cl1 (fun e0 => ?_)
  refine x_aload_nr 0 dJ3_grow_2_0 rfl rfl (n := 1) rfl ?_
  refine x_getR fl_J3_9 dJ3_grow_2_1 (n := 4) rfl (fun x1 => ?_)
  refine x_sm (fun b2 e => ?_)
  subst e
  refine x_alen dJ3_grow_2_4 (n := 5) rfl (fun x3 => ?_)
  refine x_istore_n [(2, .int x3), (0, .ref a0), (1, .int a1)] dJ3_grow_2_5 rfl (by decide) rfl (n := 6) rfl ?_
  refine x_iload_n 0 dJ3_grow_2_6 rfl rfl (n := 7) rfl ?_
  refine x_if_gt dJ3_grow_2_7 (t := 20) (by decide) (n := 10) rfl (fun _ => ?_) (fun _ => ?_)
  · refine x_sub [1, 2, 0] [(0, .ref a0), (1, .int a1), (2, .int x3)] rfl ?_
    exact f_J3_grow_2_20_ok hO a0 a1 x3 p0
  · refine x_aload_nr 1 dJ3_grow_2_10 rfl rfl (n := 11) rfl ?_
    refine x_getR fl_J3_9 dJ3_grow_2_11 (n := 14) rfl (fun x10 => ?_)
    refine x_getsR (j := 5) (k := 3) rfl rfl (Or.inl q1252) dJ3_grow_2_14 (n := 17) rfl (fun x11 => ?_)
    refine x_acmp_eq (x := x10) (y := x11) dJ3_grow_2_17 (t := 45) (by decide) (n := 20) rfl (fun _ => ?_) (fun _ => ?_)
    · refine x_aload_nr 1 dJ3_grow_2_45 rfl rfl (n := 46) rfl ?_
      refine x_bipush 10 dJ3_grow_2_46 rfl (n := 48) rfl ?_
      refine x_iload_n 2 dJ3_grow_2_48 rfl rfl (n := 49) rfl ?_
      refine x_callS_I [.int 10, .int a1] [.ref a0] (f_J8_max_ok hO p0 10 a1) md_J8_max q1301 q434 dJ3_grow_2_49 rfl rfl (by decide) (Nat.le_of_ble_eq_true rfl) (n := 52) rfl (fun x13 p12 => ?_)
      refine x_anew (t := 4) rfl (by decide) q275 q199 dJ3_grow_2_52 (n := 55) rfl (fun b14 p15 => ?_)
      refine x_dup_x1 dJ3_grow_2_55 rfl rfl (n := 56) rfl ?_
      refine x_pF (pl_J3_9 _ _ (xfit_a (some b14))) dJ3_grow_2_56 (n := 59) rfl (fun p16 => ?_)
      exact x_areturn (x := some b14) (Or.inr ⟨_, rfl⟩) dJ3_grow_2_59
    · refine x_sub [1, 2, 0] [(0, .ref a0), (1, .int a1), (2, .int x3)] rfl ?_
      exact f_J3_grow_2_20_ok hO a0 a1 x3 p0
abbrev cJ3_grow : ByteArray := prog_47_method_7_code
def yJ3_grow : MethodName := ⟨RJ3, "grow", "()[Ljava/lang/Object;"⟩
def dkwJ3_grow_0 : List UInt8 := [42, 42, 180, 0, 48, 4, 96, 182, 0, 69, 176]
abbrev dktJ3_grow_0 : List UInt8 := dkwJ3_grow_0 ++ []
theorem dksJ3_grow_0 : cJ3_grow.data.toList.drop 0 = dktJ3_grow_0 := by decide +kernel
theorem dJ3_grow_0 : decode cJ3_grow 0 = .ok (.aload_n 0, 1) := dk_42 (dk_at dksJ3_grow_0 0 rfl rfl)
theorem dJ3_grow_1 : decode cJ3_grow 1 = .ok (.aload_n 0, 1) := dk_42 (dk_at dksJ3_grow_0 1 rfl rfl)
theorem dJ3_grow_2 : decode cJ3_grow 2 = .ok (.getfield 48, 3) := dk_180 0 48 (dk_at dksJ3_grow_0 2 rfl rfl)
theorem dJ3_grow_5 : decode cJ3_grow 5 = .ok (.iconst 1, 1) := dk_4 (dk_at dksJ3_grow_0 5 rfl rfl)
theorem dJ3_grow_6 : decode cJ3_grow 6 = .ok (.iadd, 1) := dk_96 (dk_at dksJ3_grow_0 6 rfl rfl)
theorem dJ3_grow_7 : decode cJ3_grow 7 = .ok (.invokevirtual 69, 3) := dk_182 0 69 (dk_at dksJ3_grow_0 7 rfl rfl)
theorem dJ3_grow_10 : decode cJ3_grow 10 = .ok (.areturn, 1) := dk_176 (dk_at dksJ3_grow_0 10 rfl rfl)
theorem md_J3_grow : xMd yJ3_grow cJ3_grow 1 (Option.some (Jvm.ClassFile.FieldType.array (Jvm.ClassFile.FieldType.object "java/lang/Object"))) 0 := ⟨q1247, q130, by decide, by decide +kernel, by decide +kernel, by decide +kernel⟩
def f_J3_grow (p0 : PH) (a0 : Nat) : Option (xO × PH) :=
  (xcl1 p0 a0 14 (xgI p0 a0 14 2 fun x1 =>
  (xcR (f_J3_grow_2 p0 a0 (x1 + 1)) fun x3 p2 =>
  (rR x3 p2))))
theorem rc_J3_grow {p0 : PH} {a0 : Nat} : ∀ z, f_J3_grow p0 a0 = some z → xco p0 a0 = some 14 := fun z h => xcl1_some h
theorem f_J3_grow_ok {G : xG} (hO : xOK G) (p0 : PH) (a0 : Nat) : CT G 4 yJ3_grow cJ3_grow 1 (Option.some (Jvm.ClassFile.FieldType.array (Jvm.ClassFile.FieldType.object "java/lang/Object"))) [.ref a0] p0 (f_J3_grow p0 a0) := by
  refine CT_of hO (by decide +kernel) (by decide +kernel) (Nat.le_of_ble_eq_true rfl) ?_
  show X G "java/util/ArrayList" "grow" cJ3_grow 1 (Option.some (Jvm.ClassFile.FieldType.array (Jvm.ClassFile.FieldType.object "java/lang/Object"))) 4 0 [(0, .ref a0)] [] p0 (f_J3_grow p0 a0)
  refine x_cl1 (fun e0 => ?_)
  refine x_aload_nr 0 dJ3_grow_0 rfl rfl (n := 1) rfl ?_
  refine x_aload_nr 0 dJ3_grow_1 rfl rfl (n := 2) rfl ?_
  refine x_getI fl_J3_48 dJ3_grow_2 (n := 5) rfl (fun x1 => ?_)
  refine x_iconst 1 dJ3_grow_5 rfl (n := 6) rfl ?_
  refine x_iadd dJ3_grow_6 (n := 7) rfl ?_
  refine x_callV_R [.int (x1 + 1)] [] (f_J3_grow_2_ok hO p0 a0 (x1 + 1)) rc_J3_grow_2 md_J3_grow_2 rfl q1248 q1250 qs15 dJ3_grow_7 rfl rfl (by decide) (Nat.le_of_ble_eq_true rfl) (n := 10) rfl (fun x3 p2 => ?_)
  exact x_areturn (x := x3) (Or.inr ⟨_, rfl⟩) dJ3_grow_10
abbrev cJ3_add_2 : ByteArray := prog_47_method_24_code
def yJ3_add_2 : MethodName := ⟨RJ3, "add", "(Ljava/lang/Object;[Ljava/lang/Object;I)V"⟩
def dkwJ3_add_2_0 : List UInt8 := [29, 44, 190, 160, 0, 8, 42, 182, 0, 129, 77, 44, 29, 43, 83, 42, 29, 4, 96, 181, 0, 48, 177]
abbrev dktJ3_add_2_0 : List UInt8 := dkwJ3_add_2_0 ++ []
theorem dksJ3_add_2_0 : cJ3_add_2.data.toList.drop 0 = dktJ3_add_2_0 := by decide +kernel
theorem dJ3_add_2_0 : decode cJ3_add_2 0 = .ok (.iload_n 3, 1) := dk_29 (dk_at dksJ3_add_2_0 0 rfl rfl)
theorem dJ3_add_2_1 : decode cJ3_add_2 1 = .ok (.aload_n 2, 1) := dk_44 (dk_at dksJ3_add_2_0 1 rfl rfl)
theorem dJ3_add_2_2 : decode cJ3_add_2 2 = .ok (.arraylength, 1) := dk_190 (dk_at dksJ3_add_2_0 2 rfl rfl)
theorem dJ3_add_2_3 : decode cJ3_add_2 3 = .ok (.if_icmp .ne 8, 3) := dk_160 0 8 (dk_at dksJ3_add_2_0 3 rfl rfl)
theorem dJ3_add_2_6 : decode cJ3_add_2 6 = .ok (.aload_n 0, 1) := dk_42 (dk_at dksJ3_add_2_0 6 rfl rfl)
theorem dJ3_add_2_7 : decode cJ3_add_2 7 = .ok (.invokevirtual 129, 3) := dk_182 0 129 (dk_at dksJ3_add_2_0 7 rfl rfl)
theorem dJ3_add_2_10 : decode cJ3_add_2 10 = .ok (.astore_n 2, 1) := dk_77 (dk_at dksJ3_add_2_0 10 rfl rfl)
theorem dJ3_add_2_11 : decode cJ3_add_2 11 = .ok (.aload_n 2, 1) := dk_44 (dk_at dksJ3_add_2_0 11 rfl rfl)
theorem dJ3_add_2_12 : decode cJ3_add_2 12 = .ok (.iload_n 3, 1) := dk_29 (dk_at dksJ3_add_2_0 12 rfl rfl)
theorem dJ3_add_2_13 : decode cJ3_add_2 13 = .ok (.aload_n 1, 1) := dk_43 (dk_at dksJ3_add_2_0 13 rfl rfl)
theorem dJ3_add_2_14 : decode cJ3_add_2 14 = .ok (.aastore, 1) := dk_83 (dk_at dksJ3_add_2_0 14 rfl rfl)
theorem dJ3_add_2_15 : decode cJ3_add_2 15 = .ok (.aload_n 0, 1) := dk_42 (dk_at dksJ3_add_2_0 15 rfl rfl)
theorem dJ3_add_2_16 : decode cJ3_add_2 16 = .ok (.iload_n 3, 1) := dk_29 (dk_at dksJ3_add_2_0 16 rfl rfl)
theorem dJ3_add_2_17 : decode cJ3_add_2 17 = .ok (.iconst 1, 1) := dk_4 (dk_at dksJ3_add_2_0 17 rfl rfl)
theorem dJ3_add_2_18 : decode cJ3_add_2 18 = .ok (.iadd, 1) := dk_96 (dk_at dksJ3_add_2_0 18 rfl rfl)
theorem dJ3_add_2_19 : decode cJ3_add_2 19 = .ok (.putfield 48, 3) := dk_181 0 48 (dk_at dksJ3_add_2_0 19 rfl rfl)
theorem dJ3_add_2_22 : decode cJ3_add_2 22 = .ok (.return_, 1) := dk_177 (dk_at dksJ3_add_2_0 22 rfl rfl)
theorem md_J3_add_2 : xMd yJ3_add_2 cJ3_add_2 4 (Option.none : Option Jvm.ClassFile.FieldType) 3 := ⟨q1243, q130, by decide, by decide +kernel, by decide +kernel, by decide +kernel⟩
def f_J3_add_2_11 (a0 : Nat)  (v1 : Option Nat) (v2 : Option Nat) (v3 : Int32) (p0 : PH) : Option (xO × PH) :=
  (xnul v2 none fun b3 =>
  (xsR p0 b3 4 v3 (v1) fun p4 =>
  (xpF p4 a0 14 2 (.int (v3 + 1)) fun p5 =>
  (rV p5))))
def f_J3_add_2 (p0 : PH) (a0 : Nat) (a1 : Option Nat) (a2 : Option Nat) (a3 : Int32) : Option (xO × PH) :=
  (xcl1 p0 a0 14 (xnul a2 none fun b1 =>
  (xlen p0 b1 fun x2 =>
  (if a3 = x2 then
  (xcR (f_J3_grow p0 a0 ) fun x7 p6 =>
  (f_J3_add_2_11 a0 a1 x7 a3 p6)) else
  (f_J3_add_2_11 a0 a1 ((some b1)) a3 p0)))))
theorem rc_J3_add_2 {p0 : PH} {a0 : Nat} {a1 : Option Nat} {a2 : Option Nat} {a3 : Int32} : ∀ z, f_J3_add_2 p0 a0 a1 a2 a3 = some z → xco p0 a0 = some 14 := fun z h => xcl1_some h
theorem f_J3_add_2_11_ok {G : xG} (hO : xOK G) (a0 : Nat)  (v1 : Option Nat) (v2 : Option Nat) (v3 : Int32) (p0 : PH) : X G "java/util/ArrayList" "add" cJ3_add_2 4 (Option.none : Option Jvm.ClassFile.FieldType) 5 11 [(0, .ref a0), (1, va_rf v1), (2, va_rf v2), (3, .int v3)] [] p0 (f_J3_add_2_11 a0 v1 v2 v3 p0) := by
  unfold f_J3_add_2_11
  refine x_aload_n 2 dJ3_add_2_11 rfl rfl (n := 12) rfl ?_
  refine x_iload_n 3 dJ3_add_2_12 rfl rfl (n := 13) rfl ?_
  refine x_aload_n 1 dJ3_add_2_13 rfl rfl (n := 14) rfl ?_
  refine x_sm (fun b3 e => ?_)
  subst e
  refine x_aast (t := 4) (x := v1) rfl (by decide) dJ3_add_2_14 (n := 15) rfl (fun p4 => ?_)
  refine x_aload_nr 0 dJ3_add_2_15 rfl rfl (n := 16) rfl ?_
  refine x_iload_n 3 dJ3_add_2_16 rfl rfl (n := 17) rfl ?_
  refine x_iconst 1 dJ3_add_2_17 rfl (n := 18) rfl ?_
  refine x_iadd dJ3_add_2_18 (n := 19) rfl ?_
  refine x_pF (pl_J3_48 _ _ ⟨rfl, rfl⟩) dJ3_add_2_19 (n := 22) rfl (fun p5 => ?_)
  exact x_return dJ3_add_2_22
theorem f_J3_add_2_ok {G : xG} (hO : xOK G) (p0 : PH) (a0 : Nat) (a1 : Option Nat) (a2 : Option Nat) (a3 : Int32) : CT G 5 yJ3_add_2 cJ3_add_2 4 (Option.none : Option Jvm.ClassFile.FieldType) [.ref a0, va_rf a1, va_rf a2, .int a3] p0 (f_J3_add_2 p0 a0 a1 a2 a3) := by
  refine CT_of hO (by decide +kernel) (by decide +kernel) (lg_slen _ (by simp only [List.map, xcat]; exact Nat.le_of_ble_eq_true rfl)) ?_
  rw [show lv_args 0 [.ref a0, va_rf a1, va_rf a2, .int a3] = [(0, .ref a0), (1, va_rf a1), (2, va_rf a2), (3, .int a3)] from by simp only [lv_args, xcat] <;> rfl]
  show X G "java/util/ArrayList" "add" cJ3_add_2 4 (Option.none : Option Jvm.ClassFile.FieldType) 5 0 [(0, .ref a0), (1, va_rf a1), (2, va_rf a2), (3, .int a3)] [] p0 (f_J3_add_2 p0 a0 a1 a2 a3)
  refine x_cl1 (fun e0 => ?_)
  refine x_iload_n 3 dJ3_add_2_0 rfl rfl (n := 1) rfl ?_
  refine x_aload_n 2 dJ3_add_2_1 rfl rfl (n := 2) rfl ?_
  refine x_sm (fun b1 e => ?_)
  subst e
  refine x_alen dJ3_add_2_2 (n := 3) rfl (fun x2 => ?_)
  refine x_icmp_ne dJ3_add_2_3 (t := 11) (by decide) (n := 6) rfl (fun _ => ?_) (fun _ => ?_)
  · exact f_J3_add_2_11_ok hO a0 a1 ((some b1)) a3 p0
  · refine x_aload_nr 0 dJ3_add_2_6 rfl rfl (n := 7) rfl ?_
    refine x_callV_R [] [] (f_J3_grow_ok hO p0 a0 ) rc_J3_grow md_J3_grow rfl q1244 q1246 qs14 dJ3_add_2_7 rfl rfl (by decide) (Nat.le_of_ble_eq_true rfl) (n := 10) rfl (fun x7 p6 => ?_)
    refine x_astore_n [(2, va_rf x7), (0, .ref a0), (1, va_rf a1), (3, .int a3)] dJ3_add_2_10 rfl (by decide) (by simp only [xst, List.filter_cons, List.filter_nil, xcat] <;> rfl) (n := 11) rfl ?_
    refine x_sub [1, 2, 0, 3] [(0, .ref a0), (1, va_rf a1), (2, va_rf x7), (3, .int a3)] rfl ?_
    exact f_J3_add_2_11_ok hO a0 a1 x7 a3 p6
abbrev cJ3_add : ByteArray := prog_47_method_25_code
def yJ3_add : MethodName := ⟨RJ3, "add", "(Ljava/lang/Object;)Z"⟩
def dkwJ3_add_1 : List UInt8 := [172]
abbrev dktJ3_add_1 : List UInt8 := dkwJ3_add_1 ++ []
def dkwJ3_add_0 : List UInt8 := [42, 89, 180, 0, 63, 4, 96, 181, 0, 63, 42, 43, 42, 180, 0, 9, 42, 180, 0, 48, 182, 0, 131, 4]
abbrev dktJ3_add_0 : List UInt8 := dkwJ3_add_0 ++ dktJ3_add_1
theorem dksJ3_add_0 : cJ3_add.data.toList.drop 0 = dktJ3_add_0 := by decide +kernel
theorem dksJ3_add_1 : cJ3_add.data.toList.drop 24 = dktJ3_add_1 := dk_seg dksJ3_add_0 24 rfl rfl
theorem dJ3_add_0 : decode cJ3_add 0 = .ok (.aload_n 0, 1) := dk_42 (dk_at dksJ3_add_0 0 rfl rfl)
theorem dJ3_add_1 : decode cJ3_add 1 = .ok (.dup, 1) := dk_89 (dk_at dksJ3_add_0 1 rfl rfl)
theorem dJ3_add_2 : decode cJ3_add 2 = .ok (.getfield 63, 3) := dk_180 0 63 (dk_at dksJ3_add_0 2 rfl rfl)
theorem dJ3_add_5 : decode cJ3_add 5 = .ok (.iconst 1, 1) := dk_4 (dk_at dksJ3_add_0 5 rfl rfl)
theorem dJ3_add_6 : decode cJ3_add 6 = .ok (.iadd, 1) := dk_96 (dk_at dksJ3_add_0 6 rfl rfl)
theorem dJ3_add_7 : decode cJ3_add 7 = .ok (.putfield 63, 3) := dk_181 0 63 (dk_at dksJ3_add_0 7 rfl rfl)
theorem dJ3_add_10 : decode cJ3_add 10 = .ok (.aload_n 0, 1) := dk_42 (dk_at dksJ3_add_0 10 rfl rfl)
theorem dJ3_add_11 : decode cJ3_add 11 = .ok (.aload_n 1, 1) := dk_43 (dk_at dksJ3_add_0 11 rfl rfl)
theorem dJ3_add_12 : decode cJ3_add 12 = .ok (.aload_n 0, 1) := dk_42 (dk_at dksJ3_add_0 12 rfl rfl)
theorem dJ3_add_13 : decode cJ3_add 13 = .ok (.getfield 9, 3) := dk_180 0 9 (dk_at dksJ3_add_0 13 rfl rfl)
theorem dJ3_add_16 : decode cJ3_add 16 = .ok (.aload_n 0, 1) := dk_42 (dk_at dksJ3_add_0 16 rfl rfl)
theorem dJ3_add_17 : decode cJ3_add 17 = .ok (.getfield 48, 3) := dk_180 0 48 (dk_at dksJ3_add_0 17 rfl rfl)
theorem dJ3_add_20 : decode cJ3_add 20 = .ok (.invokevirtual 131, 3) := dk_182 0 131 (dk_at dksJ3_add_0 20 rfl rfl)
theorem dJ3_add_23 : decode cJ3_add 23 = .ok (.iconst 1, 1) := dk_4 (dk_at dksJ3_add_0 23 rfl rfl)
theorem dJ3_add_24 : decode cJ3_add 24 = .ok (.ireturn, 1) := dk_172 (dk_at dksJ3_add_1 0 rfl rfl)
theorem md_J3_add : xMd yJ3_add cJ3_add 2 (Option.some Jvm.ClassFile.FieldType.boolean) 1 := ⟨q1239, q130, by decide, by decide +kernel, by decide +kernel, by decide +kernel⟩
def f_J3_add (p0 : PH) (a0 : Nat) (a1 : Option Nat) : Option (xO × PH) :=
  (xcl1 p0 a0 14 (xgI p0 a0 14 0 fun x1 =>
  (xpF p0 a0 14 0 (.int (x1 + 1)) fun p2 =>
  (xgR p2 a0 14 1 fun x3 =>
  (xgI p2 a0 14 2 fun x4 =>
  (xcV (f_J3_add_2 p2 a0 a1 x3 x4) fun p5 =>
  (if vp_nar .boolean 1 = 1 then rI 1 p5 else none)))))))
theorem rc_J3_add {p0 : PH} {a0 : Nat} {a1 : Option Nat} : ∀ z, f_J3_add p0 a0 a1 = some z → xco p0 a0 = some 14 := fun z h => xcl1_some h
theorem f_J3_add_ok {G : xG} (hO : xOK G) (p0 : PH) (a0 : Nat) (a1 : Option Nat) : CT G 6 yJ3_add cJ3_add 2 (Option.some Jvm.ClassFile.FieldType.boolean) [.ref a0, va_rf a1] p0 (f_J3_add p0 a0 a1) := by
  refine CT_of hO (by decide +kernel) (by decide +kernel) (lg_slen _ (by simp only [List.map, xcat]; exact Nat.le_of_ble_eq_true rfl)) ?_
  rw [show lv_args 0 [.ref a0, va_rf a1] = [(0, .ref a0), (1, va_rf a1)] from by simp only [lv_args, xcat] <;> rfl]
  show X G "java/util/ArrayList" "add" cJ3_add 2 (Option.some Jvm.ClassFile.FieldType.boolean) 6 0 [(0, .ref a0), (1, va_rf a1)] [] p0 (f_J3_add p0 a0 a1)
  refine x_cl1 (fun e0 => ?_)
  refine x_aload_nr 0 dJ3_add_0 rfl rfl (n := 1) rfl ?_
  refine x_dup dJ3_add_1 rfl (n := 2) rfl ?_
  refine x_getI fl_J3_63 dJ3_add_2 (n := 5) rfl (fun x1 => ?_)
  refine x_iconst 1 dJ3_add_5 rfl (n := 6) rfl ?_
  refine x_iadd dJ3_add_6 (n := 7) rfl ?_
  refine x_pF (pl_J3_63 _ _ ⟨rfl, rfl⟩) dJ3_add_7 (n := 10) rfl (fun p2 => ?_)
  refine x_aload_nr 0 dJ3_add_10 rfl rfl (n := 11) rfl ?_
  refine x_aload_n 1 dJ3_add_11 rfl rfl (n := 12) rfl ?_
  refine x_aload_nr 0 dJ3_add_12 rfl rfl (n := 13) rfl ?_
  refine x_getR fl_J3_9 dJ3_add_13 (n := 16) rfl (fun x3 => ?_)
  refine x_aload_nr 0 dJ3_add_16 rfl rfl (n := 17) rfl ?_
  refine x_getI fl_J3_48 dJ3_add_17 (n := 20) rfl (fun x4 => ?_)
  refine x_callV_V [va_rf a1, va_rf x3, .int x4] [] (f_J3_add_2_ok hO p2 a0 a1 x3 x4) rc_J3_add_2 md_J3_add_2 rfl q1240 q1242 qs13 dJ3_add_20 rfl rfl (by decide) (Nat.le_of_ble_eq_true rfl) (n := 23) rfl (fun p5 => ?_)
  refine x_iconst 1 dJ3_add_23 rfl (n := 24) rfl ?_
  exact x_nreturn rfl dJ3_add_24
abbrev cX3_isSign : ByteArray := prog_10_method_7_code
def yX3_isSign : MethodName := ⟨RX3, "isSign", "(I)Z"⟩
def dkwX3_isSign_1 : List UInt8 := [3, 172]
abbrev dktX3_isSign_1 : List UInt8 := dkwX3_isSign_1 ++ []
def dkwX3_isSign_0 : List UInt8 := [42, 180, 0, 51, 7, 160, 0, 19, 42, 42, 180, 0, 48, 182, 0, 37, 27, 160, 0, 7, 4, 167, 0, 4]
abbrev dktX3_isSign_0 : List UInt8 := dkwX3_isSign_0 ++ dktX3_isSign_1
theorem dksX3_isSign_0 : cX3_isSign.data.toList.drop 0 = dktX3_isSign_0 := by decide +kernel
theorem dksX3_isSign_1 : cX3_isSign.data.toList.drop 24 = dktX3_isSign_1 := dk_seg dksX3_isSign_0 24 rfl rfl
theorem dX3_isSign_0 : decode cX3_isSign 0 = .ok (.aload_n 0, 1) := dk_42 (dk_at dksX3_isSign_0 0 rfl rfl)
theorem dX3_isSign_1 : decode cX3_isSign 1 = .ok (.getfield 51, 3) := dk_180 0 51 (dk_at dksX3_isSign_0 1 rfl rfl)
theorem dX3_isSign_4 : decode cX3_isSign 4 = .ok (.iconst 4, 1) := dk_7 (dk_at dksX3_isSign_0 4 rfl rfl)
theorem dX3_isSign_5 : decode cX3_isSign 5 = .ok (.if_icmp .ne 19, 3) := dk_160 0 19 (dk_at dksX3_isSign_0 5 rfl rfl)
theorem dX3_isSign_8 : decode cX3_isSign 8 = .ok (.aload_n 0, 1) := dk_42 (dk_at dksX3_isSign_0 8 rfl rfl)
theorem dX3_isSign_9 : decode cX3_isSign 9 = .ok (.aload_n 0, 1) := dk_42 (dk_at dksX3_isSign_0 9 rfl rfl)
theorem dX3_isSign_10 : decode cX3_isSign 10 = .ok (.getfield 48, 3) := dk_180 0 48 (dk_at dksX3_isSign_0 10 rfl rfl)
theorem dX3_isSign_13 : decode cX3_isSign 13 = .ok (.invokevirtual 37, 3) := dk_182 0 37 (dk_at dksX3_isSign_0 13 rfl rfl)
theorem dX3_isSign_16 : decode cX3_isSign 16 = .ok (.iload_n 1, 1) := dk_27 (dk_at dksX3_isSign_0 16 rfl rfl)
theorem dX3_isSign_17 : decode cX3_isSign 17 = .ok (.if_icmp .ne 7, 3) := dk_160 0 7 (dk_at dksX3_isSign_0 17 rfl rfl)
theorem dX3_isSign_20 : decode cX3_isSign 20 = .ok (.iconst 1, 1) := dk_4 (dk_at dksX3_isSign_0 20 rfl rfl)
theorem dX3_isSign_21 : decode cX3_isSign 21 = .ok (.goto 4, 3) := dk_167 0 4 (dk_at dksX3_isSign_0 21 rfl rfl)
theorem dX3_isSign_24 : decode cX3_isSign 24 = .ok (.iconst 0, 1) := dk_3 (dk_at dksX3_isSign_1 0 rfl rfl)
theorem dX3_isSign_25 : decode cX3_isSign 25 = .ok (.ireturn, 1) := dk_172 (dk_at dksX3_isSign_1 1 rfl rfl)
theorem md_X3_isSign : xMd yX3_isSign cX3_isSign 2 (Option.some Jvm.ClassFile.FieldType.boolean) 1 := ⟨q1305, q127, by decide, by decide +kernel, by decide +kernel, by decide +kernel⟩
def f_X3_isSign (p0 : PH) (a0 : Nat) (a1 : Int32) : Option (xO × PH) :=
  (xcl1 p0 a0 2 (xgI p0 a0 2 7 fun x1 =>
  (if x1 = 4 then
  (xgI p0 a0 2 6 fun x2 =>
  (xcI (f_X3_byteAt p0 a0 x2) fun x4 p3 =>
  (if x4 = a1 then
  (if vp_nar .boolean 1 = 1 then rI 1 p3 else none) else
  (if vp_nar .boolean 0 = 0 then rI 0 p3 else none)))) else
  (if vp_nar .boolean 0 = 0 then rI 0 p0 else none))))
theorem rc_X3_isSign {p0 : PH} {a0 : Nat} {a1 : Int32} : ∀ z, f_X3_isSign p0 a0 a1 = some z → xco p0 a0 = some 2 := fun z h => xcl1_some h
theorem f_X3_isSign_ok {G : xG} (hO : xOK G) (p0 : PH) (a0 : Nat) (a1 : Int32) : CT G 1 yX3_isSign cX3_isSign 2 (Option.some Jvm.ClassFile.FieldType.boolean) [.ref a0, .int a1] p0 (f_X3_isSign p0 a0 a1) := by
  refine CT_of hO (by decide +kernel) (by decide +kernel) (Nat.le_of_ble_eq_true rfl) ?_
  show X G "ForestLegs$Reader" "isSign" cX3_isSign 2 (Option.some Jvm.ClassFile.FieldType.boolean) 1 0 [(0, .ref a0), (1, .int a1)] [] p0 (f_X3_isSign p0 a0 a1)
  refine x_cl1 (fun e0 => ?_)
  refine x_aload_nr 0 dX3_isSign_0 rfl rfl (n := 1) rfl ?_
  refine x_getI fl_X3_51 dX3_isSign_1 (n := 4) rfl (fun x1 => ?_)
  refine x_iconst 4 dX3_isSign_4 rfl (n := 5) rfl ?_
  refine x_icmp_ne dX3_isSign_5 (t := 24) (by decide) (n := 8) rfl (fun _ => ?_) (fun _ => ?_)
  · refine x_iconst 0 dX3_isSign_24 rfl (n := 25) rfl ?_
    exact x_nreturn rfl dX3_isSign_25
  · refine x_aload_nr 0 dX3_isSign_8 rfl rfl (n := 9) rfl ?_
    refine x_aload_nr 0 dX3_isSign_9 rfl rfl (n := 10) rfl ?_
    refine x_getI fl_X3_48 dX3_isSign_10 (n := 13) rfl (fun x2 => ?_)
    refine x_callV_I [.int x2] [] (f_X3_byteAt_ok hO p0 a0 x2) rc_X3_byteAt md_X3_byteAt rfl q391 q393 qs2 dX3_isSign_13 rfl rfl (by decide) (Nat.le_of_ble_eq_true rfl) (n := 16) rfl (fun x4 p3 => ?_)
    refine x_iload_n 1 dX3_isSign_16 rfl rfl (n := 17) rfl ?_
    refine x_icmp_ne dX3_isSign_17 (t := 24) (by decide) (n := 20) rfl (fun _ => ?_) (fun _ => ?_)
    · refine x_iconst 0 dX3_isSign_24 rfl (n := 25) rfl ?_
      exact x_nreturn rfl dX3_isSign_25
    · refine x_iconst 1 dX3_isSign_20 rfl (n := 21) rfl ?_
      refine x_goto dX3_isSign_21 (n := 25) (by decide) ?_
      exact x_nreturn rfl dX3_isSign_25
abbrev cX7_total : ByteArray := prog_11_method_3_code
def yX7_total : MethodName := ⟨RX7, "total", "()I"⟩
def dkwX7_total_0 : List UInt8 := [42, 180, 0, 32, 42, 180, 0, 29, 100, 172]
abbrev dktX7_total_0 : List UInt8 := dkwX7_total_0 ++ []
theorem dksX7_total_0 : cX7_total.data.toList.drop 0 = dktX7_total_0 := by decide +kernel
theorem dX7_total_0 : decode cX7_total 0 = .ok (.aload_n 0, 1) := dk_42 (dk_at dksX7_total_0 0 rfl rfl)
theorem dX7_total_1 : decode cX7_total 1 = .ok (.getfield 32, 3) := dk_180 0 32 (dk_at dksX7_total_0 1 rfl rfl)
theorem dX7_total_4 : decode cX7_total 4 = .ok (.aload_n 0, 1) := dk_42 (dk_at dksX7_total_0 4 rfl rfl)
theorem dX7_total_5 : decode cX7_total 5 = .ok (.getfield 29, 3) := dk_180 0 29 (dk_at dksX7_total_0 5 rfl rfl)
theorem dX7_total_8 : decode cX7_total 8 = .ok (.isub, 1) := dk_100 (dk_at dksX7_total_0 8 rfl rfl)
theorem dX7_total_9 : decode cX7_total 9 = .ok (.ireturn, 1) := dk_172 (dk_at dksX7_total_0 9 rfl rfl)
theorem md_X7_total : xMd yX7_total cX7_total 1 (Option.some Jvm.ClassFile.FieldType.int) 0 := ⟨q965, q156, by decide, by decide +kernel, by decide +kernel, by decide +kernel⟩
def f_X7_total (p0 : PH) (a0 : Nat) : Option (xO × PH) :=
  (xcl1 p0 a0 6 (xgI p0 a0 6 3 fun x1 =>
  (xgI p0 a0 6 2 fun x2 =>
  (rI (x1 - x2) p0))))
theorem rc_X7_total {p0 : PH} {a0 : Nat} : ∀ z, f_X7_total p0 a0 = some z → xco p0 a0 = some 6 := fun z h => xcl1_some h
theorem f_X7_total_ok {G : xG} (hO : xOK G) (p0 : PH) (a0 : Nat) : CT G 0 yX7_total cX7_total 1 (Option.some Jvm.ClassFile.FieldType.int) [.ref a0] p0 (f_X7_total p0 a0) := by
  refine CT_of hO (by decide +kernel) (by decide +kernel) (Nat.le_of_ble_eq_true rfl) ?_
  show X G "ForestLegs$Runner" "total" cX7_total 1 (Option.some Jvm.ClassFile.FieldType.int) 0 0 [(0, .ref a0)] [] p0 (f_X7_total p0 a0)
  refine x_cl1 (fun e0 => ?_)
  refine x_aload_nr 0 dX7_total_0 rfl rfl (n := 1) rfl ?_
  refine x_getI fl_X7_32 dX7_total_1 (n := 4) rfl (fun x1 => ?_)
  refine x_aload_nr 0 dX7_total_4 rfl rfl (n := 5) rfl ?_
  refine x_getI fl_X7_29 dX7_total_5 (n := 8) rfl (fun x2 => ?_)
  refine x_isub dX7_total_8 (n := 9) rfl ?_
  exact x_ireturn dX7_total_9
abbrev cX10_compare_2 : ByteArray := prog_3_method_2_code
def yX10_compare_2 : MethodName := ⟨RX10, "compare", "(Ljava/lang/Integer;Ljava/lang/Integer;)I"⟩
def dkwX10_compare_2_3 : List UInt8 := [182, 0, 25, 184, 0, 42, 172]
abbrev dktX10_compare_2_3 : List UInt8 := dkwX10_compare_2_3 ++ []
def dkwX10_compare_2_2 : List UInt8 := [192, 0, 37, 182, 0, 39, 184, 0, 42, 62, 29, 153, 0, 7, 29, 167, 0, 14, 43, 182, 0, 25, 44]
abbrev dktX10_compare_2_2 : List UInt8 := dkwX10_compare_2_2 ++ dktX10_compare_2_3
def dkwX10_compare_2_1 : List UInt8 := [182, 0, 39, 42, 180, 0, 1, 180, 0, 13, 180, 0, 19, 44, 182, 0, 25, 185, 0, 31, 2, 0]
abbrev dktX10_compare_2_1 : List UInt8 := dkwX10_compare_2_1 ++ dktX10_compare_2_2
def dkwX10_compare_2_0 : List UInt8 := [42, 180, 0, 1, 180, 0, 13, 180, 0, 19, 43, 182, 0, 25, 185, 0, 31, 2, 0, 192, 0, 37]
abbrev dktX10_compare_2_0 : List UInt8 := dkwX10_compare_2_0 ++ dktX10_compare_2_1
theorem dksX10_compare_2_0 : cX10_compare_2.data.toList.drop 0 = dktX10_compare_2_0 := by decide +kernel
theorem dksX10_compare_2_1 : cX10_compare_2.data.toList.drop 22 = dktX10_compare_2_1 := dk_seg dksX10_compare_2_0 22 rfl rfl
theorem dksX10_compare_2_2 : cX10_compare_2.data.toList.drop 44 = dktX10_compare_2_2 := dk_seg dksX10_compare_2_1 22 rfl rfl
theorem dksX10_compare_2_3 : cX10_compare_2.data.toList.drop 67 = dktX10_compare_2_3 := dk_seg dksX10_compare_2_2 23 rfl rfl
theorem dX10_compare_2_0 : decode cX10_compare_2 0 = .ok (.aload_n 0, 1) := dk_42 (dk_at dksX10_compare_2_0 0 rfl rfl)
theorem dX10_compare_2_1 : decode cX10_compare_2 1 = .ok (.getfield 1, 3) := dk_180 0 1 (dk_at dksX10_compare_2_0 1 rfl rfl)
theorem dX10_compare_2_4 : decode cX10_compare_2 4 = .ok (.getfield 13, 3) := dk_180 0 13 (dk_at dksX10_compare_2_0 4 rfl rfl)
theorem dX10_compare_2_7 : decode cX10_compare_2 7 = .ok (.getfield 19, 3) := dk_180 0 19 (dk_at dksX10_compare_2_0 7 rfl rfl)
theorem dX10_compare_2_10 : decode cX10_compare_2 10 = .ok (.aload_n 1, 1) := dk_43 (dk_at dksX10_compare_2_0 10 rfl rfl)
theorem dX10_compare_2_11 : decode cX10_compare_2 11 = .ok (.invokevirtual 25, 3) := dk_182 0 25 (dk_at dksX10_compare_2_0 11 rfl rfl)
theorem dX10_compare_2_14 : decode cX10_compare_2 14 = .ok (.invokeinterface 31 2, 5) := by decide +kernel
theorem dX10_compare_2_19 : decode cX10_compare_2 19 = .ok (.checkcast 37, 3) := dk_192 0 37 (dk_at dksX10_compare_2_0 19 rfl rfl)
theorem dX10_compare_2_22 : decode cX10_compare_2 22 = .ok (.invokevirtual 39, 3) := dk_182 0 39 (dk_at dksX10_compare_2_1 0 rfl rfl)
theorem dX10_compare_2_25 : decode cX10_compare_2 25 = .ok (.aload_n 0, 1) := dk_42 (dk_at dksX10_compare_2_1 3 rfl rfl)
theorem dX10_compare_2_26 : decode cX10_compare_2 26 = .ok (.getfield 1, 3) := dk_180 0 1 (dk_at dksX10_compare_2_1 4 rfl rfl)
theorem dX10_compare_2_29 : decode cX10_compare_2 29 = .ok (.getfield 13, 3) := dk_180 0 13 (dk_at dksX10_compare_2_1 7 rfl rfl)
theorem dX10_compare_2_32 : decode cX10_compare_2 32 = .ok (.getfield 19, 3) := dk_180 0 19 (dk_at dksX10_compare_2_1 10 rfl rfl)
theorem dX10_compare_2_35 : decode cX10_compare_2 35 = .ok (.aload_n 2, 1) := dk_44 (dk_at dksX10_compare_2_1 13 rfl rfl)
theorem dX10_compare_2_36 : decode cX10_compare_2 36 = .ok (.invokevirtual 25, 3) := dk_182 0 25 (dk_at dksX10_compare_2_1 14 rfl rfl)
theorem dX10_compare_2_39 : decode cX10_compare_2 39 = .ok (.invokeinterface 31 2, 5) := by decide +kernel
theorem dX10_compare_2_44 : decode cX10_compare_2 44 = .ok (.checkcast 37, 3) := dk_192 0 37 (dk_at dksX10_compare_2_2 0 rfl rfl)
theorem dX10_compare_2_47 : decode cX10_compare_2 47 = .ok (.invokevirtual 39, 3) := dk_182 0 39 (dk_at dksX10_compare_2_2 3 rfl rfl)
theorem dX10_compare_2_50 : decode cX10_compare_2 50 = .ok (.invokestatic 42, 3) := dk_184 0 42 (dk_at dksX10_compare_2_2 6 rfl rfl)
theorem dX10_compare_2_53 : decode cX10_compare_2 53 = .ok (.istore_n 3, 1) := dk_62 (dk_at dksX10_compare_2_2 9 rfl rfl)
theorem dX10_compare_2_54 : decode cX10_compare_2 54 = .ok (.iload_n 3, 1) := dk_29 (dk_at dksX10_compare_2_2 10 rfl rfl)
theorem dX10_compare_2_55 : decode cX10_compare_2 55 = .ok (.ifCond .eq 7, 3) := dk_153 0 7 (dk_at dksX10_compare_2_2 11 rfl rfl)
theorem dX10_compare_2_58 : decode cX10_compare_2 58 = .ok (.iload_n 3, 1) := dk_29 (dk_at dksX10_compare_2_2 14 rfl rfl)
theorem dX10_compare_2_59 : decode cX10_compare_2 59 = .ok (.goto 14, 3) := dk_167 0 14 (dk_at dksX10_compare_2_2 15 rfl rfl)
theorem dX10_compare_2_62 : decode cX10_compare_2 62 = .ok (.aload_n 1, 1) := dk_43 (dk_at dksX10_compare_2_2 18 rfl rfl)
theorem dX10_compare_2_63 : decode cX10_compare_2 63 = .ok (.invokevirtual 25, 3) := dk_182 0 25 (dk_at dksX10_compare_2_2 19 rfl rfl)
theorem dX10_compare_2_66 : decode cX10_compare_2 66 = .ok (.aload_n 2, 1) := dk_44 (dk_at dksX10_compare_2_2 22 rfl rfl)
theorem dX10_compare_2_67 : decode cX10_compare_2 67 = .ok (.invokevirtual 25, 3) := dk_182 0 25 (dk_at dksX10_compare_2_3 0 rfl rfl)
theorem dX10_compare_2_70 : decode cX10_compare_2 70 = .ok (.invokestatic 42, 3) := dk_184 0 42 (dk_at dksX10_compare_2_3 3 rfl rfl)
theorem dX10_compare_2_73 : decode cX10_compare_2 73 = .ok (.ireturn, 1) := dk_172 (dk_at dksX10_compare_2_3 6 rfl rfl)
theorem md_X10_compare_2 : xMd yX10_compare_2 cX10_compare_2 4 (Option.some Jvm.ClassFile.FieldType.int) 2 := ⟨q939, q159, by decide, by decide +kernel, by decide +kernel, by decide +kernel⟩
def f_X10_compare_2 (p0 : PH) (a0 : Nat) (a1 : Option Nat) (a2 : Option Nat) : Option (xO × PH) :=
  (xcl1 p0 a0 9 (xgR p0 a0 9 0 fun x1 =>
  (xnul x1 none fun b2 =>
  (xgR p0 b2 0 5 fun x3 =>
  (xnul x3 none fun b4 =>
  (xgR p0 b4 3 1 fun x5 =>
  (xnul a1 none fun b6 =>
  (xcI (f_J19_intValue p0 b6 ) fun x8 p7 =>
  (xnul x5 none fun b9 =>
  (xcR (f_J3_get p7 b9 x8) fun x11 p10 =>
  (xcst p10 (x11) [6]
  (xnul x11 none fun b12 =>
  (xcI (f_X7_total p10 b12 ) fun x14 p13 =>
  (xgR p13 a0 9 0 fun x15 =>
  (xnul x15 none fun b16 =>
  (xgR p13 b16 0 5 fun x17 =>
  (xnul x17 none fun b18 =>
  (xgR p13 b18 3 1 fun x19 =>
  (xnul a2 none fun b20 =>
  (xcI (f_J19_intValue p13 b20 ) fun x22 p21 =>
  (xnul x19 none fun b23 =>
  (xcR (f_J3_get p21 b23 x22) fun x25 p24 =>
  (xcst p24 (x25) [6]
  (xnul x25 none fun b26 =>
  (xcI (f_X7_total p24 b26 ) fun x28 p27 =>
  (xcI (f_J19_compare p27 x14 x28) fun x30 p29 =>
  (if x30 = 0 then
  (xcI (f_J19_intValue p29 b6 ) fun x32 p31 =>
  (xcI (f_J19_intValue p31 b20 ) fun x34 p33 =>
  (xcI (f_J19_compare p33 x32 x34) fun x36 p35 =>
  (rI x36 p35)))) else
  (rI x30 p29))))))))))))))))))))))))))))
theorem rc_X10_compare_2 {p0 : PH} {a0 : Nat} {a1 : Option Nat} {a2 : Option Nat} : ∀ z, f_X10_compare_2 p0 a0 a1 a2 = some z → xco p0 a0 = some 9 := fun z h => xcl1_some h
theorem f_X10_compare_2_ok {G : xG} (hO : xOK G) (p0 : PH) (a0 : Nat) (a1 : Option Nat) (a2 : Option Nat) : CT G 3 yX10_compare_2 cX10_compare_2 4 (Option.some Jvm.ClassFile.FieldType.int) [.ref a0, va_rf a1, va_rf a2] p0 (f_X10_compare_2 p0 a0 a1 a2) := by
  refine CT_of hO (by decide +kernel) (by decide +kernel) (lg_slen _ (by simp only [List.map, xcat]; exact Nat.le_of_ble_eq_true rfl)) ?_
  rw [show lv_args 0 [.ref a0, va_rf a1, va_rf a2] = [(0, .ref a0), (1, va_rf a1), (2, va_rf a2)] from by simp only [lv_args, xcat] <;> rfl]
  show X G "ForestLegs$2" "compare" cX10_compare_2 4 (Option.some Jvm.ClassFile.FieldType.int) 3 0 [(0, .ref a0), (1, va_rf a1), (2, va_rf a2)] [] p0 (f_X10_compare_2 p0 a0 a1 a2)
  refine x_cl1 (fun e0 => ?_)
  refine x_aload_nr 0 dX10_compare_2_0 rfl rfl (n := 1) rfl ?_
  refine x_getR fl_X10_1 dX10_compare_2_1 (n := 4) rfl (fun x1 => ?_)
  refine x_sm (fun b2 e => ?_)
  subst e
  refine x_getR fl_X10_13 dX10_compare_2_4 (n := 7) rfl (fun x3 => ?_)
  refine x_sm (fun b4 e => ?_)
  subst e
  refine x_getR fl_X10_19 dX10_compare_2_7 (n := 10) rfl (fun x5 => ?_)
  refine x_aload_n 1 dX10_compare_2_10 rfl rfl (n := 11) rfl ?_
  refine x_sm (fun b6 e => ?_)
  subst e
  refine x_callV_I [] [va_rf x5] (f_J19_intValue_ok hO p0 b6 ) rc_J19_intValue md_J19_intValue rfl q940 q941 q942 dX10_compare_2_11 rfl rfl (by decide) (by simp only [List.map, xcat]; exact Nat.le_of_ble_eq_true rfl) (n := 14) rfl (fun x8 p7 => ?_)
  refine x_sm (fun b9 e => ?_)
  subst e
  refine x_callF_R [.int x8] [] (f_J3_get_ok hO p7 b9 x8) rc_J3_get md_J3_get rfl q945 fc_java_util_ArrayList_java_util_List_get_1_ILjava dX10_compare_2_14 rfl rfl (by decide) (Nat.le_of_ble_eq_true rfl) (n := 19) rfl (fun x11 p10 => ?_)
  refine x_cast (x := x11) (cs := [6]) q961 cst_ForestLegs_Runner dX10_compare_2_19 (n := 22) rfl ?_
  refine x_sm (fun b12 e => ?_)
  subst e
  refine x_callV_I [] [] (f_X7_total_ok hO p10 b12 ) rc_X7_total md_X7_total rfl q962 q963 q964 dX10_compare_2_22 rfl rfl (by decide) (Nat.le_of_ble_eq_true rfl) (n := 25) rfl (fun x14 p13 => ?_)
  refine x_aload_nr 0 dX10_compare_2_25 rfl rfl (n := 26) rfl ?_
  refine x_getR fl_X10_1 dX10_compare_2_26 (n := 29) rfl (fun x15 => ?_)
  refine x_sm (fun b16 e => ?_)
  subst e
  refine x_getR fl_X10_13 dX10_compare_2_29 (n := 32) rfl (fun x17 => ?_)
  refine x_sm (fun b18 e => ?_)
  subst e
  refine x_getR fl_X10_19 dX10_compare_2_32 (n := 35) rfl (fun x19 => ?_)
  refine x_aload_n 2 dX10_compare_2_35 rfl rfl (n := 36) rfl ?_
  refine x_sm (fun b20 e => ?_)
  subst e
  refine x_callV_I [] [va_rf x19, .int x14] (f_J19_intValue_ok hO p13 b20 ) rc_J19_intValue md_J19_intValue rfl q940 q941 q942 dX10_compare_2_36 rfl rfl (by decide) (by simp only [List.map, xcat]; exact Nat.le_of_ble_eq_true rfl) (n := 39) rfl (fun x22 p21 => ?_)
  refine x_sm (fun b23 e => ?_)
  subst e
  refine x_callF_R [.int x22] [.int x14] (f_J3_get_ok hO p21 b23 x22) rc_J3_get md_J3_get rfl q945 fc_java_util_ArrayList_java_util_List_get_1_ILjava dX10_compare_2_39 rfl rfl (by decide) (Nat.le_of_ble_eq_true rfl) (n := 44) rfl (fun x25 p24 => ?_)
  refine x_cast (x := x25) (cs := [6]) q961 cst_ForestLegs_Runner dX10_compare_2_44 (n := 47) rfl ?_
  refine x_sm (fun b26 e => ?_)
  subst e
  refine x_callV_I [] [.int x14] (f_X7_total_ok hO p24 b26 ) rc_X7_total md_X7_total rfl q962 q963 q964 dX10_compare_2_47 rfl rfl (by decide) (Nat.le_of_ble_eq_true rfl) (n := 50) rfl (fun x28 p27 => ?_)
  refine x_callS_I [.int x14, .int x28] [] (f_J19_compare_ok hO p27 x14 x28) md_J19_compare q966 q927 dX10_compare_2_50 rfl rfl (by decide) (Nat.le_of_ble_eq_true rfl) (n := 53) rfl (fun x30 p29 => ?_)
  refine x_istore_n [(3, .int x30), (0, .ref a0), (1, .ref b6), (2, .ref b20)] dX10_compare_2_53 rfl (by decide) rfl (n := 54) rfl ?_
  refine x_iload_n 0 dX10_compare_2_54 rfl rfl (n := 55) rfl ?_
  refine x_if_eq dX10_compare_2_55 (t := 62) (by decide) (n := 58) rfl (fun _ => ?_) (fun _ => ?_)
  · refine x_aload_nr 2 dX10_compare_2_62 rfl rfl (n := 63) rfl ?_
    refine x_callV_I [] [] (f_J19_intValue_ok hO p29 b6 ) rc_J19_intValue md_J19_intValue rfl q940 q941 q942 dX10_compare_2_63 rfl rfl (by decide) (Nat.le_of_ble_eq_true rfl) (n := 66) rfl (fun x32 p31 => ?_)
    refine x_aload_nr 3 dX10_compare_2_66 rfl rfl (n := 67) rfl ?_
    refine x_callV_I [] [.int x32] (f_J19_intValue_ok hO p31 b20 ) rc_J19_intValue md_J19_intValue rfl q940 q941 q942 dX10_compare_2_67 rfl rfl (by decide) (Nat.le_of_ble_eq_true rfl) (n := 70) rfl (fun x34 p33 => ?_)
    refine x_callS_I [.int x32, .int x34] [] (f_J19_compare_ok hO p33 x32 x34) md_J19_compare q966 q927 dX10_compare_2_70 rfl rfl (by decide) (Nat.le_of_ble_eq_true rfl) (n := 73) rfl (fun x36 p35 => ?_)
    exact x_ireturn dX10_compare_2_73
  · refine x_iload_n 0 dX10_compare_2_58 rfl rfl (n := 59) rfl ?_
    refine x_goto dX10_compare_2_59 (n := 73) (by decide) ?_
    exact x_ireturn dX10_compare_2_73
abbrev cX10_compare : ByteArray := prog_3_method_3_code
def yX10_compare : MethodName := ⟨RX10, "compare", "(Ljava/lang/Object;Ljava/lang/Object;)I"⟩
def dkwX10_compare_0 : List UInt8 := [42, 43, 192, 0, 26, 44, 192, 0, 26, 182, 0, 46, 172]
abbrev dktX10_compare_0 : List UInt8 := dkwX10_compare_0 ++ []
theorem dksX10_compare_0 : cX10_compare.data.toList.drop 0 = dktX10_compare_0 := by decide +kernel
theorem dX10_compare_0 : decode cX10_compare 0 = .ok (.aload_n 0, 1) := dk_42 (dk_at dksX10_compare_0 0 rfl rfl)
theorem dX10_compare_1 : decode cX10_compare 1 = .ok (.aload_n 1, 1) := dk_43 (dk_at dksX10_compare_0 1 rfl rfl)
theorem dX10_compare_2 : decode cX10_compare 2 = .ok (.checkcast 26, 3) := dk_192 0 26 (dk_at dksX10_compare_0 2 rfl rfl)
theorem dX10_compare_5 : decode cX10_compare 5 = .ok (.aload_n 2, 1) := dk_44 (dk_at dksX10_compare_0 5 rfl rfl)
theorem dX10_compare_6 : decode cX10_compare 6 = .ok (.checkcast 26, 3) := dk_192 0 26 (dk_at dksX10_compare_0 6 rfl rfl)
theorem dX10_compare_9 : decode cX10_compare 9 = .ok (.invokevirtual 46, 3) := dk_182 0 46 (dk_at dksX10_compare_0 9 rfl rfl)
theorem dX10_compare_12 : decode cX10_compare 12 = .ok (.ireturn, 1) := dk_172 (dk_at dksX10_compare_0 12 rfl rfl)
theorem md_X10_compare : xMd yX10_compare cX10_compare 3 (Option.some Jvm.ClassFile.FieldType.int) 2 := ⟨q934, q159, by decide, by decide +kernel, by decide +kernel, by decide +kernel⟩
def f_X10_compare (p0 : PH) (a0 : Nat) (a1 : Option Nat) (a2 : Option Nat) : Option (xO × PH) :=
  (xcl1 p0 a0 9 (xcst p0 (a1) [18]
  (xcst p0 (a2) [18]
  (xcI (f_X10_compare_2 p0 a0 a1 a2) fun x2 p1 =>
  (rI x2 p1)))))
theorem rc_X10_compare {p0 : PH} {a0 : Nat} {a1 : Option Nat} {a2 : Option Nat} : ∀ z, f_X10_compare p0 a0 a1 a2 = some z → xco p0 a0 = some 9 := fun z h => xcl1_some h
theorem f_X10_compare_ok {G : xG} (hO : xOK G) (p0 : PH) (a0 : Nat) (a1 : Option Nat) (a2 : Option Nat) : CT G 4 yX10_compare cX10_compare 3 (Option.some Jvm.ClassFile.FieldType.int) [.ref a0, va_rf a1, va_rf a2] p0 (f_X10_compare p0 a0 a1 a2) := by
  refine CT_of hO (by decide +kernel) (by decide +kernel) (lg_slen _ (by simp only [List.map, xcat]; exact Nat.le_of_ble_eq_true rfl)) ?_
  rw [show lv_args 0 [.ref a0, va_rf a1, va_rf a2] = [(0, .ref a0), (1, va_rf a1), (2, va_rf a2)] from by simp only [lv_args, xcat] <;> rfl]
  show X G "ForestLegs$2" "compare" cX10_compare 3 (Option.some Jvm.ClassFile.FieldType.int) 4 0 [(0, .ref a0), (1, va_rf a1), (2, va_rf a2)] [] p0 (f_X10_compare p0 a0 a1 a2)
  refine x_cl1 (fun e0 => ?_)
  refine x_aload_nr 0 dX10_compare_0 rfl rfl (n := 1) rfl ?_
  refine x_aload_n 1 dX10_compare_1 rfl rfl (n := 2) rfl ?_
  refine x_cast (x := a1) (cs := [18]) q935 cst_java_lang_Integer dX10_compare_2 (n := 5) rfl ?_
  refine x_aload_n 2 dX10_compare_5 rfl rfl (n := 6) rfl ?_
  refine x_cast (x := a2) (cs := [18]) q935 cst_java_lang_Integer dX10_compare_6 (n := 9) rfl ?_
  refine x_callV_I [va_rf a1, va_rf a2] [] (f_X10_compare_2_ok hO p0 a0 a1 a2) rc_X10_compare_2 md_X10_compare_2 rfl q936 q937 q938 dX10_compare_9 rfl rfl (by decide) (Nat.le_of_ble_eq_true rfl) (n := 12) rfl (fun x2 p1 => ?_)
  exact x_ireturn dX10_compare_12
abbrev cX13_compare_2 : ByteArray := prog_2_method_2_code
def yX13_compare_2 : MethodName := ⟨RX13, "compare", "(LForestLegs$Stamp;LForestLegs$Stamp;)I"⟩
def dkwX13_compare_2_2 : List UInt8 := [43, 180, 0, 22, 44, 180, 0, 22, 184, 0, 13, 172]
abbrev dktX13_compare_2_2 : List UInt8 := dkwX13_compare_2_2 ++ []
def dkwX13_compare_2_1 : List UInt8 := [180, 0, 19, 44, 180, 0, 19, 159, 0, 17, 43, 180, 0, 19, 44, 180, 0, 19, 184, 0, 13, 167, 0, 14]
abbrev dktX13_compare_2_1 : List UInt8 := dkwX13_compare_2_1 ++ dktX13_compare_2_2
def dkwX13_compare_2_0 : List UInt8 := [43, 180, 0, 7, 44, 180, 0, 7, 159, 0, 15, 43, 180, 0, 7, 44, 180, 0, 7, 184, 0, 13, 172, 43]
abbrev dktX13_compare_2_0 : List UInt8 := dkwX13_compare_2_0 ++ dktX13_compare_2_1
theorem dksX13_compare_2_0 : cX13_compare_2.data.toList.drop 0 = dktX13_compare_2_0 := by decide +kernel
theorem dksX13_compare_2_1 : cX13_compare_2.data.toList.drop 24 = dktX13_compare_2_1 := dk_seg dksX13_compare_2_0 24 rfl rfl
theorem dksX13_compare_2_2 : cX13_compare_2.data.toList.drop 48 = dktX13_compare_2_2 := dk_seg dksX13_compare_2_1 24 rfl rfl
theorem dX13_compare_2_0 : decode cX13_compare_2 0 = .ok (.aload_n 1, 1) := dk_43 (dk_at dksX13_compare_2_0 0 rfl rfl)
theorem dX13_compare_2_1 : decode cX13_compare_2 1 = .ok (.getfield 7, 3) := dk_180 0 7 (dk_at dksX13_compare_2_0 1 rfl rfl)
theorem dX13_compare_2_4 : decode cX13_compare_2 4 = .ok (.aload_n 2, 1) := dk_44 (dk_at dksX13_compare_2_0 4 rfl rfl)
theorem dX13_compare_2_5 : decode cX13_compare_2 5 = .ok (.getfield 7, 3) := dk_180 0 7 (dk_at dksX13_compare_2_0 5 rfl rfl)
theorem dX13_compare_2_8 : decode cX13_compare_2 8 = .ok (.if_icmp .eq 15, 3) := dk_159 0 15 (dk_at dksX13_compare_2_0 8 rfl rfl)
theorem dX13_compare_2_11 : decode cX13_compare_2 11 = .ok (.aload_n 1, 1) := dk_43 (dk_at dksX13_compare_2_0 11 rfl rfl)
theorem dX13_compare_2_12 : decode cX13_compare_2 12 = .ok (.getfield 7, 3) := dk_180 0 7 (dk_at dksX13_compare_2_0 12 rfl rfl)
theorem dX13_compare_2_15 : decode cX13_compare_2 15 = .ok (.aload_n 2, 1) := dk_44 (dk_at dksX13_compare_2_0 15 rfl rfl)
theorem dX13_compare_2_16 : decode cX13_compare_2 16 = .ok (.getfield 7, 3) := dk_180 0 7 (dk_at dksX13_compare_2_0 16 rfl rfl)
theorem dX13_compare_2_19 : decode cX13_compare_2 19 = .ok (.invokestatic 13, 3) := dk_184 0 13 (dk_at dksX13_compare_2_0 19 rfl rfl)
theorem dX13_compare_2_22 : decode cX13_compare_2 22 = .ok (.ireturn, 1) := dk_172 (dk_at dksX13_compare_2_0 22 rfl rfl)
theorem dX13_compare_2_23 : decode cX13_compare_2 23 = .ok (.aload_n 1, 1) := dk_43 (dk_at dksX13_compare_2_0 23 rfl rfl)
theorem dX13_compare_2_24 : decode cX13_compare_2 24 = .ok (.getfield 19, 3) := dk_180 0 19 (dk_at dksX13_compare_2_1 0 rfl rfl)
theorem dX13_compare_2_27 : decode cX13_compare_2 27 = .ok (.aload_n 2, 1) := dk_44 (dk_at dksX13_compare_2_1 3 rfl rfl)
theorem dX13_compare_2_28 : decode cX13_compare_2 28 = .ok (.getfield 19, 3) := dk_180 0 19 (dk_at dksX13_compare_2_1 4 rfl rfl)
theorem dX13_compare_2_31 : decode cX13_compare_2 31 = .ok (.if_icmp .eq 17, 3) := dk_159 0 17 (dk_at dksX13_compare_2_1 7 rfl rfl)
theorem dX13_compare_2_34 : decode cX13_compare_2 34 = .ok (.aload_n 1, 1) := dk_43 (dk_at dksX13_compare_2_1 10 rfl rfl)
theorem dX13_compare_2_35 : decode cX13_compare_2 35 = .ok (.getfield 19, 3) := dk_180 0 19 (dk_at dksX13_compare_2_1 11 rfl rfl)
theorem dX13_compare_2_38 : decode cX13_compare_2 38 = .ok (.aload_n 2, 1) := dk_44 (dk_at dksX13_compare_2_1 14 rfl rfl)
theorem dX13_compare_2_39 : decode cX13_compare_2 39 = .ok (.getfield 19, 3) := dk_180 0 19 (dk_at dksX13_compare_2_1 15 rfl rfl)
theorem dX13_compare_2_42 : decode cX13_compare_2 42 = .ok (.invokestatic 13, 3) := dk_184 0 13 (dk_at dksX13_compare_2_1 18 rfl rfl)
theorem dX13_compare_2_45 : decode cX13_compare_2 45 = .ok (.goto 14, 3) := dk_167 0 14 (dk_at dksX13_compare_2_1 21 rfl rfl)
theorem dX13_compare_2_48 : decode cX13_compare_2 48 = .ok (.aload_n 1, 1) := dk_43 (dk_at dksX13_compare_2_2 0 rfl rfl)
theorem dX13_compare_2_49 : decode cX13_compare_2 49 = .ok (.getfield 22, 3) := dk_180 0 22 (dk_at dksX13_compare_2_2 1 rfl rfl)
theorem dX13_compare_2_52 : decode cX13_compare_2 52 = .ok (.aload_n 2, 1) := dk_44 (dk_at dksX13_compare_2_2 4 rfl rfl)
theorem dX13_compare_2_53 : decode cX13_compare_2 53 = .ok (.getfield 22, 3) := dk_180 0 22 (dk_at dksX13_compare_2_2 5 rfl rfl)
theorem dX13_compare_2_56 : decode cX13_compare_2 56 = .ok (.invokestatic 13, 3) := dk_184 0 13 (dk_at dksX13_compare_2_2 8 rfl rfl)
theorem dX13_compare_2_59 : decode cX13_compare_2 59 = .ok (.ireturn, 1) := dk_172 (dk_at dksX13_compare_2_2 11 rfl rfl)
theorem md_X13_compare_2 : xMd yX13_compare_2 cX13_compare_2 3 (Option.some Jvm.ClassFile.FieldType.int) 2 := ⟨q925, q3488, by decide, by decide +kernel, by decide +kernel, by decide +kernel⟩
def f_X13_compare_2 (p0 : PH) (a0 : Nat) (a1 : Option Nat) (a2 : Option Nat) : Option (xO × PH) :=
  (xcl1 p0 a0 12 (xnul a1 none fun b1 =>
  (xgI p0 b1 11 0 fun x2 =>
  (xnul a2 none fun b3 =>
  (xgI p0 b3 11 0 fun x4 =>
  (if x2 = x4 then
  (xgI p0 b1 11 1 fun x5 =>
  (xgI p0 b3 11 1 fun x6 =>
  (if x5 = x6 then
  (xgI p0 b1 11 2 fun x7 =>
  (xgI p0 b3 11 2 fun x8 =>
  (xcI (f_J19_compare p0 x7 x8) fun x10 p9 =>
  (rI x10 p9)))) else
  (xgI p0 b1 11 1 fun x11 =>
  (xgI p0 b3 11 1 fun x12 =>
  (xcI (f_J19_compare p0 x11 x12) fun x14 p13 =>
  (rI x14 p13))))))) else
  (xgI p0 b1 11 0 fun x15 =>
  (xgI p0 b3 11 0 fun x16 =>
  (xcI (f_J19_compare p0 x15 x16) fun x18 p17 =>
  (rI x18 p17))))))))))
theorem rc_X13_compare_2 {p0 : PH} {a0 : Nat} {a1 : Option Nat} {a2 : Option Nat} : ∀ z, f_X13_compare_2 p0 a0 a1 a2 = some z → xco p0 a0 = some 12 := fun z h => xcl1_some h
theorem f_X13_compare_2_ok {G : xG} (hO : xOK G) (p0 : PH) (a0 : Nat) (a1 : Option Nat) (a2 : Option Nat) : CT G 1 yX13_compare_2 cX13_compare_2 3 (Option.some Jvm.ClassFile.FieldType.int) [.ref a0, va_rf a1, va_rf a2] p0 (f_X13_compare_2 p0 a0 a1 a2) := by
  refine CT_of hO (by decide +kernel) (by decide +kernel) (lg_slen _ (by simp only [List.map, xcat]; exact Nat.le_of_ble_eq_true rfl)) ?_
  rw [show lv_args 0 [.ref a0, va_rf a1, va_rf a2] = [(0, .ref a0), (1, va_rf a1), (2, va_rf a2)] from by simp only [lv_args, xcat] <;> rfl]
  show X G "ForestLegs$1" "compare" cX13_compare_2 3 (Option.some Jvm.ClassFile.FieldType.int) 1 0 [(0, .ref a0), (1, va_rf a1), (2, va_rf a2)] [] p0 (f_X13_compare_2 p0 a0 a1 a2)
  refine x_cl1 (fun e0 => ?_)
  refine x_aload_n 1 dX13_compare_2_0 rfl rfl (n := 1) rfl ?_
  refine x_sm (fun b1 e => ?_)
  subst e
  refine x_getI fl_X13_7 dX13_compare_2_1 (n := 4) rfl (fun x2 => ?_)
  refine x_aload_n 2 dX13_compare_2_4 rfl rfl (n := 5) rfl ?_
  refine x_sm (fun b3 e => ?_)
  subst e
  refine x_getI fl_X13_7 dX13_compare_2_5 (n := 8) rfl (fun x4 => ?_)
  refine x_icmp_eq dX13_compare_2_8 (t := 23) (by decide) (n := 11) rfl (fun _ => ?_) (fun _ => ?_)
  · refine x_aload_nr 1 dX13_compare_2_23 rfl rfl (n := 24) rfl ?_
    refine x_getI fl_X13_19 dX13_compare_2_24 (n := 27) rfl (fun x5 => ?_)
    refine x_aload_nr 2 dX13_compare_2_27 rfl rfl (n := 28) rfl ?_
    refine x_getI fl_X13_19 dX13_compare_2_28 (n := 31) rfl (fun x6 => ?_)
    refine x_icmp_eq dX13_compare_2_31 (t := 48) (by decide) (n := 34) rfl (fun _ => ?_) (fun _ => ?_)
    · refine x_aload_nr 1 dX13_compare_2_48 rfl rfl (n := 49) rfl ?_
      refine x_getI fl_X13_22 dX13_compare_2_49 (n := 52) rfl (fun x7 => ?_)
      refine x_aload_nr 2 dX13_compare_2_52 rfl rfl (n := 53) rfl ?_
      refine x_getI fl_X13_22 dX13_compare_2_53 (n := 56) rfl (fun x8 => ?_)
      refine x_callS_I [.int x7, .int x8] [] (f_J19_compare_ok hO p0 x7 x8) md_J19_compare q926 q927 dX13_compare_2_56 rfl rfl (by decide) (Nat.le_of_ble_eq_true rfl) (n := 59) rfl (fun x10 p9 => ?_)
      exact x_ireturn dX13_compare_2_59
    · refine x_aload_nr 1 dX13_compare_2_34 rfl rfl (n := 35) rfl ?_
      refine x_getI fl_X13_19 dX13_compare_2_35 (n := 38) rfl (fun x11 => ?_)
      refine x_aload_nr 2 dX13_compare_2_38 rfl rfl (n := 39) rfl ?_
      refine x_getI fl_X13_19 dX13_compare_2_39 (n := 42) rfl (fun x12 => ?_)
      refine x_callS_I [.int x11, .int x12] [] (f_J19_compare_ok hO p0 x11 x12) md_J19_compare q926 q927 dX13_compare_2_42 rfl rfl (by decide) (Nat.le_of_ble_eq_true rfl) (n := 45) rfl (fun x14 p13 => ?_)
      refine x_goto dX13_compare_2_45 (n := 59) (by decide) ?_
      exact x_ireturn dX13_compare_2_59
  · refine x_aload_nr 1 dX13_compare_2_11 rfl rfl (n := 12) rfl ?_
    refine x_getI fl_X13_7 dX13_compare_2_12 (n := 15) rfl (fun x15 => ?_)
    refine x_aload_nr 2 dX13_compare_2_15 rfl rfl (n := 16) rfl ?_
    refine x_getI fl_X13_7 dX13_compare_2_16 (n := 19) rfl (fun x16 => ?_)
    refine x_callS_I [.int x15, .int x16] [] (f_J19_compare_ok hO p0 x15 x16) md_J19_compare q926 q927 dX13_compare_2_19 rfl rfl (by decide) (Nat.le_of_ble_eq_true rfl) (n := 22) rfl (fun x18 p17 => ?_)
    exact x_ireturn dX13_compare_2_22
abbrev cX13_compare : ByteArray := prog_2_method_3_code
def yX13_compare : MethodName := ⟨RX13, "compare", "(Ljava/lang/Object;Ljava/lang/Object;)I"⟩
def dkwX13_compare_0 : List UInt8 := [42, 43, 192, 0, 8, 44, 192, 0, 8, 182, 0, 25, 172]
abbrev dktX13_compare_0 : List UInt8 := dkwX13_compare_0 ++ []
theorem dksX13_compare_0 : cX13_compare.data.toList.drop 0 = dktX13_compare_0 := by decide +kernel
theorem dX13_compare_0 : decode cX13_compare 0 = .ok (.aload_n 0, 1) := dk_42 (dk_at dksX13_compare_0 0 rfl rfl)
theorem dX13_compare_1 : decode cX13_compare 1 = .ok (.aload_n 1, 1) := dk_43 (dk_at dksX13_compare_0 1 rfl rfl)
theorem dX13_compare_2 : decode cX13_compare 2 = .ok (.checkcast 8, 3) := dk_192 0 8 (dk_at dksX13_compare_0 2 rfl rfl)
theorem dX13_compare_5 : decode cX13_compare 5 = .ok (.aload_n 2, 1) := dk_44 (dk_at dksX13_compare_0 5 rfl rfl)
theorem dX13_compare_6 : decode cX13_compare 6 = .ok (.checkcast 8, 3) := dk_192 0 8 (dk_at dksX13_compare_0 6 rfl rfl)
theorem dX13_compare_9 : decode cX13_compare 9 = .ok (.invokevirtual 25, 3) := dk_182 0 25 (dk_at dksX13_compare_0 9 rfl rfl)
theorem dX13_compare_12 : decode cX13_compare 12 = .ok (.ireturn, 1) := dk_172 (dk_at dksX13_compare_0 12 rfl rfl)
theorem md_X13_compare : xMd yX13_compare cX13_compare 3 (Option.some Jvm.ClassFile.FieldType.int) 2 := ⟨q920, q3488, by decide, by decide +kernel, by decide +kernel, by decide +kernel⟩
def f_X13_compare (p0 : PH) (a0 : Nat) (a1 : Option Nat) (a2 : Option Nat) : Option (xO × PH) :=
  (xcl1 p0 a0 12 (xcst p0 (a1) [11]
  (xcst p0 (a2) [11]
  (xcI (f_X13_compare_2 p0 a0 a1 a2) fun x2 p1 =>
  (rI x2 p1)))))
theorem rc_X13_compare {p0 : PH} {a0 : Nat} {a1 : Option Nat} {a2 : Option Nat} : ∀ z, f_X13_compare p0 a0 a1 a2 = some z → xco p0 a0 = some 12 := fun z h => xcl1_some h
theorem f_X13_compare_ok {G : xG} (hO : xOK G) (p0 : PH) (a0 : Nat) (a1 : Option Nat) (a2 : Option Nat) : CT G 2 yX13_compare cX13_compare 3 (Option.some Jvm.ClassFile.FieldType.int) [.ref a0, va_rf a1, va_rf a2] p0 (f_X13_compare p0 a0 a1 a2) := by
  refine CT_of hO (by decide +kernel) (by decide +kernel) (lg_slen _ (by simp only [List.map, xcat]; exact Nat.le_of_ble_eq_true rfl)) ?_
  rw [show lv_args 0 [.ref a0, va_rf a1, va_rf a2] = [(0, .ref a0), (1, va_rf a1), (2, va_rf a2)] from by simp only [lv_args, xcat] <;> rfl]
  show X G "ForestLegs$1" "compare" cX13_compare 3 (Option.some Jvm.ClassFile.FieldType.int) 2 0 [(0, .ref a0), (1, va_rf a1), (2, va_rf a2)] [] p0 (f_X13_compare p0 a0 a1 a2)
  refine x_cl1 (fun e0 => ?_)
  refine x_aload_nr 0 dX13_compare_0 rfl rfl (n := 1) rfl ?_
  refine x_aload_n 1 dX13_compare_1 rfl rfl (n := 2) rfl ?_
  refine x_cast (x := a1) (cs := [11]) q921 cst_ForestLegs_Stamp dX13_compare_2 (n := 5) rfl ?_
  refine x_aload_n 2 dX13_compare_5 rfl rfl (n := 6) rfl ?_
  refine x_cast (x := a2) (cs := [11]) q921 cst_ForestLegs_Stamp dX13_compare_6 (n := 9) rfl ?_
  refine x_callV_I [va_rf a1, va_rf a2] [] (f_X13_compare_2_ok hO p0 a0 a1 a2) rc_X13_compare_2 md_X13_compare_2 rfl q922 q923 q924 dX13_compare_9 rfl rfl (by decide) (Nat.le_of_ble_eq_true rfl) (n := 12) rfl (fun x2 p1 => ?_)
  exact x_ireturn dX13_compare_12
abbrev cJ5_compare : ByteArray := prog_77_method_67_code
def yJ5_compare : MethodName := ⟨RJ5, "compare", "(Ljava/lang/Object;Ljava/lang/Object;)I"⟩
def dkwJ5_compare_1 : List UInt8 := [43, 44, 185, 0, 117, 3, 0, 172]
abbrev dktJ5_compare_1 : List UInt8 := dkwJ5_compare_1 ++ []
def dkwJ5_compare_0 : List UInt8 := [42, 180, 0, 16, 199, 0, 16, 43, 192, 0, 99, 44, 185, 0, 107, 2, 0, 167, 0, 14, 42, 180, 0, 16]
abbrev dktJ5_compare_0 : List UInt8 := dkwJ5_compare_0 ++ dktJ5_compare_1
theorem dksJ5_compare_0 : cJ5_compare.data.toList.drop 0 = dktJ5_compare_0 := by decide +kernel
theorem dksJ5_compare_1 : cJ5_compare.data.toList.drop 24 = dktJ5_compare_1 := dk_seg dksJ5_compare_0 24 rfl rfl
theorem dJ5_compare_0 : decode cJ5_compare 0 = .ok (.aload_n 0, 1) := dk_42 (dk_at dksJ5_compare_0 0 rfl rfl)
theorem dJ5_compare_1 : decode cJ5_compare 1 = .ok (.getfield 16, 3) := dk_180 0 16 (dk_at dksJ5_compare_0 1 rfl rfl)
theorem dJ5_compare_4 : decode cJ5_compare 4 = .ok (.ifnonnull 16, 3) := dk_199 0 16 (dk_at dksJ5_compare_0 4 rfl rfl)
theorem dJ5_compare_7 : decode cJ5_compare 7 = .ok (.aload_n 1, 1) := dk_43 (dk_at dksJ5_compare_0 7 rfl rfl)
theorem dJ5_compare_8 : decode cJ5_compare 8 = .ok (.checkcast 99, 3) := dk_192 0 99 (dk_at dksJ5_compare_0 8 rfl rfl)
theorem dJ5_compare_11 : decode cJ5_compare 11 = .ok (.aload_n 2, 1) := dk_44 (dk_at dksJ5_compare_0 11 rfl rfl)
theorem dJ5_compare_12 : decode cJ5_compare 12 = .ok (.invokeinterface 107 2, 5) := by decide +kernel
theorem dJ5_compare_17 : decode cJ5_compare 17 = .ok (.goto 14, 3) := dk_167 0 14 (dk_at dksJ5_compare_0 17 rfl rfl)
theorem dJ5_compare_20 : decode cJ5_compare 20 = .ok (.aload_n 0, 1) := dk_42 (dk_at dksJ5_compare_0 20 rfl rfl)
theorem dJ5_compare_21 : decode cJ5_compare 21 = .ok (.getfield 16, 3) := dk_180 0 16 (dk_at dksJ5_compare_0 21 rfl rfl)
theorem dJ5_compare_24 : decode cJ5_compare 24 = .ok (.aload_n 1, 1) := dk_43 (dk_at dksJ5_compare_1 0 rfl rfl)
theorem dJ5_compare_25 : decode cJ5_compare 25 = .ok (.aload_n 2, 1) := dk_44 (dk_at dksJ5_compare_1 1 rfl rfl)
theorem dJ5_compare_26 : decode cJ5_compare 26 = .ok (.invokeinterface 117 3, 5) := by decide +kernel
theorem dJ5_compare_31 : decode cJ5_compare 31 = .ok (.ireturn, 1) := dk_172 (dk_at dksJ5_compare_1 7 rfl rfl)
theorem md_J5_compare : xMd yJ5_compare cJ5_compare 3 (Option.some Jvm.ClassFile.FieldType.int) 2 := ⟨q1321, q132, by decide, by decide +kernel, by decide +kernel, by decide +kernel⟩
def f_J5_compare (p0 : PH) (a0 : Nat) (a1 : Option Nat) (a2 : Option Nat) : Option (xO × PH) :=
  (xcl1 p0 a0 15 (xgR p0 a0 15 2 fun x1 =>
  (xnul x1 (xcst p0 (a1) [16, 18, 10]
  (xnul a1 none fun b3 =>
  (xsw p0 b3 fun c5 =>
  (if c5 = 10 then
  (xcI (f_X11_compareTo p0 b3 a2) fun x8 p7 =>
  (rI x8 p7)) else
  (if c5 = 16 then
  (xcI (f_J6_compareTo p0 b3 a2) fun x10 p9 =>
  (rI x10 p9)) else
  (if c5 = 18 then
  (xcI (f_J19_compareTo p0 b3 a2) fun x12 p11 =>
  (rI x12 p11)) else
  none)))))) fun b2 =>
  (xgR p0 a0 15 2 fun x13 =>
  (xnul x13 none fun b14 =>
  (xsw p0 b14 fun c16 =>
  (if c16 = 9 then
  (xcI (f_X10_compare p0 b14 a1 a2) fun x19 p18 =>
  (rI x19 p18)) else
  (if c16 = 12 then
  (xcI (f_X13_compare p0 b14 a1 a2) fun x21 p20 =>
  (rI x21 p20)) else
  none))))))))
theorem rc_J5_compare {p0 : PH} {a0 : Nat} {a1 : Option Nat} {a2 : Option Nat} : ∀ z, f_J5_compare p0 a0 a1 a2 = some z → xco p0 a0 = some 15 := fun z h => xcl1_some h
theorem f_J5_compare_ok {G : xG} (hO : xOK G) (p0 : PH) (a0 : Nat) (a1 : Option Nat) (a2 : Option Nat) : CT G 5 yJ5_compare cJ5_compare 3 (Option.some Jvm.ClassFile.FieldType.int) [.ref a0, va_rf a1, va_rf a2] p0 (f_J5_compare p0 a0 a1 a2) := by
  refine CT_of hO (by decide +kernel) (by decide +kernel) (lg_slen _ (by simp only [List.map, xcat]; exact Nat.le_of_ble_eq_true rfl)) ?_
  rw [show lv_args 0 [.ref a0, va_rf a1, va_rf a2] = [(0, .ref a0), (1, va_rf a1), (2, va_rf a2)] from by simp only [lv_args, xcat] <;> rfl]
  show X G "java/util/TreeMap" "compare" cJ5_compare 3 (Option.some Jvm.ClassFile.FieldType.int) 5 0 [(0, .ref a0), (1, va_rf a1), (2, va_rf a2)] [] p0 (f_J5_compare p0 a0 a1 a2)
  refine x_cl1 (fun e0 => ?_)
  refine x_aload_nr 0 dJ5_compare_0 rfl rfl (n := 1) rfl ?_
  refine x_getR fl_J5_16 dJ5_compare_1 (n := 4) rfl (fun x1 => ?_)
  refine x_ifnonnull dJ5_compare_4 (t := 20) (by decide) (n := 7) rfl (fun e => ?_) (fun b2 e => ?_)
  · subst e
    refine x_aload_n 1 dJ5_compare_7 rfl rfl (n := 8) rfl ?_
    refine x_cast (x := a1) (cs := [16, 18, 10]) q970 cst_java_lang_Comparable dJ5_compare_8 (n := 11) rfl ?_
    refine x_aload_n 2 dJ5_compare_11 rfl rfl (n := 12) rfl ?_
    refine x_sm (fun b3 e => ?_)
    subst e
    refine x_sw (fun c5 e => ?_)
    refine x_ite (fun h => ?_) (fun _ => ?_)
    · subst h
      refine x_callF_I [va_rf a2] [] (f_X11_compareTo_ok hO p0 b3 a2) rc_X11_compareTo md_X11_compareTo rfl q972 fc_ForestLegs_Part_java_lang_Comparable_compareTo_1_Ljaval dJ5_compare_12 rfl rfl (by decide) (Nat.le_of_ble_eq_true rfl) (n := 17) rfl (fun x8 p7 => ?_)
      refine x_goto dJ5_compare_17 (n := 31) (by decide) ?_
      exact x_ireturn dJ5_compare_31
    refine x_ite (fun h => ?_) (fun _ => ?_)
    · subst h
      refine x_callF_I [va_rf a2] [] (f_J6_compareTo_ok hO p0 b3 a2) rc_J6_compareTo md_J6_compareTo rfl q972 fc_java_lang_String_java_lang_Comparable_compareTo_1_Ljaval dJ5_compare_12 rfl rfl (by decide) (Nat.le_of_ble_eq_true rfl) (n := 17) rfl (fun x10 p9 => ?_)
      refine x_goto dJ5_compare_17 (n := 31) (by decide) ?_
      exact x_ireturn dJ5_compare_31
    refine x_ite (fun h => ?_) (fun _ => ?_)
    · subst h
      refine x_callF_I [va_rf a2] [] (f_J19_compareTo_ok hO p0 b3 a2) rc_J19_compareTo md_J19_compareTo rfl q972 fc_java_lang_Integer_java_lang_Comparable_compareTo_1_Ljaval dJ5_compare_12 rfl rfl (by decide) (Nat.le_of_ble_eq_true rfl) (n := 17) rfl (fun x12 p11 => ?_)
      refine x_goto dJ5_compare_17 (n := 31) (by decide) ?_
      exact x_ireturn dJ5_compare_31
    exact x_no
  · subst e
    refine x_aload_nr 0 dJ5_compare_20 rfl rfl (n := 21) rfl ?_
    refine x_getR fl_J5_16 dJ5_compare_21 (n := 24) rfl (fun x13 => ?_)
    refine x_aload_n 1 dJ5_compare_24 rfl rfl (n := 25) rfl ?_
    refine x_aload_n 2 dJ5_compare_25 rfl rfl (n := 26) rfl ?_
    refine x_sm (fun b14 e => ?_)
    subst e
    refine x_sw (fun c16 e => ?_)
    refine x_ite (fun h => ?_) (fun _ => ?_)
    · subst h
      refine x_callF_I [va_rf a1, va_rf a2] [] (f_X10_compare_ok hO p0 b14 a1 a2) rc_X10_compare md_X10_compare rfl q912 fc_ForestLegs_2_java_util_Comparator_compare_2_Ljaval dJ5_compare_26 rfl rfl (by decide) (Nat.le_of_ble_eq_true rfl) (n := 31) rfl (fun x19 p18 => ?_)
      exact x_ireturn dJ5_compare_31
    refine x_ite (fun h => ?_) (fun _ => ?_)
    · subst h
      refine x_callF_I [va_rf a1, va_rf a2] [] (f_X13_compare_ok hO p0 b14 a1 a2) rc_X13_compare md_X13_compare rfl q912 fc_ForestLegs_1_java_util_Comparator_compare_2_Ljaval dJ5_compare_26 rfl rfl (by decide) (Nat.le_of_ble_eq_true rfl) (n := 31) rfl (fun x21 p20 => ?_)
      exact x_ireturn dJ5_compare_31
    exact x_no
abbrev cJ23_init : ByteArray := prog_78_method_1_code
def yJ23_init : MethodName := ⟨RJ23, "<init>", "(Ljava/lang/Object;Ljava/lang/Object;Ljava/util/TreeMap$Entry;)V"⟩
def dkwJ23_init_1 : List UInt8 := [177]
abbrev dktJ23_init_1 : List UInt8 := dkwJ23_init_1 ++ []
def dkwJ23_init_0 : List UInt8 := [42, 183, 0, 3, 42, 4, 181, 0, 9, 42, 43, 181, 0, 15, 42, 44, 181, 0, 19, 42, 45, 181, 0, 22]
abbrev dktJ23_init_0 : List UInt8 := dkwJ23_init_0 ++ dktJ23_init_1
theorem dksJ23_init_0 : cJ23_init.data.toList.drop 0 = dktJ23_init_0 := by decide +kernel
theorem dksJ23_init_1 : cJ23_init.data.toList.drop 24 = dktJ23_init_1 := dk_seg dksJ23_init_0 24 rfl rfl
theorem dJ23_init_0 : decode cJ23_init 0 = .ok (.aload_n 0, 1) := dk_42 (dk_at dksJ23_init_0 0 rfl rfl)
theorem dJ23_init_1 : decode cJ23_init 1 = .ok (.invokespecial 3, 3) := dk_183 0 3 (dk_at dksJ23_init_0 1 rfl rfl)
theorem dJ23_init_4 : decode cJ23_init 4 = .ok (.aload_n 0, 1) := dk_42 (dk_at dksJ23_init_0 4 rfl rfl)
theorem dJ23_init_5 : decode cJ23_init 5 = .ok (.iconst 1, 1) := dk_4 (dk_at dksJ23_init_0 5 rfl rfl)
theorem dJ23_init_6 : decode cJ23_init 6 = .ok (.putfield 9, 3) := dk_181 0 9 (dk_at dksJ23_init_0 6 rfl rfl)
theorem dJ23_init_9 : decode cJ23_init 9 = .ok (.aload_n 0, 1) := dk_42 (dk_at dksJ23_init_0 9 rfl rfl)
theorem dJ23_init_10 : decode cJ23_init 10 = .ok (.aload_n 1, 1) := dk_43 (dk_at dksJ23_init_0 10 rfl rfl)
theorem dJ23_init_11 : decode cJ23_init 11 = .ok (.putfield 15, 3) := dk_181 0 15 (dk_at dksJ23_init_0 11 rfl rfl)
theorem dJ23_init_14 : decode cJ23_init 14 = .ok (.aload_n 0, 1) := dk_42 (dk_at dksJ23_init_0 14 rfl rfl)
theorem dJ23_init_15 : decode cJ23_init 15 = .ok (.aload_n 2, 1) := dk_44 (dk_at dksJ23_init_0 15 rfl rfl)
theorem dJ23_init_16 : decode cJ23_init 16 = .ok (.putfield 19, 3) := dk_181 0 19 (dk_at dksJ23_init_0 16 rfl rfl)
theorem dJ23_init_19 : decode cJ23_init 19 = .ok (.aload_n 0, 1) := dk_42 (dk_at dksJ23_init_0 19 rfl rfl)
theorem dJ23_init_20 : decode cJ23_init 20 = .ok (.aload_n 3, 1) := dk_45 (dk_at dksJ23_init_0 20 rfl rfl)
theorem dJ23_init_21 : decode cJ23_init 21 = .ok (.putfield 22, 3) := dk_181 0 22 (dk_at dksJ23_init_0 21 rfl rfl)
theorem dJ23_init_24 : decode cJ23_init 24 = .ok (.return_, 1) := dk_177 (dk_at dksJ23_init_1 0 rfl rfl)
theorem md_J23_init : xMd yJ23_init cJ23_init 4 (Option.none : Option Jvm.ClassFile.FieldType) 3 := ⟨q1326, q155, by decide, by decide +kernel, by decide +kernel, by decide +kernel⟩
def f_J23_init (p0 : PH) (a0 : Nat) (a1 : Option Nat) (a2 : Option Nat) (a3 : Option Nat) : Option (xO × PH) :=
  (xpF p0 a0 19 5 (.int 1) fun p1 =>
  (xpF p1 a0 19 0 (va_rf a1) fun p2 =>
  (xpF p2 a0 19 1 (va_rf a2) fun p3 =>
  (xpF p3 a0 19 4 (va_rf a3) fun p4 =>
  (rV p4)))))
theorem f_J23_init_ok {G : xG} (hO : xOK G) (p0 : PH) (a0 : Nat) (a1 : Option Nat) (a2 : Option Nat) (a3 : Option Nat) : CT G 1 yJ23_init cJ23_init 4 (Option.none : Option Jvm.ClassFile.FieldType) [.ref a0, va_rf a1, va_rf a2, va_rf a3] p0 (f_J23_init p0 a0 a1 a2 a3) := by
  refine CT_of hO (by decide +kernel) (by decide +kernel) (lg_slen _ (by simp only [List.map, xcat]; exact Nat.le_of_ble_eq_true rfl)) ?_
  rw [show lv_args 0 [.ref a0, va_rf a1, va_rf a2, va_rf a3] = [(0, .ref a0), (1, va_rf a1), (2, va_rf a2), (3, va_rf a3)] from by simp only [lv_args, xcat] <;> rfl]
  show X G "java/util/TreeMap$Entry" "<init>" cJ23_init 4 (Option.none : Option Jvm.ClassFile.FieldType) 1 0 [(0, .ref a0), (1, va_rf a1), (2, va_rf a2), (3, va_rf a3)] [] p0 (f_J23_init p0 a0 a1 a2 a3)
  refine x_aload_nr 0 dJ23_init_0 rfl rfl (n := 1) rfl ?_
  refine x_objInit q1327 q186 q187 dJ23_init_1 (by decide) (Nat.le_of_ble_eq_true rfl) (n := 4) rfl ?_
  refine x_aload_nr 0 dJ23_init_4 rfl rfl (n := 5) rfl ?_
  refine x_iconst 1 dJ23_init_5 rfl (n := 6) rfl ?_
  refine x_pF (pl_J23_9 _ _ ⟨rfl, rfl⟩) dJ23_init_6 (n := 9) rfl (fun p1 => ?_)
  refine x_aload_nr 0 dJ23_init_9 rfl rfl (n := 10) rfl ?_
  refine x_aload_n 1 dJ23_init_10 rfl rfl (n := 11) rfl ?_
  refine x_pF (pl_J23_15 _ _ (xfit_o (a1))) dJ23_init_11 (n := 14) rfl (fun p2 => ?_)
  refine x_aload_nr 0 dJ23_init_14 rfl rfl (n := 15) rfl ?_
  refine x_aload_n 2 dJ23_init_15 rfl rfl (n := 16) rfl ?_
  refine x_pF (pl_J23_19 _ _ (xfit_o (a2))) dJ23_init_16 (n := 19) rfl (fun p3 => ?_)
  refine x_aload_nr 0 dJ23_init_19 rfl rfl (n := 20) rfl ?_
  refine x_aload_n 3 dJ23_init_20 rfl rfl (n := 21) rfl ?_
  refine x_pF (pl_J23_22 _ _ (xfit_o (a3))) dJ23_init_21 (n := 24) rfl (fun p4 => ?_)
  exact x_return dJ23_init_24
abbrev cJ5_addEntryToEmptyMap : ByteArray := prog_77_method_30_code
def yJ5_addEntryToEmptyMap : MethodName := ⟨RJ5, "addEntryToEmptyMap", "(Ljava/lang/Object;Ljava/lang/Object;)V"⟩
def dkwJ5_addEntryToEmptyMap_1 : List UInt8 := [181, 0, 7, 42, 89, 180, 0, 13, 4, 96, 181, 0, 13, 177]
abbrev dktJ5_addEntryToEmptyMap_1 : List UInt8 := dkwJ5_addEntryToEmptyMap_1 ++ []
def dkwJ5_addEntryToEmptyMap_0 : List UInt8 := [42, 43, 43, 182, 0, 123, 87, 42, 187, 0, 59, 89, 43, 44, 1, 183, 0, 167, 181, 0, 101, 42, 4]
abbrev dktJ5_addEntryToEmptyMap_0 : List UInt8 := dkwJ5_addEntryToEmptyMap_0 ++ dktJ5_addEntryToEmptyMap_1
theorem dksJ5_addEntryToEmptyMap_0 : cJ5_addEntryToEmptyMap.data.toList.drop 0 = dktJ5_addEntryToEmptyMap_0 := by decide +kernel
theorem dksJ5_addEntryToEmptyMap_1 : cJ5_addEntryToEmptyMap.data.toList.drop 23 = dktJ5_addEntryToEmptyMap_1 := dk_seg dksJ5_addEntryToEmptyMap_0 23 rfl rfl
theorem dJ5_addEntryToEmptyMap_0 : decode cJ5_addEntryToEmptyMap 0 = .ok (.aload_n 0, 1) := dk_42 (dk_at dksJ5_addEntryToEmptyMap_0 0 rfl rfl)
theorem dJ5_addEntryToEmptyMap_1 : decode cJ5_addEntryToEmptyMap 1 = .ok (.aload_n 1, 1) := dk_43 (dk_at dksJ5_addEntryToEmptyMap_0 1 rfl rfl)
theorem dJ5_addEntryToEmptyMap_2 : decode cJ5_addEntryToEmptyMap 2 = .ok (.aload_n 1, 1) := dk_43 (dk_at dksJ5_addEntryToEmptyMap_0 2 rfl rfl)
theorem dJ5_addEntryToEmptyMap_3 : decode cJ5_addEntryToEmptyMap 3 = .ok (.invokevirtual 123, 3) := dk_182 0 123 (dk_at dksJ5_addEntryToEmptyMap_0 3 rfl rfl)
theorem dJ5_addEntryToEmptyMap_6 : decode cJ5_addEntryToEmptyMap 6 = .ok (.pop, 1) := dk_87 (dk_at dksJ5_addEntryToEmptyMap_0 6 rfl rfl)
theorem dJ5_addEntryToEmptyMap_7 : decode cJ5_addEntryToEmptyMap 7 = .ok (.aload_n 0, 1) := dk_42 (dk_at dksJ5_addEntryToEmptyMap_0 7 rfl rfl)
theorem dJ5_addEntryToEmptyMap_8 : decode cJ5_addEntryToEmptyMap 8 = .ok (.new 59, 3) := dk_187 0 59 (dk_at dksJ5_addEntryToEmptyMap_0 8 rfl rfl)
theorem dJ5_addEntryToEmptyMap_11 : decode cJ5_addEntryToEmptyMap 11 = .ok (.dup, 1) := dk_89 (dk_at dksJ5_addEntryToEmptyMap_0 11 rfl rfl)
theorem dJ5_addEntryToEmptyMap_12 : decode cJ5_addEntryToEmptyMap 12 = .ok (.aload_n 1, 1) := dk_43 (dk_at dksJ5_addEntryToEmptyMap_0 12 rfl rfl)
theorem dJ5_addEntryToEmptyMap_13 : decode cJ5_addEntryToEmptyMap 13 = .ok (.aload_n 2, 1) := dk_44 (dk_at dksJ5_addEntryToEmptyMap_0 13 rfl rfl)
theorem dJ5_addEntryToEmptyMap_14 : decode cJ5_addEntryToEmptyMap 14 = .ok (.aconst_null, 1) := dk_1 (dk_at dksJ5_addEntryToEmptyMap_0 14 rfl rfl)
theorem dJ5_addEntryToEmptyMap_15 : decode cJ5_addEntryToEmptyMap 15 = .ok (.invokespecial 167, 3) := dk_183 0 167 (dk_at dksJ5_addEntryToEmptyMap_0 15 rfl rfl)
theorem dJ5_addEntryToEmptyMap_18 : decode cJ5_addEntryToEmptyMap 18 = .ok (.putfield 101, 3) := dk_181 0 101 (dk_at dksJ5_addEntryToEmptyMap_0 18 rfl rfl)
theorem dJ5_addEntryToEmptyMap_21 : decode cJ5_addEntryToEmptyMap 21 = .ok (.aload_n 0, 1) := dk_42 (dk_at dksJ5_addEntryToEmptyMap_0 21 rfl rfl)
theorem dJ5_addEntryToEmptyMap_22 : decode cJ5_addEntryToEmptyMap 22 = .ok (.iconst 1, 1) := dk_4 (dk_at dksJ5_addEntryToEmptyMap_0 22 rfl rfl)
theorem dJ5_addEntryToEmptyMap_23 : decode cJ5_addEntryToEmptyMap 23 = .ok (.putfield 7, 3) := dk_181 0 7 (dk_at dksJ5_addEntryToEmptyMap_1 0 rfl rfl)
theorem dJ5_addEntryToEmptyMap_26 : decode cJ5_addEntryToEmptyMap 26 = .ok (.aload_n 0, 1) := dk_42 (dk_at dksJ5_addEntryToEmptyMap_1 3 rfl rfl)
theorem dJ5_addEntryToEmptyMap_27 : decode cJ5_addEntryToEmptyMap 27 = .ok (.dup, 1) := dk_89 (dk_at dksJ5_addEntryToEmptyMap_1 4 rfl rfl)
theorem dJ5_addEntryToEmptyMap_28 : decode cJ5_addEntryToEmptyMap 28 = .ok (.getfield 13, 3) := dk_180 0 13 (dk_at dksJ5_addEntryToEmptyMap_1 5 rfl rfl)
theorem dJ5_addEntryToEmptyMap_31 : decode cJ5_addEntryToEmptyMap 31 = .ok (.iconst 1, 1) := dk_4 (dk_at dksJ5_addEntryToEmptyMap_1 8 rfl rfl)
theorem dJ5_addEntryToEmptyMap_32 : decode cJ5_addEntryToEmptyMap 32 = .ok (.iadd, 1) := dk_96 (dk_at dksJ5_addEntryToEmptyMap_1 9 rfl rfl)
theorem dJ5_addEntryToEmptyMap_33 : decode cJ5_addEntryToEmptyMap 33 = .ok (.putfield 13, 3) := dk_181 0 13 (dk_at dksJ5_addEntryToEmptyMap_1 10 rfl rfl)
theorem dJ5_addEntryToEmptyMap_36 : decode cJ5_addEntryToEmptyMap 36 = .ok (.return_, 1) := dk_177 (dk_at dksJ5_addEntryToEmptyMap_1 13 rfl rfl)
theorem md_J5_addEntryToEmptyMap : xMd yJ5_addEntryToEmptyMap cJ5_addEntryToEmptyMap 3 (Option.none : Option Jvm.ClassFile.FieldType) 2 := ⟨q1317, q132, by decide, by decide +kernel, by decide +kernel, by decide +kernel⟩
def f_J5_addEntryToEmptyMap (p0 : PH) (a0 : Nat) (a1 : Option Nat) (a2 : Option Nat) : Option (xO × PH) :=
  (xcl1 p0 a0 15 (xcI (f_J5_compare p0 a0 a1 a1) fun x2 p1 =>
  (xnew p1 19 [.null, .null, .null, .null, .null, .int 0] fun b3 p4 =>
  (xcV (f_J23_init p4 b3 a1 a2 none) fun p5 =>
  (xpF p5 a0 15 3 (.ref b3) fun p6 =>
  (xpF p6 a0 15 4 (.int 1) fun p7 =>
  (xgI p7 a0 15 5 fun x8 =>
  (xpF p7 a0 15 5 (.int (x8 + 1)) fun p9 =>
  (rV p9)))))))))
theorem rc_J5_addEntryToEmptyMap {p0 : PH} {a0 : Nat} {a1 : Option Nat} {a2 : Option Nat} : ∀ z, f_J5_addEntryToEmptyMap p0 a0 a1 a2 = some z → xco p0 a0 = some 15 := fun z h => xcl1_some h
theorem f_J5_addEntryToEmptyMap_ok {G : xG} (hO : xOK G) (p0 : PH) (a0 : Nat) (a1 : Option Nat) (a2 : Option Nat) : CT G 6 yJ5_addEntryToEmptyMap cJ5_addEntryToEmptyMap 3 (Option.none : Option Jvm.ClassFile.FieldType) [.ref a0, va_rf a1, va_rf a2] p0 (f_J5_addEntryToEmptyMap p0 a0 a1 a2) := by
  refine CT_of hO (by decide +kernel) (by decide +kernel) (lg_slen _ (by simp only [List.map, xcat]; exact Nat.le_of_ble_eq_true rfl)) ?_
  rw [show lv_args 0 [.ref a0, va_rf a1, va_rf a2] = [(0, .ref a0), (1, va_rf a1), (2, va_rf a2)] from by simp only [lv_args, xcat] <;> rfl]
  show X G "java/util/TreeMap" "addEntryToEmptyMap" cJ5_addEntryToEmptyMap 3 (Option.none : Option Jvm.ClassFile.FieldType) 6 0 [(0, .ref a0), (1, va_rf a1), (2, va_rf a2)] [] p0 (f_J5_addEntryToEmptyMap p0 a0 a1 a2)
  refine x_cl1 (fun e0 => ?_)
  refine x_aload_nr 0 dJ5_addEntryToEmptyMap_0 rfl rfl (n := 1) rfl ?_
  refine x_aload_n 1 dJ5_addEntryToEmptyMap_1 rfl rfl (n := 2) rfl ?_
  refine x_aload_n 1 dJ5_addEntryToEmptyMap_2 rfl rfl (n := 3) rfl ?_
  refine x_callV_I [va_rf a1, va_rf a1] [] (f_J5_compare_ok hO p0 a0 a1 a1) rc_J5_compare md_J5_compare rfl q1318 q1319 q1320 dJ5_addEntryToEmptyMap_3 rfl rfl (by decide) (Nat.le_of_ble_eq_true rfl) (n := 6) rfl (fun x2 p1 => ?_)
  refine x_pop dJ5_addEntryToEmptyMap_6 rfl (n := 7) rfl ?_
  refine x_aload_nr 0 dJ5_addEntryToEmptyMap_7 rfl rfl (n := 8) rfl ?_
  refine x_new cl_19 (by decide) q1322 q1323 q155 rfl dJ5_addEntryToEmptyMap_8 (n := 11) rfl (fun b3 p4 => ?_)
  refine x_dup dJ5_addEntryToEmptyMap_11 rfl (n := 12) rfl ?_
  refine x_aload_n 1 dJ5_addEntryToEmptyMap_12 rfl rfl (n := 13) rfl ?_
  refine x_aload_n 2 dJ5_addEntryToEmptyMap_13 rfl rfl (n := 14) rfl ?_
  refine x_null dJ5_addEntryToEmptyMap_14 (n := 15) rfl ?_
  refine x_callI_V [va_rf a1, va_rf a2, va_rf none] [.ref b3, .ref a0] (f_J23_init_ok hO p4 b3 a1 a2 none) md_J23_init rfl q1324 q1325 dJ5_addEntryToEmptyMap_15 rfl rfl (by decide) (Nat.le_of_ble_eq_true rfl) (n := 18) rfl (fun p5 => ?_)
  refine x_pF (pl_J5_101 _ _ (xfit_o (some b3))) dJ5_addEntryToEmptyMap_18 (n := 21) rfl (fun p6 => ?_)
  refine x_aload_nr 0 dJ5_addEntryToEmptyMap_21 rfl rfl (n := 22) rfl ?_
  refine x_iconst 1 dJ5_addEntryToEmptyMap_22 rfl (n := 23) rfl ?_
  refine x_pF (pl_J5_7 _ _ ⟨rfl, rfl⟩) dJ5_addEntryToEmptyMap_23 (n := 26) rfl (fun p7 => ?_)
  refine x_aload_nr 0 dJ5_addEntryToEmptyMap_26 rfl rfl (n := 27) rfl ?_
  refine x_dup dJ5_addEntryToEmptyMap_27 rfl (n := 28) rfl ?_
  refine x_getI fl_J5_13 dJ5_addEntryToEmptyMap_28 (n := 31) rfl (fun x8 => ?_)
  refine x_iconst 1 dJ5_addEntryToEmptyMap_31 rfl (n := 32) rfl ?_
  refine x_iadd dJ5_addEntryToEmptyMap_32 (n := 33) rfl ?_
  refine x_pF (pl_J5_13 _ _ ⟨rfl, rfl⟩) dJ5_addEntryToEmptyMap_33 (n := 36) rfl (fun p9 => ?_)
  exact x_return dJ5_addEntryToEmptyMap_36
abbrev cJ5_parentOf : ByteArray := prog_77_method_77_code
def yJ5_parentOf : MethodName := ⟨RJ5, "parentOf", "(Ljava/util/TreeMap$Entry;)Ljava/util/TreeMap$Entry;"⟩
def dkwJ5_parentOf_0 : List UInt8 := [42, 199, 0, 7, 1, 167, 0, 7, 42, 180, 0, 124, 176]
abbrev dktJ5_parentOf_0 : List UInt8 := dkwJ5_parentOf_0 ++ []
theorem dksJ5_parentOf_0 : cJ5_parentOf.data.toList.drop 0 = dktJ5_parentOf_0 := by decide +kernel
theorem dJ5_parentOf_0 : decode cJ5_parentOf 0 = .ok (.aload_n 0, 1) := dk_42 (dk_at dksJ5_parentOf_0 0 rfl rfl)
theorem dJ5_parentOf_1 : decode cJ5_parentOf 1 = .ok (.ifnonnull 7, 3) := dk_199 0 7 (dk_at dksJ5_parentOf_0 1 rfl rfl)
theorem dJ5_parentOf_4 : decode cJ5_parentOf 4 = .ok (.aconst_null, 1) := dk_1 (dk_at dksJ5_parentOf_0 4 rfl rfl)
theorem dJ5_parentOf_5 : decode cJ5_parentOf 5 = .ok (.goto 7, 3) := dk_167 0 7 (dk_at dksJ5_parentOf_0 5 rfl rfl)
theorem dJ5_parentOf_8 : decode cJ5_parentOf 8 = .ok (.aload_n 0, 1) := dk_42 (dk_at dksJ5_parentOf_0 8 rfl rfl)
theorem dJ5_parentOf_9 : decode cJ5_parentOf 9 = .ok (.getfield 124, 3) := dk_180 0 124 (dk_at dksJ5_parentOf_0 9 rfl rfl)
theorem dJ5_parentOf_12 : decode cJ5_parentOf 12 = .ok (.areturn, 1) := dk_176 (dk_at dksJ5_parentOf_0 12 rfl rfl)
theorem md_J5_parentOf : xMd yJ5_parentOf cJ5_parentOf 1 (Option.some (Jvm.ClassFile.FieldType.object "java/util/TreeMap$Entry")) 1 := ⟨q1364, q132, by decide, by decide +kernel, by decide +kernel, by decide +kernel⟩
def f_J5_parentOf (p0 : PH) (a0 : Option Nat) : Option (xO × PH) :=
  (xnul a0 (rR none p0) fun b1 =>
  (xgR p0 b1 19 4 fun x2 =>
  (rR x2 p0)))
theorem f_J5_parentOf_ok {G : xG} (hO : xOK G) (p0 : PH) (a0 : Option Nat) : CT G 0 yJ5_parentOf cJ5_parentOf 1 (Option.some (Jvm.ClassFile.FieldType.object "java/util/TreeMap$Entry")) [va_rf a0] p0 (f_J5_parentOf p0 a0) := by
  refine CT_of hO (by decide +kernel) (by decide +kernel) (lg_slen _ (by simp only [List.map, xcat]; exact Nat.le_of_ble_eq_true rfl)) ?_
  rw [show lv_args 0 [va_rf a0] = [(0, va_rf a0)] from by simp only [lv_args, xcat] <;> rfl]
  show X G "java/util/TreeMap" "parentOf" cJ5_parentOf 1 (Option.some (Jvm.ClassFile.FieldType.object "java/util/TreeMap$Entry")) 0 0 [(0, va_rf a0)] [] p0 (f_J5_parentOf p0 a0)
  refine x_aload_n 0 dJ5_parentOf_0 rfl rfl (n := 1) rfl ?_
  refine x_ifnonnull dJ5_parentOf_1 (t := 8) (by decide) (n := 4) rfl (fun e => ?_) (fun b1 e => ?_)
  · subst e
    refine x_null dJ5_parentOf_4 (n := 5) rfl ?_
    refine x_goto dJ5_parentOf_5 (n := 12) (by decide) ?_
    exact x_areturn (x := none) (Or.inl ⟨_, rfl⟩) dJ5_parentOf_12
  · subst e
    refine x_aload_nr 0 dJ5_parentOf_8 rfl rfl (n := 9) rfl ?_
    refine x_getR fl_J5_124 dJ5_parentOf_9 (n := 12) rfl (fun x2 => ?_)
    exact x_areturn (x := x2) (Or.inl ⟨_, rfl⟩) dJ5_parentOf_12
abbrev cJ5_leftOf : ByteArray := prog_77_method_79_code
def yJ5_leftOf : MethodName := ⟨RJ5, "leftOf", "(Ljava/util/TreeMap$Entry;)Ljava/util/TreeMap$Entry;"⟩
def dkwJ5_leftOf_0 : List UInt8 := [42, 199, 0, 7, 1, 167, 0, 7, 42, 180, 0, 111, 176]
abbrev dktJ5_leftOf_0 : List UInt8 := dkwJ5_leftOf_0 ++ []
theorem dksJ5_leftOf_0 : cJ5_leftOf.data.toList.drop 0 = dktJ5_leftOf_0 := by decide +kernel
theorem dJ5_leftOf_0 : decode cJ5_leftOf 0 = .ok (.aload_n 0, 1) := dk_42 (dk_at dksJ5_leftOf_0 0 rfl rfl)
theorem dJ5_leftOf_1 : decode cJ5_leftOf 1 = .ok (.ifnonnull 7, 3) := dk_199 0 7 (dk_at dksJ5_leftOf_0 1 rfl rfl)
theorem dJ5_leftOf_4 : decode cJ5_leftOf 4 = .ok (.aconst_null, 1) := dk_1 (dk_at dksJ5_leftOf_0 4 rfl rfl)
theorem dJ5_leftOf_5 : decode cJ5_leftOf 5 = .ok (.goto 7, 3) := dk_167 0 7 (dk_at dksJ5_leftOf_0 5 rfl rfl)
theorem dJ5_leftOf_8 : decode cJ5_leftOf 8 = .ok (.aload_n 0, 1) := dk_42 (dk_at dksJ5_leftOf_0 8 rfl rfl)
theorem dJ5_leftOf_9 : decode cJ5_leftOf 9 = .ok (.getfield 111, 3) := dk_180 0 111 (dk_at dksJ5_leftOf_0 9 rfl rfl)
theorem dJ5_leftOf_12 : decode cJ5_leftOf 12 = .ok (.areturn, 1) := dk_176 (dk_at dksJ5_leftOf_0 12 rfl rfl)
theorem md_J5_leftOf : xMd yJ5_leftOf cJ5_leftOf 1 (Option.some (Jvm.ClassFile.FieldType.object "java/util/TreeMap$Entry")) 1 := ⟨q1367, q132, by decide, by decide +kernel, by decide +kernel, by decide +kernel⟩
def f_J5_leftOf (p0 : PH) (a0 : Option Nat) : Option (xO × PH) :=
  (xnul a0 (rR none p0) fun b1 =>
  (xgR p0 b1 19 2 fun x2 =>
  (rR x2 p0)))
theorem f_J5_leftOf_ok {G : xG} (hO : xOK G) (p0 : PH) (a0 : Option Nat) : CT G 0 yJ5_leftOf cJ5_leftOf 1 (Option.some (Jvm.ClassFile.FieldType.object "java/util/TreeMap$Entry")) [va_rf a0] p0 (f_J5_leftOf p0 a0) := by
  refine CT_of hO (by decide +kernel) (by decide +kernel) (lg_slen _ (by simp only [List.map, xcat]; exact Nat.le_of_ble_eq_true rfl)) ?_
  rw [show lv_args 0 [va_rf a0] = [(0, va_rf a0)] from by simp only [lv_args, xcat] <;> rfl]
  show X G "java/util/TreeMap" "leftOf" cJ5_leftOf 1 (Option.some (Jvm.ClassFile.FieldType.object "java/util/TreeMap$Entry")) 0 0 [(0, va_rf a0)] [] p0 (f_J5_leftOf p0 a0)
  refine x_aload_n 0 dJ5_leftOf_0 rfl rfl (n := 1) rfl ?_
  refine x_ifnonnull dJ5_leftOf_1 (t := 8) (by decide) (n := 4) rfl (fun e => ?_) (fun b1 e => ?_)
  · subst e
    refine x_null dJ5_leftOf_4 (n := 5) rfl ?_
    refine x_goto dJ5_leftOf_5 (n := 12) (by decide) ?_
    exact x_areturn (x := none) (Or.inl ⟨_, rfl⟩) dJ5_leftOf_12
  · subst e
    refine x_aload_nr 0 dJ5_leftOf_8 rfl rfl (n := 9) rfl ?_
    refine x_getR fl_J5_111 dJ5_leftOf_9 (n := 12) rfl (fun x2 => ?_)
    exact x_areturn (x := x2) (Or.inl ⟨_, rfl⟩) dJ5_leftOf_12
abbrev cJ5_rightOf : ByteArray := prog_77_method_80_code
def yJ5_rightOf : MethodName := ⟨RJ5, "rightOf", "(Ljava/util/TreeMap$Entry;)Ljava/util/TreeMap$Entry;"⟩
def dkwJ5_rightOf_0 : List UInt8 := [42, 199, 0, 7, 1, 167, 0, 7, 42, 180, 0, 114, 176]
abbrev dktJ5_rightOf_0 : List UInt8 := dkwJ5_rightOf_0 ++ []
theorem dksJ5_rightOf_0 : cJ5_rightOf.data.toList.drop 0 = dktJ5_rightOf_0 := by decide +kernel
theorem dJ5_rightOf_0 : decode cJ5_rightOf 0 = .ok (.aload_n 0, 1) := dk_42 (dk_at dksJ5_rightOf_0 0 rfl rfl)
theorem dJ5_rightOf_1 : decode cJ5_rightOf 1 = .ok (.ifnonnull 7, 3) := dk_199 0 7 (dk_at dksJ5_rightOf_0 1 rfl rfl)
theorem dJ5_rightOf_4 : decode cJ5_rightOf 4 = .ok (.aconst_null, 1) := dk_1 (dk_at dksJ5_rightOf_0 4 rfl rfl)
theorem dJ5_rightOf_5 : decode cJ5_rightOf 5 = .ok (.goto 7, 3) := dk_167 0 7 (dk_at dksJ5_rightOf_0 5 rfl rfl)
theorem dJ5_rightOf_8 : decode cJ5_rightOf 8 = .ok (.aload_n 0, 1) := dk_42 (dk_at dksJ5_rightOf_0 8 rfl rfl)
theorem dJ5_rightOf_9 : decode cJ5_rightOf 9 = .ok (.getfield 114, 3) := dk_180 0 114 (dk_at dksJ5_rightOf_0 9 rfl rfl)
theorem dJ5_rightOf_12 : decode cJ5_rightOf 12 = .ok (.areturn, 1) := dk_176 (dk_at dksJ5_rightOf_0 12 rfl rfl)
theorem md_J5_rightOf : xMd yJ5_rightOf cJ5_rightOf 1 (Option.some (Jvm.ClassFile.FieldType.object "java/util/TreeMap$Entry")) 1 := ⟨q1370, q132, by decide, by decide +kernel, by decide +kernel, by decide +kernel⟩
def f_J5_rightOf (p0 : PH) (a0 : Option Nat) : Option (xO × PH) :=
  (xnul a0 (rR none p0) fun b1 =>
  (xgR p0 b1 19 3 fun x2 =>
  (rR x2 p0)))
theorem f_J5_rightOf_ok {G : xG} (hO : xOK G) (p0 : PH) (a0 : Option Nat) : CT G 0 yJ5_rightOf cJ5_rightOf 1 (Option.some (Jvm.ClassFile.FieldType.object "java/util/TreeMap$Entry")) [va_rf a0] p0 (f_J5_rightOf p0 a0) := by
  refine CT_of hO (by decide +kernel) (by decide +kernel) (lg_slen _ (by simp only [List.map, xcat]; exact Nat.le_of_ble_eq_true rfl)) ?_
  rw [show lv_args 0 [va_rf a0] = [(0, va_rf a0)] from by simp only [lv_args, xcat] <;> rfl]
  show X G "java/util/TreeMap" "rightOf" cJ5_rightOf 1 (Option.some (Jvm.ClassFile.FieldType.object "java/util/TreeMap$Entry")) 0 0 [(0, va_rf a0)] [] p0 (f_J5_rightOf p0 a0)
  refine x_aload_n 0 dJ5_rightOf_0 rfl rfl (n := 1) rfl ?_
  refine x_ifnonnull dJ5_rightOf_1 (t := 8) (by decide) (n := 4) rfl (fun e => ?_) (fun b1 e => ?_)
  · subst e
    refine x_null dJ5_rightOf_4 (n := 5) rfl ?_
    refine x_goto dJ5_rightOf_5 (n := 12) (by decide) ?_
    exact x_areturn (x := none) (Or.inl ⟨_, rfl⟩) dJ5_rightOf_12
  · subst e
    refine x_aload_nr 0 dJ5_rightOf_8 rfl rfl (n := 9) rfl ?_
    refine x_getR fl_J5_114 dJ5_rightOf_9 (n := 12) rfl (fun x2 => ?_)
    exact x_areturn (x := x2) (Or.inl ⟨_, rfl⟩) dJ5_rightOf_12
abbrev cJ5_colorOf : ByteArray := prog_77_method_76_code
def yJ5_colorOf : MethodName := ⟨RJ5, "colorOf", "(Ljava/util/TreeMap$Entry;)Z"⟩
def dkwJ5_colorOf_0 : List UInt8 := [42, 199, 0, 7, 4, 167, 0, 7, 42, 180, 1, 34, 172]
abbrev dktJ5_colorOf_0 : List UInt8 := dkwJ5_colorOf_0 ++ []
theorem dksJ5_colorOf_0 : cJ5_colorOf.data.toList.drop 0 = dktJ5_colorOf_0 := by decide +kernel
theorem dJ5_colorOf_0 : decode cJ5_colorOf 0 = .ok (.aload_n 0, 1) := dk_42 (dk_at dksJ5_colorOf_0 0 rfl rfl)
theorem dJ5_colorOf_1 : decode cJ5_colorOf 1 = .ok (.ifnonnull 7, 3) := dk_199 0 7 (dk_at dksJ5_colorOf_0 1 rfl rfl)
theorem dJ5_colorOf_4 : decode cJ5_colorOf 4 = .ok (.iconst 1, 1) := dk_4 (dk_at dksJ5_colorOf_0 4 rfl rfl)
theorem dJ5_colorOf_5 : decode cJ5_colorOf 5 = .ok (.goto 7, 3) := dk_167 0 7 (dk_at dksJ5_colorOf_0 5 rfl rfl)
theorem dJ5_colorOf_8 : decode cJ5_colorOf 8 = .ok (.aload_n 0, 1) := dk_42 (dk_at dksJ5_colorOf_0 8 rfl rfl)
theorem dJ5_colorOf_9 : decode cJ5_colorOf 9 = .ok (.getfield 290, 3) := dk_180 1 34 (dk_at dksJ5_colorOf_0 9 rfl rfl)
theorem dJ5_colorOf_12 : decode cJ5_colorOf 12 = .ok (.ireturn, 1) := dk_172 (dk_at dksJ5_colorOf_0 12 rfl rfl)
theorem md_J5_colorOf : xMd yJ5_colorOf cJ5_colorOf 1 (Option.some Jvm.ClassFile.FieldType.boolean) 1 := ⟨q1373, q132, by decide, by decide +kernel, by decide +kernel, by decide +kernel⟩
def f_J5_colorOf (p0 : PH) (a0 : Option Nat) : Option (xO × PH) :=
  (xnul a0 (if vp_nar .boolean 1 = 1 then rI 1 p0 else none) fun b1 =>
  (xgI p0 b1 19 5 fun x2 =>
  (if vp_nar .boolean x2 = x2 then rI x2 p0 else none)))
theorem f_J5_colorOf_ok {G : xG} (hO : xOK G) (p0 : PH) (a0 : Option Nat) : CT G 0 yJ5_colorOf cJ5_colorOf 1 (Option.some Jvm.ClassFile.FieldType.boolean) [va_rf a0] p0 (f_J5_colorOf p0 a0) := by
  refine CT_of hO (by decide +kernel) (by decide +kernel) (lg_slen _ (by simp only [List.map, xcat]; exact Nat.le_of_ble_eq_true rfl)) ?_
  rw [show lv_args 0 [va_rf a0] = [(0, va_rf a0)] from by simp only [lv_args, xcat] <;> rfl]
  show X G "java/util/TreeMap" "colorOf" cJ5_colorOf 1 (Option.some Jvm.ClassFile.FieldType.boolean) 0 0 [(0, va_rf a0)] [] p0 (f_J5_colorOf p0 a0)
  refine x_aload_n 0 dJ5_colorOf_0 rfl rfl (n := 1) rfl ?_
  refine x_ifnonnull dJ5_colorOf_1 (t := 8) (by decide) (n := 4) rfl (fun e => ?_) (fun b1 e => ?_)
  · subst e
    refine x_iconst 1 dJ5_colorOf_4 rfl (n := 5) rfl ?_
    refine x_goto dJ5_colorOf_5 (n := 12) (by decide) ?_
    exact x_nreturn rfl dJ5_colorOf_12
  · subst e
    refine x_aload_nr 0 dJ5_colorOf_8 rfl rfl (n := 9) rfl ?_
    refine x_getI fl_J5_290 dJ5_colorOf_9 (n := 12) rfl (fun x2 => ?_)
    exact x_nreturn rfl dJ5_colorOf_12
abbrev cJ5_setColor : ByteArray := prog_77_method_78_code
def yJ5_setColor : MethodName := ⟨RJ5, "setColor", "(Ljava/util/TreeMap$Entry;Z)V"⟩
def dkwJ5_setColor_0 : List UInt8 := [42, 198, 0, 8, 42, 27, 181, 1, 34, 177]
abbrev dktJ5_setColor_0 : List UInt8 := dkwJ5_setColor_0 ++ []
theorem dksJ5_setColor_0 : cJ5_setColor.data.toList.drop 0 = dktJ5_setColor_0 := by decide +kernel
theorem dJ5_setColor_0 : decode cJ5_setColor 0 = .ok (.aload_n 0, 1) := dk_42 (dk_at dksJ5_setColor_0 0 rfl rfl)
theorem dJ5_setColor_1 : decode cJ5_setColor 1 = .ok (.ifnull 8, 3) := dk_198 0 8 (dk_at dksJ5_setColor_0 1 rfl rfl)
theorem dJ5_setColor_4 : decode cJ5_setColor 4 = .ok (.aload_n 0, 1) := dk_42 (dk_at dksJ5_setColor_0 4 rfl rfl)
theorem dJ5_setColor_5 : decode cJ5_setColor 5 = .ok (.iload_n 1, 1) := dk_27 (dk_at dksJ5_setColor_0 5 rfl rfl)
theorem dJ5_setColor_6 : decode cJ5_setColor 6 = .ok (.putfield 290, 3) := dk_181 1 34 (dk_at dksJ5_setColor_0 6 rfl rfl)
theorem dJ5_setColor_9 : decode cJ5_setColor 9 = .ok (.return_, 1) := dk_177 (dk_at dksJ5_setColor_0 9 rfl rfl)
theorem md_J5_setColor : xMd yJ5_setColor cJ5_setColor 2 (Option.none : Option Jvm.ClassFile.FieldType) 2 := ⟨q1376, q132, by decide, by decide +kernel, by decide +kernel, by decide +kernel⟩
def f_J5_setColor (p0 : PH) (a0 : Option Nat) (a1 : Int32) : Option (xO × PH) :=
  (xnul a0 (rV p0) fun b1 =>
  (if vp_nar .boolean a1 = a1 then
  (xpF p0 b1 19 5 (.int a1) fun p2 =>
  (rV p2)) else none))
theorem f_J5_setColor_ok {G : xG} (hO : xOK G) (p0 : PH) (a0 : Option Nat) (a1 : Int32) : CT G 0 yJ5_setColor cJ5_setColor 2 (Option.none : Option Jvm.ClassFile.FieldType) [va_rf a0, .int a1] p0 (f_J5_setColor p0 a0 a1) := by
  refine CT_of hO (by decide +kernel) (by decide +kernel) (lg_slen _ (by simp only [List.map, xcat]; exact Nat.le_of_ble_eq_true rfl)) ?_
  rw [show lv_args 0 [va_rf a0, .int a1] = [(0, va_rf a0), (1, .int a1)] from by simp only [lv_args, xcat] <;> rfl]
  show X G "java/util/TreeMap" "setColor" cJ5_setColor 2 (Option.none : Option Jvm.ClassFile.FieldType) 0 0 [(0, va_rf a0), (1, .int a1)] [] p0 (f_J5_setColor p0 a0 a1)
  refine x_aload_n 0 dJ5_setColor_0 rfl rfl (n := 1) rfl ?_
  refine x_ifnull dJ5_setColor_1 (t := 9) (by decide) (n := 4) rfl (fun e => ?_) (fun b1 e => ?_)
  · subst e
    exact x_return dJ5_setColor_9
  · subst e
    refine x_aload_nr 0 dJ5_setColor_4 rfl rfl (n := 5) rfl ?_
    refine x_iload_n 1 dJ5_setColor_5 rfl rfl (n := 6) rfl ?_
    refine x_ite (fun hf => ?_) (fun _ => x_no)
    refine x_pF (pl_J5_290 _ _ (xfit_z hf)) dJ5_setColor_6 (n := 9) rfl (fun p2 => ?_)
    exact x_return dJ5_setColor_9
abbrev cJ5_rotateLeft : ByteArray := prog_77_method_81_code
def yJ5_rotateLeft : MethodName := ⟨RJ5, "rotateLeft", "(Ljava/util/TreeMap$Entry;)V"⟩
def dkwJ5_rotateLeft_4 : List UInt8 := [177]
abbrev dktJ5_rotateLeft_4 : List UInt8 := dkwJ5_rotateLeft_4 ++ []
def dkwJ5_rotateLeft_3 : List UInt8 := [181, 0, 111, 167, 0, 11, 43, 180, 0, 124, 44, 181, 0, 114, 44, 43, 181, 0, 111, 43, 44, 181, 0, 124]
abbrev dktJ5_rotateLeft_3 : List UInt8 := dkwJ5_rotateLeft_3 ++ dktJ5_rotateLeft_4
def dkwJ5_rotateLeft_2 : List UInt8 := [44, 181, 0, 101, 167, 0, 33, 43, 180, 0, 124, 180, 0, 111, 43, 166, 0, 14, 43, 180, 0, 124, 44]
abbrev dktJ5_rotateLeft_2 : List UInt8 := dkwJ5_rotateLeft_2 ++ dktJ5_rotateLeft_3
def dkwJ5_rotateLeft_1 : List UInt8 := [44, 180, 0, 111, 43, 181, 0, 124, 44, 43, 180, 0, 124, 181, 0, 124, 43, 180, 0, 124, 199, 0, 11, 42]
abbrev dktJ5_rotateLeft_1 : List UInt8 := dkwJ5_rotateLeft_1 ++ dktJ5_rotateLeft_2
def dkwJ5_rotateLeft_0 : List UInt8 := [43, 198, 0, 94, 43, 180, 0, 114, 77, 43, 44, 180, 0, 111, 181, 0, 114, 44, 180, 0, 111, 198, 0, 11]
abbrev dktJ5_rotateLeft_0 : List UInt8 := dkwJ5_rotateLeft_0 ++ dktJ5_rotateLeft_1
theorem dksJ5_rotateLeft_0 : cJ5_rotateLeft.data.toList.drop 0 = dktJ5_rotateLeft_0 := by decide +kernel
theorem dksJ5_rotateLeft_1 : cJ5_rotateLeft.data.toList.drop 24 = dktJ5_rotateLeft_1 := dk_seg dksJ5_rotateLeft_0 24 rfl rfl
theorem dksJ5_rotateLeft_2 : cJ5_rotateLeft.data.toList.drop 48 = dktJ5_rotateLeft_2 := dk_seg dksJ5_rotateLeft_1 24 rfl rfl
theorem dksJ5_rotateLeft_3 : cJ5_rotateLeft.data.toList.drop 71 = dktJ5_rotateLeft_3 := dk_seg dksJ5_rotateLeft_2 23 rfl rfl
theorem dksJ5_rotateLeft_4 : cJ5_rotateLeft.data.toList.drop 95 = dktJ5_rotateLeft_4 := dk_seg dksJ5_rotateLeft_3 24 rfl rfl
theorem dJ5_rotateLeft_0 : decode cJ5_rotateLeft 0 = .ok (.aload_n 1, 1) := dk_43 (dk_at dksJ5_rotateLeft_0 0 rfl rfl)
theorem dJ5_rotateLeft_1 : decode cJ5_rotateLeft 1 = .ok (.ifnull 94, 3) := dk_198 0 94 (dk_at dksJ5_rotateLeft_0 1 rfl rfl)
theorem dJ5_rotateLeft_4 : decode cJ5_rotateLeft 4 = .ok (.aload_n 1, 1) := dk_43 (dk_at dksJ5_rotateLeft_0 4 rfl rfl)
theorem dJ5_rotateLeft_5 : decode cJ5_rotateLeft 5 = .ok (.getfield 114, 3) := dk_180 0 114 (dk_at dksJ5_rotateLeft_0 5 rfl rfl)
theorem dJ5_rotateLeft_8 : decode cJ5_rotateLeft 8 = .ok (.astore_n 2, 1) := dk_77 (dk_at dksJ5_rotateLeft_0 8 rfl rfl)
theorem dJ5_rotateLeft_9 : decode cJ5_rotateLeft 9 = .ok (.aload_n 1, 1) := dk_43 (dk_at dksJ5_rotateLeft_0 9 rfl rfl)
theorem dJ5_rotateLeft_10 : decode cJ5_rotateLeft 10 = .ok (.aload_n 2, 1) := dk_44 (dk_at dksJ5_rotateLeft_0 10 rfl rfl)
theorem dJ5_rotateLeft_11 : decode cJ5_rotateLeft 11 = .ok (.getfield 111, 3) := dk_180 0 111 (dk_at dksJ5_rotateLeft_0 11 rfl rfl)
theorem dJ5_rotateLeft_14 : decode cJ5_rotateLeft 14 = .ok (.putfield 114, 3) := dk_181 0 114 (dk_at dksJ5_rotateLeft_0 14 rfl rfl)
theorem dJ5_rotateLeft_17 : decode cJ5_rotateLeft 17 = .ok (.aload_n 2, 1) := dk_44 (dk_at dksJ5_rotateLeft_0 17 rfl rfl)
theorem dJ5_rotateLeft_18 : decode cJ5_rotateLeft 18 = .ok (.getfield 111, 3) := dk_180 0 111 (dk_at dksJ5_rotateLeft_0 18 rfl rfl)
theorem dJ5_rotateLeft_21 : decode cJ5_rotateLeft 21 = .ok (.ifnull 11, 3) := dk_198 0 11 (dk_at dksJ5_rotateLeft_0 21 rfl rfl)
theorem dJ5_rotateLeft_24 : decode cJ5_rotateLeft 24 = .ok (.aload_n 2, 1) := dk_44 (dk_at dksJ5_rotateLeft_1 0 rfl rfl)
theorem dJ5_rotateLeft_25 : decode cJ5_rotateLeft 25 = .ok (.getfield 111, 3) := dk_180 0 111 (dk_at dksJ5_rotateLeft_1 1 rfl rfl)
theorem dJ5_rotateLeft_28 : decode cJ5_rotateLeft 28 = .ok (.aload_n 1, 1) := dk_43 (dk_at dksJ5_rotateLeft_1 4 rfl rfl)
theorem dJ5_rotateLeft_29 : decode cJ5_rotateLeft 29 = .ok (.putfield 124, 3) := dk_181 0 124 (dk_at dksJ5_rotateLeft_1 5 rfl rfl)
theorem dJ5_rotateLeft_32 : decode cJ5_rotateLeft 32 = .ok (.aload_n 2, 1) := dk_44 (dk_at dksJ5_rotateLeft_1 8 rfl rfl)
theorem dJ5_rotateLeft_33 : decode cJ5_rotateLeft 33 = .ok (.aload_n 1, 1) := dk_43 (dk_at dksJ5_rotateLeft_1 9 rfl rfl)
theorem dJ5_rotateLeft_34 : decode cJ5_rotateLeft 34 = .ok (.getfield 124, 3) := dk_180 0 124 (dk_at dksJ5_rotateLeft_1 10 rfl rfl)
theorem dJ5_rotateLeft_37 : decode cJ5_rotateLeft 37 = .ok (.putfield 124, 3) := dk_181 0 124 (dk_at dksJ5_rotateLeft_1 13 rfl rfl)
theorem dJ5_rotateLeft_40 : decode cJ5_rotateLeft 40 = .ok (.aload_n 1, 1) := dk_43 (dk_at dksJ5_rotateLeft_1 16 rfl rfl)
theorem dJ5_rotateLeft_41 : decode cJ5_rotateLeft 41 = .ok (.getfield 124, 3) := dk_180 0 124 (dk_at dksJ5_rotateLeft_1 17 rfl rfl)
theorem dJ5_rotateLeft_44 : decode cJ5_rotateLeft 44 = .ok (.ifnonnull 11, 3) := dk_199 0 11 (dk_at dksJ5_rotateLeft_1 20 rfl rfl)
theorem dJ5_rotateLeft_47 : decode cJ5_rotateLeft 47 = .ok (.aload_n 0, 1) := dk_42 (dk_at dksJ5_rotateLeft_1 23 rfl rfl)
theorem dJ5_rotateLeft_48 : decode cJ5_rotateLeft 48 = .ok (.aload_n 2, 1) := dk_44 (dk_at dksJ5_rotateLeft_2 0 rfl rfl)
theorem dJ5_rotateLeft_49 : decode cJ5_rotateLeft 49 = .ok (.putfield 101, 3) := dk_181 0 101 (dk_at dksJ5_rotateLeft_2 1 rfl rfl)
theorem dJ5_rotateLeft_52 : decode cJ5_rotateLeft 52 = .ok (.goto 33, 3) := dk_167 0 33 (dk_at dksJ5_rotateLeft_2 4 rfl rfl)
theorem dJ5_rotateLeft_55 : decode cJ5_rotateLeft 55 = .ok (.aload_n 1, 1) := dk_43 (dk_at dksJ5_rotateLeft_2 7 rfl rfl)
theorem dJ5_rotateLeft_56 : decode cJ5_rotateLeft 56 = .ok (.getfield 124, 3) := dk_180 0 124 (dk_at dksJ5_rotateLeft_2 8 rfl rfl)
theorem dJ5_rotateLeft_59 : decode cJ5_rotateLeft 59 = .ok (.getfield 111, 3) := dk_180 0 111 (dk_at dksJ5_rotateLeft_2 11 rfl rfl)
theorem dJ5_rotateLeft_62 : decode cJ5_rotateLeft 62 = .ok (.aload_n 1, 1) := dk_43 (dk_at dksJ5_rotateLeft_2 14 rfl rfl)
theorem dJ5_rotateLeft_63 : decode cJ5_rotateLeft 63 = .ok (.if_acmp .ne 14, 3) := dk_166 0 14 (dk_at dksJ5_rotateLeft_2 15 rfl rfl)
theorem dJ5_rotateLeft_66 : decode cJ5_rotateLeft 66 = .ok (.aload_n 1, 1) := dk_43 (dk_at dksJ5_rotateLeft_2 18 rfl rfl)
theorem dJ5_rotateLeft_67 : decode cJ5_rotateLeft 67 = .ok (.getfield 124, 3) := dk_180 0 124 (dk_at dksJ5_rotateLeft_2 19 rfl rfl)
theorem dJ5_rotateLeft_70 : decode cJ5_rotateLeft 70 = .ok (.aload_n 2, 1) := dk_44 (dk_at dksJ5_rotateLeft_2 22 rfl rfl)
theorem dJ5_rotateLeft_71 : decode cJ5_rotateLeft 71 = .ok (.putfield 111, 3) := dk_181 0 111 (dk_at dksJ5_rotateLeft_3 0 rfl rfl)
theorem dJ5_rotateLeft_74 : decode cJ5_rotateLeft 74 = .ok (.goto 11, 3) := dk_167 0 11 (dk_at dksJ5_rotateLeft_3 3 rfl rfl)
theorem dJ5_rotateLeft_77 : decode cJ5_rotateLeft 77 = .ok (.aload_n 1, 1) := dk_43 (dk_at dksJ5_rotateLeft_3 6 rfl rfl)
theorem dJ5_rotateLeft_78 : decode cJ5_rotateLeft 78 = .ok (.getfield 124, 3) := dk_180 0 124 (dk_at dksJ5_rotateLeft_3 7 rfl rfl)
theorem dJ5_rotateLeft_81 : decode cJ5_rotateLeft 81 = .ok (.aload_n 2, 1) := dk_44 (dk_at dksJ5_rotateLeft_3 10 rfl rfl)
theorem dJ5_rotateLeft_82 : decode cJ5_rotateLeft 82 = .ok (.putfield 114, 3) := dk_181 0 114 (dk_at dksJ5_rotateLeft_3 11 rfl rfl)
theorem dJ5_rotateLeft_85 : decode cJ5_rotateLeft 85 = .ok (.aload_n 2, 1) := dk_44 (dk_at dksJ5_rotateLeft_3 14 rfl rfl)
theorem dJ5_rotateLeft_86 : decode cJ5_rotateLeft 86 = .ok (.aload_n 1, 1) := dk_43 (dk_at dksJ5_rotateLeft_3 15 rfl rfl)
theorem dJ5_rotateLeft_87 : decode cJ5_rotateLeft 87 = .ok (.putfield 111, 3) := dk_181 0 111 (dk_at dksJ5_rotateLeft_3 16 rfl rfl)
theorem dJ5_rotateLeft_90 : decode cJ5_rotateLeft 90 = .ok (.aload_n 1, 1) := dk_43 (dk_at dksJ5_rotateLeft_3 19 rfl rfl)
theorem dJ5_rotateLeft_91 : decode cJ5_rotateLeft 91 = .ok (.aload_n 2, 1) := dk_44 (dk_at dksJ5_rotateLeft_3 20 rfl rfl)
theorem dJ5_rotateLeft_92 : decode cJ5_rotateLeft 92 = .ok (.putfield 124, 3) := dk_181 0 124 (dk_at dksJ5_rotateLeft_3 21 rfl rfl)
theorem dJ5_rotateLeft_95 : decode cJ5_rotateLeft 95 = .ok (.return_, 1) := dk_177 (dk_at dksJ5_rotateLeft_4 0 rfl rfl)
theorem md_J5_rotateLeft : xMd yJ5_rotateLeft cJ5_rotateLeft 3 (Option.none : Option Jvm.ClassFile.FieldType) 1 := ⟨q1380, q132, by decide, by decide +kernel, by decide +kernel, by decide +kernel⟩
def f_J5_rotateLeft_85 (a0 : Nat)  (v1 : Option Nat) (v2 : Option Nat) (p0 : PH) : Option (xO × PH) :=
  (xnul v2 none fun b15 =>
  (xpF p0 b15 19 2 (va_rf v1) fun p16 =>
  (xnul v1 none fun b17 =>
  (xpF p16 b17 19 4 (.ref b15) fun p18 =>
  (rV p18)))))
def f_J5_rotateLeft_32 (a0 : Nat)  (v1 : Option Nat) (v2 : Option Nat) (p0 : PH) : Option (xO × PH) :=
  (xnul v1 none fun b8 =>
  (xgR p0 b8 19 4 fun x9 =>
  (xnul v2 none fun b10 =>
  (xpF p0 b10 19 4 (va_rf x9) fun p11 =>
  (xgR p11 b8 19 4 fun x12 =>
  (xnul x12 (xpF p11 a0 15 3 (.ref b10) fun p14 =>
  (f_J5_rotateLeft_85 a0 ((some b8)) ((some b10)) p14)) fun b13 =>
  (xgR p11 b8 19 4 fun x19 =>
  (xnul x19 none fun b20 =>
  (xgR p11 b20 19 2 fun x21 =>
  (if x21 = (some b8) then
  (xgR p11 b8 19 4 fun x25 =>
  (xnul x25 none fun b26 =>
  (xpF p11 b26 19 2 (.ref b10) fun p27 =>
  (f_J5_rotateLeft_85 a0 ((some b8)) ((some b10)) p27)))) else
  (xgR p11 b8 19 4 fun x22 =>
  (xnul x22 none fun b23 =>
  (xpF p11 b23 19 3 (.ref b10) fun p24 =>
  (f_J5_rotateLeft_85 a0 ((some b8)) ((some b10)) p24))))))))))))))
def f_J5_rotateLeft (p0 : PH) (a0 : Nat) (a1 : Option Nat) : Option (xO × PH) :=
  (xcl1 p0 a0 15 (xnul a1 (rV p0) fun b1 =>
  (xgR p0 b1 19 3 fun x2 =>
  (xnul x2 none fun b3 =>
  (xgR p0 b3 19 2 fun x4 =>
  (xpF p0 b1 19 3 (va_rf x4) fun p5 =>
  (xgR p5 b3 19 2 fun x6 =>
  (xnul x6 (f_J5_rotateLeft_32 a0 ((some b1)) ((some b3)) p5) fun b7 =>
  (xgR p5 b3 19 2 fun x28 =>
  (xnul x28 none fun b29 =>
  (xpF p5 b29 19 4 (.ref b1) fun p30 =>
  (f_J5_rotateLeft_32 a0 ((some b1)) ((some b3)) p30))))))))))))
theorem rc_J5_rotateLeft {p0 : PH} {a0 : Nat} {a1 : Option Nat} : ∀ z, f_J5_rotateLeft p0 a0 a1 = some z → xco p0 a0 = some 15 := fun z h => xcl1_some h
theorem f_J5_rotateLeft_85_ok {G : xG} (hO : xOK G) (a0 : Nat)  (v1 : Option Nat) (v2 : Option Nat) (p0 : PH) : X G "java/util/TreeMap" "rotateLeft" cJ5_rotateLeft 3 (Option.none : Option Jvm.ClassFile.FieldType) 0 85 [(1, va_rf v1), (2, va_rf v2)] [] p0 (f_J5_rotateLeft_85 a0 v1 v2 p0) := by
  unfold f_J5_rotateLeft_85
  refine x_aload_n 1 dJ5_rotateLeft_85 rfl rfl (n := 86) rfl ?_
  refine x_aload_n 0 dJ5_rotateLeft_86 rfl rfl (n := 87) rfl ?_
  refine x_sm (fun b15 e => ?_)
  subst e
  refine x_pF (pl_J5_111 _ _ (xfit_o (v1))) dJ5_rotateLeft_87 (n := 90) rfl (fun p16 => ?_)
  refine x_aload_n 0 dJ5_rotateLeft_90 rfl rfl (n := 91) rfl ?_
  refine x_aload_nr 1 dJ5_rotateLeft_91 rfl rfl (n := 92) rfl ?_
  refine x_sm (fun b17 e => ?_)
  subst e
  refine x_pF (pl_J5_124 _ _ (xfit_o (some b15))) dJ5_rotateLeft_92 (n := 95) rfl (fun p18 => ?_)
  exact x_return dJ5_rotateLeft_95
theorem f_J5_rotateLeft_32_ok {G : xG} (hO : xOK G) (a0 : Nat)  (v1 : Option Nat) (v2 : Option Nat) (p0 : PH) : X G "java/util/TreeMap" "rotateLeft" cJ5_rotateLeft 3 (Option.none : Option Jvm.ClassFile.FieldType) 0 32 [(0, .ref a0), (1, va_rf v1), (2, va_rf v2)] [] p0 (f_J5_rotateLeft_32 a0 v1 v2 p0) := by
  unfold f_J5_rotateLeft_32
  refine x_aload_n 2 dJ5_rotateLeft_32 rfl rfl (n := 33) rfl ?_
  refine x_aload_n 1 dJ5_rotateLeft_33 rfl rfl (n := 34) rfl ?_
  refine x_sm (fun b8 e => ?_)
  subst e
  refine x_getR fl_J5_124 dJ5_rotateLeft_34 (n := 37) rfl (fun x9 => ?_)
  refine x_sm (fun b10 e => ?_)
  subst e
  refine x_pF (pl_J5_124 _ _ (xfit_o (x9))) dJ5_rotateLeft_37 (n := 40) rfl (fun p11 => ?_)
  refine x_aload_nr 1 dJ5_rotateLeft_40 rfl rfl (n := 41) rfl ?_
  refine x_getR fl_J5_124 dJ5_rotateLeft_41 (n := 44) rfl (fun x12 => ?_)
  refine x_ifnonnull dJ5_rotateLeft_44 (t := 55) (by decide) (n := 47) rfl (fun e => ?_) (fun b13 e => ?_)
  · subst e
    refine x_aload_nr 0 dJ5_rotateLeft_47 rfl rfl (n := 48) rfl ?_
    refine x_aload_nr 2 dJ5_rotateLeft_48 rfl rfl (n := 49) rfl ?_
    refine x_pF (pl_J5_101 _ _ (xfit_o (some b10))) dJ5_rotateLeft_49 (n := 52) rfl (fun p14 => ?_)
    refine x_goto dJ5_rotateLeft_52 (n := 85) (by decide) ?_
    refine x_sub [1, 2] [(1, .ref b8), (2, .ref b10)] rfl ?_
    exact f_J5_rotateLeft_85_ok hO a0 ((some b8)) ((some b10)) p14
  · subst e
    refine x_aload_nr 1 dJ5_rotateLeft_55 rfl rfl (n := 56) rfl ?_
    refine x_getR fl_J5_124 dJ5_rotateLeft_56 (n := 59) rfl (fun x19 => ?_)
    refine x_sm (fun b20 e => ?_)
    subst e
    refine x_getR fl_J5_111 dJ5_rotateLeft_59 (n := 62) rfl (fun x21 => ?_)
    refine x_aload_nr 1 dJ5_rotateLeft_62 rfl rfl (n := 63) rfl ?_
    refine x_acmp_ne (x := x21) (y := some b8) dJ5_rotateLeft_63 (t := 77) (by decide) (n := 66) rfl (fun _ => ?_) (fun _ => ?_)
    · refine x_aload_nr 1 dJ5_rotateLeft_77 rfl rfl (n := 78) rfl ?_
      refine x_getR fl_J5_124 dJ5_rotateLeft_78 (n := 81) rfl (fun x22 => ?_)
      refine x_aload_nr 2 dJ5_rotateLeft_81 rfl rfl (n := 82) rfl ?_
      refine x_sm (fun b23 e => ?_)
      subst e
      refine x_pF (pl_J5_114 _ _ (xfit_o (some b10))) dJ5_rotateLeft_82 (n := 85) rfl (fun p24 => ?_)
      refine x_sub [1, 2] [(1, .ref b8), (2, .ref b10)] rfl ?_
      exact f_J5_rotateLeft_85_ok hO a0 ((some b8)) ((some b10)) p24
    · refine x_aload_nr 1 dJ5_rotateLeft_66 rfl rfl (n := 67) rfl ?_
      refine x_getR fl_J5_124 dJ5_rotateLeft_67 (n := 70) rfl (fun x25 => ?_)
      refine x_aload_nr 2 dJ5_rotateLeft_70 rfl rfl (n := 71) rfl ?_
      refine x_sm (fun b26 e => ?_)
      subst e
      refine x_pF (pl_J5_111 _ _ (xfit_o (some b10))) dJ5_rotateLeft_71 (n := 74) rfl (fun p27 => ?_)
      refine x_goto dJ5_rotateLeft_74 (n := 85) (by decide) ?_
      refine x_sub [1, 2] [(1, .ref b8), (2, .ref b10)] rfl ?_
      exact f_J5_rotateLeft_85_ok hO a0 ((some b8)) ((some b10)) p27
theorem f_J5_rotateLeft_ok {G : xG} (hO : xOK G) (p0 : PH) (a0 : Nat) (a1 : Option Nat) : CT G 0 yJ5_rotateLeft cJ5_rotateLeft 3 (Option.none : Option Jvm.ClassFile.FieldType) [.ref a0, va_rf a1] p0 (f_J5_rotateLeft p0 a0 a1) := by
  refine CT_of hO (by decide +kernel) (by decide +kernel) (lg_slen _ (by simp only [List.map, xcat]; exact Nat.le_of_ble_eq_true rfl)) ?_
  rw [show lv_args 0 [.ref a0, va_rf a1] = [(0, .ref a0), (1, va_rf a1)] from by simp only [lv_args, xcat] <;> rfl]
  show X G "java/util/TreeMap" "rotateLeft" cJ5_rotateLeft 3 (Option.none : Option Jvm.ClassFile.FieldType) 0 0 [(0, .ref a0), (1, va_rf a1)] [] p0 (f_J5_rotateLeft p0 a0 a1)
  refine x_cl1 (fun e0 => ?_)
  refine x_aload_n 1 dJ5_rotateLeft_0 rfl rfl (n := 1) rfl ?_
  refine x_ifnull dJ5_rotateLeft_1 (t := 95) (by decide) (n := 4) rfl (fun e => ?_) (fun b1 e => ?_)
  · subst e
    exact x_return dJ5_rotateLeft_95
  · subst e
    refine x_aload_nr 1 dJ5_rotateLeft_4 rfl rfl (n := 5) rfl ?_
    refine x_getR fl_J5_114 dJ5_rotateLeft_5 (n := 8) rfl (fun x2 => ?_)
    refine x_astore_n [(2, va_rf x2), (0, .ref a0), (1, .ref b1)] dJ5_rotateLeft_8 rfl (by decide) rfl (n := 9) rfl ?_
    refine x_aload_nr 2 dJ5_rotateLeft_9 rfl rfl (n := 10) rfl ?_
    refine x_aload_n 0 dJ5_rotateLeft_10 rfl rfl (n := 11) rfl ?_
    refine x_sm (fun b3 e => ?_)
    subst e
    refine x_getR fl_J5_111 dJ5_rotateLeft_11 (n := 14) rfl (fun x4 => ?_)
    refine x_pF (pl_J5_114 _ _ (xfit_o (x4))) dJ5_rotateLeft_14 (n := 17) rfl (fun p5 => ?_)
    refine x_aload_nr 0 dJ5_rotateLeft_17 rfl rfl (n := 18) rfl ?_
    refine x_getR fl_J5_111 dJ5_rotateLeft_18 (n := 21) rfl (fun x6 => ?_)
    refine x_ifnull dJ5_rotateLeft_21 (t := 32) (by decide) (n := 24) rfl (fun e => ?_) (fun b7 e => ?_)
    · subst e
      refine x_sub [1, 2, 0] [(0, .ref a0), (1, .ref b1), (2, .ref b3)] rfl ?_
      exact f_J5_rotateLeft_32_ok hO a0 ((some b1)) ((some b3)) p5
    · subst e
      refine x_aload_nr 0 dJ5_rotateLeft_24 rfl rfl (n := 25) rfl ?_
      refine x_getR fl_J5_111 dJ5_rotateLeft_25 (n := 28) rfl (fun x28 => ?_)
      refine x_aload_nr 2 dJ5_rotateLeft_28 rfl rfl (n := 29) rfl ?_
      refine x_sm (fun b29 e => ?_)
      subst e
      refine x_pF (pl_J5_124 _ _ (xfit_o (some b1))) dJ5_rotateLeft_29 (n := 32) rfl (fun p30 => ?_)
      refine x_sub [1, 2, 0] [(0, .ref a0), (1, .ref b1), (2, .ref b3)] rfl ?_
      exact f_J5_rotateLeft_32_ok hO a0 ((some b1)) ((some b3)) p30
abbrev cJ5_rotateRight : ByteArray := prog_77_method_82_code
def yJ5_rotateRight : MethodName := ⟨RJ5, "rotateRight", "(Ljava/util/TreeMap$Entry;)V"⟩
def dkwJ5_rotateRight_4 : List UInt8 := [177]
abbrev dktJ5_rotateRight_4 : List UInt8 := dkwJ5_rotateRight_4 ++ []
def dkwJ5_rotateRight_3 : List UInt8 := [181, 0, 114, 167, 0, 11, 43, 180, 0, 124, 44, 181, 0, 111, 44, 43, 181, 0, 114, 43, 44, 181, 0, 124]
abbrev dktJ5_rotateRight_3 : List UInt8 := dkwJ5_rotateRight_3 ++ dktJ5_rotateRight_4
def dkwJ5_rotateRight_2 : List UInt8 := [44, 181, 0, 101, 167, 0, 33, 43, 180, 0, 124, 180, 0, 114, 43, 166, 0, 14, 43, 180, 0, 124, 44]
abbrev dktJ5_rotateRight_2 : List UInt8 := dkwJ5_rotateRight_2 ++ dktJ5_rotateRight_3
def dkwJ5_rotateRight_1 : List UInt8 := [44, 180, 0, 114, 43, 181, 0, 124, 44, 43, 180, 0, 124, 181, 0, 124, 43, 180, 0, 124, 199, 0, 11, 42]
abbrev dktJ5_rotateRight_1 : List UInt8 := dkwJ5_rotateRight_1 ++ dktJ5_rotateRight_2
def dkwJ5_rotateRight_0 : List UInt8 := [43, 198, 0, 94, 43, 180, 0, 111, 77, 43, 44, 180, 0, 114, 181, 0, 111, 44, 180, 0, 114, 198, 0, 11]
abbrev dktJ5_rotateRight_0 : List UInt8 := dkwJ5_rotateRight_0 ++ dktJ5_rotateRight_1
theorem dksJ5_rotateRight_0 : cJ5_rotateRight.data.toList.drop 0 = dktJ5_rotateRight_0 := by decide +kernel
theorem dksJ5_rotateRight_1 : cJ5_rotateRight.data.toList.drop 24 = dktJ5_rotateRight_1 := dk_seg dksJ5_rotateRight_0 24 rfl rfl
theorem dksJ5_rotateRight_2 : cJ5_rotateRight.data.toList.drop 48 = dktJ5_rotateRight_2 := dk_seg dksJ5_rotateRight_1 24 rfl rfl
theorem dksJ5_rotateRight_3 : cJ5_rotateRight.data.toList.drop 71 = dktJ5_rotateRight_3 := dk_seg dksJ5_rotateRight_2 23 rfl rfl
theorem dksJ5_rotateRight_4 : cJ5_rotateRight.data.toList.drop 95 = dktJ5_rotateRight_4 := dk_seg dksJ5_rotateRight_3 24 rfl rfl
theorem dJ5_rotateRight_0 : decode cJ5_rotateRight 0 = .ok (.aload_n 1, 1) := dk_43 (dk_at dksJ5_rotateRight_0 0 rfl rfl)
theorem dJ5_rotateRight_1 : decode cJ5_rotateRight 1 = .ok (.ifnull 94, 3) := dk_198 0 94 (dk_at dksJ5_rotateRight_0 1 rfl rfl)
theorem dJ5_rotateRight_4 : decode cJ5_rotateRight 4 = .ok (.aload_n 1, 1) := dk_43 (dk_at dksJ5_rotateRight_0 4 rfl rfl)
theorem dJ5_rotateRight_5 : decode cJ5_rotateRight 5 = .ok (.getfield 111, 3) := dk_180 0 111 (dk_at dksJ5_rotateRight_0 5 rfl rfl)
theorem dJ5_rotateRight_8 : decode cJ5_rotateRight 8 = .ok (.astore_n 2, 1) := dk_77 (dk_at dksJ5_rotateRight_0 8 rfl rfl)
theorem dJ5_rotateRight_9 : decode cJ5_rotateRight 9 = .ok (.aload_n 1, 1) := dk_43 (dk_at dksJ5_rotateRight_0 9 rfl rfl)
theorem dJ5_rotateRight_10 : decode cJ5_rotateRight 10 = .ok (.aload_n 2, 1) := dk_44 (dk_at dksJ5_rotateRight_0 10 rfl rfl)
theorem dJ5_rotateRight_11 : decode cJ5_rotateRight 11 = .ok (.getfield 114, 3) := dk_180 0 114 (dk_at dksJ5_rotateRight_0 11 rfl rfl)
theorem dJ5_rotateRight_14 : decode cJ5_rotateRight 14 = .ok (.putfield 111, 3) := dk_181 0 111 (dk_at dksJ5_rotateRight_0 14 rfl rfl)
theorem dJ5_rotateRight_17 : decode cJ5_rotateRight 17 = .ok (.aload_n 2, 1) := dk_44 (dk_at dksJ5_rotateRight_0 17 rfl rfl)
theorem dJ5_rotateRight_18 : decode cJ5_rotateRight 18 = .ok (.getfield 114, 3) := dk_180 0 114 (dk_at dksJ5_rotateRight_0 18 rfl rfl)
theorem dJ5_rotateRight_21 : decode cJ5_rotateRight 21 = .ok (.ifnull 11, 3) := dk_198 0 11 (dk_at dksJ5_rotateRight_0 21 rfl rfl)
theorem dJ5_rotateRight_24 : decode cJ5_rotateRight 24 = .ok (.aload_n 2, 1) := dk_44 (dk_at dksJ5_rotateRight_1 0 rfl rfl)
theorem dJ5_rotateRight_25 : decode cJ5_rotateRight 25 = .ok (.getfield 114, 3) := dk_180 0 114 (dk_at dksJ5_rotateRight_1 1 rfl rfl)
theorem dJ5_rotateRight_28 : decode cJ5_rotateRight 28 = .ok (.aload_n 1, 1) := dk_43 (dk_at dksJ5_rotateRight_1 4 rfl rfl)
theorem dJ5_rotateRight_29 : decode cJ5_rotateRight 29 = .ok (.putfield 124, 3) := dk_181 0 124 (dk_at dksJ5_rotateRight_1 5 rfl rfl)
theorem dJ5_rotateRight_32 : decode cJ5_rotateRight 32 = .ok (.aload_n 2, 1) := dk_44 (dk_at dksJ5_rotateRight_1 8 rfl rfl)
theorem dJ5_rotateRight_33 : decode cJ5_rotateRight 33 = .ok (.aload_n 1, 1) := dk_43 (dk_at dksJ5_rotateRight_1 9 rfl rfl)
theorem dJ5_rotateRight_34 : decode cJ5_rotateRight 34 = .ok (.getfield 124, 3) := dk_180 0 124 (dk_at dksJ5_rotateRight_1 10 rfl rfl)
theorem dJ5_rotateRight_37 : decode cJ5_rotateRight 37 = .ok (.putfield 124, 3) := dk_181 0 124 (dk_at dksJ5_rotateRight_1 13 rfl rfl)
theorem dJ5_rotateRight_40 : decode cJ5_rotateRight 40 = .ok (.aload_n 1, 1) := dk_43 (dk_at dksJ5_rotateRight_1 16 rfl rfl)
theorem dJ5_rotateRight_41 : decode cJ5_rotateRight 41 = .ok (.getfield 124, 3) := dk_180 0 124 (dk_at dksJ5_rotateRight_1 17 rfl rfl)
theorem dJ5_rotateRight_44 : decode cJ5_rotateRight 44 = .ok (.ifnonnull 11, 3) := dk_199 0 11 (dk_at dksJ5_rotateRight_1 20 rfl rfl)
theorem dJ5_rotateRight_47 : decode cJ5_rotateRight 47 = .ok (.aload_n 0, 1) := dk_42 (dk_at dksJ5_rotateRight_1 23 rfl rfl)
theorem dJ5_rotateRight_48 : decode cJ5_rotateRight 48 = .ok (.aload_n 2, 1) := dk_44 (dk_at dksJ5_rotateRight_2 0 rfl rfl)
theorem dJ5_rotateRight_49 : decode cJ5_rotateRight 49 = .ok (.putfield 101, 3) := dk_181 0 101 (dk_at dksJ5_rotateRight_2 1 rfl rfl)
theorem dJ5_rotateRight_52 : decode cJ5_rotateRight 52 = .ok (.goto 33, 3) := dk_167 0 33 (dk_at dksJ5_rotateRight_2 4 rfl rfl)
theorem dJ5_rotateRight_55 : decode cJ5_rotateRight 55 = .ok (.aload_n 1, 1) := dk_43 (dk_at dksJ5_rotateRight_2 7 rfl rfl)
theorem dJ5_rotateRight_56 : decode cJ5_rotateRight 56 = .ok (.getfield 124, 3) := dk_180 0 124 (dk_at dksJ5_rotateRight_2 8 rfl rfl)
theorem dJ5_rotateRight_59 : decode cJ5_rotateRight 59 = .ok (.getfield 114, 3) := dk_180 0 114 (dk_at dksJ5_rotateRight_2 11 rfl rfl)
theorem dJ5_rotateRight_62 : decode cJ5_rotateRight 62 = .ok (.aload_n 1, 1) := dk_43 (dk_at dksJ5_rotateRight_2 14 rfl rfl)
theorem dJ5_rotateRight_63 : decode cJ5_rotateRight 63 = .ok (.if_acmp .ne 14, 3) := dk_166 0 14 (dk_at dksJ5_rotateRight_2 15 rfl rfl)
theorem dJ5_rotateRight_66 : decode cJ5_rotateRight 66 = .ok (.aload_n 1, 1) := dk_43 (dk_at dksJ5_rotateRight_2 18 rfl rfl)
theorem dJ5_rotateRight_67 : decode cJ5_rotateRight 67 = .ok (.getfield 124, 3) := dk_180 0 124 (dk_at dksJ5_rotateRight_2 19 rfl rfl)
theorem dJ5_rotateRight_70 : decode cJ5_rotateRight 70 = .ok (.aload_n 2, 1) := dk_44 (dk_at dksJ5_rotateRight_2 22 rfl rfl)
theorem dJ5_rotateRight_71 : decode cJ5_rotateRight 71 = .ok (.putfield 114, 3) := dk_181 0 114 (dk_at dksJ5_rotateRight_3 0 rfl rfl)
theorem dJ5_rotateRight_74 : decode cJ5_rotateRight 74 = .ok (.goto 11, 3) := dk_167 0 11 (dk_at dksJ5_rotateRight_3 3 rfl rfl)
theorem dJ5_rotateRight_77 : decode cJ5_rotateRight 77 = .ok (.aload_n 1, 1) := dk_43 (dk_at dksJ5_rotateRight_3 6 rfl rfl)
theorem dJ5_rotateRight_78 : decode cJ5_rotateRight 78 = .ok (.getfield 124, 3) := dk_180 0 124 (dk_at dksJ5_rotateRight_3 7 rfl rfl)
theorem dJ5_rotateRight_81 : decode cJ5_rotateRight 81 = .ok (.aload_n 2, 1) := dk_44 (dk_at dksJ5_rotateRight_3 10 rfl rfl)
theorem dJ5_rotateRight_82 : decode cJ5_rotateRight 82 = .ok (.putfield 111, 3) := dk_181 0 111 (dk_at dksJ5_rotateRight_3 11 rfl rfl)
theorem dJ5_rotateRight_85 : decode cJ5_rotateRight 85 = .ok (.aload_n 2, 1) := dk_44 (dk_at dksJ5_rotateRight_3 14 rfl rfl)
theorem dJ5_rotateRight_86 : decode cJ5_rotateRight 86 = .ok (.aload_n 1, 1) := dk_43 (dk_at dksJ5_rotateRight_3 15 rfl rfl)
theorem dJ5_rotateRight_87 : decode cJ5_rotateRight 87 = .ok (.putfield 114, 3) := dk_181 0 114 (dk_at dksJ5_rotateRight_3 16 rfl rfl)
theorem dJ5_rotateRight_90 : decode cJ5_rotateRight 90 = .ok (.aload_n 1, 1) := dk_43 (dk_at dksJ5_rotateRight_3 19 rfl rfl)
theorem dJ5_rotateRight_91 : decode cJ5_rotateRight 91 = .ok (.aload_n 2, 1) := dk_44 (dk_at dksJ5_rotateRight_3 20 rfl rfl)
theorem dJ5_rotateRight_92 : decode cJ5_rotateRight 92 = .ok (.putfield 124, 3) := dk_181 0 124 (dk_at dksJ5_rotateRight_3 21 rfl rfl)
theorem dJ5_rotateRight_95 : decode cJ5_rotateRight 95 = .ok (.return_, 1) := dk_177 (dk_at dksJ5_rotateRight_4 0 rfl rfl)
theorem md_J5_rotateRight : xMd yJ5_rotateRight cJ5_rotateRight 3 (Option.none : Option Jvm.ClassFile.FieldType) 1 := ⟨q1384, q132, by decide, by decide +kernel, by decide +kernel, by decide +kernel⟩
def f_J5_rotateRight_85 (a0 : Nat)  (v1 : Option Nat) (v2 : Option Nat) (p0 : PH) : Option (xO × PH) :=
  (xnul v2 none fun b15 =>
  (xpF p0 b15 19 3 (va_rf v1) fun p16 =>
  (xnul v1 none fun b17 =>
  (xpF p16 b17 19 4 (.ref b15) fun p18 =>
  (rV p18)))))
def f_J5_rotateRight_32 (a0 : Nat)  (v1 : Option Nat) (v2 : Option Nat) (p0 : PH) : Option (xO × PH) :=
  (xnul v1 none fun b8 =>
  (xgR p0 b8 19 4 fun x9 =>
  (xnul v2 none fun b10 =>
  (xpF p0 b10 19 4 (va_rf x9) fun p11 =>
  (xgR p11 b8 19 4 fun x12 =>
  (xnul x12 (xpF p11 a0 15 3 (.ref b10) fun p14 =>
  (f_J5_rotateRight_85 a0 ((some b8)) ((some b10)) p14)) fun b13 =>
  (xgR p11 b8 19 4 fun x19 =>
  (xnul x19 none fun b20 =>
  (xgR p11 b20 19 3 fun x21 =>
  (if x21 = (some b8) then
  (xgR p11 b8 19 4 fun x25 =>
  (xnul x25 none fun b26 =>
  (xpF p11 b26 19 3 (.ref b10) fun p27 =>
  (f_J5_rotateRight_85 a0 ((some b8)) ((some b10)) p27)))) else
  (xgR p11 b8 19 4 fun x22 =>
  (xnul x22 none fun b23 =>
  (xpF p11 b23 19 2 (.ref b10) fun p24 =>
  (f_J5_rotateRight_85 a0 ((some b8)) ((some b10)) p24))))))))))))))
def f_J5_rotateRight (p0 : PH) (a0 : Nat) (a1 : Option Nat) : Option (xO × PH) :=
  (xcl1 p0 a0 15 (xnul a1 (rV p0) fun b1 =>
  (xgR p0 b1 19 2 fun x2 =>
  (xnul x2 none fun b3 =>
  (xgR p0 b3 19 3 fun x4 =>
  (xpF p0 b1 19 2 (va_rf x4) fun p5 =>
  (xgR p5 b3 19 3 fun x6 =>
  (xnul x6 (f_J5_rotateRight_32 a0 ((some b1)) ((some b3)) p5) fun b7 =>
  (xgR p5 b3 19 3 fun x28 =>
  (xnul x28 none fun b29 =>
  (xpF p5 b29 19 4 (.ref b1) fun p30 =>
  (f_J5_rotateRight_32 a0 ((some b1)) ((some b3)) p30))))))))))))
theorem rc_J5_rotateRight {p0 : PH} {a0 : Nat} {a1 : Option Nat} : ∀ z, f_J5_rotateRight p0 a0 a1 = some z → xco p0 a0 = some 15 := fun z h => xcl1_some h
theorem f_J5_rotateRight_85_ok {G : xG} (hO : xOK G) (a0 : Nat)  (v1 : Option Nat) (v2 : Option Nat) (p0 : PH) : X G "java/util/TreeMap" "rotateRight" cJ5_rotateRight 3 (Option.none : Option Jvm.ClassFile.FieldType) 0 85 [(1, va_rf v1), (2, va_rf v2)] [] p0 (f_J5_rotateRight_85 a0 v1 v2 p0) := by
  unfold f_J5_rotateRight_85
  refine x_aload_n 1 dJ5_rotateRight_85 rfl rfl (n := 86) rfl ?_
  refine x_aload_n 0 dJ5_rotateRight_86 rfl rfl (n := 87) rfl ?_
  refine x_sm (fun b15 e => ?_)
  subst e
  refine x_pF (pl_J5_114 _ _ (xfit_o (v1))) dJ5_rotateRight_87 (n := 90) rfl (fun p16 => ?_)
  refine x_aload_n 0 dJ5_rotateRight_90 rfl rfl (n := 91) rfl ?_
  refine x_aload_nr 1 dJ5_rotateRight_91 rfl rfl (n := 92) rfl ?_
  refine x_sm (fun b17 e => ?_)
  subst e
  refine x_pF (pl_J5_124 _ _ (xfit_o (some b15))) dJ5_rotateRight_92 (n := 95) rfl (fun p18 => ?_)
  exact x_return dJ5_rotateRight_95
theorem f_J5_rotateRight_32_ok {G : xG} (hO : xOK G) (a0 : Nat)  (v1 : Option Nat) (v2 : Option Nat) (p0 : PH) : X G "java/util/TreeMap" "rotateRight" cJ5_rotateRight 3 (Option.none : Option Jvm.ClassFile.FieldType) 0 32 [(0, .ref a0), (1, va_rf v1), (2, va_rf v2)] [] p0 (f_J5_rotateRight_32 a0 v1 v2 p0) := by
  unfold f_J5_rotateRight_32
  refine x_aload_n 2 dJ5_rotateRight_32 rfl rfl (n := 33) rfl ?_
  refine x_aload_n 1 dJ5_rotateRight_33 rfl rfl (n := 34) rfl ?_
  refine x_sm (fun b8 e => ?_)
  subst e
  refine x_getR fl_J5_124 dJ5_rotateRight_34 (n := 37) rfl (fun x9 => ?_)
  refine x_sm (fun b10 e => ?_)
  subst e
  refine x_pF (pl_J5_124 _ _ (xfit_o (x9))) dJ5_rotateRight_37 (n := 40) rfl (fun p11 => ?_)
  refine x_aload_nr 1 dJ5_rotateRight_40 rfl rfl (n := 41) rfl ?_
  refine x_getR fl_J5_124 dJ5_rotateRight_41 (n := 44) rfl (fun x12 => ?_)
  refine x_ifnonnull dJ5_rotateRight_44 (t := 55) (by decide) (n := 47) rfl (fun e => ?_) (fun b13 e => ?_)
  · subst e
    refine x_aload_nr 0 dJ5_rotateRight_47 rfl rfl (n := 48) rfl ?_
    refine x_aload_nr 2 dJ5_rotateRight_48 rfl rfl (n := 49) rfl ?_
    refine x_pF (pl_J5_101 _ _ (xfit_o (some b10))) dJ5_rotateRight_49 (n := 52) rfl (fun p14 => ?_)
    refine x_goto dJ5_rotateRight_52 (n := 85) (by decide) ?_
    refine x_sub [1, 2] [(1, .ref b8), (2, .ref b10)] rfl ?_
    exact f_J5_rotateRight_85_ok hO a0 ((some b8)) ((some b10)) p14
  · subst e
    refine x_aload_nr 1 dJ5_rotateRight_55 rfl rfl (n := 56) rfl ?_
    refine x_getR fl_J5_124 dJ5_rotateRight_56 (n := 59) rfl (fun x19 => ?_)
    refine x_sm (fun b20 e => ?_)
    subst e
    refine x_getR fl_J5_114 dJ5_rotateRight_59 (n := 62) rfl (fun x21 => ?_)
    refine x_aload_nr 1 dJ5_rotateRight_62 rfl rfl (n := 63) rfl ?_
    refine x_acmp_ne (x := x21) (y := some b8) dJ5_rotateRight_63 (t := 77) (by decide) (n := 66) rfl (fun _ => ?_) (fun _ => ?_)
    · refine x_aload_nr 1 dJ5_rotateRight_77 rfl rfl (n := 78) rfl ?_
      refine x_getR fl_J5_124 dJ5_rotateRight_78 (n := 81) rfl (fun x22 => ?_)
      refine x_aload_nr 2 dJ5_rotateRight_81 rfl rfl (n := 82) rfl ?_
      refine x_sm (fun b23 e => ?_)
      subst e
      refine x_pF (pl_J5_111 _ _ (xfit_o (some b10))) dJ5_rotateRight_82 (n := 85) rfl (fun p24 => ?_)
      refine x_sub [1, 2] [(1, .ref b8), (2, .ref b10)] rfl ?_
      exact f_J5_rotateRight_85_ok hO a0 ((some b8)) ((some b10)) p24
    · refine x_aload_nr 1 dJ5_rotateRight_66 rfl rfl (n := 67) rfl ?_
      refine x_getR fl_J5_124 dJ5_rotateRight_67 (n := 70) rfl (fun x25 => ?_)
      refine x_aload_nr 2 dJ5_rotateRight_70 rfl rfl (n := 71) rfl ?_
      refine x_sm (fun b26 e => ?_)
      subst e
      refine x_pF (pl_J5_114 _ _ (xfit_o (some b10))) dJ5_rotateRight_71 (n := 74) rfl (fun p27 => ?_)
      refine x_goto dJ5_rotateRight_74 (n := 85) (by decide) ?_
      refine x_sub [1, 2] [(1, .ref b8), (2, .ref b10)] rfl ?_
      exact f_J5_rotateRight_85_ok hO a0 ((some b8)) ((some b10)) p27
theorem f_J5_rotateRight_ok {G : xG} (hO : xOK G) (p0 : PH) (a0 : Nat) (a1 : Option Nat) : CT G 0 yJ5_rotateRight cJ5_rotateRight 3 (Option.none : Option Jvm.ClassFile.FieldType) [.ref a0, va_rf a1] p0 (f_J5_rotateRight p0 a0 a1) := by
  refine CT_of hO (by decide +kernel) (by decide +kernel) (lg_slen _ (by simp only [List.map, xcat]; exact Nat.le_of_ble_eq_true rfl)) ?_
  rw [show lv_args 0 [.ref a0, va_rf a1] = [(0, .ref a0), (1, va_rf a1)] from by simp only [lv_args, xcat] <;> rfl]
  show X G "java/util/TreeMap" "rotateRight" cJ5_rotateRight 3 (Option.none : Option Jvm.ClassFile.FieldType) 0 0 [(0, .ref a0), (1, va_rf a1)] [] p0 (f_J5_rotateRight p0 a0 a1)
  refine x_cl1 (fun e0 => ?_)
  refine x_aload_n 1 dJ5_rotateRight_0 rfl rfl (n := 1) rfl ?_
  refine x_ifnull dJ5_rotateRight_1 (t := 95) (by decide) (n := 4) rfl (fun e => ?_) (fun b1 e => ?_)
  · subst e
    exact x_return dJ5_rotateRight_95
  · subst e
    refine x_aload_nr 1 dJ5_rotateRight_4 rfl rfl (n := 5) rfl ?_
    refine x_getR fl_J5_111 dJ5_rotateRight_5 (n := 8) rfl (fun x2 => ?_)
    refine x_astore_n [(2, va_rf x2), (0, .ref a0), (1, .ref b1)] dJ5_rotateRight_8 rfl (by decide) rfl (n := 9) rfl ?_
    refine x_aload_nr 2 dJ5_rotateRight_9 rfl rfl (n := 10) rfl ?_
    refine x_aload_n 0 dJ5_rotateRight_10 rfl rfl (n := 11) rfl ?_
    refine x_sm (fun b3 e => ?_)
    subst e
    refine x_getR fl_J5_114 dJ5_rotateRight_11 (n := 14) rfl (fun x4 => ?_)
    refine x_pF (pl_J5_111 _ _ (xfit_o (x4))) dJ5_rotateRight_14 (n := 17) rfl (fun p5 => ?_)
    refine x_aload_nr 0 dJ5_rotateRight_17 rfl rfl (n := 18) rfl ?_
    refine x_getR fl_J5_114 dJ5_rotateRight_18 (n := 21) rfl (fun x6 => ?_)
    refine x_ifnull dJ5_rotateRight_21 (t := 32) (by decide) (n := 24) rfl (fun e => ?_) (fun b7 e => ?_)
    · subst e
      refine x_sub [1, 2, 0] [(0, .ref a0), (1, .ref b1), (2, .ref b3)] rfl ?_
      exact f_J5_rotateRight_32_ok hO a0 ((some b1)) ((some b3)) p5
    · subst e
      refine x_aload_nr 0 dJ5_rotateRight_24 rfl rfl (n := 25) rfl ?_
      refine x_getR fl_J5_114 dJ5_rotateRight_25 (n := 28) rfl (fun x28 => ?_)
      refine x_aload_nr 2 dJ5_rotateRight_28 rfl rfl (n := 29) rfl ?_
      refine x_sm (fun b29 e => ?_)
      subst e
      refine x_pF (pl_J5_124 _ _ (xfit_o (some b1))) dJ5_rotateRight_29 (n := 32) rfl (fun p30 => ?_)
      refine x_sub [1, 2, 0] [(0, .ref a0), (1, .ref b1), (2, .ref b3)] rfl ?_
      exact f_J5_rotateRight_32_ok hO a0 ((some b1)) ((some b3)) p30
abbrev cJ5_fixAfterInsertion : ByteArray := prog_77_method_83_code
def yJ5_fixAfterInsertion : MethodName := ⟨RJ5, "fixAfterInsertion", "(Ljava/util/TreeMap$Entry;)V"⟩
def dkwJ5_fixAfterInsertion_11 : List UInt8 := [42, 180, 0, 101, 4, 181, 1, 34, 177]
abbrev dktJ5_fixAfterInsertion_11 : List UInt8 := dkwJ5_fixAfterInsertion_11 ++ []
def dkwJ5_fixAfterInsertion_10 : List UInt8 := [184, 1, 38, 184, 1, 38, 3, 184, 1, 51, 42, 43, 184, 1, 38, 184, 1, 38, 182, 1, 55, 167, 255, 6]
abbrev dktJ5_fixAfterInsertion_10 : List UInt8 := dkwJ5_fixAfterInsertion_10 ++ dktJ5_fixAfterInsertion_11
def dkwJ5_fixAfterInsertion_9 : List UInt8 := [166, 0, 13, 43, 184, 1, 38, 76, 42, 43, 182, 1, 58, 43, 184, 1, 38, 4, 184, 1, 51, 43]
abbrev dktJ5_fixAfterInsertion_9 : List UInt8 := dkwJ5_fixAfterInsertion_9 ++ dktJ5_fixAfterInsertion_10
def dkwJ5_fixAfterInsertion_8 : List UInt8 := [184, 1, 51, 43, 184, 1, 38, 184, 1, 38, 76, 167, 0, 54, 43, 43, 184, 1, 38, 184, 1, 41]
abbrev dktJ5_fixAfterInsertion_8 : List UInt8 := dkwJ5_fixAfterInsertion_8 ++ dktJ5_fixAfterInsertion_9
def dkwJ5_fixAfterInsertion_7 : List UInt8 := [154, 0, 38, 43, 184, 1, 38, 4, 184, 1, 51, 44, 4, 184, 1, 51, 43, 184, 1, 38, 184, 1, 38, 3]
abbrev dktJ5_fixAfterInsertion_7 : List UInt8 := dkwJ5_fixAfterInsertion_7 ++ dktJ5_fixAfterInsertion_8
def dkwJ5_fixAfterInsertion_6 : List UInt8 := [184, 1, 38, 182, 1, 58, 167, 255, 113, 43, 184, 1, 38, 184, 1, 38, 184, 1, 41, 77, 44, 184, 1, 47]
abbrev dktJ5_fixAfterInsertion_6 : List UInt8 := dkwJ5_fixAfterInsertion_6 ++ dktJ5_fixAfterInsertion_7
def dkwJ5_fixAfterInsertion_5 : List UInt8 := [43, 184, 1, 38, 4, 184, 1, 51, 43, 184, 1, 38, 184, 1, 38, 3, 184, 1, 51, 42, 43, 184, 1, 38]
abbrev dktJ5_fixAfterInsertion_5 : List UInt8 := dkwJ5_fixAfterInsertion_5 ++ dktJ5_fixAfterInsertion_6
def dkwJ5_fixAfterInsertion_4 : List UInt8 := [167, 0, 54, 43, 43, 184, 1, 38, 184, 1, 44, 166, 0, 13, 43, 184, 1, 38, 76, 42, 43, 182, 1, 55]
abbrev dktJ5_fixAfterInsertion_4 : List UInt8 := dkwJ5_fixAfterInsertion_4 ++ dktJ5_fixAfterInsertion_5
def dkwJ5_fixAfterInsertion_3 : List UInt8 := [184, 1, 51, 43, 184, 1, 38, 184, 1, 38, 3, 184, 1, 51, 43, 184, 1, 38, 184, 1, 38, 76]
abbrev dktJ5_fixAfterInsertion_3 : List UInt8 := dkwJ5_fixAfterInsertion_3 ++ dktJ5_fixAfterInsertion_4
def dkwJ5_fixAfterInsertion_2 : List UInt8 := [184, 1, 38, 184, 1, 44, 77, 44, 184, 1, 47, 154, 0, 38, 43, 184, 1, 38, 4, 184, 1, 51, 44, 4]
abbrev dktJ5_fixAfterInsertion_2 : List UInt8 := dkwJ5_fixAfterInsertion_2 ++ dktJ5_fixAfterInsertion_3
def dkwJ5_fixAfterInsertion_1 : List UInt8 := [154, 0, 234, 43, 184, 1, 38, 43, 184, 1, 38, 184, 1, 38, 184, 1, 41, 166, 0, 110, 43, 184, 1, 38]
abbrev dktJ5_fixAfterInsertion_1 : List UInt8 := dkwJ5_fixAfterInsertion_1 ++ dktJ5_fixAfterInsertion_2
def dkwJ5_fixAfterInsertion_0 : List UInt8 := [43, 3, 181, 1, 34, 43, 198, 0, 252, 43, 42, 180, 0, 101, 165, 0, 244, 43, 180, 0, 124, 180, 1, 34]
abbrev dktJ5_fixAfterInsertion_0 : List UInt8 := dkwJ5_fixAfterInsertion_0 ++ dktJ5_fixAfterInsertion_1
theorem dksJ5_fixAfterInsertion_0 : cJ5_fixAfterInsertion.data.toList.drop 0 = dktJ5_fixAfterInsertion_0 := by decide +kernel
theorem dksJ5_fixAfterInsertion_1 : cJ5_fixAfterInsertion.data.toList.drop 24 = dktJ5_fixAfterInsertion_1 := dk_seg dksJ5_fixAfterInsertion_0 24 rfl rfl
theorem dksJ5_fixAfterInsertion_2 : cJ5_fixAfterInsertion.data.toList.drop 48 = dktJ5_fixAfterInsertion_2 := dk_seg dksJ5_fixAfterInsertion_1 24 rfl rfl
theorem dksJ5_fixAfterInsertion_3 : cJ5_fixAfterInsertion.data.toList.drop 72 = dktJ5_fixAfterInsertion_3 := dk_seg dksJ5_fixAfterInsertion_2 24 rfl rfl
theorem dksJ5_fixAfterInsertion_4 : cJ5_fixAfterInsertion.data.toList.drop 94 = dktJ5_fixAfterInsertion_4 := dk_seg dksJ5_fixAfterInsertion_3 22 rfl rfl
theorem dksJ5_fixAfterInsertion_5 : cJ5_fixAfterInsertion.data.toList.drop 118 = dktJ5_fixAfterInsertion_5 := dk_seg dksJ5_fixAfterInsertion_4 24 rfl rfl
theorem dksJ5_fixAfterInsertion_6 : cJ5_fixAfterInsertion.data.toList.drop 142 = dktJ5_fixAfterInsertion_6 := dk_seg dksJ5_fixAfterInsertion_5 24 rfl rfl
theorem dksJ5_fixAfterInsertion_7 : cJ5_fixAfterInsertion.data.toList.drop 166 = dktJ5_fixAfterInsertion_7 := dk_seg dksJ5_fixAfterInsertion_6 24 rfl rfl
theorem dksJ5_fixAfterInsertion_8 : cJ5_fixAfterInsertion.data.toList.drop 190 = dktJ5_fixAfterInsertion_8 := dk_seg dksJ5_fixAfterInsertion_7 24 rfl rfl
theorem dksJ5_fixAfterInsertion_9 : cJ5_fixAfterInsertion.data.toList.drop 212 = dktJ5_fixAfterInsertion_9 := dk_seg dksJ5_fixAfterInsertion_8 22 rfl rfl
theorem dksJ5_fixAfterInsertion_10 : cJ5_fixAfterInsertion.data.toList.drop 234 = dktJ5_fixAfterInsertion_10 := dk_seg dksJ5_fixAfterInsertion_9 22 rfl rfl
theorem dksJ5_fixAfterInsertion_11 : cJ5_fixAfterInsertion.data.toList.drop 258 = dktJ5_fixAfterInsertion_11 := dk_seg dksJ5_fixAfterInsertion_10 24 rfl rfl
theorem dJ5_fixAfterInsertion_0 : decode cJ5_fixAfterInsertion 0 = .ok (.aload_n 1, 1) := dk_43 (dk_at dksJ5_fixAfterInsertion_0 0 rfl rfl)
theorem dJ5_fixAfterInsertion_1 : decode cJ5_fixAfterInsertion 1 = .ok (.iconst 0, 1) := dk_3 (dk_at dksJ5_fixAfterInsertion_0 1 rfl rfl)
theorem dJ5_fixAfterInsertion_2 : decode cJ5_fixAfterInsertion 2 = .ok (.putfield 290, 3) := dk_181 1 34 (dk_at dksJ5_fixAfterInsertion_0 2 rfl rfl)
theorem dJ5_fixAfterInsertion_5 : decode cJ5_fixAfterInsertion 5 = .ok (.aload_n 1, 1) := dk_43 (dk_at dksJ5_fixAfterInsertion_0 5 rfl rfl)
theorem dJ5_fixAfterInsertion_6 : decode cJ5_fixAfterInsertion 6 = .ok (.ifnull 252, 3) := dk_198 0 252 (dk_at dksJ5_fixAfterInsertion_0 6 rfl rfl)
theorem dJ5_fixAfterInsertion_9 : decode cJ5_fixAfterInsertion 9 = .ok (.aload_n 1, 1) := dk_43 (dk_at dksJ5_fixAfterInsertion_0 9 rfl rfl)
theorem dJ5_fixAfterInsertion_10 : decode cJ5_fixAfterInsertion 10 = .ok (.aload_n 0, 1) := dk_42 (dk_at dksJ5_fixAfterInsertion_0 10 rfl rfl)
theorem dJ5_fixAfterInsertion_11 : decode cJ5_fixAfterInsertion 11 = .ok (.getfield 101, 3) := dk_180 0 101 (dk_at dksJ5_fixAfterInsertion_0 11 rfl rfl)
theorem dJ5_fixAfterInsertion_14 : decode cJ5_fixAfterInsertion 14 = .ok (.if_acmp .eq 244, 3) := dk_165 0 244 (dk_at dksJ5_fixAfterInsertion_0 14 rfl rfl)
theorem dJ5_fixAfterInsertion_17 : decode cJ5_fixAfterInsertion 17 = .ok (.aload_n 1, 1) := dk_43 (dk_at dksJ5_fixAfterInsertion_0 17 rfl rfl)
theorem dJ5_fixAfterInsertion_18 : decode cJ5_fixAfterInsertion 18 = .ok (.getfield 124, 3) := dk_180 0 124 (dk_at dksJ5_fixAfterInsertion_0 18 rfl rfl)
theorem dJ5_fixAfterInsertion_21 : decode cJ5_fixAfterInsertion 21 = .ok (.getfield 290, 3) := dk_180 1 34 (dk_at dksJ5_fixAfterInsertion_0 21 rfl rfl)
theorem dJ5_fixAfterInsertion_24 : decode cJ5_fixAfterInsertion 24 = .ok (.ifCond .ne 234, 3) := dk_154 0 234 (dk_at dksJ5_fixAfterInsertion_1 0 rfl rfl)
theorem dJ5_fixAfterInsertion_27 : decode cJ5_fixAfterInsertion 27 = .ok (.aload_n 1, 1) := dk_43 (dk_at dksJ5_fixAfterInsertion_1 3 rfl rfl)
theorem dJ5_fixAfterInsertion_28 : decode cJ5_fixAfterInsertion 28 = .ok (.invokestatic 294, 3) := dk_184 1 38 (dk_at dksJ5_fixAfterInsertion_1 4 rfl rfl)
theorem dJ5_fixAfterInsertion_31 : decode cJ5_fixAfterInsertion 31 = .ok (.aload_n 1, 1) := dk_43 (dk_at dksJ5_fixAfterInsertion_1 7 rfl rfl)
theorem dJ5_fixAfterInsertion_32 : decode cJ5_fixAfterInsertion 32 = .ok (.invokestatic 294, 3) := dk_184 1 38 (dk_at dksJ5_fixAfterInsertion_1 8 rfl rfl)
theorem dJ5_fixAfterInsertion_35 : decode cJ5_fixAfterInsertion 35 = .ok (.invokestatic 294, 3) := dk_184 1 38 (dk_at dksJ5_fixAfterInsertion_1 11 rfl rfl)
theorem dJ5_fixAfterInsertion_38 : decode cJ5_fixAfterInsertion 38 = .ok (.invokestatic 297, 3) := dk_184 1 41 (dk_at dksJ5_fixAfterInsertion_1 14 rfl rfl)
theorem dJ5_fixAfterInsertion_41 : decode cJ5_fixAfterInsertion 41 = .ok (.if_acmp .ne 110, 3) := dk_166 0 110 (dk_at dksJ5_fixAfterInsertion_1 17 rfl rfl)
theorem dJ5_fixAfterInsertion_44 : decode cJ5_fixAfterInsertion 44 = .ok (.aload_n 1, 1) := dk_43 (dk_at dksJ5_fixAfterInsertion_1 20 rfl rfl)
theorem dJ5_fixAfterInsertion_45 : decode cJ5_fixAfterInsertion 45 = .ok (.invokestatic 294, 3) := dk_184 1 38 (dk_at dksJ5_fixAfterInsertion_1 21 rfl rfl)
theorem dJ5_fixAfterInsertion_48 : decode cJ5_fixAfterInsertion 48 = .ok (.invokestatic 294, 3) := dk_184 1 38 (dk_at dksJ5_fixAfterInsertion_2 0 rfl rfl)
theorem dJ5_fixAfterInsertion_51 : decode cJ5_fixAfterInsertion 51 = .ok (.invokestatic 300, 3) := dk_184 1 44 (dk_at dksJ5_fixAfterInsertion_2 3 rfl rfl)
theorem dJ5_fixAfterInsertion_54 : decode cJ5_fixAfterInsertion 54 = .ok (.astore_n 2, 1) := dk_77 (dk_at dksJ5_fixAfterInsertion_2 6 rfl rfl)
theorem dJ5_fixAfterInsertion_55 : decode cJ5_fixAfterInsertion 55 = .ok (.aload_n 2, 1) := dk_44 (dk_at dksJ5_fixAfterInsertion_2 7 rfl rfl)
theorem dJ5_fixAfterInsertion_56 : decode cJ5_fixAfterInsertion 56 = .ok (.invokestatic 303, 3) := dk_184 1 47 (dk_at dksJ5_fixAfterInsertion_2 8 rfl rfl)
theorem dJ5_fixAfterInsertion_59 : decode cJ5_fixAfterInsertion 59 = .ok (.ifCond .ne 38, 3) := dk_154 0 38 (dk_at dksJ5_fixAfterInsertion_2 11 rfl rfl)
theorem dJ5_fixAfterInsertion_62 : decode cJ5_fixAfterInsertion 62 = .ok (.aload_n 1, 1) := dk_43 (dk_at dksJ5_fixAfterInsertion_2 14 rfl rfl)
theorem dJ5_fixAfterInsertion_63 : decode cJ5_fixAfterInsertion 63 = .ok (.invokestatic 294, 3) := dk_184 1 38 (dk_at dksJ5_fixAfterInsertion_2 15 rfl rfl)
theorem dJ5_fixAfterInsertion_66 : decode cJ5_fixAfterInsertion 66 = .ok (.iconst 1, 1) := dk_4 (dk_at dksJ5_fixAfterInsertion_2 18 rfl rfl)
theorem dJ5_fixAfterInsertion_67 : decode cJ5_fixAfterInsertion 67 = .ok (.invokestatic 307, 3) := dk_184 1 51 (dk_at dksJ5_fixAfterInsertion_2 19 rfl rfl)
theorem dJ5_fixAfterInsertion_70 : decode cJ5_fixAfterInsertion 70 = .ok (.aload_n 2, 1) := dk_44 (dk_at dksJ5_fixAfterInsertion_2 22 rfl rfl)
theorem dJ5_fixAfterInsertion_71 : decode cJ5_fixAfterInsertion 71 = .ok (.iconst 1, 1) := dk_4 (dk_at dksJ5_fixAfterInsertion_2 23 rfl rfl)
theorem dJ5_fixAfterInsertion_72 : decode cJ5_fixAfterInsertion 72 = .ok (.invokestatic 307, 3) := dk_184 1 51 (dk_at dksJ5_fixAfterInsertion_3 0 rfl rfl)
theorem dJ5_fixAfterInsertion_75 : decode cJ5_fixAfterInsertion 75 = .ok (.aload_n 1, 1) := dk_43 (dk_at dksJ5_fixAfterInsertion_3 3 rfl rfl)
theorem dJ5_fixAfterInsertion_76 : decode cJ5_fixAfterInsertion 76 = .ok (.invokestatic 294, 3) := dk_184 1 38 (dk_at dksJ5_fixAfterInsertion_3 4 rfl rfl)
theorem dJ5_fixAfterInsertion_79 : decode cJ5_fixAfterInsertion 79 = .ok (.invokestatic 294, 3) := dk_184 1 38 (dk_at dksJ5_fixAfterInsertion_3 7 rfl rfl)
theorem dJ5_fixAfterInsertion_82 : decode cJ5_fixAfterInsertion 82 = .ok (.iconst 0, 1) := dk_3 (dk_at dksJ5_fixAfterInsertion_3 10 rfl rfl)
theorem dJ5_fixAfterInsertion_83 : decode cJ5_fixAfterInsertion 83 = .ok (.invokestatic 307, 3) := dk_184 1 51 (dk_at dksJ5_fixAfterInsertion_3 11 rfl rfl)
theorem dJ5_fixAfterInsertion_86 : decode cJ5_fixAfterInsertion 86 = .ok (.aload_n 1, 1) := dk_43 (dk_at dksJ5_fixAfterInsertion_3 14 rfl rfl)
theorem dJ5_fixAfterInsertion_87 : decode cJ5_fixAfterInsertion 87 = .ok (.invokestatic 294, 3) := dk_184 1 38 (dk_at dksJ5_fixAfterInsertion_3 15 rfl rfl)
theorem dJ5_fixAfterInsertion_90 : decode cJ5_fixAfterInsertion 90 = .ok (.invokestatic 294, 3) := dk_184 1 38 (dk_at dksJ5_fixAfterInsertion_3 18 rfl rfl)
theorem dJ5_fixAfterInsertion_93 : decode cJ5_fixAfterInsertion 93 = .ok (.astore_n 1, 1) := dk_76 (dk_at dksJ5_fixAfterInsertion_3 21 rfl rfl)
theorem dJ5_fixAfterInsertion_94 : decode cJ5_fixAfterInsertion 94 = .ok (.goto 54, 3) := dk_167 0 54 (dk_at dksJ5_fixAfterInsertion_4 0 rfl rfl)
theorem dJ5_fixAfterInsertion_97 : decode cJ5_fixAfterInsertion 97 = .ok (.aload_n 1, 1) := dk_43 (dk_at dksJ5_fixAfterInsertion_4 3 rfl rfl)
theorem dJ5_fixAfterInsertion_98 : decode cJ5_fixAfterInsertion 98 = .ok (.aload_n 1, 1) := dk_43 (dk_at dksJ5_fixAfterInsertion_4 4 rfl rfl)
theorem dJ5_fixAfterInsertion_99 : decode cJ5_fixAfterInsertion 99 = .ok (.invokestatic 294, 3) := dk_184 1 38 (dk_at dksJ5_fixAfterInsertion_4 5 rfl rfl)
theorem dJ5_fixAfterInsertion_102 : decode cJ5_fixAfterInsertion 102 = .ok (.invokestatic 300, 3) := dk_184 1 44 (dk_at dksJ5_fixAfterInsertion_4 8 rfl rfl)
theorem dJ5_fixAfterInsertion_105 : decode cJ5_fixAfterInsertion 105 = .ok (.if_acmp .ne 13, 3) := dk_166 0 13 (dk_at dksJ5_fixAfterInsertion_4 11 rfl rfl)
theorem dJ5_fixAfterInsertion_108 : decode cJ5_fixAfterInsertion 108 = .ok (.aload_n 1, 1) := dk_43 (dk_at dksJ5_fixAfterInsertion_4 14 rfl rfl)
theorem dJ5_fixAfterInsertion_109 : decode cJ5_fixAfterInsertion 109 = .ok (.invokestatic 294, 3) := dk_184 1 38 (dk_at dksJ5_fixAfterInsertion_4 15 rfl rfl)
theorem dJ5_fixAfterInsertion_112 : decode cJ5_fixAfterInsertion 112 = .ok (.astore_n 1, 1) := dk_76 (dk_at dksJ5_fixAfterInsertion_4 18 rfl rfl)
theorem dJ5_fixAfterInsertion_113 : decode cJ5_fixAfterInsertion 113 = .ok (.aload_n 0, 1) := dk_42 (dk_at dksJ5_fixAfterInsertion_4 19 rfl rfl)
theorem dJ5_fixAfterInsertion_114 : decode cJ5_fixAfterInsertion 114 = .ok (.aload_n 1, 1) := dk_43 (dk_at dksJ5_fixAfterInsertion_4 20 rfl rfl)
theorem dJ5_fixAfterInsertion_115 : decode cJ5_fixAfterInsertion 115 = .ok (.invokevirtual 311, 3) := dk_182 1 55 (dk_at dksJ5_fixAfterInsertion_4 21 rfl rfl)
theorem dJ5_fixAfterInsertion_118 : decode cJ5_fixAfterInsertion 118 = .ok (.aload_n 1, 1) := dk_43 (dk_at dksJ5_fixAfterInsertion_5 0 rfl rfl)
theorem dJ5_fixAfterInsertion_119 : decode cJ5_fixAfterInsertion 119 = .ok (.invokestatic 294, 3) := dk_184 1 38 (dk_at dksJ5_fixAfterInsertion_5 1 rfl rfl)
theorem dJ5_fixAfterInsertion_122 : decode cJ5_fixAfterInsertion 122 = .ok (.iconst 1, 1) := dk_4 (dk_at dksJ5_fixAfterInsertion_5 4 rfl rfl)
theorem dJ5_fixAfterInsertion_123 : decode cJ5_fixAfterInsertion 123 = .ok (.invokestatic 307, 3) := dk_184 1 51 (dk_at dksJ5_fixAfterInsertion_5 5 rfl rfl)
theorem dJ5_fixAfterInsertion_126 : decode cJ5_fixAfterInsertion 126 = .ok (.aload_n 1, 1) := dk_43 (dk_at dksJ5_fixAfterInsertion_5 8 rfl rfl)
theorem dJ5_fixAfterInsertion_127 : decode cJ5_fixAfterInsertion 127 = .ok (.invokestatic 294, 3) := dk_184 1 38 (dk_at dksJ5_fixAfterInsertion_5 9 rfl rfl)
theorem dJ5_fixAfterInsertion_130 : decode cJ5_fixAfterInsertion 130 = .ok (.invokestatic 294, 3) := dk_184 1 38 (dk_at dksJ5_fixAfterInsertion_5 12 rfl rfl)
theorem dJ5_fixAfterInsertion_133 : decode cJ5_fixAfterInsertion 133 = .ok (.iconst 0, 1) := dk_3 (dk_at dksJ5_fixAfterInsertion_5 15 rfl rfl)
theorem dJ5_fixAfterInsertion_134 : decode cJ5_fixAfterInsertion 134 = .ok (.invokestatic 307, 3) := dk_184 1 51 (dk_at dksJ5_fixAfterInsertion_5 16 rfl rfl)
theorem dJ5_fixAfterInsertion_137 : decode cJ5_fixAfterInsertion 137 = .ok (.aload_n 0, 1) := dk_42 (dk_at dksJ5_fixAfterInsertion_5 19 rfl rfl)
theorem dJ5_fixAfterInsertion_138 : decode cJ5_fixAfterInsertion 138 = .ok (.aload_n 1, 1) := dk_43 (dk_at dksJ5_fixAfterInsertion_5 20 rfl rfl)
theorem dJ5_fixAfterInsertion_139 : decode cJ5_fixAfterInsertion 139 = .ok (.invokestatic 294, 3) := dk_184 1 38 (dk_at dksJ5_fixAfterInsertion_5 21 rfl rfl)
theorem dJ5_fixAfterInsertion_142 : decode cJ5_fixAfterInsertion 142 = .ok (.invokestatic 294, 3) := dk_184 1 38 (dk_at dksJ5_fixAfterInsertion_6 0 rfl rfl)
theorem dJ5_fixAfterInsertion_145 : decode cJ5_fixAfterInsertion 145 = .ok (.invokevirtual 314, 3) := dk_182 1 58 (dk_at dksJ5_fixAfterInsertion_6 3 rfl rfl)
theorem dJ5_fixAfterInsertion_148 : decode cJ5_fixAfterInsertion 148 = .ok (.goto (-143), 3) := dk_167 255 113 (dk_at dksJ5_fixAfterInsertion_6 6 rfl rfl)
theorem dJ5_fixAfterInsertion_151 : decode cJ5_fixAfterInsertion 151 = .ok (.aload_n 1, 1) := dk_43 (dk_at dksJ5_fixAfterInsertion_6 9 rfl rfl)
theorem dJ5_fixAfterInsertion_152 : decode cJ5_fixAfterInsertion 152 = .ok (.invokestatic 294, 3) := dk_184 1 38 (dk_at dksJ5_fixAfterInsertion_6 10 rfl rfl)
theorem dJ5_fixAfterInsertion_155 : decode cJ5_fixAfterInsertion 155 = .ok (.invokestatic 294, 3) := dk_184 1 38 (dk_at dksJ5_fixAfterInsertion_6 13 rfl rfl)
theorem dJ5_fixAfterInsertion_158 : decode cJ5_fixAfterInsertion 158 = .ok (.invokestatic 297, 3) := dk_184 1 41 (dk_at dksJ5_fixAfterInsertion_6 16 rfl rfl)
theorem dJ5_fixAfterInsertion_161 : decode cJ5_fixAfterInsertion 161 = .ok (.astore_n 2, 1) := dk_77 (dk_at dksJ5_fixAfterInsertion_6 19 rfl rfl)
theorem dJ5_fixAfterInsertion_162 : decode cJ5_fixAfterInsertion 162 = .ok (.aload_n 2, 1) := dk_44 (dk_at dksJ5_fixAfterInsertion_6 20 rfl rfl)
theorem dJ5_fixAfterInsertion_163 : decode cJ5_fixAfterInsertion 163 = .ok (.invokestatic 303, 3) := dk_184 1 47 (dk_at dksJ5_fixAfterInsertion_6 21 rfl rfl)
theorem dJ5_fixAfterInsertion_166 : decode cJ5_fixAfterInsertion 166 = .ok (.ifCond .ne 38, 3) := dk_154 0 38 (dk_at dksJ5_fixAfterInsertion_7 0 rfl rfl)
theorem dJ5_fixAfterInsertion_169 : decode cJ5_fixAfterInsertion 169 = .ok (.aload_n 1, 1) := dk_43 (dk_at dksJ5_fixAfterInsertion_7 3 rfl rfl)
theorem dJ5_fixAfterInsertion_170 : decode cJ5_fixAfterInsertion 170 = .ok (.invokestatic 294, 3) := dk_184 1 38 (dk_at dksJ5_fixAfterInsertion_7 4 rfl rfl)
theorem dJ5_fixAfterInsertion_173 : decode cJ5_fixAfterInsertion 173 = .ok (.iconst 1, 1) := dk_4 (dk_at dksJ5_fixAfterInsertion_7 7 rfl rfl)
theorem dJ5_fixAfterInsertion_174 : decode cJ5_fixAfterInsertion 174 = .ok (.invokestatic 307, 3) := dk_184 1 51 (dk_at dksJ5_fixAfterInsertion_7 8 rfl rfl)
theorem dJ5_fixAfterInsertion_177 : decode cJ5_fixAfterInsertion 177 = .ok (.aload_n 2, 1) := dk_44 (dk_at dksJ5_fixAfterInsertion_7 11 rfl rfl)
theorem dJ5_fixAfterInsertion_178 : decode cJ5_fixAfterInsertion 178 = .ok (.iconst 1, 1) := dk_4 (dk_at dksJ5_fixAfterInsertion_7 12 rfl rfl)
theorem dJ5_fixAfterInsertion_179 : decode cJ5_fixAfterInsertion 179 = .ok (.invokestatic 307, 3) := dk_184 1 51 (dk_at dksJ5_fixAfterInsertion_7 13 rfl rfl)
theorem dJ5_fixAfterInsertion_182 : decode cJ5_fixAfterInsertion 182 = .ok (.aload_n 1, 1) := dk_43 (dk_at dksJ5_fixAfterInsertion_7 16 rfl rfl)
theorem dJ5_fixAfterInsertion_183 : decode cJ5_fixAfterInsertion 183 = .ok (.invokestatic 294, 3) := dk_184 1 38 (dk_at dksJ5_fixAfterInsertion_7 17 rfl rfl)
theorem dJ5_fixAfterInsertion_186 : decode cJ5_fixAfterInsertion 186 = .ok (.invokestatic 294, 3) := dk_184 1 38 (dk_at dksJ5_fixAfterInsertion_7 20 rfl rfl)
theorem dJ5_fixAfterInsertion_189 : decode cJ5_fixAfterInsertion 189 = .ok (.iconst 0, 1) := dk_3 (dk_at dksJ5_fixAfterInsertion_7 23 rfl rfl)
theorem dJ5_fixAfterInsertion_190 : decode cJ5_fixAfterInsertion 190 = .ok (.invokestatic 307, 3) := dk_184 1 51 (dk_at dksJ5_fixAfterInsertion_8 0 rfl rfl)
theorem dJ5_fixAfterInsertion_193 : decode cJ5_fixAfterInsertion 193 = .ok (.aload_n 1, 1) := dk_43 (dk_at dksJ5_fixAfterInsertion_8 3 rfl rfl)
theorem dJ5_fixAfterInsertion_194 : decode cJ5_fixAfterInsertion 194 = .ok (.invokestatic 294, 3) := dk_184 1 38 (dk_at dksJ5_fixAfterInsertion_8 4 rfl rfl)
theorem dJ5_fixAfterInsertion_197 : decode cJ5_fixAfterInsertion 197 = .ok (.invokestatic 294, 3) := dk_184 1 38 (dk_at dksJ5_fixAfterInsertion_8 7 rfl rfl)
theorem dJ5_fixAfterInsertion_200 : decode cJ5_fixAfterInsertion 200 = .ok (.astore_n 1, 1) := dk_76 (dk_at dksJ5_fixAfterInsertion_8 10 rfl rfl)
theorem dJ5_fixAfterInsertion_201 : decode cJ5_fixAfterInsertion 201 = .ok (.goto 54, 3) := dk_167 0 54 (dk_at dksJ5_fixAfterInsertion_8 11 rfl rfl)
theorem dJ5_fixAfterInsertion_204 : decode cJ5_fixAfterInsertion 204 = .ok (.aload_n 1, 1) := dk_43 (dk_at dksJ5_fixAfterInsertion_8 14 rfl rfl)
theorem dJ5_fixAfterInsertion_205 : decode cJ5_fixAfterInsertion 205 = .ok (.aload_n 1, 1) := dk_43 (dk_at dksJ5_fixAfterInsertion_8 15 rfl rfl)
theorem dJ5_fixAfterInsertion_206 : decode cJ5_fixAfterInsertion 206 = .ok (.invokestatic 294, 3) := dk_184 1 38 (dk_at dksJ5_fixAfterInsertion_8 16 rfl rfl)
theorem dJ5_fixAfterInsertion_209 : decode cJ5_fixAfterInsertion 209 = .ok (.invokestatic 297, 3) := dk_184 1 41 (dk_at dksJ5_fixAfterInsertion_8 19 rfl rfl)
theorem dJ5_fixAfterInsertion_212 : decode cJ5_fixAfterInsertion 212 = .ok (.if_acmp .ne 13, 3) := dk_166 0 13 (dk_at dksJ5_fixAfterInsertion_9 0 rfl rfl)
theorem dJ5_fixAfterInsertion_215 : decode cJ5_fixAfterInsertion 215 = .ok (.aload_n 1, 1) := dk_43 (dk_at dksJ5_fixAfterInsertion_9 3 rfl rfl)
theorem dJ5_fixAfterInsertion_216 : decode cJ5_fixAfterInsertion 216 = .ok (.invokestatic 294, 3) := dk_184 1 38 (dk_at dksJ5_fixAfterInsertion_9 4 rfl rfl)
theorem dJ5_fixAfterInsertion_219 : decode cJ5_fixAfterInsertion 219 = .ok (.astore_n 1, 1) := dk_76 (dk_at dksJ5_fixAfterInsertion_9 7 rfl rfl)
theorem dJ5_fixAfterInsertion_220 : decode cJ5_fixAfterInsertion 220 = .ok (.aload_n 0, 1) := dk_42 (dk_at dksJ5_fixAfterInsertion_9 8 rfl rfl)
theorem dJ5_fixAfterInsertion_221 : decode cJ5_fixAfterInsertion 221 = .ok (.aload_n 1, 1) := dk_43 (dk_at dksJ5_fixAfterInsertion_9 9 rfl rfl)
theorem dJ5_fixAfterInsertion_222 : decode cJ5_fixAfterInsertion 222 = .ok (.invokevirtual 314, 3) := dk_182 1 58 (dk_at dksJ5_fixAfterInsertion_9 10 rfl rfl)
theorem dJ5_fixAfterInsertion_225 : decode cJ5_fixAfterInsertion 225 = .ok (.aload_n 1, 1) := dk_43 (dk_at dksJ5_fixAfterInsertion_9 13 rfl rfl)
theorem dJ5_fixAfterInsertion_226 : decode cJ5_fixAfterInsertion 226 = .ok (.invokestatic 294, 3) := dk_184 1 38 (dk_at dksJ5_fixAfterInsertion_9 14 rfl rfl)
theorem dJ5_fixAfterInsertion_229 : decode cJ5_fixAfterInsertion 229 = .ok (.iconst 1, 1) := dk_4 (dk_at dksJ5_fixAfterInsertion_9 17 rfl rfl)
theorem dJ5_fixAfterInsertion_230 : decode cJ5_fixAfterInsertion 230 = .ok (.invokestatic 307, 3) := dk_184 1 51 (dk_at dksJ5_fixAfterInsertion_9 18 rfl rfl)
theorem dJ5_fixAfterInsertion_233 : decode cJ5_fixAfterInsertion 233 = .ok (.aload_n 1, 1) := dk_43 (dk_at dksJ5_fixAfterInsertion_9 21 rfl rfl)
theorem dJ5_fixAfterInsertion_234 : decode cJ5_fixAfterInsertion 234 = .ok (.invokestatic 294, 3) := dk_184 1 38 (dk_at dksJ5_fixAfterInsertion_10 0 rfl rfl)
theorem dJ5_fixAfterInsertion_237 : decode cJ5_fixAfterInsertion 237 = .ok (.invokestatic 294, 3) := dk_184 1 38 (dk_at dksJ5_fixAfterInsertion_10 3 rfl rfl)
theorem dJ5_fixAfterInsertion_240 : decode cJ5_fixAfterInsertion 240 = .ok (.iconst 0, 1) := dk_3 (dk_at dksJ5_fixAfterInsertion_10 6 rfl rfl)
theorem dJ5_fixAfterInsertion_241 : decode cJ5_fixAfterInsertion 241 = .ok (.invokestatic 307, 3) := dk_184 1 51 (dk_at dksJ5_fixAfterInsertion_10 7 rfl rfl)
theorem dJ5_fixAfterInsertion_244 : decode cJ5_fixAfterInsertion 244 = .ok (.aload_n 0, 1) := dk_42 (dk_at dksJ5_fixAfterInsertion_10 10 rfl rfl)
theorem dJ5_fixAfterInsertion_245 : decode cJ5_fixAfterInsertion 245 = .ok (.aload_n 1, 1) := dk_43 (dk_at dksJ5_fixAfterInsertion_10 11 rfl rfl)
theorem dJ5_fixAfterInsertion_246 : decode cJ5_fixAfterInsertion 246 = .ok (.invokestatic 294, 3) := dk_184 1 38 (dk_at dksJ5_fixAfterInsertion_10 12 rfl rfl)
theorem dJ5_fixAfterInsertion_249 : decode cJ5_fixAfterInsertion 249 = .ok (.invokestatic 294, 3) := dk_184 1 38 (dk_at dksJ5_fixAfterInsertion_10 15 rfl rfl)
theorem dJ5_fixAfterInsertion_252 : decode cJ5_fixAfterInsertion 252 = .ok (.invokevirtual 311, 3) := dk_182 1 55 (dk_at dksJ5_fixAfterInsertion_10 18 rfl rfl)
theorem dJ5_fixAfterInsertion_255 : decode cJ5_fixAfterInsertion 255 = .ok (.goto (-250), 3) := dk_167 255 6 (dk_at dksJ5_fixAfterInsertion_10 21 rfl rfl)
theorem dJ5_fixAfterInsertion_258 : decode cJ5_fixAfterInsertion 258 = .ok (.aload_n 0, 1) := dk_42 (dk_at dksJ5_fixAfterInsertion_11 0 rfl rfl)
theorem dJ5_fixAfterInsertion_259 : decode cJ5_fixAfterInsertion 259 = .ok (.getfield 101, 3) := dk_180 0 101 (dk_at dksJ5_fixAfterInsertion_11 1 rfl rfl)
theorem dJ5_fixAfterInsertion_262 : decode cJ5_fixAfterInsertion 262 = .ok (.iconst 1, 1) := dk_4 (dk_at dksJ5_fixAfterInsertion_11 4 rfl rfl)
theorem dJ5_fixAfterInsertion_263 : decode cJ5_fixAfterInsertion 263 = .ok (.putfield 290, 3) := dk_181 1 34 (dk_at dksJ5_fixAfterInsertion_11 5 rfl rfl)
theorem dJ5_fixAfterInsertion_266 : decode cJ5_fixAfterInsertion 266 = .ok (.return_, 1) := dk_177 (dk_at dksJ5_fixAfterInsertion_11 8 rfl rfl)
theorem md_J5_fixAfterInsertion : xMd yJ5_fixAfterInsertion cJ5_fixAfterInsertion 3 (Option.none : Option Jvm.ClassFile.FieldType) 1 := ⟨q1361, q132, by decide, by decide +kernel, by decide +kernel, by decide +kernel⟩
def f_J5_fixAfterInsertion_258 (a0 : Nat)   (p0 : PH) : Option (xO × PH) :=
  (xgR p0 a0 15 3 fun x4 =>
  (xnul x4 none fun b5 =>
  (xpF p0 b5 19 5 (.int 1) fun p6 =>
  (rV p6))))
def f_J5_fixAfterInsertion_255 (a0 : Nat) (k5 : Option Nat × PH → Option (xO × PH)) (v1 : Option Nat) (p0 : PH) : Option (xO × PH) :=
  (k5 (v1, p0))
def f_J5_fixAfterInsertion_225 (a0 : Nat) (k5 : Option Nat × PH → Option (xO × PH)) (v1 : Option Nat) (p0 : PH) : Option (xO × PH) :=
  (xcR (f_J5_parentOf p0 v1) fun x32 p31 =>
  (xcV (f_J5_setColor p31 x32 1) fun p33 =>
  (xcR (f_J5_parentOf p33 v1) fun x35 p34 =>
  (xcR (f_J5_parentOf p34 x35) fun x37 p36 =>
  (xcV (f_J5_setColor p36 x37 0) fun p38 =>
  (xcR (f_J5_parentOf p38 v1) fun x40 p39 =>
  (xcR (f_J5_parentOf p39 x40) fun x42 p41 =>
  (xcV (f_J5_rotateLeft p41 a0 x42) fun p43 =>
  (f_J5_fixAfterInsertion_255 a0 k5 v1 p43)))))))))
def f_J5_fixAfterInsertion_148 (a0 : Nat) (k5 : Option Nat × PH → Option (xO × PH)) (v1 : Option Nat) (p0 : PH) : Option (xO × PH) :=
  (k5 (v1, p0))
def f_J5_fixAfterInsertion_118 (a0 : Nat) (k5 : Option Nat × PH → Option (xO × PH)) (v1 : Option Nat) (p0 : PH) : Option (xO × PH) :=
  (xcR (f_J5_parentOf p0 v1) fun x73 p72 =>
  (xcV (f_J5_setColor p72 x73 1) fun p74 =>
  (xcR (f_J5_parentOf p74 v1) fun x76 p75 =>
  (xcR (f_J5_parentOf p75 x76) fun x78 p77 =>
  (xcV (f_J5_setColor p77 x78 0) fun p79 =>
  (xcR (f_J5_parentOf p79 v1) fun x81 p80 =>
  (xcR (f_J5_parentOf p80 x81) fun x83 p82 =>
  (xcV (f_J5_rotateRight p82 a0 x83) fun p84 =>
  (f_J5_fixAfterInsertion_148 a0 k5 v1 p84)))))))))
def f_J5_fixAfterInsertion_5F (a0 : Nat)  (k5 : Option Nat × PH → Option (xO × PH)) (p : Option Nat × PH) : Option (xO × PH) := match p with
  | (v1, p0) => (xnul v1 (f_J5_fixAfterInsertion_258 a0  p0) fun b3 =>
  (xgR p0 a0 15 3 fun x7 =>
  (if (some b3) = x7 then
  (f_J5_fixAfterInsertion_258 a0  p0) else
  (xgR p0 b3 19 4 fun x8 =>
  (xnul x8 none fun b9 =>
  (xgI p0 b9 19 5 fun x10 =>
  (if x10 = 0 then
  (xcR (f_J5_parentOf p0 (some b3)) fun x12 p11 =>
  (xcR (f_J5_parentOf p11 (some b3)) fun x14 p13 =>
  (xcR (f_J5_parentOf p13 x14) fun x16 p15 =>
  (xcR (f_J5_leftOf p15 x16) fun x18 p17 =>
  (if x12 = x18 then
  (xcR (f_J5_parentOf p17 (some b3)) fun x61 p60 =>
  (xcR (f_J5_parentOf p60 x61) fun x63 p62 =>
  (xcR (f_J5_rightOf p62 x63) fun x65 p64 =>
  (xcI (f_J5_colorOf p64 x65) fun x67 p66 =>
  (if x67 = 0 then
  (xcR (f_J5_parentOf p66 (some b3)) fun x89 p88 =>
  (xcV (f_J5_setColor p88 x89 1) fun p90 =>
  (xcV (f_J5_setColor p90 x65 1) fun p91 =>
  (xcR (f_J5_parentOf p91 (some b3)) fun x93 p92 =>
  (xcR (f_J5_parentOf p92 x93) fun x95 p94 =>
  (xcV (f_J5_setColor p94 x95 0) fun p96 =>
  (xcR (f_J5_parentOf p96 (some b3)) fun x98 p97 =>
  (xcR (f_J5_parentOf p97 x98) fun x100 p99 =>
  (f_J5_fixAfterInsertion_148 a0 k5 x100 p99))))))))) else
  (xcR (f_J5_parentOf p66 (some b3)) fun x69 p68 =>
  (xcR (f_J5_rightOf p68 x69) fun x71 p70 =>
  (if (some b3) = x71 then
  (xcR (f_J5_parentOf p70 (some b3)) fun x86 p85 =>
  (xcV (f_J5_rotateLeft p85 a0 x86) fun p87 =>
  (f_J5_fixAfterInsertion_118 a0 k5 x86 p87))) else
  (f_J5_fixAfterInsertion_118 a0 k5 ((some b3)) p70))))))))) else
  (xcR (f_J5_parentOf p17 (some b3)) fun x20 p19 =>
  (xcR (f_J5_parentOf p19 x20) fun x22 p21 =>
  (xcR (f_J5_leftOf p21 x22) fun x24 p23 =>
  (xcI (f_J5_colorOf p23 x24) fun x26 p25 =>
  (if x26 = 0 then
  (xcR (f_J5_parentOf p25 (some b3)) fun x48 p47 =>
  (xcV (f_J5_setColor p47 x48 1) fun p49 =>
  (xcV (f_J5_setColor p49 x24 1) fun p50 =>
  (xcR (f_J5_parentOf p50 (some b3)) fun x52 p51 =>
  (xcR (f_J5_parentOf p51 x52) fun x54 p53 =>
  (xcV (f_J5_setColor p53 x54 0) fun p55 =>
  (xcR (f_J5_parentOf p55 (some b3)) fun x57 p56 =>
  (xcR (f_J5_parentOf p56 x57) fun x59 p58 =>
  (f_J5_fixAfterInsertion_255 a0 k5 x59 p58))))))))) else
  (xcR (f_J5_parentOf p25 (some b3)) fun x28 p27 =>
  (xcR (f_J5_leftOf p27 x28) fun x30 p29 =>
  (if (some b3) = x30 then
  (xcR (f_J5_parentOf p29 (some b3)) fun x45 p44 =>
  (xcV (f_J5_rotateRight p44 a0 x45) fun p46 =>
  (f_J5_fixAfterInsertion_225 a0 k5 x45 p46))) else
  (f_J5_fixAfterInsertion_225 a0 k5 ((some b3)) p29)))))))))))))) else
  (f_J5_fixAfterInsertion_258 a0  p0))))))))
def f_J5_fixAfterInsertion (p0 : PH) (a0 : Nat) (a1 : Option Nat) : Option (xO × PH) :=
  (xcl1 p0 a0 15 (xnul a1 none fun b1 =>
  (xpF p0 b1 19 5 (.int 0) fun p2 =>
  (lp (f_J5_fixAfterInsertion_5F a0) FU (((some b1)), p2)))))
theorem rc_J5_fixAfterInsertion {p0 : PH} {a0 : Nat} {a1 : Option Nat} : ∀ z, f_J5_fixAfterInsertion p0 a0 a1 = some z → xco p0 a0 = some 15 := fun z h => xcl1_some h
theorem f_J5_fixAfterInsertion_258_ok {G : xG} (hO : xOK G) (a0 : Nat)   (p0 : PH) : X G "java/util/TreeMap" "fixAfterInsertion" cJ5_fixAfterInsertion 3 (Option.none : Option Jvm.ClassFile.FieldType) 1 258 [(0, .ref a0)] [] p0 (f_J5_fixAfterInsertion_258 a0  p0) := by
  unfold f_J5_fixAfterInsertion_258
  refine x_aload_nr 0 dJ5_fixAfterInsertion_258 rfl rfl (n := 259) rfl ?_
  refine x_getR fl_J5_101 dJ5_fixAfterInsertion_259 (n := 262) rfl (fun x4 => ?_)
  refine x_iconst 1 dJ5_fixAfterInsertion_262 rfl (n := 263) rfl ?_
  refine x_sm (fun b5 e => ?_)
  subst e
  refine x_pF (pl_J5_290 _ _ ⟨rfl, rfl⟩) dJ5_fixAfterInsertion_263 (n := 266) rfl (fun p6 => ?_)
  exact x_return dJ5_fixAfterInsertion_266
theorem f_J5_fixAfterInsertion_255_ok {G : xG} (hO : xOK G) (a0 : Nat) {k5 : Option Nat × PH → Option (xO × PH)} (hk5 : ∀ (v1 : Option Nat) (p0 : PH), X G "java/util/TreeMap" "fixAfterInsertion" cJ5_fixAfterInsertion 3 (Option.none : Option Jvm.ClassFile.FieldType) 1 5 [(0, .ref a0), (1, va_rf v1)] [] p0 (k5 (v1, p0))) (v1 : Option Nat) (p0 : PH) : X G "java/util/TreeMap" "fixAfterInsertion" cJ5_fixAfterInsertion 3 (Option.none : Option Jvm.ClassFile.FieldType) 1 255 [(0, .ref a0), (1, va_rf v1)] [] p0 (f_J5_fixAfterInsertion_255 a0 k5 v1 p0) := by
  unfold f_J5_fixAfterInsertion_255
  refine x_goto dJ5_fixAfterInsertion_255 (n := 5) (by decide) ?_
  exact hk5 v1 p0
theorem f_J5_fixAfterInsertion_225_ok {G : xG} (hO : xOK G) (a0 : Nat) {k5 : Option Nat × PH → Option (xO × PH)} (hk5 : ∀ (v1 : Option Nat) (p0 : PH), X G "java/util/TreeMap" "fixAfterInsertion" cJ5_fixAfterInsertion 3 (Option.none : Option Jvm.ClassFile.FieldType) 1 5 [(0, .ref a0), (1, va_rf v1)] [] p0 (k5 (v1, p0))) (v1 : Option Nat) (p0 : PH) : X G "java/util/TreeMap" "fixAfterInsertion" cJ5_fixAfterInsertion 3 (Option.none : Option Jvm.ClassFile.FieldType) 1 225 [(0, .ref a0), (1, va_rf v1)] [] p0 (f_J5_fixAfterInsertion_225 a0 k5 v1 p0) := by
  unfold f_J5_fixAfterInsertion_225
  refine x_aload_n 1 dJ5_fixAfterInsertion_225 rfl rfl (n := 226) rfl ?_
  refine x_callS_R [va_rf v1] [] (f_J5_parentOf_ok hO p0 v1) md_J5_parentOf q1362 q1363 dJ5_fixAfterInsertion_226 rfl rfl (by decide) (Nat.le_of_ble_eq_true rfl) (n := 229) rfl (fun x32 p31 => ?_)
  refine x_iconst 1 dJ5_fixAfterInsertion_229 rfl (n := 230) rfl ?_
  refine x_callS_V [va_rf x32, .int 1] [] (f_J5_setColor_ok hO p31 x32 1) md_J5_setColor q1374 q1375 dJ5_fixAfterInsertion_230 rfl rfl (by decide) (Nat.le_of_ble_eq_true rfl) (n := 233) rfl (fun p33 => ?_)
  refine x_aload_n 1 dJ5_fixAfterInsertion_233 rfl rfl (n := 234) rfl ?_
  refine x_callS_R [va_rf v1] [] (f_J5_parentOf_ok hO p33 v1) md_J5_parentOf q1362 q1363 dJ5_fixAfterInsertion_234 rfl rfl (by decide) (Nat.le_of_ble_eq_true rfl) (n := 237) rfl (fun x35 p34 => ?_)
  refine x_callS_R [va_rf x35] [] (f_J5_parentOf_ok hO p34 x35) md_J5_parentOf q1362 q1363 dJ5_fixAfterInsertion_237 rfl rfl (by decide) (Nat.le_of_ble_eq_true rfl) (n := 240) rfl (fun x37 p36 => ?_)
  refine x_iconst 0 dJ5_fixAfterInsertion_240 rfl (n := 241) rfl ?_
  refine x_callS_V [va_rf x37, .int 0] [] (f_J5_setColor_ok hO p36 x37 0) md_J5_setColor q1374 q1375 dJ5_fixAfterInsertion_241 rfl rfl (by decide) (Nat.le_of_ble_eq_true rfl) (n := 244) rfl (fun p38 => ?_)
  refine x_aload_nr 0 dJ5_fixAfterInsertion_244 rfl rfl (n := 245) rfl ?_
  refine x_aload_n 1 dJ5_fixAfterInsertion_245 rfl rfl (n := 246) rfl ?_
  refine x_callS_R [va_rf v1] [.ref a0] (f_J5_parentOf_ok hO p38 v1) md_J5_parentOf q1362 q1363 dJ5_fixAfterInsertion_246 rfl rfl (by decide) (Nat.le_of_ble_eq_true rfl) (n := 249) rfl (fun x40 p39 => ?_)
  refine x_callS_R [va_rf x40] [.ref a0] (f_J5_parentOf_ok hO p39 x40) md_J5_parentOf q1362 q1363 dJ5_fixAfterInsertion_249 rfl rfl (by decide) (Nat.le_of_ble_eq_true rfl) (n := 252) rfl (fun x42 p41 => ?_)
  refine x_callV_V [va_rf x42] [] (f_J5_rotateLeft_ok hO p41 a0 x42) rc_J5_rotateLeft md_J5_rotateLeft rfl q1377 q1379 qs21 dJ5_fixAfterInsertion_252 rfl rfl (by decide) (Nat.le_of_ble_eq_true rfl) (n := 255) rfl (fun p43 => ?_)
  exact f_J5_fixAfterInsertion_255_ok hO a0 hk5 v1 p43
theorem f_J5_fixAfterInsertion_148_ok {G : xG} (hO : xOK G) (a0 : Nat) {k5 : Option Nat × PH → Option (xO × PH)} (hk5 : ∀ (v1 : Option Nat) (p0 : PH), X G "java/util/TreeMap" "fixAfterInsertion" cJ5_fixAfterInsertion 3 (Option.none : Option Jvm.ClassFile.FieldType) 1 5 [(0, .ref a0), (1, va_rf v1)] [] p0 (k5 (v1, p0))) (v1 : Option Nat) (p0 : PH) : X G "java/util/TreeMap" "fixAfterInsertion" cJ5_fixAfterInsertion 3 (Option.none : Option Jvm.ClassFile.FieldType) 1 148 [(0, .ref a0), (1, va_rf v1)] [] p0 (f_J5_fixAfterInsertion_148 a0 k5 v1 p0) := by
  unfold f_J5_fixAfterInsertion_148
  refine x_goto dJ5_fixAfterInsertion_148 (n := 5) (by decide) ?_
  exact hk5 v1 p0
theorem f_J5_fixAfterInsertion_118_ok {G : xG} (hO : xOK G) (a0 : Nat) {k5 : Option Nat × PH → Option (xO × PH)} (hk5 : ∀ (v1 : Option Nat) (p0 : PH), X G "java/util/TreeMap" "fixAfterInsertion" cJ5_fixAfterInsertion 3 (Option.none : Option Jvm.ClassFile.FieldType) 1 5 [(0, .ref a0), (1, va_rf v1)] [] p0 (k5 (v1, p0))) (v1 : Option Nat) (p0 : PH) : X G "java/util/TreeMap" "fixAfterInsertion" cJ5_fixAfterInsertion 3 (Option.none : Option Jvm.ClassFile.FieldType) 1 118 [(0, .ref a0), (1, va_rf v1)] [] p0 (f_J5_fixAfterInsertion_118 a0 k5 v1 p0) := by
  unfold f_J5_fixAfterInsertion_118
  refine x_aload_n 1 dJ5_fixAfterInsertion_118 rfl rfl (n := 119) rfl ?_
  refine x_callS_R [va_rf v1] [] (f_J5_parentOf_ok hO p0 v1) md_J5_parentOf q1362 q1363 dJ5_fixAfterInsertion_119 rfl rfl (by decide) (Nat.le_of_ble_eq_true rfl) (n := 122) rfl (fun x73 p72 => ?_)
  refine x_iconst 1 dJ5_fixAfterInsertion_122 rfl (n := 123) rfl ?_
  refine x_callS_V [va_rf x73, .int 1] [] (f_J5_setColor_ok hO p72 x73 1) md_J5_setColor q1374 q1375 dJ5_fixAfterInsertion_123 rfl rfl (by decide) (Nat.le_of_ble_eq_true rfl) (n := 126) rfl (fun p74 => ?_)
  refine x_aload_n 1 dJ5_fixAfterInsertion_126 rfl rfl (n := 127) rfl ?_
  refine x_callS_R [va_rf v1] [] (f_J5_parentOf_ok hO p74 v1) md_J5_parentOf q1362 q1363 dJ5_fixAfterInsertion_127 rfl rfl (by decide) (Nat.le_of_ble_eq_true rfl) (n := 130) rfl (fun x76 p75 => ?_)
  refine x_callS_R [va_rf x76] [] (f_J5_parentOf_ok hO p75 x76) md_J5_parentOf q1362 q1363 dJ5_fixAfterInsertion_130 rfl rfl (by decide) (Nat.le_of_ble_eq_true rfl) (n := 133) rfl (fun x78 p77 => ?_)
  refine x_iconst 0 dJ5_fixAfterInsertion_133 rfl (n := 134) rfl ?_
  refine x_callS_V [va_rf x78, .int 0] [] (f_J5_setColor_ok hO p77 x78 0) md_J5_setColor q1374 q1375 dJ5_fixAfterInsertion_134 rfl rfl (by decide) (Nat.le_of_ble_eq_true rfl) (n := 137) rfl (fun p79 => ?_)
  refine x_aload_nr 0 dJ5_fixAfterInsertion_137 rfl rfl (n := 138) rfl ?_
  refine x_aload_n 1 dJ5_fixAfterInsertion_138 rfl rfl (n := 139) rfl ?_
  refine x_callS_R [va_rf v1] [.ref a0] (f_J5_parentOf_ok hO p79 v1) md_J5_parentOf q1362 q1363 dJ5_fixAfterInsertion_139 rfl rfl (by decide) (Nat.le_of_ble_eq_true rfl) (n := 142) rfl (fun x81 p80 => ?_)
  refine x_callS_R [va_rf x81] [.ref a0] (f_J5_parentOf_ok hO p80 x81) md_J5_parentOf q1362 q1363 dJ5_fixAfterInsertion_142 rfl rfl (by decide) (Nat.le_of_ble_eq_true rfl) (n := 145) rfl (fun x83 p82 => ?_)
  refine x_callV_V [va_rf x83] [] (f_J5_rotateRight_ok hO p82 a0 x83) rc_J5_rotateRight md_J5_rotateRight rfl q1381 q1383 qs22 dJ5_fixAfterInsertion_145 rfl rfl (by decide) (Nat.le_of_ble_eq_true rfl) (n := 148) rfl (fun p84 => ?_)
  exact f_J5_fixAfterInsertion_148_ok hO a0 hk5 v1 p84
theorem f_J5_fixAfterInsertion_5F_ok {G : xG} (hO : xOK G) (a0 : Nat)  {k5 : Option Nat × PH → Option (xO × PH)} (hk5 : ∀ (v1 : Option Nat) (p0 : PH), X G "java/util/TreeMap" "fixAfterInsertion" cJ5_fixAfterInsertion 3 (Option.none : Option Jvm.ClassFile.FieldType) 1 5 [(0, .ref a0), (1, va_rf v1)] [] p0 (k5 (v1, p0))) (v1 : Option Nat) (p0 : PH) : X G "java/util/TreeMap" "fixAfterInsertion" cJ5_fixAfterInsertion 3 (Option.none : Option Jvm.ClassFile.FieldType) 1 5 [(0, .ref a0), (1, va_rf v1)] [] p0 (f_J5_fixAfterInsertion_5F a0 k5 (v1, p0)) := by
  unfold f_J5_fixAfterInsertion_5F
  refine x_aload_n 1 dJ5_fixAfterInsertion_5 rfl rfl (n := 6) rfl ?_
  refine x_ifnull dJ5_fixAfterInsertion_6 (t := 258) (by decide) (n := 9) rfl (fun e => ?_) (fun b3 e => ?_)
  · subst e
    refine x_sub [0] [(0, .ref a0)] rfl ?_
    exact f_J5_fixAfterInsertion_258_ok hO a0  p0
  · subst e
    refine x_aload_nr 1 dJ5_fixAfterInsertion_9 rfl rfl (n := 10) rfl ?_
    refine x_aload_nr 0 dJ5_fixAfterInsertion_10 rfl rfl (n := 11) rfl ?_
    refine x_getR fl_J5_101 dJ5_fixAfterInsertion_11 (n := 14) rfl (fun x7 => ?_)
    refine x_acmp_eq (x := some b3) (y := x7) dJ5_fixAfterInsertion_14 (t := 258) (by decide) (n := 17) rfl (fun _ => ?_) (fun _ => ?_)
    · refine x_sub [0] [(0, .ref a0)] rfl ?_
      exact f_J5_fixAfterInsertion_258_ok hO a0  p0
    · refine x_aload_nr 1 dJ5_fixAfterInsertion_17 rfl rfl (n := 18) rfl ?_
      refine x_getR fl_J5_124 dJ5_fixAfterInsertion_18 (n := 21) rfl (fun x8 => ?_)
      refine x_sm (fun b9 e => ?_)
      subst e
      refine x_getI fl_J5_290 dJ5_fixAfterInsertion_21 (n := 24) rfl (fun x10 => ?_)
      refine x_if_ne dJ5_fixAfterInsertion_24 (t := 258) (by decide) (n := 27) rfl (fun _ => ?_) (fun _ => ?_)
      · refine x_sub [0] [(0, .ref a0)] rfl ?_
        exact f_J5_fixAfterInsertion_258_ok hO a0  p0
      · refine x_aload_nr 1 dJ5_fixAfterInsertion_27 rfl rfl (n := 28) rfl ?_
        refine x_callS_R [.ref b3] [] (f_J5_parentOf_ok hO p0 (some b3)) md_J5_parentOf q1362 q1363 dJ5_fixAfterInsertion_28 rfl rfl (by decide) (Nat.le_of_ble_eq_true rfl) (n := 31) rfl (fun x12 p11 => ?_)
        refine x_aload_nr 1 dJ5_fixAfterInsertion_31 rfl rfl (n := 32) rfl ?_
        refine x_callS_R [.ref b3] [va_rf x12] (f_J5_parentOf_ok hO p11 (some b3)) md_J5_parentOf q1362 q1363 dJ5_fixAfterInsertion_32 rfl rfl (by decide) (by simp only [List.map, xcat]; exact Nat.le_of_ble_eq_true rfl) (n := 35) rfl (fun x14 p13 => ?_)
        refine x_callS_R [va_rf x14] [va_rf x12] (f_J5_parentOf_ok hO p13 x14) md_J5_parentOf q1362 q1363 dJ5_fixAfterInsertion_35 rfl rfl (by decide) (by simp only [List.map, xcat]; exact Nat.le_of_ble_eq_true rfl) (n := 38) rfl (fun x16 p15 => ?_)
        refine x_callS_R [va_rf x16] [va_rf x12] (f_J5_leftOf_ok hO p15 x16) md_J5_leftOf q1365 q1366 dJ5_fixAfterInsertion_38 rfl rfl (by decide) (by simp only [List.map, xcat]; exact Nat.le_of_ble_eq_true rfl) (n := 41) rfl (fun x18 p17 => ?_)
        refine x_acmp_ne (x := x12) (y := x18) dJ5_fixAfterInsertion_41 (t := 151) (by decide) (n := 44) rfl (fun _ => ?_) (fun _ => ?_)
        · refine x_aload_nr 1 dJ5_fixAfterInsertion_151 rfl rfl (n := 152) rfl ?_
          refine x_callS_R [.ref b3] [] (f_J5_parentOf_ok hO p17 (some b3)) md_J5_parentOf q1362 q1363 dJ5_fixAfterInsertion_152 rfl rfl (by decide) (Nat.le_of_ble_eq_true rfl) (n := 155) rfl (fun x20 p19 => ?_)
          refine x_callS_R [va_rf x20] [] (f_J5_parentOf_ok hO p19 x20) md_J5_parentOf q1362 q1363 dJ5_fixAfterInsertion_155 rfl rfl (by decide) (Nat.le_of_ble_eq_true rfl) (n := 158) rfl (fun x22 p21 => ?_)
          refine x_callS_R [va_rf x22] [] (f_J5_leftOf_ok hO p21 x22) md_J5_leftOf q1365 q1366 dJ5_fixAfterInsertion_158 rfl rfl (by decide) (Nat.le_of_ble_eq_true rfl) (n := 161) rfl (fun x24 p23 => ?_)
          refine x_astore_n [(2, va_rf x24), (0, .ref a0), (1, .ref b3)] dJ5_fixAfterInsertion_161 rfl (by decide) rfl (n := 162) rfl ?_
          refine x_aload_n 0 dJ5_fixAfterInsertion_162 rfl rfl (n := 163) rfl ?_
          refine x_callS_I [va_rf x24] [] (f_J5_colorOf_ok hO p23 x24) md_J5_colorOf q1371 q1372 dJ5_fixAfterInsertion_163 rfl rfl (by decide) (Nat.le_of_ble_eq_true rfl) (n := 166) rfl (fun x26 p25 => ?_)
          refine x_if_ne dJ5_fixAfterInsertion_166 (t := 204) (by decide) (n := 169) rfl (fun _ => ?_) (fun _ => ?_)
          · refine x_aload_nr 2 dJ5_fixAfterInsertion_204 rfl rfl (n := 205) rfl ?_
            refine x_aload_nr 2 dJ5_fixAfterInsertion_205 rfl rfl (n := 206) rfl ?_
            refine x_callS_R [.ref b3] [.ref b3] (f_J5_parentOf_ok hO p25 (some b3)) md_J5_parentOf q1362 q1363 dJ5_fixAfterInsertion_206 rfl rfl (by decide) (Nat.le_of_ble_eq_true rfl) (n := 209) rfl (fun x28 p27 => ?_)
            refine x_callS_R [va_rf x28] [.ref b3] (f_J5_leftOf_ok hO p27 x28) md_J5_leftOf q1365 q1366 dJ5_fixAfterInsertion_209 rfl rfl (by decide) (Nat.le_of_ble_eq_true rfl) (n := 212) rfl (fun x30 p29 => ?_)
            refine x_acmp_ne (x := some b3) (y := x30) dJ5_fixAfterInsertion_212 (t := 225) (by decide) (n := 215) rfl (fun _ => ?_) (fun _ => ?_)
            · refine x_sub [1, 2] [(0, .ref a0), (1, .ref b3)] rfl ?_
              exact f_J5_fixAfterInsertion_225_ok hO a0 hk5 ((some b3)) p29
            · refine x_aload_nr 2 dJ5_fixAfterInsertion_215 rfl rfl (n := 216) rfl ?_
              refine x_callS_R [.ref b3] [] (f_J5_parentOf_ok hO p29 (some b3)) md_J5_parentOf q1362 q1363 dJ5_fixAfterInsertion_216 rfl rfl (by decide) (Nat.le_of_ble_eq_true rfl) (n := 219) rfl (fun x45 p44 => ?_)
              refine x_astore_n [(1, va_rf x45), (2, va_rf x24), (0, .ref a0)] dJ5_fixAfterInsertion_219 rfl (by decide) rfl (n := 220) rfl ?_
              refine x_aload_nr 2 dJ5_fixAfterInsertion_220 rfl rfl (n := 221) rfl ?_
              refine x_aload_n 0 dJ5_fixAfterInsertion_221 rfl rfl (n := 222) rfl ?_
              refine x_callV_V [va_rf x45] [] (f_J5_rotateRight_ok hO p44 a0 x45) rc_J5_rotateRight md_J5_rotateRight rfl q1381 q1383 qs22 dJ5_fixAfterInsertion_222 rfl rfl (by decide) (Nat.le_of_ble_eq_true rfl) (n := 225) rfl (fun p46 => ?_)
              refine x_sub [2, 0] [(0, .ref a0), (1, va_rf x45)] rfl ?_
              exact f_J5_fixAfterInsertion_225_ok hO a0 hk5 x45 p46
          · refine x_aload_nr 2 dJ5_fixAfterInsertion_169 rfl rfl (n := 170) rfl ?_
            refine x_callS_R [.ref b3] [] (f_J5_parentOf_ok hO p25 (some b3)) md_J5_parentOf q1362 q1363 dJ5_fixAfterInsertion_170 rfl rfl (by decide) (Nat.le_of_ble_eq_true rfl) (n := 173) rfl (fun x48 p47 => ?_)
            refine x_iconst 1 dJ5_fixAfterInsertion_173 rfl (n := 174) rfl ?_
            refine x_callS_V [va_rf x48, .int 1] [] (f_J5_setColor_ok hO p47 x48 1) md_J5_setColor q1374 q1375 dJ5_fixAfterInsertion_174 rfl rfl (by decide) (Nat.le_of_ble_eq_true rfl) (n := 177) rfl (fun p49 => ?_)
            refine x_aload_n 0 dJ5_fixAfterInsertion_177 rfl rfl (n := 178) rfl ?_
            refine x_iconst 1 dJ5_fixAfterInsertion_178 rfl (n := 179) rfl ?_
            refine x_callS_V [va_rf x24, .int 1] [] (f_J5_setColor_ok hO p49 x24 1) md_J5_setColor q1374 q1375 dJ5_fixAfterInsertion_179 rfl rfl (by decide) (Nat.le_of_ble_eq_true rfl) (n := 182) rfl (fun p50 => ?_)
            refine x_aload_nr 2 dJ5_fixAfterInsertion_182 rfl rfl (n := 183) rfl ?_
            refine x_callS_R [.ref b3] [] (f_J5_parentOf_ok hO p50 (some b3)) md_J5_parentOf q1362 q1363 dJ5_fixAfterInsertion_183 rfl rfl (by decide) (Nat.le_of_ble_eq_true rfl) (n := 186) rfl (fun x52 p51 => ?_)
            refine x_callS_R [va_rf x52] [] (f_J5_parentOf_ok hO p51 x52) md_J5_parentOf q1362 q1363 dJ5_fixAfterInsertion_186 rfl rfl (by decide) (Nat.le_of_ble_eq_true rfl) (n := 189) rfl (fun x54 p53 => ?_)
            refine x_iconst 0 dJ5_fixAfterInsertion_189 rfl (n := 190) rfl ?_
            refine x_callS_V [va_rf x54, .int 0] [] (f_J5_setColor_ok hO p53 x54 0) md_J5_setColor q1374 q1375 dJ5_fixAfterInsertion_190 rfl rfl (by decide) (Nat.le_of_ble_eq_true rfl) (n := 193) rfl (fun p55 => ?_)
            refine x_aload_nr 2 dJ5_fixAfterInsertion_193 rfl rfl (n := 194) rfl ?_
            refine x_callS_R [.ref b3] [] (f_J5_parentOf_ok hO p55 (some b3)) md_J5_parentOf q1362 q1363 dJ5_fixAfterInsertion_194 rfl rfl (by decide) (Nat.le_of_ble_eq_true rfl) (n := 197) rfl (fun x57 p56 => ?_)
            refine x_callS_R [va_rf x57] [] (f_J5_parentOf_ok hO p56 x57) md_J5_parentOf q1362 q1363 dJ5_fixAfterInsertion_197 rfl rfl (by decide) (Nat.le_of_ble_eq_true rfl) (n := 200) rfl (fun x59 p58 => ?_)
            refine x_astore_n [(1, va_rf x59), (2, va_rf x24), (0, .ref a0)] dJ5_fixAfterInsertion_200 rfl (by decide) rfl (n := 201) rfl ?_
            refine x_goto dJ5_fixAfterInsertion_201 (n := 255) (by decide) ?_
            refine x_sub [2, 0] [(0, .ref a0), (1, va_rf x59)] rfl ?_
            exact f_J5_fixAfterInsertion_255_ok hO a0 hk5 x59 p58
        · refine x_aload_nr 1 dJ5_fixAfterInsertion_44 rfl rfl (n := 45) rfl ?_
          refine x_callS_R [.ref b3] [] (f_J5_parentOf_ok hO p17 (some b3)) md_J5_parentOf q1362 q1363 dJ5_fixAfterInsertion_45 rfl rfl (by decide) (Nat.le_of_ble_eq_true rfl) (n := 48) rfl (fun x61 p60 => ?_)
          refine x_callS_R [va_rf x61] [] (f_J5_parentOf_ok hO p60 x61) md_J5_parentOf q1362 q1363 dJ5_fixAfterInsertion_48 rfl rfl (by decide) (Nat.le_of_ble_eq_true rfl) (n := 51) rfl (fun x63 p62 => ?_)
          refine x_callS_R [va_rf x63] [] (f_J5_rightOf_ok hO p62 x63) md_J5_rightOf q1368 q1369 dJ5_fixAfterInsertion_51 rfl rfl (by decide) (Nat.le_of_ble_eq_true rfl) (n := 54) rfl (fun x65 p64 => ?_)
          refine x_astore_n [(2, va_rf x65), (0, .ref a0), (1, .ref b3)] dJ5_fixAfterInsertion_54 rfl (by decide) rfl (n := 55) rfl ?_
          refine x_aload_n 0 dJ5_fixAfterInsertion_55 rfl rfl (n := 56) rfl ?_
          refine x_callS_I [va_rf x65] [] (f_J5_colorOf_ok hO p64 x65) md_J5_colorOf q1371 q1372 dJ5_fixAfterInsertion_56 rfl rfl (by decide) (Nat.le_of_ble_eq_true rfl) (n := 59) rfl (fun x67 p66 => ?_)
          refine x_if_ne dJ5_fixAfterInsertion_59 (t := 97) (by decide) (n := 62) rfl (fun _ => ?_) (fun _ => ?_)
          · refine x_aload_nr 2 dJ5_fixAfterInsertion_97 rfl rfl (n := 98) rfl ?_
            refine x_aload_nr 2 dJ5_fixAfterInsertion_98 rfl rfl (n := 99) rfl ?_
            refine x_callS_R [.ref b3] [.ref b3] (f_J5_parentOf_ok hO p66 (some b3)) md_J5_parentOf q1362 q1363 dJ5_fixAfterInsertion_99 rfl rfl (by decide) (Nat.le_of_ble_eq_true rfl) (n := 102) rfl (fun x69 p68 => ?_)
            refine x_callS_R [va_rf x69] [.ref b3] (f_J5_rightOf_ok hO p68 x69) md_J5_rightOf q1368 q1369 dJ5_fixAfterInsertion_102 rfl rfl (by decide) (Nat.le_of_ble_eq_true rfl) (n := 105) rfl (fun x71 p70 => ?_)
            refine x_acmp_ne (x := some b3) (y := x71) dJ5_fixAfterInsertion_105 (t := 118) (by decide) (n := 108) rfl (fun _ => ?_) (fun _ => ?_)
            · refine x_sub [1, 2] [(0, .ref a0), (1, .ref b3)] rfl ?_
              exact f_J5_fixAfterInsertion_118_ok hO a0 hk5 ((some b3)) p70
            · refine x_aload_nr 2 dJ5_fixAfterInsertion_108 rfl rfl (n := 109) rfl ?_
              refine x_callS_R [.ref b3] [] (f_J5_parentOf_ok hO p70 (some b3)) md_J5_parentOf q1362 q1363 dJ5_fixAfterInsertion_109 rfl rfl (by decide) (Nat.le_of_ble_eq_true rfl) (n := 112) rfl (fun x86 p85 => ?_)
              refine x_astore_n [(1, va_rf x86), (2, va_rf x65), (0, .ref a0)] dJ5_fixAfterInsertion_112 rfl (by decide) rfl (n := 113) rfl ?_
              refine x_aload_nr 2 dJ5_fixAfterInsertion_113 rfl rfl (n := 114) rfl ?_
              refine x_aload_n 0 dJ5_fixAfterInsertion_114 rfl rfl (n := 115) rfl ?_
              refine x_callV_V [va_rf x86] [] (f_J5_rotateLeft_ok hO p85 a0 x86) rc_J5_rotateLeft md_J5_rotateLeft rfl q1377 q1379 qs21 dJ5_fixAfterInsertion_115 rfl rfl (by decide) (Nat.le_of_ble_eq_true rfl) (n := 118) rfl (fun p87 => ?_)
              refine x_sub [2, 0] [(0, .ref a0), (1, va_rf x86)] rfl ?_
              exact f_J5_fixAfterInsertion_118_ok hO a0 hk5 x86 p87
          · refine x_aload_nr 2 dJ5_fixAfterInsertion_62 rfl rfl (n := 63) rfl ?_
            refine x_callS_R [.ref b3] [] (f_J5_parentOf_ok hO p66 (some b3)) md_J5_parentOf q1362 q1363 dJ5_fixAfterInsertion_63 rfl rfl (by decide) (Nat.le_of_ble_eq_true rfl) (n := 66) rfl (fun x89 p88 => ?_)
            refine x_iconst 1 dJ5_fixAfterInsertion_66 rfl (n := 67) rfl ?_
            refine x_callS_V [va_rf x89, .int 1] [] (f_J5_setColor_ok hO p88 x89 1) md_J5_setColor q1374 q1375 dJ5_fixAfterInsertion_67 rfl rfl (by decide) (Nat.le_of_ble_eq_true rfl) (n := 70) rfl (fun p90 => ?_)
            refine x_aload_n 0 dJ5_fixAfterInsertion_70 rfl rfl (n := 71) rfl ?_
            refine x_iconst 1 dJ5_fixAfterInsertion_71 rfl (n := 72) rfl ?_
            refine x_callS_V [va_rf x65, .int 1] [] (f_J5_setColor_ok hO p90 x65 1) md_J5_setColor q1374 q1375 dJ5_fixAfterInsertion_72 rfl rfl (by decide) (Nat.le_of_ble_eq_true rfl) (n := 75) rfl (fun p91 => ?_)
            refine x_aload_nr 2 dJ5_fixAfterInsertion_75 rfl rfl (n := 76) rfl ?_
            refine x_callS_R [.ref b3] [] (f_J5_parentOf_ok hO p91 (some b3)) md_J5_parentOf q1362 q1363 dJ5_fixAfterInsertion_76 rfl rfl (by decide) (Nat.le_of_ble_eq_true rfl) (n := 79) rfl (fun x93 p92 => ?_)
            refine x_callS_R [va_rf x93] [] (f_J5_parentOf_ok hO p92 x93) md_J5_parentOf q1362 q1363 dJ5_fixAfterInsertion_79 rfl rfl (by decide) (Nat.le_of_ble_eq_true rfl) (n := 82) rfl (fun x95 p94 => ?_)
            refine x_iconst 0 dJ5_fixAfterInsertion_82 rfl (n := 83) rfl ?_
            refine x_callS_V [va_rf x95, .int 0] [] (f_J5_setColor_ok hO p94 x95 0) md_J5_setColor q1374 q1375 dJ5_fixAfterInsertion_83 rfl rfl (by decide) (Nat.le_of_ble_eq_true rfl) (n := 86) rfl (fun p96 => ?_)
            refine x_aload_nr 2 dJ5_fixAfterInsertion_86 rfl rfl (n := 87) rfl ?_
            refine x_callS_R [.ref b3] [] (f_J5_parentOf_ok hO p96 (some b3)) md_J5_parentOf q1362 q1363 dJ5_fixAfterInsertion_87 rfl rfl (by decide) (Nat.le_of_ble_eq_true rfl) (n := 90) rfl (fun x98 p97 => ?_)
            refine x_callS_R [va_rf x98] [] (f_J5_parentOf_ok hO p97 x98) md_J5_parentOf q1362 q1363 dJ5_fixAfterInsertion_90 rfl rfl (by decide) (Nat.le_of_ble_eq_true rfl) (n := 93) rfl (fun x100 p99 => ?_)
            refine x_astore_n [(1, va_rf x100), (2, va_rf x65), (0, .ref a0)] dJ5_fixAfterInsertion_93 rfl (by decide) rfl (n := 94) rfl ?_
            refine x_goto dJ5_fixAfterInsertion_94 (n := 148) (by decide) ?_
            refine x_sub [2, 0] [(0, .ref a0), (1, va_rf x100)] rfl ?_
            exact f_J5_fixAfterInsertion_148_ok hO a0 hk5 x100 p99
theorem f_J5_fixAfterInsertion_5_lp {G : xG} (hO : xOK G) (a0 : Nat)  (n : Nat) (v1 : Option Nat) (p0 : PH) : X G "java/util/TreeMap" "fixAfterInsertion" cJ5_fixAfterInsertion 3 (Option.none : Option Jvm.ClassFile.FieldType) 1 5 [(0, .ref a0), (1, va_rf v1)] [] p0 (lp (f_J5_fixAfterInsertion_5F a0) n (v1, p0)) :=
  lp_ok (W := fun p K => X G "java/util/TreeMap" "fixAfterInsertion" cJ5_fixAfterInsertion 3 (Option.none : Option Jvm.ClassFile.FieldType) 1 5 [(0, .ref a0), (1, va_rf p.1)] [] p.2 K) (fun _ => x_no) (fun k hk => fun (v1, p0) => f_J5_fixAfterInsertion_5F_ok hO a0 (fun v1 p0 => hk (v1, p0)) v1 p0) n (v1, p0)
theorem f_J5_fixAfterInsertion_ok {G : xG} (hO : xOK G) (p0 : PH) (a0 : Nat) (a1 : Option Nat) : CT G 1 yJ5_fixAfterInsertion cJ5_fixAfterInsertion 3 (Option.none : Option Jvm.ClassFile.FieldType) [.ref a0, va_rf a1] p0 (f_J5_fixAfterInsertion p0 a0 a1) := by
  refine CT_of hO (by decide +kernel) (by decide +kernel) (lg_slen _ (by simp only [List.map, xcat]; exact Nat.le_of_ble_eq_true rfl)) ?_
  rw [show lv_args 0 [.ref a0, va_rf a1] = [(0, .ref a0), (1, va_rf a1)] from by simp only [lv_args, xcat] <;> rfl]
  show X G "java/util/TreeMap" "fixAfterInsertion" cJ5_fixAfterInsertion 3 (Option.none : Option Jvm.ClassFile.FieldType) 1 0 [(0, .ref a0), (1, va_rf a1)] [] p0 (f_J5_fixAfterInsertion p0 a0 a1)
  refine x_cl1 (fun e0 => ?_)
  refine x_aload_n 1 dJ5_fixAfterInsertion_0 rfl rfl (n := 1) rfl ?_
  refine x_iconst 0 dJ5_fixAfterInsertion_1 rfl (n := 2) rfl ?_
  refine x_sm (fun b1 e => ?_)
  subst e
  refine x_pF (pl_J5_290 _ _ ⟨rfl, rfl⟩) dJ5_fixAfterInsertion_2 (n := 5) rfl (fun p2 => ?_)
  exact f_J5_fixAfterInsertion_5_lp hO a0 FU ((some b1)) p2
abbrev cJ5_addEntry : ByteArray := prog_77_method_29_code
def yJ5_addEntry : MethodName := ⟨RJ5, "addEntry", "(Ljava/lang/Object;Ljava/lang/Object;Ljava/util/TreeMap$Entry;Z)V"⟩
def dkwJ5_addEntry_2 : List UInt8 := [181, 0, 7, 42, 89, 180, 0, 13, 4, 96, 181, 0, 13, 177]
abbrev dktJ5_addEntry_2 : List UInt8 := dkwJ5_addEntry_2 ++ []
def dkwJ5_addEntry_1 : List UInt8 := [167, 0, 9, 45, 25, 5, 181, 0, 114, 42, 25, 5, 182, 0, 170, 42, 89, 180, 0, 7, 4, 96]
abbrev dktJ5_addEntry_1 : List UInt8 := dkwJ5_addEntry_1 ++ dktJ5_addEntry_2
def dkwJ5_addEntry_0 : List UInt8 := [187, 0, 59, 89, 43, 44, 45, 183, 0, 167, 58, 5, 21, 4, 153, 0, 12, 45, 25, 5, 181, 0, 111]
abbrev dktJ5_addEntry_0 : List UInt8 := dkwJ5_addEntry_0 ++ dktJ5_addEntry_1
theorem dksJ5_addEntry_0 : cJ5_addEntry.data.toList.drop 0 = dktJ5_addEntry_0 := by decide +kernel
theorem dksJ5_addEntry_1 : cJ5_addEntry.data.toList.drop 23 = dktJ5_addEntry_1 := dk_seg dksJ5_addEntry_0 23 rfl rfl
theorem dksJ5_addEntry_2 : cJ5_addEntry.data.toList.drop 45 = dktJ5_addEntry_2 := dk_seg dksJ5_addEntry_1 22 rfl rfl
theorem dJ5_addEntry_0 : decode cJ5_addEntry 0 = .ok (.new 59, 3) := dk_187 0 59 (dk_at dksJ5_addEntry_0 0 rfl rfl)
theorem dJ5_addEntry_3 : decode cJ5_addEntry 3 = .ok (.dup, 1) := dk_89 (dk_at dksJ5_addEntry_0 3 rfl rfl)
theorem dJ5_addEntry_4 : decode cJ5_addEntry 4 = .ok (.aload_n 1, 1) := dk_43 (dk_at dksJ5_addEntry_0 4 rfl rfl)
theorem dJ5_addEntry_5 : decode cJ5_addEntry 5 = .ok (.aload_n 2, 1) := dk_44 (dk_at dksJ5_addEntry_0 5 rfl rfl)
theorem dJ5_addEntry_6 : decode cJ5_addEntry 6 = .ok (.aload_n 3, 1) := dk_45 (dk_at dksJ5_addEntry_0 6 rfl rfl)
theorem dJ5_addEntry_7 : decode cJ5_addEntry 7 = .ok (.invokespecial 167, 3) := dk_183 0 167 (dk_at dksJ5_addEntry_0 7 rfl rfl)
theorem dJ5_addEntry_10 : decode cJ5_addEntry 10 = .ok (.astore 5, 2) := dk_58 5 (dk_at dksJ5_addEntry_0 10 rfl rfl)
theorem dJ5_addEntry_12 : decode cJ5_addEntry 12 = .ok (.iload 4, 2) := dk_21 4 (dk_at dksJ5_addEntry_0 12 rfl rfl)
theorem dJ5_addEntry_14 : decode cJ5_addEntry 14 = .ok (.ifCond .eq 12, 3) := dk_153 0 12 (dk_at dksJ5_addEntry_0 14 rfl rfl)
theorem dJ5_addEntry_17 : decode cJ5_addEntry 17 = .ok (.aload_n 3, 1) := dk_45 (dk_at dksJ5_addEntry_0 17 rfl rfl)
theorem dJ5_addEntry_18 : decode cJ5_addEntry 18 = .ok (.aload 5, 2) := dk_25 5 (dk_at dksJ5_addEntry_0 18 rfl rfl)
theorem dJ5_addEntry_20 : decode cJ5_addEntry 20 = .ok (.putfield 111, 3) := dk_181 0 111 (dk_at dksJ5_addEntry_0 20 rfl rfl)
theorem dJ5_addEntry_23 : decode cJ5_addEntry 23 = .ok (.goto 9, 3) := dk_167 0 9 (dk_at dksJ5_addEntry_1 0 rfl rfl)
theorem dJ5_addEntry_26 : decode cJ5_addEntry 26 = .ok (.aload_n 3, 1) := dk_45 (dk_at dksJ5_addEntry_1 3 rfl rfl)
theorem dJ5_addEntry_27 : decode cJ5_addEntry 27 = .ok (.aload 5, 2) := dk_25 5 (dk_at dksJ5_addEntry_1 4 rfl rfl)
theorem dJ5_addEntry_29 : decode cJ5_addEntry 29 = .ok (.putfield 114, 3) := dk_181 0 114 (dk_at dksJ5_addEntry_1 6 rfl rfl)
theorem dJ5_addEntry_32 : decode cJ5_addEntry 32 = .ok (.aload_n 0, 1) := dk_42 (dk_at dksJ5_addEntry_1 9 rfl rfl)
theorem dJ5_addEntry_33 : decode cJ5_addEntry 33 = .ok (.aload 5, 2) := dk_25 5 (dk_at dksJ5_addEntry_1 10 rfl rfl)
theorem dJ5_addEntry_35 : decode cJ5_addEntry 35 = .ok (.invokevirtual 170, 3) := dk_182 0 170 (dk_at dksJ5_addEntry_1 12 rfl rfl)
theorem dJ5_addEntry_38 : decode cJ5_addEntry 38 = .ok (.aload_n 0, 1) := dk_42 (dk_at dksJ5_addEntry_1 15 rfl rfl)
theorem dJ5_addEntry_39 : decode cJ5_addEntry 39 = .ok (.dup, 1) := dk_89 (dk_at dksJ5_addEntry_1 16 rfl rfl)
theorem dJ5_addEntry_40 : decode cJ5_addEntry 40 = .ok (.getfield 7, 3) := dk_180 0 7 (dk_at dksJ5_addEntry_1 17 rfl rfl)
theorem dJ5_addEntry_43 : decode cJ5_addEntry 43 = .ok (.iconst 1, 1) := dk_4 (dk_at dksJ5_addEntry_1 20 rfl rfl)
theorem dJ5_addEntry_44 : decode cJ5_addEntry 44 = .ok (.iadd, 1) := dk_96 (dk_at dksJ5_addEntry_1 21 rfl rfl)
theorem dJ5_addEntry_45 : decode cJ5_addEntry 45 = .ok (.putfield 7, 3) := dk_181 0 7 (dk_at dksJ5_addEntry_2 0 rfl rfl)
theorem dJ5_addEntry_48 : decode cJ5_addEntry 48 = .ok (.aload_n 0, 1) := dk_42 (dk_at dksJ5_addEntry_2 3 rfl rfl)
theorem dJ5_addEntry_49 : decode cJ5_addEntry 49 = .ok (.dup, 1) := dk_89 (dk_at dksJ5_addEntry_2 4 rfl rfl)
theorem dJ5_addEntry_50 : decode cJ5_addEntry 50 = .ok (.getfield 13, 3) := dk_180 0 13 (dk_at dksJ5_addEntry_2 5 rfl rfl)
theorem dJ5_addEntry_53 : decode cJ5_addEntry 53 = .ok (.iconst 1, 1) := dk_4 (dk_at dksJ5_addEntry_2 8 rfl rfl)
theorem dJ5_addEntry_54 : decode cJ5_addEntry 54 = .ok (.iadd, 1) := dk_96 (dk_at dksJ5_addEntry_2 9 rfl rfl)
theorem dJ5_addEntry_55 : decode cJ5_addEntry 55 = .ok (.putfield 13, 3) := dk_181 0 13 (dk_at dksJ5_addEntry_2 10 rfl rfl)
theorem dJ5_addEntry_58 : decode cJ5_addEntry 58 = .ok (.return_, 1) := dk_177 (dk_at dksJ5_addEntry_2 13 rfl rfl)
theorem md_J5_addEntry : xMd yJ5_addEntry cJ5_addEntry 6 (Option.none : Option Jvm.ClassFile.FieldType) 4 := ⟨q1357, q132, by decide, by decide +kernel, by decide +kernel, by decide +kernel⟩
def f_J5_addEntry_32 (a0 : Nat)  (v5 : Nat) (p0 : PH) : Option (xO × PH) :=
  (xcV (f_J5_fixAfterInsertion p0 a0 (some v5)) fun p6 =>
  (xgI p6 a0 15 4 fun x7 =>
  (xpF p6 a0 15 4 (.int (x7 + 1)) fun p8 =>
  (xgI p8 a0 15 5 fun x9 =>
  (xpF p8 a0 15 5 (.int (x9 + 1)) fun p10 =>
  (rV p10))))))
def f_J5_addEntry (p0 : PH) (a0 : Nat) (a1 : Option Nat) (a2 : Option Nat) (a3 : Option Nat) (a4 : Int32) : Option (xO × PH) :=
  (xcl1 p0 a0 15 (xnew p0 19 [.null, .null, .null, .null, .null, .int 0] fun b1 p2 =>
  (xcV (f_J23_init p2 b1 a1 a2 a3) fun p3 =>
  (if a4 = 0 then
  (xnul a3 none fun b4 =>
  (xpF p3 b4 19 3 (.ref b1) fun p5 =>
  (f_J5_addEntry_32 a0 b1 p5))) else
  (xnul a3 none fun b11 =>
  (xpF p3 b11 19 2 (.ref b1) fun p12 =>
  (f_J5_addEntry_32 a0 b1 p12)))))))
theorem rc_J5_addEntry {p0 : PH} {a0 : Nat} {a1 : Option Nat} {a2 : Option Nat} {a3 : Option Nat} {a4 : Int32} : ∀ z, f_J5_addEntry p0 a0 a1 a2 a3 a4 = some z → xco p0 a0 = some 15 := fun z h => xcl1_some h
theorem f_J5_addEntry_32_ok {G : xG} (hO : xOK G) (a0 : Nat)  (v5 : Nat) (p0 : PH) : X G "java/util/TreeMap" "addEntry" cJ5_addEntry 6 (Option.none : Option Jvm.ClassFile.FieldType) 2 32 [(0, .ref a0), (5, .ref v5)] [] p0 (f_J5_addEntry_32 a0 v5 p0) := by
  unfold f_J5_addEntry_32
  refine x_aload_nr 0 dJ5_addEntry_32 rfl rfl (n := 33) rfl ?_
  refine x_aloadr 1 dJ5_addEntry_33 rfl (n := 35) rfl ?_
  refine x_callV_V [.ref v5] [] (f_J5_fixAfterInsertion_ok hO p0 a0 (some v5)) rc_J5_fixAfterInsertion md_J5_fixAfterInsertion rfl q1358 q1360 qs20 dJ5_addEntry_35 rfl rfl (by decide) (Nat.le_of_ble_eq_true rfl) (n := 38) rfl (fun p6 => ?_)
  refine x_aload_nr 0 dJ5_addEntry_38 rfl rfl (n := 39) rfl ?_
  refine x_dup dJ5_addEntry_39 rfl (n := 40) rfl ?_
  refine x_getI fl_J5_7 dJ5_addEntry_40 (n := 43) rfl (fun x7 => ?_)
  refine x_iconst 1 dJ5_addEntry_43 rfl (n := 44) rfl ?_
  refine x_iadd dJ5_addEntry_44 (n := 45) rfl ?_
  refine x_pF (pl_J5_7 _ _ ⟨rfl, rfl⟩) dJ5_addEntry_45 (n := 48) rfl (fun p8 => ?_)
  refine x_aload_nr 0 dJ5_addEntry_48 rfl rfl (n := 49) rfl ?_
  refine x_dup dJ5_addEntry_49 rfl (n := 50) rfl ?_
  refine x_getI fl_J5_13 dJ5_addEntry_50 (n := 53) rfl (fun x9 => ?_)
  refine x_iconst 1 dJ5_addEntry_53 rfl (n := 54) rfl ?_
  refine x_iadd dJ5_addEntry_54 (n := 55) rfl ?_
  refine x_pF (pl_J5_13 _ _ ⟨rfl, rfl⟩) dJ5_addEntry_55 (n := 58) rfl (fun p10 => ?_)
  exact x_return dJ5_addEntry_58
theorem f_J5_addEntry_ok {G : xG} (hO : xOK G) (p0 : PH) (a0 : Nat) (a1 : Option Nat) (a2 : Option Nat) (a3 : Option Nat) (a4 : Int32) : CT G 2 yJ5_addEntry cJ5_addEntry 6 (Option.none : Option Jvm.ClassFile.FieldType) [.ref a0, va_rf a1, va_rf a2, va_rf a3, .int a4] p0 (f_J5_addEntry p0 a0 a1 a2 a3 a4) := by
  refine CT_of hO (by decide +kernel) (by decide +kernel) (lg_slen _ (by simp only [List.map, xcat]; exact Nat.le_of_ble_eq_true rfl)) ?_
  rw [show lv_args 0 [.ref a0, va_rf a1, va_rf a2, va_rf a3, .int a4] = [(0, .ref a0), (1, va_rf a1), (2, va_rf a2), (3, va_rf a3), (4, .int a4)] from by simp only [lv_args, xcat] <;> rfl]
  show X G "java/util/TreeMap" "addEntry" cJ5_addEntry 6 (Option.none : Option Jvm.ClassFile.FieldType) 2 0 [(0, .ref a0), (1, va_rf a1), (2, va_rf a2), (3, va_rf a3), (4, .int a4)] [] p0 (f_J5_addEntry p0 a0 a1 a2 a3 a4)
  refine x_cl1 (fun e0 => ?_)
  refine x_new cl_19 (by decide) q1322 q1323 q155 rfl dJ5_addEntry_0 (n := 3) rfl (fun b1 p2 => ?_)
  refine x_dup dJ5_addEntry_3 rfl (n := 4) rfl ?_
  refine x_aload_n 1 dJ5_addEntry_4 rfl rfl (n := 5) rfl ?_
  refine x_aload_n 2 dJ5_addEntry_5 rfl rfl (n := 6) rfl ?_
  refine x_aload_n 3 dJ5_addEntry_6 rfl rfl (n := 7) rfl ?_
  refine x_callI_V [va_rf a1, va_rf a2, va_rf a3] [.ref b1] (f_J23_init_ok hO p2 b1 a1 a2 a3) md_J23_init rfl q1324 q1325 dJ5_addEntry_7 rfl rfl (by decide) (Nat.le_of_ble_eq_true rfl) (n := 10) rfl (fun p3 => ?_)
  refine x_astorer [(5, .ref b1), (0, .ref a0), (1, va_rf a1), (2, va_rf a2), (3, va_rf a3), (4, .int a4)] dJ5_addEntry_10 (by decide) rfl (n := 12) rfl ?_
  refine x_iload 5 dJ5_addEntry_12 rfl (n := 14) rfl ?_
  refine x_if_eq dJ5_addEntry_14 (t := 26) (by decide) (n := 17) rfl (fun _ => ?_) (fun _ => ?_)
  · refine x_aload_n 4 dJ5_addEntry_26 rfl rfl (n := 27) rfl ?_
    refine x_aloadr 0 dJ5_addEntry_27 rfl (n := 29) rfl ?_
    refine x_sm (fun b4 e => ?_)
    subst e
    refine x_pF (pl_J5_114 _ _ (xfit_o (some b1))) dJ5_addEntry_29 (n := 32) rfl (fun p5 => ?_)
    refine x_sub [1, 0] [(0, .ref a0), (5, .ref b1)] rfl ?_
    exact f_J5_addEntry_32_ok hO a0 b1 p5
  · refine x_aload_n 4 dJ5_addEntry_17 rfl rfl (n := 18) rfl ?_
    refine x_aloadr 0 dJ5_addEntry_18 rfl (n := 20) rfl ?_
    refine x_sm (fun b11 e => ?_)
    subst e
    refine x_pF (pl_J5_111 _ _ (xfit_o (some b1))) dJ5_addEntry_20 (n := 23) rfl (fun p12 => ?_)
    refine x_goto dJ5_addEntry_23 (n := 32) (by decide) ?_
    refine x_sub [1, 0] [(0, .ref a0), (5, .ref b1)] rfl ?_
    exact f_J5_addEntry_32_ok hO a0 b1 p12
abbrev cJ5_put_2 : ByteArray := prog_77_method_31_code
def yJ5_put_2 : MethodName := ⟨RJ5, "put", "(Ljava/lang/Object;Ljava/lang/Object;Z)Ljava/lang/Object;"⟩
def dkwJ5_put_2_9 : List UInt8 := [4, 167, 0, 4, 3, 182, 0, 139, 1, 176]
abbrev dktJ5_put_2_9 : List UInt8 := dkwJ5_put_2_9 ++ []
def dkwJ5_put_2_8 : List UInt8 := [25, 4, 44, 181, 0, 58, 25, 9, 176, 25, 4, 199, 255, 181, 42, 43, 44, 25, 6, 21, 5, 156, 0, 7]
abbrev dktJ5_put_2_8 : List UInt8 := dkwJ5_put_2_8 ++ dktJ5_put_2_9
def dkwJ5_put_2_7 : List UInt8 := [180, 0, 114, 58, 4, 167, 0, 28, 25, 4, 180, 0, 58, 58, 9, 29, 154, 0, 8, 25, 9, 199, 0, 9]
abbrev dktJ5_put_2_7 : List UInt8 := dkwJ5_put_2_7 ++ dktJ5_put_2_8
def dkwJ5_put_2_6 : List UInt8 := [21, 5, 156, 0, 13, 25, 4, 180, 0, 111, 58, 4, 167, 0, 43, 21, 5, 158, 0, 13, 25, 4]
abbrev dktJ5_put_2_6 : List UInt8 := dkwJ5_put_2_6 ++ dktJ5_put_2_7
def dkwJ5_put_2_5 : List UInt8 := [192, 0, 99, 58, 8, 25, 4, 58, 6, 25, 8, 25, 4, 180, 0, 105, 185, 0, 107, 2, 0, 54, 5]
abbrev dktJ5_put_2_5 : List UInt8 := dkwJ5_put_2_5 ++ dktJ5_put_2_6
def dkwJ5_put_2_4 : List UInt8 := [25, 4, 44, 181, 0, 58, 25, 8, 176, 25, 4, 199, 255, 180, 167, 0, 92, 43, 184, 0, 95, 87, 43]
abbrev dktJ5_put_2_4 : List UInt8 := dkwJ5_put_2_4 ++ dktJ5_put_2_5
def dkwJ5_put_2_3 : List UInt8 := [180, 0, 114, 58, 4, 167, 0, 28, 25, 4, 180, 0, 58, 58, 8, 29, 154, 0, 8, 25, 8, 199, 0, 9]
abbrev dktJ5_put_2_3 : List UInt8 := dkwJ5_put_2_3 ++ dktJ5_put_2_4
def dkwJ5_put_2_2 : List UInt8 := [54, 5, 21, 5, 156, 0, 13, 25, 4, 180, 0, 111, 58, 4, 167, 0, 43, 21, 5, 158, 0, 13, 25, 4]
abbrev dktJ5_put_2_2 : List UInt8 := dkwJ5_put_2_2 ++ dktJ5_put_2_3
def dkwJ5_put_2_1 : List UInt8 := [58, 7, 25, 7, 198, 0, 85, 25, 4, 58, 6, 25, 7, 43, 25, 4, 180, 0, 105, 185, 0, 117, 3, 0]
abbrev dktJ5_put_2_1 : List UInt8 := dkwJ5_put_2_1 ++ dktJ5_put_2_2
def dkwJ5_put_2_0 : List UInt8 := [42, 180, 0, 101, 58, 4, 25, 4, 199, 0, 11, 42, 43, 44, 182, 0, 135, 1, 176, 42, 180, 0, 16]
abbrev dktJ5_put_2_0 : List UInt8 := dkwJ5_put_2_0 ++ dktJ5_put_2_1
theorem dksJ5_put_2_0 : cJ5_put_2.data.toList.drop 0 = dktJ5_put_2_0 := by decide +kernel
theorem dksJ5_put_2_1 : cJ5_put_2.data.toList.drop 23 = dktJ5_put_2_1 := dk_seg dksJ5_put_2_0 23 rfl rfl
theorem dksJ5_put_2_2 : cJ5_put_2.data.toList.drop 47 = dktJ5_put_2_2 := dk_seg dksJ5_put_2_1 24 rfl rfl
theorem dksJ5_put_2_3 : cJ5_put_2.data.toList.drop 71 = dktJ5_put_2_3 := dk_seg dksJ5_put_2_2 24 rfl rfl
theorem dksJ5_put_2_4 : cJ5_put_2.data.toList.drop 95 = dktJ5_put_2_4 := dk_seg dksJ5_put_2_3 24 rfl rfl
theorem dksJ5_put_2_5 : cJ5_put_2.data.toList.drop 118 = dktJ5_put_2_5 := dk_seg dksJ5_put_2_4 23 rfl rfl
theorem dksJ5_put_2_6 : cJ5_put_2.data.toList.drop 141 = dktJ5_put_2_6 := dk_seg dksJ5_put_2_5 23 rfl rfl
theorem dksJ5_put_2_7 : cJ5_put_2.data.toList.drop 163 = dktJ5_put_2_7 := dk_seg dksJ5_put_2_6 22 rfl rfl
theorem dksJ5_put_2_8 : cJ5_put_2.data.toList.drop 187 = dktJ5_put_2_8 := dk_seg dksJ5_put_2_7 24 rfl rfl
theorem dksJ5_put_2_9 : cJ5_put_2.data.toList.drop 211 = dktJ5_put_2_9 := dk_seg dksJ5_put_2_8 24 rfl rfl
theorem dJ5_put_2_0 : decode cJ5_put_2 0 = .ok (.aload_n 0, 1) := dk_42 (dk_at dksJ5_put_2_0 0 rfl rfl)
theorem dJ5_put_2_1 : decode cJ5_put_2 1 = .ok (.getfield 101, 3) := dk_180 0 101 (dk_at dksJ5_put_2_0 1 rfl rfl)
theorem dJ5_put_2_4 : decode cJ5_put_2 4 = .ok (.astore 4, 2) := dk_58 4 (dk_at dksJ5_put_2_0 4 rfl rfl)
theorem dJ5_put_2_6 : decode cJ5_put_2 6 = .ok (.aload 4, 2) := dk_25 4 (dk_at dksJ5_put_2_0 6 rfl rfl)
theorem dJ5_put_2_8 : decode cJ5_put_2 8 = .ok (.ifnonnull 11, 3) := dk_199 0 11 (dk_at dksJ5_put_2_0 8 rfl rfl)
theorem dJ5_put_2_11 : decode cJ5_put_2 11 = .ok (.aload_n 0, 1) := dk_42 (dk_at dksJ5_put_2_0 11 rfl rfl)
theorem dJ5_put_2_12 : decode cJ5_put_2 12 = .ok (.aload_n 1, 1) := dk_43 (dk_at dksJ5_put_2_0 12 rfl rfl)
theorem dJ5_put_2_13 : decode cJ5_put_2 13 = .ok (.aload_n 2, 1) := dk_44 (dk_at dksJ5_put_2_0 13 rfl rfl)
theorem dJ5_put_2_14 : decode cJ5_put_2 14 = .ok (.invokevirtual 135, 3) := dk_182 0 135 (dk_at dksJ5_put_2_0 14 rfl rfl)
theorem dJ5_put_2_17 : decode cJ5_put_2 17 = .ok (.aconst_null, 1) := dk_1 (dk_at dksJ5_put_2_0 17 rfl rfl)
theorem dJ5_put_2_18 : decode cJ5_put_2 18 = .ok (.areturn, 1) := dk_176 (dk_at dksJ5_put_2_0 18 rfl rfl)
theorem dJ5_put_2_19 : decode cJ5_put_2 19 = .ok (.aload_n 0, 1) := dk_42 (dk_at dksJ5_put_2_0 19 rfl rfl)
theorem dJ5_put_2_20 : decode cJ5_put_2 20 = .ok (.getfield 16, 3) := dk_180 0 16 (dk_at dksJ5_put_2_0 20 rfl rfl)
theorem dJ5_put_2_23 : decode cJ5_put_2 23 = .ok (.astore 7, 2) := dk_58 7 (dk_at dksJ5_put_2_1 0 rfl rfl)
theorem dJ5_put_2_25 : decode cJ5_put_2 25 = .ok (.aload 7, 2) := dk_25 7 (dk_at dksJ5_put_2_1 2 rfl rfl)
theorem dJ5_put_2_27 : decode cJ5_put_2 27 = .ok (.ifnull 85, 3) := dk_198 0 85 (dk_at dksJ5_put_2_1 4 rfl rfl)
theorem dJ5_put_2_30 : decode cJ5_put_2 30 = .ok (.aload 4, 2) := dk_25 4 (dk_at dksJ5_put_2_1 7 rfl rfl)
theorem dJ5_put_2_32 : decode cJ5_put_2 32 = .ok (.astore 6, 2) := dk_58 6 (dk_at dksJ5_put_2_1 9 rfl rfl)
theorem dJ5_put_2_34 : decode cJ5_put_2 34 = .ok (.aload 7, 2) := dk_25 7 (dk_at dksJ5_put_2_1 11 rfl rfl)
theorem dJ5_put_2_36 : decode cJ5_put_2 36 = .ok (.aload_n 1, 1) := dk_43 (dk_at dksJ5_put_2_1 13 rfl rfl)
theorem dJ5_put_2_37 : decode cJ5_put_2 37 = .ok (.aload 4, 2) := dk_25 4 (dk_at dksJ5_put_2_1 14 rfl rfl)
theorem dJ5_put_2_39 : decode cJ5_put_2 39 = .ok (.getfield 105, 3) := dk_180 0 105 (dk_at dksJ5_put_2_1 16 rfl rfl)
theorem dJ5_put_2_42 : decode cJ5_put_2 42 = .ok (.invokeinterface 117 3, 5) := by decide +kernel
theorem dJ5_put_2_47 : decode cJ5_put_2 47 = .ok (.istore 5, 2) := dk_54 5 (dk_at dksJ5_put_2_2 0 rfl rfl)
theorem dJ5_put_2_49 : decode cJ5_put_2 49 = .ok (.iload 5, 2) := dk_21 5 (dk_at dksJ5_put_2_2 2 rfl rfl)
theorem dJ5_put_2_51 : decode cJ5_put_2 51 = .ok (.ifCond .ge 13, 3) := dk_156 0 13 (dk_at dksJ5_put_2_2 4 rfl rfl)
theorem dJ5_put_2_54 : decode cJ5_put_2 54 = .ok (.aload 4, 2) := dk_25 4 (dk_at dksJ5_put_2_2 7 rfl rfl)
theorem dJ5_put_2_56 : decode cJ5_put_2 56 = .ok (.getfield 111, 3) := dk_180 0 111 (dk_at dksJ5_put_2_2 9 rfl rfl)
theorem dJ5_put_2_59 : decode cJ5_put_2 59 = .ok (.astore 4, 2) := dk_58 4 (dk_at dksJ5_put_2_2 12 rfl rfl)
theorem dJ5_put_2_61 : decode cJ5_put_2 61 = .ok (.goto 43, 3) := dk_167 0 43 (dk_at dksJ5_put_2_2 14 rfl rfl)
theorem dJ5_put_2_64 : decode cJ5_put_2 64 = .ok (.iload 5, 2) := dk_21 5 (dk_at dksJ5_put_2_2 17 rfl rfl)
theorem dJ5_put_2_66 : decode cJ5_put_2 66 = .ok (.ifCond .le 13, 3) := dk_158 0 13 (dk_at dksJ5_put_2_2 19 rfl rfl)
theorem dJ5_put_2_69 : decode cJ5_put_2 69 = .ok (.aload 4, 2) := dk_25 4 (dk_at dksJ5_put_2_2 22 rfl rfl)
theorem dJ5_put_2_71 : decode cJ5_put_2 71 = .ok (.getfield 114, 3) := dk_180 0 114 (dk_at dksJ5_put_2_3 0 rfl rfl)
theorem dJ5_put_2_74 : decode cJ5_put_2 74 = .ok (.astore 4, 2) := dk_58 4 (dk_at dksJ5_put_2_3 3 rfl rfl)
theorem dJ5_put_2_76 : decode cJ5_put_2 76 = .ok (.goto 28, 3) := dk_167 0 28 (dk_at dksJ5_put_2_3 5 rfl rfl)
theorem dJ5_put_2_79 : decode cJ5_put_2 79 = .ok (.aload 4, 2) := dk_25 4 (dk_at dksJ5_put_2_3 8 rfl rfl)
theorem dJ5_put_2_81 : decode cJ5_put_2 81 = .ok (.getfield 58, 3) := dk_180 0 58 (dk_at dksJ5_put_2_3 10 rfl rfl)
theorem dJ5_put_2_84 : decode cJ5_put_2 84 = .ok (.astore 8, 2) := dk_58 8 (dk_at dksJ5_put_2_3 13 rfl rfl)
theorem dJ5_put_2_86 : decode cJ5_put_2 86 = .ok (.iload_n 3, 1) := dk_29 (dk_at dksJ5_put_2_3 15 rfl rfl)
theorem dJ5_put_2_87 : decode cJ5_put_2 87 = .ok (.ifCond .ne 8, 3) := dk_154 0 8 (dk_at dksJ5_put_2_3 16 rfl rfl)
theorem dJ5_put_2_90 : decode cJ5_put_2 90 = .ok (.aload 8, 2) := dk_25 8 (dk_at dksJ5_put_2_3 19 rfl rfl)
theorem dJ5_put_2_92 : decode cJ5_put_2 92 = .ok (.ifnonnull 9, 3) := dk_199 0 9 (dk_at dksJ5_put_2_3 21 rfl rfl)
theorem dJ5_put_2_95 : decode cJ5_put_2 95 = .ok (.aload 4, 2) := dk_25 4 (dk_at dksJ5_put_2_4 0 rfl rfl)
theorem dJ5_put_2_97 : decode cJ5_put_2 97 = .ok (.aload_n 2, 1) := dk_44 (dk_at dksJ5_put_2_4 2 rfl rfl)
theorem dJ5_put_2_98 : decode cJ5_put_2 98 = .ok (.putfield 58, 3) := dk_181 0 58 (dk_at dksJ5_put_2_4 3 rfl rfl)
theorem dJ5_put_2_101 : decode cJ5_put_2 101 = .ok (.aload 8, 2) := dk_25 8 (dk_at dksJ5_put_2_4 6 rfl rfl)
theorem dJ5_put_2_103 : decode cJ5_put_2 103 = .ok (.areturn, 1) := dk_176 (dk_at dksJ5_put_2_4 8 rfl rfl)
theorem dJ5_put_2_104 : decode cJ5_put_2 104 = .ok (.aload 4, 2) := dk_25 4 (dk_at dksJ5_put_2_4 9 rfl rfl)
theorem dJ5_put_2_106 : decode cJ5_put_2 106 = .ok (.ifnonnull (-76), 3) := dk_199 255 180 (dk_at dksJ5_put_2_4 11 rfl rfl)
theorem dJ5_put_2_109 : decode cJ5_put_2 109 = .ok (.goto 92, 3) := dk_167 0 92 (dk_at dksJ5_put_2_4 14 rfl rfl)
theorem dJ5_put_2_112 : decode cJ5_put_2 112 = .ok (.aload_n 1, 1) := dk_43 (dk_at dksJ5_put_2_4 17 rfl rfl)
theorem dJ5_put_2_113 : decode cJ5_put_2 113 = .ok (.invokestatic 95, 3) := dk_184 0 95 (dk_at dksJ5_put_2_4 18 rfl rfl)
theorem dJ5_put_2_116 : decode cJ5_put_2 116 = .ok (.pop, 1) := dk_87 (dk_at dksJ5_put_2_4 21 rfl rfl)
theorem dJ5_put_2_117 : decode cJ5_put_2 117 = .ok (.aload_n 1, 1) := dk_43 (dk_at dksJ5_put_2_4 22 rfl rfl)
theorem dJ5_put_2_118 : decode cJ5_put_2 118 = .ok (.checkcast 99, 3) := dk_192 0 99 (dk_at dksJ5_put_2_5 0 rfl rfl)
theorem dJ5_put_2_121 : decode cJ5_put_2 121 = .ok (.astore 8, 2) := dk_58 8 (dk_at dksJ5_put_2_5 3 rfl rfl)
theorem dJ5_put_2_123 : decode cJ5_put_2 123 = .ok (.aload 4, 2) := dk_25 4 (dk_at dksJ5_put_2_5 5 rfl rfl)
theorem dJ5_put_2_125 : decode cJ5_put_2 125 = .ok (.astore 6, 2) := dk_58 6 (dk_at dksJ5_put_2_5 7 rfl rfl)
theorem dJ5_put_2_127 : decode cJ5_put_2 127 = .ok (.aload 8, 2) := dk_25 8 (dk_at dksJ5_put_2_5 9 rfl rfl)
theorem dJ5_put_2_129 : decode cJ5_put_2 129 = .ok (.aload 4, 2) := dk_25 4 (dk_at dksJ5_put_2_5 11 rfl rfl)
theorem dJ5_put_2_131 : decode cJ5_put_2 131 = .ok (.getfield 105, 3) := dk_180 0 105 (dk_at dksJ5_put_2_5 13 rfl rfl)
theorem dJ5_put_2_134 : decode cJ5_put_2 134 = .ok (.invokeinterface 107 2, 5) := by decide +kernel
theorem dJ5_put_2_139 : decode cJ5_put_2 139 = .ok (.istore 5, 2) := dk_54 5 (dk_at dksJ5_put_2_5 21 rfl rfl)
theorem dJ5_put_2_141 : decode cJ5_put_2 141 = .ok (.iload 5, 2) := dk_21 5 (dk_at dksJ5_put_2_6 0 rfl rfl)
theorem dJ5_put_2_143 : decode cJ5_put_2 143 = .ok (.ifCond .ge 13, 3) := dk_156 0 13 (dk_at dksJ5_put_2_6 2 rfl rfl)
theorem dJ5_put_2_146 : decode cJ5_put_2 146 = .ok (.aload 4, 2) := dk_25 4 (dk_at dksJ5_put_2_6 5 rfl rfl)
theorem dJ5_put_2_148 : decode cJ5_put_2 148 = .ok (.getfield 111, 3) := dk_180 0 111 (dk_at dksJ5_put_2_6 7 rfl rfl)
theorem dJ5_put_2_151 : decode cJ5_put_2 151 = .ok (.astore 4, 2) := dk_58 4 (dk_at dksJ5_put_2_6 10 rfl rfl)
theorem dJ5_put_2_153 : decode cJ5_put_2 153 = .ok (.goto 43, 3) := dk_167 0 43 (dk_at dksJ5_put_2_6 12 rfl rfl)
theorem dJ5_put_2_156 : decode cJ5_put_2 156 = .ok (.iload 5, 2) := dk_21 5 (dk_at dksJ5_put_2_6 15 rfl rfl)
theorem dJ5_put_2_158 : decode cJ5_put_2 158 = .ok (.ifCond .le 13, 3) := dk_158 0 13 (dk_at dksJ5_put_2_6 17 rfl rfl)
theorem dJ5_put_2_161 : decode cJ5_put_2 161 = .ok (.aload 4, 2) := dk_25 4 (dk_at dksJ5_put_2_6 20 rfl rfl)
theorem dJ5_put_2_163 : decode cJ5_put_2 163 = .ok (.getfield 114, 3) := dk_180 0 114 (dk_at dksJ5_put_2_7 0 rfl rfl)
theorem dJ5_put_2_166 : decode cJ5_put_2 166 = .ok (.astore 4, 2) := dk_58 4 (dk_at dksJ5_put_2_7 3 rfl rfl)
theorem dJ5_put_2_168 : decode cJ5_put_2 168 = .ok (.goto 28, 3) := dk_167 0 28 (dk_at dksJ5_put_2_7 5 rfl rfl)
theorem dJ5_put_2_171 : decode cJ5_put_2 171 = .ok (.aload 4, 2) := dk_25 4 (dk_at dksJ5_put_2_7 8 rfl rfl)
theorem dJ5_put_2_173 : decode cJ5_put_2 173 = .ok (.getfield 58, 3) := dk_180 0 58 (dk_at dksJ5_put_2_7 10 rfl rfl)
theorem dJ5_put_2_176 : decode cJ5_put_2 176 = .ok (.astore 9, 2) := dk_58 9 (dk_at dksJ5_put_2_7 13 rfl rfl)
theorem dJ5_put_2_178 : decode cJ5_put_2 178 = .ok (.iload_n 3, 1) := dk_29 (dk_at dksJ5_put_2_7 15 rfl rfl)
theorem dJ5_put_2_179 : decode cJ5_put_2 179 = .ok (.ifCond .ne 8, 3) := dk_154 0 8 (dk_at dksJ5_put_2_7 16 rfl rfl)
theorem dJ5_put_2_182 : decode cJ5_put_2 182 = .ok (.aload 9, 2) := dk_25 9 (dk_at dksJ5_put_2_7 19 rfl rfl)
theorem dJ5_put_2_184 : decode cJ5_put_2 184 = .ok (.ifnonnull 9, 3) := dk_199 0 9 (dk_at dksJ5_put_2_7 21 rfl rfl)
theorem dJ5_put_2_187 : decode cJ5_put_2 187 = .ok (.aload 4, 2) := dk_25 4 (dk_at dksJ5_put_2_8 0 rfl rfl)
theorem dJ5_put_2_189 : decode cJ5_put_2 189 = .ok (.aload_n 2, 1) := dk_44 (dk_at dksJ5_put_2_8 2 rfl rfl)
theorem dJ5_put_2_190 : decode cJ5_put_2 190 = .ok (.putfield 58, 3) := dk_181 0 58 (dk_at dksJ5_put_2_8 3 rfl rfl)
theorem dJ5_put_2_193 : decode cJ5_put_2 193 = .ok (.aload 9, 2) := dk_25 9 (dk_at dksJ5_put_2_8 6 rfl rfl)
theorem dJ5_put_2_195 : decode cJ5_put_2 195 = .ok (.areturn, 1) := dk_176 (dk_at dksJ5_put_2_8 8 rfl rfl)
theorem dJ5_put_2_196 : decode cJ5_put_2 196 = .ok (.aload 4, 2) := dk_25 4 (dk_at dksJ5_put_2_8 9 rfl rfl)
theorem dJ5_put_2_198 : decode cJ5_put_2 198 = .ok (.ifnonnull (-75), 3) := dk_199 255 181 (dk_at dksJ5_put_2_8 11 rfl rfl)
theorem dJ5_put_2_201 : decode cJ5_put_2 201 = .ok (.aload_n 0, 1) := dk_42 (dk_at dksJ5_put_2_8 14 rfl rfl)
theorem dJ5_put_2_202 : decode cJ5_put_2 202 = .ok (.aload_n 1, 1) := dk_43 (dk_at dksJ5_put_2_8 15 rfl rfl)
theorem dJ5_put_2_203 : decode cJ5_put_2 203 = .ok (.aload_n 2, 1) := dk_44 (dk_at dksJ5_put_2_8 16 rfl rfl)
theorem dJ5_put_2_204 : decode cJ5_put_2 204 = .ok (.aload 6, 2) := dk_25 6 (dk_at dksJ5_put_2_8 17 rfl rfl)
theorem dJ5_put_2_206 : decode cJ5_put_2 206 = .ok (.iload 5, 2) := dk_21 5 (dk_at dksJ5_put_2_8 19 rfl rfl)
theorem dJ5_put_2_208 : decode cJ5_put_2 208 = .ok (.ifCond .ge 7, 3) := dk_156 0 7 (dk_at dksJ5_put_2_8 21 rfl rfl)
theorem dJ5_put_2_211 : decode cJ5_put_2 211 = .ok (.iconst 1, 1) := dk_4 (dk_at dksJ5_put_2_9 0 rfl rfl)
theorem dJ5_put_2_212 : decode cJ5_put_2 212 = .ok (.goto 4, 3) := dk_167 0 4 (dk_at dksJ5_put_2_9 1 rfl rfl)
theorem dJ5_put_2_215 : decode cJ5_put_2 215 = .ok (.iconst 0, 1) := dk_3 (dk_at dksJ5_put_2_9 4 rfl rfl)
theorem dJ5_put_2_216 : decode cJ5_put_2 216 = .ok (.invokevirtual 139, 3) := dk_182 0 139 (dk_at dksJ5_put_2_9 5 rfl rfl)
theorem dJ5_put_2_219 : decode cJ5_put_2 219 = .ok (.aconst_null, 1) := dk_1 (dk_at dksJ5_put_2_9 8 rfl rfl)
theorem dJ5_put_2_220 : decode cJ5_put_2 220 = .ok (.areturn, 1) := dk_176 (dk_at dksJ5_put_2_9 9 rfl rfl)
theorem md_J5_put_2 : xMd yJ5_put_2 cJ5_put_2 10 (Option.some (Jvm.ClassFile.FieldType.object "java/lang/Object")) 3 := ⟨q1313, q132, by decide, by decide +kernel, by decide +kernel, by decide +kernel⟩
def f_J5_put_2_187 (a0 : Nat)  (v2 : Option Nat) (v4 : Option Nat) (v9 : Option Nat) (p0 : PH) : Option (xO × PH) :=
  (xnul v4 none fun b17 =>
  (xpF p0 b17 19 1 (va_rf v2) fun p18 =>
  (rR v9 p18)))
def f_J5_put_2_216 (a0 : Nat)  (w1 : Option Nat) (w2 : Option Nat) (w3 : Option Nat) (w4 : Int32) (p0 : PH) : Option (xO × PH) :=
  (xcV (f_J5_addEntry p0 a0 w1 w2 w3 w4) fun p22 =>
  (rR none p22))
def f_J5_put_2_201 (a0 : Nat)  (v1 : Option Nat) (v2 : Option Nat) (v5 : Int32) (v6 : Option Nat) (p0 : PH) : Option (xO × PH) :=
  (if 0 ≤ v5 then
  (f_J5_put_2_216 a0 v1 v2 v6 0 p0) else
  (f_J5_put_2_216 a0 v1 v2 v6 1 p0))
def f_J5_put_2_196 (a0 : Nat) (k123 : Option Nat × Option Nat × Int32 × Option Nat × Option Nat × PH → Option (xO × PH)) (v1 : Option Nat) (v2 : Option Nat) (v3 : Int32) (v4 : Option Nat) (v5 : Int32) (v6 : Option Nat) (v8 : Option Nat) (p0 : PH) : Option (xO × PH) :=
  (xnul v4 (f_J5_put_2_201 a0 v1 v2 v5 v6 p0) fun b21 =>
  (k123 (v1, v2, v3, ((some b21)), v8, p0)))
def f_J5_put_2_123F (a0 : Nat)  (k123 : Option Nat × Option Nat × Int32 × Option Nat × Option Nat × PH → Option (xO × PH)) (p : Option Nat × Option Nat × Int32 × Option Nat × Option Nat × PH) : Option (xO × PH) := match p with
  | (v1, v2, v3, v4, v8, p0) => (xnul v4 none fun b8 =>
  (xgR p0 b8 19 0 fun x9 =>
  (xnul v8 none fun b10 =>
  (xsw p0 b10 fun c12 =>
  (if c12 = 10 then
  (xcI (f_X11_compareTo p0 b10 x9) fun x15 p14 =>
  (if 0 ≤ x15 then
  (if x15 ≤ 0 then
  (xgR p14 b8 19 1 fun x16 =>
  (if v3 = 0 then
  (xnul x16 (f_J5_put_2_187 a0 v2 ((some b8)) none p14) fun b19 =>
  (rR (some b19) p14)) else
  (f_J5_put_2_187 a0 v2 ((some b8)) x16 p14))) else
  (xgR p14 b8 19 3 fun x20 =>
  (f_J5_put_2_196 a0 k123 v1 v2 v3 x20 x15 ((some b8)) ((some b10)) p14))) else
  (xgR p14 b8 19 2 fun x23 =>
  (f_J5_put_2_196 a0 k123 v1 v2 v3 x23 x15 ((some b8)) ((some b10)) p14)))) else
  (if c12 = 16 then
  (xcI (f_J6_compareTo p0 b10 x9) fun x25 p24 =>
  (if 0 ≤ x25 then
  (if x25 ≤ 0 then
  (xgR p24 b8 19 1 fun x26 =>
  (if v3 = 0 then
  (xnul x26 (f_J5_put_2_187 a0 v2 ((some b8)) none p24) fun b27 =>
  (rR (some b27) p24)) else
  (f_J5_put_2_187 a0 v2 ((some b8)) x26 p24))) else
  (xgR p24 b8 19 3 fun x28 =>
  (f_J5_put_2_196 a0 k123 v1 v2 v3 x28 x25 ((some b8)) ((some b10)) p24))) else
  (xgR p24 b8 19 2 fun x29 =>
  (f_J5_put_2_196 a0 k123 v1 v2 v3 x29 x25 ((some b8)) ((some b10)) p24)))) else
  (if c12 = 18 then
  (xcI (f_J19_compareTo p0 b10 x9) fun x31 p30 =>
  (if 0 ≤ x31 then
  (if x31 ≤ 0 then
  (xgR p30 b8 19 1 fun x32 =>
  (if v3 = 0 then
  (xnul x32 (f_J5_put_2_187 a0 v2 ((some b8)) none p30) fun b33 =>
  (rR (some b33) p30)) else
  (f_J5_put_2_187 a0 v2 ((some b8)) x32 p30))) else
  (xgR p30 b8 19 3 fun x34 =>
  (f_J5_put_2_196 a0 k123 v1 v2 v3 x34 x31 ((some b8)) ((some b10)) p30))) else
  (xgR p30 b8 19 2 fun x35 =>
  (f_J5_put_2_196 a0 k123 v1 v2 v3 x35 x31 ((some b8)) ((some b10)) p30)))) else
  none)))))))
def f_J5_put_2_95 (a0 : Nat)  (v2 : Option Nat) (v4 : Option Nat) (v8 : Option Nat) (p0 : PH) : Option (xO × PH) :=
  (xnul v4 none fun b45 =>
  (xpF p0 b45 19 1 (va_rf v2) fun p46 =>
  (rR v8 p46)))
def f_J5_put_2_104 (a0 : Nat) (k30 : Option Nat × Option Nat × Int32 × Option Nat × Option Nat × PH → Option (xO × PH)) (v1 : Option Nat) (v2 : Option Nat) (v3 : Int32) (v4 : Option Nat) (v5 : Int32) (v6 : Option Nat) (v7 : Option Nat) (p0 : PH) : Option (xO × PH) :=
  (xnul v4 (f_J5_put_2_201 a0 v1 v2 v5 v6 p0) fun b49 =>
  (k30 (v1, v2, v3, ((some b49)), v7, p0)))
def f_J5_put_2_30F (a0 : Nat)  (k30 : Option Nat × Option Nat × Int32 × Option Nat × Option Nat × PH → Option (xO × PH)) (p : Option Nat × Option Nat × Int32 × Option Nat × Option Nat × PH) : Option (xO × PH) := match p with
  | (v1, v2, v3, v4, v7, p0) => (xnul v4 none fun b36 =>
  (xgR p0 b36 19 0 fun x37 =>
  (xnul v7 none fun b38 =>
  (xsw p0 b38 fun c40 =>
  (if c40 = 9 then
  (xcI (f_X10_compare p0 b38 v1 x37) fun x43 p42 =>
  (if 0 ≤ x43 then
  (if x43 ≤ 0 then
  (xgR p42 b36 19 1 fun x44 =>
  (if v3 = 0 then
  (xnul x44 (f_J5_put_2_95 a0 v2 ((some b36)) none p42) fun b47 =>
  (rR (some b47) p42)) else
  (f_J5_put_2_95 a0 v2 ((some b36)) x44 p42))) else
  (xgR p42 b36 19 3 fun x48 =>
  (f_J5_put_2_104 a0 k30 v1 v2 v3 x48 x43 ((some b36)) ((some b38)) p42))) else
  (xgR p42 b36 19 2 fun x50 =>
  (f_J5_put_2_104 a0 k30 v1 v2 v3 x50 x43 ((some b36)) ((some b38)) p42)))) else
  (if c40 = 12 then
  (xcI (f_X13_compare p0 b38 v1 x37) fun x52 p51 =>
  (if 0 ≤ x52 then
  (if x52 ≤ 0 then
  (xgR p51 b36 19 1 fun x53 =>
  (if v3 = 0 then
  (xnul x53 (f_J5_put_2_95 a0 v2 ((some b36)) none p51) fun b54 =>
  (rR (some b54) p51)) else
  (f_J5_put_2_95 a0 v2 ((some b36)) x53 p51))) else
  (xgR p51 b36 19 3 fun x55 =>
  (f_J5_put_2_104 a0 k30 v1 v2 v3 x55 x52 ((some b36)) ((some b38)) p51))) else
  (xgR p51 b36 19 2 fun x56 =>
  (f_J5_put_2_104 a0 k30 v1 v2 v3 x56 x52 ((some b36)) ((some b38)) p51)))) else
  none))))))
def f_J5_put_2 (p0 : PH) (a0 : Nat) (a1 : Option Nat) (a2 : Option Nat) (a3 : Int32) : Option (xO × PH) :=
  (xcl1 p0 a0 15 (xgR p0 a0 15 3 fun x1 =>
  (xnul x1 (xcV (f_J5_addEntryToEmptyMap p0 a0 a1 a2) fun p3 =>
  (rR none p3)) fun b2 =>
  (xgR p0 a0 15 2 fun x4 =>
  (xnul x4 (xcR (f_J20_requireNonNull p0 a1) fun x7 p6 =>
  (xcst p6 (a1) [16, 18, 10]
  (lp (f_J5_put_2_123F a0) FU (a1, a2, a3, ((some b2)), a1, p6)))) fun b5 =>
  (lp (f_J5_put_2_30F a0) FU (a1, a2, a3, ((some b2)), ((some b5)), p0)))))))
theorem rc_J5_put_2 {p0 : PH} {a0 : Nat} {a1 : Option Nat} {a2 : Option Nat} {a3 : Int32} : ∀ z, f_J5_put_2 p0 a0 a1 a2 a3 = some z → xco p0 a0 = some 15 := fun z h => xcl1_some h
theorem f_J5_put_2_187_ok {G : xG} (hO : xOK G) (a0 : Nat)  (v2 : Option Nat) (v4 : Option Nat) (v9 : Option Nat) (p0 : PH) : X G "java/util/TreeMap" "put" cJ5_put_2 10 (Option.some (Jvm.ClassFile.FieldType.object "java/lang/Object")) 7 187 [(2, va_rf v2), (4, va_rf v4), (9, va_rf v9)] [] p0 (f_J5_put_2_187 a0 v2 v4 v9 p0) := by
  unfold f_J5_put_2_187
  refine x_aload 1 dJ5_put_2_187 rfl (n := 189) rfl ?_
  refine x_aload_n 0 dJ5_put_2_189 rfl rfl (n := 190) rfl ?_
  refine x_sm (fun b17 e => ?_)
  subst e
  refine x_pF (pl_J5_58 _ _ (xfit_o (v2))) dJ5_put_2_190 (n := 193) rfl (fun p18 => ?_)
  refine x_aload 2 dJ5_put_2_193 rfl (n := 195) rfl ?_
  exact x_areturn (x := v9) (Or.inl ⟨_, rfl⟩) dJ5_put_2_195
theorem f_J5_put_2_216_ok {G : xG} (hO : xOK G) (a0 : Nat)  (w1 : Option Nat) (w2 : Option Nat) (w3 : Option Nat) (w4 : Int32) (p0 : PH) : X G "java/util/TreeMap" "put" cJ5_put_2 10 (Option.some (Jvm.ClassFile.FieldType.object "java/lang/Object")) 7 216 [] [.int w4, va_rf w3, va_rf w2, va_rf w1, .ref a0] p0 (f_J5_put_2_216 a0 w1 w2 w3 w4 p0) := by
  unfold f_J5_put_2_216
  refine x_callV_V [va_rf w1, va_rf w2, va_rf w3, .int w4] [] (f_J5_addEntry_ok hO p0 a0 w1 w2 w3 w4) rc_J5_addEntry md_J5_addEntry rfl q1354 q1356 qs19 dJ5_put_2_216 rfl rfl (by decide) (Nat.le_of_ble_eq_true rfl) (n := 219) rfl (fun p22 => ?_)
  refine x_null dJ5_put_2_219 (n := 220) rfl ?_
  exact x_areturn (x := none) (Or.inl ⟨_, rfl⟩) dJ5_put_2_220
theorem f_J5_put_2_201_ok {G : xG} (hO : xOK G) (a0 : Nat)  (v1 : Option Nat) (v2 : Option Nat) (v5 : Int32) (v6 : Option Nat) (p0 : PH) : X G "java/util/TreeMap" "put" cJ5_put_2 10 (Option.some (Jvm.ClassFile.FieldType.object "java/lang/Object")) 7 201 [(0, .ref a0), (1, va_rf v1), (2, va_rf v2), (5, .int v5), (6, va_rf v6)] [] p0 (f_J5_put_2_201 a0 v1 v2 v5 v6 p0) := by
  unfold f_J5_put_2_201
  refine x_aload_nr 0 dJ5_put_2_201 rfl rfl (n := 202) rfl ?_
  refine x_aload_n 1 dJ5_put_2_202 rfl rfl (n := 203) rfl ?_
  refine x_aload_n 2 dJ5_put_2_203 rfl rfl (n := 204) rfl ?_
  refine x_aload 4 dJ5_put_2_204 rfl (n := 206) rfl ?_
  refine x_iload 3 dJ5_put_2_206 rfl (n := 208) rfl ?_
  refine x_if_ge dJ5_put_2_208 (t := 215) (by decide) (n := 211) rfl (fun _ => ?_) (fun _ => ?_)
  · refine x_iconst 0 dJ5_put_2_215 rfl (n := 216) rfl ?_
    refine x_sub [] [] rfl ?_
    exact f_J5_put_2_216_ok hO a0 v1 v2 v6 0 p0
  · refine x_iconst 1 dJ5_put_2_211 rfl (n := 212) rfl ?_
    refine x_goto dJ5_put_2_212 (n := 216) (by decide) ?_
    refine x_sub [] [] rfl ?_
    exact f_J5_put_2_216_ok hO a0 v1 v2 v6 1 p0
theorem f_J5_put_2_196_ok {G : xG} (hO : xOK G) (a0 : Nat) {k123 : Option Nat × Option Nat × Int32 × Option Nat × Option Nat × PH → Option (xO × PH)} (hk123 : ∀ (v1 : Option Nat) (v2 : Option Nat) (v3 : Int32) (v4 : Option Nat) (v8 : Option Nat) (p0 : PH), X G "java/util/TreeMap" "put" cJ5_put_2 10 (Option.some (Jvm.ClassFile.FieldType.object "java/lang/Object")) 7 123 [(0, .ref a0), (1, va_rf v1), (2, va_rf v2), (3, .int v3), (4, va_rf v4), (8, va_rf v8)] [] p0 (k123 (v1, v2, v3, v4, v8, p0))) (v1 : Option Nat) (v2 : Option Nat) (v3 : Int32) (v4 : Option Nat) (v5 : Int32) (v6 : Option Nat) (v8 : Option Nat) (p0 : PH) : X G "java/util/TreeMap" "put" cJ5_put_2 10 (Option.some (Jvm.ClassFile.FieldType.object "java/lang/Object")) 7 196 [(0, .ref a0), (1, va_rf v1), (2, va_rf v2), (3, .int v3), (4, va_rf v4), (5, .int v5), (6, va_rf v6), (8, va_rf v8)] [] p0 (f_J5_put_2_196 a0 k123 v1 v2 v3 v4 v5 v6 v8 p0) := by
  unfold f_J5_put_2_196
  refine x_aload 4 dJ5_put_2_196 rfl (n := 198) rfl ?_
  refine x_ifnonnull dJ5_put_2_198 (t := 123) (by decide) (n := 201) rfl (fun e => ?_) (fun b21 e => ?_)
  · subst e
    refine x_sub [0, 1, 2, 5, 6] [(0, .ref a0), (1, va_rf v1), (2, va_rf v2), (5, .int v5), (6, va_rf v6)] rfl ?_
    exact f_J5_put_2_201_ok hO a0 v1 v2 v5 v6 p0
  · subst e
    refine x_sub [0, 1, 2, 3, 4, 7] [(0, .ref a0), (1, va_rf v1), (2, va_rf v2), (3, .int v3), (4, .ref b21), (8, va_rf v8)] rfl ?_
    exact hk123 v1 v2 v3 ((some b21)) v8 p0
theorem f_J5_put_2_123F_ok {G : xG} (hO : xOK G) (a0 : Nat)  {k123 : Option Nat × Option Nat × Int32 × Option Nat × Option Nat × PH → Option (xO × PH)} (hk123 : ∀ (v1 : Option Nat) (v2 : Option Nat) (v3 : Int32) (v4 : Option Nat) (v8 : Option Nat) (p0 : PH), X G "java/util/TreeMap" "put" cJ5_put_2 10 (Option.some (Jvm.ClassFile.FieldType.object "java/lang/Object")) 7 123 [(0, .ref a0), (1, va_rf v1), (2, va_rf v2), (3, .int v3), (4, va_rf v4), (8, va_rf v8)] [] p0 (k123 (v1, v2, v3, v4, v8, p0))) (v1 : Option Nat) (v2 : Option Nat) (v3 : Int32) (v4 : Option Nat) (v8 : Option Nat) (p0 : PH) : X G "java/util/TreeMap" "put" cJ5_put_2 10 (Option.some (Jvm.ClassFile.FieldType.object "java/lang/Object")) 7 123 [(0, .ref a0), (1, va_rf v1), (2, va_rf v2), (3, .int v3), (4, va_rf v4), (8, va_rf v8)] [] p0 (f_J5_put_2_123F a0 k123 (v1, v2, v3, v4, v8, p0)) := by
  unfold f_J5_put_2_123F
  refine x_aload 4 dJ5_put_2_123 rfl (n := 125) rfl ?_
  refine x_astore [(6, va_rf v4), (0, .ref a0), (1, va_rf v1), (2, va_rf v2), (3, .int v3), (4, va_rf v4), (8, va_rf v8)] dJ5_put_2_125 (by decide) rfl (n := 127) rfl ?_
  refine x_aload 6 dJ5_put_2_127 rfl (n := 129) rfl ?_
  refine x_aload 5 dJ5_put_2_129 rfl (n := 131) rfl ?_
  refine x_sm (fun b8 e => ?_)
  subst e
  refine x_getR fl_J5_105 dJ5_put_2_131 (n := 134) rfl (fun x9 => ?_)
  refine x_sm (fun b10 e => ?_)
  subst e
  refine x_sw (fun c12 e => ?_)
  refine x_ite (fun h => ?_) (fun _ => ?_)
  · subst h
    refine x_callF_I [va_rf x9] [] (f_X11_compareTo_ok hO p0 b10 x9) rc_X11_compareTo md_X11_compareTo rfl q972 fc_ForestLegs_Part_java_lang_Comparable_compareTo_1_Ljaval dJ5_put_2_134 rfl rfl (by decide) (Nat.le_of_ble_eq_true rfl) (n := 139) rfl (fun x15 p14 => ?_)
    refine x_istore [(5, .int x15), (6, .ref b8), (0, .ref a0), (1, va_rf v1), (2, va_rf v2), (3, .int v3), (4, .ref b8), (8, .ref b10)] dJ5_put_2_139 (by decide) rfl (n := 141) rfl ?_
    refine x_iload 0 dJ5_put_2_141 rfl (n := 143) rfl ?_
    refine x_if_ge dJ5_put_2_143 (t := 156) (by decide) (n := 146) rfl (fun _ => ?_) (fun _ => ?_)
    · refine x_iload 0 dJ5_put_2_156 rfl (n := 158) rfl ?_
      refine x_if_le dJ5_put_2_158 (t := 171) (by decide) (n := 161) rfl (fun _ => ?_) (fun _ => ?_)
      · refine x_aloadr 6 dJ5_put_2_171 rfl (n := 173) rfl ?_
        refine x_getR fl_J5_58 dJ5_put_2_173 (n := 176) rfl (fun x16 => ?_)
        refine x_astore [(9, va_rf x16), (5, .int x15), (6, .ref b8), (0, .ref a0), (1, va_rf v1), (2, va_rf v2), (3, .int v3), (4, .ref b8), (8, .ref b10)] dJ5_put_2_176 (by decide) rfl (n := 178) rfl ?_
        refine x_iload_n 6 dJ5_put_2_178 rfl rfl (n := 179) rfl ?_
        refine x_if_ne dJ5_put_2_179 (t := 187) (by decide) (n := 182) rfl (fun _ => ?_) (fun _ => ?_)
        · refine x_sub [5, 7, 0] [(2, va_rf v2), (4, .ref b8), (9, va_rf x16)] rfl ?_
          exact f_J5_put_2_187_ok hO a0 v2 ((some b8)) x16 p14
        · refine x_aload 0 dJ5_put_2_182 rfl (n := 184) rfl ?_
          refine x_ifnonnull dJ5_put_2_184 (t := 193) (by decide) (n := 187) rfl (fun e => ?_) (fun b19 e => ?_)
          · subst e
            refine x_sub [5, 7, 0] [(2, va_rf v2), (4, .ref b8), (9, va_rf none)] rfl ?_
            exact f_J5_put_2_187_ok hO a0 v2 ((some b8)) none p14
          · subst e
            refine x_aloadr 0 dJ5_put_2_193 rfl (n := 195) rfl ?_
            exact x_areturn (x := some b19) (Or.inl ⟨_, rfl⟩) dJ5_put_2_195
      · refine x_aloadr 6 dJ5_put_2_161 rfl (n := 163) rfl ?_
        refine x_getR fl_J5_114 dJ5_put_2_163 (n := 166) rfl (fun x20 => ?_)
        refine x_astore [(4, va_rf x20), (5, .int x15), (6, .ref b8), (0, .ref a0), (1, va_rf v1), (2, va_rf v2), (3, .int v3), (8, .ref b10)] dJ5_put_2_166 (by decide) rfl (n := 168) rfl ?_
        refine x_goto dJ5_put_2_168 (n := 196) (by decide) ?_
        refine x_sub [3, 4, 5, 6, 0, 1, 2, 7] [(0, .ref a0), (1, va_rf v1), (2, va_rf v2), (3, .int v3), (4, va_rf x20), (5, .int x15), (6, .ref b8), (8, .ref b10)] rfl ?_
        exact f_J5_put_2_196_ok hO a0 hk123 v1 v2 v3 x20 x15 ((some b8)) ((some b10)) p14
    · refine x_aloadr 6 dJ5_put_2_146 rfl (n := 148) rfl ?_
      refine x_getR fl_J5_111 dJ5_put_2_148 (n := 151) rfl (fun x23 => ?_)
      refine x_astore [(4, va_rf x23), (5, .int x15), (6, .ref b8), (0, .ref a0), (1, va_rf v1), (2, va_rf v2), (3, .int v3), (8, .ref b10)] dJ5_put_2_151 (by decide) rfl (n := 153) rfl ?_
      refine x_goto dJ5_put_2_153 (n := 196) (by decide) ?_
      refine x_sub [3, 4, 5, 6, 0, 1, 2, 7] [(0, .ref a0), (1, va_rf v1), (2, va_rf v2), (3, .int v3), (4, va_rf x23), (5, .int x15), (6, .ref b8), (8, .ref b10)] rfl ?_
      exact f_J5_put_2_196_ok hO a0 hk123 v1 v2 v3 x23 x15 ((some b8)) ((some b10)) p14
  refine x_ite (fun h => ?_) (fun _ => ?_)
  · subst h
    refine x_callF_I [va_rf x9] [] (f_J6_compareTo_ok hO p0 b10 x9) rc_J6_compareTo md_J6_compareTo rfl q972 fc_java_lang_String_java_lang_Comparable_compareTo_1_Ljaval dJ5_put_2_134 rfl rfl (by decide) (Nat.le_of_ble_eq_true rfl) (n := 139) rfl (fun x25 p24 => ?_)
    refine x_istore [(5, .int x25), (6, .ref b8), (0, .ref a0), (1, va_rf v1), (2, va_rf v2), (3, .int v3), (4, .ref b8), (8, .ref b10)] dJ5_put_2_139 (by decide) rfl (n := 141) rfl ?_
    refine x_iload 0 dJ5_put_2_141 rfl (n := 143) rfl ?_
    refine x_if_ge dJ5_put_2_143 (t := 156) (by decide) (n := 146) rfl (fun _ => ?_) (fun _ => ?_)
    · refine x_iload 0 dJ5_put_2_156 rfl (n := 158) rfl ?_
      refine x_if_le dJ5_put_2_158 (t := 171) (by decide) (n := 161) rfl (fun _ => ?_) (fun _ => ?_)
      · refine x_aloadr 6 dJ5_put_2_171 rfl (n := 173) rfl ?_
        refine x_getR fl_J5_58 dJ5_put_2_173 (n := 176) rfl (fun x26 => ?_)
        refine x_astore [(9, va_rf x26), (5, .int x25), (6, .ref b8), (0, .ref a0), (1, va_rf v1), (2, va_rf v2), (3, .int v3), (4, .ref b8), (8, .ref b10)] dJ5_put_2_176 (by decide) rfl (n := 178) rfl ?_
        refine x_iload_n 6 dJ5_put_2_178 rfl rfl (n := 179) rfl ?_
        refine x_if_ne dJ5_put_2_179 (t := 187) (by decide) (n := 182) rfl (fun _ => ?_) (fun _ => ?_)
        · refine x_sub [5, 7, 0] [(2, va_rf v2), (4, .ref b8), (9, va_rf x26)] rfl ?_
          exact f_J5_put_2_187_ok hO a0 v2 ((some b8)) x26 p24
        · refine x_aload 0 dJ5_put_2_182 rfl (n := 184) rfl ?_
          refine x_ifnonnull dJ5_put_2_184 (t := 193) (by decide) (n := 187) rfl (fun e => ?_) (fun b27 e => ?_)
          · subst e
            refine x_sub [5, 7, 0] [(2, va_rf v2), (4, .ref b8), (9, va_rf none)] rfl ?_
            exact f_J5_put_2_187_ok hO a0 v2 ((some b8)) none p24
          · subst e
            refine x_aloadr 0 dJ5_put_2_193 rfl (n := 195) rfl ?_
            exact x_areturn (x := some b27) (Or.inl ⟨_, rfl⟩) dJ5_put_2_195
      · refine x_aloadr 6 dJ5_put_2_161 rfl (n := 163) rfl ?_
        refine x_getR fl_J5_114 dJ5_put_2_163 (n := 166) rfl (fun x28 => ?_)
        refine x_astore [(4, va_rf x28), (5, .int x25), (6, .ref b8), (0, .ref a0), (1, va_rf v1), (2, va_rf v2), (3, .int v3), (8, .ref b10)] dJ5_put_2_166 (by decide) rfl (n := 168) rfl ?_
        refine x_goto dJ5_put_2_168 (n := 196) (by decide) ?_
        refine x_sub [3, 4, 5, 6, 0, 1, 2, 7] [(0, .ref a0), (1, va_rf v1), (2, va_rf v2), (3, .int v3), (4, va_rf x28), (5, .int x25), (6, .ref b8), (8, .ref b10)] rfl ?_
        exact f_J5_put_2_196_ok hO a0 hk123 v1 v2 v3 x28 x25 ((some b8)) ((some b10)) p24
    · refine x_aloadr 6 dJ5_put_2_146 rfl (n := 148) rfl ?_
      refine x_getR fl_J5_111 dJ5_put_2_148 (n := 151) rfl (fun x29 => ?_)
      refine x_astore [(4, va_rf x29), (5, .int x25), (6, .ref b8), (0, .ref a0), (1, va_rf v1), (2, va_rf v2), (3, .int v3), (8, .ref b10)] dJ5_put_2_151 (by decide) rfl (n := 153) rfl ?_
      refine x_goto dJ5_put_2_153 (n := 196) (by decide) ?_
      refine x_sub [3, 4, 5, 6, 0, 1, 2, 7] [(0, .ref a0), (1, va_rf v1), (2, va_rf v2), (3, .int v3), (4, va_rf x29), (5, .int x25), (6, .ref b8), (8, .ref b10)] rfl ?_
      exact f_J5_put_2_196_ok hO a0 hk123 v1 v2 v3 x29 x25 ((some b8)) ((some b10)) p24
  refine x_ite (fun h => ?_) (fun _ => ?_)
  · subst h
    refine x_callF_I [va_rf x9] [] (f_J19_compareTo_ok hO p0 b10 x9) rc_J19_compareTo md_J19_compareTo rfl q972 fc_java_lang_Integer_java_lang_Comparable_compareTo_1_Ljaval dJ5_put_2_134 rfl rfl (by decide) (Nat.le_of_ble_eq_true rfl) (n := 139) rfl (fun x31 p30 => ?_)
    refine x_istore [(5, .int x31), (6, .ref b8), (0, .ref a0), (1, va_rf v1), (2, va_rf v2), (3, .int v3), (4, .ref b8), (8, .ref b10)] dJ5_put_2_139 (by decide) rfl (n := 141) rfl ?_
    refine x_iload 0 dJ5_put_2_141 rfl (n := 143) rfl ?_
    refine x_if_ge dJ5_put_2_143 (t := 156) (by decide) (n := 146) rfl (fun _ => ?_) (fun _ => ?_)
    · refine x_iload 0 dJ5_put_2_156 rfl (n := 158) rfl ?_
      refine x_if_le dJ5_put_2_158 (t := 171) (by decide) (n := 161) rfl (fun _ => ?_) (fun _ => ?_)
      · refine x_aloadr 6 dJ5_put_2_171 rfl (n := 173) rfl ?_
        refine x_getR fl_J5_58 dJ5_put_2_173 (n := 176) rfl (fun x32 => ?_)
        refine x_astore [(9, va_rf x32), (5, .int x31), (6, .ref b8), (0, .ref a0), (1, va_rf v1), (2, va_rf v2), (3, .int v3), (4, .ref b8), (8, .ref b10)] dJ5_put_2_176 (by decide) rfl (n := 178) rfl ?_
        refine x_iload_n 6 dJ5_put_2_178 rfl rfl (n := 179) rfl ?_
        refine x_if_ne dJ5_put_2_179 (t := 187) (by decide) (n := 182) rfl (fun _ => ?_) (fun _ => ?_)
        · refine x_sub [5, 7, 0] [(2, va_rf v2), (4, .ref b8), (9, va_rf x32)] rfl ?_
          exact f_J5_put_2_187_ok hO a0 v2 ((some b8)) x32 p30
        · refine x_aload 0 dJ5_put_2_182 rfl (n := 184) rfl ?_
          refine x_ifnonnull dJ5_put_2_184 (t := 193) (by decide) (n := 187) rfl (fun e => ?_) (fun b33 e => ?_)
          · subst e
            refine x_sub [5, 7, 0] [(2, va_rf v2), (4, .ref b8), (9, va_rf none)] rfl ?_
            exact f_J5_put_2_187_ok hO a0 v2 ((some b8)) none p30
          · subst e
            refine x_aloadr 0 dJ5_put_2_193 rfl (n := 195) rfl ?_
            exact x_areturn (x := some b33) (Or.inl ⟨_, rfl⟩) dJ5_put_2_195
      · refine x_aloadr 6 dJ5_put_2_161 rfl (n := 163) rfl ?_
        refine x_getR fl_J5_114 dJ5_put_2_163 (n := 166) rfl (fun x34 => ?_)
        refine x_astore [(4, va_rf x34), (5, .int x31), (6, .ref b8), (0, .ref a0), (1, va_rf v1), (2, va_rf v2), (3, .int v3), (8, .ref b10)] dJ5_put_2_166 (by decide) rfl (n := 168) rfl ?_
        refine x_goto dJ5_put_2_168 (n := 196) (by decide) ?_
        refine x_sub [3, 4, 5, 6, 0, 1, 2, 7] [(0, .ref a0), (1, va_rf v1), (2, va_rf v2), (3, .int v3), (4, va_rf x34), (5, .int x31), (6, .ref b8), (8, .ref b10)] rfl ?_
        exact f_J5_put_2_196_ok hO a0 hk123 v1 v2 v3 x34 x31 ((some b8)) ((some b10)) p30
    · refine x_aloadr 6 dJ5_put_2_146 rfl (n := 148) rfl ?_
      refine x_getR fl_J5_111 dJ5_put_2_148 (n := 151) rfl (fun x35 => ?_)
      refine x_astore [(4, va_rf x35), (5, .int x31), (6, .ref b8), (0, .ref a0), (1, va_rf v1), (2, va_rf v2), (3, .int v3), (8, .ref b10)] dJ5_put_2_151 (by decide) rfl (n := 153) rfl ?_
      refine x_goto dJ5_put_2_153 (n := 196) (by decide) ?_
      refine x_sub [3, 4, 5, 6, 0, 1, 2, 7] [(0, .ref a0), (1, va_rf v1), (2, va_rf v2), (3, .int v3), (4, va_rf x35), (5, .int x31), (6, .ref b8), (8, .ref b10)] rfl ?_
      exact f_J5_put_2_196_ok hO a0 hk123 v1 v2 v3 x35 x31 ((some b8)) ((some b10)) p30
  exact x_no
theorem f_J5_put_2_123_lp {G : xG} (hO : xOK G) (a0 : Nat)  (n : Nat) (v1 : Option Nat) (v2 : Option Nat) (v3 : Int32) (v4 : Option Nat) (v8 : Option Nat) (p0 : PH) : X G "java/util/TreeMap" "put" cJ5_put_2 10 (Option.some (Jvm.ClassFile.FieldType.object "java/lang/Object")) 7 123 [(0, .ref a0), (1, va_rf v1), (2, va_rf v2), (3, .int v3), (4, va_rf v4), (8, va_rf v8)] [] p0 (lp (f_J5_put_2_123F a0) n (v1, v2, v3, v4, v8, p0)) :=
  lp_ok (W := fun p K => X G "java/util/TreeMap" "put" cJ5_put_2 10 (Option.some (Jvm.ClassFile.FieldType.object "java/lang/Object")) 7 123 [(0, .ref a0), (1, va_rf p.1), (2, va_rf p.2.1), (3, .int p.2.2.1), (4, va_rf p.2.2.2.1), (8, va_rf p.2.2.2.2.1)] [] p.2.2.2.2.2 K) (fun _ => x_no) (fun k hk => fun (v1, v2, v3, v4, v8, p0) => f_J5_put_2_123F_ok hO a0 (fun v1 v2 v3 v4 v8 p0 => hk (v1, v2, v3, v4, v8, p0)) v1 v2 v3 v4 v8 p0) n (v1, v2, v3, v4, v8, p0)
theorem f_J5_put_2_95_ok {G : xG} (hO : xOK G) (a0 : Nat)  (v2 : Option Nat) (v4 : Option Nat) (v8 : Option Nat) (p0 : PH) : X G "java/util/TreeMap" "put" cJ5_put_2 10 (Option.some (Jvm.ClassFile.FieldType.object "java/lang/Object")) 7 95 [(2, va_rf v2), (4, va_rf v4), (8, va_rf v8)] [] p0 (f_J5_put_2_95 a0 v2 v4 v8 p0) := by
  unfold f_J5_put_2_95
  refine x_aload 1 dJ5_put_2_95 rfl (n := 97) rfl ?_
  refine x_aload_n 0 dJ5_put_2_97 rfl rfl (n := 98) rfl ?_
  refine x_sm (fun b45 e => ?_)
  subst e
  refine x_pF (pl_J5_58 _ _ (xfit_o (v2))) dJ5_put_2_98 (n := 101) rfl (fun p46 => ?_)
  refine x_aload 2 dJ5_put_2_101 rfl (n := 103) rfl ?_
  exact x_areturn (x := v8) (Or.inl ⟨_, rfl⟩) dJ5_put_2_103
theorem f_J5_put_2_104_ok {G : xG} (hO : xOK G) (a0 : Nat) {k30 : Option Nat × Option Nat × Int32 × Option Nat × Option Nat × PH → Option (xO × PH)} (hk30 : ∀ (v1 : Option Nat) (v2 : Option Nat) (v3 : Int32) (v4 : Option Nat) (v7 : Option Nat) (p0 : PH), X G "java/util/TreeMap" "put" cJ5_put_2 10 (Option.some (Jvm.ClassFile.FieldType.object "java/lang/Object")) 7 30 [(0, .ref a0), (1, va_rf v1), (2, va_rf v2), (3, .int v3), (4, va_rf v4), (7, va_rf v7)] [] p0 (k30 (v1, v2, v3, v4, v7, p0))) (v1 : Option Nat) (v2 : Option Nat) (v3 : Int32) (v4 : Option Nat) (v5 : Int32) (v6 : Option Nat) (v7 : Option Nat) (p0 : PH) : X G "java/util/TreeMap" "put" cJ5_put_2 10 (Option.some (Jvm.ClassFile.FieldType.object "java/lang/Object")) 7 104 [(0, .ref a0), (1, va_rf v1), (2, va_rf v2), (3, .int v3), (4, va_rf v4), (5, .int v5), (6, va_rf v6), (7, va_rf v7)] [] p0 (f_J5_put_2_104 a0 k30 v1 v2 v3 v4 v5 v6 v7 p0) := by
  unfold f_J5_put_2_104
  refine x_aload 4 dJ5_put_2_104 rfl (n := 106) rfl ?_
  refine x_ifnonnull dJ5_put_2_106 (t := 30) (by decide) (n := 109) rfl (fun e => ?_) (fun b49 e => ?_)
  · subst e
    refine x_goto dJ5_put_2_109 (n := 201) (by decide) ?_
    refine x_sub [0, 1, 2, 5, 6] [(0, .ref a0), (1, va_rf v1), (2, va_rf v2), (5, .int v5), (6, va_rf v6)] rfl ?_
    exact f_J5_put_2_201_ok hO a0 v1 v2 v5 v6 p0
  · subst e
    refine x_sub [0, 1, 2, 3, 4, 7] [(0, .ref a0), (1, va_rf v1), (2, va_rf v2), (3, .int v3), (4, .ref b49), (7, va_rf v7)] rfl ?_
    exact hk30 v1 v2 v3 ((some b49)) v7 p0
theorem f_J5_put_2_30F_ok {G : xG} (hO : xOK G) (a0 : Nat)  {k30 : Option Nat × Option Nat × Int32 × Option Nat × Option Nat × PH → Option (xO × PH)} (hk30 : ∀ (v1 : Option Nat) (v2 : Option Nat) (v3 : Int32) (v4 : Option Nat) (v7 : Option Nat) (p0 : PH), X G "java/util/TreeMap" "put" cJ5_put_2 10 (Option.some (Jvm.ClassFile.FieldType.object "java/lang/Object")) 7 30 [(0, .ref a0), (1, va_rf v1), (2, va_rf v2), (3, .int v3), (4, va_rf v4), (7, va_rf v7)] [] p0 (k30 (v1, v2, v3, v4, v7, p0))) (v1 : Option Nat) (v2 : Option Nat) (v3 : Int32) (v4 : Option Nat) (v7 : Option Nat) (p0 : PH) : X G "java/util/TreeMap" "put" cJ5_put_2 10 (Option.some (Jvm.ClassFile.FieldType.object "java/lang/Object")) 7 30 [(0, .ref a0), (1, va_rf v1), (2, va_rf v2), (3, .int v3), (4, va_rf v4), (7, va_rf v7)] [] p0 (f_J5_put_2_30F a0 k30 (v1, v2, v3, v4, v7, p0)) := by
  unfold f_J5_put_2_30F
  refine x_aload 4 dJ5_put_2_30 rfl (n := 32) rfl ?_
  refine x_astore [(6, va_rf v4), (0, .ref a0), (1, va_rf v1), (2, va_rf v2), (3, .int v3), (4, va_rf v4), (7, va_rf v7)] dJ5_put_2_32 (by decide) rfl (n := 34) rfl ?_
  refine x_aload 6 dJ5_put_2_34 rfl (n := 36) rfl ?_
  refine x_aload_n 2 dJ5_put_2_36 rfl rfl (n := 37) rfl ?_
  refine x_aload 5 dJ5_put_2_37 rfl (n := 39) rfl ?_
  refine x_sm (fun b36 e => ?_)
  subst e
  refine x_getR fl_J5_105 dJ5_put_2_39 (n := 42) rfl (fun x37 => ?_)
  refine x_sm (fun b38 e => ?_)
  subst e
  refine x_sw (fun c40 e => ?_)
  refine x_ite (fun h => ?_) (fun _ => ?_)
  · subst h
    refine x_callF_I [va_rf v1, va_rf x37] [] (f_X10_compare_ok hO p0 b38 v1 x37) rc_X10_compare md_X10_compare rfl q912 fc_ForestLegs_2_java_util_Comparator_compare_2_Ljaval dJ5_put_2_42 rfl rfl (by decide) (Nat.le_of_ble_eq_true rfl) (n := 47) rfl (fun x43 p42 => ?_)
    refine x_istore [(5, .int x43), (6, .ref b36), (0, .ref a0), (1, va_rf v1), (2, va_rf v2), (3, .int v3), (4, .ref b36), (7, .ref b38)] dJ5_put_2_47 (by decide) rfl (n := 49) rfl ?_
    refine x_iload 0 dJ5_put_2_49 rfl (n := 51) rfl ?_
    refine x_if_ge dJ5_put_2_51 (t := 64) (by decide) (n := 54) rfl (fun _ => ?_) (fun _ => ?_)
    · refine x_iload 0 dJ5_put_2_64 rfl (n := 66) rfl ?_
      refine x_if_le dJ5_put_2_66 (t := 79) (by decide) (n := 69) rfl (fun _ => ?_) (fun _ => ?_)
      · refine x_aloadr 6 dJ5_put_2_79 rfl (n := 81) rfl ?_
        refine x_getR fl_J5_58 dJ5_put_2_81 (n := 84) rfl (fun x44 => ?_)
        refine x_astore [(8, va_rf x44), (5, .int x43), (6, .ref b36), (0, .ref a0), (1, va_rf v1), (2, va_rf v2), (3, .int v3), (4, .ref b36), (7, .ref b38)] dJ5_put_2_84 (by decide) rfl (n := 86) rfl ?_
        refine x_iload_n 6 dJ5_put_2_86 rfl rfl (n := 87) rfl ?_
        refine x_if_ne dJ5_put_2_87 (t := 95) (by decide) (n := 90) rfl (fun _ => ?_) (fun _ => ?_)
        · refine x_sub [5, 7, 0] [(2, va_rf v2), (4, .ref b36), (8, va_rf x44)] rfl ?_
          exact f_J5_put_2_95_ok hO a0 v2 ((some b36)) x44 p42
        · refine x_aload 0 dJ5_put_2_90 rfl (n := 92) rfl ?_
          refine x_ifnonnull dJ5_put_2_92 (t := 101) (by decide) (n := 95) rfl (fun e => ?_) (fun b47 e => ?_)
          · subst e
            refine x_sub [5, 7, 0] [(2, va_rf v2), (4, .ref b36), (8, va_rf none)] rfl ?_
            exact f_J5_put_2_95_ok hO a0 v2 ((some b36)) none p42
          · subst e
            refine x_aloadr 0 dJ5_put_2_101 rfl (n := 103) rfl ?_
            exact x_areturn (x := some b47) (Or.inl ⟨_, rfl⟩) dJ5_put_2_103
      · refine x_aloadr 6 dJ5_put_2_69 rfl (n := 71) rfl ?_
        refine x_getR fl_J5_114 dJ5_put_2_71 (n := 74) rfl (fun x48 => ?_)
        refine x_astore [(4, va_rf x48), (5, .int x43), (6, .ref b36), (0, .ref a0), (1, va_rf v1), (2, va_rf v2), (3, .int v3), (7, .ref b38)] dJ5_put_2_74 (by decide) rfl (n := 76) rfl ?_
        refine x_goto dJ5_put_2_76 (n := 104) (by decide) ?_
        refine x_sub [3, 4, 5, 6, 0, 1, 2, 7] [(0, .ref a0), (1, va_rf v1), (2, va_rf v2), (3, .int v3), (4, va_rf x48), (5, .int x43), (6, .ref b36), (7, .ref b38)] rfl ?_
        exact f_J5_put_2_104_ok hO a0 hk30 v1 v2 v3 x48 x43 ((some b36)) ((some b38)) p42
    · refine x_aloadr 6 dJ5_put_2_54 rfl (n := 56) rfl ?_
      refine x_getR fl_J5_111 dJ5_put_2_56 (n := 59) rfl (fun x50 => ?_)
      refine x_astore [(4, va_rf x50), (5, .int x43), (6, .ref b36), (0, .ref a0), (1, va_rf v1), (2, va_rf v2), (3, .int v3), (7, .ref b38)] dJ5_put_2_59 (by decide) rfl (n := 61) rfl ?_
      refine x_goto dJ5_put_2_61 (n := 104) (by decide) ?_
      refine x_sub [3, 4, 5, 6, 0, 1, 2, 7] [(0, .ref a0), (1, va_rf v1), (2, va_rf v2), (3, .int v3), (4, va_rf x50), (5, .int x43), (6, .ref b36), (7, .ref b38)] rfl ?_
      exact f_J5_put_2_104_ok hO a0 hk30 v1 v2 v3 x50 x43 ((some b36)) ((some b38)) p42
  refine x_ite (fun h => ?_) (fun _ => ?_)
  · subst h
    refine x_callF_I [va_rf v1, va_rf x37] [] (f_X13_compare_ok hO p0 b38 v1 x37) rc_X13_compare md_X13_compare rfl q912 fc_ForestLegs_1_java_util_Comparator_compare_2_Ljaval dJ5_put_2_42 rfl rfl (by decide) (Nat.le_of_ble_eq_true rfl) (n := 47) rfl (fun x52 p51 => ?_)
    refine x_istore [(5, .int x52), (6, .ref b36), (0, .ref a0), (1, va_rf v1), (2, va_rf v2), (3, .int v3), (4, .ref b36), (7, .ref b38)] dJ5_put_2_47 (by decide) rfl (n := 49) rfl ?_
    refine x_iload 0 dJ5_put_2_49 rfl (n := 51) rfl ?_
    refine x_if_ge dJ5_put_2_51 (t := 64) (by decide) (n := 54) rfl (fun _ => ?_) (fun _ => ?_)
    · refine x_iload 0 dJ5_put_2_64 rfl (n := 66) rfl ?_
      refine x_if_le dJ5_put_2_66 (t := 79) (by decide) (n := 69) rfl (fun _ => ?_) (fun _ => ?_)
      · refine x_aloadr 6 dJ5_put_2_79 rfl (n := 81) rfl ?_
        refine x_getR fl_J5_58 dJ5_put_2_81 (n := 84) rfl (fun x53 => ?_)
        refine x_astore [(8, va_rf x53), (5, .int x52), (6, .ref b36), (0, .ref a0), (1, va_rf v1), (2, va_rf v2), (3, .int v3), (4, .ref b36), (7, .ref b38)] dJ5_put_2_84 (by decide) rfl (n := 86) rfl ?_
        refine x_iload_n 6 dJ5_put_2_86 rfl rfl (n := 87) rfl ?_
        refine x_if_ne dJ5_put_2_87 (t := 95) (by decide) (n := 90) rfl (fun _ => ?_) (fun _ => ?_)
        · refine x_sub [5, 7, 0] [(2, va_rf v2), (4, .ref b36), (8, va_rf x53)] rfl ?_
          exact f_J5_put_2_95_ok hO a0 v2 ((some b36)) x53 p51
        · refine x_aload 0 dJ5_put_2_90 rfl (n := 92) rfl ?_
          refine x_ifnonnull dJ5_put_2_92 (t := 101) (by decide) (n := 95) rfl (fun e => ?_) (fun b54 e => ?_)
          · subst e
            refine x_sub [5, 7, 0] [(2, va_rf v2), (4, .ref b36), (8, va_rf none)] rfl ?_
            exact f_J5_put_2_95_ok hO a0 v2 ((some b36)) none p51
          · subst e
            refine x_aloadr 0 dJ5_put_2_101 rfl (n := 103) rfl ?_
            exact x_areturn (x := some b54) (Or.inl ⟨_, rfl⟩) dJ5_put_2_103
      · refine x_aloadr 6 dJ5_put_2_69 rfl (n := 71) rfl ?_
        refine x_getR fl_J5_114 dJ5_put_2_71 (n := 74) rfl (fun x55 => ?_)
        refine x_astore [(4, va_rf x55), (5, .int x52), (6, .ref b36), (0, .ref a0), (1, va_rf v1), (2, va_rf v2), (3, .int v3), (7, .ref b38)] dJ5_put_2_74 (by decide) rfl (n := 76) rfl ?_
        refine x_goto dJ5_put_2_76 (n := 104) (by decide) ?_
        refine x_sub [3, 4, 5, 6, 0, 1, 2, 7] [(0, .ref a0), (1, va_rf v1), (2, va_rf v2), (3, .int v3), (4, va_rf x55), (5, .int x52), (6, .ref b36), (7, .ref b38)] rfl ?_
        exact f_J5_put_2_104_ok hO a0 hk30 v1 v2 v3 x55 x52 ((some b36)) ((some b38)) p51
    · refine x_aloadr 6 dJ5_put_2_54 rfl (n := 56) rfl ?_
      refine x_getR fl_J5_111 dJ5_put_2_56 (n := 59) rfl (fun x56 => ?_)
      refine x_astore [(4, va_rf x56), (5, .int x52), (6, .ref b36), (0, .ref a0), (1, va_rf v1), (2, va_rf v2), (3, .int v3), (7, .ref b38)] dJ5_put_2_59 (by decide) rfl (n := 61) rfl ?_
      refine x_goto dJ5_put_2_61 (n := 104) (by decide) ?_
      refine x_sub [3, 4, 5, 6, 0, 1, 2, 7] [(0, .ref a0), (1, va_rf v1), (2, va_rf v2), (3, .int v3), (4, va_rf x56), (5, .int x52), (6, .ref b36), (7, .ref b38)] rfl ?_
      exact f_J5_put_2_104_ok hO a0 hk30 v1 v2 v3 x56 x52 ((some b36)) ((some b38)) p51
  exact x_no
theorem f_J5_put_2_30_lp {G : xG} (hO : xOK G) (a0 : Nat)  (n : Nat) (v1 : Option Nat) (v2 : Option Nat) (v3 : Int32) (v4 : Option Nat) (v7 : Option Nat) (p0 : PH) : X G "java/util/TreeMap" "put" cJ5_put_2 10 (Option.some (Jvm.ClassFile.FieldType.object "java/lang/Object")) 7 30 [(0, .ref a0), (1, va_rf v1), (2, va_rf v2), (3, .int v3), (4, va_rf v4), (7, va_rf v7)] [] p0 (lp (f_J5_put_2_30F a0) n (v1, v2, v3, v4, v7, p0)) :=
  lp_ok (W := fun p K => X G "java/util/TreeMap" "put" cJ5_put_2 10 (Option.some (Jvm.ClassFile.FieldType.object "java/lang/Object")) 7 30 [(0, .ref a0), (1, va_rf p.1), (2, va_rf p.2.1), (3, .int p.2.2.1), (4, va_rf p.2.2.2.1), (7, va_rf p.2.2.2.2.1)] [] p.2.2.2.2.2 K) (fun _ => x_no) (fun k hk => fun (v1, v2, v3, v4, v7, p0) => f_J5_put_2_30F_ok hO a0 (fun v1 v2 v3 v4 v7 p0 => hk (v1, v2, v3, v4, v7, p0)) v1 v2 v3 v4 v7 p0) n (v1, v2, v3, v4, v7, p0)
theorem f_J5_put_2_ok {G : xG} (hO : xOK G) (p0 : PH) (a0 : Nat) (a1 : Option Nat) (a2 : Option Nat) (a3 : Int32) : CT G 7 yJ5_put_2 cJ5_put_2 10 (Option.some (Jvm.ClassFile.FieldType.object "java/lang/Object")) [.ref a0, va_rf a1, va_rf a2, .int a3] p0 (f_J5_put_2 p0 a0 a1 a2 a3) := by
  refine CT_of hO (by decide +kernel) (by decide +kernel) (lg_slen _ (by simp only [List.map, xcat]; exact Nat.le_of_ble_eq_true rfl)) ?_
  rw [show lv_args 0 [.ref a0, va_rf a1, va_rf a2, .int a3] = [(0, .ref a0), (1, va_rf a1), (2, va_rf a2), (3, .int a3)] from by simp only [lv_args, xcat] <;> rfl]
  show X G "java/util/TreeMap" "put" cJ5_put_2 10 (Option.some (Jvm.ClassFile.FieldType.object "java/lang/Object")) 7 0 [(0, .ref a0), (1, va_rf a1), (2, va_rf a2), (3, .int a3)] [] p0 (f_J5_put_2 p0 a0 a1 a2 a3)
  refine x_cl1 (fun e0 => ?_)
  refine x_aload_nr 0 dJ5_put_2_0 rfl rfl (n := 1) rfl ?_
  refine x_getR fl_J5_101 dJ5_put_2_1 (n := 4) rfl (fun x1 => ?_)
  refine x_astore [(4, va_rf x1), (0, .ref a0), (1, va_rf a1), (2, va_rf a2), (3, .int a3)] dJ5_put_2_4 (by decide) rfl (n := 6) rfl ?_
  refine x_aload 0 dJ5_put_2_6 rfl (n := 8) rfl ?_
  refine x_ifnonnull dJ5_put_2_8 (t := 19) (by decide) (n := 11) rfl (fun e => ?_) (fun b2 e => ?_)
  · subst e
    refine x_aload_nr 1 dJ5_put_2_11 rfl rfl (n := 12) rfl ?_
    refine x_aload_n 2 dJ5_put_2_12 rfl rfl (n := 13) rfl ?_
    refine x_aload_n 3 dJ5_put_2_13 rfl rfl (n := 14) rfl ?_
    refine x_callV_V [va_rf a1, va_rf a2] [] (f_J5_addEntryToEmptyMap_ok hO p0 a0 a1 a2) rc_J5_addEntryToEmptyMap md_J5_addEntryToEmptyMap rfl q1314 q1316 qs18 dJ5_put_2_14 rfl rfl (by decide) (Nat.le_of_ble_eq_true rfl) (n := 17) rfl (fun p3 => ?_)
    refine x_null dJ5_put_2_17 (n := 18) rfl ?_
    exact x_areturn (x := none) (Or.inl ⟨_, rfl⟩) dJ5_put_2_18
  · subst e
    refine x_aload_nr 1 dJ5_put_2_19 rfl rfl (n := 20) rfl ?_
    refine x_getR fl_J5_16 dJ5_put_2_20 (n := 23) rfl (fun x4 => ?_)
    refine x_astore [(7, va_rf x4), (4, .ref b2), (0, .ref a0), (1, va_rf a1), (2, va_rf a2), (3, .int a3)] dJ5_put_2_23 (by decide) rfl (n := 25) rfl ?_
    refine x_aload 0 dJ5_put_2_25 rfl (n := 27) rfl ?_
    refine x_ifnull dJ5_put_2_27 (t := 112) (by decide) (n := 30) rfl (fun e => ?_) (fun b5 e => ?_)
    · subst e
      refine x_aload_n 3 dJ5_put_2_112 rfl rfl (n := 113) rfl ?_
      refine x_callS_R [va_rf a1] [] (f_J20_requireNonNull_ok hO p0 a1) md_J20_requireNonNull q967 q968 dJ5_put_2_113 rfl rfl (by decide) (Nat.le_of_ble_eq_true rfl) (n := 116) rfl (fun x7 p6 => ?_)
      refine x_pop dJ5_put_2_116 (xcat _) (n := 117) rfl ?_
      refine x_aload_n 3 dJ5_put_2_117 rfl rfl (n := 118) rfl ?_
      refine x_cast (x := a1) (cs := [16, 18, 10]) q970 cst_java_lang_Comparable dJ5_put_2_118 (n := 121) rfl ?_
      refine x_astore [(8, va_rf a1), (7, va_rf none), (4, .ref b2), (0, .ref a0), (1, va_rf a1), (2, va_rf a2), (3, .int a3)] dJ5_put_2_121 (by decide) (by simp only [xst, List.filter_cons, List.filter_nil, xcat] <;> rfl) (n := 123) rfl ?_
      refine x_sub [3, 4, 5, 6, 2, 0] [(0, .ref a0), (1, va_rf a1), (2, va_rf a2), (3, .int a3), (4, .ref b2), (8, va_rf a1)] rfl ?_
      exact f_J5_put_2_123_lp hO a0 FU a1 a2 a3 ((some b2)) a1 p6
    · subst e
      refine x_sub [2, 3, 4, 5, 1, 0] [(0, .ref a0), (1, va_rf a1), (2, va_rf a2), (3, .int a3), (4, .ref b2), (7, .ref b5)] rfl ?_
      exact f_J5_put_2_30_lp hO a0 FU a1 a2 a3 ((some b2)) ((some b5)) p0
abbrev cJ5_put : ByteArray := prog_77_method_21_code
def yJ5_put : MethodName := ⟨RJ5, "put", "(Ljava/lang/Object;Ljava/lang/Object;)Ljava/lang/Object;"⟩
def dkwJ5_put_0 : List UInt8 := [42, 43, 44, 4, 182, 0, 127, 176]
abbrev dktJ5_put_0 : List UInt8 := dkwJ5_put_0 ++ []
theorem dksJ5_put_0 : cJ5_put.data.toList.drop 0 = dktJ5_put_0 := by decide +kernel
theorem dJ5_put_0 : decode cJ5_put 0 = .ok (.aload_n 0, 1) := dk_42 (dk_at dksJ5_put_0 0 rfl rfl)
theorem dJ5_put_1 : decode cJ5_put 1 = .ok (.aload_n 1, 1) := dk_43 (dk_at dksJ5_put_0 1 rfl rfl)
theorem dJ5_put_2 : decode cJ5_put 2 = .ok (.aload_n 2, 1) := dk_44 (dk_at dksJ5_put_0 2 rfl rfl)
theorem dJ5_put_3 : decode cJ5_put 3 = .ok (.iconst 1, 1) := dk_4 (dk_at dksJ5_put_0 3 rfl rfl)
theorem dJ5_put_4 : decode cJ5_put 4 = .ok (.invokevirtual 127, 3) := dk_182 0 127 (dk_at dksJ5_put_0 4 rfl rfl)
theorem dJ5_put_7 : decode cJ5_put 7 = .ok (.areturn, 1) := dk_176 (dk_at dksJ5_put_0 7 rfl rfl)
theorem md_J5_put : xMd yJ5_put cJ5_put 3 (Option.some (Jvm.ClassFile.FieldType.object "java/lang/Object")) 2 := ⟨q1309, q132, by decide, by decide +kernel, by decide +kernel, by decide +kernel⟩
def f_J5_put (p0 : PH) (a0 : Nat) (a1 : Option Nat) (a2 : Option Nat) : Option (xO × PH) :=
  (xcl1 p0 a0 15 (xcR (f_J5_put_2 p0 a0 a1 a2 1) fun x2 p1 =>
  (rR x2 p1)))
theorem rc_J5_put {p0 : PH} {a0 : Nat} {a1 : Option Nat} {a2 : Option Nat} : ∀ z, f_J5_put p0 a0 a1 a2 = some z → xco p0 a0 = some 15 := fun z h => xcl1_some h
theorem f_J5_put_ok {G : xG} (hO : xOK G) (p0 : PH) (a0 : Nat) (a1 : Option Nat) (a2 : Option Nat) : CT G 8 yJ5_put cJ5_put 3 (Option.some (Jvm.ClassFile.FieldType.object "java/lang/Object")) [.ref a0, va_rf a1, va_rf a2] p0 (f_J5_put p0 a0 a1 a2) := by
  refine CT_of hO (by decide +kernel) (by decide +kernel) (lg_slen _ (by simp only [List.map, xcat]; exact Nat.le_of_ble_eq_true rfl)) ?_
  rw [show lv_args 0 [.ref a0, va_rf a1, va_rf a2] = [(0, .ref a0), (1, va_rf a1), (2, va_rf a2)] from by simp only [lv_args, xcat] <;> rfl]
  show X G "java/util/TreeMap" "put" cJ5_put 3 (Option.some (Jvm.ClassFile.FieldType.object "java/lang/Object")) 8 0 [(0, .ref a0), (1, va_rf a1), (2, va_rf a2)] [] p0 (f_J5_put p0 a0 a1 a2)
  refine x_cl1 (fun e0 => ?_)
  refine x_aload_nr 0 dJ5_put_0 rfl rfl (n := 1) rfl ?_
  refine x_aload_n 1 dJ5_put_1 rfl rfl (n := 2) rfl ?_
  refine x_aload_n 2 dJ5_put_2 rfl rfl (n := 3) rfl ?_
  refine x_iconst 1 dJ5_put_3 rfl (n := 4) rfl ?_
  refine x_callV_R [va_rf a1, va_rf a2, .int 1] [] (f_J5_put_2_ok hO p0 a0 a1 a2 1) rc_J5_put_2 md_J5_put_2 rfl q1310 q1312 qs17 dJ5_put_4 rfl rfl (by decide) (Nat.le_of_ble_eq_true rfl) (n := 7) rfl (fun x2 p1 => ?_)
  exact x_areturn (x := x2) (Or.inl ⟨_, rfl⟩) dJ5_put_7
abbrev cX3_course : ByteArray := prog_10_method_13_code
def yX3_course : MethodName := ⟨RX3, "course", "()V"⟩
def dkwX3_course_5 : List UInt8 := [182, 0, 157, 87, 42, 180, 0, 18, 180, 0, 123, 43, 185, 0, 148, 2, 0, 87, 177]
abbrev dktX3_course_5 : List UInt8 := dkwX3_course_5 ++ []
def dkwX3_course_4 : List UInt8 := [42, 180, 0, 25, 43, 180, 0, 154, 42, 180, 0, 18, 180, 0, 123, 185, 0, 127, 1, 0, 184, 0, 142]
abbrev dktX3_course_4 : List UInt8 := dkwX3_course_4 ++ dktX3_course_5
def dkwX3_course_3 : List UInt8 := [182, 0, 105, 43, 180, 0, 136, 42, 43, 182, 0, 139, 184, 0, 142, 185, 0, 148, 2, 0, 87, 167, 255, 225]
abbrev dktX3_course_3 : List UInt8 := dkwX3_course_3 ++ dktX3_course_4
def dkwX3_course_2 : List UInt8 := [43, 182, 0, 139, 184, 0, 142, 185, 0, 148, 2, 0, 87, 42, 16, 44, 182, 0, 151, 153, 0, 28, 42]
abbrev dktX3_course_2 : List UInt8 := dkwX3_course_2 ++ dktX3_course_3
def dkwX3_course_1 : List UInt8 := [182, 0, 76, 42, 182, 0, 105, 187, 0, 116, 89, 42, 182, 0, 130, 183, 0, 133, 76, 43, 180, 0, 136, 42]
abbrev dktX3_course_1 : List UInt8 := dkwX3_course_1 ++ dktX3_course_2
def dkwX3_course_0 : List UInt8 := [42, 42, 180, 0, 18, 180, 0, 123, 185, 0, 127, 1, 0, 6, 162, 0, 7, 4, 167, 0, 4, 3, 7]
abbrev dktX3_course_0 : List UInt8 := dkwX3_course_0 ++ dktX3_course_1
theorem dksX3_course_0 : cX3_course.data.toList.drop 0 = dktX3_course_0 := by decide +kernel
theorem dksX3_course_1 : cX3_course.data.toList.drop 23 = dktX3_course_1 := dk_seg dksX3_course_0 23 rfl rfl
theorem dksX3_course_2 : cX3_course.data.toList.drop 47 = dktX3_course_2 := dk_seg dksX3_course_1 24 rfl rfl
theorem dksX3_course_3 : cX3_course.data.toList.drop 70 = dktX3_course_3 := dk_seg dksX3_course_2 23 rfl rfl
theorem dksX3_course_4 : cX3_course.data.toList.drop 94 = dktX3_course_4 := dk_seg dksX3_course_3 24 rfl rfl
theorem dksX3_course_5 : cX3_course.data.toList.drop 117 = dktX3_course_5 := dk_seg dksX3_course_4 23 rfl rfl
theorem dX3_course_0 : decode cX3_course 0 = .ok (.aload_n 0, 1) := dk_42 (dk_at dksX3_course_0 0 rfl rfl)
theorem dX3_course_1 : decode cX3_course 1 = .ok (.aload_n 0, 1) := dk_42 (dk_at dksX3_course_0 1 rfl rfl)
theorem dX3_course_2 : decode cX3_course 2 = .ok (.getfield 18, 3) := dk_180 0 18 (dk_at dksX3_course_0 2 rfl rfl)
theorem dX3_course_5 : decode cX3_course 5 = .ok (.getfield 123, 3) := dk_180 0 123 (dk_at dksX3_course_0 5 rfl rfl)
theorem dX3_course_8 : decode cX3_course 8 = .ok (.invokeinterface 127 1, 5) := by decide +kernel
theorem dX3_course_13 : decode cX3_course 13 = .ok (.iconst 3, 1) := dk_6 (dk_at dksX3_course_0 13 rfl rfl)
theorem dX3_course_14 : decode cX3_course 14 = .ok (.if_icmp .ge 7, 3) := dk_162 0 7 (dk_at dksX3_course_0 14 rfl rfl)
theorem dX3_course_17 : decode cX3_course 17 = .ok (.iconst 1, 1) := dk_4 (dk_at dksX3_course_0 17 rfl rfl)
theorem dX3_course_18 : decode cX3_course 18 = .ok (.goto 4, 3) := dk_167 0 4 (dk_at dksX3_course_0 18 rfl rfl)
theorem dX3_course_21 : decode cX3_course 21 = .ok (.iconst 0, 1) := dk_3 (dk_at dksX3_course_0 21 rfl rfl)
theorem dX3_course_22 : decode cX3_course 22 = .ok (.iconst 4, 1) := dk_7 (dk_at dksX3_course_0 22 rfl rfl)
theorem dX3_course_23 : decode cX3_course 23 = .ok (.invokevirtual 76, 3) := dk_182 0 76 (dk_at dksX3_course_1 0 rfl rfl)
theorem dX3_course_26 : decode cX3_course 26 = .ok (.aload_n 0, 1) := dk_42 (dk_at dksX3_course_1 3 rfl rfl)
theorem dX3_course_27 : decode cX3_course 27 = .ok (.invokevirtual 105, 3) := dk_182 0 105 (dk_at dksX3_course_1 4 rfl rfl)
theorem dX3_course_30 : decode cX3_course 30 = .ok (.new 116, 3) := dk_187 0 116 (dk_at dksX3_course_1 7 rfl rfl)
theorem dX3_course_33 : decode cX3_course 33 = .ok (.dup, 1) := dk_89 (dk_at dksX3_course_1 10 rfl rfl)
theorem dX3_course_34 : decode cX3_course 34 = .ok (.aload_n 0, 1) := dk_42 (dk_at dksX3_course_1 11 rfl rfl)
theorem dX3_course_35 : decode cX3_course 35 = .ok (.invokevirtual 130, 3) := dk_182 0 130 (dk_at dksX3_course_1 12 rfl rfl)
theorem dX3_course_38 : decode cX3_course 38 = .ok (.invokespecial 133, 3) := dk_183 0 133 (dk_at dksX3_course_1 15 rfl rfl)
theorem dX3_course_41 : decode cX3_course 41 = .ok (.astore_n 1, 1) := dk_76 (dk_at dksX3_course_1 18 rfl rfl)
theorem dX3_course_42 : decode cX3_course 42 = .ok (.aload_n 1, 1) := dk_43 (dk_at dksX3_course_1 19 rfl rfl)
theorem dX3_course_43 : decode cX3_course 43 = .ok (.getfield 136, 3) := dk_180 0 136 (dk_at dksX3_course_1 20 rfl rfl)
theorem dX3_course_46 : decode cX3_course 46 = .ok (.aload_n 0, 1) := dk_42 (dk_at dksX3_course_1 23 rfl rfl)
theorem dX3_course_47 : decode cX3_course 47 = .ok (.aload_n 1, 1) := dk_43 (dk_at dksX3_course_2 0 rfl rfl)
theorem dX3_course_48 : decode cX3_course 48 = .ok (.invokevirtual 139, 3) := dk_182 0 139 (dk_at dksX3_course_2 1 rfl rfl)
theorem dX3_course_51 : decode cX3_course 51 = .ok (.invokestatic 142, 3) := dk_184 0 142 (dk_at dksX3_course_2 4 rfl rfl)
theorem dX3_course_54 : decode cX3_course 54 = .ok (.invokeinterface 148 2, 5) := by decide +kernel
theorem dX3_course_59 : decode cX3_course 59 = .ok (.pop, 1) := dk_87 (dk_at dksX3_course_2 12 rfl rfl)
theorem dX3_course_60 : decode cX3_course 60 = .ok (.aload_n 0, 1) := dk_42 (dk_at dksX3_course_2 13 rfl rfl)
theorem dX3_course_61 : decode cX3_course 61 = .ok (.bipush 44, 2) := dk_16 44 (dk_at dksX3_course_2 14 rfl rfl)
theorem dX3_course_63 : decode cX3_course 63 = .ok (.invokevirtual 151, 3) := dk_182 0 151 (dk_at dksX3_course_2 16 rfl rfl)
theorem dX3_course_66 : decode cX3_course 66 = .ok (.ifCond .eq 28, 3) := dk_153 0 28 (dk_at dksX3_course_2 19 rfl rfl)
theorem dX3_course_69 : decode cX3_course 69 = .ok (.aload_n 0, 1) := dk_42 (dk_at dksX3_course_2 22 rfl rfl)
theorem dX3_course_70 : decode cX3_course 70 = .ok (.invokevirtual 105, 3) := dk_182 0 105 (dk_at dksX3_course_3 0 rfl rfl)
theorem dX3_course_73 : decode cX3_course 73 = .ok (.aload_n 1, 1) := dk_43 (dk_at dksX3_course_3 3 rfl rfl)
theorem dX3_course_74 : decode cX3_course 74 = .ok (.getfield 136, 3) := dk_180 0 136 (dk_at dksX3_course_3 4 rfl rfl)
theorem dX3_course_77 : decode cX3_course 77 = .ok (.aload_n 0, 1) := dk_42 (dk_at dksX3_course_3 7 rfl rfl)
theorem dX3_course_78 : decode cX3_course 78 = .ok (.aload_n 1, 1) := dk_43 (dk_at dksX3_course_3 8 rfl rfl)
theorem dX3_course_79 : decode cX3_course 79 = .ok (.invokevirtual 139, 3) := dk_182 0 139 (dk_at dksX3_course_3 9 rfl rfl)
theorem dX3_course_82 : decode cX3_course 82 = .ok (.invokestatic 142, 3) := dk_184 0 142 (dk_at dksX3_course_3 12 rfl rfl)
theorem dX3_course_85 : decode cX3_course 85 = .ok (.invokeinterface 148 2, 5) := by decide +kernel
theorem dX3_course_90 : decode cX3_course 90 = .ok (.pop, 1) := dk_87 (dk_at dksX3_course_3 20 rfl rfl)
theorem dX3_course_91 : decode cX3_course 91 = .ok (.goto (-31), 3) := dk_167 255 225 (dk_at dksX3_course_3 21 rfl rfl)
theorem dX3_course_94 : decode cX3_course 94 = .ok (.aload_n 0, 1) := dk_42 (dk_at dksX3_course_4 0 rfl rfl)
theorem dX3_course_95 : decode cX3_course 95 = .ok (.getfield 25, 3) := dk_180 0 25 (dk_at dksX3_course_4 1 rfl rfl)
theorem dX3_course_98 : decode cX3_course 98 = .ok (.aload_n 1, 1) := dk_43 (dk_at dksX3_course_4 4 rfl rfl)
theorem dX3_course_99 : decode cX3_course 99 = .ok (.getfield 154, 3) := dk_180 0 154 (dk_at dksX3_course_4 5 rfl rfl)
theorem dX3_course_102 : decode cX3_course 102 = .ok (.aload_n 0, 1) := dk_42 (dk_at dksX3_course_4 8 rfl rfl)
theorem dX3_course_103 : decode cX3_course 103 = .ok (.getfield 18, 3) := dk_180 0 18 (dk_at dksX3_course_4 9 rfl rfl)
theorem dX3_course_106 : decode cX3_course 106 = .ok (.getfield 123, 3) := dk_180 0 123 (dk_at dksX3_course_4 12 rfl rfl)
theorem dX3_course_109 : decode cX3_course 109 = .ok (.invokeinterface 127 1, 5) := by decide +kernel
theorem dX3_course_114 : decode cX3_course 114 = .ok (.invokestatic 142, 3) := dk_184 0 142 (dk_at dksX3_course_4 20 rfl rfl)
theorem dX3_course_117 : decode cX3_course 117 = .ok (.invokevirtual 157, 3) := dk_182 0 157 (dk_at dksX3_course_5 0 rfl rfl)
theorem dX3_course_120 : decode cX3_course 120 = .ok (.pop, 1) := dk_87 (dk_at dksX3_course_5 3 rfl rfl)
theorem dX3_course_121 : decode cX3_course 121 = .ok (.aload_n 0, 1) := dk_42 (dk_at dksX3_course_5 4 rfl rfl)
theorem dX3_course_122 : decode cX3_course 122 = .ok (.getfield 18, 3) := dk_180 0 18 (dk_at dksX3_course_5 5 rfl rfl)
theorem dX3_course_125 : decode cX3_course 125 = .ok (.getfield 123, 3) := dk_180 0 123 (dk_at dksX3_course_5 8 rfl rfl)
theorem dX3_course_128 : decode cX3_course 128 = .ok (.aload_n 1, 1) := dk_43 (dk_at dksX3_course_5 11 rfl rfl)
theorem dX3_course_129 : decode cX3_course 129 = .ok (.invokeinterface 148 2, 5) := by decide +kernel
theorem dX3_course_134 : decode cX3_course 134 = .ok (.pop, 1) := dk_87 (dk_at dksX3_course_5 17 rfl rfl)
theorem dX3_course_135 : decode cX3_course 135 = .ok (.return_, 1) := dk_177 (dk_at dksX3_course_5 18 rfl rfl)
theorem md_X3_course : xMd yX3_course cX3_course 2 (Option.none : Option Jvm.ClassFile.FieldType) 0 := ⟨q806, q127, by decide, by decide +kernel, by decide +kernel, by decide +kernel⟩
def f_X3_course_60F (a0 : Nat)  (k60 : Nat × PH → Option (xO × PH)) (p : Nat × PH) : Option (xO × PH) := match p with
  | (v1, p0) => (xcI (f_X3_isSign p0 a0 44) fun x23 p22 =>
  (if x23 = 0 then
  (xgR p22 a0 2 2 fun x24 =>
  (xgR p22 v1 5 0 fun x25 =>
  (xgR p22 a0 2 1 fun x26 =>
  (xnul x26 none fun b27 =>
  (xgR p22 b27 3 0 fun x28 =>
  (xnul x28 none fun b29 =>
  (xcI (f_J3_size p22 b29 ) fun x31 p30 =>
  (xcR (f_J19_valueOf p30 x31) fun x33 p32 =>
  (xnul x24 none fun b34 =>
  (xcR (f_J5_put p32 b34 x25 x33) fun x36 p35 =>
  (xgR p35 a0 2 1 fun x37 =>
  (xnul x37 none fun b38 =>
  (xgR p35 b38 3 0 fun x39 =>
  (xnul x39 none fun b40 =>
  (xcI (f_J3_add p35 b40 (some v1)) fun x42 p41 =>
  (rV p41)))))))))))))))) else
  (xcV (f_X3_go p22 a0 ) fun p43 =>
  (xgR p43 v1 5 1 fun x44 =>
  (xtI (f_X3_code p43 a0 (some v1)) (fun x46 p45 =>
  (xcR (f_J19_valueOf p45 x46) fun x48 p47 =>
  (xnul x44 none fun b49 =>
  (xcI (f_J3_add p47 b49 x48) fun x51 p50 =>
  (k60 (v1, p50)))))) rT)))))
def f_X3_course_22 (a0 : Nat)  (w1 : Int32) (p0 : PH) : Option (xO × PH) :=
  (xtV (f_X3_need p0 a0 w1 4) (fun p7 =>
  (xcV (f_X3_go p7 a0 ) fun p8 =>
  (xnew p8 5 [.null, .null] fun b9 p10 =>
  (xtR (f_X3_newName p10 a0 ) (fun x12 p11 =>
  (xcV (f_X6_init p11 b9 x12) fun p13 =>
  (xgR p13 b9 5 1 fun x14 =>
  (xtI (f_X3_code p13 a0 (some b9)) (fun x16 p15 =>
  (xcR (f_J19_valueOf p15 x16) fun x18 p17 =>
  (xnul x14 none fun b19 =>
  (xcI (f_J3_add p17 b19 x18) fun x21 p20 =>
  (lp (f_X3_course_60F a0) FU (b9, p20)))))) rT)))) rT)))) rT)
def f_X3_course (p0 : PH) (a0 : Nat) : Option (xO × PH) :=
  (xcl1 p0 a0 2 (xgR p0 a0 2 1 fun x1 =>
  (xnul x1 none fun b2 =>
  (xgR p0 b2 3 0 fun x3 =>
  (xnul x3 none fun b4 =>
  (xcI (f_J3_size p0 b4 ) fun x6 p5 =>
  (if 3 ≤ x6 then
  (f_X3_course_22 a0 0 p5) else
  (f_X3_course_22 a0 1 p5))))))))
theorem rc_X3_course {p0 : PH} {a0 : Nat} : ∀ z, f_X3_course p0 a0 = some z → xco p0 a0 = some 2 := fun z h => xcl1_some h
theorem f_X3_course_60F_ok {G : xG} (hO : xOK G) (a0 : Nat)  {k60 : Nat × PH → Option (xO × PH)} (hk60 : ∀ (v1 : Nat) (p0 : PH), X G "ForestLegs$Reader" "course" cX3_course 2 (Option.none : Option Jvm.ClassFile.FieldType) 9 60 [(0, .ref a0), (1, .ref v1)] [] p0 (k60 (v1, p0))) (v1 : Nat) (p0 : PH) : X G "ForestLegs$Reader" "course" cX3_course 2 (Option.none : Option Jvm.ClassFile.FieldType) 9 60 [(0, .ref a0), (1, .ref v1)] [] p0 (f_X3_course_60F a0 k60 (v1, p0)) := by
  unfold f_X3_course_60F
  refine x_aload_nr 0 dX3_course_60 rfl rfl (n := 61) rfl ?_
  refine x_bipush 44 dX3_course_61 rfl (n := 63) rfl ?_
  refine x_callV_I [.int 44] [] (f_X3_isSign_ok hO p0 a0 44) rc_X3_isSign md_X3_isSign rfl q1302 q1304 qs16 dX3_course_63 rfl rfl (by decide) (Nat.le_of_ble_eq_true rfl) (n := 66) rfl (fun x23 p22 => ?_)
  refine x_if_eq dX3_course_66 (t := 94) (by decide) (n := 69) rfl (fun _ => ?_) (fun _ => ?_)
  · refine x_aload_nr 0 dX3_course_94 rfl rfl (n := 95) rfl ?_
    refine x_getR fl_X3_25 dX3_course_95 (n := 98) rfl (fun x24 => ?_)
    refine x_aload_nr 1 dX3_course_98 rfl rfl (n := 99) rfl ?_
    refine x_getR fl_X3_154 dX3_course_99 (n := 102) rfl (fun x25 => ?_)
    refine x_aload_nr 0 dX3_course_102 rfl rfl (n := 103) rfl ?_
    refine x_getR fl_X3_18 dX3_course_103 (n := 106) rfl (fun x26 => ?_)
    refine x_sm (fun b27 e => ?_)
    subst e
    refine x_getR fl_X3_123 dX3_course_106 (n := 109) rfl (fun x28 => ?_)
    refine x_sm (fun b29 e => ?_)
    subst e
    refine x_callF_I [] [va_rf x25, va_rf x24] (f_J3_size_ok hO p22 b29 ) rc_J3_size md_J3_size rfl q808 fc_java_util_ArrayList_java_util_List_size_0_I dX3_course_109 rfl rfl (by decide) (by simp only [List.map, xcat]; exact Nat.le_of_ble_eq_true rfl) (n := 114) rfl (fun x31 p30 => ?_)
    refine x_callS_R [.int x31] [va_rf x25, va_rf x24] (f_J19_valueOf_ok hO p30 x31) md_J19_valueOf q1212 q1213 dX3_course_114 rfl rfl (by decide) (by simp only [List.map, xcat]; exact Nat.le_of_ble_eq_true rfl) (n := 117) rfl (fun x33 p32 => ?_)
    refine x_sm (fun b34 e => ?_)
    subst e
    refine x_callV_R [va_rf x25, va_rf x33] [] (f_J5_put_ok hO p32 b34 x25 x33) rc_J5_put md_J5_put rfl q1306 q1307 q1308 dX3_course_117 rfl rfl (by decide) (Nat.le_of_ble_eq_true rfl) (n := 120) rfl (fun x36 p35 => ?_)
    refine x_pop dX3_course_120 (xcat _) (n := 121) rfl ?_
    refine x_aload_nr 0 dX3_course_121 rfl rfl (n := 122) rfl ?_
    refine x_getR fl_X3_18 dX3_course_122 (n := 125) rfl (fun x37 => ?_)
    refine x_sm (fun b38 e => ?_)
    subst e
    refine x_getR fl_X3_123 dX3_course_125 (n := 128) rfl (fun x39 => ?_)
    refine x_aload_nr 1 dX3_course_128 rfl rfl (n := 129) rfl ?_
    refine x_sm (fun b40 e => ?_)
    subst e
    refine x_callF_I [.ref v1] [] (f_J3_add_ok hO p35 b40 (some v1)) rc_J3_add md_J3_add rfl q1232 fc_java_util_ArrayList_java_util_List_add_1_Ljaval dX3_course_129 rfl rfl (by decide) (Nat.le_of_ble_eq_true rfl) (n := 134) rfl (fun x42 p41 => ?_)
    refine x_pop dX3_course_134 rfl (n := 135) rfl ?_
    exact x_return dX3_course_135
  · refine x_aload_nr 0 dX3_course_69 rfl rfl (n := 70) rfl ?_
    refine x_callV_V [] [] (f_X3_go_ok hO p22 a0 ) rc_X3_go md_X3_go rfl q387 q389 qs1 dX3_course_70 rfl rfl (by decide) (Nat.le_of_ble_eq_true rfl) (n := 73) rfl (fun p43 => ?_)
    refine x_aload_nr 1 dX3_course_73 rfl rfl (n := 74) rfl ?_
    refine x_getR fl_X3_136 dX3_course_74 (n := 77) rfl (fun x44 => ?_)
    refine x_aload_nr 0 dX3_course_77 rfl rfl (n := 78) rfl ?_
    refine x_aload_nr 1 dX3_course_78 rfl rfl (n := 79) rfl ?_
    refine x_callVT_I [.ref v1] [va_rf x44] (f_X3_code_ok hO p43 a0 (some v1)) rc_X3_code md_X3_code rfl q1194 q1196 qs12 dX3_course_79 rfl rfl (by decide) (by simp only [List.map, xcat]; exact Nat.le_of_ble_eq_true rfl) (n := 82) rfl (fun x46 p45 => ?_) (fun q P1 => xt_out (by decide +kernel))
    refine x_callS_R [.int x46] [va_rf x44] (f_J19_valueOf_ok hO p45 x46) md_J19_valueOf q1212 q1213 dX3_course_82 rfl rfl (by decide) (by simp only [List.map, xcat]; exact Nat.le_of_ble_eq_true rfl) (n := 85) rfl (fun x48 p47 => ?_)
    refine x_sm (fun b49 e => ?_)
    subst e
    refine x_callF_I [va_rf x48] [] (f_J3_add_ok hO p47 b49 x48) rc_J3_add md_J3_add rfl q1232 fc_java_util_ArrayList_java_util_List_add_1_Ljaval dX3_course_85 rfl rfl (by decide) (Nat.le_of_ble_eq_true rfl) (n := 90) rfl (fun x51 p50 => ?_)
    refine x_pop dX3_course_90 rfl (n := 91) rfl ?_
    refine x_goto dX3_course_91 (n := 60) (by decide) ?_
    exact hk60 v1 p50
theorem f_X3_course_60_lp {G : xG} (hO : xOK G) (a0 : Nat)  (n : Nat) (v1 : Nat) (p0 : PH) : X G "ForestLegs$Reader" "course" cX3_course 2 (Option.none : Option Jvm.ClassFile.FieldType) 9 60 [(0, .ref a0), (1, .ref v1)] [] p0 (lp (f_X3_course_60F a0) n (v1, p0)) :=
  lp_ok (W := fun p K => X G "ForestLegs$Reader" "course" cX3_course 2 (Option.none : Option Jvm.ClassFile.FieldType) 9 60 [(0, .ref a0), (1, .ref p.1)] [] p.2 K) (fun _ => x_no) (fun k hk => fun (v1, p0) => f_X3_course_60F_ok hO a0 (fun v1 p0 => hk (v1, p0)) v1 p0) n (v1, p0)
theorem f_X3_course_22_ok {G : xG} (hO : xOK G) (a0 : Nat)  (w1 : Int32) (p0 : PH) : X G "ForestLegs$Reader" "course" cX3_course 2 (Option.none : Option Jvm.ClassFile.FieldType) 9 22 [(0, .ref a0)] [.int w1, .ref a0] p0 (f_X3_course_22 a0 w1 p0) := by
  unfold f_X3_course_22
  refine x_iconst 4 dX3_course_22 rfl (n := 23) rfl ?_
  refine x_callVT_V [.int w1, .int 4] [] (f_X3_need_ok hO p0 a0 w1 4) rc_X3_need md_X3_need rfl q499 q501 qs7 dX3_course_23 rfl rfl (by decide) (Nat.le_of_ble_eq_true rfl) (n := 26) rfl (fun p7 => ?_) (fun q P1 => xt_out (by decide +kernel))
  refine x_aload_nr 0 dX3_course_26 rfl rfl (n := 27) rfl ?_
  refine x_callV_V [] [] (f_X3_go_ok hO p7 a0 ) rc_X3_go md_X3_go rfl q387 q389 qs1 dX3_course_27 rfl rfl (by decide) (Nat.le_of_ble_eq_true rfl) (n := 30) rfl (fun p8 => ?_)
  refine x_new cl_5 (by decide) q817 q818 q147 rfl dX3_course_30 (n := 33) rfl (fun b9 p10 => ?_)
  refine x_dup dX3_course_33 rfl (n := 34) rfl ?_
  refine x_aload_nr 0 dX3_course_34 rfl rfl (n := 35) rfl ?_
  refine x_callVT_R [] [.ref b9, .ref b9] (f_X3_newName_ok hO p10 a0 ) rc_X3_newName md_X3_newName rfl q819 q821 qs10 dX3_course_35 rfl rfl (by decide) (Nat.le_of_ble_eq_true rfl) (n := 38) rfl (fun x12 p11 => ?_) (fun q P1 => xt_out (by decide +kernel))
  refine x_callI_V [va_rf x12] [.ref b9] (f_X6_init_ok hO p11 b9 x12) md_X6_init rfl q1177 q1178 dX3_course_38 rfl rfl (by decide) (Nat.le_of_ble_eq_true rfl) (n := 41) rfl (fun p13 => ?_)
  refine x_astore_nr [(1, .ref b9), (0, .ref a0)] dX3_course_41 rfl (by decide) rfl (n := 42) rfl ?_
  refine x_aload_nr 0 dX3_course_42 rfl rfl (n := 43) rfl ?_
  refine x_getR fl_X3_136 dX3_course_43 (n := 46) rfl (fun x14 => ?_)
  refine x_aload_nr 1 dX3_course_46 rfl rfl (n := 47) rfl ?_
  refine x_aload_nr 0 dX3_course_47 rfl rfl (n := 48) rfl ?_
  refine x_callVT_I [.ref b9] [va_rf x14] (f_X3_code_ok hO p13 a0 (some b9)) rc_X3_code md_X3_code rfl q1194 q1196 qs12 dX3_course_48 rfl rfl (by decide) (by simp only [List.map, xcat]; exact Nat.le_of_ble_eq_true rfl) (n := 51) rfl (fun x16 p15 => ?_) (fun q P1 => xt_out (by decide +kernel))
  refine x_callS_R [.int x16] [va_rf x14] (f_J19_valueOf_ok hO p15 x16) md_J19_valueOf q1212 q1213 dX3_course_51 rfl rfl (by decide) (by simp only [List.map, xcat]; exact Nat.le_of_ble_eq_true rfl) (n := 54) rfl (fun x18 p17 => ?_)
  refine x_sm (fun b19 e => ?_)
  subst e
  refine x_callF_I [va_rf x18] [] (f_J3_add_ok hO p17 b19 x18) rc_J3_add md_J3_add rfl q1232 fc_java_util_ArrayList_java_util_List_add_1_Ljaval dX3_course_54 rfl rfl (by decide) (Nat.le_of_ble_eq_true rfl) (n := 59) rfl (fun x21 p20 => ?_)
  refine x_pop dX3_course_59 rfl (n := 60) rfl ?_
  refine x_sub [1, 0] [(0, .ref a0), (1, .ref b9)] rfl ?_
  exact f_X3_course_60_lp hO a0 FU b9 p20
theorem f_X3_course_ok {G : xG} (hO : xOK G) (p0 : PH) (a0 : Nat) : CT G 9 yX3_course cX3_course 2 (Option.none : Option Jvm.ClassFile.FieldType) [.ref a0] p0 (f_X3_course p0 a0) := by
  refine CT_of hO (by decide +kernel) (by decide +kernel) (Nat.le_of_ble_eq_true rfl) ?_
  show X G "ForestLegs$Reader" "course" cX3_course 2 (Option.none : Option Jvm.ClassFile.FieldType) 9 0 [(0, .ref a0)] [] p0 (f_X3_course p0 a0)
  refine x_cl1 (fun e0 => ?_)
  refine x_aload_nr 0 dX3_course_0 rfl rfl (n := 1) rfl ?_
  refine x_aload_nr 0 dX3_course_1 rfl rfl (n := 2) rfl ?_
  refine x_getR fl_X3_18 dX3_course_2 (n := 5) rfl (fun x1 => ?_)
  refine x_sm (fun b2 e => ?_)
  subst e
  refine x_getR fl_X3_123 dX3_course_5 (n := 8) rfl (fun x3 => ?_)
  refine x_sm (fun b4 e => ?_)
  subst e
  refine x_callF_I [] [.ref a0] (f_J3_size_ok hO p0 b4 ) rc_J3_size md_J3_size rfl q808 fc_java_util_ArrayList_java_util_List_size_0_I dX3_course_8 rfl rfl (by decide) (Nat.le_of_ble_eq_true rfl) (n := 13) rfl (fun x6 p5 => ?_)
  refine x_iconst 3 dX3_course_13 rfl (n := 14) rfl ?_
  refine x_icmp_ge dX3_course_14 (t := 21) (by decide) (n := 17) rfl (fun _ => ?_) (fun _ => ?_)
  · refine x_iconst 0 dX3_course_21 rfl (n := 22) rfl ?_
    exact f_X3_course_22_ok hO a0 0 p5
  · refine x_iconst 1 dX3_course_17 rfl (n := 18) rfl ?_
    refine x_goto dX3_course_18 (n := 22) (by decide) ?_
    exact f_X3_course_22_ok hO a0 1 p5
abbrev cJ5_get : ByteArray := prog_77_method_8_code
def yJ5_get : MethodName := ⟨RJ5, "get", "(Ljava/lang/Object;)Ljava/lang/Object;"⟩
def dkwJ5_get_0 : List UInt8 := [42, 43, 182, 0, 50, 77, 44, 199, 0, 7, 1, 167, 0, 7, 44, 180, 0, 58, 176]
abbrev dktJ5_get_0 : List UInt8 := dkwJ5_get_0 ++ []
theorem dksJ5_get_0 : cJ5_get.data.toList.drop 0 = dktJ5_get_0 := by decide +kernel
theorem dJ5_get_0 : decode cJ5_get 0 = .ok (.aload_n 0, 1) := dk_42 (dk_at dksJ5_get_0 0 rfl rfl)
theorem dJ5_get_1 : decode cJ5_get 1 = .ok (.aload_n 1, 1) := dk_43 (dk_at dksJ5_get_0 1 rfl rfl)
theorem dJ5_get_2 : decode cJ5_get 2 = .ok (.invokevirtual 50, 3) := dk_182 0 50 (dk_at dksJ5_get_0 2 rfl rfl)
theorem dJ5_get_5 : decode cJ5_get 5 = .ok (.astore_n 2, 1) := dk_77 (dk_at dksJ5_get_0 5 rfl rfl)
theorem dJ5_get_6 : decode cJ5_get 6 = .ok (.aload_n 2, 1) := dk_44 (dk_at dksJ5_get_0 6 rfl rfl)
theorem dJ5_get_7 : decode cJ5_get 7 = .ok (.ifnonnull 7, 3) := dk_199 0 7 (dk_at dksJ5_get_0 7 rfl rfl)
theorem dJ5_get_10 : decode cJ5_get 10 = .ok (.aconst_null, 1) := dk_1 (dk_at dksJ5_get_0 10 rfl rfl)
theorem dJ5_get_11 : decode cJ5_get 11 = .ok (.goto 7, 3) := dk_167 0 7 (dk_at dksJ5_get_0 11 rfl rfl)
theorem dJ5_get_14 : decode cJ5_get 14 = .ok (.aload_n 2, 1) := dk_44 (dk_at dksJ5_get_0 14 rfl rfl)
theorem dJ5_get_15 : decode cJ5_get 15 = .ok (.getfield 58, 3) := dk_180 0 58 (dk_at dksJ5_get_0 15 rfl rfl)
theorem dJ5_get_18 : decode cJ5_get 18 = .ok (.areturn, 1) := dk_176 (dk_at dksJ5_get_0 18 rfl rfl)
theorem md_J5_get : xMd yJ5_get cJ5_get 3 (Option.some (Jvm.ClassFile.FieldType.object "java/lang/Object")) 1 := ⟨q1392, q132, by decide, by decide +kernel, by decide +kernel, by decide +kernel⟩
def f_J5_get (p0 : PH) (a0 : Nat) (a1 : Option Nat) : Option (xO × PH) :=
  (xcl1 p0 a0 15 (xcR (f_J5_getEntry p0 a0 a1) fun x2 p1 =>
  (xnul x2 (rR none p1) fun b3 =>
  (xgR p1 b3 19 1 fun x4 =>
  (rR x4 p1)))))
theorem rc_J5_get {p0 : PH} {a0 : Nat} {a1 : Option Nat} : ∀ z, f_J5_get p0 a0 a1 = some z → xco p0 a0 = some 15 := fun z h => xcl1_some h
theorem f_J5_get_ok {G : xG} (hO : xOK G) (p0 : PH) (a0 : Nat) (a1 : Option Nat) : CT G 6 yJ5_get cJ5_get 3 (Option.some (Jvm.ClassFile.FieldType.object "java/lang/Object")) [.ref a0, va_rf a1] p0 (f_J5_get p0 a0 a1) := by
  refine CT_of hO (by decide +kernel) (by decide +kernel) (lg_slen _ (by simp only [List.map, xcat]; exact Nat.le_of_ble_eq_true rfl)) ?_
  rw [show lv_args 0 [.ref a0, va_rf a1] = [(0, .ref a0), (1, va_rf a1)] from by simp only [lv_args, xcat] <;> rfl]
  show X G "java/util/TreeMap" "get" cJ5_get 3 (Option.some (Jvm.ClassFile.FieldType.object "java/lang/Object")) 6 0 [(0, .ref a0), (1, va_rf a1)] [] p0 (f_J5_get p0 a0 a1)
  refine x_cl1 (fun e0 => ?_)
  refine x_aload_nr 0 dJ5_get_0 rfl rfl (n := 1) rfl ?_
  refine x_aload_n 1 dJ5_get_1 rfl rfl (n := 2) rfl ?_
  refine x_callV_R [va_rf a1] [] (f_J5_getEntry_ok hO p0 a0 a1) rc_J5_getEntry md_J5_getEntry rfl q903 q904 q905 dJ5_get_2 rfl rfl (by decide) (Nat.le_of_ble_eq_true rfl) (n := 5) rfl (fun x2 p1 => ?_)
  refine x_astore_n [(2, va_rf x2), (0, .ref a0), (1, va_rf a1)] dJ5_get_5 rfl (by decide) (by simp only [xst, List.filter_cons, List.filter_nil, xcat] <;> rfl) (n := 6) rfl ?_
  refine x_aload_n 0 dJ5_get_6 rfl rfl (n := 7) rfl ?_
  refine x_ifnonnull dJ5_get_7 (t := 14) (by decide) (n := 10) rfl (fun e => ?_) (fun b3 e => ?_)
  · subst e
    refine x_null dJ5_get_10 (n := 11) rfl ?_
    refine x_goto dJ5_get_11 (n := 18) (by decide) ?_
    exact x_areturn (x := none) (Or.inl ⟨_, rfl⟩) dJ5_get_18
  · subst e
    refine x_aload_nr 0 dJ5_get_14 rfl rfl (n := 15) rfl ?_
    refine x_getR fl_J5_58 dJ5_get_15 (n := 18) rfl (fun x4 => ?_)
    exact x_areturn (x := x4) (Or.inl ⟨_, rfl⟩) dJ5_get_18
abbrev cX7_init : ByteArray := prog_11_method_1_code
def yX7_init : MethodName := ⟨RX7, "<init>", "(Ljava/lang/String;I)V"⟩
def dkwX7_init_1 : List UInt8 := [181, 0, 22, 177]
abbrev dktX7_init_1 : List UInt8 := dkwX7_init_1 ++ []
def dkwX7_init_0 : List UInt8 := [42, 183, 0, 1, 42, 187, 0, 7, 89, 16, 8, 183, 0, 9, 181, 0, 12, 42, 43, 181, 0, 18, 42, 28]
abbrev dktX7_init_0 : List UInt8 := dkwX7_init_0 ++ dktX7_init_1
theorem dksX7_init_0 : cX7_init.data.toList.drop 0 = dktX7_init_0 := by decide +kernel
theorem dksX7_init_1 : cX7_init.data.toList.drop 24 = dktX7_init_1 := dk_seg dksX7_init_0 24 rfl rfl
theorem dX7_init_0 : decode cX7_init 0 = .ok (.aload_n 0, 1) := dk_42 (dk_at dksX7_init_0 0 rfl rfl)
theorem dX7_init_1 : decode cX7_init 1 = .ok (.invokespecial 1, 3) := dk_183 0 1 (dk_at dksX7_init_0 1 rfl rfl)
theorem dX7_init_4 : decode cX7_init 4 = .ok (.aload_n 0, 1) := dk_42 (dk_at dksX7_init_0 4 rfl rfl)
theorem dX7_init_5 : decode cX7_init 5 = .ok (.new 7, 3) := dk_187 0 7 (dk_at dksX7_init_0 5 rfl rfl)
theorem dX7_init_8 : decode cX7_init 8 = .ok (.dup, 1) := dk_89 (dk_at dksX7_init_0 8 rfl rfl)
theorem dX7_init_9 : decode cX7_init 9 = .ok (.bipush 8, 2) := dk_16 8 (dk_at dksX7_init_0 9 rfl rfl)
theorem dX7_init_11 : decode cX7_init 11 = .ok (.invokespecial 9, 3) := dk_183 0 9 (dk_at dksX7_init_0 11 rfl rfl)
theorem dX7_init_14 : decode cX7_init 14 = .ok (.putfield 12, 3) := dk_181 0 12 (dk_at dksX7_init_0 14 rfl rfl)
theorem dX7_init_17 : decode cX7_init 17 = .ok (.aload_n 0, 1) := dk_42 (dk_at dksX7_init_0 17 rfl rfl)
theorem dX7_init_18 : decode cX7_init 18 = .ok (.aload_n 1, 1) := dk_43 (dk_at dksX7_init_0 18 rfl rfl)
theorem dX7_init_19 : decode cX7_init 19 = .ok (.putfield 18, 3) := dk_181 0 18 (dk_at dksX7_init_0 19 rfl rfl)
theorem dX7_init_22 : decode cX7_init 22 = .ok (.aload_n 0, 1) := dk_42 (dk_at dksX7_init_0 22 rfl rfl)
theorem dX7_init_23 : decode cX7_init 23 = .ok (.iload_n 2, 1) := dk_28 (dk_at dksX7_init_0 23 rfl rfl)
theorem dX7_init_24 : decode cX7_init 24 = .ok (.putfield 22, 3) := dk_181 0 22 (dk_at dksX7_init_1 0 rfl rfl)
theorem dX7_init_27 : decode cX7_init 27 = .ok (.return_, 1) := dk_177 (dk_at dksX7_init_1 3 rfl rfl)
theorem md_X7_init : xMd yX7_init cX7_init 3 (Option.none : Option Jvm.ClassFile.FieldType) 2 := ⟨q1399, q156, by decide, by decide +kernel, by decide +kernel, by decide +kernel⟩
def f_X7_init (p0 : PH) (a0 : Nat) (a1 : Option Nat) (a2 : Int32) : Option (xO × PH) :=
  (xnew p0 14 [.int 0, .null, .int 0] fun b1 p2 =>
  (xcV (f_J3_init p2 b1 8) fun p3 =>
  (xpF p3 a0 6 4 (.ref b1) fun p4 =>
  (xpF p4 a0 6 0 (va_rf a1) fun p5 =>
  (xpF p5 a0 6 1 (.int a2) fun p6 =>
  (rV p6))))))
theorem f_X7_init_ok {G : xG} (hO : xOK G) (p0 : PH) (a0 : Nat) (a1 : Option Nat) (a2 : Int32) : CT G 4 yX7_init cX7_init 3 (Option.none : Option Jvm.ClassFile.FieldType) [.ref a0, va_rf a1, .int a2] p0 (f_X7_init p0 a0 a1 a2) := by
  refine CT_of hO (by decide +kernel) (by decide +kernel) (lg_slen _ (by simp only [List.map, xcat]; exact Nat.le_of_ble_eq_true rfl)) ?_
  rw [show lv_args 0 [.ref a0, va_rf a1, .int a2] = [(0, .ref a0), (1, va_rf a1), (2, .int a2)] from by simp only [lv_args, xcat] <;> rfl]
  show X G "ForestLegs$Runner" "<init>" cX7_init 3 (Option.none : Option Jvm.ClassFile.FieldType) 4 0 [(0, .ref a0), (1, va_rf a1), (2, .int a2)] [] p0 (f_X7_init p0 a0 a1 a2)
  refine x_aload_nr 0 dX7_init_0 rfl rfl (n := 1) rfl ?_
  refine x_objInit q1400 q186 q187 dX7_init_1 (by decide) (Nat.le_of_ble_eq_true rfl) (n := 4) rfl ?_
  refine x_aload_nr 0 dX7_init_4 rfl rfl (n := 5) rfl ?_
  refine x_new cl_14 (by decide) q1401 q267 q130 rfl dX7_init_5 (n := 8) rfl (fun b1 p2 => ?_)
  refine x_dup dX7_init_8 rfl (n := 9) rfl ?_
  refine x_bipush 8 dX7_init_9 rfl (n := 11) rfl ?_
  refine x_callI_V [.int 8] [.ref b1, .ref a0] (f_J3_init_ok hO p2 b1 8) md_J3_init rfl q1402 q269 dX7_init_11 rfl rfl (by decide) (Nat.le_of_ble_eq_true rfl) (n := 14) rfl (fun p3 => ?_)
  refine x_pF (pl_X7_12 _ (xfit_o (some b1))) dX7_init_14 (n := 17) rfl (fun p4 => ?_)
  refine x_aload_nr 0 dX7_init_17 rfl rfl (n := 18) rfl ?_
  refine x_aload_n 1 dX7_init_18 rfl rfl (n := 19) rfl ?_
  refine x_pF (pl_X7_18 _ (xfit_o (a1))) dX7_init_19 (n := 22) rfl (fun p5 => ?_)
  refine x_aload_nr 0 dX7_init_22 rfl rfl (n := 23) rfl ?_
  refine x_iload_n 2 dX7_init_23 rfl rfl (n := 24) rfl ?_
  refine x_pF (pl_X7_22 _ _ ⟨rfl, rfl⟩) dX7_init_24 (n := 27) rfl (fun p6 => ?_)
  exact x_return dX7_init_27
abbrev cX3_whole : ByteArray := prog_10_method_10_code
def yX3_whole : MethodName := ⟨RX3, "whole", "(II)I"⟩
def dkwX3_whole_1 : List UInt8 := [28, 184, 0, 41, 5, 182, 0, 76, 42, 180, 0, 61, 62, 42, 182, 0, 105, 29, 172]
abbrev dktX3_whole_1 : List UInt8 := dkwX3_whole_1 ++ []
def dkwX3_whole_0 : List UInt8 := [42, 42, 180, 0, 51, 6, 160, 0, 7, 4, 167, 0, 4, 3, 4, 182, 0, 76, 42, 42, 180, 0, 61, 27]
abbrev dktX3_whole_0 : List UInt8 := dkwX3_whole_0 ++ dktX3_whole_1
theorem dksX3_whole_0 : cX3_whole.data.toList.drop 0 = dktX3_whole_0 := by decide +kernel
theorem dksX3_whole_1 : cX3_whole.data.toList.drop 24 = dktX3_whole_1 := dk_seg dksX3_whole_0 24 rfl rfl
theorem dX3_whole_0 : decode cX3_whole 0 = .ok (.aload_n 0, 1) := dk_42 (dk_at dksX3_whole_0 0 rfl rfl)
theorem dX3_whole_1 : decode cX3_whole 1 = .ok (.aload_n 0, 1) := dk_42 (dk_at dksX3_whole_0 1 rfl rfl)
theorem dX3_whole_2 : decode cX3_whole 2 = .ok (.getfield 51, 3) := dk_180 0 51 (dk_at dksX3_whole_0 2 rfl rfl)
theorem dX3_whole_5 : decode cX3_whole 5 = .ok (.iconst 3, 1) := dk_6 (dk_at dksX3_whole_0 5 rfl rfl)
theorem dX3_whole_6 : decode cX3_whole 6 = .ok (.if_icmp .ne 7, 3) := dk_160 0 7 (dk_at dksX3_whole_0 6 rfl rfl)
theorem dX3_whole_9 : decode cX3_whole 9 = .ok (.iconst 1, 1) := dk_4 (dk_at dksX3_whole_0 9 rfl rfl)
theorem dX3_whole_10 : decode cX3_whole 10 = .ok (.goto 4, 3) := dk_167 0 4 (dk_at dksX3_whole_0 10 rfl rfl)
theorem dX3_whole_13 : decode cX3_whole 13 = .ok (.iconst 0, 1) := dk_3 (dk_at dksX3_whole_0 13 rfl rfl)
theorem dX3_whole_14 : decode cX3_whole 14 = .ok (.iconst 1, 1) := dk_4 (dk_at dksX3_whole_0 14 rfl rfl)
theorem dX3_whole_15 : decode cX3_whole 15 = .ok (.invokevirtual 76, 3) := dk_182 0 76 (dk_at dksX3_whole_0 15 rfl rfl)
theorem dX3_whole_18 : decode cX3_whole 18 = .ok (.aload_n 0, 1) := dk_42 (dk_at dksX3_whole_0 18 rfl rfl)
theorem dX3_whole_19 : decode cX3_whole 19 = .ok (.aload_n 0, 1) := dk_42 (dk_at dksX3_whole_0 19 rfl rfl)
theorem dX3_whole_20 : decode cX3_whole 20 = .ok (.getfield 61, 3) := dk_180 0 61 (dk_at dksX3_whole_0 20 rfl rfl)
theorem dX3_whole_23 : decode cX3_whole 23 = .ok (.iload_n 1, 1) := dk_27 (dk_at dksX3_whole_0 23 rfl rfl)
theorem dX3_whole_24 : decode cX3_whole 24 = .ok (.iload_n 2, 1) := dk_28 (dk_at dksX3_whole_1 0 rfl rfl)
theorem dX3_whole_25 : decode cX3_whole 25 = .ok (.invokestatic 41, 3) := dk_184 0 41 (dk_at dksX3_whole_1 1 rfl rfl)
theorem dX3_whole_28 : decode cX3_whole 28 = .ok (.iconst 2, 1) := dk_5 (dk_at dksX3_whole_1 4 rfl rfl)
theorem dX3_whole_29 : decode cX3_whole 29 = .ok (.invokevirtual 76, 3) := dk_182 0 76 (dk_at dksX3_whole_1 5 rfl rfl)
theorem dX3_whole_32 : decode cX3_whole 32 = .ok (.aload_n 0, 1) := dk_42 (dk_at dksX3_whole_1 8 rfl rfl)
theorem dX3_whole_33 : decode cX3_whole 33 = .ok (.getfield 61, 3) := dk_180 0 61 (dk_at dksX3_whole_1 9 rfl rfl)
theorem dX3_whole_36 : decode cX3_whole 36 = .ok (.istore_n 3, 1) := dk_62 (dk_at dksX3_whole_1 12 rfl rfl)
theorem dX3_whole_37 : decode cX3_whole 37 = .ok (.aload_n 0, 1) := dk_42 (dk_at dksX3_whole_1 13 rfl rfl)
theorem dX3_whole_38 : decode cX3_whole 38 = .ok (.invokevirtual 105, 3) := dk_182 0 105 (dk_at dksX3_whole_1 14 rfl rfl)
theorem dX3_whole_41 : decode cX3_whole 41 = .ok (.iload_n 3, 1) := dk_29 (dk_at dksX3_whole_1 17 rfl rfl)
theorem dX3_whole_42 : decode cX3_whole 42 = .ok (.ireturn, 1) := dk_172 (dk_at dksX3_whole_1 18 rfl rfl)
theorem md_X3_whole : xMd yX3_whole cX3_whole 4 (Option.some Jvm.ClassFile.FieldType.int) 2 := ⟨q1435, q127, by decide, by decide +kernel, by decide +kernel, by decide +kernel⟩
def f_X3_whole_14 (a0 : Nat)  (v1 : Int32) (v2 : Int32) (w1 : Int32) (p0 : PH) : Option (xO × PH) :=
  (xtV (f_X3_need p0 a0 w1 1) (fun p2 =>
  (xgI p2 a0 2 8 fun x3 =>
  (xcI (f_X1_isIn p2 x3 v1 v2) fun x5 p4 =>
  (xtV (f_X3_need p4 a0 x5 2) (fun p6 =>
  (xgI p6 a0 2 8 fun x7 =>
  (xcV (f_X3_go p6 a0 ) fun p8 =>
  (rI x7 p8)))) rT)))) rT)
def f_X3_whole (p0 : PH) (a0 : Nat) (a1 : Int32) (a2 : Int32) : Option (xO × PH) :=
  (xcl1 p0 a0 2 (xgI p0 a0 2 7 fun x1 =>
  (if x1 = 3 then
  (f_X3_whole_14 a0 a1 a2 1 p0) else
  (f_X3_whole_14 a0 a1 a2 0 p0))))
theorem rc_X3_whole {p0 : PH} {a0 : Nat} {a1 : Int32} {a2 : Int32} : ∀ z, f_X3_whole p0 a0 a1 a2 = some z → xco p0 a0 = some 2 := fun z h => xcl1_some h
theorem f_X3_whole_14_ok {G : xG} (hO : xOK G) (a0 : Nat)  (v1 : Int32) (v2 : Int32) (w1 : Int32) (p0 : PH) : X G "ForestLegs$Reader" "whole" cX3_whole 4 (Option.some Jvm.ClassFile.FieldType.int) 5 14 [(0, .ref a0), (1, .int v1), (2, .int v2)] [.int w1, .ref a0] p0 (f_X3_whole_14 a0 v1 v2 w1 p0) := by
  unfold f_X3_whole_14
  refine x_iconst 1 dX3_whole_14 rfl (n := 15) rfl ?_
  refine x_callVT_V [.int w1, .int 1] [] (f_X3_need_ok hO p0 a0 w1 1) rc_X3_need md_X3_need rfl q499 q501 qs7 dX3_whole_15 rfl rfl (by decide) (Nat.le_of_ble_eq_true rfl) (n := 18) rfl (fun p2 => ?_) (fun q P1 => xt_out (by decide +kernel))
  refine x_aload_nr 0 dX3_whole_18 rfl rfl (n := 19) rfl ?_
  refine x_aload_nr 0 dX3_whole_19 rfl rfl (n := 20) rfl ?_
  refine x_getI fl_X3_61 dX3_whole_20 (n := 23) rfl (fun x3 => ?_)
  refine x_iload_n 1 dX3_whole_23 rfl rfl (n := 24) rfl ?_
  refine x_iload_n 2 dX3_whole_24 rfl rfl (n := 25) rfl ?_
  refine x_callSN_I [.int x3, .int v1, .int v2] [.ref a0] (f_X1_isIn_ok hO p2 x3 v1 v2) md_X1_isIn q399 q248 dX3_whole_25 rfl rfl (by decide) (Nat.le_of_ble_eq_true rfl) (n := 28) rfl (fun x5 p4 => ?_)
  refine x_iconst 2 dX3_whole_28 rfl (n := 29) rfl ?_
  refine x_callVT_V [.int x5, .int 2] [] (f_X3_need_ok hO p4 a0 x5 2) rc_X3_need md_X3_need rfl q499 q501 qs7 dX3_whole_29 rfl rfl (by decide) (Nat.le_of_ble_eq_true rfl) (n := 32) rfl (fun p6 => ?_) (fun q P1 => xt_out (by decide +kernel))
  refine x_aload_nr 0 dX3_whole_32 rfl rfl (n := 33) rfl ?_
  refine x_getI fl_X3_61 dX3_whole_33 (n := 36) rfl (fun x7 => ?_)
  refine x_istore_n [(3, .int x7), (0, .ref a0), (1, .int v1), (2, .int v2)] dX3_whole_36 rfl (by decide) rfl (n := 37) rfl ?_
  refine x_aload_nr 1 dX3_whole_37 rfl rfl (n := 38) rfl ?_
  refine x_callV_V [] [] (f_X3_go_ok hO p6 a0 ) rc_X3_go md_X3_go rfl q387 q389 qs1 dX3_whole_38 rfl rfl (by decide) (Nat.le_of_ble_eq_true rfl) (n := 41) rfl (fun p8 => ?_)
  refine x_iload_n 0 dX3_whole_41 rfl rfl (n := 42) rfl ?_
  exact x_ireturn dX3_whole_42
theorem f_X3_whole_ok {G : xG} (hO : xOK G) (p0 : PH) (a0 : Nat) (a1 : Int32) (a2 : Int32) : CT G 5 yX3_whole cX3_whole 4 (Option.some Jvm.ClassFile.FieldType.int) [.ref a0, .int a1, .int a2] p0 (f_X3_whole p0 a0 a1 a2) := by
  refine CT_of hO (by decide +kernel) (by decide +kernel) (Nat.le_of_ble_eq_true rfl) ?_
  show X G "ForestLegs$Reader" "whole" cX3_whole 4 (Option.some Jvm.ClassFile.FieldType.int) 5 0 [(0, .ref a0), (1, .int a1), (2, .int a2)] [] p0 (f_X3_whole p0 a0 a1 a2)
  refine x_cl1 (fun e0 => ?_)
  refine x_aload_nr 0 dX3_whole_0 rfl rfl (n := 1) rfl ?_
  refine x_aload_nr 0 dX3_whole_1 rfl rfl (n := 2) rfl ?_
  refine x_getI fl_X3_51 dX3_whole_2 (n := 5) rfl (fun x1 => ?_)
  refine x_iconst 3 dX3_whole_5 rfl (n := 6) rfl ?_
  refine x_icmp_ne dX3_whole_6 (t := 13) (by decide) (n := 9) rfl (fun _ => ?_) (fun _ => ?_)
  · refine x_iconst 0 dX3_whole_13 rfl (n := 14) rfl ?_
    exact f_X3_whole_14_ok hO a0 a1 a2 0 p0
  · refine x_iconst 1 dX3_whole_9 rfl (n := 10) rfl ?_
    refine x_goto dX3_whole_10 (n := 14) (by decide) ?_
    exact f_X3_whole_14_ok hO a0 a1 a2 1 p0
abbrev cJ3_isEmpty : ByteArray := prog_47_method_9_code
def yJ3_isEmpty : MethodName := ⟨RJ3, "isEmpty", "()Z"⟩
def dkwJ3_isEmpty_0 : List UInt8 := [42, 180, 0, 48, 154, 0, 7, 4, 167, 0, 4, 3, 172]
abbrev dktJ3_isEmpty_0 : List UInt8 := dkwJ3_isEmpty_0 ++ []
theorem dksJ3_isEmpty_0 : cJ3_isEmpty.data.toList.drop 0 = dktJ3_isEmpty_0 := by decide +kernel
theorem dJ3_isEmpty_0 : decode cJ3_isEmpty 0 = .ok (.aload_n 0, 1) := dk_42 (dk_at dksJ3_isEmpty_0 0 rfl rfl)
theorem dJ3_isEmpty_1 : decode cJ3_isEmpty 1 = .ok (.getfield 48, 3) := dk_180 0 48 (dk_at dksJ3_isEmpty_0 1 rfl rfl)
theorem dJ3_isEmpty_4 : decode cJ3_isEmpty 4 = .ok (.ifCond .ne 7, 3) := dk_154 0 7 (dk_at dksJ3_isEmpty_0 4 rfl rfl)
theorem dJ3_isEmpty_7 : decode cJ3_isEmpty 7 = .ok (.iconst 1, 1) := dk_4 (dk_at dksJ3_isEmpty_0 7 rfl rfl)
theorem dJ3_isEmpty_8 : decode cJ3_isEmpty 8 = .ok (.goto 4, 3) := dk_167 0 4 (dk_at dksJ3_isEmpty_0 8 rfl rfl)
theorem dJ3_isEmpty_11 : decode cJ3_isEmpty 11 = .ok (.iconst 0, 1) := dk_3 (dk_at dksJ3_isEmpty_0 11 rfl rfl)
theorem dJ3_isEmpty_12 : decode cJ3_isEmpty 12 = .ok (.ireturn, 1) := dk_172 (dk_at dksJ3_isEmpty_0 12 rfl rfl)
theorem md_J3_isEmpty : xMd yJ3_isEmpty cJ3_isEmpty 1 (Option.some Jvm.ClassFile.FieldType.boolean) 0 := ⟨q1448, q130, by decide, by decide +kernel, by decide +kernel, by decide +kernel⟩
def f_J3_isEmpty (p0 : PH) (a0 : Nat) : Option (xO × PH) :=
  (xcl1 p0 a0 14 (xgI p0 a0 14 2 fun x1 =>
  (if x1 = 0 then
  (if vp_nar .boolean 1 = 1 then rI 1 p0 else none) else
  (if vp_nar .boolean 0 = 0 then rI 0 p0 else none))))
theorem rc_J3_isEmpty {p0 : PH} {a0 : Nat} : ∀ z, f_J3_isEmpty p0 a0 = some z → xco p0 a0 = some 14 := fun z h => xcl1_some h
theorem f_J3_isEmpty_ok {G : xG} (hO : xOK G) (p0 : PH) (a0 : Nat) : CT G 0 yJ3_isEmpty cJ3_isEmpty 1 (Option.some Jvm.ClassFile.FieldType.boolean) [.ref a0] p0 (f_J3_isEmpty p0 a0) := by
  refine CT_of hO (by decide +kernel) (by decide +kernel) (Nat.le_of_ble_eq_true rfl) ?_
  show X G "java/util/ArrayList" "isEmpty" cJ3_isEmpty 1 (Option.some Jvm.ClassFile.FieldType.boolean) 0 0 [(0, .ref a0)] [] p0 (f_J3_isEmpty p0 a0)
  refine x_cl1 (fun e0 => ?_)
  refine x_aload_nr 0 dJ3_isEmpty_0 rfl rfl (n := 1) rfl ?_
  refine x_getI fl_J3_48 dJ3_isEmpty_1 (n := 4) rfl (fun x1 => ?_)
  refine x_if_ne dJ3_isEmpty_4 (t := 11) (by decide) (n := 7) rfl (fun _ => ?_) (fun _ => ?_)
  · refine x_iconst 0 dJ3_isEmpty_11 rfl (n := 12) rfl ?_
    exact x_nreturn rfl dJ3_isEmpty_12
  · refine x_iconst 1 dJ3_isEmpty_7 rfl (n := 8) rfl ?_
    refine x_goto dJ3_isEmpty_8 (n := 12) (by decide) ?_
    exact x_nreturn rfl dJ3_isEmpty_12
abbrev cX8_init : ByteArray := prog_9_method_1_code
def yX8_init : MethodName := ⟨RX8, "<init>", "(II)V"⟩
def dkwX8_init_0 : List UInt8 := [42, 183, 0, 1, 42, 27, 181, 0, 7, 42, 28, 181, 0, 13, 177]
abbrev dktX8_init_0 : List UInt8 := dkwX8_init_0 ++ []
theorem dksX8_init_0 : cX8_init.data.toList.drop 0 = dktX8_init_0 := by decide +kernel
theorem dX8_init_0 : decode cX8_init 0 = .ok (.aload_n 0, 1) := dk_42 (dk_at dksX8_init_0 0 rfl rfl)
theorem dX8_init_1 : decode cX8_init 1 = .ok (.invokespecial 1, 3) := dk_183 0 1 (dk_at dksX8_init_0 1 rfl rfl)
theorem dX8_init_4 : decode cX8_init 4 = .ok (.aload_n 0, 1) := dk_42 (dk_at dksX8_init_0 4 rfl rfl)
theorem dX8_init_5 : decode cX8_init 5 = .ok (.iload_n 1, 1) := dk_27 (dk_at dksX8_init_0 5 rfl rfl)
theorem dX8_init_6 : decode cX8_init 6 = .ok (.putfield 7, 3) := dk_181 0 7 (dk_at dksX8_init_0 6 rfl rfl)
theorem dX8_init_9 : decode cX8_init 9 = .ok (.aload_n 0, 1) := dk_42 (dk_at dksX8_init_0 9 rfl rfl)
theorem dX8_init_10 : decode cX8_init 10 = .ok (.iload_n 2, 1) := dk_28 (dk_at dksX8_init_0 10 rfl rfl)
theorem dX8_init_11 : decode cX8_init 11 = .ok (.putfield 13, 3) := dk_181 0 13 (dk_at dksX8_init_0 11 rfl rfl)
theorem dX8_init_14 : decode cX8_init 14 = .ok (.return_, 1) := dk_177 (dk_at dksX8_init_0 14 rfl rfl)
theorem md_X8_init : xMd yX8_init cX8_init 3 (Option.none : Option Jvm.ClassFile.FieldType) 2 := ⟨q1455, q157, by decide, by decide +kernel, by decide +kernel, by decide +kernel⟩
def f_X8_init (p0 : PH) (a0 : Nat) (a1 : Int32) (a2 : Int32) : Option (xO × PH) :=
  (xpF p0 a0 7 0 (.int a1) fun p1 =>
  (xpF p1 a0 7 1 (.int a2) fun p2 =>
  (rV p2)))
theorem f_X8_init_ok {G : xG} (hO : xOK G) (p0 : PH) (a0 : Nat) (a1 : Int32) (a2 : Int32) : CT G 1 yX8_init cX8_init 3 (Option.none : Option Jvm.ClassFile.FieldType) [.ref a0, .int a1, .int a2] p0 (f_X8_init p0 a0 a1 a2) := by
  refine CT_of hO (by decide +kernel) (by decide +kernel) (Nat.le_of_ble_eq_true rfl) ?_
  show X G "ForestLegs$Punch" "<init>" cX8_init 3 (Option.none : Option Jvm.ClassFile.FieldType) 1 0 [(0, .ref a0), (1, .int a1), (2, .int a2)] [] p0 (f_X8_init p0 a0 a1 a2)
  refine x_aload_nr 0 dX8_init_0 rfl rfl (n := 1) rfl ?_
  refine x_objInit q1456 q186 q187 dX8_init_1 (by decide) (Nat.le_of_ble_eq_true rfl) (n := 4) rfl ?_
  refine x_aload_nr 0 dX8_init_4 rfl rfl (n := 5) rfl ?_
  refine x_iload_n 1 dX8_init_5 rfl rfl (n := 6) rfl ?_
  refine x_pF (pl_X8_7 _ ⟨rfl, rfl⟩) dX8_init_6 (n := 9) rfl (fun p1 => ?_)
  refine x_aload_nr 0 dX8_init_9 rfl rfl (n := 10) rfl ?_
  refine x_iload_n 2 dX8_init_10 rfl rfl (n := 11) rfl ?_
  refine x_pF (pl_X8_13 _ ⟨rfl, rfl⟩) dX8_init_11 (n := 14) rfl (fun p2 => ?_)
  exact x_return dX8_init_14
abbrev cX3_punch : ByteArray := prog_10_method_14_code
def yX3_punch : MethodName := ⟨RX3, "punch", "(LForestLegs$Runner;)V"⟩
def dkwX3_punch_5 : List UInt8 := [187, 0, 177, 89, 28, 42, 29, 43, 180, 0, 182, 182, 0, 185, 183, 0, 189, 185, 0, 148, 2, 0, 87, 177]
abbrev dktX3_punch_5 : List UInt8 := dkwX3_punch_5 ++ []
def dkwX3_punch_4 : List UInt8 := [185, 0, 127, 1, 0, 4, 100, 185, 0, 173, 2, 0, 192, 0, 177, 180, 0, 179, 62, 43, 180, 0, 161]
abbrev dktX3_punch_4 : List UInt8 := dkwX3_punch_4 ++ dktX3_punch_5
def dkwX3_punch_3 : List UInt8 := [185, 0, 166, 1, 0, 153, 0, 10, 43, 180, 0, 170, 167, 0, 29, 43, 180, 0, 161, 43, 180, 0, 161]
abbrev dktX3_punch_3 : List UInt8 := dkwX3_punch_3 ++ dktX3_punch_4
def dkwX3_punch_2 : List UInt8 := [4, 167, 0, 4, 3, 7, 182, 0, 76, 42, 180, 0, 61, 61, 42, 182, 0, 105, 43, 180, 0, 161]
abbrev dktX3_punch_2 : List UInt8 := dkwX3_punch_2 ++ dktX3_punch_3
def dkwX3_punch_1 : List UInt8 := [16, 99, 184, 0, 41, 5, 182, 0, 76, 42, 43, 180, 0, 161, 185, 0, 127, 1, 0, 16, 16, 162, 0, 7]
abbrev dktX3_punch_1 : List UInt8 := dkwX3_punch_1 ++ dktX3_punch_2
def dkwX3_punch_0 : List UInt8 := [42, 42, 180, 0, 51, 6, 160, 0, 7, 4, 167, 0, 4, 3, 4, 182, 0, 76, 42, 42, 180, 0, 61, 4]
abbrev dktX3_punch_0 : List UInt8 := dkwX3_punch_0 ++ dktX3_punch_1
theorem dksX3_punch_0 : cX3_punch.data.toList.drop 0 = dktX3_punch_0 := by decide +kernel
theorem dksX3_punch_1 : cX3_punch.data.toList.drop 24 = dktX3_punch_1 := dk_seg dksX3_punch_0 24 rfl rfl
theorem dksX3_punch_2 : cX3_punch.data.toList.drop 48 = dktX3_punch_2 := dk_seg dksX3_punch_1 24 rfl rfl
theorem dksX3_punch_3 : cX3_punch.data.toList.drop 70 = dktX3_punch_3 := dk_seg dksX3_punch_2 22 rfl rfl
theorem dksX3_punch_4 : cX3_punch.data.toList.drop 93 = dktX3_punch_4 := dk_seg dksX3_punch_3 23 rfl rfl
theorem dksX3_punch_5 : cX3_punch.data.toList.drop 116 = dktX3_punch_5 := dk_seg dksX3_punch_4 23 rfl rfl
theorem dX3_punch_0 : decode cX3_punch 0 = .ok (.aload_n 0, 1) := dk_42 (dk_at dksX3_punch_0 0 rfl rfl)
theorem dX3_punch_1 : decode cX3_punch 1 = .ok (.aload_n 0, 1) := dk_42 (dk_at dksX3_punch_0 1 rfl rfl)
theorem dX3_punch_2 : decode cX3_punch 2 = .ok (.getfield 51, 3) := dk_180 0 51 (dk_at dksX3_punch_0 2 rfl rfl)
theorem dX3_punch_5 : decode cX3_punch 5 = .ok (.iconst 3, 1) := dk_6 (dk_at dksX3_punch_0 5 rfl rfl)
theorem dX3_punch_6 : decode cX3_punch 6 = .ok (.if_icmp .ne 7, 3) := dk_160 0 7 (dk_at dksX3_punch_0 6 rfl rfl)
theorem dX3_punch_9 : decode cX3_punch 9 = .ok (.iconst 1, 1) := dk_4 (dk_at dksX3_punch_0 9 rfl rfl)
theorem dX3_punch_10 : decode cX3_punch 10 = .ok (.goto 4, 3) := dk_167 0 4 (dk_at dksX3_punch_0 10 rfl rfl)
theorem dX3_punch_13 : decode cX3_punch 13 = .ok (.iconst 0, 1) := dk_3 (dk_at dksX3_punch_0 13 rfl rfl)
theorem dX3_punch_14 : decode cX3_punch 14 = .ok (.iconst 1, 1) := dk_4 (dk_at dksX3_punch_0 14 rfl rfl)
theorem dX3_punch_15 : decode cX3_punch 15 = .ok (.invokevirtual 76, 3) := dk_182 0 76 (dk_at dksX3_punch_0 15 rfl rfl)
theorem dX3_punch_18 : decode cX3_punch 18 = .ok (.aload_n 0, 1) := dk_42 (dk_at dksX3_punch_0 18 rfl rfl)
theorem dX3_punch_19 : decode cX3_punch 19 = .ok (.aload_n 0, 1) := dk_42 (dk_at dksX3_punch_0 19 rfl rfl)
theorem dX3_punch_20 : decode cX3_punch 20 = .ok (.getfield 61, 3) := dk_180 0 61 (dk_at dksX3_punch_0 20 rfl rfl)
theorem dX3_punch_23 : decode cX3_punch 23 = .ok (.iconst 1, 1) := dk_4 (dk_at dksX3_punch_0 23 rfl rfl)
theorem dX3_punch_24 : decode cX3_punch 24 = .ok (.bipush 99, 2) := dk_16 99 (dk_at dksX3_punch_1 0 rfl rfl)
theorem dX3_punch_26 : decode cX3_punch 26 = .ok (.invokestatic 41, 3) := dk_184 0 41 (dk_at dksX3_punch_1 2 rfl rfl)
theorem dX3_punch_29 : decode cX3_punch 29 = .ok (.iconst 2, 1) := dk_5 (dk_at dksX3_punch_1 5 rfl rfl)
theorem dX3_punch_30 : decode cX3_punch 30 = .ok (.invokevirtual 76, 3) := dk_182 0 76 (dk_at dksX3_punch_1 6 rfl rfl)
theorem dX3_punch_33 : decode cX3_punch 33 = .ok (.aload_n 0, 1) := dk_42 (dk_at dksX3_punch_1 9 rfl rfl)
theorem dX3_punch_34 : decode cX3_punch 34 = .ok (.aload_n 1, 1) := dk_43 (dk_at dksX3_punch_1 10 rfl rfl)
theorem dX3_punch_35 : decode cX3_punch 35 = .ok (.getfield 161, 3) := dk_180 0 161 (dk_at dksX3_punch_1 11 rfl rfl)
theorem dX3_punch_38 : decode cX3_punch 38 = .ok (.invokeinterface 127 1, 5) := by decide +kernel
theorem dX3_punch_43 : decode cX3_punch 43 = .ok (.bipush 16, 2) := dk_16 16 (dk_at dksX3_punch_1 19 rfl rfl)
theorem dX3_punch_45 : decode cX3_punch 45 = .ok (.if_icmp .ge 7, 3) := dk_162 0 7 (dk_at dksX3_punch_1 21 rfl rfl)
theorem dX3_punch_48 : decode cX3_punch 48 = .ok (.iconst 1, 1) := dk_4 (dk_at dksX3_punch_2 0 rfl rfl)
theorem dX3_punch_49 : decode cX3_punch 49 = .ok (.goto 4, 3) := dk_167 0 4 (dk_at dksX3_punch_2 1 rfl rfl)
theorem dX3_punch_52 : decode cX3_punch 52 = .ok (.iconst 0, 1) := dk_3 (dk_at dksX3_punch_2 4 rfl rfl)
theorem dX3_punch_53 : decode cX3_punch 53 = .ok (.iconst 4, 1) := dk_7 (dk_at dksX3_punch_2 5 rfl rfl)
theorem dX3_punch_54 : decode cX3_punch 54 = .ok (.invokevirtual 76, 3) := dk_182 0 76 (dk_at dksX3_punch_2 6 rfl rfl)
theorem dX3_punch_57 : decode cX3_punch 57 = .ok (.aload_n 0, 1) := dk_42 (dk_at dksX3_punch_2 9 rfl rfl)
theorem dX3_punch_58 : decode cX3_punch 58 = .ok (.getfield 61, 3) := dk_180 0 61 (dk_at dksX3_punch_2 10 rfl rfl)
theorem dX3_punch_61 : decode cX3_punch 61 = .ok (.istore_n 2, 1) := dk_61 (dk_at dksX3_punch_2 13 rfl rfl)
theorem dX3_punch_62 : decode cX3_punch 62 = .ok (.aload_n 0, 1) := dk_42 (dk_at dksX3_punch_2 14 rfl rfl)
theorem dX3_punch_63 : decode cX3_punch 63 = .ok (.invokevirtual 105, 3) := dk_182 0 105 (dk_at dksX3_punch_2 15 rfl rfl)
theorem dX3_punch_66 : decode cX3_punch 66 = .ok (.aload_n 1, 1) := dk_43 (dk_at dksX3_punch_2 18 rfl rfl)
theorem dX3_punch_67 : decode cX3_punch 67 = .ok (.getfield 161, 3) := dk_180 0 161 (dk_at dksX3_punch_2 19 rfl rfl)
theorem dX3_punch_70 : decode cX3_punch 70 = .ok (.invokeinterface 166 1, 5) := by decide +kernel
theorem dX3_punch_75 : decode cX3_punch 75 = .ok (.ifCond .eq 10, 3) := dk_153 0 10 (dk_at dksX3_punch_3 5 rfl rfl)
theorem dX3_punch_78 : decode cX3_punch 78 = .ok (.aload_n 1, 1) := dk_43 (dk_at dksX3_punch_3 8 rfl rfl)
theorem dX3_punch_79 : decode cX3_punch 79 = .ok (.getfield 170, 3) := dk_180 0 170 (dk_at dksX3_punch_3 9 rfl rfl)
theorem dX3_punch_82 : decode cX3_punch 82 = .ok (.goto 29, 3) := dk_167 0 29 (dk_at dksX3_punch_3 12 rfl rfl)
theorem dX3_punch_85 : decode cX3_punch 85 = .ok (.aload_n 1, 1) := dk_43 (dk_at dksX3_punch_3 15 rfl rfl)
theorem dX3_punch_86 : decode cX3_punch 86 = .ok (.getfield 161, 3) := dk_180 0 161 (dk_at dksX3_punch_3 16 rfl rfl)
theorem dX3_punch_89 : decode cX3_punch 89 = .ok (.aload_n 1, 1) := dk_43 (dk_at dksX3_punch_3 19 rfl rfl)
theorem dX3_punch_90 : decode cX3_punch 90 = .ok (.getfield 161, 3) := dk_180 0 161 (dk_at dksX3_punch_3 20 rfl rfl)
theorem dX3_punch_93 : decode cX3_punch 93 = .ok (.invokeinterface 127 1, 5) := by decide +kernel
theorem dX3_punch_98 : decode cX3_punch 98 = .ok (.iconst 1, 1) := dk_4 (dk_at dksX3_punch_4 5 rfl rfl)
theorem dX3_punch_99 : decode cX3_punch 99 = .ok (.isub, 1) := dk_100 (dk_at dksX3_punch_4 6 rfl rfl)
theorem dX3_punch_100 : decode cX3_punch 100 = .ok (.invokeinterface 173 2, 5) := by decide +kernel
theorem dX3_punch_105 : decode cX3_punch 105 = .ok (.checkcast 177, 3) := dk_192 0 177 (dk_at dksX3_punch_4 12 rfl rfl)
theorem dX3_punch_108 : decode cX3_punch 108 = .ok (.getfield 179, 3) := dk_180 0 179 (dk_at dksX3_punch_4 15 rfl rfl)
theorem dX3_punch_111 : decode cX3_punch 111 = .ok (.istore_n 3, 1) := dk_62 (dk_at dksX3_punch_4 18 rfl rfl)
theorem dX3_punch_112 : decode cX3_punch 112 = .ok (.aload_n 1, 1) := dk_43 (dk_at dksX3_punch_4 19 rfl rfl)
theorem dX3_punch_113 : decode cX3_punch 113 = .ok (.getfield 161, 3) := dk_180 0 161 (dk_at dksX3_punch_4 20 rfl rfl)
theorem dX3_punch_116 : decode cX3_punch 116 = .ok (.new 177, 3) := dk_187 0 177 (dk_at dksX3_punch_5 0 rfl rfl)
theorem dX3_punch_119 : decode cX3_punch 119 = .ok (.dup, 1) := dk_89 (dk_at dksX3_punch_5 3 rfl rfl)
theorem dX3_punch_120 : decode cX3_punch 120 = .ok (.iload_n 2, 1) := dk_28 (dk_at dksX3_punch_5 4 rfl rfl)
theorem dX3_punch_121 : decode cX3_punch 121 = .ok (.aload_n 0, 1) := dk_42 (dk_at dksX3_punch_5 5 rfl rfl)
theorem dX3_punch_122 : decode cX3_punch 122 = .ok (.iload_n 3, 1) := dk_29 (dk_at dksX3_punch_5 6 rfl rfl)
theorem dX3_punch_123 : decode cX3_punch 123 = .ok (.aload_n 1, 1) := dk_43 (dk_at dksX3_punch_5 7 rfl rfl)
theorem dX3_punch_124 : decode cX3_punch 124 = .ok (.getfield 182, 3) := dk_180 0 182 (dk_at dksX3_punch_5 8 rfl rfl)
theorem dX3_punch_127 : decode cX3_punch 127 = .ok (.invokevirtual 185, 3) := dk_182 0 185 (dk_at dksX3_punch_5 11 rfl rfl)
theorem dX3_punch_130 : decode cX3_punch 130 = .ok (.invokespecial 189, 3) := dk_183 0 189 (dk_at dksX3_punch_5 14 rfl rfl)
theorem dX3_punch_133 : decode cX3_punch 133 = .ok (.invokeinterface 148 2, 5) := by decide +kernel
theorem dX3_punch_138 : decode cX3_punch 138 = .ok (.pop, 1) := dk_87 (dk_at dksX3_punch_5 22 rfl rfl)
theorem dX3_punch_139 : decode cX3_punch 139 = .ok (.return_, 1) := dk_177 (dk_at dksX3_punch_5 23 rfl rfl)
theorem md_X3_punch : xMd yX3_punch cX3_punch 4 (Option.none : Option Jvm.ClassFile.FieldType) 1 := ⟨q1439, q127, by decide, by decide +kernel, by decide +kernel, by decide +kernel⟩
def f_X3_punch_111 (a0 : Nat)  (v1 : Option Nat) (v2 : Int32) (w0 : Int32) (p0 : PH) : Option (xO × PH) :=
  (xnul v1 none fun b30 =>
  (xgR p0 b30 6 4 fun x31 =>
  (xnew p0 7 [.int 0, .int 0] fun b32 p33 =>
  (xgI p33 b30 6 3 fun x34 =>
  (xtI (f_X3_whole p33 a0 w0 x34) (fun x36 p35 =>
  (xcV (f_X8_init p35 b32 v2 x36) fun p37 =>
  (xnul x31 none fun b38 =>
  (xcI (f_J3_add p37 b38 (some b32)) fun x40 p39 =>
  (rV p39))))) rT)))))
def f_X3_punch_53 (a0 : Nat)  (v1 : Option Nat) (w1 : Int32) (p0 : PH) : Option (xO × PH) :=
  (xtV (f_X3_need p0 a0 w1 4) (fun p12 =>
  (xgI p12 a0 2 8 fun x13 =>
  (xcV (f_X3_go p12 a0 ) fun p14 =>
  (xnul v1 none fun b15 =>
  (xgR p14 b15 6 4 fun x16 =>
  (xnul x16 none fun b17 =>
  (xcI (f_J3_isEmpty p14 b17 ) fun x19 p18 =>
  (if x19 = 0 then
  (xgR p18 b15 6 4 fun x20 =>
  (xgR p18 b15 6 4 fun x21 =>
  (xnul x21 none fun b22 =>
  (xcI (f_J3_size p18 b22 ) fun x24 p23 =>
  (xnul x20 none fun b25 =>
  (xcR (f_J3_get p23 b25 (x24 - 1)) fun x27 p26 =>
  (xcst p26 (x27) [7]
  (xnul x27 none fun b28 =>
  (xgI p26 b28 7 1 fun x29 =>
  (f_X3_punch_111 a0 ((some b15)) x13 x29 p26)))))))))) else
  (xgI p18 b15 6 2 fun x41 =>
  (f_X3_punch_111 a0 ((some b15)) x13 x41 p18)))))))))) rT)
def f_X3_punch_14 (a0 : Nat)  (v1 : Option Nat) (w1 : Int32) (p0 : PH) : Option (xO × PH) :=
  (xtV (f_X3_need p0 a0 w1 1) (fun p2 =>
  (xgI p2 a0 2 8 fun x3 =>
  (xcI (f_X1_isIn p2 x3 1 99) fun x5 p4 =>
  (xtV (f_X3_need p4 a0 x5 2) (fun p6 =>
  (xnul v1 none fun b7 =>
  (xgR p6 b7 6 4 fun x8 =>
  (xnul x8 none fun b9 =>
  (xcI (f_J3_size p6 b9 ) fun x11 p10 =>
  (if 16 ≤ x11 then
  (f_X3_punch_53 a0 ((some b7)) 0 p10) else
  (f_X3_punch_53 a0 ((some b7)) 1 p10))))))) rT)))) rT)
def f_X3_punch (p0 : PH) (a0 : Nat) (a1 : Option Nat) : Option (xO × PH) :=
  (xcl1 p0 a0 2 (xgI p0 a0 2 7 fun x1 =>
  (if x1 = 3 then
  (f_X3_punch_14 a0 a1 1 p0) else
  (f_X3_punch_14 a0 a1 0 p0))))
theorem rc_X3_punch {p0 : PH} {a0 : Nat} {a1 : Option Nat} : ∀ z, f_X3_punch p0 a0 a1 = some z → xco p0 a0 = some 2 := fun z h => xcl1_some h
theorem f_X3_punch_111_ok {G : xG} (hO : xOK G) (a0 : Nat)  (v1 : Option Nat) (v2 : Int32) (w0 : Int32) (p0 : PH) : X G "ForestLegs$Reader" "punch" cX3_punch 4 (Option.none : Option Jvm.ClassFile.FieldType) 7 111 [(0, .ref a0), (1, va_rf v1), (2, .int v2)] [.int w0] p0 (f_X3_punch_111 a0 v1 v2 w0 p0) := by
  unfold f_X3_punch_111
  refine x_istore_n [(3, .int w0), (0, .ref a0), (1, va_rf v1), (2, .int v2)] dX3_punch_111 rfl (by decide) rfl (n := 112) rfl ?_
  refine x_aload_n 2 dX3_punch_112 rfl rfl (n := 113) rfl ?_
  refine x_sm (fun b30 e => ?_)
  subst e
  refine x_getR fl_X3_161 dX3_punch_113 (n := 116) rfl (fun x31 => ?_)
  refine x_new cl_7 (by decide) q1451 q1452 q157 rfl dX3_punch_116 (n := 119) rfl (fun b32 p33 => ?_)
  refine x_dup dX3_punch_119 rfl (n := 120) rfl ?_
  refine x_iload_n 3 dX3_punch_120 rfl rfl (n := 121) rfl ?_
  refine x_aload_nr 1 dX3_punch_121 rfl rfl (n := 122) rfl ?_
  refine x_iload_n 0 dX3_punch_122 rfl rfl (n := 123) rfl ?_
  refine x_aload_nr 2 dX3_punch_123 rfl rfl (n := 124) rfl ?_
  refine x_getI fl_X3_182 dX3_punch_124 (n := 127) rfl (fun x34 => ?_)
  refine x_callVT_I [.int w0, .int x34] [.int v2, .ref b32, .ref b32, va_rf x31] (f_X3_whole_ok hO p33 a0 w0 x34) rc_X3_whole md_X3_whole rfl q1432 q1434 qs24 dX3_punch_127 rfl rfl (by decide) (by simp only [List.map, xcat]; exact Nat.le_of_ble_eq_true rfl) (n := 130) rfl (fun x36 p35 => ?_) (fun q P1 => xt_out (by decide +kernel))
  refine x_callI_V [.int v2, .int x36] [.ref b32, va_rf x31] (f_X8_init_ok hO p35 b32 v2 x36) md_X8_init rfl q1453 q1454 dX3_punch_130 rfl rfl (by decide) (by simp only [List.map, xcat]; exact Nat.le_of_ble_eq_true rfl) (n := 133) rfl (fun p37 => ?_)
  refine x_sm (fun b38 e => ?_)
  subst e
  refine x_callF_I [.ref b32] [] (f_J3_add_ok hO p37 b38 (some b32)) rc_J3_add md_J3_add rfl q1232 fc_java_util_ArrayList_java_util_List_add_1_Ljaval dX3_punch_133 rfl rfl (by decide) (Nat.le_of_ble_eq_true rfl) (n := 138) rfl (fun x40 p39 => ?_)
  refine x_pop dX3_punch_138 rfl (n := 139) rfl ?_
  exact x_return dX3_punch_139
theorem f_X3_punch_53_ok {G : xG} (hO : xOK G) (a0 : Nat)  (v1 : Option Nat) (w1 : Int32) (p0 : PH) : X G "ForestLegs$Reader" "punch" cX3_punch 4 (Option.none : Option Jvm.ClassFile.FieldType) 7 53 [(0, .ref a0), (1, va_rf v1)] [.int w1, .ref a0] p0 (f_X3_punch_53 a0 v1 w1 p0) := by
  unfold f_X3_punch_53
  refine x_iconst 4 dX3_punch_53 rfl (n := 54) rfl ?_
  refine x_callVT_V [.int w1, .int 4] [] (f_X3_need_ok hO p0 a0 w1 4) rc_X3_need md_X3_need rfl q499 q501 qs7 dX3_punch_54 rfl rfl (by decide) (Nat.le_of_ble_eq_true rfl) (n := 57) rfl (fun p12 => ?_) (fun q P1 => xt_out (by decide +kernel))
  refine x_aload_nr 0 dX3_punch_57 rfl rfl (n := 58) rfl ?_
  refine x_getI fl_X3_61 dX3_punch_58 (n := 61) rfl (fun x13 => ?_)
  refine x_istore_n [(2, .int x13), (0, .ref a0), (1, va_rf v1)] dX3_punch_61 rfl (by decide) (by simp only [xst, List.filter_cons, List.filter_nil, xcat] <;> rfl) (n := 62) rfl ?_
  refine x_aload_nr 1 dX3_punch_62 rfl rfl (n := 63) rfl ?_
  refine x_callV_V [] [] (f_X3_go_ok hO p12 a0 ) rc_X3_go md_X3_go rfl q387 q389 qs1 dX3_punch_63 rfl rfl (by decide) (Nat.le_of_ble_eq_true rfl) (n := 66) rfl (fun p14 => ?_)
  refine x_aload_n 2 dX3_punch_66 rfl rfl (n := 67) rfl ?_
  refine x_sm (fun b15 e => ?_)
  subst e
  refine x_getR fl_X3_161 dX3_punch_67 (n := 70) rfl (fun x16 => ?_)
  refine x_sm (fun b17 e => ?_)
  subst e
  refine x_callF_I [] [] (f_J3_isEmpty_ok hO p14 b17 ) rc_J3_isEmpty md_J3_isEmpty rfl q1441 fc_java_util_ArrayList_java_util_List_isEmpty_0_Z dX3_punch_70 rfl rfl (by decide) (Nat.le_of_ble_eq_true rfl) (n := 75) rfl (fun x19 p18 => ?_)
  refine x_if_eq dX3_punch_75 (t := 85) (by decide) (n := 78) rfl (fun _ => ?_) (fun _ => ?_)
  · refine x_aload_nr 2 dX3_punch_85 rfl rfl (n := 86) rfl ?_
    refine x_getR fl_X3_161 dX3_punch_86 (n := 89) rfl (fun x20 => ?_)
    refine x_aload_nr 2 dX3_punch_89 rfl rfl (n := 90) rfl ?_
    refine x_getR fl_X3_161 dX3_punch_90 (n := 93) rfl (fun x21 => ?_)
    refine x_sm (fun b22 e => ?_)
    subst e
    refine x_callF_I [] [va_rf x20] (f_J3_size_ok hO p18 b22 ) rc_J3_size md_J3_size rfl q808 fc_java_util_ArrayList_java_util_List_size_0_I dX3_punch_93 rfl rfl (by decide) (by simp only [List.map, xcat]; exact Nat.le_of_ble_eq_true rfl) (n := 98) rfl (fun x24 p23 => ?_)
    refine x_iconst 1 dX3_punch_98 rfl (n := 99) rfl ?_
    refine x_isub dX3_punch_99 (n := 100) rfl ?_
    refine x_sm (fun b25 e => ?_)
    subst e
    refine x_callF_R [.int (x24 - 1)] [] (f_J3_get_ok hO p23 b25 (x24 - 1)) rc_J3_get md_J3_get rfl q1450 fc_java_util_ArrayList_java_util_List_get_1_ILjava dX3_punch_100 rfl rfl (by decide) (Nat.le_of_ble_eq_true rfl) (n := 105) rfl (fun x27 p26 => ?_)
    refine x_cast (x := x27) (cs := [7]) q1451 cst_ForestLegs_Punch dX3_punch_105 (n := 108) rfl ?_
    refine x_sm (fun b28 e => ?_)
    subst e
    refine x_getI fl_X3_179 dX3_punch_108 (n := 111) rfl (fun x29 => ?_)
    refine x_sub [1, 2, 0] [(0, .ref a0), (1, .ref b15), (2, .int x13)] rfl ?_
    exact f_X3_punch_111_ok hO a0 ((some b15)) x13 x29 p26
  · refine x_aload_nr 2 dX3_punch_78 rfl rfl (n := 79) rfl ?_
    refine x_getI fl_X3_170 dX3_punch_79 (n := 82) rfl (fun x41 => ?_)
    refine x_goto dX3_punch_82 (n := 111) (by decide) ?_
    refine x_sub [1, 2, 0] [(0, .ref a0), (1, .ref b15), (2, .int x13)] rfl ?_
    exact f_X3_punch_111_ok hO a0 ((some b15)) x13 x41 p18
theorem f_X3_punch_14_ok {G : xG} (hO : xOK G) (a0 : Nat)  (v1 : Option Nat) (w1 : Int32) (p0 : PH) : X G "ForestLegs$Reader" "punch" cX3_punch 4 (Option.none : Option Jvm.ClassFile.FieldType) 7 14 [(0, .ref a0), (1, va_rf v1)] [.int w1, .ref a0] p0 (f_X3_punch_14 a0 v1 w1 p0) := by
  unfold f_X3_punch_14
  refine x_iconst 1 dX3_punch_14 rfl (n := 15) rfl ?_
  refine x_callVT_V [.int w1, .int 1] [] (f_X3_need_ok hO p0 a0 w1 1) rc_X3_need md_X3_need rfl q499 q501 qs7 dX3_punch_15 rfl rfl (by decide) (Nat.le_of_ble_eq_true rfl) (n := 18) rfl (fun p2 => ?_) (fun q P1 => xt_out (by decide +kernel))
  refine x_aload_nr 0 dX3_punch_18 rfl rfl (n := 19) rfl ?_
  refine x_aload_nr 0 dX3_punch_19 rfl rfl (n := 20) rfl ?_
  refine x_getI fl_X3_61 dX3_punch_20 (n := 23) rfl (fun x3 => ?_)
  refine x_iconst 1 dX3_punch_23 rfl (n := 24) rfl ?_
  refine x_bipush 99 dX3_punch_24 rfl (n := 26) rfl ?_
  refine x_callSN_I [.int x3, .int 1, .int 99] [.ref a0] (f_X1_isIn_ok hO p2 x3 1 99) md_X1_isIn q399 q248 dX3_punch_26 rfl rfl (by decide) (Nat.le_of_ble_eq_true rfl) (n := 29) rfl (fun x5 p4 => ?_)
  refine x_iconst 2 dX3_punch_29 rfl (n := 30) rfl ?_
  refine x_callVT_V [.int x5, .int 2] [] (f_X3_need_ok hO p4 a0 x5 2) rc_X3_need md_X3_need rfl q499 q501 qs7 dX3_punch_30 rfl rfl (by decide) (Nat.le_of_ble_eq_true rfl) (n := 33) rfl (fun p6 => ?_) (fun q P1 => xt_out (by decide +kernel))
  refine x_aload_nr 0 dX3_punch_33 rfl rfl (n := 34) rfl ?_
  refine x_aload_n 1 dX3_punch_34 rfl rfl (n := 35) rfl ?_
  refine x_sm (fun b7 e => ?_)
  subst e
  refine x_getR fl_X3_161 dX3_punch_35 (n := 38) rfl (fun x8 => ?_)
  refine x_sm (fun b9 e => ?_)
  subst e
  refine x_callF_I [] [.ref a0] (f_J3_size_ok hO p6 b9 ) rc_J3_size md_J3_size rfl q808 fc_java_util_ArrayList_java_util_List_size_0_I dX3_punch_38 rfl rfl (by decide) (Nat.le_of_ble_eq_true rfl) (n := 43) rfl (fun x11 p10 => ?_)
  refine x_bipush 16 dX3_punch_43 rfl (n := 45) rfl ?_
  refine x_icmp_ge dX3_punch_45 (t := 52) (by decide) (n := 48) rfl (fun _ => ?_) (fun _ => ?_)
  · refine x_iconst 0 dX3_punch_52 rfl (n := 53) rfl ?_
    exact f_X3_punch_53_ok hO a0 ((some b7)) 0 p10
  · refine x_iconst 1 dX3_punch_48 rfl (n := 49) rfl ?_
    refine x_goto dX3_punch_49 (n := 53) (by decide) ?_
    exact f_X3_punch_53_ok hO a0 ((some b7)) 1 p10
theorem f_X3_punch_ok {G : xG} (hO : xOK G) (p0 : PH) (a0 : Nat) (a1 : Option Nat) : CT G 7 yX3_punch cX3_punch 4 (Option.none : Option Jvm.ClassFile.FieldType) [.ref a0, va_rf a1] p0 (f_X3_punch p0 a0 a1) := by
  refine CT_of hO (by decide +kernel) (by decide +kernel) (lg_slen _ (by simp only [List.map, xcat]; exact Nat.le_of_ble_eq_true rfl)) ?_
  rw [show lv_args 0 [.ref a0, va_rf a1] = [(0, .ref a0), (1, va_rf a1)] from by simp only [lv_args, xcat] <;> rfl]
  show X G "ForestLegs$Reader" "punch" cX3_punch 4 (Option.none : Option Jvm.ClassFile.FieldType) 7 0 [(0, .ref a0), (1, va_rf a1)] [] p0 (f_X3_punch p0 a0 a1)
  refine x_cl1 (fun e0 => ?_)
  refine x_aload_nr 0 dX3_punch_0 rfl rfl (n := 1) rfl ?_
  refine x_aload_nr 0 dX3_punch_1 rfl rfl (n := 2) rfl ?_
  refine x_getI fl_X3_51 dX3_punch_2 (n := 5) rfl (fun x1 => ?_)
  refine x_iconst 3 dX3_punch_5 rfl (n := 6) rfl ?_
  refine x_icmp_ne dX3_punch_6 (t := 13) (by decide) (n := 9) rfl (fun _ => ?_) (fun _ => ?_)
  · refine x_iconst 0 dX3_punch_13 rfl (n := 14) rfl ?_
    exact f_X3_punch_14_ok hO a0 a1 0 p0
  · refine x_iconst 1 dX3_punch_9 rfl (n := 10) rfl ?_
    refine x_goto dX3_punch_10 (n := 14) (by decide) ?_
    exact f_X3_punch_14_ok hO a0 a1 1 p0
abbrev cX3_runner : ByteArray := prog_10_method_15_code
def yX3_runner : MethodName := ⟨RX3, "runner", "()V"⟩
def dkwX3_runner_7 : List UInt8 := [184, 0, 142, 182, 0, 157, 87, 42, 180, 0, 18, 180, 0, 190, 45, 185, 0, 148, 2, 0, 87, 177]
abbrev dktX3_runner_7 : List UInt8 := dkwX3_runner_7 ++ []
def dkwX3_runner_6 : List UInt8 := [182, 0, 151, 153, 0, 15, 42, 182, 0, 105, 42, 45, 182, 0, 202, 167, 255, 238, 42, 180, 0, 25, 43, 2]
abbrev dktX3_runner_6 : List UInt8 := dkwX3_runner_6 ++ dktX3_runner_7
def dkwX3_runner_5 : List UInt8 := [181, 0, 182, 42, 16, 58, 182, 0, 151, 153, 0, 33, 42, 182, 0, 105, 42, 45, 182, 0, 202, 42, 16, 44]
abbrev dktX3_runner_5 : List UInt8 := dkwX3_runner_5 ++ dktX3_runner_6
def dkwX3_runner_4 : List UInt8 := [17, 39, 14, 182, 0, 185, 181, 0, 170, 45, 42, 45, 180, 0, 170, 4, 96, 17, 39, 15, 182, 0, 185]
abbrev dktX3_runner_4 : List UInt8 := dkwX3_runner_4 ++ dktX3_runner_5
def dkwX3_runner_3 : List UInt8 := [182, 0, 76, 42, 182, 0, 105, 187, 0, 162, 89, 43, 44, 182, 0, 196, 183, 0, 199, 78, 45, 42, 3]
abbrev dktX3_runner_3 : List UInt8 := dkwX3_runner_3 ++ dktX3_runner_4
def dkwX3_runner_2 : List UInt8 := [192, 0, 143, 77, 42, 44, 198, 0, 14, 44, 182, 0, 196, 155, 0, 7, 4, 167, 0, 4, 3, 6]
abbrev dktX3_runner_2 : List UInt8 := dkwX3_runner_2 ++ dktX3_runner_3
def dkwX3_runner_1 : List UInt8 := [182, 0, 76, 42, 182, 0, 105, 42, 182, 0, 130, 76, 42, 180, 0, 25, 42, 182, 0, 108, 182, 0, 193]
abbrev dktX3_runner_1 : List UInt8 := dkwX3_runner_1 ++ dktX3_runner_2
def dkwX3_runner_0 : List UInt8 := [42, 42, 180, 0, 18, 180, 0, 190, 185, 0, 127, 1, 0, 16, 10, 162, 0, 7, 4, 167, 0, 4, 3, 7]
abbrev dktX3_runner_0 : List UInt8 := dkwX3_runner_0 ++ dktX3_runner_1
theorem dksX3_runner_0 : cX3_runner.data.toList.drop 0 = dktX3_runner_0 := by decide +kernel
theorem dksX3_runner_1 : cX3_runner.data.toList.drop 24 = dktX3_runner_1 := dk_seg dksX3_runner_0 24 rfl rfl
theorem dksX3_runner_2 : cX3_runner.data.toList.drop 47 = dktX3_runner_2 := dk_seg dksX3_runner_1 23 rfl rfl
theorem dksX3_runner_3 : cX3_runner.data.toList.drop 69 = dktX3_runner_3 := dk_seg dksX3_runner_2 22 rfl rfl
theorem dksX3_runner_4 : cX3_runner.data.toList.drop 92 = dktX3_runner_4 := dk_seg dksX3_runner_3 23 rfl rfl
theorem dksX3_runner_5 : cX3_runner.data.toList.drop 115 = dktX3_runner_5 := dk_seg dksX3_runner_4 23 rfl rfl
theorem dksX3_runner_6 : cX3_runner.data.toList.drop 139 = dktX3_runner_6 := dk_seg dksX3_runner_5 24 rfl rfl
theorem dksX3_runner_7 : cX3_runner.data.toList.drop 163 = dktX3_runner_7 := dk_seg dksX3_runner_6 24 rfl rfl
theorem dX3_runner_0 : decode cX3_runner 0 = .ok (.aload_n 0, 1) := dk_42 (dk_at dksX3_runner_0 0 rfl rfl)
theorem dX3_runner_1 : decode cX3_runner 1 = .ok (.aload_n 0, 1) := dk_42 (dk_at dksX3_runner_0 1 rfl rfl)
theorem dX3_runner_2 : decode cX3_runner 2 = .ok (.getfield 18, 3) := dk_180 0 18 (dk_at dksX3_runner_0 2 rfl rfl)
theorem dX3_runner_5 : decode cX3_runner 5 = .ok (.getfield 190, 3) := dk_180 0 190 (dk_at dksX3_runner_0 5 rfl rfl)
theorem dX3_runner_8 : decode cX3_runner 8 = .ok (.invokeinterface 127 1, 5) := by decide +kernel
theorem dX3_runner_13 : decode cX3_runner 13 = .ok (.bipush 10, 2) := dk_16 10 (dk_at dksX3_runner_0 13 rfl rfl)
theorem dX3_runner_15 : decode cX3_runner 15 = .ok (.if_icmp .ge 7, 3) := dk_162 0 7 (dk_at dksX3_runner_0 15 rfl rfl)
theorem dX3_runner_18 : decode cX3_runner 18 = .ok (.iconst 1, 1) := dk_4 (dk_at dksX3_runner_0 18 rfl rfl)
theorem dX3_runner_19 : decode cX3_runner 19 = .ok (.goto 4, 3) := dk_167 0 4 (dk_at dksX3_runner_0 19 rfl rfl)
theorem dX3_runner_22 : decode cX3_runner 22 = .ok (.iconst 0, 1) := dk_3 (dk_at dksX3_runner_0 22 rfl rfl)
theorem dX3_runner_23 : decode cX3_runner 23 = .ok (.iconst 4, 1) := dk_7 (dk_at dksX3_runner_0 23 rfl rfl)
theorem dX3_runner_24 : decode cX3_runner 24 = .ok (.invokevirtual 76, 3) := dk_182 0 76 (dk_at dksX3_runner_1 0 rfl rfl)
theorem dX3_runner_27 : decode cX3_runner 27 = .ok (.aload_n 0, 1) := dk_42 (dk_at dksX3_runner_1 3 rfl rfl)
theorem dX3_runner_28 : decode cX3_runner 28 = .ok (.invokevirtual 105, 3) := dk_182 0 105 (dk_at dksX3_runner_1 4 rfl rfl)
theorem dX3_runner_31 : decode cX3_runner 31 = .ok (.aload_n 0, 1) := dk_42 (dk_at dksX3_runner_1 7 rfl rfl)
theorem dX3_runner_32 : decode cX3_runner 32 = .ok (.invokevirtual 130, 3) := dk_182 0 130 (dk_at dksX3_runner_1 8 rfl rfl)
theorem dX3_runner_35 : decode cX3_runner 35 = .ok (.astore_n 1, 1) := dk_76 (dk_at dksX3_runner_1 11 rfl rfl)
theorem dX3_runner_36 : decode cX3_runner 36 = .ok (.aload_n 0, 1) := dk_42 (dk_at dksX3_runner_1 12 rfl rfl)
theorem dX3_runner_37 : decode cX3_runner 37 = .ok (.getfield 25, 3) := dk_180 0 25 (dk_at dksX3_runner_1 13 rfl rfl)
theorem dX3_runner_40 : decode cX3_runner 40 = .ok (.aload_n 0, 1) := dk_42 (dk_at dksX3_runner_1 16 rfl rfl)
theorem dX3_runner_41 : decode cX3_runner 41 = .ok (.invokevirtual 108, 3) := dk_182 0 108 (dk_at dksX3_runner_1 17 rfl rfl)
theorem dX3_runner_44 : decode cX3_runner 44 = .ok (.invokevirtual 193, 3) := dk_182 0 193 (dk_at dksX3_runner_1 20 rfl rfl)
theorem dX3_runner_47 : decode cX3_runner 47 = .ok (.checkcast 143, 3) := dk_192 0 143 (dk_at dksX3_runner_2 0 rfl rfl)
theorem dX3_runner_50 : decode cX3_runner 50 = .ok (.astore_n 2, 1) := dk_77 (dk_at dksX3_runner_2 3 rfl rfl)
theorem dX3_runner_51 : decode cX3_runner 51 = .ok (.aload_n 0, 1) := dk_42 (dk_at dksX3_runner_2 4 rfl rfl)
theorem dX3_runner_52 : decode cX3_runner 52 = .ok (.aload_n 2, 1) := dk_44 (dk_at dksX3_runner_2 5 rfl rfl)
theorem dX3_runner_53 : decode cX3_runner 53 = .ok (.ifnull 14, 3) := dk_198 0 14 (dk_at dksX3_runner_2 6 rfl rfl)
theorem dX3_runner_56 : decode cX3_runner 56 = .ok (.aload_n 2, 1) := dk_44 (dk_at dksX3_runner_2 9 rfl rfl)
theorem dX3_runner_57 : decode cX3_runner 57 = .ok (.invokevirtual 196, 3) := dk_182 0 196 (dk_at dksX3_runner_2 10 rfl rfl)
theorem dX3_runner_60 : decode cX3_runner 60 = .ok (.ifCond .lt 7, 3) := dk_155 0 7 (dk_at dksX3_runner_2 13 rfl rfl)
theorem dX3_runner_63 : decode cX3_runner 63 = .ok (.iconst 1, 1) := dk_4 (dk_at dksX3_runner_2 16 rfl rfl)
theorem dX3_runner_64 : decode cX3_runner 64 = .ok (.goto 4, 3) := dk_167 0 4 (dk_at dksX3_runner_2 17 rfl rfl)
theorem dX3_runner_67 : decode cX3_runner 67 = .ok (.iconst 0, 1) := dk_3 (dk_at dksX3_runner_2 20 rfl rfl)
theorem dX3_runner_68 : decode cX3_runner 68 = .ok (.iconst 3, 1) := dk_6 (dk_at dksX3_runner_2 21 rfl rfl)
theorem dX3_runner_69 : decode cX3_runner 69 = .ok (.invokevirtual 76, 3) := dk_182 0 76 (dk_at dksX3_runner_3 0 rfl rfl)
theorem dX3_runner_72 : decode cX3_runner 72 = .ok (.aload_n 0, 1) := dk_42 (dk_at dksX3_runner_3 3 rfl rfl)
theorem dX3_runner_73 : decode cX3_runner 73 = .ok (.invokevirtual 105, 3) := dk_182 0 105 (dk_at dksX3_runner_3 4 rfl rfl)
theorem dX3_runner_76 : decode cX3_runner 76 = .ok (.new 162, 3) := dk_187 0 162 (dk_at dksX3_runner_3 7 rfl rfl)
theorem dX3_runner_79 : decode cX3_runner 79 = .ok (.dup, 1) := dk_89 (dk_at dksX3_runner_3 10 rfl rfl)
theorem dX3_runner_80 : decode cX3_runner 80 = .ok (.aload_n 1, 1) := dk_43 (dk_at dksX3_runner_3 11 rfl rfl)
theorem dX3_runner_81 : decode cX3_runner 81 = .ok (.aload_n 2, 1) := dk_44 (dk_at dksX3_runner_3 12 rfl rfl)
theorem dX3_runner_82 : decode cX3_runner 82 = .ok (.invokevirtual 196, 3) := dk_182 0 196 (dk_at dksX3_runner_3 13 rfl rfl)
theorem dX3_runner_85 : decode cX3_runner 85 = .ok (.invokespecial 199, 3) := dk_183 0 199 (dk_at dksX3_runner_3 16 rfl rfl)
theorem dX3_runner_88 : decode cX3_runner 88 = .ok (.astore_n 3, 1) := dk_78 (dk_at dksX3_runner_3 19 rfl rfl)
theorem dX3_runner_89 : decode cX3_runner 89 = .ok (.aload_n 3, 1) := dk_45 (dk_at dksX3_runner_3 20 rfl rfl)
theorem dX3_runner_90 : decode cX3_runner 90 = .ok (.aload_n 0, 1) := dk_42 (dk_at dksX3_runner_3 21 rfl rfl)
theorem dX3_runner_91 : decode cX3_runner 91 = .ok (.iconst 0, 1) := dk_3 (dk_at dksX3_runner_3 22 rfl rfl)
theorem dX3_runner_92 : decode cX3_runner 92 = .ok (.sipush 9998, 3) := dk_17 39 14 (dk_at dksX3_runner_4 0 rfl rfl)
theorem dX3_runner_95 : decode cX3_runner 95 = .ok (.invokevirtual 185, 3) := dk_182 0 185 (dk_at dksX3_runner_4 3 rfl rfl)
theorem dX3_runner_98 : decode cX3_runner 98 = .ok (.putfield 170, 3) := dk_181 0 170 (dk_at dksX3_runner_4 6 rfl rfl)
theorem dX3_runner_101 : decode cX3_runner 101 = .ok (.aload_n 3, 1) := dk_45 (dk_at dksX3_runner_4 9 rfl rfl)
theorem dX3_runner_102 : decode cX3_runner 102 = .ok (.aload_n 0, 1) := dk_42 (dk_at dksX3_runner_4 10 rfl rfl)
theorem dX3_runner_103 : decode cX3_runner 103 = .ok (.aload_n 3, 1) := dk_45 (dk_at dksX3_runner_4 11 rfl rfl)
theorem dX3_runner_104 : decode cX3_runner 104 = .ok (.getfield 170, 3) := dk_180 0 170 (dk_at dksX3_runner_4 12 rfl rfl)
theorem dX3_runner_107 : decode cX3_runner 107 = .ok (.iconst 1, 1) := dk_4 (dk_at dksX3_runner_4 15 rfl rfl)
theorem dX3_runner_108 : decode cX3_runner 108 = .ok (.iadd, 1) := dk_96 (dk_at dksX3_runner_4 16 rfl rfl)
theorem dX3_runner_109 : decode cX3_runner 109 = .ok (.sipush 9999, 3) := dk_17 39 15 (dk_at dksX3_runner_4 17 rfl rfl)
theorem dX3_runner_112 : decode cX3_runner 112 = .ok (.invokevirtual 185, 3) := dk_182 0 185 (dk_at dksX3_runner_4 20 rfl rfl)
theorem dX3_runner_115 : decode cX3_runner 115 = .ok (.putfield 182, 3) := dk_181 0 182 (dk_at dksX3_runner_5 0 rfl rfl)
theorem dX3_runner_118 : decode cX3_runner 118 = .ok (.aload_n 0, 1) := dk_42 (dk_at dksX3_runner_5 3 rfl rfl)
theorem dX3_runner_119 : decode cX3_runner 119 = .ok (.bipush 58, 2) := dk_16 58 (dk_at dksX3_runner_5 4 rfl rfl)
theorem dX3_runner_121 : decode cX3_runner 121 = .ok (.invokevirtual 151, 3) := dk_182 0 151 (dk_at dksX3_runner_5 6 rfl rfl)
theorem dX3_runner_124 : decode cX3_runner 124 = .ok (.ifCond .eq 33, 3) := dk_153 0 33 (dk_at dksX3_runner_5 9 rfl rfl)
theorem dX3_runner_127 : decode cX3_runner 127 = .ok (.aload_n 0, 1) := dk_42 (dk_at dksX3_runner_5 12 rfl rfl)
theorem dX3_runner_128 : decode cX3_runner 128 = .ok (.invokevirtual 105, 3) := dk_182 0 105 (dk_at dksX3_runner_5 13 rfl rfl)
theorem dX3_runner_131 : decode cX3_runner 131 = .ok (.aload_n 0, 1) := dk_42 (dk_at dksX3_runner_5 16 rfl rfl)
theorem dX3_runner_132 : decode cX3_runner 132 = .ok (.aload_n 3, 1) := dk_45 (dk_at dksX3_runner_5 17 rfl rfl)
theorem dX3_runner_133 : decode cX3_runner 133 = .ok (.invokevirtual 202, 3) := dk_182 0 202 (dk_at dksX3_runner_5 18 rfl rfl)
theorem dX3_runner_136 : decode cX3_runner 136 = .ok (.aload_n 0, 1) := dk_42 (dk_at dksX3_runner_5 21 rfl rfl)
theorem dX3_runner_137 : decode cX3_runner 137 = .ok (.bipush 44, 2) := dk_16 44 (dk_at dksX3_runner_5 22 rfl rfl)
theorem dX3_runner_139 : decode cX3_runner 139 = .ok (.invokevirtual 151, 3) := dk_182 0 151 (dk_at dksX3_runner_6 0 rfl rfl)
theorem dX3_runner_142 : decode cX3_runner 142 = .ok (.ifCond .eq 15, 3) := dk_153 0 15 (dk_at dksX3_runner_6 3 rfl rfl)
theorem dX3_runner_145 : decode cX3_runner 145 = .ok (.aload_n 0, 1) := dk_42 (dk_at dksX3_runner_6 6 rfl rfl)
theorem dX3_runner_146 : decode cX3_runner 146 = .ok (.invokevirtual 105, 3) := dk_182 0 105 (dk_at dksX3_runner_6 7 rfl rfl)
theorem dX3_runner_149 : decode cX3_runner 149 = .ok (.aload_n 0, 1) := dk_42 (dk_at dksX3_runner_6 10 rfl rfl)
theorem dX3_runner_150 : decode cX3_runner 150 = .ok (.aload_n 3, 1) := dk_45 (dk_at dksX3_runner_6 11 rfl rfl)
theorem dX3_runner_151 : decode cX3_runner 151 = .ok (.invokevirtual 202, 3) := dk_182 0 202 (dk_at dksX3_runner_6 12 rfl rfl)
theorem dX3_runner_154 : decode cX3_runner 154 = .ok (.goto (-18), 3) := dk_167 255 238 (dk_at dksX3_runner_6 15 rfl rfl)
theorem dX3_runner_157 : decode cX3_runner 157 = .ok (.aload_n 0, 1) := dk_42 (dk_at dksX3_runner_6 18 rfl rfl)
theorem dX3_runner_158 : decode cX3_runner 158 = .ok (.getfield 25, 3) := dk_180 0 25 (dk_at dksX3_runner_6 19 rfl rfl)
theorem dX3_runner_161 : decode cX3_runner 161 = .ok (.aload_n 1, 1) := dk_43 (dk_at dksX3_runner_6 22 rfl rfl)
theorem dX3_runner_162 : decode cX3_runner 162 = .ok (.iconst (-1), 1) := dk_2 (dk_at dksX3_runner_6 23 rfl rfl)
theorem dX3_runner_163 : decode cX3_runner 163 = .ok (.invokestatic 142, 3) := dk_184 0 142 (dk_at dksX3_runner_7 0 rfl rfl)
theorem dX3_runner_166 : decode cX3_runner 166 = .ok (.invokevirtual 157, 3) := dk_182 0 157 (dk_at dksX3_runner_7 3 rfl rfl)
theorem dX3_runner_169 : decode cX3_runner 169 = .ok (.pop, 1) := dk_87 (dk_at dksX3_runner_7 6 rfl rfl)
theorem dX3_runner_170 : decode cX3_runner 170 = .ok (.aload_n 0, 1) := dk_42 (dk_at dksX3_runner_7 7 rfl rfl)
theorem dX3_runner_171 : decode cX3_runner 171 = .ok (.getfield 18, 3) := dk_180 0 18 (dk_at dksX3_runner_7 8 rfl rfl)
theorem dX3_runner_174 : decode cX3_runner 174 = .ok (.getfield 190, 3) := dk_180 0 190 (dk_at dksX3_runner_7 11 rfl rfl)
theorem dX3_runner_177 : decode cX3_runner 177 = .ok (.aload_n 3, 1) := dk_45 (dk_at dksX3_runner_7 14 rfl rfl)
theorem dX3_runner_178 : decode cX3_runner 178 = .ok (.invokeinterface 148 2, 5) := by decide +kernel
theorem dX3_runner_183 : decode cX3_runner 183 = .ok (.pop, 1) := dk_87 (dk_at dksX3_runner_7 20 rfl rfl)
theorem dX3_runner_184 : decode cX3_runner 184 = .ok (.return_, 1) := dk_177 (dk_at dksX3_runner_7 21 rfl rfl)
theorem md_X3_runner : xMd yX3_runner cX3_runner 4 (Option.none : Option Jvm.ClassFile.FieldType) 0 := ⟨q1388, q127, by decide, by decide +kernel, by decide +kernel, by decide +kernel⟩
def f_X3_runner_157 (a0 : Nat)  (v1 : Option Nat) (v3 : Nat) (p0 : PH) : Option (xO × PH) :=
  (xgR p0 a0 2 2 fun x35 =>
  (xcR (f_J19_valueOf p0 (-1)) fun x37 p36 =>
  (xnul x35 none fun b38 =>
  (xcR (f_J5_put p36 b38 v1 x37) fun x40 p39 =>
  (xgR p39 a0 2 1 fun x41 =>
  (xnul x41 none fun b42 =>
  (xgR p39 b42 3 1 fun x43 =>
  (xnul x43 none fun b44 =>
  (xcI (f_J3_add p39 b44 (some v3)) fun x46 p45 =>
  (rV p45))))))))))
def f_X3_runner_136F (a0 : Nat)  (k136 : Option Nat × Nat × PH → Option (xO × PH)) (p : Option Nat × Nat × PH) : Option (xO × PH) := match p with
  | (v1, v3, p0) => (xcI (f_X3_isSign p0 a0 44) fun x50 p49 =>
  (if x50 = 0 then
  (f_X3_runner_157 a0 v1 v3 p49) else
  (xcV (f_X3_go p49 a0 ) fun p51 =>
  (xtV (f_X3_punch p51 a0 (some v3)) (fun p52 =>
  (k136 (v1, v3, p52))) rT))))
def f_X3_runner_68 (a0 : Nat)  (v1 : Option Nat) (v2 : Option Nat) (w1 : Int32) (p0 : PH) : Option (xO × PH) :=
  (xtV (f_X3_need p0 a0 w1 3) (fun p18 =>
  (xcV (f_X3_go p18 a0 ) fun p19 =>
  (xnew p19 6 [.null, .int 0, .int 0, .int 0, .null] fun b20 p21 =>
  (xnul v2 none fun b22 =>
  (xcI (f_J19_intValue p21 b22 ) fun x24 p23 =>
  (xcV (f_X7_init p23 b20 v1 x24) fun p25 =>
  (xtI (f_X3_whole p25 a0 0 9998) (fun x27 p26 =>
  (xpF p26 b20 6 2 (.int x27) fun p28 =>
  (xgI p28 b20 6 2 fun x29 =>
  (xtI (f_X3_whole p28 a0 (x29 + 1) 9999) (fun x31 p30 =>
  (xpF p30 b20 6 3 (.int x31) fun p32 =>
  (xcI (f_X3_isSign p32 a0 58) fun x34 p33 =>
  (if x34 = 0 then
  (f_X3_runner_157 a0 v1 b20 p33) else
  (xcV (f_X3_go p33 a0 ) fun p47 =>
  (xtV (f_X3_punch p47 a0 (some b20)) (fun p48 =>
  (lp (f_X3_runner_136F a0) FU (v1, b20, p48))) rT)))))) rT)))) rT))))))) rT)
def f_X3_runner_67 (a0 : Nat)  (v1 : Option Nat) (v2 : Option Nat) (p0 : PH) : Option (xO × PH) :=
  (f_X3_runner_68 a0 v1 v2 0 p0)
def f_X3_runner_23 (a0 : Nat)  (w1 : Int32) (p0 : PH) : Option (xO × PH) :=
  (xtV (f_X3_need p0 a0 w1 4) (fun p7 =>
  (xcV (f_X3_go p7 a0 ) fun p8 =>
  (xtR (f_X3_newName p8 a0 ) (fun x10 p9 =>
  (xgR p9 a0 2 2 fun x11 =>
  (xtR (f_X3_name p9 a0 ) (fun x13 p12 =>
  (xnul x11 none fun b14 =>
  (xcR (f_J5_get p12 b14 x13) fun x16 p15 =>
  (xcst p15 (x16) [18]
  (xnul x16 (f_X3_runner_67 a0 x10 none p15) fun b17 =>
  (xcI (f_J19_intValue p15 b17 ) fun x54 p53 =>
  (if x54 < 0 then
  (f_X3_runner_67 a0 x10 ((some b17)) p53) else
  (f_X3_runner_68 a0 x10 ((some b17)) 1 p53)))))))) rT))) rT))) rT)
def f_X3_runner (p0 : PH) (a0 : Nat) : Option (xO × PH) :=
  (xcl1 p0 a0 2 (xgR p0 a0 2 1 fun x1 =>
  (xnul x1 none fun b2 =>
  (xgR p0 b2 3 1 fun x3 =>
  (xnul x3 none fun b4 =>
  (xcI (f_J3_size p0 b4 ) fun x6 p5 =>
  (if 10 ≤ x6 then
  (f_X3_runner_23 a0 0 p5) else
  (f_X3_runner_23 a0 1 p5))))))))
theorem rc_X3_runner {p0 : PH} {a0 : Nat} : ∀ z, f_X3_runner p0 a0 = some z → xco p0 a0 = some 2 := fun z h => xcl1_some h
theorem f_X3_runner_157_ok {G : xG} (hO : xOK G) (a0 : Nat)  (v1 : Option Nat) (v3 : Nat) (p0 : PH) : X G "ForestLegs$Reader" "runner" cX3_runner 4 (Option.none : Option Jvm.ClassFile.FieldType) 9 157 [(0, .ref a0), (1, va_rf v1), (3, .ref v3)] [] p0 (f_X3_runner_157 a0 v1 v3 p0) := by
  unfold f_X3_runner_157
  refine x_aload_nr 0 dX3_runner_157 rfl rfl (n := 158) rfl ?_
  refine x_getR fl_X3_25 dX3_runner_158 (n := 161) rfl (fun x35 => ?_)
  refine x_aload_n 1 dX3_runner_161 rfl rfl (n := 162) rfl ?_
  refine x_iconst (-1) dX3_runner_162 rfl (n := 163) rfl ?_
  refine x_callS_R [.int (-1)] [va_rf v1, va_rf x35] (f_J19_valueOf_ok hO p0 (-1)) md_J19_valueOf q1212 q1213 dX3_runner_163 rfl rfl (by decide) (by simp only [List.map, xcat]; exact Nat.le_of_ble_eq_true rfl) (n := 166) rfl (fun x37 p36 => ?_)
  refine x_sm (fun b38 e => ?_)
  subst e
  refine x_callV_R [va_rf v1, va_rf x37] [] (f_J5_put_ok hO p36 b38 v1 x37) rc_J5_put md_J5_put rfl q1306 q1307 q1308 dX3_runner_166 rfl rfl (by decide) (Nat.le_of_ble_eq_true rfl) (n := 169) rfl (fun x40 p39 => ?_)
  refine x_pop dX3_runner_169 (xcat _) (n := 170) rfl ?_
  refine x_aload_nr 0 dX3_runner_170 rfl rfl (n := 171) rfl ?_
  refine x_getR fl_X3_18 dX3_runner_171 (n := 174) rfl (fun x41 => ?_)
  refine x_sm (fun b42 e => ?_)
  subst e
  refine x_getR fl_X3_190 dX3_runner_174 (n := 177) rfl (fun x43 => ?_)
  refine x_aload_nr 2 dX3_runner_177 rfl rfl (n := 178) rfl ?_
  refine x_sm (fun b44 e => ?_)
  subst e
  refine x_callF_I [.ref v3] [] (f_J3_add_ok hO p39 b44 (some v3)) rc_J3_add md_J3_add rfl q1232 fc_java_util_ArrayList_java_util_List_add_1_Ljaval dX3_runner_178 rfl rfl (by decide) (Nat.le_of_ble_eq_true rfl) (n := 183) rfl (fun x46 p45 => ?_)
  refine x_pop dX3_runner_183 rfl (n := 184) rfl ?_
  exact x_return dX3_runner_184
theorem f_X3_runner_136F_ok {G : xG} (hO : xOK G) (a0 : Nat)  {k136 : Option Nat × Nat × PH → Option (xO × PH)} (hk136 : ∀ (v1 : Option Nat) (v3 : Nat) (p0 : PH), X G "ForestLegs$Reader" "runner" cX3_runner 4 (Option.none : Option Jvm.ClassFile.FieldType) 9 136 [(0, .ref a0), (1, va_rf v1), (3, .ref v3)] [] p0 (k136 (v1, v3, p0))) (v1 : Option Nat) (v3 : Nat) (p0 : PH) : X G "ForestLegs$Reader" "runner" cX3_runner 4 (Option.none : Option Jvm.ClassFile.FieldType) 9 136 [(0, .ref a0), (1, va_rf v1), (3, .ref v3)] [] p0 (f_X3_runner_136F a0 k136 (v1, v3, p0)) := by
  unfold f_X3_runner_136F
  refine x_aload_nr 0 dX3_runner_136 rfl rfl (n := 137) rfl ?_
  refine x_bipush 44 dX3_runner_137 rfl (n := 139) rfl ?_
  refine x_callV_I [.int 44] [] (f_X3_isSign_ok hO p0 a0 44) rc_X3_isSign md_X3_isSign rfl q1302 q1304 qs16 dX3_runner_139 rfl rfl (by decide) (Nat.le_of_ble_eq_true rfl) (n := 142) rfl (fun x50 p49 => ?_)
  refine x_if_eq dX3_runner_142 (t := 157) (by decide) (n := 145) rfl (fun _ => ?_) (fun _ => ?_)
  · exact f_X3_runner_157_ok hO a0 v1 v3 p49
  · refine x_aload_nr 0 dX3_runner_145 rfl rfl (n := 146) rfl ?_
    refine x_callV_V [] [] (f_X3_go_ok hO p49 a0 ) rc_X3_go md_X3_go rfl q387 q389 qs1 dX3_runner_146 rfl rfl (by decide) (Nat.le_of_ble_eq_true rfl) (n := 149) rfl (fun p51 => ?_)
    refine x_aload_nr 0 dX3_runner_149 rfl rfl (n := 150) rfl ?_
    refine x_aload_nr 2 dX3_runner_150 rfl rfl (n := 151) rfl ?_
    refine x_callVT_V [.ref v3] [] (f_X3_punch_ok hO p51 a0 (some v3)) rc_X3_punch md_X3_punch rfl q1436 q1438 qs25 dX3_runner_151 rfl rfl (by decide) (Nat.le_of_ble_eq_true rfl) (n := 154) rfl (fun p52 => ?_) (fun q P1 => xt_out (by decide +kernel))
    refine x_goto dX3_runner_154 (n := 136) (by decide) ?_
    exact hk136 v1 v3 p52
theorem f_X3_runner_136_lp {G : xG} (hO : xOK G) (a0 : Nat)  (n : Nat) (v1 : Option Nat) (v3 : Nat) (p0 : PH) : X G "ForestLegs$Reader" "runner" cX3_runner 4 (Option.none : Option Jvm.ClassFile.FieldType) 9 136 [(0, .ref a0), (1, va_rf v1), (3, .ref v3)] [] p0 (lp (f_X3_runner_136F a0) n (v1, v3, p0)) :=
  lp_ok (W := fun p K => X G "ForestLegs$Reader" "runner" cX3_runner 4 (Option.none : Option Jvm.ClassFile.FieldType) 9 136 [(0, .ref a0), (1, va_rf p.1), (3, .ref p.2.1)] [] p.2.2 K) (fun _ => x_no) (fun k hk => fun (v1, v3, p0) => f_X3_runner_136F_ok hO a0 (fun v1 v3 p0 => hk (v1, v3, p0)) v1 v3 p0) n (v1, v3, p0)
theorem f_X3_runner_68_ok {G : xG} (hO : xOK G) (a0 : Nat)  (v1 : Option Nat) (v2 : Option Nat) (w1 : Int32) (p0 : PH) : X G "ForestLegs$Reader" "runner" cX3_runner 4 (Option.none : Option Jvm.ClassFile.FieldType) 9 68 [(0, .ref a0), (1, va_rf v1), (2, va_rf v2)] [.int w1, .ref a0] p0 (f_X3_runner_68 a0 v1 v2 w1 p0) := by
  unfold f_X3_runner_68
  refine x_iconst 3 dX3_runner_68 rfl (n := 69) rfl ?_
  refine x_callVT_V [.int w1, .int 3] [] (f_X3_need_ok hO p0 a0 w1 3) rc_X3_need md_X3_need rfl q499 q501 qs7 dX3_runner_69 rfl rfl (by decide) (Nat.le_of_ble_eq_true rfl) (n := 72) rfl (fun p18 => ?_) (fun q P1 => xt_out (by decide +kernel))
  refine x_aload_nr 0 dX3_runner_72 rfl rfl (n := 73) rfl ?_
  refine x_callV_V [] [] (f_X3_go_ok hO p18 a0 ) rc_X3_go md_X3_go rfl q387 q389 qs1 dX3_runner_73 rfl rfl (by decide) (Nat.le_of_ble_eq_true rfl) (n := 76) rfl (fun p19 => ?_)
  refine x_new cl_6 (by decide) q1395 q1396 q156 rfl dX3_runner_76 (n := 79) rfl (fun b20 p21 => ?_)
  refine x_dup dX3_runner_79 rfl (n := 80) rfl ?_
  refine x_aload_n 1 dX3_runner_80 rfl rfl (n := 81) rfl ?_
  refine x_aload_n 2 dX3_runner_81 rfl rfl (n := 82) rfl ?_
  refine x_sm (fun b22 e => ?_)
  subst e
  refine x_callV_I [] [va_rf v1, .ref b20, .ref b20] (f_J19_intValue_ok hO p21 b22 ) rc_J19_intValue md_J19_intValue rfl q1394 q941 q942 dX3_runner_82 rfl rfl (by decide) (by simp only [List.map, xcat]; exact Nat.le_of_ble_eq_true rfl) (n := 85) rfl (fun x24 p23 => ?_)
  refine x_callI_V [va_rf v1, .int x24] [.ref b20] (f_X7_init_ok hO p23 b20 v1 x24) md_X7_init rfl q1397 q1398 dX3_runner_85 rfl rfl (by decide) (Nat.le_of_ble_eq_true rfl) (n := 88) rfl (fun p25 => ?_)
  refine x_astore_nr [(3, .ref b20), (0, .ref a0), (1, va_rf v1), (2, .ref b22)] dX3_runner_88 rfl (by decide) rfl (n := 89) rfl ?_
  refine x_aload_nr 0 dX3_runner_89 rfl rfl (n := 90) rfl ?_
  refine x_aload_nr 1 dX3_runner_90 rfl rfl (n := 91) rfl ?_
  refine x_iconst 0 dX3_runner_91 rfl (n := 92) rfl ?_
  refine x_sipush 9998 dX3_runner_92 rfl (n := 95) rfl ?_
  refine x_callVT_I [.int 0, .int 9998] [.ref b20] (f_X3_whole_ok hO p25 a0 0 9998) rc_X3_whole md_X3_whole rfl q1432 q1434 qs24 dX3_runner_95 rfl rfl (by decide) (Nat.le_of_ble_eq_true rfl) (n := 98) rfl (fun x27 p26 => ?_) (fun q P1 => xt_out (by decide +kernel))
  refine x_pF (pl_X3_170 _ _ ⟨rfl, rfl⟩) dX3_runner_98 (n := 101) rfl (fun p28 => ?_)
  refine x_aload_nr 0 dX3_runner_101 rfl rfl (n := 102) rfl ?_
  refine x_aload_nr 1 dX3_runner_102 rfl rfl (n := 103) rfl ?_
  refine x_aload_nr 0 dX3_runner_103 rfl rfl (n := 104) rfl ?_
  refine x_getI fl_X3_170 dX3_runner_104 (n := 107) rfl (fun x29 => ?_)
  refine x_iconst 1 dX3_runner_107 rfl (n := 108) rfl ?_
  refine x_iadd dX3_runner_108 (n := 109) rfl ?_
  refine x_sipush 9999 dX3_runner_109 rfl (n := 112) rfl ?_
  refine x_callVT_I [.int (x29 + 1), .int 9999] [.ref b20] (f_X3_whole_ok hO p28 a0 (x29 + 1) 9999) rc_X3_whole md_X3_whole rfl q1432 q1434 qs24 dX3_runner_112 rfl rfl (by decide) (Nat.le_of_ble_eq_true rfl) (n := 115) rfl (fun x31 p30 => ?_) (fun q P1 => xt_out (by decide +kernel))
  refine x_pF (pl_X3_182 _ _ ⟨rfl, rfl⟩) dX3_runner_115 (n := 118) rfl (fun p32 => ?_)
  refine x_aload_nr 1 dX3_runner_118 rfl rfl (n := 119) rfl ?_
  refine x_bipush 58 dX3_runner_119 rfl (n := 121) rfl ?_
  refine x_callV_I [.int 58] [] (f_X3_isSign_ok hO p32 a0 58) rc_X3_isSign md_X3_isSign rfl q1302 q1304 qs16 dX3_runner_121 rfl rfl (by decide) (Nat.le_of_ble_eq_true rfl) (n := 124) rfl (fun x34 p33 => ?_)
  refine x_if_eq dX3_runner_124 (t := 157) (by decide) (n := 127) rfl (fun _ => ?_) (fun _ => ?_)
  · refine x_sub [1, 2, 0] [(0, .ref a0), (1, va_rf v1), (3, .ref b20)] rfl ?_
    exact f_X3_runner_157_ok hO a0 v1 b20 p33
  · refine x_aload_nr 1 dX3_runner_127 rfl rfl (n := 128) rfl ?_
    refine x_callV_V [] [] (f_X3_go_ok hO p33 a0 ) rc_X3_go md_X3_go rfl q387 q389 qs1 dX3_runner_128 rfl rfl (by decide) (Nat.le_of_ble_eq_true rfl) (n := 131) rfl (fun p47 => ?_)
    refine x_aload_nr 1 dX3_runner_131 rfl rfl (n := 132) rfl ?_
    refine x_aload_nr 0 dX3_runner_132 rfl rfl (n := 133) rfl ?_
    refine x_callVT_V [.ref b20] [] (f_X3_punch_ok hO p47 a0 (some b20)) rc_X3_punch md_X3_punch rfl q1436 q1438 qs25 dX3_runner_133 rfl rfl (by decide) (Nat.le_of_ble_eq_true rfl) (n := 136) rfl (fun p48 => ?_) (fun q P1 => xt_out (by decide +kernel))
    refine x_sub [1, 2, 0] [(0, .ref a0), (1, va_rf v1), (3, .ref b20)] rfl ?_
    exact f_X3_runner_136_lp hO a0 FU v1 b20 p48
theorem f_X3_runner_67_ok {G : xG} (hO : xOK G) (a0 : Nat)  (v1 : Option Nat) (v2 : Option Nat) (p0 : PH) : X G "ForestLegs$Reader" "runner" cX3_runner 4 (Option.none : Option Jvm.ClassFile.FieldType) 9 67 [(0, .ref a0), (1, va_rf v1), (2, va_rf v2)] [.ref a0] p0 (f_X3_runner_67 a0 v1 v2 p0) := by
  unfold f_X3_runner_67
  refine x_iconst 0 dX3_runner_67 rfl (n := 68) rfl ?_
  exact f_X3_runner_68_ok hO a0 v1 v2 0 p0
theorem f_X3_runner_23_ok {G : xG} (hO : xOK G) (a0 : Nat)  (w1 : Int32) (p0 : PH) : X G "ForestLegs$Reader" "runner" cX3_runner 4 (Option.none : Option Jvm.ClassFile.FieldType) 9 23 [(0, .ref a0)] [.int w1, .ref a0] p0 (f_X3_runner_23 a0 w1 p0) := by
  unfold f_X3_runner_23
  refine x_iconst 4 dX3_runner_23 rfl (n := 24) rfl ?_
  refine x_callVT_V [.int w1, .int 4] [] (f_X3_need_ok hO p0 a0 w1 4) rc_X3_need md_X3_need rfl q499 q501 qs7 dX3_runner_24 rfl rfl (by decide) (Nat.le_of_ble_eq_true rfl) (n := 27) rfl (fun p7 => ?_) (fun q P1 => xt_out (by decide +kernel))
  refine x_aload_nr 0 dX3_runner_27 rfl rfl (n := 28) rfl ?_
  refine x_callV_V [] [] (f_X3_go_ok hO p7 a0 ) rc_X3_go md_X3_go rfl q387 q389 qs1 dX3_runner_28 rfl rfl (by decide) (Nat.le_of_ble_eq_true rfl) (n := 31) rfl (fun p8 => ?_)
  refine x_aload_nr 0 dX3_runner_31 rfl rfl (n := 32) rfl ?_
  refine x_callVT_R [] [] (f_X3_newName_ok hO p8 a0 ) rc_X3_newName md_X3_newName rfl q819 q821 qs10 dX3_runner_32 rfl rfl (by decide) (Nat.le_of_ble_eq_true rfl) (n := 35) rfl (fun x10 p9 => ?_) (fun q P1 => xt_out (by decide +kernel))
  refine x_astore_n [(1, va_rf x10), (0, .ref a0)] dX3_runner_35 rfl (by decide) rfl (n := 36) rfl ?_
  refine x_aload_nr 1 dX3_runner_36 rfl rfl (n := 37) rfl ?_
  refine x_getR fl_X3_25 dX3_runner_37 (n := 40) rfl (fun x11 => ?_)
  refine x_aload_nr 1 dX3_runner_40 rfl rfl (n := 41) rfl ?_
  refine x_callVT_R [] [va_rf x11] (f_X3_name_ok hO p9 a0 ) rc_X3_name md_X3_name rfl q823 q825 qs11 dX3_runner_41 rfl rfl (by decide) (by simp only [List.map, xcat]; exact Nat.le_of_ble_eq_true rfl) (n := 44) rfl (fun x13 p12 => ?_) (fun q P1 => xt_out (by decide +kernel))
  refine x_sm (fun b14 e => ?_)
  subst e
  refine x_callV_R [va_rf x13] [] (f_J5_get_ok hO p12 b14 x13) rc_J5_get md_J5_get rfl q1389 q1390 q1391 dX3_runner_44 rfl rfl (by decide) (Nat.le_of_ble_eq_true rfl) (n := 47) rfl (fun x16 p15 => ?_)
  refine x_cast (x := x16) (cs := [18]) q1393 cst_java_lang_Integer dX3_runner_47 (n := 50) rfl ?_
  refine x_astore_n [(2, va_rf x16), (1, va_rf x10), (0, .ref a0)] dX3_runner_50 rfl (by decide) (by simp only [xst, List.filter_cons, List.filter_nil, xcat] <;> rfl) (n := 51) rfl ?_
  refine x_aload_nr 2 dX3_runner_51 rfl rfl (n := 52) rfl ?_
  refine x_aload_n 0 dX3_runner_52 rfl rfl (n := 53) rfl ?_
  refine x_ifnull dX3_runner_53 (t := 67) (by decide) (n := 56) rfl (fun e => ?_) (fun b17 e => ?_)
  · subst e
    refine x_sub [2, 1, 0] [(0, .ref a0), (1, va_rf x10), (2, va_rf none)] rfl ?_
    exact f_X3_runner_67_ok hO a0 x10 none p15
  · subst e
    refine x_aload_nr 0 dX3_runner_56 rfl rfl (n := 57) rfl ?_
    refine x_callV_I [] [.ref a0] (f_J19_intValue_ok hO p15 b17 ) rc_J19_intValue md_J19_intValue rfl q1394 q941 q942 dX3_runner_57 rfl rfl (by decide) (Nat.le_of_ble_eq_true rfl) (n := 60) rfl (fun x54 p53 => ?_)
    refine x_if_lt dX3_runner_60 (t := 67) (by decide) (n := 63) rfl (fun _ => ?_) (fun _ => ?_)
    · refine x_sub [2, 1, 0] [(0, .ref a0), (1, va_rf x10), (2, .ref b17)] rfl ?_
      exact f_X3_runner_67_ok hO a0 x10 ((some b17)) p53
    · refine x_iconst 1 dX3_runner_63 rfl (n := 64) rfl ?_
      refine x_goto dX3_runner_64 (n := 68) (by decide) ?_
      refine x_sub [2, 1, 0] [(0, .ref a0), (1, va_rf x10), (2, .ref b17)] rfl ?_
      exact f_X3_runner_68_ok hO a0 x10 ((some b17)) 1 p53
theorem f_X3_runner_ok {G : xG} (hO : xOK G) (p0 : PH) (a0 : Nat) : CT G 9 yX3_runner cX3_runner 4 (Option.none : Option Jvm.ClassFile.FieldType) [.ref a0] p0 (f_X3_runner p0 a0) := by
  refine CT_of hO (by decide +kernel) (by decide +kernel) (Nat.le_of_ble_eq_true rfl) ?_
  show X G "ForestLegs$Reader" "runner" cX3_runner 4 (Option.none : Option Jvm.ClassFile.FieldType) 9 0 [(0, .ref a0)] [] p0 (f_X3_runner p0 a0)
  refine x_cl1 (fun e0 => ?_)
  refine x_aload_nr 0 dX3_runner_0 rfl rfl (n := 1) rfl ?_
  refine x_aload_nr 0 dX3_runner_1 rfl rfl (n := 2) rfl ?_
  refine x_getR fl_X3_18 dX3_runner_2 (n := 5) rfl (fun x1 => ?_)
  refine x_sm (fun b2 e => ?_)
  subst e
  refine x_getR fl_X3_190 dX3_runner_5 (n := 8) rfl (fun x3 => ?_)
  refine x_sm (fun b4 e => ?_)
  subst e
  refine x_callF_I [] [.ref a0] (f_J3_size_ok hO p0 b4 ) rc_J3_size md_J3_size rfl q808 fc_java_util_ArrayList_java_util_List_size_0_I dX3_runner_8 rfl rfl (by decide) (Nat.le_of_ble_eq_true rfl) (n := 13) rfl (fun x6 p5 => ?_)
  refine x_bipush 10 dX3_runner_13 rfl (n := 15) rfl ?_
  refine x_icmp_ge dX3_runner_15 (t := 22) (by decide) (n := 18) rfl (fun _ => ?_) (fun _ => ?_)
  · refine x_iconst 0 dX3_runner_22 rfl (n := 23) rfl ?_
    exact f_X3_runner_23_ok hO a0 0 p5
  · refine x_iconst 1 dX3_runner_18 rfl (n := 19) rfl ?_
    refine x_goto dX3_runner_19 (n := 23) (by decide) ?_
    exact f_X3_runner_23_ok hO a0 1 p5
abbrev cX3_line : ByteArray := prog_10_method_16_code
def yX3_line : MethodName := ⟨RX3, "line", "()V"⟩
def dkwX3_line_10 : List UInt8 := [182, 0, 185, 181, 0, 233, 167, 0, 9, 42, 3, 4, 182, 0, 76, 177]
abbrev dktX3_line_10 : List UInt8 := dkwX3_line_10 ++ []
def dkwX3_line_9 : List UInt8 := [3, 6, 182, 0, 76, 42, 4, 181, 0, 230, 42, 182, 0, 105, 42, 180, 0, 18, 42, 3, 17, 2, 88]
abbrev dktX3_line_9 : List UInt8 := dkwX3_line_9 ++ dktX3_line_10
def dkwX3_line_8 : List UInt8 := [17, 2, 88, 182, 0, 185, 181, 0, 228, 167, 0, 53, 42, 42, 180, 0, 230, 154, 0, 7, 4, 167, 0, 4]
abbrev dktX3_line_8 : List UInt8 := dkwX3_line_8 ++ dktX3_line_9
def dkwX3_line_7 : List UInt8 := [167, 0, 4, 3, 6, 182, 0, 76, 42, 4, 181, 0, 224, 42, 182, 0, 105, 42, 180, 0, 18, 42, 3]
abbrev dktX3_line_7 : List UInt8 := dkwX3_line_7 ++ dktX3_line_8
def dkwX3_line_6 : List UInt8 := [42, 182, 0, 220, 167, 0, 104, 42, 182, 0, 222, 167, 0, 97, 42, 42, 180, 0, 224, 154, 0, 7, 4]
abbrev dktX3_line_6 : List UInt8 := dkwX3_line_6 ++ dktX3_line_7
def dkwX3_line_5 : List UInt8 := [170, 0, 0, 0, 0, 132, 0, 0, 0, 0, 0, 0, 0, 3, 0, 0, 0, 30, 0, 0, 0, 37, 0, 0, 0, 44, 0, 0, 0, 88]
abbrev dktX3_line_5 : List UInt8 := dkwX3_line_5 ++ dktX3_line_6
def dkwX3_line_4 : List UInt8 := [153, 0, 5, 6, 61, 28]
abbrev dktX3_line_4 : List UInt8 := dkwX3_line_4 ++ dktX3_line_5
def dkwX3_line_3 : List UInt8 := [61, 167, 0, 28, 43, 18, 216, 182, 0, 211, 153, 0, 19, 5, 61, 167, 0, 14, 43, 18, 218, 182, 0, 211]
abbrev dktX3_line_3 : List UInt8 := dkwX3_line_3 ++ dktX3_line_4
def dkwX3_line_2 : List UInt8 := [43, 18, 209, 182, 0, 211, 153, 0, 47, 3, 61, 167, 0, 42, 43, 18, 214, 182, 0, 211, 153, 0, 33, 4]
abbrev dktX3_line_2 : List UInt8 := dkwX3_line_2 ++ dktX3_line_3
def dkwX3_line_1 : List UInt8 := [171, 0, 0, 0, 94, 0, 0, 0, 4, 175, 66, 224, 27, 0, 0, 0, 41, 201, 44, 223, 48, 0, 0, 0, 55, 0, 1, 142, 214, 0, 0, 0, 69, 6, 135, 31, 144, 0, 0, 0, 83]
abbrev dktX3_line_1 : List UInt8 := dkwX3_line_1 ++ dktX3_line_2
def dkwX3_line_0 : List UInt8 := [42, 182, 0, 91, 76, 2, 61, 43, 182, 0, 206]
abbrev dktX3_line_0 : List UInt8 := dkwX3_line_0 ++ dktX3_line_1
theorem dksX3_line_0 : cX3_line.data.toList.drop 0 = dktX3_line_0 := by decide +kernel
theorem dksX3_line_1 : cX3_line.data.toList.drop 11 = dktX3_line_1 := dk_seg dksX3_line_0 11 rfl rfl
theorem dksX3_line_2 : cX3_line.data.toList.drop 52 = dktX3_line_2 := dk_seg dksX3_line_1 41 rfl rfl
theorem dksX3_line_3 : cX3_line.data.toList.drop 76 = dktX3_line_3 := dk_seg dksX3_line_2 24 rfl rfl
theorem dksX3_line_4 : cX3_line.data.toList.drop 100 = dktX3_line_4 := dk_seg dksX3_line_3 24 rfl rfl
theorem dksX3_line_5 : cX3_line.data.toList.drop 106 = dktX3_line_5 := dk_seg dksX3_line_4 6 rfl rfl
theorem dksX3_line_6 : cX3_line.data.toList.drop 136 = dktX3_line_6 := dk_seg dksX3_line_5 30 rfl rfl
theorem dksX3_line_7 : cX3_line.data.toList.drop 159 = dktX3_line_7 := dk_seg dksX3_line_6 23 rfl rfl
theorem dksX3_line_8 : cX3_line.data.toList.drop 182 = dktX3_line_8 := dk_seg dksX3_line_7 23 rfl rfl
theorem dksX3_line_9 : cX3_line.data.toList.drop 206 = dktX3_line_9 := dk_seg dksX3_line_8 24 rfl rfl
theorem dksX3_line_10 : cX3_line.data.toList.drop 229 = dktX3_line_10 := dk_seg dksX3_line_9 23 rfl rfl
theorem dX3_line_0 : decode cX3_line 0 = .ok (.aload_n 0, 1) := dk_42 (dk_at dksX3_line_0 0 rfl rfl)
theorem dX3_line_1 : decode cX3_line 1 = .ok (.invokevirtual 91, 3) := dk_182 0 91 (dk_at dksX3_line_0 1 rfl rfl)
theorem dX3_line_4 : decode cX3_line 4 = .ok (.astore_n 1, 1) := dk_76 (dk_at dksX3_line_0 4 rfl rfl)
theorem dX3_line_5 : decode cX3_line 5 = .ok (.iconst (-1), 1) := dk_2 (dk_at dksX3_line_0 5 rfl rfl)
theorem dX3_line_6 : decode cX3_line 6 = .ok (.istore_n 2, 1) := dk_61 (dk_at dksX3_line_0 6 rfl rfl)
theorem dX3_line_7 : decode cX3_line 7 = .ok (.aload_n 1, 1) := dk_43 (dk_at dksX3_line_0 7 rfl rfl)
theorem dX3_line_8 : decode cX3_line 8 = .ok (.invokevirtual 206, 3) := dk_182 0 206 (dk_at dksX3_line_0 8 rfl rfl)
theorem dX3_line_11 : decode cX3_line 11 = .ok (.lookupswitch 94 #[(-1354571749, 41), (-919806160, 55), (102102, 69), (109518736, 83)], 41) := by decide +kernel
theorem dX3_line_52 : decode cX3_line 52 = .ok (.aload_n 1, 1) := dk_43 (dk_at dksX3_line_2 0 rfl rfl)
theorem dX3_line_53 : decode cX3_line 53 = .ok (.ldc 209, 2) := dk_18 209 (dk_at dksX3_line_2 1 rfl rfl)
theorem dX3_line_55 : decode cX3_line 55 = .ok (.invokevirtual 211, 3) := dk_182 0 211 (dk_at dksX3_line_2 3 rfl rfl)
theorem dX3_line_58 : decode cX3_line 58 = .ok (.ifCond .eq 47, 3) := dk_153 0 47 (dk_at dksX3_line_2 6 rfl rfl)
theorem dX3_line_61 : decode cX3_line 61 = .ok (.iconst 0, 1) := dk_3 (dk_at dksX3_line_2 9 rfl rfl)
theorem dX3_line_62 : decode cX3_line 62 = .ok (.istore_n 2, 1) := dk_61 (dk_at dksX3_line_2 10 rfl rfl)
theorem dX3_line_63 : decode cX3_line 63 = .ok (.goto 42, 3) := dk_167 0 42 (dk_at dksX3_line_2 11 rfl rfl)
theorem dX3_line_66 : decode cX3_line 66 = .ok (.aload_n 1, 1) := dk_43 (dk_at dksX3_line_2 14 rfl rfl)
theorem dX3_line_67 : decode cX3_line 67 = .ok (.ldc 214, 2) := dk_18 214 (dk_at dksX3_line_2 15 rfl rfl)
theorem dX3_line_69 : decode cX3_line 69 = .ok (.invokevirtual 211, 3) := dk_182 0 211 (dk_at dksX3_line_2 17 rfl rfl)
theorem dX3_line_72 : decode cX3_line 72 = .ok (.ifCond .eq 33, 3) := dk_153 0 33 (dk_at dksX3_line_2 20 rfl rfl)
theorem dX3_line_75 : decode cX3_line 75 = .ok (.iconst 1, 1) := dk_4 (dk_at dksX3_line_2 23 rfl rfl)
theorem dX3_line_76 : decode cX3_line 76 = .ok (.istore_n 2, 1) := dk_61 (dk_at dksX3_line_3 0 rfl rfl)
theorem dX3_line_77 : decode cX3_line 77 = .ok (.goto 28, 3) := dk_167 0 28 (dk_at dksX3_line_3 1 rfl rfl)
theorem dX3_line_80 : decode cX3_line 80 = .ok (.aload_n 1, 1) := dk_43 (dk_at dksX3_line_3 4 rfl rfl)
theorem dX3_line_81 : decode cX3_line 81 = .ok (.ldc 216, 2) := dk_18 216 (dk_at dksX3_line_3 5 rfl rfl)
theorem dX3_line_83 : decode cX3_line 83 = .ok (.invokevirtual 211, 3) := dk_182 0 211 (dk_at dksX3_line_3 7 rfl rfl)
theorem dX3_line_86 : decode cX3_line 86 = .ok (.ifCond .eq 19, 3) := dk_153 0 19 (dk_at dksX3_line_3 10 rfl rfl)
theorem dX3_line_89 : decode cX3_line 89 = .ok (.iconst 2, 1) := dk_5 (dk_at dksX3_line_3 13 rfl rfl)
theorem dX3_line_90 : decode cX3_line 90 = .ok (.istore_n 2, 1) := dk_61 (dk_at dksX3_line_3 14 rfl rfl)
theorem dX3_line_91 : decode cX3_line 91 = .ok (.goto 14, 3) := dk_167 0 14 (dk_at dksX3_line_3 15 rfl rfl)
theorem dX3_line_94 : decode cX3_line 94 = .ok (.aload_n 1, 1) := dk_43 (dk_at dksX3_line_3 18 rfl rfl)
theorem dX3_line_95 : decode cX3_line 95 = .ok (.ldc 218, 2) := dk_18 218 (dk_at dksX3_line_3 19 rfl rfl)
theorem dX3_line_97 : decode cX3_line 97 = .ok (.invokevirtual 211, 3) := dk_182 0 211 (dk_at dksX3_line_3 21 rfl rfl)
theorem dX3_line_100 : decode cX3_line 100 = .ok (.ifCond .eq 5, 3) := dk_153 0 5 (dk_at dksX3_line_4 0 rfl rfl)
theorem dX3_line_103 : decode cX3_line 103 = .ok (.iconst 3, 1) := dk_6 (dk_at dksX3_line_4 3 rfl rfl)
theorem dX3_line_104 : decode cX3_line 104 = .ok (.istore_n 2, 1) := dk_61 (dk_at dksX3_line_4 4 rfl rfl)
theorem dX3_line_105 : decode cX3_line 105 = .ok (.iload_n 2, 1) := dk_28 (dk_at dksX3_line_4 5 rfl rfl)
theorem dX3_line_106 : decode cX3_line 106 = .ok (.tableswitch 132 0 3 #[30, 37, 44, 88], 30) := by decide +kernel
theorem dX3_line_136 : decode cX3_line 136 = .ok (.aload_n 0, 1) := dk_42 (dk_at dksX3_line_6 0 rfl rfl)
theorem dX3_line_137 : decode cX3_line 137 = .ok (.invokevirtual 220, 3) := dk_182 0 220 (dk_at dksX3_line_6 1 rfl rfl)
theorem dX3_line_140 : decode cX3_line 140 = .ok (.goto 104, 3) := dk_167 0 104 (dk_at dksX3_line_6 4 rfl rfl)
theorem dX3_line_143 : decode cX3_line 143 = .ok (.aload_n 0, 1) := dk_42 (dk_at dksX3_line_6 7 rfl rfl)
theorem dX3_line_144 : decode cX3_line 144 = .ok (.invokevirtual 222, 3) := dk_182 0 222 (dk_at dksX3_line_6 8 rfl rfl)
theorem dX3_line_147 : decode cX3_line 147 = .ok (.goto 97, 3) := dk_167 0 97 (dk_at dksX3_line_6 11 rfl rfl)
theorem dX3_line_150 : decode cX3_line 150 = .ok (.aload_n 0, 1) := dk_42 (dk_at dksX3_line_6 14 rfl rfl)
theorem dX3_line_151 : decode cX3_line 151 = .ok (.aload_n 0, 1) := dk_42 (dk_at dksX3_line_6 15 rfl rfl)
theorem dX3_line_152 : decode cX3_line 152 = .ok (.getfield 224, 3) := dk_180 0 224 (dk_at dksX3_line_6 16 rfl rfl)
theorem dX3_line_155 : decode cX3_line 155 = .ok (.ifCond .ne 7, 3) := dk_154 0 7 (dk_at dksX3_line_6 19 rfl rfl)
theorem dX3_line_158 : decode cX3_line 158 = .ok (.iconst 1, 1) := dk_4 (dk_at dksX3_line_6 22 rfl rfl)
theorem dX3_line_159 : decode cX3_line 159 = .ok (.goto 4, 3) := dk_167 0 4 (dk_at dksX3_line_7 0 rfl rfl)
theorem dX3_line_162 : decode cX3_line 162 = .ok (.iconst 0, 1) := dk_3 (dk_at dksX3_line_7 3 rfl rfl)
theorem dX3_line_163 : decode cX3_line 163 = .ok (.iconst 3, 1) := dk_6 (dk_at dksX3_line_7 4 rfl rfl)
theorem dX3_line_164 : decode cX3_line 164 = .ok (.invokevirtual 76, 3) := dk_182 0 76 (dk_at dksX3_line_7 5 rfl rfl)
theorem dX3_line_167 : decode cX3_line 167 = .ok (.aload_n 0, 1) := dk_42 (dk_at dksX3_line_7 8 rfl rfl)
theorem dX3_line_168 : decode cX3_line 168 = .ok (.iconst 1, 1) := dk_4 (dk_at dksX3_line_7 9 rfl rfl)
theorem dX3_line_169 : decode cX3_line 169 = .ok (.putfield 224, 3) := dk_181 0 224 (dk_at dksX3_line_7 10 rfl rfl)
theorem dX3_line_172 : decode cX3_line 172 = .ok (.aload_n 0, 1) := dk_42 (dk_at dksX3_line_7 13 rfl rfl)
theorem dX3_line_173 : decode cX3_line 173 = .ok (.invokevirtual 105, 3) := dk_182 0 105 (dk_at dksX3_line_7 14 rfl rfl)
theorem dX3_line_176 : decode cX3_line 176 = .ok (.aload_n 0, 1) := dk_42 (dk_at dksX3_line_7 17 rfl rfl)
theorem dX3_line_177 : decode cX3_line 177 = .ok (.getfield 18, 3) := dk_180 0 18 (dk_at dksX3_line_7 18 rfl rfl)
theorem dX3_line_180 : decode cX3_line 180 = .ok (.aload_n 0, 1) := dk_42 (dk_at dksX3_line_7 21 rfl rfl)
theorem dX3_line_181 : decode cX3_line 181 = .ok (.iconst 0, 1) := dk_3 (dk_at dksX3_line_7 22 rfl rfl)
theorem dX3_line_182 : decode cX3_line 182 = .ok (.sipush 600, 3) := dk_17 2 88 (dk_at dksX3_line_8 0 rfl rfl)
theorem dX3_line_185 : decode cX3_line 185 = .ok (.invokevirtual 185, 3) := dk_182 0 185 (dk_at dksX3_line_8 3 rfl rfl)
theorem dX3_line_188 : decode cX3_line 188 = .ok (.putfield 228, 3) := dk_181 0 228 (dk_at dksX3_line_8 6 rfl rfl)
theorem dX3_line_191 : decode cX3_line 191 = .ok (.goto 53, 3) := dk_167 0 53 (dk_at dksX3_line_8 9 rfl rfl)
theorem dX3_line_194 : decode cX3_line 194 = .ok (.aload_n 0, 1) := dk_42 (dk_at dksX3_line_8 12 rfl rfl)
theorem dX3_line_195 : decode cX3_line 195 = .ok (.aload_n 0, 1) := dk_42 (dk_at dksX3_line_8 13 rfl rfl)
theorem dX3_line_196 : decode cX3_line 196 = .ok (.getfield 230, 3) := dk_180 0 230 (dk_at dksX3_line_8 14 rfl rfl)
theorem dX3_line_199 : decode cX3_line 199 = .ok (.ifCond .ne 7, 3) := dk_154 0 7 (dk_at dksX3_line_8 17 rfl rfl)
theorem dX3_line_202 : decode cX3_line 202 = .ok (.iconst 1, 1) := dk_4 (dk_at dksX3_line_8 20 rfl rfl)
theorem dX3_line_203 : decode cX3_line 203 = .ok (.goto 4, 3) := dk_167 0 4 (dk_at dksX3_line_8 21 rfl rfl)
theorem dX3_line_206 : decode cX3_line 206 = .ok (.iconst 0, 1) := dk_3 (dk_at dksX3_line_9 0 rfl rfl)
theorem dX3_line_207 : decode cX3_line 207 = .ok (.iconst 3, 1) := dk_6 (dk_at dksX3_line_9 1 rfl rfl)
theorem dX3_line_208 : decode cX3_line 208 = .ok (.invokevirtual 76, 3) := dk_182 0 76 (dk_at dksX3_line_9 2 rfl rfl)
theorem dX3_line_211 : decode cX3_line 211 = .ok (.aload_n 0, 1) := dk_42 (dk_at dksX3_line_9 5 rfl rfl)
theorem dX3_line_212 : decode cX3_line 212 = .ok (.iconst 1, 1) := dk_4 (dk_at dksX3_line_9 6 rfl rfl)
theorem dX3_line_213 : decode cX3_line 213 = .ok (.putfield 230, 3) := dk_181 0 230 (dk_at dksX3_line_9 7 rfl rfl)
theorem dX3_line_216 : decode cX3_line 216 = .ok (.aload_n 0, 1) := dk_42 (dk_at dksX3_line_9 10 rfl rfl)
theorem dX3_line_217 : decode cX3_line 217 = .ok (.invokevirtual 105, 3) := dk_182 0 105 (dk_at dksX3_line_9 11 rfl rfl)
theorem dX3_line_220 : decode cX3_line 220 = .ok (.aload_n 0, 1) := dk_42 (dk_at dksX3_line_9 14 rfl rfl)
theorem dX3_line_221 : decode cX3_line 221 = .ok (.getfield 18, 3) := dk_180 0 18 (dk_at dksX3_line_9 15 rfl rfl)
theorem dX3_line_224 : decode cX3_line 224 = .ok (.aload_n 0, 1) := dk_42 (dk_at dksX3_line_9 18 rfl rfl)
theorem dX3_line_225 : decode cX3_line 225 = .ok (.iconst 0, 1) := dk_3 (dk_at dksX3_line_9 19 rfl rfl)
theorem dX3_line_226 : decode cX3_line 226 = .ok (.sipush 600, 3) := dk_17 2 88 (dk_at dksX3_line_9 20 rfl rfl)
theorem dX3_line_229 : decode cX3_line 229 = .ok (.invokevirtual 185, 3) := dk_182 0 185 (dk_at dksX3_line_10 0 rfl rfl)
theorem dX3_line_232 : decode cX3_line 232 = .ok (.putfield 233, 3) := dk_181 0 233 (dk_at dksX3_line_10 3 rfl rfl)
theorem dX3_line_235 : decode cX3_line 235 = .ok (.goto 9, 3) := dk_167 0 9 (dk_at dksX3_line_10 6 rfl rfl)
theorem dX3_line_238 : decode cX3_line 238 = .ok (.aload_n 0, 1) := dk_42 (dk_at dksX3_line_10 9 rfl rfl)
theorem dX3_line_239 : decode cX3_line 239 = .ok (.iconst 0, 1) := dk_3 (dk_at dksX3_line_10 10 rfl rfl)
theorem dX3_line_240 : decode cX3_line 240 = .ok (.iconst 1, 1) := dk_4 (dk_at dksX3_line_10 11 rfl rfl)
theorem dX3_line_241 : decode cX3_line 241 = .ok (.invokevirtual 76, 3) := dk_182 0 76 (dk_at dksX3_line_10 12 rfl rfl)
theorem dX3_line_244 : decode cX3_line 244 = .ok (.return_, 1) := dk_177 (dk_at dksX3_line_10 15 rfl rfl)
theorem md_X3_line : xMd yX3_line cX3_line 3 (Option.none : Option Jvm.ClassFile.FieldType) 0 := ⟨q494, q127, by decide, by decide +kernel, by decide +kernel, by decide +kernel⟩
def f_X3_line_163 (a0 : Nat)  (w1 : Int32) (p0 : PH) : Option (xO × PH) :=
  (xtV (f_X3_need p0 a0 w1 3) (fun p13 =>
  (xpF p13 a0 2 3 (.int 1) fun p14 =>
  (xcV (f_X3_go p14 a0 ) fun p15 =>
  (xgR p15 a0 2 1 fun x16 =>
  (xtI (f_X3_whole p15 a0 0 600) (fun x18 p17 =>
  (xnul x16 none fun b19 =>
  (xpF p17 b19 3 2 (.int x18) fun p20 =>
  (rV p20)))) rT))))) rT)
def f_X3_line_207 (a0 : Nat)  (w1 : Int32) (p0 : PH) : Option (xO × PH) :=
  (xtV (f_X3_need p0 a0 w1 3) (fun p22 =>
  (xpF p22 a0 2 4 (.int 1) fun p23 =>
  (xcV (f_X3_go p23 a0 ) fun p24 =>
  (xgR p24 a0 2 1 fun x25 =>
  (xtI (f_X3_whole p24 a0 0 600) (fun x27 p26 =>
  (xnul x25 none fun b28 =>
  (xpF p26 b28 3 3 (.int x27) fun p29 =>
  (rV p29)))) rT))))) rT)
def f_X3_line_105 (a0 : Nat)  (v2 : Int32) (p0 : PH) : Option (xO × PH) :=
  (xtab v2 0 [
  (xtV (f_X3_course p0 a0 ) (fun p10 =>
  (rV p10)) rT),
  (xtV (f_X3_runner p0 a0 ) (fun p11 =>
  (rV p11)) rT),
  (xgI p0 a0 2 3 fun x12 =>
  (if x12 = 0 then
  (f_X3_line_163 a0 1 p0) else
  (f_X3_line_163 a0 0 p0))),
  (xgI p0 a0 2 4 fun x21 =>
  (if x21 = 0 then
  (f_X3_line_207 a0 1 p0) else
  (f_X3_line_207 a0 0 p0)))]
  (xtV (f_X3_need p0 a0 0 1) (fun p9 =>
  (rV p9)) rT))
def f_X3_line (p0 : PH) (a0 : Nat) : Option (xO × PH) :=
  (xcl1 p0 a0 2 (xtR (f_X3_word p0 a0 ) (fun x2 p1 =>
  (xnul x2 none fun b3 =>
  (xcI (f_J6_hashCode p1 b3 ) fun x5 p4 =>
  (if x5 = (-1354571749) then
  (xcon p4 17 fun x6 =>
  (xcI (f_J6_equals p4 b3 x6) fun x8 p7 =>
  (if x8 = 0 then
  (f_X3_line_105 a0 (-1) p7) else
  (f_X3_line_105 a0 0 p7)))) else
  (if x5 = (-919806160) then
  (xcon p4 18 fun x30 =>
  (xcI (f_J6_equals p4 b3 x30) fun x32 p31 =>
  (if x32 = 0 then
  (f_X3_line_105 a0 (-1) p31) else
  (f_X3_line_105 a0 1 p31)))) else
  (if x5 = 102102 then
  (xcon p4 19 fun x33 =>
  (xcI (f_J6_equals p4 b3 x33) fun x35 p34 =>
  (if x35 = 0 then
  (f_X3_line_105 a0 (-1) p34) else
  (f_X3_line_105 a0 2 p34)))) else
  (if x5 = 109518736 then
  (xcon p4 20 fun x36 =>
  (xcI (f_J6_equals p4 b3 x36) fun x38 p37 =>
  (if x38 = 0 then
  (f_X3_line_105 a0 (-1) p37) else
  (f_X3_line_105 a0 3 p37)))) else
  (f_X3_line_105 a0 (-1) p4)))))))) rT))
theorem rc_X3_line {p0 : PH} {a0 : Nat} : ∀ z, f_X3_line p0 a0 = some z → xco p0 a0 = some 2 := fun z h => xcl1_some h
theorem f_X3_line_163_ok {G : xG} (hO : xOK G) (a0 : Nat)  (w1 : Int32) (p0 : PH) : X G "ForestLegs$Reader" "line" cX3_line 3 (Option.none : Option Jvm.ClassFile.FieldType) 10 163 [(0, .ref a0)] [.int w1, .ref a0] p0 (f_X3_line_163 a0 w1 p0) := by
  unfold f_X3_line_163
  refine x_iconst 3 dX3_line_163 rfl (n := 164) rfl ?_
  refine x_callVT_V [.int w1, .int 3] [] (f_X3_need_ok hO p0 a0 w1 3) rc_X3_need md_X3_need rfl q499 q501 qs7 dX3_line_164 rfl rfl (by decide) (Nat.le_of_ble_eq_true rfl) (n := 167) rfl (fun p13 => ?_) (fun q P1 => xt_out (by decide +kernel))
  refine x_aload_nr 0 dX3_line_167 rfl rfl (n := 168) rfl ?_
  refine x_iconst 1 dX3_line_168 rfl (n := 169) rfl ?_
  refine x_pF (pl_X3_224 _ _ ⟨rfl, rfl⟩) dX3_line_169 (n := 172) rfl (fun p14 => ?_)
  refine x_aload_nr 0 dX3_line_172 rfl rfl (n := 173) rfl ?_
  refine x_callV_V [] [] (f_X3_go_ok hO p14 a0 ) rc_X3_go md_X3_go rfl q387 q389 qs1 dX3_line_173 rfl rfl (by decide) (Nat.le_of_ble_eq_true rfl) (n := 176) rfl (fun p15 => ?_)
  refine x_aload_nr 0 dX3_line_176 rfl rfl (n := 177) rfl ?_
  refine x_getR fl_X3_18 dX3_line_177 (n := 180) rfl (fun x16 => ?_)
  refine x_aload_nr 0 dX3_line_180 rfl rfl (n := 181) rfl ?_
  refine x_iconst 0 dX3_line_181 rfl (n := 182) rfl ?_
  refine x_sipush 600 dX3_line_182 rfl (n := 185) rfl ?_
  refine x_callVT_I [.int 0, .int 600] [va_rf x16] (f_X3_whole_ok hO p15 a0 0 600) rc_X3_whole md_X3_whole rfl q1432 q1434 qs24 dX3_line_185 rfl rfl (by decide) (by simp only [List.map, xcat]; exact Nat.le_of_ble_eq_true rfl) (n := 188) rfl (fun x18 p17 => ?_) (fun q P1 => xt_out (by decide +kernel))
  refine x_sm (fun b19 e => ?_)
  subst e
  refine x_pF (pl_X3_228 _ _ ⟨rfl, rfl⟩) dX3_line_188 (n := 191) rfl (fun p20 => ?_)
  refine x_goto dX3_line_191 (n := 244) (by decide) ?_
  exact x_return dX3_line_244
theorem f_X3_line_207_ok {G : xG} (hO : xOK G) (a0 : Nat)  (w1 : Int32) (p0 : PH) : X G "ForestLegs$Reader" "line" cX3_line 3 (Option.none : Option Jvm.ClassFile.FieldType) 10 207 [(0, .ref a0)] [.int w1, .ref a0] p0 (f_X3_line_207 a0 w1 p0) := by
  unfold f_X3_line_207
  refine x_iconst 3 dX3_line_207 rfl (n := 208) rfl ?_
  refine x_callVT_V [.int w1, .int 3] [] (f_X3_need_ok hO p0 a0 w1 3) rc_X3_need md_X3_need rfl q499 q501 qs7 dX3_line_208 rfl rfl (by decide) (Nat.le_of_ble_eq_true rfl) (n := 211) rfl (fun p22 => ?_) (fun q P1 => xt_out (by decide +kernel))
  refine x_aload_nr 0 dX3_line_211 rfl rfl (n := 212) rfl ?_
  refine x_iconst 1 dX3_line_212 rfl (n := 213) rfl ?_
  refine x_pF (pl_X3_230 _ _ ⟨rfl, rfl⟩) dX3_line_213 (n := 216) rfl (fun p23 => ?_)
  refine x_aload_nr 0 dX3_line_216 rfl rfl (n := 217) rfl ?_
  refine x_callV_V [] [] (f_X3_go_ok hO p23 a0 ) rc_X3_go md_X3_go rfl q387 q389 qs1 dX3_line_217 rfl rfl (by decide) (Nat.le_of_ble_eq_true rfl) (n := 220) rfl (fun p24 => ?_)
  refine x_aload_nr 0 dX3_line_220 rfl rfl (n := 221) rfl ?_
  refine x_getR fl_X3_18 dX3_line_221 (n := 224) rfl (fun x25 => ?_)
  refine x_aload_nr 0 dX3_line_224 rfl rfl (n := 225) rfl ?_
  refine x_iconst 0 dX3_line_225 rfl (n := 226) rfl ?_
  refine x_sipush 600 dX3_line_226 rfl (n := 229) rfl ?_
  refine x_callVT_I [.int 0, .int 600] [va_rf x25] (f_X3_whole_ok hO p24 a0 0 600) rc_X3_whole md_X3_whole rfl q1432 q1434 qs24 dX3_line_229 rfl rfl (by decide) (by simp only [List.map, xcat]; exact Nat.le_of_ble_eq_true rfl) (n := 232) rfl (fun x27 p26 => ?_) (fun q P1 => xt_out (by decide +kernel))
  refine x_sm (fun b28 e => ?_)
  subst e
  refine x_pF (pl_X3_233 _ _ ⟨rfl, rfl⟩) dX3_line_232 (n := 235) rfl (fun p29 => ?_)
  refine x_goto dX3_line_235 (n := 244) (by decide) ?_
  exact x_return dX3_line_244
theorem f_X3_line_105_ok {G : xG} (hO : xOK G) (a0 : Nat)  (v2 : Int32) (p0 : PH) : X G "ForestLegs$Reader" "line" cX3_line 3 (Option.none : Option Jvm.ClassFile.FieldType) 10 105 [(0, .ref a0), (2, .int v2)] [] p0 (f_X3_line_105 a0 v2 p0) := by
  unfold f_X3_line_105
  refine x_iload_n 1 dX3_line_105 rfl rfl (n := 106) rfl ?_
  refine x_tab [136, 143, 150, 194] dX3_line_106 rfl rfl (td := 238) (by decide) ?_ ⟨?_, ?_, ?_, ?_, trivial⟩
  · refine x_aload_nr 0 dX3_line_238 rfl rfl (n := 239) rfl ?_
    refine x_iconst 0 dX3_line_239 rfl (n := 240) rfl ?_
    refine x_iconst 1 dX3_line_240 rfl (n := 241) rfl ?_
    refine x_callVT_V [.int 0, .int 1] [] (f_X3_need_ok hO p0 a0 0 1) rc_X3_need md_X3_need rfl q499 q501 qs7 dX3_line_241 rfl rfl (by decide) (Nat.le_of_ble_eq_true rfl) (n := 244) rfl (fun p9 => ?_) (fun q P1 => xt_out (by decide +kernel))
    exact x_return dX3_line_244
  · refine x_aload_nr 0 dX3_line_136 rfl rfl (n := 137) rfl ?_
    refine x_callVT_V [] [] (f_X3_course_ok hO p0 a0 ) rc_X3_course md_X3_course rfl q803 q805 qs9 dX3_line_137 rfl rfl (by decide) (Nat.le_of_ble_eq_true rfl) (n := 140) rfl (fun p10 => ?_) (fun q P1 => xt_out (by decide +kernel))
    refine x_goto dX3_line_140 (n := 244) (by decide) ?_
    exact x_return dX3_line_244
  · refine x_aload_nr 0 dX3_line_143 rfl rfl (n := 144) rfl ?_
    refine x_callVT_V [] [] (f_X3_runner_ok hO p0 a0 ) rc_X3_runner md_X3_runner rfl q1385 q1387 qs23 dX3_line_144 rfl rfl (by decide) (Nat.le_of_ble_eq_true rfl) (n := 147) rfl (fun p11 => ?_) (fun q P1 => xt_out (by decide +kernel))
    refine x_goto dX3_line_147 (n := 244) (by decide) ?_
    exact x_return dX3_line_244
  · refine x_aload_nr 0 dX3_line_150 rfl rfl (n := 151) rfl ?_
    refine x_aload_nr 0 dX3_line_151 rfl rfl (n := 152) rfl ?_
    refine x_getI fl_X3_224 dX3_line_152 (n := 155) rfl (fun x12 => ?_)
    refine x_if_ne dX3_line_155 (t := 162) (by decide) (n := 158) rfl (fun _ => ?_) (fun _ => ?_)
    · refine x_iconst 0 dX3_line_162 rfl (n := 163) rfl ?_
      refine x_sub [0] [(0, .ref a0)] rfl ?_
      exact f_X3_line_163_ok hO a0 0 p0
    · refine x_iconst 1 dX3_line_158 rfl (n := 159) rfl ?_
      refine x_goto dX3_line_159 (n := 163) (by decide) ?_
      refine x_sub [0] [(0, .ref a0)] rfl ?_
      exact f_X3_line_163_ok hO a0 1 p0
  · refine x_aload_nr 0 dX3_line_194 rfl rfl (n := 195) rfl ?_
    refine x_aload_nr 0 dX3_line_195 rfl rfl (n := 196) rfl ?_
    refine x_getI fl_X3_230 dX3_line_196 (n := 199) rfl (fun x21 => ?_)
    refine x_if_ne dX3_line_199 (t := 206) (by decide) (n := 202) rfl (fun _ => ?_) (fun _ => ?_)
    · refine x_iconst 0 dX3_line_206 rfl (n := 207) rfl ?_
      refine x_sub [0] [(0, .ref a0)] rfl ?_
      exact f_X3_line_207_ok hO a0 0 p0
    · refine x_iconst 1 dX3_line_202 rfl (n := 203) rfl ?_
      refine x_goto dX3_line_203 (n := 207) (by decide) ?_
      refine x_sub [0] [(0, .ref a0)] rfl ?_
      exact f_X3_line_207_ok hO a0 1 p0
theorem f_X3_line_ok {G : xG} (hO : xOK G) (p0 : PH) (a0 : Nat) : CT G 10 yX3_line cX3_line 3 (Option.none : Option Jvm.ClassFile.FieldType) [.ref a0] p0 (f_X3_line p0 a0) := by
  refine CT_of hO (by decide +kernel) (by decide +kernel) (Nat.le_of_ble_eq_true rfl) ?_
  show X G "ForestLegs$Reader" "line" cX3_line 3 (Option.none : Option Jvm.ClassFile.FieldType) 10 0 [(0, .ref a0)] [] p0 (f_X3_line p0 a0)
  refine x_cl1 (fun e0 => ?_)
  refine x_aload_nr 0 dX3_line_0 rfl rfl (n := 1) rfl ?_
  refine x_callVT_R [] [] (f_X3_word_ok hO p0 a0 ) rc_X3_word md_X3_word rfl q495 q497 qs6 dX3_line_1 rfl rfl (by decide) (Nat.le_of_ble_eq_true rfl) (n := 4) rfl (fun x2 p1 => ?_) (fun q P1 => xt_out (by decide +kernel))
  refine x_astore_n [(1, va_rf x2), (0, .ref a0)] dX3_line_4 rfl (by decide) rfl (n := 5) rfl ?_
  refine x_iconst (-1) dX3_line_5 rfl (n := 6) rfl ?_
  refine x_istore_n [(2, .int (-1)), (1, va_rf x2), (0, .ref a0)] dX3_line_6 rfl (by decide) (by simp only [xst, List.filter_cons, List.filter_nil, xcat] <;> rfl) (n := 7) rfl ?_
  refine x_aload_n 1 dX3_line_7 rfl rfl (n := 8) rfl ?_
  refine x_sm (fun b3 e => ?_)
  subst e
  refine x_callV_I [] [] (f_J6_hashCode_ok hO p1 b3 ) rc_J6_hashCode md_J6_hashCode rfl q742 q743 q744 dX3_line_8 rfl rfl (by decide) (Nat.le_of_ble_eq_true rfl) (n := 11) rfl (fun x5 p4 => ?_)
  refine x_ite (fun hm1354571749 => ?_) (fun hm1354571749 => ?_)
  · refine x_lk (n := 52) dX3_line_11 rfl (by rw [hm1354571749] <;> rfl) (by decide) ?_
    refine x_aload_nr 1 dX3_line_52 rfl rfl (n := 53) rfl ?_
    refine x_ldcS (j := 7) rfl dX3_line_53 (n := 55) rfl (fun x6 => ?_)
    refine x_callV_I [va_rf x6] [] (f_J6_equals_ok hO p4 b3 x6) rc_J6_equals md_J6_equals rfl q792 q793 q794 dX3_line_55 rfl rfl (by decide) (Nat.le_of_ble_eq_true rfl) (n := 58) rfl (fun x8 p7 => ?_)
    refine x_if_eq dX3_line_58 (t := 105) (by decide) (n := 61) rfl (fun _ => ?_) (fun _ => ?_)
    · refine x_sub [2, 0] [(0, .ref a0), (2, .int (-1))] rfl ?_
      exact f_X3_line_105_ok hO a0 (-1) p7
    · refine x_iconst 0 dX3_line_61 rfl (n := 62) rfl ?_
      refine x_istore_n [(2, .int 0), (1, .ref b3), (0, .ref a0)] dX3_line_62 rfl (by decide) rfl (n := 63) rfl ?_
      refine x_goto dX3_line_63 (n := 105) (by decide) ?_
      refine x_sub [2, 0] [(0, .ref a0), (2, .int 0)] rfl ?_
      exact f_X3_line_105_ok hO a0 0 p7
  refine x_ite (fun hm919806160 => ?_) (fun hm919806160 => ?_)
  · refine x_lk (n := 66) dX3_line_11 rfl (by rw [hm919806160] <;> rfl) (by decide) ?_
    refine x_aload_nr 1 dX3_line_66 rfl rfl (n := 67) rfl ?_
    refine x_ldcS (j := 8) rfl dX3_line_67 (n := 69) rfl (fun x30 => ?_)
    refine x_callV_I [va_rf x30] [] (f_J6_equals_ok hO p4 b3 x30) rc_J6_equals md_J6_equals rfl q792 q793 q794 dX3_line_69 rfl rfl (by decide) (Nat.le_of_ble_eq_true rfl) (n := 72) rfl (fun x32 p31 => ?_)
    refine x_if_eq dX3_line_72 (t := 105) (by decide) (n := 75) rfl (fun _ => ?_) (fun _ => ?_)
    · refine x_sub [2, 0] [(0, .ref a0), (2, .int (-1))] rfl ?_
      exact f_X3_line_105_ok hO a0 (-1) p31
    · refine x_iconst 1 dX3_line_75 rfl (n := 76) rfl ?_
      refine x_istore_n [(2, .int 1), (1, .ref b3), (0, .ref a0)] dX3_line_76 rfl (by decide) rfl (n := 77) rfl ?_
      refine x_goto dX3_line_77 (n := 105) (by decide) ?_
      refine x_sub [2, 0] [(0, .ref a0), (2, .int 1)] rfl ?_
      exact f_X3_line_105_ok hO a0 1 p31
  refine x_ite (fun h102102 => ?_) (fun h102102 => ?_)
  · refine x_lk (n := 80) dX3_line_11 rfl (by rw [h102102] <;> rfl) (by decide) ?_
    refine x_aload_nr 1 dX3_line_80 rfl rfl (n := 81) rfl ?_
    refine x_ldcS (j := 9) rfl dX3_line_81 (n := 83) rfl (fun x33 => ?_)
    refine x_callV_I [va_rf x33] [] (f_J6_equals_ok hO p4 b3 x33) rc_J6_equals md_J6_equals rfl q792 q793 q794 dX3_line_83 rfl rfl (by decide) (Nat.le_of_ble_eq_true rfl) (n := 86) rfl (fun x35 p34 => ?_)
    refine x_if_eq dX3_line_86 (t := 105) (by decide) (n := 89) rfl (fun _ => ?_) (fun _ => ?_)
    · refine x_sub [2, 0] [(0, .ref a0), (2, .int (-1))] rfl ?_
      exact f_X3_line_105_ok hO a0 (-1) p34
    · refine x_iconst 2 dX3_line_89 rfl (n := 90) rfl ?_
      refine x_istore_n [(2, .int 2), (1, .ref b3), (0, .ref a0)] dX3_line_90 rfl (by decide) rfl (n := 91) rfl ?_
      refine x_goto dX3_line_91 (n := 105) (by decide) ?_
      refine x_sub [2, 0] [(0, .ref a0), (2, .int 2)] rfl ?_
      exact f_X3_line_105_ok hO a0 2 p34
  refine x_ite (fun h109518736 => ?_) (fun h109518736 => ?_)
  · refine x_lk (n := 94) dX3_line_11 rfl (by rw [h109518736] <;> rfl) (by decide) ?_
    refine x_aload_nr 1 dX3_line_94 rfl rfl (n := 95) rfl ?_
    refine x_ldcS (j := 10) rfl dX3_line_95 (n := 97) rfl (fun x36 => ?_)
    refine x_callV_I [va_rf x36] [] (f_J6_equals_ok hO p4 b3 x36) rc_J6_equals md_J6_equals rfl q792 q793 q794 dX3_line_97 rfl rfl (by decide) (Nat.le_of_ble_eq_true rfl) (n := 100) rfl (fun x38 p37 => ?_)
    refine x_if_eq dX3_line_100 (t := 105) (by decide) (n := 103) rfl (fun _ => ?_) (fun _ => ?_)
    · refine x_sub [2, 0] [(0, .ref a0), (2, .int (-1))] rfl ?_
      exact f_X3_line_105_ok hO a0 (-1) p37
    · refine x_iconst 3 dX3_line_103 rfl (n := 104) rfl ?_
      refine x_istore_n [(2, .int 3), (1, .ref b3), (0, .ref a0)] dX3_line_104 rfl (by decide) rfl (n := 105) rfl ?_
      refine x_sub [2, 0] [(0, .ref a0), (2, .int 3)] rfl ?_
      exact f_X3_line_105_ok hO a0 3 p37
  refine x_lk (n := 105) dX3_line_11 rfl (by show Op.lookupswitch.offset [((-1354571749), 41), ((-919806160), 55), (102102, 69), (109518736, 83)] 94 _ = 94; rw [lv_osw (a := (-1354571749)) hm1354571749 rfl]; rw [lv_osw (a := (-919806160)) hm919806160 rfl]; rw [lv_osw (a := 102102) h102102 rfl]; rw [lv_osw (a := 109518736) h109518736 rfl]; rfl) (by decide) ?_
  refine x_sub [2, 0] [(0, .ref a0), (2, .int (-1))] rfl ?_
  exact f_X3_line_105_ok hO a0 (-1) p4
abbrev cX3_read : ByteArray := prog_10_method_17_code
def yX3_read : MethodName := ⟨RX3, "read", "()LForestLegs$Meet;"⟩
def dkwX3_read_3 : List UInt8 := [182, 0, 76, 42, 180, 0, 18, 176]
abbrev dktX3_read_3 : List UInt8 := dkwX3_read_3 ++ []
def dkwX3_read_2 : List UInt8 := [42, 42, 180, 0, 18, 180, 0, 123, 185, 0, 166, 1, 0, 154, 0, 7, 4, 167, 0, 4, 3, 8]
abbrev dktX3_read_2 : List UInt8 := dkwX3_read_2 ++ dktX3_read_3
def dkwX3_read_1 : List UInt8 := [182, 0, 235, 167, 255, 239, 42, 42, 180, 0, 51, 4, 160, 0, 7, 4, 167, 0, 4, 3, 4, 182, 0, 76]
abbrev dktX3_read_1 : List UInt8 := dkwX3_read_1 ++ dktX3_read_2
def dkwX3_read_0 : List UInt8 := [42, 182, 0, 105, 42, 182, 0, 235, 42, 16, 59, 182, 0, 151, 153, 0, 14, 42, 182, 0, 105, 42]
abbrev dktX3_read_0 : List UInt8 := dkwX3_read_0 ++ dktX3_read_1
theorem dksX3_read_0 : cX3_read.data.toList.drop 0 = dktX3_read_0 := by decide +kernel
theorem dksX3_read_1 : cX3_read.data.toList.drop 22 = dktX3_read_1 := dk_seg dksX3_read_0 22 rfl rfl
theorem dksX3_read_2 : cX3_read.data.toList.drop 46 = dktX3_read_2 := dk_seg dksX3_read_1 24 rfl rfl
theorem dksX3_read_3 : cX3_read.data.toList.drop 68 = dktX3_read_3 := dk_seg dksX3_read_2 22 rfl rfl
theorem dX3_read_0 : decode cX3_read 0 = .ok (.aload_n 0, 1) := dk_42 (dk_at dksX3_read_0 0 rfl rfl)
theorem dX3_read_1 : decode cX3_read 1 = .ok (.invokevirtual 105, 3) := dk_182 0 105 (dk_at dksX3_read_0 1 rfl rfl)
theorem dX3_read_4 : decode cX3_read 4 = .ok (.aload_n 0, 1) := dk_42 (dk_at dksX3_read_0 4 rfl rfl)
theorem dX3_read_5 : decode cX3_read 5 = .ok (.invokevirtual 235, 3) := dk_182 0 235 (dk_at dksX3_read_0 5 rfl rfl)
theorem dX3_read_8 : decode cX3_read 8 = .ok (.aload_n 0, 1) := dk_42 (dk_at dksX3_read_0 8 rfl rfl)
theorem dX3_read_9 : decode cX3_read 9 = .ok (.bipush 59, 2) := dk_16 59 (dk_at dksX3_read_0 9 rfl rfl)
theorem dX3_read_11 : decode cX3_read 11 = .ok (.invokevirtual 151, 3) := dk_182 0 151 (dk_at dksX3_read_0 11 rfl rfl)
theorem dX3_read_14 : decode cX3_read 14 = .ok (.ifCond .eq 14, 3) := dk_153 0 14 (dk_at dksX3_read_0 14 rfl rfl)
theorem dX3_read_17 : decode cX3_read 17 = .ok (.aload_n 0, 1) := dk_42 (dk_at dksX3_read_0 17 rfl rfl)
theorem dX3_read_18 : decode cX3_read 18 = .ok (.invokevirtual 105, 3) := dk_182 0 105 (dk_at dksX3_read_0 18 rfl rfl)
theorem dX3_read_21 : decode cX3_read 21 = .ok (.aload_n 0, 1) := dk_42 (dk_at dksX3_read_0 21 rfl rfl)
theorem dX3_read_22 : decode cX3_read 22 = .ok (.invokevirtual 235, 3) := dk_182 0 235 (dk_at dksX3_read_1 0 rfl rfl)
theorem dX3_read_25 : decode cX3_read 25 = .ok (.goto (-17), 3) := dk_167 255 239 (dk_at dksX3_read_1 3 rfl rfl)
theorem dX3_read_28 : decode cX3_read 28 = .ok (.aload_n 0, 1) := dk_42 (dk_at dksX3_read_1 6 rfl rfl)
theorem dX3_read_29 : decode cX3_read 29 = .ok (.aload_n 0, 1) := dk_42 (dk_at dksX3_read_1 7 rfl rfl)
theorem dX3_read_30 : decode cX3_read 30 = .ok (.getfield 51, 3) := dk_180 0 51 (dk_at dksX3_read_1 8 rfl rfl)
theorem dX3_read_33 : decode cX3_read 33 = .ok (.iconst 1, 1) := dk_4 (dk_at dksX3_read_1 11 rfl rfl)
theorem dX3_read_34 : decode cX3_read 34 = .ok (.if_icmp .ne 7, 3) := dk_160 0 7 (dk_at dksX3_read_1 12 rfl rfl)
theorem dX3_read_37 : decode cX3_read 37 = .ok (.iconst 1, 1) := dk_4 (dk_at dksX3_read_1 15 rfl rfl)
theorem dX3_read_38 : decode cX3_read 38 = .ok (.goto 4, 3) := dk_167 0 4 (dk_at dksX3_read_1 16 rfl rfl)
theorem dX3_read_41 : decode cX3_read 41 = .ok (.iconst 0, 1) := dk_3 (dk_at dksX3_read_1 19 rfl rfl)
theorem dX3_read_42 : decode cX3_read 42 = .ok (.iconst 1, 1) := dk_4 (dk_at dksX3_read_1 20 rfl rfl)
theorem dX3_read_43 : decode cX3_read 43 = .ok (.invokevirtual 76, 3) := dk_182 0 76 (dk_at dksX3_read_1 21 rfl rfl)
theorem dX3_read_46 : decode cX3_read 46 = .ok (.aload_n 0, 1) := dk_42 (dk_at dksX3_read_2 0 rfl rfl)
theorem dX3_read_47 : decode cX3_read 47 = .ok (.aload_n 0, 1) := dk_42 (dk_at dksX3_read_2 1 rfl rfl)
theorem dX3_read_48 : decode cX3_read 48 = .ok (.getfield 18, 3) := dk_180 0 18 (dk_at dksX3_read_2 2 rfl rfl)
theorem dX3_read_51 : decode cX3_read 51 = .ok (.getfield 123, 3) := dk_180 0 123 (dk_at dksX3_read_2 5 rfl rfl)
theorem dX3_read_54 : decode cX3_read 54 = .ok (.invokeinterface 166 1, 5) := by decide +kernel
theorem dX3_read_59 : decode cX3_read 59 = .ok (.ifCond .ne 7, 3) := dk_154 0 7 (dk_at dksX3_read_2 13 rfl rfl)
theorem dX3_read_62 : decode cX3_read 62 = .ok (.iconst 1, 1) := dk_4 (dk_at dksX3_read_2 16 rfl rfl)
theorem dX3_read_63 : decode cX3_read 63 = .ok (.goto 4, 3) := dk_167 0 4 (dk_at dksX3_read_2 17 rfl rfl)
theorem dX3_read_66 : decode cX3_read 66 = .ok (.iconst 0, 1) := dk_3 (dk_at dksX3_read_2 20 rfl rfl)
theorem dX3_read_67 : decode cX3_read 67 = .ok (.iconst 5, 1) := dk_8 (dk_at dksX3_read_2 21 rfl rfl)
theorem dX3_read_68 : decode cX3_read 68 = .ok (.invokevirtual 76, 3) := dk_182 0 76 (dk_at dksX3_read_3 0 rfl rfl)
theorem dX3_read_71 : decode cX3_read 71 = .ok (.aload_n 0, 1) := dk_42 (dk_at dksX3_read_3 3 rfl rfl)
theorem dX3_read_72 : decode cX3_read 72 = .ok (.getfield 18, 3) := dk_180 0 18 (dk_at dksX3_read_3 4 rfl rfl)
theorem dX3_read_75 : decode cX3_read 75 = .ok (.areturn, 1) := dk_176 (dk_at dksX3_read_3 7 rfl rfl)
theorem md_X3_read : xMd yX3_read cX3_read 1 (Option.some (Jvm.ClassFile.FieldType.object "ForestLegs$Meet")) 0 := ⟨q386, q127, by decide, by decide +kernel, by decide +kernel, by decide +kernel⟩
def f_X3_read_67 (a0 : Nat)  (w1 : Int32) (p0 : PH) : Option (xO × PH) :=
  (xtV (f_X3_need p0 a0 w1 5) (fun p13 =>
  (xgR p13 a0 2 1 fun x14 =>
  (rR x14 p13))) rT)
def f_X3_read_42 (a0 : Nat)  (w1 : Int32) (p0 : PH) : Option (xO × PH) :=
  (xtV (f_X3_need p0 a0 w1 1) (fun p6 =>
  (xgR p6 a0 2 1 fun x7 =>
  (xnul x7 none fun b8 =>
  (xgR p6 b8 3 0 fun x9 =>
  (xnul x9 none fun b10 =>
  (xcI (f_J3_isEmpty p6 b10 ) fun x12 p11 =>
  (if x12 = 0 then
  (f_X3_read_67 a0 1 p11) else
  (f_X3_read_67 a0 0 p11)))))))) rT)
def f_X3_read_8F (a0 : Nat)  (k8 : PH → Option (xO × PH)) (p : PH) : Option (xO × PH) := match p with
  | p0 => (xcI (f_X3_isSign p0 a0 59) fun x4 p3 =>
  (if x4 = 0 then
  (xgI p3 a0 2 7 fun x5 =>
  (if x5 = 1 then
  (f_X3_read_42 a0 1 p3) else
  (f_X3_read_42 a0 0 p3))) else
  (xcV (f_X3_go p3 a0 ) fun p15 =>
  (xtV (f_X3_line p15 a0 ) (fun p16 =>
  (k8 p16)) rT))))
def f_X3_read (p0 : PH) (a0 : Nat) : Option (xO × PH) :=
  (xcl1 p0 a0 2 (xcV (f_X3_go p0 a0 ) fun p1 =>
  (xtV (f_X3_line p1 a0 ) (fun p2 =>
  (lp (f_X3_read_8F a0) FU p2)) rT)))
theorem rc_X3_read {p0 : PH} {a0 : Nat} : ∀ z, f_X3_read p0 a0 = some z → xco p0 a0 = some 2 := fun z h => xcl1_some h
theorem f_X3_read_67_ok {G : xG} (hO : xOK G) (a0 : Nat)  (w1 : Int32) (p0 : PH) : X G "ForestLegs$Reader" "read" cX3_read 1 (Option.some (Jvm.ClassFile.FieldType.object "ForestLegs$Meet")) 11 67 [(0, .ref a0)] [.int w1, .ref a0] p0 (f_X3_read_67 a0 w1 p0) := by
  unfold f_X3_read_67
  refine x_iconst 5 dX3_read_67 rfl (n := 68) rfl ?_
  refine x_callVT_V [.int w1, .int 5] [] (f_X3_need_ok hO p0 a0 w1 5) rc_X3_need md_X3_need rfl q499 q501 qs7 dX3_read_68 rfl rfl (by decide) (Nat.le_of_ble_eq_true rfl) (n := 71) rfl (fun p13 => ?_) (fun q P1 => xt_out (by decide +kernel))
  refine x_aload_nr 0 dX3_read_71 rfl rfl (n := 72) rfl ?_
  refine x_getR fl_X3_18 dX3_read_72 (n := 75) rfl (fun x14 => ?_)
  exact x_areturn (x := x14) (Or.inl ⟨_, rfl⟩) dX3_read_75
theorem f_X3_read_42_ok {G : xG} (hO : xOK G) (a0 : Nat)  (w1 : Int32) (p0 : PH) : X G "ForestLegs$Reader" "read" cX3_read 1 (Option.some (Jvm.ClassFile.FieldType.object "ForestLegs$Meet")) 11 42 [(0, .ref a0)] [.int w1, .ref a0] p0 (f_X3_read_42 a0 w1 p0) := by
  unfold f_X3_read_42
  refine x_iconst 1 dX3_read_42 rfl (n := 43) rfl ?_
  refine x_callVT_V [.int w1, .int 1] [] (f_X3_need_ok hO p0 a0 w1 1) rc_X3_need md_X3_need rfl q499 q501 qs7 dX3_read_43 rfl rfl (by decide) (Nat.le_of_ble_eq_true rfl) (n := 46) rfl (fun p6 => ?_) (fun q P1 => xt_out (by decide +kernel))
  refine x_aload_nr 0 dX3_read_46 rfl rfl (n := 47) rfl ?_
  refine x_aload_nr 0 dX3_read_47 rfl rfl (n := 48) rfl ?_
  refine x_getR fl_X3_18 dX3_read_48 (n := 51) rfl (fun x7 => ?_)
  refine x_sm (fun b8 e => ?_)
  subst e
  refine x_getR fl_X3_123 dX3_read_51 (n := 54) rfl (fun x9 => ?_)
  refine x_sm (fun b10 e => ?_)
  subst e
  refine x_callF_I [] [.ref a0] (f_J3_isEmpty_ok hO p6 b10 ) rc_J3_isEmpty md_J3_isEmpty rfl q1441 fc_java_util_ArrayList_java_util_List_isEmpty_0_Z dX3_read_54 rfl rfl (by decide) (Nat.le_of_ble_eq_true rfl) (n := 59) rfl (fun x12 p11 => ?_)
  refine x_if_ne dX3_read_59 (t := 66) (by decide) (n := 62) rfl (fun _ => ?_) (fun _ => ?_)
  · refine x_iconst 0 dX3_read_66 rfl (n := 67) rfl ?_
    exact f_X3_read_67_ok hO a0 0 p11
  · refine x_iconst 1 dX3_read_62 rfl (n := 63) rfl ?_
    refine x_goto dX3_read_63 (n := 67) (by decide) ?_
    exact f_X3_read_67_ok hO a0 1 p11
theorem f_X3_read_8F_ok {G : xG} (hO : xOK G) (a0 : Nat)  {k8 : PH → Option (xO × PH)} (hk8 : ∀  (p0 : PH), X G "ForestLegs$Reader" "read" cX3_read 1 (Option.some (Jvm.ClassFile.FieldType.object "ForestLegs$Meet")) 11 8 [(0, .ref a0)] [] p0 (k8 (p0)))  (p0 : PH) : X G "ForestLegs$Reader" "read" cX3_read 1 (Option.some (Jvm.ClassFile.FieldType.object "ForestLegs$Meet")) 11 8 [(0, .ref a0)] [] p0 (f_X3_read_8F a0 k8 p0) := by
  unfold f_X3_read_8F
  refine x_aload_nr 0 dX3_read_8 rfl rfl (n := 9) rfl ?_
  refine x_bipush 59 dX3_read_9 rfl (n := 11) rfl ?_
  refine x_callV_I [.int 59] [] (f_X3_isSign_ok hO p0 a0 59) rc_X3_isSign md_X3_isSign rfl q1302 q1304 qs16 dX3_read_11 rfl rfl (by decide) (Nat.le_of_ble_eq_true rfl) (n := 14) rfl (fun x4 p3 => ?_)
  refine x_if_eq dX3_read_14 (t := 28) (by decide) (n := 17) rfl (fun _ => ?_) (fun _ => ?_)
  · refine x_aload_nr 0 dX3_read_28 rfl rfl (n := 29) rfl ?_
    refine x_aload_nr 0 dX3_read_29 rfl rfl (n := 30) rfl ?_
    refine x_getI fl_X3_51 dX3_read_30 (n := 33) rfl (fun x5 => ?_)
    refine x_iconst 1 dX3_read_33 rfl (n := 34) rfl ?_
    refine x_icmp_ne dX3_read_34 (t := 41) (by decide) (n := 37) rfl (fun _ => ?_) (fun _ => ?_)
    · refine x_iconst 0 dX3_read_41 rfl (n := 42) rfl ?_
      exact f_X3_read_42_ok hO a0 0 p3
    · refine x_iconst 1 dX3_read_37 rfl (n := 38) rfl ?_
      refine x_goto dX3_read_38 (n := 42) (by decide) ?_
      exact f_X3_read_42_ok hO a0 1 p3
  · refine x_aload_nr 0 dX3_read_17 rfl rfl (n := 18) rfl ?_
    refine x_callV_V [] [] (f_X3_go_ok hO p3 a0 ) rc_X3_go md_X3_go rfl q387 q389 qs1 dX3_read_18 rfl rfl (by decide) (Nat.le_of_ble_eq_true rfl) (n := 21) rfl (fun p15 => ?_)
    refine x_aload_nr 0 dX3_read_21 rfl rfl (n := 22) rfl ?_
    refine x_callVT_V [] [] (f_X3_line_ok hO p15 a0 ) rc_X3_line md_X3_line rfl q491 q493 qs5 dX3_read_22 rfl rfl (by decide) (Nat.le_of_ble_eq_true rfl) (n := 25) rfl (fun p16 => ?_) (fun q P1 => xt_out (by decide +kernel))
    refine x_goto dX3_read_25 (n := 8) (by decide) ?_
    exact hk8  p16
theorem f_X3_read_8_lp {G : xG} (hO : xOK G) (a0 : Nat)  (n : Nat)  (p0 : PH) : X G "ForestLegs$Reader" "read" cX3_read 1 (Option.some (Jvm.ClassFile.FieldType.object "ForestLegs$Meet")) 11 8 [(0, .ref a0)] [] p0 (lp (f_X3_read_8F a0) n p0) :=
  lp_ok (W := fun p K => X G "ForestLegs$Reader" "read" cX3_read 1 (Option.some (Jvm.ClassFile.FieldType.object "ForestLegs$Meet")) 11 8 [(0, .ref a0)] [] p K) (fun _ => x_no) (fun k hk => fun p0 => f_X3_read_8F_ok hO a0 (fun  p0 => hk p0)  p0) n p0
theorem f_X3_read_ok {G : xG} (hO : xOK G) (p0 : PH) (a0 : Nat) : CT G 11 yX3_read cX3_read 1 (Option.some (Jvm.ClassFile.FieldType.object "ForestLegs$Meet")) [.ref a0] p0 (f_X3_read p0 a0) := by
  refine CT_of hO (by decide +kernel) (by decide +kernel) (Nat.le_of_ble_eq_true rfl) ?_
  show X G "ForestLegs$Reader" "read" cX3_read 1 (Option.some (Jvm.ClassFile.FieldType.object "ForestLegs$Meet")) 11 0 [(0, .ref a0)] [] p0 (f_X3_read p0 a0)
  refine x_cl1 (fun e0 => ?_)
  refine x_aload_nr 0 dX3_read_0 rfl rfl (n := 1) rfl ?_
  refine x_callV_V [] [] (f_X3_go_ok hO p0 a0 ) rc_X3_go md_X3_go rfl q387 q389 qs1 dX3_read_1 rfl rfl (by decide) (Nat.le_of_ble_eq_true rfl) (n := 4) rfl (fun p1 => ?_)
  refine x_aload_nr 0 dX3_read_4 rfl rfl (n := 5) rfl ?_
  refine x_callVT_V [] [] (f_X3_line_ok hO p1 a0 ) rc_X3_line md_X3_line rfl q491 q493 qs5 dX3_read_5 rfl rfl (by decide) (Nat.le_of_ble_eq_true rfl) (n := 8) rfl (fun p2 => ?_) (fun q P1 => xt_out (by decide +kernel))
  exact f_X3_read_8_lp hO a0 FU  p2
abbrev cJ1_circularClear : ByteArray := prog_45_method_54_code
def yJ1_circularClear : MethodName := ⟨RJ1, "circularClear", "([Ljava/lang/Object;II)V"⟩
def dkwJ1_circularClear_1 : List UInt8 := [167, 255, 244, 29, 28, 160, 0, 6, 167, 0, 10, 3, 60, 28, 62, 167, 255, 229, 177]
abbrev dktJ1_circularClear_1 : List UInt8 := dkwJ1_circularClear_1 ++ []
def dkwJ1_circularClear_0 : List UInt8 := [27, 28, 163, 0, 7, 28, 167, 0, 5, 42, 190, 62, 27, 29, 162, 0, 13, 42, 27, 1, 83, 132, 1, 1]
abbrev dktJ1_circularClear_0 : List UInt8 := dkwJ1_circularClear_0 ++ dktJ1_circularClear_1
theorem dksJ1_circularClear_0 : cJ1_circularClear.data.toList.drop 0 = dktJ1_circularClear_0 := by decide +kernel
theorem dksJ1_circularClear_1 : cJ1_circularClear.data.toList.drop 24 = dktJ1_circularClear_1 := dk_seg dksJ1_circularClear_0 24 rfl rfl
theorem dJ1_circularClear_0 : decode cJ1_circularClear 0 = .ok (.iload_n 1, 1) := dk_27 (dk_at dksJ1_circularClear_0 0 rfl rfl)
theorem dJ1_circularClear_1 : decode cJ1_circularClear 1 = .ok (.iload_n 2, 1) := dk_28 (dk_at dksJ1_circularClear_0 1 rfl rfl)
theorem dJ1_circularClear_2 : decode cJ1_circularClear 2 = .ok (.if_icmp .gt 7, 3) := dk_163 0 7 (dk_at dksJ1_circularClear_0 2 rfl rfl)
theorem dJ1_circularClear_5 : decode cJ1_circularClear 5 = .ok (.iload_n 2, 1) := dk_28 (dk_at dksJ1_circularClear_0 5 rfl rfl)
theorem dJ1_circularClear_6 : decode cJ1_circularClear 6 = .ok (.goto 5, 3) := dk_167 0 5 (dk_at dksJ1_circularClear_0 6 rfl rfl)
theorem dJ1_circularClear_9 : decode cJ1_circularClear 9 = .ok (.aload_n 0, 1) := dk_42 (dk_at dksJ1_circularClear_0 9 rfl rfl)
theorem dJ1_circularClear_10 : decode cJ1_circularClear 10 = .ok (.arraylength, 1) := dk_190 (dk_at dksJ1_circularClear_0 10 rfl rfl)
theorem dJ1_circularClear_11 : decode cJ1_circularClear 11 = .ok (.istore_n 3, 1) := dk_62 (dk_at dksJ1_circularClear_0 11 rfl rfl)
theorem dJ1_circularClear_12 : decode cJ1_circularClear 12 = .ok (.iload_n 1, 1) := dk_27 (dk_at dksJ1_circularClear_0 12 rfl rfl)
theorem dJ1_circularClear_13 : decode cJ1_circularClear 13 = .ok (.iload_n 3, 1) := dk_29 (dk_at dksJ1_circularClear_0 13 rfl rfl)
theorem dJ1_circularClear_14 : decode cJ1_circularClear 14 = .ok (.if_icmp .ge 13, 3) := dk_162 0 13 (dk_at dksJ1_circularClear_0 14 rfl rfl)
theorem dJ1_circularClear_17 : decode cJ1_circularClear 17 = .ok (.aload_n 0, 1) := dk_42 (dk_at dksJ1_circularClear_0 17 rfl rfl)
theorem dJ1_circularClear_18 : decode cJ1_circularClear 18 = .ok (.iload_n 1, 1) := dk_27 (dk_at dksJ1_circularClear_0 18 rfl rfl)
theorem dJ1_circularClear_19 : decode cJ1_circularClear 19 = .ok (.aconst_null, 1) := dk_1 (dk_at dksJ1_circularClear_0 19 rfl rfl)
theorem dJ1_circularClear_20 : decode cJ1_circularClear 20 = .ok (.aastore, 1) := dk_83 (dk_at dksJ1_circularClear_0 20 rfl rfl)
theorem dJ1_circularClear_21 : decode cJ1_circularClear 21 = .ok (.iinc 1 1, 3) := dk_132 1 1 (dk_at dksJ1_circularClear_0 21 rfl rfl)
theorem dJ1_circularClear_24 : decode cJ1_circularClear 24 = .ok (.goto (-12), 3) := dk_167 255 244 (dk_at dksJ1_circularClear_1 0 rfl rfl)
theorem dJ1_circularClear_27 : decode cJ1_circularClear 27 = .ok (.iload_n 3, 1) := dk_29 (dk_at dksJ1_circularClear_1 3 rfl rfl)
theorem dJ1_circularClear_28 : decode cJ1_circularClear 28 = .ok (.iload_n 2, 1) := dk_28 (dk_at dksJ1_circularClear_1 4 rfl rfl)
theorem dJ1_circularClear_29 : decode cJ1_circularClear 29 = .ok (.if_icmp .ne 6, 3) := dk_160 0 6 (dk_at dksJ1_circularClear_1 5 rfl rfl)
theorem dJ1_circularClear_32 : decode cJ1_circularClear 32 = .ok (.goto 10, 3) := dk_167 0 10 (dk_at dksJ1_circularClear_1 8 rfl rfl)
theorem dJ1_circularClear_35 : decode cJ1_circularClear 35 = .ok (.iconst 0, 1) := dk_3 (dk_at dksJ1_circularClear_1 11 rfl rfl)
theorem dJ1_circularClear_36 : decode cJ1_circularClear 36 = .ok (.istore_n 1, 1) := dk_60 (dk_at dksJ1_circularClear_1 12 rfl rfl)
theorem dJ1_circularClear_37 : decode cJ1_circularClear 37 = .ok (.iload_n 2, 1) := dk_28 (dk_at dksJ1_circularClear_1 13 rfl rfl)
theorem dJ1_circularClear_38 : decode cJ1_circularClear 38 = .ok (.istore_n 3, 1) := dk_62 (dk_at dksJ1_circularClear_1 14 rfl rfl)
theorem dJ1_circularClear_39 : decode cJ1_circularClear 39 = .ok (.goto (-27), 3) := dk_167 255 229 (dk_at dksJ1_circularClear_1 15 rfl rfl)
theorem dJ1_circularClear_42 : decode cJ1_circularClear 42 = .ok (.return_, 1) := dk_177 (dk_at dksJ1_circularClear_1 18 rfl rfl)
theorem md_J1_circularClear : xMd yJ1_circularClear cJ1_circularClear 4 (Option.none : Option Jvm.ClassFile.FieldType) 3 := ⟨q1477, q125, by decide, by decide +kernel, by decide +kernel, by decide +kernel⟩
def f_J1_circularClear_12F   (k12 : Option Nat × Int32 × Int32 × Int32 × PH → Option (xO × PH)) (p : Option Nat × Int32 × Int32 × Int32 × PH) : Option (xO × PH) := match p with
  | (v0, v1, v2, v3, p0) => (if v3 ≤ v1 then
  (if v3 = v2 then
  (rV p0) else
  (k12 (v0, 0, v2, v2, p0))) else
  (xnul v0 none fun b3 =>
  (xsR p0 b3 4 v1 (none) fun p4 =>
  (bnd (v1 + 1) fun x5 =>
  (k12 (((some b3)), x5, v2, v3, p4))))))
def f_J1_circularClear_11   (v0 : Option Nat) (v1 : Int32) (v2 : Int32) (w0 : Int32) (p0 : PH) : Option (xO × PH) :=
  (lp (f_J1_circularClear_12F) FU (v0, v1, v2, w0, p0))
def f_J1_circularClear (p0 : PH) (a0 : Option Nat) (a1 : Int32) (a2 : Int32) : Option (xO × PH) :=
  (if a2 < a1 then
  (xnul a0 none fun b1 =>
  (xlen p0 b1 fun x2 =>
  (f_J1_circularClear_11 ((some b1)) a1 a2 x2 p0))) else
  (f_J1_circularClear_11 a0 a1 a2 a2 p0))
theorem f_J1_circularClear_12F_ok {G : xG} (hO : xOK G)   {k12 : Option Nat × Int32 × Int32 × Int32 × PH → Option (xO × PH)} (hk12 : ∀ (v0 : Option Nat) (v1 : Int32) (v2 : Int32) (v3 : Int32) (p0 : PH), X G "java/util/ArrayDeque" "circularClear" cJ1_circularClear 4 (Option.none : Option Jvm.ClassFile.FieldType) 0 12 [(0, va_rf v0), (1, .int v1), (2, .int v2), (3, .int v3)] [] p0 (k12 (v0, v1, v2, v3, p0))) (v0 : Option Nat) (v1 : Int32) (v2 : Int32) (v3 : Int32) (p0 : PH) : X G "java/util/ArrayDeque" "circularClear" cJ1_circularClear 4 (Option.none : Option Jvm.ClassFile.FieldType) 0 12 [(0, va_rf v0), (1, .int v1), (2, .int v2), (3, .int v3)] [] p0 (f_J1_circularClear_12F k12 (v0, v1, v2, v3, p0)) := by
  unfold f_J1_circularClear_12F
  refine x_iload_n 1 dJ1_circularClear_12 rfl rfl (n := 13) rfl ?_
  refine x_iload_n 3 dJ1_circularClear_13 rfl rfl (n := 14) rfl ?_
  refine x_icmp_ge dJ1_circularClear_14 (t := 27) (by decide) (n := 17) rfl (fun _ => ?_) (fun _ => ?_)
  · refine x_iload_n 3 dJ1_circularClear_27 rfl rfl (n := 28) rfl ?_
    refine x_iload_n 2 dJ1_circularClear_28 rfl rfl (n := 29) rfl ?_
    refine x_icmp_ne dJ1_circularClear_29 (t := 35) (by decide) (n := 32) rfl (fun _ => ?_) (fun _ => ?_)
    · refine x_iconst 0 dJ1_circularClear_35 rfl (n := 36) rfl ?_
      refine x_istore_n [(1, .int 0), (0, va_rf v0), (2, .int v2), (3, .int v3)] dJ1_circularClear_36 rfl (by decide) (by simp only [xst, List.filter_cons, List.filter_nil, xcat] <;> rfl) (n := 37) rfl ?_
      refine x_iload_n 2 dJ1_circularClear_37 rfl rfl (n := 38) rfl ?_
      refine x_istore_n [(3, .int v2), (1, .int 0), (0, va_rf v0), (2, .int v2)] dJ1_circularClear_38 rfl (by decide) rfl (n := 39) rfl ?_
      refine x_goto dJ1_circularClear_39 (n := 12) (by decide) ?_
      refine x_sub [2, 1, 3, 0] [(0, va_rf v0), (1, .int 0), (2, .int v2), (3, .int v2)] rfl ?_
      exact hk12 v0 0 v2 v2 p0
    · refine x_goto dJ1_circularClear_32 (n := 42) (by decide) ?_
      exact x_return dJ1_circularClear_42
  · refine x_aload_n 0 dJ1_circularClear_17 rfl rfl (n := 18) rfl ?_
    refine x_iload_n 1 dJ1_circularClear_18 rfl rfl (n := 19) rfl ?_
    refine x_null dJ1_circularClear_19 (n := 20) rfl ?_
    refine x_sm (fun b3 e => ?_)
    subst e
    refine x_aast (t := 4) (x := none) rfl (by decide) dJ1_circularClear_20 (n := 21) rfl (fun p4 => ?_)
    refine x_iincB 1 (fun x5 => [(1, .int x5), (0, .ref b3), (2, .int v2), (3, .int v3)]) dJ1_circularClear_21 rfl rfl (by decide) (fun _ => rfl) (n := 24) rfl (fun x5 => ?_)
    refine x_goto dJ1_circularClear_24 (n := 12) (by decide) ?_
    refine x_sub [1, 0, 2, 3] [(0, .ref b3), (1, .int x5), (2, .int v2), (3, .int v3)] rfl ?_
    exact hk12 ((some b3)) x5 v2 v3 p4
theorem f_J1_circularClear_12_lp {G : xG} (hO : xOK G)   (n : Nat) (v0 : Option Nat) (v1 : Int32) (v2 : Int32) (v3 : Int32) (p0 : PH) : X G "java/util/ArrayDeque" "circularClear" cJ1_circularClear 4 (Option.none : Option Jvm.ClassFile.FieldType) 0 12 [(0, va_rf v0), (1, .int v1), (2, .int v2), (3, .int v3)] [] p0 (lp (f_J1_circularClear_12F) n (v0, v1, v2, v3, p0)) :=
  lp_ok (W := fun p K => X G "java/util/ArrayDeque" "circularClear" cJ1_circularClear 4 (Option.none : Option Jvm.ClassFile.FieldType) 0 12 [(0, va_rf p.1), (1, .int p.2.1), (2, .int p.2.2.1), (3, .int p.2.2.2.1)] [] p.2.2.2.2 K) (fun _ => x_no) (fun k hk => fun (v0, v1, v2, v3, p0) => f_J1_circularClear_12F_ok hO (fun v0 v1 v2 v3 p0 => hk (v0, v1, v2, v3, p0)) v0 v1 v2 v3 p0) n (v0, v1, v2, v3, p0)
theorem f_J1_circularClear_11_ok {G : xG} (hO : xOK G)   (v0 : Option Nat) (v1 : Int32) (v2 : Int32) (w0 : Int32) (p0 : PH) : X G "java/util/ArrayDeque" "circularClear" cJ1_circularClear 4 (Option.none : Option Jvm.ClassFile.FieldType) 0 11 [(0, va_rf v0), (1, .int v1), (2, .int v2)] [.int w0] p0 (f_J1_circularClear_11 v0 v1 v2 w0 p0) := by
  unfold f_J1_circularClear_11
  refine x_istore_n [(3, .int w0), (0, va_rf v0), (1, .int v1), (2, .int v2)] dJ1_circularClear_11 rfl (by decide) rfl (n := 12) rfl ?_
  refine x_sub [1, 2, 3, 0] [(0, va_rf v0), (1, .int v1), (2, .int v2), (3, .int w0)] rfl ?_
  exact f_J1_circularClear_12_lp hO FU v0 v1 v2 w0 p0
theorem f_J1_circularClear_ok {G : xG} (hO : xOK G) (p0 : PH) (a0 : Option Nat) (a1 : Int32) (a2 : Int32) : CT G 0 yJ1_circularClear cJ1_circularClear 4 (Option.none : Option Jvm.ClassFile.FieldType) [va_rf a0, .int a1, .int a2] p0 (f_J1_circularClear p0 a0 a1 a2) := by
  refine CT_of hO (by decide +kernel) (by decide +kernel) (lg_slen _ (by simp only [List.map, xcat]; exact Nat.le_of_ble_eq_true rfl)) ?_
  rw [show lv_args 0 [va_rf a0, .int a1, .int a2] = [(0, va_rf a0), (1, .int a1), (2, .int a2)] from by simp only [lv_args, xcat] <;> rfl]
  show X G "java/util/ArrayDeque" "circularClear" cJ1_circularClear 4 (Option.none : Option Jvm.ClassFile.FieldType) 0 0 [(0, va_rf a0), (1, .int a1), (2, .int a2)] [] p0 (f_J1_circularClear p0 a0 a1 a2)
  refine x_iload_n 1 dJ1_circularClear_0 rfl rfl (n := 1) rfl ?_
  refine x_iload_n 2 dJ1_circularClear_1 rfl rfl (n := 2) rfl ?_
  refine x_icmp_gt dJ1_circularClear_2 (t := 9) (by decide) (n := 5) rfl (fun _ => ?_) (fun _ => ?_)
  · refine x_aload_n 0 dJ1_circularClear_9 rfl rfl (n := 10) rfl ?_
    refine x_sm (fun b1 e => ?_)
    subst e
    refine x_alen dJ1_circularClear_10 (n := 11) rfl (fun x2 => ?_)
    exact f_J1_circularClear_11_ok hO ((some b1)) a1 a2 x2 p0
  · refine x_iload_n 2 dJ1_circularClear_5 rfl rfl (n := 6) rfl ?_
    refine x_goto dJ1_circularClear_6 (n := 11) (by decide) ?_
    exact f_J1_circularClear_11_ok hO a0 a1 a2 a2 p0
abbrev cJ1_clear : ByteArray := prog_45_method_53_code
def yJ1_clear : MethodName := ⟨RJ1, "clear", "()V"⟩
def dkwJ1_clear_1 : List UInt8 := [181, 0, 24, 177]
abbrev dktJ1_clear_1 : List UInt8 := dkwJ1_clear_1 ++ []
def dkwJ1_clear_0 : List UInt8 := [42, 180, 0, 3, 42, 180, 0, 24, 42, 180, 0, 20, 184, 0, 181, 42, 42, 3, 90, 181, 0, 20]
abbrev dktJ1_clear_0 : List UInt8 := dkwJ1_clear_0 ++ dktJ1_clear_1
theorem dksJ1_clear_0 : cJ1_clear.data.toList.drop 0 = dktJ1_clear_0 := by decide +kernel
theorem dksJ1_clear_1 : cJ1_clear.data.toList.drop 22 = dktJ1_clear_1 := dk_seg dksJ1_clear_0 22 rfl rfl
theorem dJ1_clear_0 : decode cJ1_clear 0 = .ok (.aload_n 0, 1) := dk_42 (dk_at dksJ1_clear_0 0 rfl rfl)
theorem dJ1_clear_1 : decode cJ1_clear 1 = .ok (.getfield 3, 3) := dk_180 0 3 (dk_at dksJ1_clear_0 1 rfl rfl)
theorem dJ1_clear_4 : decode cJ1_clear 4 = .ok (.aload_n 0, 1) := dk_42 (dk_at dksJ1_clear_0 4 rfl rfl)
theorem dJ1_clear_5 : decode cJ1_clear 5 = .ok (.getfield 24, 3) := dk_180 0 24 (dk_at dksJ1_clear_0 5 rfl rfl)
theorem dJ1_clear_8 : decode cJ1_clear 8 = .ok (.aload_n 0, 1) := dk_42 (dk_at dksJ1_clear_0 8 rfl rfl)
theorem dJ1_clear_9 : decode cJ1_clear 9 = .ok (.getfield 20, 3) := dk_180 0 20 (dk_at dksJ1_clear_0 9 rfl rfl)
theorem dJ1_clear_12 : decode cJ1_clear 12 = .ok (.invokestatic 181, 3) := dk_184 0 181 (dk_at dksJ1_clear_0 12 rfl rfl)
theorem dJ1_clear_15 : decode cJ1_clear 15 = .ok (.aload_n 0, 1) := dk_42 (dk_at dksJ1_clear_0 15 rfl rfl)
theorem dJ1_clear_16 : decode cJ1_clear 16 = .ok (.aload_n 0, 1) := dk_42 (dk_at dksJ1_clear_0 16 rfl rfl)
theorem dJ1_clear_17 : decode cJ1_clear 17 = .ok (.iconst 0, 1) := dk_3 (dk_at dksJ1_clear_0 17 rfl rfl)
theorem dJ1_clear_18 : decode cJ1_clear 18 = .ok (.dup_x1, 1) := dk_90 (dk_at dksJ1_clear_0 18 rfl rfl)
theorem dJ1_clear_19 : decode cJ1_clear 19 = .ok (.putfield 20, 3) := dk_181 0 20 (dk_at dksJ1_clear_0 19 rfl rfl)
theorem dJ1_clear_22 : decode cJ1_clear 22 = .ok (.putfield 24, 3) := dk_181 0 24 (dk_at dksJ1_clear_1 0 rfl rfl)
theorem dJ1_clear_25 : decode cJ1_clear 25 = .ok (.return_, 1) := dk_177 (dk_at dksJ1_clear_1 3 rfl rfl)
theorem md_J1_clear : xMd yJ1_clear cJ1_clear 1 (Option.none : Option Jvm.ClassFile.FieldType) 0 := ⟨q1474, q125, by decide, by decide +kernel, by decide +kernel, by decide +kernel⟩
def f_J1_clear (p0 : PH) (a0 : Nat) : Option (xO × PH) :=
  (xcl1 p0 a0 13 (xgR p0 a0 13 0 fun x1 =>
  (xgI p0 a0 13 1 fun x2 =>
  (xgI p0 a0 13 2 fun x3 =>
  (xcV (f_J1_circularClear p0 x1 x2 x3) fun p4 =>
  (xpF p4 a0 13 2 (.int 0) fun p5 =>
  (xpF p5 a0 13 1 (.int 0) fun p6 =>
  (rV p6))))))))
theorem rc_J1_clear {p0 : PH} {a0 : Nat} : ∀ z, f_J1_clear p0 a0 = some z → xco p0 a0 = some 13 := fun z h => xcl1_some h
theorem f_J1_clear_ok {G : xG} (hO : xOK G) (p0 : PH) (a0 : Nat) : CT G 1 yJ1_clear cJ1_clear 1 (Option.none : Option Jvm.ClassFile.FieldType) [.ref a0] p0 (f_J1_clear p0 a0) := by
  refine CT_of hO (by decide +kernel) (by decide +kernel) (Nat.le_of_ble_eq_true rfl) ?_
  show X G "java/util/ArrayDeque" "clear" cJ1_clear 1 (Option.none : Option Jvm.ClassFile.FieldType) 1 0 [(0, .ref a0)] [] p0 (f_J1_clear p0 a0)
  refine x_cl1 (fun e0 => ?_)
  refine x_aload_nr 0 dJ1_clear_0 rfl rfl (n := 1) rfl ?_
  refine x_getR fl_J1_3 dJ1_clear_1 (n := 4) rfl (fun x1 => ?_)
  refine x_aload_nr 0 dJ1_clear_4 rfl rfl (n := 5) rfl ?_
  refine x_getI fl_J1_24 dJ1_clear_5 (n := 8) rfl (fun x2 => ?_)
  refine x_aload_nr 0 dJ1_clear_8 rfl rfl (n := 9) rfl ?_
  refine x_getI fl_J1_20 dJ1_clear_9 (n := 12) rfl (fun x3 => ?_)
  refine x_callS_V [va_rf x1, .int x2, .int x3] [] (f_J1_circularClear_ok hO p0 x1 x2 x3) md_J1_circularClear q1475 q1476 dJ1_clear_12 rfl rfl (by decide) (Nat.le_of_ble_eq_true rfl) (n := 15) rfl (fun p4 => ?_)
  refine x_aload_nr 0 dJ1_clear_15 rfl rfl (n := 16) rfl ?_
  refine x_aload_nr 0 dJ1_clear_16 rfl rfl (n := 17) rfl ?_
  refine x_iconst 0 dJ1_clear_17 rfl (n := 18) rfl ?_
  refine x_dup_x1 dJ1_clear_18 rfl rfl (n := 19) rfl ?_
  refine x_pF (pl_J1_20 _ _ ⟨rfl, rfl⟩) dJ1_clear_19 (n := 22) rfl (fun p5 => ?_)
  refine x_pF (pl_J1_24 _ _ ⟨rfl, rfl⟩) dJ1_clear_22 (n := 25) rfl (fun p6 => ?_)
  exact x_return dJ1_clear_25
abbrev cX1_fine : ByteArray := prog_1_method_4_code
def yX1_fine : MethodName := ⟨RX1, "fine", "(I)I"⟩
def dkwX1_fine_0 : List UInt8 := [42, 3, 181, 0, 7, 42, 2, 181, 0, 11, 27, 172]
abbrev dktX1_fine_0 : List UInt8 := dkwX1_fine_0 ++ []
theorem dksX1_fine_0 : cX1_fine.data.toList.drop 0 = dktX1_fine_0 := by decide +kernel
theorem dX1_fine_0 : decode cX1_fine 0 = .ok (.aload_n 0, 1) := dk_42 (dk_at dksX1_fine_0 0 rfl rfl)
theorem dX1_fine_1 : decode cX1_fine 1 = .ok (.iconst 0, 1) := dk_3 (dk_at dksX1_fine_0 1 rfl rfl)
theorem dX1_fine_2 : decode cX1_fine 2 = .ok (.putfield 7, 3) := dk_181 0 7 (dk_at dksX1_fine_0 2 rfl rfl)
theorem dX1_fine_5 : decode cX1_fine 5 = .ok (.aload_n 0, 1) := dk_42 (dk_at dksX1_fine_0 5 rfl rfl)
theorem dX1_fine_6 : decode cX1_fine 6 = .ok (.iconst (-1), 1) := dk_2 (dk_at dksX1_fine_0 6 rfl rfl)
theorem dX1_fine_7 : decode cX1_fine 7 = .ok (.putfield 11, 3) := dk_181 0 11 (dk_at dksX1_fine_0 7 rfl rfl)
theorem dX1_fine_10 : decode cX1_fine 10 = .ok (.iload_n 1, 1) := dk_27 (dk_at dksX1_fine_0 10 rfl rfl)
theorem dX1_fine_11 : decode cX1_fine 11 = .ok (.ireturn, 1) := dk_172 (dk_at dksX1_fine_0 11 rfl rfl)
theorem md_X1_fine : xMd yX1_fine cX1_fine 2 (Option.some Jvm.ClassFile.FieldType.int) 1 := ⟨q1483, q123, by decide, by decide +kernel, by decide +kernel, by decide +kernel⟩
def f_X1_fine (p0 : PH) (a0 : Nat) (a1 : Int32) : Option (xO × PH) :=
  (xcl1 p0 a0 0 (xpF p0 a0 0 0 (.int 0) fun p1 =>
  (xpF p1 a0 0 1 (.int (-1)) fun p2 =>
  (rI a1 p2))))
theorem rc_X1_fine {p0 : PH} {a0 : Nat} {a1 : Int32} : ∀ z, f_X1_fine p0 a0 a1 = some z → xco p0 a0 = some 0 := fun z h => xcl1_some h
theorem f_X1_fine_ok {G : xG} (hO : xOK G) (p0 : PH) (a0 : Nat) (a1 : Int32) : CT G 0 yX1_fine cX1_fine 2 (Option.some Jvm.ClassFile.FieldType.int) [.ref a0, .int a1] p0 (f_X1_fine p0 a0 a1) := by
  refine CT_of hO (by decide +kernel) (by decide +kernel) (Nat.le_of_ble_eq_true rfl) ?_
  show X G "ForestLegs" "fine" cX1_fine 2 (Option.some Jvm.ClassFile.FieldType.int) 0 0 [(0, .ref a0), (1, .int a1)] [] p0 (f_X1_fine p0 a0 a1)
  refine x_cl1 (fun e0 => ?_)
  refine x_aload_nr 0 dX1_fine_0 rfl rfl (n := 1) rfl ?_
  refine x_iconst 0 dX1_fine_1 rfl (n := 2) rfl ?_
  refine x_pF (pl_X1_7 _ _ ⟨rfl, rfl⟩) dX1_fine_2 (n := 5) rfl (fun p1 => ?_)
  refine x_aload_nr 0 dX1_fine_5 rfl rfl (n := 6) rfl ?_
  refine x_iconst (-1) dX1_fine_6 rfl (n := 7) rfl ?_
  refine x_pF (pl_X1_11 _ _ ⟨rfl, rfl⟩) dX1_fine_7 (n := 10) rfl (fun p2 => ?_)
  refine x_iload_n 1 dX1_fine_10 rfl rfl (n := 11) rfl ?_
  exact x_ireturn dX1_fine_11
abbrev cX1_text : ByteArray := prog_1_method_7_code
def yX1_text : MethodName := ⟨RX1, "text", "(I)I"⟩
def dkwX1_text_3 : List UInt8 := [42, 180, 0, 29, 182, 0, 68, 42, 42, 180, 0, 56, 180, 0, 71, 185, 0, 77, 1, 0, 182, 0, 83, 172]
abbrev dktX1_text_3 : List UInt8 := dkwX1_text_3 ++ []
def dkwX1_text_2 : List UInt8 := [42, 44, 180, 0, 62, 181, 0, 44, 42, 7, 182, 0, 40, 87, 42, 44, 180, 0, 65, 181, 0, 11, 2, 172]
abbrev dktX1_text_2 : List UInt8 := dkwX1_text_2 ++ dktX1_text_3
def dkwX1_text_1 : List UInt8 := [3, 181, 0, 44, 42, 187, 0, 47, 89, 42, 27, 183, 0, 49, 182, 0, 52, 181, 0, 56, 167, 0, 28, 77]
abbrev dktX1_text_1 : List UInt8 := dkwX1_text_1 ++ dktX1_text_2
def dkwX1_text_0 : List UInt8 := [27, 3, 42, 180, 0, 33, 184, 0, 36, 154, 0, 9, 42, 5, 182, 0, 40, 172, 42, 3, 181, 0, 33, 42]
abbrev dktX1_text_0 : List UInt8 := dkwX1_text_0 ++ dktX1_text_1
theorem dksX1_text_0 : cX1_text.data.toList.drop 0 = dktX1_text_0 := by decide +kernel
theorem dksX1_text_1 : cX1_text.data.toList.drop 24 = dktX1_text_1 := dk_seg dksX1_text_0 24 rfl rfl
theorem dksX1_text_2 : cX1_text.data.toList.drop 48 = dktX1_text_2 := dk_seg dksX1_text_1 24 rfl rfl
theorem dksX1_text_3 : cX1_text.data.toList.drop 72 = dktX1_text_3 := dk_seg dksX1_text_2 24 rfl rfl
theorem dX1_text_0 : decode cX1_text 0 = .ok (.iload_n 1, 1) := dk_27 (dk_at dksX1_text_0 0 rfl rfl)
theorem dX1_text_1 : decode cX1_text 1 = .ok (.iconst 0, 1) := dk_3 (dk_at dksX1_text_0 1 rfl rfl)
theorem dX1_text_2 : decode cX1_text 2 = .ok (.aload_n 0, 1) := dk_42 (dk_at dksX1_text_0 2 rfl rfl)
theorem dX1_text_3 : decode cX1_text 3 = .ok (.getfield 33, 3) := dk_180 0 33 (dk_at dksX1_text_0 3 rfl rfl)
theorem dX1_text_6 : decode cX1_text 6 = .ok (.invokestatic 36, 3) := dk_184 0 36 (dk_at dksX1_text_0 6 rfl rfl)
theorem dX1_text_9 : decode cX1_text 9 = .ok (.ifCond .ne 9, 3) := dk_154 0 9 (dk_at dksX1_text_0 9 rfl rfl)
theorem dX1_text_12 : decode cX1_text 12 = .ok (.aload_n 0, 1) := dk_42 (dk_at dksX1_text_0 12 rfl rfl)
theorem dX1_text_13 : decode cX1_text 13 = .ok (.iconst 2, 1) := dk_5 (dk_at dksX1_text_0 13 rfl rfl)
theorem dX1_text_14 : decode cX1_text 14 = .ok (.invokevirtual 40, 3) := dk_182 0 40 (dk_at dksX1_text_0 14 rfl rfl)
theorem dX1_text_17 : decode cX1_text 17 = .ok (.ireturn, 1) := dk_172 (dk_at dksX1_text_0 17 rfl rfl)
theorem dX1_text_18 : decode cX1_text 18 = .ok (.aload_n 0, 1) := dk_42 (dk_at dksX1_text_0 18 rfl rfl)
theorem dX1_text_19 : decode cX1_text 19 = .ok (.iconst 0, 1) := dk_3 (dk_at dksX1_text_0 19 rfl rfl)
theorem dX1_text_20 : decode cX1_text 20 = .ok (.putfield 33, 3) := dk_181 0 33 (dk_at dksX1_text_0 20 rfl rfl)
theorem dX1_text_23 : decode cX1_text 23 = .ok (.aload_n 0, 1) := dk_42 (dk_at dksX1_text_0 23 rfl rfl)
theorem dX1_text_24 : decode cX1_text 24 = .ok (.iconst 0, 1) := dk_3 (dk_at dksX1_text_1 0 rfl rfl)
theorem dX1_text_25 : decode cX1_text 25 = .ok (.putfield 44, 3) := dk_181 0 44 (dk_at dksX1_text_1 1 rfl rfl)
theorem dX1_text_28 : decode cX1_text 28 = .ok (.aload_n 0, 1) := dk_42 (dk_at dksX1_text_1 4 rfl rfl)
theorem dX1_text_29 : decode cX1_text 29 = .ok (.new 47, 3) := dk_187 0 47 (dk_at dksX1_text_1 5 rfl rfl)
theorem dX1_text_32 : decode cX1_text 32 = .ok (.dup, 1) := dk_89 (dk_at dksX1_text_1 8 rfl rfl)
theorem dX1_text_33 : decode cX1_text 33 = .ok (.aload_n 0, 1) := dk_42 (dk_at dksX1_text_1 9 rfl rfl)
theorem dX1_text_34 : decode cX1_text 34 = .ok (.iload_n 1, 1) := dk_27 (dk_at dksX1_text_1 10 rfl rfl)
theorem dX1_text_35 : decode cX1_text 35 = .ok (.invokespecial 49, 3) := dk_183 0 49 (dk_at dksX1_text_1 11 rfl rfl)
theorem dX1_text_38 : decode cX1_text 38 = .ok (.invokevirtual 52, 3) := dk_182 0 52 (dk_at dksX1_text_1 14 rfl rfl)
theorem dX1_text_41 : decode cX1_text 41 = .ok (.putfield 56, 3) := dk_181 0 56 (dk_at dksX1_text_1 17 rfl rfl)
theorem dX1_text_44 : decode cX1_text 44 = .ok (.goto 28, 3) := dk_167 0 28 (dk_at dksX1_text_1 20 rfl rfl)
theorem dX1_text_47 : decode cX1_text 47 = .ok (.astore_n 2, 1) := dk_77 (dk_at dksX1_text_1 23 rfl rfl)
theorem dX1_text_48 : decode cX1_text 48 = .ok (.aload_n 0, 1) := dk_42 (dk_at dksX1_text_2 0 rfl rfl)
theorem dX1_text_49 : decode cX1_text 49 = .ok (.aload_n 2, 1) := dk_44 (dk_at dksX1_text_2 1 rfl rfl)
theorem dX1_text_50 : decode cX1_text 50 = .ok (.getfield 62, 3) := dk_180 0 62 (dk_at dksX1_text_2 2 rfl rfl)
theorem dX1_text_53 : decode cX1_text 53 = .ok (.putfield 44, 3) := dk_181 0 44 (dk_at dksX1_text_2 5 rfl rfl)
theorem dX1_text_56 : decode cX1_text 56 = .ok (.aload_n 0, 1) := dk_42 (dk_at dksX1_text_2 8 rfl rfl)
theorem dX1_text_57 : decode cX1_text 57 = .ok (.iconst 4, 1) := dk_7 (dk_at dksX1_text_2 9 rfl rfl)
theorem dX1_text_58 : decode cX1_text 58 = .ok (.invokevirtual 40, 3) := dk_182 0 40 (dk_at dksX1_text_2 10 rfl rfl)
theorem dX1_text_61 : decode cX1_text 61 = .ok (.pop, 1) := dk_87 (dk_at dksX1_text_2 13 rfl rfl)
theorem dX1_text_62 : decode cX1_text 62 = .ok (.aload_n 0, 1) := dk_42 (dk_at dksX1_text_2 14 rfl rfl)
theorem dX1_text_63 : decode cX1_text 63 = .ok (.aload_n 2, 1) := dk_44 (dk_at dksX1_text_2 15 rfl rfl)
theorem dX1_text_64 : decode cX1_text 64 = .ok (.getfield 65, 3) := dk_180 0 65 (dk_at dksX1_text_2 16 rfl rfl)
theorem dX1_text_67 : decode cX1_text 67 = .ok (.putfield 11, 3) := dk_181 0 11 (dk_at dksX1_text_2 19 rfl rfl)
theorem dX1_text_70 : decode cX1_text 70 = .ok (.iconst (-1), 1) := dk_2 (dk_at dksX1_text_2 22 rfl rfl)
theorem dX1_text_71 : decode cX1_text 71 = .ok (.ireturn, 1) := dk_172 (dk_at dksX1_text_2 23 rfl rfl)
theorem dX1_text_72 : decode cX1_text 72 = .ok (.aload_n 0, 1) := dk_42 (dk_at dksX1_text_3 0 rfl rfl)
theorem dX1_text_73 : decode cX1_text 73 = .ok (.getfield 29, 3) := dk_180 0 29 (dk_at dksX1_text_3 1 rfl rfl)
theorem dX1_text_76 : decode cX1_text 76 = .ok (.invokevirtual 68, 3) := dk_182 0 68 (dk_at dksX1_text_3 4 rfl rfl)
theorem dX1_text_79 : decode cX1_text 79 = .ok (.aload_n 0, 1) := dk_42 (dk_at dksX1_text_3 7 rfl rfl)
theorem dX1_text_80 : decode cX1_text 80 = .ok (.aload_n 0, 1) := dk_42 (dk_at dksX1_text_3 8 rfl rfl)
theorem dX1_text_81 : decode cX1_text 81 = .ok (.getfield 56, 3) := dk_180 0 56 (dk_at dksX1_text_3 9 rfl rfl)
theorem dX1_text_84 : decode cX1_text 84 = .ok (.getfield 71, 3) := dk_180 0 71 (dk_at dksX1_text_3 12 rfl rfl)
theorem dX1_text_87 : decode cX1_text 87 = .ok (.invokeinterface 77 1, 5) := by decide +kernel
theorem dX1_text_92 : decode cX1_text 92 = .ok (.invokevirtual 83, 3) := dk_182 0 83 (dk_at dksX1_text_3 20 rfl rfl)
theorem dX1_text_95 : decode cX1_text 95 = .ok (.ireturn, 1) := dk_172 (dk_at dksX1_text_3 23 rfl rfl)
theorem md_X1_text : xMdW yX1_text cX1_text 3 (Option.some Jvm.ClassFile.FieldType.int) [((28 : Nat), (44 : Nat), (47 : Nat), (60 : Nat))] 1 := ⟨q245, q123, by decide, by decide +kernel, by decide +kernel, by decide +kernel⟩
def f_X1_text (p0 : PH) (a0 : Nat) (a1 : Int32) : Option (xO × PH) :=
  (xcl1 p0 a0 0 (xgI p0 a0 0 3 fun x1 =>
  (xcI (f_X1_isIn p0 a1 0 x1) fun x3 p2 =>
  (if x3 = 0 then
  (xcI (f_X1_refused p2 a0 2) fun x30 p29 =>
  (rI x30 p29)) else
  (xpF p2 a0 0 3 (.int 0) fun p4 =>
  (xpF p4 a0 0 4 (.int 0) fun p5 =>
  (xnew p5 2 [.int 0, .null, .null, .int 0, .int 0, .int 0, .int 0, .int 0, .int 0, .null] fun b6 p7 =>
  (xcV (f_X3_init p7 b6 (some a0) a1) fun p8 =>
  (xtR (f_X3_read p8 b6 ) (fun x10 p9 =>
  (xpF p9 a0 0 5 (va_rf x10) fun p11 =>
  (xgR p11 a0 0 6 fun x12 =>
  (xnul x12 none fun b13 =>
  (xcV (f_J1_clear p11 b13 ) fun p14 =>
  (xgR p14 a0 0 5 fun x15 =>
  (xnul x15 none fun b16 =>
  (xgR p14 b16 3 1 fun x17 =>
  (xnul x17 none fun b18 =>
  (xcI (f_J3_size p14 b18 ) fun x20 p19 =>
  (xcI (f_X1_fine p19 a0 x20) fun x22 p21 =>
  (rI x22 p21)))))))))))) fun q0 s9 => xcl1 s9 q0 4 (xgI s9 q0 4 6 fun x23 =>
  (xpF s9 a0 0 4 (.int x23) fun p24 =>
  (xcI (f_X1_refused p24 a0 4) fun x26 p25 =>
  (xgI p25 q0 4 7 fun x27 =>
  (xpF p25 a0 0 1 (.int x27) fun p28 =>
  (rI (-1) p28)))))))))))))))
theorem rc_X1_text {p0 : PH} {a0 : Nat} {a1 : Int32} : ∀ z, f_X1_text p0 a0 a1 = some z → xco p0 a0 = some 0 := fun z h => xcl1_some h
theorem f_X1_text_ok {G : xG} (hO : xOK G) (p0 : PH) (a0 : Nat) (a1 : Int32) : CTW G 12 yX1_text cX1_text 3 (Option.some Jvm.ClassFile.FieldType.int) [((28 : Nat), (44 : Nat), (47 : Nat), (60 : Nat))] [.ref a0, .int a1] p0 (f_X1_text p0 a0 a1) := by
  refine CTW_of hO (by decide +kernel) (by decide +kernel) (Nat.le_of_ble_eq_true rfl) ?_
  show X G "ForestLegs" "text" cX1_text 3 (Option.some Jvm.ClassFile.FieldType.int) 12 0 [(0, .ref a0), (1, .int a1)] [] p0 (f_X1_text p0 a0 a1)
  refine x_cl1 (fun e0 => ?_)
  refine x_iload_n 1 dX1_text_0 rfl rfl (n := 1) rfl ?_
  refine x_iconst 0 dX1_text_1 rfl (n := 2) rfl ?_
  refine x_aload_nr 0 dX1_text_2 rfl rfl (n := 3) rfl ?_
  refine x_getI fl_X1_33 dX1_text_3 (n := 6) rfl (fun x1 => ?_)
  refine x_callS_I [.int a1, .int 0, .int x1] [] (f_X1_isIn_ok hO p0 a1 0 x1) md_X1_isIn q247 q248 dX1_text_6 rfl rfl (by decide) (Nat.le_of_ble_eq_true rfl) (n := 9) rfl (fun x3 p2 => ?_)
  refine x_if_ne dX1_text_9 (t := 18) (by decide) (n := 12) rfl (fun _ => ?_) (fun _ => ?_)
  · refine x_aload_nr 0 dX1_text_18 rfl rfl (n := 19) rfl ?_
    refine x_iconst 0 dX1_text_19 rfl (n := 20) rfl ?_
    refine x_pF (pl_X1_33 _ _ ⟨rfl, rfl⟩) dX1_text_20 (n := 23) rfl (fun p4 => ?_)
    refine x_aload_nr 0 dX1_text_23 rfl rfl (n := 24) rfl ?_
    refine x_iconst 0 dX1_text_24 rfl (n := 25) rfl ?_
    refine x_pF (pl_X1_44 _ _ ⟨rfl, rfl⟩) dX1_text_25 (n := 28) rfl (fun p5 => ?_)
    refine x_aload_nr 0 dX1_text_28 rfl rfl (n := 29) rfl ?_
    refine x_new cl_2 (by decide) q254 q255 q127 rfl dX1_text_29 (n := 32) rfl (fun b6 p7 => ?_)
    refine x_dup dX1_text_32 rfl (n := 33) rfl ?_
    refine x_aload_nr 0 dX1_text_33 rfl rfl (n := 34) rfl ?_
    refine x_iload_n 1 dX1_text_34 rfl rfl (n := 35) rfl ?_
    refine x_callI_V [.ref a0, .int a1] [.ref b6, .ref a0] (f_X3_init_ok hO p7 b6 (some a0) a1) md_X3_init rfl q256 q257 dX1_text_35 rfl rfl (by decide) (Nat.le_of_ble_eq_true rfl) (n := 38) rfl (fun p8 => ?_)
    refine x_callVT_R [] [.ref a0] (f_X3_read_ok hO p8 b6 ) rc_X3_read md_X3_read rfl q383 q384 q385 dX1_text_38 rfl rfl (by decide) (Nat.le_of_ble_eq_true rfl) (n := 41) rfl (fun x10 p9 => ?_) (fun q0 s9 => ?_)
    refine x_pF (pl_X1_56 _ _ (xfit_o (x10))) dX1_text_41 (n := 44) rfl (fun p11 => ?_)
    refine x_goto dX1_text_44 (n := 72) (by decide) ?_
    refine x_aload_nr 0 dX1_text_72 rfl rfl (n := 73) rfl ?_
    refine x_getR fl_X1_29 dX1_text_73 (n := 76) rfl (fun x12 => ?_)
    refine x_sm (fun b13 e => ?_)
    subst e
    refine x_callV_V [] [] (f_J1_clear_ok hO p11 b13 ) rc_J1_clear md_J1_clear rfl q1471 q1472 q1473 dX1_text_76 rfl rfl (by decide) (Nat.le_of_ble_eq_true rfl) (n := 79) rfl (fun p14 => ?_)
    refine x_aload_nr 0 dX1_text_79 rfl rfl (n := 80) rfl ?_
    refine x_aload_nr 0 dX1_text_80 rfl rfl (n := 81) rfl ?_
    refine x_getR fl_X1_56 dX1_text_81 (n := 84) rfl (fun x15 => ?_)
    refine x_sm (fun b16 e => ?_)
    subst e
    refine x_getR fl_X1_71 dX1_text_84 (n := 87) rfl (fun x17 => ?_)
    refine x_sm (fun b18 e => ?_)
    subst e
    refine x_callF_I [] [.ref a0] (f_J3_size_ok hO p14 b18 ) rc_J3_size md_J3_size rfl q1479 fc_java_util_ArrayList_java_util_List_size_0_I dX1_text_87 rfl rfl (by decide) (Nat.le_of_ble_eq_true rfl) (n := 92) rfl (fun x20 p19 => ?_)
    refine x_callV_I [.int x20] [] (f_X1_fine_ok hO p19 a0 x20) rc_X1_fine md_X1_fine rfl q1480 q1482 qs26 dX1_text_92 rfl rfl (by decide) (Nat.le_of_ble_eq_true rfl) (n := 95) rfl (fun x22 p21 => ?_)
    exact x_ireturn dX1_text_95
    refine x_caught rfl (by decide) (by decide) rfl q246 (Or.inl rfl) ?_
    refine x_astore_nr [(2, .ref q0), (0, .ref a0), (1, .int a1)] dX1_text_47 rfl (by decide) rfl (n := 48) rfl ?_
    refine x_aload_nr 1 dX1_text_48 rfl rfl (n := 49) rfl ?_
    refine x_aload_nr 0 dX1_text_49 rfl rfl (n := 50) rfl ?_
    refine x_getI fl_X1_62 dX1_text_50 (n := 53) rfl (fun x23 => ?_)
    refine x_pF (pl_X1_44 _ _ ⟨rfl, rfl⟩) dX1_text_53 (n := 56) rfl (fun p24 => ?_)
    refine x_aload_nr 1 dX1_text_56 rfl rfl (n := 57) rfl ?_
    refine x_iconst 4 dX1_text_57 rfl (n := 58) rfl ?_
    refine x_callV_I [.int 4] [] (f_X1_refused_ok hO p24 a0 4) rc_X1_refused md_X1_refused rfl q250 q252 qs0 dX1_text_58 rfl rfl (by decide) (Nat.le_of_ble_eq_true rfl) (n := 61) rfl (fun x26 p25 => ?_)
    refine x_pop dX1_text_61 rfl (n := 62) rfl ?_
    refine x_aload_nr 1 dX1_text_62 rfl rfl (n := 63) rfl ?_
    refine x_aload_nr 0 dX1_text_63 rfl rfl (n := 64) rfl ?_
    refine x_getI fl_X1_65 dX1_text_64 (n := 67) rfl (fun x27 => ?_)
    refine x_pF (pl_X1_11 _ _ ⟨rfl, rfl⟩) dX1_text_67 (n := 70) rfl (fun p28 => ?_)
    refine x_iconst (-1) dX1_text_70 rfl (n := 71) rfl ?_
    exact x_ireturn dX1_text_71
  · refine x_aload_nr 0 dX1_text_12 rfl rfl (n := 13) rfl ?_
    refine x_iconst 2 dX1_text_13 rfl (n := 14) rfl ?_
    refine x_callV_I [.int 2] [] (f_X1_refused_ok hO p2 a0 2) rc_X1_refused md_X1_refused rfl q250 q252 qs0 dX1_text_14 rfl rfl (by decide) (Nat.le_of_ble_eq_true rfl) (n := 17) rfl (fun x30 p29 => ?_)
    exact x_ireturn dX1_text_17
abbrev cX1_fault : ByteArray := prog_1_method_8_code
def yX1_fault : MethodName := ⟨RX1, "fault", "()I"⟩
theorem dX1_fault_0 : decode cX1_fault 0 = .ok (.aload_n 0, 1) := by decide +kernel
theorem dX1_fault_1 : decode cX1_fault 1 = .ok (.getfield 44, 3) := by decide +kernel
theorem dX1_fault_4 : decode cX1_fault 4 = .ok (.ireturn, 1) := by decide +kernel
theorem md_X1_fault : xMd yX1_fault cX1_fault 1 (Option.some Jvm.ClassFile.FieldType.int) 0 := ⟨q1487, q123, by decide, by decide +kernel, by decide +kernel, by decide +kernel⟩
def f_X1_fault (p0 : PH) (a0 : Nat) : Option (xO × PH) :=
  (xcl1 p0 a0 0 (xgI p0 a0 0 4 fun x1 =>
  (rI x1 p0)))
theorem rc_X1_fault {p0 : PH} {a0 : Nat} : ∀ z, f_X1_fault p0 a0 = some z → xco p0 a0 = some 0 := fun z h => xcl1_some h
theorem f_X1_fault_ok {G : xG} (hO : xOK G) (p0 : PH) (a0 : Nat) : CT G 0 yX1_fault cX1_fault 1 (Option.some Jvm.ClassFile.FieldType.int) [.ref a0] p0 (f_X1_fault p0 a0) := by
  refine CT_of hO (by decide +kernel) (by decide +kernel) (Nat.le_of_ble_eq_true rfl) ?_
  show X G "ForestLegs" "fault" cX1_fault 1 (Option.some Jvm.ClassFile.FieldType.int) 0 0 [(0, .ref a0)] [] p0 (f_X1_fault p0 a0)
  refine x_cl1 (fun e0 => ?_)
  refine x_aload_nr 0 dX1_fault_0 rfl rfl (n := 1) rfl ?_
  refine x_getI fl_X1_44 dX1_fault_1 (n := 4) rfl (fun x1 => ?_)
  exact x_ireturn dX1_fault_4
abbrev cX1_where : ByteArray := prog_1_method_9_code
def yX1_where : MethodName := ⟨RX1, "where", "()I"⟩
theorem dX1_where_0 : decode cX1_where 0 = .ok (.aload_n 0, 1) := by decide +kernel
theorem dX1_where_1 : decode cX1_where 1 = .ok (.getfield 11, 3) := by decide +kernel
theorem dX1_where_4 : decode cX1_where 4 = .ok (.ireturn, 1) := by decide +kernel
theorem md_X1_where : xMd yX1_where cX1_where 1 (Option.some Jvm.ClassFile.FieldType.int) 0 := ⟨q1491, q123, by decide, by decide +kernel, by decide +kernel, by decide +kernel⟩
def f_X1_where (p0 : PH) (a0 : Nat) : Option (xO × PH) :=
  (xcl1 p0 a0 0 (xgI p0 a0 0 1 fun x1 =>
  (rI x1 p0)))
theorem rc_X1_where {p0 : PH} {a0 : Nat} : ∀ z, f_X1_where p0 a0 = some z → xco p0 a0 = some 0 := fun z h => xcl1_some h
theorem f_X1_where_ok {G : xG} (hO : xOK G) (p0 : PH) (a0 : Nat) : CT G 0 yX1_where cX1_where 1 (Option.some Jvm.ClassFile.FieldType.int) [.ref a0] p0 (f_X1_where p0 a0) := by
  refine CT_of hO (by decide +kernel) (by decide +kernel) (Nat.le_of_ble_eq_true rfl) ?_
  show X G "ForestLegs" "where" cX1_where 1 (Option.some Jvm.ClassFile.FieldType.int) 0 0 [(0, .ref a0)] [] p0 (f_X1_where p0 a0)
  refine x_cl1 (fun e0 => ?_)
  refine x_aload_nr 0 dX1_where_0 rfl rfl (n := 1) rfl ?_
  refine x_getI fl_X1_11 dX1_where_1 (n := 4) rfl (fun x1 => ?_)
  exact x_ireturn dX1_where_4
abbrev cX9_isOf : ByteArray := prog_6_method_2_code
def yX9_isOf : MethodName := ⟨RX9, "isOf", "(II)Z"⟩
def dkwX9_isOf_1 : List UInt8 := [182, 0, 61, 160, 0, 7, 4, 167, 0, 4, 3, 172]
abbrev dktX9_isOf_1 : List UInt8 := dkwX9_isOf_1 ++ []
def dkwX9_isOf_0 : List UInt8 := [42, 180, 0, 9, 180, 0, 19, 28, 185, 0, 51, 2, 0, 192, 0, 55, 180, 0, 57, 42, 180, 0, 15, 27]
abbrev dktX9_isOf_0 : List UInt8 := dkwX9_isOf_0 ++ dktX9_isOf_1
theorem dksX9_isOf_0 : cX9_isOf.data.toList.drop 0 = dktX9_isOf_0 := by decide +kernel
theorem dksX9_isOf_1 : cX9_isOf.data.toList.drop 24 = dktX9_isOf_1 := dk_seg dksX9_isOf_0 24 rfl rfl
theorem dX9_isOf_0 : decode cX9_isOf 0 = .ok (.aload_n 0, 1) := dk_42 (dk_at dksX9_isOf_0 0 rfl rfl)
theorem dX9_isOf_1 : decode cX9_isOf 1 = .ok (.getfield 9, 3) := dk_180 0 9 (dk_at dksX9_isOf_0 1 rfl rfl)
theorem dX9_isOf_4 : decode cX9_isOf 4 = .ok (.getfield 19, 3) := dk_180 0 19 (dk_at dksX9_isOf_0 4 rfl rfl)
theorem dX9_isOf_7 : decode cX9_isOf 7 = .ok (.iload_n 2, 1) := dk_28 (dk_at dksX9_isOf_0 7 rfl rfl)
theorem dX9_isOf_8 : decode cX9_isOf 8 = .ok (.invokeinterface 51 2, 5) := by decide +kernel
theorem dX9_isOf_13 : decode cX9_isOf 13 = .ok (.checkcast 55, 3) := dk_192 0 55 (dk_at dksX9_isOf_0 13 rfl rfl)
theorem dX9_isOf_16 : decode cX9_isOf 16 = .ok (.getfield 57, 3) := dk_180 0 57 (dk_at dksX9_isOf_0 16 rfl rfl)
theorem dX9_isOf_19 : decode cX9_isOf 19 = .ok (.aload_n 0, 1) := dk_42 (dk_at dksX9_isOf_0 19 rfl rfl)
theorem dX9_isOf_20 : decode cX9_isOf 20 = .ok (.getfield 15, 3) := dk_180 0 15 (dk_at dksX9_isOf_0 20 rfl rfl)
theorem dX9_isOf_23 : decode cX9_isOf 23 = .ok (.iload_n 1, 1) := dk_27 (dk_at dksX9_isOf_0 23 rfl rfl)
theorem dX9_isOf_24 : decode cX9_isOf 24 = .ok (.invokevirtual 61, 3) := dk_182 0 61 (dk_at dksX9_isOf_1 0 rfl rfl)
theorem dX9_isOf_27 : decode cX9_isOf 27 = .ok (.if_icmp .ne 7, 3) := dk_160 0 7 (dk_at dksX9_isOf_1 3 rfl rfl)
theorem dX9_isOf_30 : decode cX9_isOf 30 = .ok (.iconst 1, 1) := dk_4 (dk_at dksX9_isOf_1 6 rfl rfl)
theorem dX9_isOf_31 : decode cX9_isOf 31 = .ok (.goto 4, 3) := dk_167 0 4 (dk_at dksX9_isOf_1 7 rfl rfl)
theorem dX9_isOf_34 : decode cX9_isOf 34 = .ok (.iconst 0, 1) := dk_3 (dk_at dksX9_isOf_1 10 rfl rfl)
theorem dX9_isOf_35 : decode cX9_isOf 35 = .ok (.ireturn, 1) := dk_172 (dk_at dksX9_isOf_1 11 rfl rfl)
theorem md_X9_isOf : xMd yX9_isOf cX9_isOf 3 (Option.some Jvm.ClassFile.FieldType.boolean) 2 := ⟨q1530, q158, by decide, by decide +kernel, by decide +kernel, by decide +kernel⟩
def f_X9_isOf (p0 : PH) (a0 : Nat) (a1 : Int32) (a2 : Int32) : Option (xO × PH) :=
  (xcl1 p0 a0 8 (xgR p0 a0 8 0 fun x1 =>
  (xnul x1 none fun b2 =>
  (xgR p0 b2 6 4 fun x3 =>
  (xnul x3 none fun b4 =>
  (xcR (f_J3_get p0 b4 a2) fun x6 p5 =>
  (xcst p5 (x6) [7]
  (xnul x6 none fun b7 =>
  (xgI p5 b7 7 0 fun x8 =>
  (xgR p5 a0 8 1 fun x9 =>
  (xnul x9 none fun b10 =>
  (xcI (f_X6_code p5 b10 a1) fun x12 p11 =>
  (if x8 = x12 then
  (if vp_nar .boolean 1 = 1 then rI 1 p11 else none) else
  (if vp_nar .boolean 0 = 0 then rI 0 p11 else none))))))))))))))
theorem rc_X9_isOf {p0 : PH} {a0 : Nat} {a1 : Int32} {a2 : Int32} : ∀ z, f_X9_isOf p0 a0 a1 a2 = some z → xco p0 a0 = some 8 := fun z h => xcl1_some h
theorem f_X9_isOf_ok {G : xG} (hO : xOK G) (p0 : PH) (a0 : Nat) (a1 : Int32) (a2 : Int32) : CT G 4 yX9_isOf cX9_isOf 3 (Option.some Jvm.ClassFile.FieldType.boolean) [.ref a0, .int a1, .int a2] p0 (f_X9_isOf p0 a0 a1 a2) := by
  refine CT_of hO (by decide +kernel) (by decide +kernel) (Nat.le_of_ble_eq_true rfl) ?_
  show X G "ForestLegs$Match" "isOf" cX9_isOf 3 (Option.some Jvm.ClassFile.FieldType.boolean) 4 0 [(0, .ref a0), (1, .int a1), (2, .int a2)] [] p0 (f_X9_isOf p0 a0 a1 a2)
  refine x_cl1 (fun e0 => ?_)
  refine x_aload_nr 0 dX9_isOf_0 rfl rfl (n := 1) rfl ?_
  refine x_getR fl_X9_9 dX9_isOf_1 (n := 4) rfl (fun x1 => ?_)
  refine x_sm (fun b2 e => ?_)
  subst e
  refine x_getR fl_X9_19 dX9_isOf_4 (n := 7) rfl (fun x3 => ?_)
  refine x_iload_n 2 dX9_isOf_7 rfl rfl (n := 8) rfl ?_
  refine x_sm (fun b4 e => ?_)
  subst e
  refine x_callF_R [.int a2] [] (f_J3_get_ok hO p0 b4 a2) rc_J3_get md_J3_get rfl q1532 fc_java_util_ArrayList_java_util_List_get_1_ILjava dX9_isOf_8 rfl rfl (by decide) (Nat.le_of_ble_eq_true rfl) (n := 13) rfl (fun x6 p5 => ?_)
  refine x_cast (x := x6) (cs := [7]) q1533 cst_ForestLegs_Punch dX9_isOf_13 (n := 16) rfl ?_
  refine x_sm (fun b7 e => ?_)
  subst e
  refine x_getI fl_X9_57 dX9_isOf_16 (n := 19) rfl (fun x8 => ?_)
  refine x_aload_nr 0 dX9_isOf_19 rfl rfl (n := 20) rfl ?_
  refine x_getR fl_X9_15 dX9_isOf_20 (n := 23) rfl (fun x9 => ?_)
  refine x_iload_n 1 dX9_isOf_23 rfl rfl (n := 24) rfl ?_
  refine x_sm (fun b10 e => ?_)
  subst e
  refine x_callV_I [.int a1] [.int x8] (f_X6_code_ok hO p5 b10 a1) rc_X6_code md_X6_code rfl q1534 q1205 q1206 dX9_isOf_24 rfl rfl (by decide) (Nat.le_of_ble_eq_true rfl) (n := 27) rfl (fun x12 p11 => ?_)
  refine x_icmp_ne dX9_isOf_27 (t := 34) (by decide) (n := 30) rfl (fun _ => ?_) (fun _ => ?_)
  · refine x_iconst 0 dX9_isOf_34 rfl (n := 35) rfl ?_
    exact x_nreturn rfl dX9_isOf_35
  · refine x_iconst 1 dX9_isOf_30 rfl (n := 31) rfl ?_
    refine x_goto dX9_isOf_31 (n := 35) (by decide) ?_
    exact x_nreturn rfl dX9_isOf_35
abbrev cX9_mostFrom : ByteArray := prog_6_method_3_code
def yX9_mostFrom : MethodName := ⟨RX9, "mostFrom", "(III)I"⟩
def dkwX9_mostFrom_2 : List UInt8 := [96, 184, 0, 64, 54, 4, 132, 5, 1, 167, 255, 215, 21, 4, 172]
abbrev dktX9_mostFrom_2 : List UInt8 := dkwX9_mostFrom_2 ++ []
def dkwX9_mostFrom_1 : List UInt8 := [21, 5, 182, 0, 47, 153, 0, 25, 21, 4, 4, 42, 180, 0, 40, 27, 4, 96, 50, 21, 5, 4, 96, 46]
abbrev dktX9_mostFrom_1 : List UInt8 := dkwX9_mostFrom_1 ++ dktX9_mostFrom_2
def dkwX9_mostFrom_0 : List UInt8 := [42, 180, 0, 40, 27, 4, 96, 50, 28, 46, 54, 4, 28, 54, 5, 21, 5, 29, 162, 0, 41, 42, 27]
abbrev dktX9_mostFrom_0 : List UInt8 := dkwX9_mostFrom_0 ++ dktX9_mostFrom_1
theorem dksX9_mostFrom_0 : cX9_mostFrom.data.toList.drop 0 = dktX9_mostFrom_0 := by decide +kernel
theorem dksX9_mostFrom_1 : cX9_mostFrom.data.toList.drop 23 = dktX9_mostFrom_1 := dk_seg dksX9_mostFrom_0 23 rfl rfl
theorem dksX9_mostFrom_2 : cX9_mostFrom.data.toList.drop 47 = dktX9_mostFrom_2 := dk_seg dksX9_mostFrom_1 24 rfl rfl
theorem dX9_mostFrom_0 : decode cX9_mostFrom 0 = .ok (.aload_n 0, 1) := dk_42 (dk_at dksX9_mostFrom_0 0 rfl rfl)
theorem dX9_mostFrom_1 : decode cX9_mostFrom 1 = .ok (.getfield 40, 3) := dk_180 0 40 (dk_at dksX9_mostFrom_0 1 rfl rfl)
theorem dX9_mostFrom_4 : decode cX9_mostFrom 4 = .ok (.iload_n 1, 1) := dk_27 (dk_at dksX9_mostFrom_0 4 rfl rfl)
theorem dX9_mostFrom_5 : decode cX9_mostFrom 5 = .ok (.iconst 1, 1) := dk_4 (dk_at dksX9_mostFrom_0 5 rfl rfl)
theorem dX9_mostFrom_6 : decode cX9_mostFrom 6 = .ok (.iadd, 1) := dk_96 (dk_at dksX9_mostFrom_0 6 rfl rfl)
theorem dX9_mostFrom_7 : decode cX9_mostFrom 7 = .ok (.aaload, 1) := dk_50 (dk_at dksX9_mostFrom_0 7 rfl rfl)
theorem dX9_mostFrom_8 : decode cX9_mostFrom 8 = .ok (.iload_n 2, 1) := dk_28 (dk_at dksX9_mostFrom_0 8 rfl rfl)
theorem dX9_mostFrom_9 : decode cX9_mostFrom 9 = .ok (.iaload, 1) := dk_46 (dk_at dksX9_mostFrom_0 9 rfl rfl)
theorem dX9_mostFrom_10 : decode cX9_mostFrom 10 = .ok (.istore 4, 2) := dk_54 4 (dk_at dksX9_mostFrom_0 10 rfl rfl)
theorem dX9_mostFrom_12 : decode cX9_mostFrom 12 = .ok (.iload_n 2, 1) := dk_28 (dk_at dksX9_mostFrom_0 12 rfl rfl)
theorem dX9_mostFrom_13 : decode cX9_mostFrom 13 = .ok (.istore 5, 2) := dk_54 5 (dk_at dksX9_mostFrom_0 13 rfl rfl)
theorem dX9_mostFrom_15 : decode cX9_mostFrom 15 = .ok (.iload 5, 2) := dk_21 5 (dk_at dksX9_mostFrom_0 15 rfl rfl)
theorem dX9_mostFrom_17 : decode cX9_mostFrom 17 = .ok (.iload_n 3, 1) := dk_29 (dk_at dksX9_mostFrom_0 17 rfl rfl)
theorem dX9_mostFrom_18 : decode cX9_mostFrom 18 = .ok (.if_icmp .ge 41, 3) := dk_162 0 41 (dk_at dksX9_mostFrom_0 18 rfl rfl)
theorem dX9_mostFrom_21 : decode cX9_mostFrom 21 = .ok (.aload_n 0, 1) := dk_42 (dk_at dksX9_mostFrom_0 21 rfl rfl)
theorem dX9_mostFrom_22 : decode cX9_mostFrom 22 = .ok (.iload_n 1, 1) := dk_27 (dk_at dksX9_mostFrom_0 22 rfl rfl)
theorem dX9_mostFrom_23 : decode cX9_mostFrom 23 = .ok (.iload 5, 2) := dk_21 5 (dk_at dksX9_mostFrom_1 0 rfl rfl)
theorem dX9_mostFrom_25 : decode cX9_mostFrom 25 = .ok (.invokevirtual 47, 3) := dk_182 0 47 (dk_at dksX9_mostFrom_1 2 rfl rfl)
theorem dX9_mostFrom_28 : decode cX9_mostFrom 28 = .ok (.ifCond .eq 25, 3) := dk_153 0 25 (dk_at dksX9_mostFrom_1 5 rfl rfl)
theorem dX9_mostFrom_31 : decode cX9_mostFrom 31 = .ok (.iload 4, 2) := dk_21 4 (dk_at dksX9_mostFrom_1 8 rfl rfl)
theorem dX9_mostFrom_33 : decode cX9_mostFrom 33 = .ok (.iconst 1, 1) := dk_4 (dk_at dksX9_mostFrom_1 10 rfl rfl)
theorem dX9_mostFrom_34 : decode cX9_mostFrom 34 = .ok (.aload_n 0, 1) := dk_42 (dk_at dksX9_mostFrom_1 11 rfl rfl)
theorem dX9_mostFrom_35 : decode cX9_mostFrom 35 = .ok (.getfield 40, 3) := dk_180 0 40 (dk_at dksX9_mostFrom_1 12 rfl rfl)
theorem dX9_mostFrom_38 : decode cX9_mostFrom 38 = .ok (.iload_n 1, 1) := dk_27 (dk_at dksX9_mostFrom_1 15 rfl rfl)
theorem dX9_mostFrom_39 : decode cX9_mostFrom 39 = .ok (.iconst 1, 1) := dk_4 (dk_at dksX9_mostFrom_1 16 rfl rfl)
theorem dX9_mostFrom_40 : decode cX9_mostFrom 40 = .ok (.iadd, 1) := dk_96 (dk_at dksX9_mostFrom_1 17 rfl rfl)
theorem dX9_mostFrom_41 : decode cX9_mostFrom 41 = .ok (.aaload, 1) := dk_50 (dk_at dksX9_mostFrom_1 18 rfl rfl)
theorem dX9_mostFrom_42 : decode cX9_mostFrom 42 = .ok (.iload 5, 2) := dk_21 5 (dk_at dksX9_mostFrom_1 19 rfl rfl)
theorem dX9_mostFrom_44 : decode cX9_mostFrom 44 = .ok (.iconst 1, 1) := dk_4 (dk_at dksX9_mostFrom_1 21 rfl rfl)
theorem dX9_mostFrom_45 : decode cX9_mostFrom 45 = .ok (.iadd, 1) := dk_96 (dk_at dksX9_mostFrom_1 22 rfl rfl)
theorem dX9_mostFrom_46 : decode cX9_mostFrom 46 = .ok (.iaload, 1) := dk_46 (dk_at dksX9_mostFrom_1 23 rfl rfl)
theorem dX9_mostFrom_47 : decode cX9_mostFrom 47 = .ok (.iadd, 1) := dk_96 (dk_at dksX9_mostFrom_2 0 rfl rfl)
theorem dX9_mostFrom_48 : decode cX9_mostFrom 48 = .ok (.invokestatic 64, 3) := dk_184 0 64 (dk_at dksX9_mostFrom_2 1 rfl rfl)
theorem dX9_mostFrom_51 : decode cX9_mostFrom 51 = .ok (.istore 4, 2) := dk_54 4 (dk_at dksX9_mostFrom_2 4 rfl rfl)
theorem dX9_mostFrom_53 : decode cX9_mostFrom 53 = .ok (.iinc 5 1, 3) := dk_132 5 1 (dk_at dksX9_mostFrom_2 6 rfl rfl)
theorem dX9_mostFrom_56 : decode cX9_mostFrom 56 = .ok (.goto (-41), 3) := dk_167 255 215 (dk_at dksX9_mostFrom_2 9 rfl rfl)
theorem dX9_mostFrom_59 : decode cX9_mostFrom 59 = .ok (.iload 4, 2) := dk_21 4 (dk_at dksX9_mostFrom_2 12 rfl rfl)
theorem dX9_mostFrom_61 : decode cX9_mostFrom 61 = .ok (.ireturn, 1) := dk_172 (dk_at dksX9_mostFrom_2 14 rfl rfl)
theorem md_X9_mostFrom : xMd yX9_mostFrom cX9_mostFrom 6 (Option.some Jvm.ClassFile.FieldType.int) 3 := ⟨q1526, q158, by decide, by decide +kernel, by decide +kernel, by decide +kernel⟩
def f_X9_mostFrom_53 (a0 : Nat) (k15 : Int32 × Int32 × Int32 × Int32 × PH → Option (xO × PH)) (v1 : Int32) (v3 : Int32) (v4 : Int32) (v5 : Int32) (p0 : PH) : Option (xO × PH) :=
  (bnd (v5 + 1) fun x8 =>
  (k15 (v1, v3, v4, x8, p0)))
def f_X9_mostFrom_15F (a0 : Nat)  (k15 : Int32 × Int32 × Int32 × Int32 × PH → Option (xO × PH)) (p : Int32 × Int32 × Int32 × Int32 × PH) : Option (xO × PH) := match p with
  | (v1, v3, v4, v5, p0) => (if v3 ≤ v5 then
  (rI v4 p0) else
  (xcI (f_X9_isOf p0 a0 v1 v5) fun x7 p6 =>
  (if x7 = 0 then
  (f_X9_mostFrom_53 a0 k15 v1 v3 v4 v5 p6) else
  (xgR p6 a0 8 3 fun x9 =>
  (xnul x9 none fun b10 =>
  (xaR p6 b10 6 (v1 + 1) fun x11 =>
  (xnul x11 none fun b12 =>
  (xaI p6 b12 0 (v5 + 1) fun x13 =>
  (xcI (f_J8_max p6 v4 (1 + x13)) fun x15 p14 =>
  (f_X9_mostFrom_53 a0 k15 v1 v3 x15 v5 p14))))))))))
def f_X9_mostFrom (p0 : PH) (a0 : Nat) (a1 : Int32) (a2 : Int32) (a3 : Int32) : Option (xO × PH) :=
  (xcl1 p0 a0 8 (xgR p0 a0 8 3 fun x1 =>
  (xnul x1 none fun b2 =>
  (xaR p0 b2 6 (a1 + 1) fun x3 =>
  (xnul x3 none fun b4 =>
  (xaI p0 b4 0 a2 fun x5 =>
  (lp (f_X9_mostFrom_15F a0) FU (a1, a3, x5, a2, p0))))))))
theorem rc_X9_mostFrom {p0 : PH} {a0 : Nat} {a1 : Int32} {a2 : Int32} {a3 : Int32} : ∀ z, f_X9_mostFrom p0 a0 a1 a2 a3 = some z → xco p0 a0 = some 8 := fun z h => xcl1_some h
theorem f_X9_mostFrom_53_ok {G : xG} (hO : xOK G) (a0 : Nat) {k15 : Int32 × Int32 × Int32 × Int32 × PH → Option (xO × PH)} (hk15 : ∀ (v1 : Int32) (v3 : Int32) (v4 : Int32) (v5 : Int32) (p0 : PH), X G "ForestLegs$Match" "mostFrom" cX9_mostFrom 6 (Option.some Jvm.ClassFile.FieldType.int) 5 15 [(0, .ref a0), (1, .int v1), (3, .int v3), (4, .int v4), (5, .int v5)] [] p0 (k15 (v1, v3, v4, v5, p0))) (v1 : Int32) (v3 : Int32) (v4 : Int32) (v5 : Int32) (p0 : PH) : X G "ForestLegs$Match" "mostFrom" cX9_mostFrom 6 (Option.some Jvm.ClassFile.FieldType.int) 5 53 [(0, .ref a0), (1, .int v1), (3, .int v3), (4, .int v4), (5, .int v5)] [] p0 (f_X9_mostFrom_53 a0 k15 v1 v3 v4 v5 p0) := by
  unfold f_X9_mostFrom_53
  refine x_iincB 4 (fun x8 => [(5, .int x8), (0, .ref a0), (1, .int v1), (3, .int v3), (4, .int v4)]) dX9_mostFrom_53 rfl rfl (by decide) (fun _ => rfl) (n := 56) rfl (fun x8 => ?_)
  refine x_goto dX9_mostFrom_56 (n := 15) (by decide) ?_
  refine x_sub [1, 2, 3, 4, 0] [(0, .ref a0), (1, .int v1), (3, .int v3), (4, .int v4), (5, .int x8)] rfl ?_
  exact hk15 v1 v3 v4 x8 p0
theorem f_X9_mostFrom_15F_ok {G : xG} (hO : xOK G) (a0 : Nat)  {k15 : Int32 × Int32 × Int32 × Int32 × PH → Option (xO × PH)} (hk15 : ∀ (v1 : Int32) (v3 : Int32) (v4 : Int32) (v5 : Int32) (p0 : PH), X G "ForestLegs$Match" "mostFrom" cX9_mostFrom 6 (Option.some Jvm.ClassFile.FieldType.int) 5 15 [(0, .ref a0), (1, .int v1), (3, .int v3), (4, .int v4), (5, .int v5)] [] p0 (k15 (v1, v3, v4, v5, p0))) (v1 : Int32) (v3 : Int32) (v4 : Int32) (v5 : Int32) (p0 : PH) : X G "ForestLegs$Match" "mostFrom" cX9_mostFrom 6 (Option.some Jvm.ClassFile.FieldType.int) 5 15 [(0, .ref a0), (1, .int v1), (3, .int v3), (4, .int v4), (5, .int v5)] [] p0 (f_X9_mostFrom_15F a0 k15 (v1, v3, v4, v5, p0)) := by
  unfold f_X9_mostFrom_15F
  refine x_iload 4 dX9_mostFrom_15 rfl (n := 17) rfl ?_
  refine x_iload_n 2 dX9_mostFrom_17 rfl rfl (n := 18) rfl ?_
  refine x_icmp_ge dX9_mostFrom_18 (t := 59) (by decide) (n := 21) rfl (fun _ => ?_) (fun _ => ?_)
  · refine x_iload 3 dX9_mostFrom_59 rfl (n := 61) rfl ?_
    exact x_ireturn dX9_mostFrom_61
  · refine x_aload_nr 0 dX9_mostFrom_21 rfl rfl (n := 22) rfl ?_
    refine x_iload_n 1 dX9_mostFrom_22 rfl rfl (n := 23) rfl ?_
    refine x_iload 4 dX9_mostFrom_23 rfl (n := 25) rfl ?_
    refine x_callV_I [.int v1, .int v5] [] (f_X9_isOf_ok hO p0 a0 v1 v5) rc_X9_isOf md_X9_isOf rfl q1527 q1529 qs28 dX9_mostFrom_25 rfl rfl (by decide) (Nat.le_of_ble_eq_true rfl) (n := 28) rfl (fun x7 p6 => ?_)
    refine x_if_eq dX9_mostFrom_28 (t := 53) (by decide) (n := 31) rfl (fun _ => ?_) (fun _ => ?_)
    · exact f_X9_mostFrom_53_ok hO a0 hk15 v1 v3 v4 v5 p6
    · refine x_iload 3 dX9_mostFrom_31 rfl (n := 33) rfl ?_
      refine x_iconst 1 dX9_mostFrom_33 rfl (n := 34) rfl ?_
      refine x_aload_nr 0 dX9_mostFrom_34 rfl rfl (n := 35) rfl ?_
      refine x_getR fl_X9_40 dX9_mostFrom_35 (n := 38) rfl (fun x9 => ?_)
      refine x_iload_n 1 dX9_mostFrom_38 rfl rfl (n := 39) rfl ?_
      refine x_iconst 1 dX9_mostFrom_39 rfl (n := 40) rfl ?_
      refine x_iadd dX9_mostFrom_40 (n := 41) rfl ?_
      refine x_sm (fun b10 e => ?_)
      subst e
      refine x_aald (t := 6) rfl rfl dX9_mostFrom_41 (n := 42) rfl (fun x11 => ?_)
      refine x_iload 4 dX9_mostFrom_42 rfl (n := 44) rfl ?_
      refine x_iconst 1 dX9_mostFrom_44 rfl (n := 45) rfl ?_
      refine x_iadd dX9_mostFrom_45 (n := 46) rfl ?_
      refine x_sm (fun b12 e => ?_)
      subst e
      refine x_iald (t := 0) rfl dX9_mostFrom_46 (n := 47) rfl (fun x13 => ?_)
      refine x_iadd dX9_mostFrom_47 (n := 48) rfl ?_
      refine x_callS_I [.int v4, .int (1 + x13)] [] (f_J8_max_ok hO p6 v4 (1 + x13)) md_J8_max q1535 q434 dX9_mostFrom_48 rfl rfl (by decide) (Nat.le_of_ble_eq_true rfl) (n := 51) rfl (fun x15 p14 => ?_)
      refine x_istore [(4, .int x15), (0, .ref a0), (1, .int v1), (3, .int v3), (5, .int v5)] dX9_mostFrom_51 (by decide) rfl (n := 53) rfl ?_
      refine x_sub [1, 2, 3, 0, 4] [(0, .ref a0), (1, .int v1), (3, .int v3), (4, .int x15), (5, .int v5)] rfl ?_
      exact f_X9_mostFrom_53_ok hO a0 hk15 v1 v3 x15 v5 p14
theorem f_X9_mostFrom_15_lp {G : xG} (hO : xOK G) (a0 : Nat)  (n : Nat) (v1 : Int32) (v3 : Int32) (v4 : Int32) (v5 : Int32) (p0 : PH) : X G "ForestLegs$Match" "mostFrom" cX9_mostFrom 6 (Option.some Jvm.ClassFile.FieldType.int) 5 15 [(0, .ref a0), (1, .int v1), (3, .int v3), (4, .int v4), (5, .int v5)] [] p0 (lp (f_X9_mostFrom_15F a0) n (v1, v3, v4, v5, p0)) :=
  lp_ok (W := fun p K => X G "ForestLegs$Match" "mostFrom" cX9_mostFrom 6 (Option.some Jvm.ClassFile.FieldType.int) 5 15 [(0, .ref a0), (1, .int p.1), (3, .int p.2.1), (4, .int p.2.2.1), (5, .int p.2.2.2.1)] [] p.2.2.2.2 K) (fun _ => x_no) (fun k hk => fun (v1, v3, v4, v5, p0) => f_X9_mostFrom_15F_ok hO a0 (fun v1 v3 v4 v5 p0 => hk (v1, v3, v4, v5, p0)) v1 v3 v4 v5 p0) n (v1, v3, v4, v5, p0)
theorem f_X9_mostFrom_ok {G : xG} (hO : xOK G) (p0 : PH) (a0 : Nat) (a1 : Int32) (a2 : Int32) (a3 : Int32) : CT G 5 yX9_mostFrom cX9_mostFrom 6 (Option.some Jvm.ClassFile.FieldType.int) [.ref a0, .int a1, .int a2, .int a3] p0 (f_X9_mostFrom p0 a0 a1 a2 a3) := by
  refine CT_of hO (by decide +kernel) (by decide +kernel) (Nat.le_of_ble_eq_true rfl) ?_
  show X G "ForestLegs$Match" "mostFrom" cX9_mostFrom 6 (Option.some Jvm.ClassFile.FieldType.int) 5 0 [(0, .ref a0), (1, .int a1), (2, .int a2), (3, .int a3)] [] p0 (f_X9_mostFrom p0 a0 a1 a2 a3)
  refine x_cl1 (fun e0 => ?_)
  refine x_aload_nr 0 dX9_mostFrom_0 rfl rfl (n := 1) rfl ?_
  refine x_getR fl_X9_40 dX9_mostFrom_1 (n := 4) rfl (fun x1 => ?_)
  refine x_iload_n 1 dX9_mostFrom_4 rfl rfl (n := 5) rfl ?_
  refine x_iconst 1 dX9_mostFrom_5 rfl (n := 6) rfl ?_
  refine x_iadd dX9_mostFrom_6 (n := 7) rfl ?_
  refine x_sm (fun b2 e => ?_)
  subst e
  refine x_aald (t := 6) rfl rfl dX9_mostFrom_7 (n := 8) rfl (fun x3 => ?_)
  refine x_iload_n 2 dX9_mostFrom_8 rfl rfl (n := 9) rfl ?_
  refine x_sm (fun b4 e => ?_)
  subst e
  refine x_iald (t := 0) rfl dX9_mostFrom_9 (n := 10) rfl (fun x5 => ?_)
  refine x_istore [(4, .int x5), (0, .ref a0), (1, .int a1), (2, .int a2), (3, .int a3)] dX9_mostFrom_10 (by decide) rfl (n := 12) rfl ?_
  refine x_iload_n 3 dX9_mostFrom_12 rfl rfl (n := 13) rfl ?_
  refine x_istore [(5, .int a2), (4, .int x5), (0, .ref a0), (1, .int a1), (2, .int a2), (3, .int a3)] dX9_mostFrom_13 (by decide) rfl (n := 15) rfl ?_
  refine x_sub [2, 3, 5, 1, 0] [(0, .ref a0), (1, .int a1), (3, .int a3), (4, .int x5), (5, .int a2)] rfl ?_
  exact f_X9_mostFrom_15_lp hO a0 FU a1 a3 x5 a2 p0
abbrev cX9_init : ByteArray := prog_6_method_1_code
def yX9_init : MethodName := ⟨RX9, "<init>", "(LForestLegs$Runner;LForestLegs$Course;)V"⟩
def dkwX9_init_9 : List UInt8 := [46, 2, 159, 0, 14, 42, 180, 0, 34, 21, 5, 46, 4, 96, 54, 4, 132, 5, 1, 167, 255, 137, 177]
abbrev dktX9_init_9 : List UInt8 := dkwX9_init_9 ++ []
def dkwX9_init_8 : List UInt8 := [160, 0, 12, 42, 180, 0, 34, 21, 5, 21, 6, 79, 132, 6, 1, 167, 255, 187, 42, 180, 0, 34, 21, 5]
abbrev dktX9_init_8 : List UInt8 := dkwX9_init_8 ++ dktX9_init_9
def dkwX9_init_7 : List UInt8 := [180, 0, 40, 21, 5, 4, 96, 50, 21, 6, 4, 96, 46, 96, 42, 180, 0, 40, 21, 5, 50, 21, 4, 46]
abbrev dktX9_init_7 : List UInt8 := dkwX9_init_7 ++ dktX9_init_8
def dkwX9_init_6 : List UInt8 := [180, 0, 34, 21, 5, 46, 2, 160, 0, 58, 42, 21, 5, 21, 6, 182, 0, 47, 153, 0, 41, 4, 42]
abbrev dktX9_init_6 : List UInt8 := dkwX9_init_6 ++ dktX9_init_7
def dkwX9_init_5 : List UInt8 := [162, 0, 115, 42, 180, 0, 34, 21, 5, 2, 79, 21, 4, 54, 6, 21, 6, 29, 162, 0, 69, 42]
abbrev dktX9_init_5 : List UInt8 := dkwX9_init_5 ++ dktX9_init_6
def dkwX9_init_4 : List UInt8 := [167, 255, 229, 132, 4, 255, 167, 255, 215, 3, 54, 4, 3, 54, 5, 21, 5, 42, 180, 0, 34, 190]
abbrev dktX9_init_4 : List UInt8 := dkwX9_init_4 ++ dktX9_init_5
def dkwX9_init_3 : List UInt8 := [42, 180, 0, 40, 21, 4, 50, 21, 5, 42, 21, 4, 21, 5, 29, 182, 0, 43, 79, 132, 5, 255]
abbrev dktX9_init_3 : List UInt8 := dkwX9_init_3 ++ dktX9_init_4
def dkwX9_init_2 : List UInt8 := [181, 0, 40, 44, 182, 0, 31, 4, 100, 54, 4, 21, 4, 155, 0, 42, 29, 54, 5, 21, 5, 155, 0, 28]
abbrev dktX9_init_2 : List UInt8 := dkwX9_init_2 ++ dktX9_init_3
def dkwX9_init_1 : List UInt8 := [42, 44, 182, 0, 31, 188, 10, 181, 0, 34, 42, 44, 182, 0, 31, 4, 96, 29, 4, 96, 197, 0, 38, 2]
abbrev dktX9_init_1 : List UInt8 := dkwX9_init_1 ++ dktX9_init_2
def dkwX9_init_0 : List UInt8 := [42, 183, 0, 3, 42, 43, 181, 0, 9, 42, 44, 181, 0, 15, 43, 180, 0, 19, 185, 0, 25, 1, 0, 62]
abbrev dktX9_init_0 : List UInt8 := dkwX9_init_0 ++ dktX9_init_1
theorem dksX9_init_0 : cX9_init.data.toList.drop 0 = dktX9_init_0 := by decide +kernel
theorem dksX9_init_1 : cX9_init.data.toList.drop 24 = dktX9_init_1 := dk_seg dksX9_init_0 24 rfl rfl
theorem dksX9_init_2 : cX9_init.data.toList.drop 48 = dktX9_init_2 := dk_seg dksX9_init_1 24 rfl rfl
theorem dksX9_init_3 : cX9_init.data.toList.drop 72 = dktX9_init_3 := dk_seg dksX9_init_2 24 rfl rfl
theorem dksX9_init_4 : cX9_init.data.toList.drop 94 = dktX9_init_4 := dk_seg dksX9_init_3 22 rfl rfl
theorem dksX9_init_5 : cX9_init.data.toList.drop 116 = dktX9_init_5 := dk_seg dksX9_init_4 22 rfl rfl
theorem dksX9_init_6 : cX9_init.data.toList.drop 138 = dktX9_init_6 := dk_seg dksX9_init_5 22 rfl rfl
theorem dksX9_init_7 : cX9_init.data.toList.drop 161 = dktX9_init_7 := dk_seg dksX9_init_6 23 rfl rfl
theorem dksX9_init_8 : cX9_init.data.toList.drop 185 = dktX9_init_8 := dk_seg dksX9_init_7 24 rfl rfl
theorem dksX9_init_9 : cX9_init.data.toList.drop 209 = dktX9_init_9 := dk_seg dksX9_init_8 24 rfl rfl
theorem dX9_init_0 : decode cX9_init 0 = .ok (.aload_n 0, 1) := dk_42 (dk_at dksX9_init_0 0 rfl rfl)
theorem dX9_init_1 : decode cX9_init 1 = .ok (.invokespecial 3, 3) := dk_183 0 3 (dk_at dksX9_init_0 1 rfl rfl)
theorem dX9_init_4 : decode cX9_init 4 = .ok (.aload_n 0, 1) := dk_42 (dk_at dksX9_init_0 4 rfl rfl)
theorem dX9_init_5 : decode cX9_init 5 = .ok (.aload_n 1, 1) := dk_43 (dk_at dksX9_init_0 5 rfl rfl)
theorem dX9_init_6 : decode cX9_init 6 = .ok (.putfield 9, 3) := dk_181 0 9 (dk_at dksX9_init_0 6 rfl rfl)
theorem dX9_init_9 : decode cX9_init 9 = .ok (.aload_n 0, 1) := dk_42 (dk_at dksX9_init_0 9 rfl rfl)
theorem dX9_init_10 : decode cX9_init 10 = .ok (.aload_n 2, 1) := dk_44 (dk_at dksX9_init_0 10 rfl rfl)
theorem dX9_init_11 : decode cX9_init 11 = .ok (.putfield 15, 3) := dk_181 0 15 (dk_at dksX9_init_0 11 rfl rfl)
theorem dX9_init_14 : decode cX9_init 14 = .ok (.aload_n 1, 1) := dk_43 (dk_at dksX9_init_0 14 rfl rfl)
theorem dX9_init_15 : decode cX9_init 15 = .ok (.getfield 19, 3) := dk_180 0 19 (dk_at dksX9_init_0 15 rfl rfl)
theorem dX9_init_18 : decode cX9_init 18 = .ok (.invokeinterface 25 1, 5) := by decide +kernel
theorem dX9_init_23 : decode cX9_init 23 = .ok (.istore_n 3, 1) := dk_62 (dk_at dksX9_init_0 23 rfl rfl)
theorem dX9_init_24 : decode cX9_init 24 = .ok (.aload_n 0, 1) := dk_42 (dk_at dksX9_init_1 0 rfl rfl)
theorem dX9_init_25 : decode cX9_init 25 = .ok (.aload_n 2, 1) := dk_44 (dk_at dksX9_init_1 1 rfl rfl)
theorem dX9_init_26 : decode cX9_init 26 = .ok (.invokevirtual 31, 3) := dk_182 0 31 (dk_at dksX9_init_1 2 rfl rfl)
theorem dX9_init_29 : decode cX9_init 29 = .ok (.newarray .int, 2) := dk_188_10 (dk_at dksX9_init_1 5 rfl rfl)
theorem dX9_init_31 : decode cX9_init 31 = .ok (.putfield 34, 3) := dk_181 0 34 (dk_at dksX9_init_1 7 rfl rfl)
theorem dX9_init_34 : decode cX9_init 34 = .ok (.aload_n 0, 1) := dk_42 (dk_at dksX9_init_1 10 rfl rfl)
theorem dX9_init_35 : decode cX9_init 35 = .ok (.aload_n 2, 1) := dk_44 (dk_at dksX9_init_1 11 rfl rfl)
theorem dX9_init_36 : decode cX9_init 36 = .ok (.invokevirtual 31, 3) := dk_182 0 31 (dk_at dksX9_init_1 12 rfl rfl)
theorem dX9_init_39 : decode cX9_init 39 = .ok (.iconst 1, 1) := dk_4 (dk_at dksX9_init_1 15 rfl rfl)
theorem dX9_init_40 : decode cX9_init 40 = .ok (.iadd, 1) := dk_96 (dk_at dksX9_init_1 16 rfl rfl)
theorem dX9_init_41 : decode cX9_init 41 = .ok (.iload_n 3, 1) := dk_29 (dk_at dksX9_init_1 17 rfl rfl)
theorem dX9_init_42 : decode cX9_init 42 = .ok (.iconst 1, 1) := dk_4 (dk_at dksX9_init_1 18 rfl rfl)
theorem dX9_init_43 : decode cX9_init 43 = .ok (.iadd, 1) := dk_96 (dk_at dksX9_init_1 19 rfl rfl)
theorem dX9_init_44 : decode cX9_init 44 = .ok (.multianewarray 38 2, 4) := by decide +kernel
theorem dX9_init_48 : decode cX9_init 48 = .ok (.putfield 40, 3) := dk_181 0 40 (dk_at dksX9_init_2 0 rfl rfl)
theorem dX9_init_51 : decode cX9_init 51 = .ok (.aload_n 2, 1) := dk_44 (dk_at dksX9_init_2 3 rfl rfl)
theorem dX9_init_52 : decode cX9_init 52 = .ok (.invokevirtual 31, 3) := dk_182 0 31 (dk_at dksX9_init_2 4 rfl rfl)
theorem dX9_init_55 : decode cX9_init 55 = .ok (.iconst 1, 1) := dk_4 (dk_at dksX9_init_2 7 rfl rfl)
theorem dX9_init_56 : decode cX9_init 56 = .ok (.isub, 1) := dk_100 (dk_at dksX9_init_2 8 rfl rfl)
theorem dX9_init_57 : decode cX9_init 57 = .ok (.istore 4, 2) := dk_54 4 (dk_at dksX9_init_2 9 rfl rfl)
theorem dX9_init_59 : decode cX9_init 59 = .ok (.iload 4, 2) := dk_21 4 (dk_at dksX9_init_2 11 rfl rfl)
theorem dX9_init_61 : decode cX9_init 61 = .ok (.ifCond .lt 42, 3) := dk_155 0 42 (dk_at dksX9_init_2 13 rfl rfl)
theorem dX9_init_64 : decode cX9_init 64 = .ok (.iload_n 3, 1) := dk_29 (dk_at dksX9_init_2 16 rfl rfl)
theorem dX9_init_65 : decode cX9_init 65 = .ok (.istore 5, 2) := dk_54 5 (dk_at dksX9_init_2 17 rfl rfl)
theorem dX9_init_67 : decode cX9_init 67 = .ok (.iload 5, 2) := dk_21 5 (dk_at dksX9_init_2 19 rfl rfl)
theorem dX9_init_69 : decode cX9_init 69 = .ok (.ifCond .lt 28, 3) := dk_155 0 28 (dk_at dksX9_init_2 21 rfl rfl)
theorem dX9_init_72 : decode cX9_init 72 = .ok (.aload_n 0, 1) := dk_42 (dk_at dksX9_init_3 0 rfl rfl)
theorem dX9_init_73 : decode cX9_init 73 = .ok (.getfield 40, 3) := dk_180 0 40 (dk_at dksX9_init_3 1 rfl rfl)
theorem dX9_init_76 : decode cX9_init 76 = .ok (.iload 4, 2) := dk_21 4 (dk_at dksX9_init_3 4 rfl rfl)
theorem dX9_init_78 : decode cX9_init 78 = .ok (.aaload, 1) := dk_50 (dk_at dksX9_init_3 6 rfl rfl)
theorem dX9_init_79 : decode cX9_init 79 = .ok (.iload 5, 2) := dk_21 5 (dk_at dksX9_init_3 7 rfl rfl)
theorem dX9_init_81 : decode cX9_init 81 = .ok (.aload_n 0, 1) := dk_42 (dk_at dksX9_init_3 9 rfl rfl)
theorem dX9_init_82 : decode cX9_init 82 = .ok (.iload 4, 2) := dk_21 4 (dk_at dksX9_init_3 10 rfl rfl)
theorem dX9_init_84 : decode cX9_init 84 = .ok (.iload 5, 2) := dk_21 5 (dk_at dksX9_init_3 12 rfl rfl)
theorem dX9_init_86 : decode cX9_init 86 = .ok (.iload_n 3, 1) := dk_29 (dk_at dksX9_init_3 14 rfl rfl)
theorem dX9_init_87 : decode cX9_init 87 = .ok (.invokevirtual 43, 3) := dk_182 0 43 (dk_at dksX9_init_3 15 rfl rfl)
theorem dX9_init_90 : decode cX9_init 90 = .ok (.iastore, 1) := dk_79 (dk_at dksX9_init_3 18 rfl rfl)
theorem dX9_init_91 : decode cX9_init 91 = .ok (.iinc 5 (-1), 3) := dk_132 5 255 (dk_at dksX9_init_3 19 rfl rfl)
theorem dX9_init_94 : decode cX9_init 94 = .ok (.goto (-27), 3) := dk_167 255 229 (dk_at dksX9_init_4 0 rfl rfl)
theorem dX9_init_97 : decode cX9_init 97 = .ok (.iinc 4 (-1), 3) := dk_132 4 255 (dk_at dksX9_init_4 3 rfl rfl)
theorem dX9_init_100 : decode cX9_init 100 = .ok (.goto (-41), 3) := dk_167 255 215 (dk_at dksX9_init_4 6 rfl rfl)
theorem dX9_init_103 : decode cX9_init 103 = .ok (.iconst 0, 1) := dk_3 (dk_at dksX9_init_4 9 rfl rfl)
theorem dX9_init_104 : decode cX9_init 104 = .ok (.istore 4, 2) := dk_54 4 (dk_at dksX9_init_4 10 rfl rfl)
theorem dX9_init_106 : decode cX9_init 106 = .ok (.iconst 0, 1) := dk_3 (dk_at dksX9_init_4 12 rfl rfl)
theorem dX9_init_107 : decode cX9_init 107 = .ok (.istore 5, 2) := dk_54 5 (dk_at dksX9_init_4 13 rfl rfl)
theorem dX9_init_109 : decode cX9_init 109 = .ok (.iload 5, 2) := dk_21 5 (dk_at dksX9_init_4 15 rfl rfl)
theorem dX9_init_111 : decode cX9_init 111 = .ok (.aload_n 0, 1) := dk_42 (dk_at dksX9_init_4 17 rfl rfl)
theorem dX9_init_112 : decode cX9_init 112 = .ok (.getfield 34, 3) := dk_180 0 34 (dk_at dksX9_init_4 18 rfl rfl)
theorem dX9_init_115 : decode cX9_init 115 = .ok (.arraylength, 1) := dk_190 (dk_at dksX9_init_4 21 rfl rfl)
theorem dX9_init_116 : decode cX9_init 116 = .ok (.if_icmp .ge 115, 3) := dk_162 0 115 (dk_at dksX9_init_5 0 rfl rfl)
theorem dX9_init_119 : decode cX9_init 119 = .ok (.aload_n 0, 1) := dk_42 (dk_at dksX9_init_5 3 rfl rfl)
theorem dX9_init_120 : decode cX9_init 120 = .ok (.getfield 34, 3) := dk_180 0 34 (dk_at dksX9_init_5 4 rfl rfl)
theorem dX9_init_123 : decode cX9_init 123 = .ok (.iload 5, 2) := dk_21 5 (dk_at dksX9_init_5 7 rfl rfl)
theorem dX9_init_125 : decode cX9_init 125 = .ok (.iconst (-1), 1) := dk_2 (dk_at dksX9_init_5 9 rfl rfl)
theorem dX9_init_126 : decode cX9_init 126 = .ok (.iastore, 1) := dk_79 (dk_at dksX9_init_5 10 rfl rfl)
theorem dX9_init_127 : decode cX9_init 127 = .ok (.iload 4, 2) := dk_21 4 (dk_at dksX9_init_5 11 rfl rfl)
theorem dX9_init_129 : decode cX9_init 129 = .ok (.istore 6, 2) := dk_54 6 (dk_at dksX9_init_5 13 rfl rfl)
theorem dX9_init_131 : decode cX9_init 131 = .ok (.iload 6, 2) := dk_21 6 (dk_at dksX9_init_5 15 rfl rfl)
theorem dX9_init_133 : decode cX9_init 133 = .ok (.iload_n 3, 1) := dk_29 (dk_at dksX9_init_5 17 rfl rfl)
theorem dX9_init_134 : decode cX9_init 134 = .ok (.if_icmp .ge 69, 3) := dk_162 0 69 (dk_at dksX9_init_5 18 rfl rfl)
theorem dX9_init_137 : decode cX9_init 137 = .ok (.aload_n 0, 1) := dk_42 (dk_at dksX9_init_5 21 rfl rfl)
theorem dX9_init_138 : decode cX9_init 138 = .ok (.getfield 34, 3) := dk_180 0 34 (dk_at dksX9_init_6 0 rfl rfl)
theorem dX9_init_141 : decode cX9_init 141 = .ok (.iload 5, 2) := dk_21 5 (dk_at dksX9_init_6 3 rfl rfl)
theorem dX9_init_143 : decode cX9_init 143 = .ok (.iaload, 1) := dk_46 (dk_at dksX9_init_6 5 rfl rfl)
theorem dX9_init_144 : decode cX9_init 144 = .ok (.iconst (-1), 1) := dk_2 (dk_at dksX9_init_6 6 rfl rfl)
theorem dX9_init_145 : decode cX9_init 145 = .ok (.if_icmp .ne 58, 3) := dk_160 0 58 (dk_at dksX9_init_6 7 rfl rfl)
theorem dX9_init_148 : decode cX9_init 148 = .ok (.aload_n 0, 1) := dk_42 (dk_at dksX9_init_6 10 rfl rfl)
theorem dX9_init_149 : decode cX9_init 149 = .ok (.iload 5, 2) := dk_21 5 (dk_at dksX9_init_6 11 rfl rfl)
theorem dX9_init_151 : decode cX9_init 151 = .ok (.iload 6, 2) := dk_21 6 (dk_at dksX9_init_6 13 rfl rfl)
theorem dX9_init_153 : decode cX9_init 153 = .ok (.invokevirtual 47, 3) := dk_182 0 47 (dk_at dksX9_init_6 15 rfl rfl)
theorem dX9_init_156 : decode cX9_init 156 = .ok (.ifCond .eq 41, 3) := dk_153 0 41 (dk_at dksX9_init_6 18 rfl rfl)
theorem dX9_init_159 : decode cX9_init 159 = .ok (.iconst 1, 1) := dk_4 (dk_at dksX9_init_6 21 rfl rfl)
theorem dX9_init_160 : decode cX9_init 160 = .ok (.aload_n 0, 1) := dk_42 (dk_at dksX9_init_6 22 rfl rfl)
theorem dX9_init_161 : decode cX9_init 161 = .ok (.getfield 40, 3) := dk_180 0 40 (dk_at dksX9_init_7 0 rfl rfl)
theorem dX9_init_164 : decode cX9_init 164 = .ok (.iload 5, 2) := dk_21 5 (dk_at dksX9_init_7 3 rfl rfl)
theorem dX9_init_166 : decode cX9_init 166 = .ok (.iconst 1, 1) := dk_4 (dk_at dksX9_init_7 5 rfl rfl)
theorem dX9_init_167 : decode cX9_init 167 = .ok (.iadd, 1) := dk_96 (dk_at dksX9_init_7 6 rfl rfl)
theorem dX9_init_168 : decode cX9_init 168 = .ok (.aaload, 1) := dk_50 (dk_at dksX9_init_7 7 rfl rfl)
theorem dX9_init_169 : decode cX9_init 169 = .ok (.iload 6, 2) := dk_21 6 (dk_at dksX9_init_7 8 rfl rfl)
theorem dX9_init_171 : decode cX9_init 171 = .ok (.iconst 1, 1) := dk_4 (dk_at dksX9_init_7 10 rfl rfl)
theorem dX9_init_172 : decode cX9_init 172 = .ok (.iadd, 1) := dk_96 (dk_at dksX9_init_7 11 rfl rfl)
theorem dX9_init_173 : decode cX9_init 173 = .ok (.iaload, 1) := dk_46 (dk_at dksX9_init_7 12 rfl rfl)
theorem dX9_init_174 : decode cX9_init 174 = .ok (.iadd, 1) := dk_96 (dk_at dksX9_init_7 13 rfl rfl)
theorem dX9_init_175 : decode cX9_init 175 = .ok (.aload_n 0, 1) := dk_42 (dk_at dksX9_init_7 14 rfl rfl)
theorem dX9_init_176 : decode cX9_init 176 = .ok (.getfield 40, 3) := dk_180 0 40 (dk_at dksX9_init_7 15 rfl rfl)
theorem dX9_init_179 : decode cX9_init 179 = .ok (.iload 5, 2) := dk_21 5 (dk_at dksX9_init_7 18 rfl rfl)
theorem dX9_init_181 : decode cX9_init 181 = .ok (.aaload, 1) := dk_50 (dk_at dksX9_init_7 20 rfl rfl)
theorem dX9_init_182 : decode cX9_init 182 = .ok (.iload 4, 2) := dk_21 4 (dk_at dksX9_init_7 21 rfl rfl)
theorem dX9_init_184 : decode cX9_init 184 = .ok (.iaload, 1) := dk_46 (dk_at dksX9_init_7 23 rfl rfl)
theorem dX9_init_185 : decode cX9_init 185 = .ok (.if_icmp .ne 12, 3) := dk_160 0 12 (dk_at dksX9_init_8 0 rfl rfl)
theorem dX9_init_188 : decode cX9_init 188 = .ok (.aload_n 0, 1) := dk_42 (dk_at dksX9_init_8 3 rfl rfl)
theorem dX9_init_189 : decode cX9_init 189 = .ok (.getfield 34, 3) := dk_180 0 34 (dk_at dksX9_init_8 4 rfl rfl)
theorem dX9_init_192 : decode cX9_init 192 = .ok (.iload 5, 2) := dk_21 5 (dk_at dksX9_init_8 7 rfl rfl)
theorem dX9_init_194 : decode cX9_init 194 = .ok (.iload 6, 2) := dk_21 6 (dk_at dksX9_init_8 9 rfl rfl)
theorem dX9_init_196 : decode cX9_init 196 = .ok (.iastore, 1) := dk_79 (dk_at dksX9_init_8 11 rfl rfl)
theorem dX9_init_197 : decode cX9_init 197 = .ok (.iinc 6 1, 3) := dk_132 6 1 (dk_at dksX9_init_8 12 rfl rfl)
theorem dX9_init_200 : decode cX9_init 200 = .ok (.goto (-69), 3) := dk_167 255 187 (dk_at dksX9_init_8 15 rfl rfl)
theorem dX9_init_203 : decode cX9_init 203 = .ok (.aload_n 0, 1) := dk_42 (dk_at dksX9_init_8 18 rfl rfl)
theorem dX9_init_204 : decode cX9_init 204 = .ok (.getfield 34, 3) := dk_180 0 34 (dk_at dksX9_init_8 19 rfl rfl)
theorem dX9_init_207 : decode cX9_init 207 = .ok (.iload 5, 2) := dk_21 5 (dk_at dksX9_init_8 22 rfl rfl)
theorem dX9_init_209 : decode cX9_init 209 = .ok (.iaload, 1) := dk_46 (dk_at dksX9_init_9 0 rfl rfl)
theorem dX9_init_210 : decode cX9_init 210 = .ok (.iconst (-1), 1) := dk_2 (dk_at dksX9_init_9 1 rfl rfl)
theorem dX9_init_211 : decode cX9_init 211 = .ok (.if_icmp .eq 14, 3) := dk_159 0 14 (dk_at dksX9_init_9 2 rfl rfl)
theorem dX9_init_214 : decode cX9_init 214 = .ok (.aload_n 0, 1) := dk_42 (dk_at dksX9_init_9 5 rfl rfl)
theorem dX9_init_215 : decode cX9_init 215 = .ok (.getfield 34, 3) := dk_180 0 34 (dk_at dksX9_init_9 6 rfl rfl)
theorem dX9_init_218 : decode cX9_init 218 = .ok (.iload 5, 2) := dk_21 5 (dk_at dksX9_init_9 9 rfl rfl)
theorem dX9_init_220 : decode cX9_init 220 = .ok (.iaload, 1) := dk_46 (dk_at dksX9_init_9 11 rfl rfl)
theorem dX9_init_221 : decode cX9_init 221 = .ok (.iconst 1, 1) := dk_4 (dk_at dksX9_init_9 12 rfl rfl)
theorem dX9_init_222 : decode cX9_init 222 = .ok (.iadd, 1) := dk_96 (dk_at dksX9_init_9 13 rfl rfl)
theorem dX9_init_223 : decode cX9_init 223 = .ok (.istore 4, 2) := dk_54 4 (dk_at dksX9_init_9 14 rfl rfl)
theorem dX9_init_225 : decode cX9_init 225 = .ok (.iinc 5 1, 3) := dk_132 5 1 (dk_at dksX9_init_9 16 rfl rfl)
theorem dX9_init_228 : decode cX9_init 228 = .ok (.goto (-119), 3) := dk_167 255 137 (dk_at dksX9_init_9 19 rfl rfl)
theorem dX9_init_231 : decode cX9_init 231 = .ok (.return_, 1) := dk_177 (dk_at dksX9_init_9 22 rfl rfl)
theorem md_X9_init : xMd yX9_init cX9_init 7 (Option.none : Option Jvm.ClassFile.FieldType) 2 := ⟨q1516, q158, by decide, by decide +kernel, by decide +kernel, by decide +kernel⟩
def f_X9_init_225 (a0 : Nat) (k109 : Int32 × Int32 × Int32 × PH → Option (xO × PH)) (v3 : Int32) (v4 : Int32) (v5 : Int32) (p0 : PH) : Option (xO × PH) :=
  (bnd (v5 + 1) fun x31 =>
  (k109 (v3, v4, x31, p0)))
def f_X9_init_203 (a0 : Nat) (k109 : Int32 × Int32 × Int32 × PH → Option (xO × PH)) (v3 : Int32) (v4 : Int32) (v5 : Int32) (p0 : PH) : Option (xO × PH) :=
  (xgR p0 a0 8 2 fun x28 =>
  (xnul x28 none fun b29 =>
  (xaI p0 b29 0 v5 fun x30 =>
  (if x30 = (-1) then
  (f_X9_init_225 a0 k109 v3 v4 v5 p0) else
  (xgR p0 a0 8 2 fun x32 =>
  (xnul x32 none fun b33 =>
  (xaI p0 b33 0 v5 fun x34 =>
  (bnd (x34 + 1) fun x35 =>
  (f_X9_init_225 a0 k109 v3 x35 v5 p0)))))))))
def f_X9_init_197 (a0 : Nat) (k131 : Int32 × Int32 × Int32 × Int32 × PH → Option (xO × PH)) (v3 : Int32) (v4 : Int32) (v5 : Int32) (v6 : Int32) (p0 : PH) : Option (xO × PH) :=
  (bnd (v6 + 1) fun x41 =>
  (k131 (v3, v4, v5, x41, p0)))
def f_X9_init_131F (a0 : Nat) (k109 : Int32 × Int32 × Int32 × PH → Option (xO × PH)) (k131 : Int32 × Int32 × Int32 × Int32 × PH → Option (xO × PH)) (p : Int32 × Int32 × Int32 × Int32 × PH) : Option (xO × PH) := match p with
  | (v3, v4, v5, v6, p0) => (if v3 ≤ v6 then
  (f_X9_init_203 a0 k109 v3 v4 v5 p0) else
  (xgR p0 a0 8 2 fun x36 =>
  (xnul x36 none fun b37 =>
  (xaI p0 b37 0 v5 fun x38 =>
  (if x38 = (-1) then
  (xcI (f_X9_isOf p0 a0 v5 v6) fun x40 p39 =>
  (if x40 = 0 then
  (f_X9_init_197 a0 k131 v3 v4 v5 v6 p39) else
  (xgR p39 a0 8 3 fun x42 =>
  (xnul x42 none fun b43 =>
  (xaR p39 b43 6 (v5 + 1) fun x44 =>
  (xnul x44 none fun b45 =>
  (xaI p39 b45 0 (v6 + 1) fun x46 =>
  (xgR p39 a0 8 3 fun x47 =>
  (xnul x47 none fun b48 =>
  (xaR p39 b48 6 v5 fun x49 =>
  (xnul x49 none fun b50 =>
  (xaI p39 b50 0 v4 fun x51 =>
  (if (1 + x46) = x51 then
  (xgR p39 a0 8 2 fun x52 =>
  (xnul x52 none fun b53 =>
  (xsI p39 b53 0 v5 v6 fun p54 =>
  (f_X9_init_197 a0 k131 v3 v4 v5 v6 p54)))) else
  (f_X9_init_197 a0 k131 v3 v4 v5 v6 p39)))))))))))))) else
  (f_X9_init_203 a0 k109 v3 v4 v5 p0))))))
def f_X9_init_109F (a0 : Nat)  (k109 : Int32 × Int32 × Int32 × PH → Option (xO × PH)) (p : Int32 × Int32 × Int32 × PH) : Option (xO × PH) := match p with
  | (v3, v4, v5, p0) => (xgR p0 a0 8 2 fun x22 =>
  (xnul x22 none fun b23 =>
  (xlen p0 b23 fun x24 =>
  (if x24 ≤ v5 then
  (rV p0) else
  (xgR p0 a0 8 2 fun x25 =>
  (xnul x25 none fun b26 =>
  (xsI p0 b26 0 v5 (-1) fun p27 =>
  (lp (f_X9_init_131F a0 k109) FU (v3, v4, v5, v4, p27)))))))))
def f_X9_init_67F (a0 : Nat) (k59 : Int32 × Int32 × PH → Option (xO × PH)) (k67 : Int32 × Int32 × Int32 × PH → Option (xO × PH)) (p : Int32 × Int32 × Int32 × PH) : Option (xO × PH) := match p with
  | (v3, v4, v5, p0) => (if v5 < 0 then
  (bnd (v4 + (-1)) fun x55 =>
  (k59 (v3, x55, p0))) else
  (xgR p0 a0 8 3 fun x56 =>
  (xnul x56 none fun b57 =>
  (xaR p0 b57 6 v4 fun x58 =>
  (xcI (f_X9_mostFrom p0 a0 v4 v5 v3) fun x60 p59 =>
  (xnul x58 none fun b61 =>
  (xsI p59 b61 0 v5 x60 fun p62 =>
  (bnd (v5 + (-1)) fun x63 =>
  (k67 (v3, v4, x63, p62))))))))))
def f_X9_init_59F (a0 : Nat)  (k59 : Int32 × Int32 × PH → Option (xO × PH)) (p : Int32 × Int32 × PH) : Option (xO × PH) := match p with
  | (v3, v4, p0) => (if v4 < 0 then
  (lp (f_X9_init_109F a0) FU (v3, 0, 0, p0)) else
  (lp (f_X9_init_67F a0 k59) FU (v3, v4, v3, p0)))
def f_X9_init (p0 : PH) (a0 : Nat) (a1 : Option Nat) (a2 : Option Nat) : Option (xO × PH) :=
  (xpF p0 a0 8 0 (va_rf a1) fun p1 =>
  (xpF p1 a0 8 1 (va_rf a2) fun p2 =>
  (xnul a1 none fun b3 =>
  (xgR p2 b3 6 4 fun x4 =>
  (xnul x4 none fun b5 =>
  (xcI (f_J3_size p2 b5 ) fun x7 p6 =>
  (xnul a2 none fun b8 =>
  (xcI (f_X6_size p6 b8 ) fun x10 p9 =>
  (xnaI p9 0 x10 fun b11 p12 =>
  (xpF p12 a0 8 2 (.ref b11) fun p13 =>
  (xcI (f_X6_size p13 b8 ) fun x15 p14 =>
  (xmulti p14 (x15 + 1) (x7 + 1) fun b16 p17 =>
  (xpF p17 a0 8 3 (.ref b16) fun p18 =>
  (xcI (f_X6_size p18 b8 ) fun x20 p19 =>
  (bnd (x20 - 1) fun x21 =>
  (lp (f_X9_init_59F a0) FU (x7, x21, p19)))))))))))))))))
theorem f_X9_init_225_ok {G : xG} (hO : xOK G) (a0 : Nat) {k109 : Int32 × Int32 × Int32 × PH → Option (xO × PH)} (hk109 : ∀ (v3 : Int32) (v4 : Int32) (v5 : Int32) (p0 : PH), X G "ForestLegs$Match" "<init>" cX9_init 7 (Option.none : Option Jvm.ClassFile.FieldType) 6 109 [(0, .ref a0), (3, .int v3), (4, .int v4), (5, .int v5)] [] p0 (k109 (v3, v4, v5, p0))) (v3 : Int32) (v4 : Int32) (v5 : Int32) (p0 : PH) : X G "ForestLegs$Match" "<init>" cX9_init 7 (Option.none : Option Jvm.ClassFile.FieldType) 6 225 [(0, .ref a0), (3, .int v3), (4, .int v4), (5, .int v5)] [] p0 (f_X9_init_225 a0 k109 v3 v4 v5 p0) := by
  unfold f_X9_init_225
  refine x_iincB 3 (fun x31 => [(5, .int x31), (0, .ref a0), (3, .int v3), (4, .int v4)]) dX9_init_225 rfl rfl (by decide) (fun _ => rfl) (n := 228) rfl (fun x31 => ?_)
  refine x_goto dX9_init_228 (n := 109) (by decide) ?_
  refine x_sub [1, 2, 3, 0] [(0, .ref a0), (3, .int v3), (4, .int v4), (5, .int x31)] rfl ?_
  exact hk109 v3 v4 x31 p0
theorem f_X9_init_203_ok {G : xG} (hO : xOK G) (a0 : Nat) {k109 : Int32 × Int32 × Int32 × PH → Option (xO × PH)} (hk109 : ∀ (v3 : Int32) (v4 : Int32) (v5 : Int32) (p0 : PH), X G "ForestLegs$Match" "<init>" cX9_init 7 (Option.none : Option Jvm.ClassFile.FieldType) 6 109 [(0, .ref a0), (3, .int v3), (4, .int v4), (5, .int v5)] [] p0 (k109 (v3, v4, v5, p0))) (v3 : Int32) (v4 : Int32) (v5 : Int32) (p0 : PH) : X G "ForestLegs$Match" "<init>" cX9_init 7 (Option.none : Option Jvm.ClassFile.FieldType) 6 203 [(0, .ref a0), (3, .int v3), (4, .int v4), (5, .int v5)] [] p0 (f_X9_init_203 a0 k109 v3 v4 v5 p0) := by
  unfold f_X9_init_203
  refine x_aload_nr 0 dX9_init_203 rfl rfl (n := 204) rfl ?_
  refine x_getR fl_X9_34 dX9_init_204 (n := 207) rfl (fun x28 => ?_)
  refine x_iload 3 dX9_init_207 rfl (n := 209) rfl ?_
  refine x_sm (fun b29 e => ?_)
  subst e
  refine x_iald (t := 0) rfl dX9_init_209 (n := 210) rfl (fun x30 => ?_)
  refine x_iconst (-1) dX9_init_210 rfl (n := 211) rfl ?_
  refine x_icmp_eq dX9_init_211 (t := 225) (by decide) (n := 214) rfl (fun _ => ?_) (fun _ => ?_)
  · exact f_X9_init_225_ok hO a0 hk109 v3 v4 v5 p0
  · refine x_aload_nr 0 dX9_init_214 rfl rfl (n := 215) rfl ?_
    refine x_getR fl_X9_34 dX9_init_215 (n := 218) rfl (fun x32 => ?_)
    refine x_iload 3 dX9_init_218 rfl (n := 220) rfl ?_
    refine x_sm (fun b33 e => ?_)
    subst e
    refine x_iald (t := 0) rfl dX9_init_220 (n := 221) rfl (fun x34 => ?_)
    refine x_iconst 1 dX9_init_221 rfl (n := 222) rfl ?_
    refine x_iadd dX9_init_222 (n := 223) rfl ?_
    refine x_nm (fun x35 => ?_)
    refine x_istore [(4, .int x35), (0, .ref a0), (3, .int v3), (5, .int v5)] dX9_init_223 (by decide) rfl (n := 225) rfl ?_
    refine x_sub [1, 2, 0, 3] [(0, .ref a0), (3, .int v3), (4, .int x35), (5, .int v5)] rfl ?_
    exact f_X9_init_225_ok hO a0 hk109 v3 x35 v5 p0
theorem f_X9_init_197_ok {G : xG} (hO : xOK G) (a0 : Nat) {k131 : Int32 × Int32 × Int32 × Int32 × PH → Option (xO × PH)} (hk131 : ∀ (v3 : Int32) (v4 : Int32) (v5 : Int32) (v6 : Int32) (p0 : PH), X G "ForestLegs$Match" "<init>" cX9_init 7 (Option.none : Option Jvm.ClassFile.FieldType) 6 131 [(0, .ref a0), (3, .int v3), (4, .int v4), (5, .int v5), (6, .int v6)] [] p0 (k131 (v3, v4, v5, v6, p0))) (v3 : Int32) (v4 : Int32) (v5 : Int32) (v6 : Int32) (p0 : PH) : X G "ForestLegs$Match" "<init>" cX9_init 7 (Option.none : Option Jvm.ClassFile.FieldType) 6 197 [(0, .ref a0), (3, .int v3), (4, .int v4), (5, .int v5), (6, .int v6)] [] p0 (f_X9_init_197 a0 k131 v3 v4 v5 v6 p0) := by
  unfold f_X9_init_197
  refine x_iincB 4 (fun x41 => [(6, .int x41), (0, .ref a0), (3, .int v3), (4, .int v4), (5, .int v5)]) dX9_init_197 rfl rfl (by decide) (fun _ => rfl) (n := 200) rfl (fun x41 => ?_)
  refine x_goto dX9_init_200 (n := 131) (by decide) ?_
  refine x_sub [1, 2, 3, 4, 0] [(0, .ref a0), (3, .int v3), (4, .int v4), (5, .int v5), (6, .int x41)] rfl ?_
  exact hk131 v3 v4 v5 x41 p0
theorem f_X9_init_131F_ok {G : xG} (hO : xOK G) (a0 : Nat) {k109 : Int32 × Int32 × Int32 × PH → Option (xO × PH)} (hk109 : ∀ (v3 : Int32) (v4 : Int32) (v5 : Int32) (p0 : PH), X G "ForestLegs$Match" "<init>" cX9_init 7 (Option.none : Option Jvm.ClassFile.FieldType) 6 109 [(0, .ref a0), (3, .int v3), (4, .int v4), (5, .int v5)] [] p0 (k109 (v3, v4, v5, p0))) {k131 : Int32 × Int32 × Int32 × Int32 × PH → Option (xO × PH)} (hk131 : ∀ (v3 : Int32) (v4 : Int32) (v5 : Int32) (v6 : Int32) (p0 : PH), X G "ForestLegs$Match" "<init>" cX9_init 7 (Option.none : Option Jvm.ClassFile.FieldType) 6 131 [(0, .ref a0), (3, .int v3), (4, .int v4), (5, .int v5), (6, .int v6)] [] p0 (k131 (v3, v4, v5, v6, p0))) (v3 : Int32) (v4 : Int32) (v5 : Int32) (v6 : Int32) (p0 : PH) : X G "ForestLegs$Match" "<init>" cX9_init 7 (Option.none : Option Jvm.ClassFile.FieldType) 6 131 [(0, .ref a0), (3, .int v3), (4, .int v4), (5, .int v5), (6, .int v6)] [] p0 (f_X9_init_131F a0 k109 k131 (v3, v4, v5, v6, p0)) := by
  unfold f_X9_init_131F
  refine x_iload 4 dX9_init_131 rfl (n := 133) rfl ?_
  refine x_iload_n 1 dX9_init_133 rfl rfl (n := 134) rfl ?_
  refine x_icmp_ge dX9_init_134 (t := 203) (by decide) (n := 137) rfl (fun _ => ?_) (fun _ => ?_)
  · refine x_sub [0, 1, 2, 3] [(0, .ref a0), (3, .int v3), (4, .int v4), (5, .int v5)] rfl ?_
    exact f_X9_init_203_ok hO a0 hk109 v3 v4 v5 p0
  · refine x_aload_nr 0 dX9_init_137 rfl rfl (n := 138) rfl ?_
    refine x_getR fl_X9_34 dX9_init_138 (n := 141) rfl (fun x36 => ?_)
    refine x_iload 3 dX9_init_141 rfl (n := 143) rfl ?_
    refine x_sm (fun b37 e => ?_)
    subst e
    refine x_iald (t := 0) rfl dX9_init_143 (n := 144) rfl (fun x38 => ?_)
    refine x_iconst (-1) dX9_init_144 rfl (n := 145) rfl ?_
    refine x_icmp_ne dX9_init_145 (t := 203) (by decide) (n := 148) rfl (fun _ => ?_) (fun _ => ?_)
    · refine x_sub [0, 1, 2, 3] [(0, .ref a0), (3, .int v3), (4, .int v4), (5, .int v5)] rfl ?_
      exact f_X9_init_203_ok hO a0 hk109 v3 v4 v5 p0
    · refine x_aload_nr 0 dX9_init_148 rfl rfl (n := 149) rfl ?_
      refine x_iload 3 dX9_init_149 rfl (n := 151) rfl ?_
      refine x_iload 4 dX9_init_151 rfl (n := 153) rfl ?_
      refine x_callV_I [.int v5, .int v6] [] (f_X9_isOf_ok hO p0 a0 v5 v6) rc_X9_isOf md_X9_isOf rfl q1527 q1529 qs28 dX9_init_153 rfl rfl (by decide) (Nat.le_of_ble_eq_true rfl) (n := 156) rfl (fun x40 p39 => ?_)
      refine x_if_eq dX9_init_156 (t := 197) (by decide) (n := 159) rfl (fun _ => ?_) (fun _ => ?_)
      · exact f_X9_init_197_ok hO a0 hk131 v3 v4 v5 v6 p39
      · refine x_iconst 1 dX9_init_159 rfl (n := 160) rfl ?_
        refine x_aload_nr 0 dX9_init_160 rfl rfl (n := 161) rfl ?_
        refine x_getR fl_X9_40 dX9_init_161 (n := 164) rfl (fun x42 => ?_)
        refine x_iload 3 dX9_init_164 rfl (n := 166) rfl ?_
        refine x_iconst 1 dX9_init_166 rfl (n := 167) rfl ?_
        refine x_iadd dX9_init_167 (n := 168) rfl ?_
        refine x_sm (fun b43 e => ?_)
        subst e
        refine x_aald (t := 6) rfl rfl dX9_init_168 (n := 169) rfl (fun x44 => ?_)
        refine x_iload 4 dX9_init_169 rfl (n := 171) rfl ?_
        refine x_iconst 1 dX9_init_171 rfl (n := 172) rfl ?_
        refine x_iadd dX9_init_172 (n := 173) rfl ?_
        refine x_sm (fun b45 e => ?_)
        subst e
        refine x_iald (t := 0) rfl dX9_init_173 (n := 174) rfl (fun x46 => ?_)
        refine x_iadd dX9_init_174 (n := 175) rfl ?_
        refine x_aload_nr 0 dX9_init_175 rfl rfl (n := 176) rfl ?_
        refine x_getR fl_X9_40 dX9_init_176 (n := 179) rfl (fun x47 => ?_)
        refine x_iload 3 dX9_init_179 rfl (n := 181) rfl ?_
        refine x_sm (fun b48 e => ?_)
        subst e
        refine x_aald (t := 6) rfl rfl dX9_init_181 (n := 182) rfl (fun x49 => ?_)
        refine x_iload 2 dX9_init_182 rfl (n := 184) rfl ?_
        refine x_sm (fun b50 e => ?_)
        subst e
        refine x_iald (t := 0) rfl dX9_init_184 (n := 185) rfl (fun x51 => ?_)
        refine x_icmp_ne dX9_init_185 (t := 197) (by decide) (n := 188) rfl (fun _ => ?_) (fun _ => ?_)
        · exact f_X9_init_197_ok hO a0 hk131 v3 v4 v5 v6 p39
        · refine x_aload_nr 0 dX9_init_188 rfl rfl (n := 189) rfl ?_
          refine x_getR fl_X9_34 dX9_init_189 (n := 192) rfl (fun x52 => ?_)
          refine x_iload 3 dX9_init_192 rfl (n := 194) rfl ?_
          refine x_iload 4 dX9_init_194 rfl (n := 196) rfl ?_
          refine x_sm (fun b53 e => ?_)
          subst e
          refine x_iast (t := 0) rfl dX9_init_196 (n := 197) rfl (fun p54 => ?_)
          exact f_X9_init_197_ok hO a0 hk131 v3 v4 v5 v6 p54
theorem f_X9_init_131_lp {G : xG} (hO : xOK G) (a0 : Nat) {k109 : Int32 × Int32 × Int32 × PH → Option (xO × PH)} (hk109 : ∀ (v3 : Int32) (v4 : Int32) (v5 : Int32) (p0 : PH), X G "ForestLegs$Match" "<init>" cX9_init 7 (Option.none : Option Jvm.ClassFile.FieldType) 6 109 [(0, .ref a0), (3, .int v3), (4, .int v4), (5, .int v5)] [] p0 (k109 (v3, v4, v5, p0))) (n : Nat) (v3 : Int32) (v4 : Int32) (v5 : Int32) (v6 : Int32) (p0 : PH) : X G "ForestLegs$Match" "<init>" cX9_init 7 (Option.none : Option Jvm.ClassFile.FieldType) 6 131 [(0, .ref a0), (3, .int v3), (4, .int v4), (5, .int v5), (6, .int v6)] [] p0 (lp (f_X9_init_131F a0 k109) n (v3, v4, v5, v6, p0)) :=
  lp_ok (W := fun p K => X G "ForestLegs$Match" "<init>" cX9_init 7 (Option.none : Option Jvm.ClassFile.FieldType) 6 131 [(0, .ref a0), (3, .int p.1), (4, .int p.2.1), (5, .int p.2.2.1), (6, .int p.2.2.2.1)] [] p.2.2.2.2 K) (fun _ => x_no) (fun k hk => fun (v3, v4, v5, v6, p0) => f_X9_init_131F_ok hO a0 hk109 (fun v3 v4 v5 v6 p0 => hk (v3, v4, v5, v6, p0)) v3 v4 v5 v6 p0) n (v3, v4, v5, v6, p0)
theorem f_X9_init_109F_ok {G : xG} (hO : xOK G) (a0 : Nat)  {k109 : Int32 × Int32 × Int32 × PH → Option (xO × PH)} (hk109 : ∀ (v3 : Int32) (v4 : Int32) (v5 : Int32) (p0 : PH), X G "ForestLegs$Match" "<init>" cX9_init 7 (Option.none : Option Jvm.ClassFile.FieldType) 6 109 [(0, .ref a0), (3, .int v3), (4, .int v4), (5, .int v5)] [] p0 (k109 (v3, v4, v5, p0))) (v3 : Int32) (v4 : Int32) (v5 : Int32) (p0 : PH) : X G "ForestLegs$Match" "<init>" cX9_init 7 (Option.none : Option Jvm.ClassFile.FieldType) 6 109 [(0, .ref a0), (3, .int v3), (4, .int v4), (5, .int v5)] [] p0 (f_X9_init_109F a0 k109 (v3, v4, v5, p0)) := by
  unfold f_X9_init_109F
  refine x_iload 3 dX9_init_109 rfl (n := 111) rfl ?_
  refine x_aload_nr 0 dX9_init_111 rfl rfl (n := 112) rfl ?_
  refine x_getR fl_X9_34 dX9_init_112 (n := 115) rfl (fun x22 => ?_)
  refine x_sm (fun b23 e => ?_)
  subst e
  refine x_alen dX9_init_115 (n := 116) rfl (fun x24 => ?_)
  refine x_icmp_ge dX9_init_116 (t := 231) (by decide) (n := 119) rfl (fun _ => ?_) (fun _ => ?_)
  · exact x_return dX9_init_231
  · refine x_aload_nr 0 dX9_init_119 rfl rfl (n := 120) rfl ?_
    refine x_getR fl_X9_34 dX9_init_120 (n := 123) rfl (fun x25 => ?_)
    refine x_iload 3 dX9_init_123 rfl (n := 125) rfl ?_
    refine x_iconst (-1) dX9_init_125 rfl (n := 126) rfl ?_
    refine x_sm (fun b26 e => ?_)
    subst e
    refine x_iast (t := 0) rfl dX9_init_126 (n := 127) rfl (fun p27 => ?_)
    refine x_iload 2 dX9_init_127 rfl (n := 129) rfl ?_
    refine x_istore [(6, .int v4), (0, .ref a0), (3, .int v3), (4, .int v4), (5, .int v5)] dX9_init_129 (by decide) rfl (n := 131) rfl ?_
    refine x_sub [1, 2, 3, 4, 0] [(0, .ref a0), (3, .int v3), (4, .int v4), (5, .int v5), (6, .int v4)] rfl ?_
    exact f_X9_init_131_lp hO a0 hk109 FU v3 v4 v5 v4 p27
theorem f_X9_init_109_lp {G : xG} (hO : xOK G) (a0 : Nat)  (n : Nat) (v3 : Int32) (v4 : Int32) (v5 : Int32) (p0 : PH) : X G "ForestLegs$Match" "<init>" cX9_init 7 (Option.none : Option Jvm.ClassFile.FieldType) 6 109 [(0, .ref a0), (3, .int v3), (4, .int v4), (5, .int v5)] [] p0 (lp (f_X9_init_109F a0) n (v3, v4, v5, p0)) :=
  lp_ok (W := fun p K => X G "ForestLegs$Match" "<init>" cX9_init 7 (Option.none : Option Jvm.ClassFile.FieldType) 6 109 [(0, .ref a0), (3, .int p.1), (4, .int p.2.1), (5, .int p.2.2.1)] [] p.2.2.2 K) (fun _ => x_no) (fun k hk => fun (v3, v4, v5, p0) => f_X9_init_109F_ok hO a0 (fun v3 v4 v5 p0 => hk (v3, v4, v5, p0)) v3 v4 v5 p0) n (v3, v4, v5, p0)
theorem f_X9_init_67F_ok {G : xG} (hO : xOK G) (a0 : Nat) {k59 : Int32 × Int32 × PH → Option (xO × PH)} (hk59 : ∀ (v3 : Int32) (v4 : Int32) (p0 : PH), X G "ForestLegs$Match" "<init>" cX9_init 7 (Option.none : Option Jvm.ClassFile.FieldType) 6 59 [(0, .ref a0), (3, .int v3), (4, .int v4)] [] p0 (k59 (v3, v4, p0))) {k67 : Int32 × Int32 × Int32 × PH → Option (xO × PH)} (hk67 : ∀ (v3 : Int32) (v4 : Int32) (v5 : Int32) (p0 : PH), X G "ForestLegs$Match" "<init>" cX9_init 7 (Option.none : Option Jvm.ClassFile.FieldType) 6 67 [(0, .ref a0), (3, .int v3), (4, .int v4), (5, .int v5)] [] p0 (k67 (v3, v4, v5, p0))) (v3 : Int32) (v4 : Int32) (v5 : Int32) (p0 : PH) : X G "ForestLegs$Match" "<init>" cX9_init 7 (Option.none : Option Jvm.ClassFile.FieldType) 6 67 [(0, .ref a0), (3, .int v3), (4, .int v4), (5, .int v5)] [] p0 (f_X9_init_67F a0 k59 k67 (v3, v4, v5, p0)) := by
  unfold f_X9_init_67F
  refine x_iload 3 dX9_init_67 rfl (n := 69) rfl ?_
  refine x_if_lt dX9_init_69 (t := 97) (by decide) (n := 72) rfl (fun _ => ?_) (fun _ => ?_)
  · refine x_iincB 2 (fun x55 => [(4, .int x55), (0, .ref a0), (3, .int v3), (5, .int v5)]) dX9_init_97 rfl rfl (by decide) (fun _ => rfl) (n := 100) rfl (fun x55 => ?_)
    refine x_goto dX9_init_100 (n := 59) (by decide) ?_
    refine x_sub [1, 2, 0] [(0, .ref a0), (3, .int v3), (4, .int x55)] rfl ?_
    exact hk59 v3 x55 p0
  · refine x_aload_nr 0 dX9_init_72 rfl rfl (n := 73) rfl ?_
    refine x_getR fl_X9_40 dX9_init_73 (n := 76) rfl (fun x56 => ?_)
    refine x_iload 2 dX9_init_76 rfl (n := 78) rfl ?_
    refine x_sm (fun b57 e => ?_)
    subst e
    refine x_aald (t := 6) rfl rfl dX9_init_78 (n := 79) rfl (fun x58 => ?_)
    refine x_iload 3 dX9_init_79 rfl (n := 81) rfl ?_
    refine x_aload_nr 0 dX9_init_81 rfl rfl (n := 82) rfl ?_
    refine x_iload 2 dX9_init_82 rfl (n := 84) rfl ?_
    refine x_iload 3 dX9_init_84 rfl (n := 86) rfl ?_
    refine x_iload_n 1 dX9_init_86 rfl rfl (n := 87) rfl ?_
    refine x_callV_I [.int v4, .int v5, .int v3] [.int v5, va_rf x58] (f_X9_mostFrom_ok hO p0 a0 v4 v5 v3) rc_X9_mostFrom md_X9_mostFrom rfl q1523 q1525 qs27 dX9_init_87 rfl rfl (by decide) (by simp only [List.map, xcat]; exact Nat.le_of_ble_eq_true rfl) (n := 90) rfl (fun x60 p59 => ?_)
    refine x_sm (fun b61 e => ?_)
    subst e
    refine x_iast (t := 0) rfl dX9_init_90 (n := 91) rfl (fun p62 => ?_)
    refine x_iincB 3 (fun x63 => [(5, .int x63), (0, .ref a0), (3, .int v3), (4, .int v4)]) dX9_init_91 rfl rfl (by decide) (fun _ => rfl) (n := 94) rfl (fun x63 => ?_)
    refine x_goto dX9_init_94 (n := 67) (by decide) ?_
    refine x_sub [1, 2, 3, 0] [(0, .ref a0), (3, .int v3), (4, .int v4), (5, .int x63)] rfl ?_
    exact hk67 v3 v4 x63 p62
theorem f_X9_init_67_lp {G : xG} (hO : xOK G) (a0 : Nat) {k59 : Int32 × Int32 × PH → Option (xO × PH)} (hk59 : ∀ (v3 : Int32) (v4 : Int32) (p0 : PH), X G "ForestLegs$Match" "<init>" cX9_init 7 (Option.none : Option Jvm.ClassFile.FieldType) 6 59 [(0, .ref a0), (3, .int v3), (4, .int v4)] [] p0 (k59 (v3, v4, p0))) (n : Nat) (v3 : Int32) (v4 : Int32) (v5 : Int32) (p0 : PH) : X G "ForestLegs$Match" "<init>" cX9_init 7 (Option.none : Option Jvm.ClassFile.FieldType) 6 67 [(0, .ref a0), (3, .int v3), (4, .int v4), (5, .int v5)] [] p0 (lp (f_X9_init_67F a0 k59) n (v3, v4, v5, p0)) :=
  lp_ok (W := fun p K => X G "ForestLegs$Match" "<init>" cX9_init 7 (Option.none : Option Jvm.ClassFile.FieldType) 6 67 [(0, .ref a0), (3, .int p.1), (4, .int p.2.1), (5, .int p.2.2.1)] [] p.2.2.2 K) (fun _ => x_no) (fun k hk => fun (v3, v4, v5, p0) => f_X9_init_67F_ok hO a0 hk59 (fun v3 v4 v5 p0 => hk (v3, v4, v5, p0)) v3 v4 v5 p0) n (v3, v4, v5, p0)
theorem f_X9_init_59F_ok {G : xG} (hO : xOK G) (a0 : Nat)  {k59 : Int32 × Int32 × PH → Option (xO × PH)} (hk59 : ∀ (v3 : Int32) (v4 : Int32) (p0 : PH), X G "ForestLegs$Match" "<init>" cX9_init 7 (Option.none : Option Jvm.ClassFile.FieldType) 6 59 [(0, .ref a0), (3, .int v3), (4, .int v4)] [] p0 (k59 (v3, v4, p0))) (v3 : Int32) (v4 : Int32) (p0 : PH) : X G "ForestLegs$Match" "<init>" cX9_init 7 (Option.none : Option Jvm.ClassFile.FieldType) 6 59 [(0, .ref a0), (3, .int v3), (4, .int v4)] [] p0 (f_X9_init_59F a0 k59 (v3, v4, p0)) := by
  unfold f_X9_init_59F
  refine x_iload 2 dX9_init_59 rfl (n := 61) rfl ?_
  refine x_if_lt dX9_init_61 (t := 103) (by decide) (n := 64) rfl (fun _ => ?_) (fun _ => ?_)
  · refine x_iconst 0 dX9_init_103 rfl (n := 104) rfl ?_
    refine x_istore [(4, .int 0), (0, .ref a0), (3, .int v3)] dX9_init_104 (by decide) rfl (n := 106) rfl ?_
    refine x_iconst 0 dX9_init_106 rfl (n := 107) rfl ?_
    refine x_istore [(5, .int 0), (4, .int 0), (0, .ref a0), (3, .int v3)] dX9_init_107 (by decide) rfl (n := 109) rfl ?_
    refine x_sub [2, 3, 1, 0] [(0, .ref a0), (3, .int v3), (4, .int 0), (5, .int 0)] rfl ?_
    exact f_X9_init_109_lp hO a0 FU v3 0 0 p0
  · refine x_iload_n 1 dX9_init_64 rfl rfl (n := 65) rfl ?_
    refine x_istore [(5, .int v3), (0, .ref a0), (3, .int v3), (4, .int v4)] dX9_init_65 (by decide) rfl (n := 67) rfl ?_
    refine x_sub [1, 2, 3, 0] [(0, .ref a0), (3, .int v3), (4, .int v4), (5, .int v3)] rfl ?_
    exact f_X9_init_67_lp hO a0 hk59 FU v3 v4 v3 p0
theorem f_X9_init_59_lp {G : xG} (hO : xOK G) (a0 : Nat)  (n : Nat) (v3 : Int32) (v4 : Int32) (p0 : PH) : X G "ForestLegs$Match" "<init>" cX9_init 7 (Option.none : Option Jvm.ClassFile.FieldType) 6 59 [(0, .ref a0), (3, .int v3), (4, .int v4)] [] p0 (lp (f_X9_init_59F a0) n (v3, v4, p0)) :=
  lp_ok (W := fun p K => X G "ForestLegs$Match" "<init>" cX9_init 7 (Option.none : Option Jvm.ClassFile.FieldType) 6 59 [(0, .ref a0), (3, .int p.1), (4, .int p.2.1)] [] p.2.2 K) (fun _ => x_no) (fun k hk => fun (v3, v4, p0) => f_X9_init_59F_ok hO a0 (fun v3 v4 p0 => hk (v3, v4, p0)) v3 v4 p0) n (v3, v4, p0)
theorem f_X9_init_ok {G : xG} (hO : xOK G) (p0 : PH) (a0 : Nat) (a1 : Option Nat) (a2 : Option Nat) : CT G 6 yX9_init cX9_init 7 (Option.none : Option Jvm.ClassFile.FieldType) [.ref a0, va_rf a1, va_rf a2] p0 (f_X9_init p0 a0 a1 a2) := by
  refine CT_of hO (by decide +kernel) (by decide +kernel) (lg_slen _ (by simp only [List.map, xcat]; exact Nat.le_of_ble_eq_true rfl)) ?_
  rw [show lv_args 0 [.ref a0, va_rf a1, va_rf a2] = [(0, .ref a0), (1, va_rf a1), (2, va_rf a2)] from by simp only [lv_args, xcat] <;> rfl]
  show X G "ForestLegs$Match" "<init>" cX9_init 7 (Option.none : Option Jvm.ClassFile.FieldType) 6 0 [(0, .ref a0), (1, va_rf a1), (2, va_rf a2)] [] p0 (f_X9_init p0 a0 a1 a2)
  refine x_aload_nr 0 dX9_init_0 rfl rfl (n := 1) rfl ?_
  refine x_objInit q1517 q186 q187 dX9_init_1 (by decide) (Nat.le_of_ble_eq_true rfl) (n := 4) rfl ?_
  refine x_aload_nr 0 dX9_init_4 rfl rfl (n := 5) rfl ?_
  refine x_aload_n 1 dX9_init_5 rfl rfl (n := 6) rfl ?_
  refine x_pF (pl_X9_9 _ (xfit_o (a1))) dX9_init_6 (n := 9) rfl (fun p1 => ?_)
  refine x_aload_nr 0 dX9_init_9 rfl rfl (n := 10) rfl ?_
  refine x_aload_n 2 dX9_init_10 rfl rfl (n := 11) rfl ?_
  refine x_pF (pl_X9_15 _ (xfit_o (a2))) dX9_init_11 (n := 14) rfl (fun p2 => ?_)
  refine x_aload_n 1 dX9_init_14 rfl rfl (n := 15) rfl ?_
  refine x_sm (fun b3 e => ?_)
  subst e
  refine x_getR fl_X9_19 dX9_init_15 (n := 18) rfl (fun x4 => ?_)
  refine x_sm (fun b5 e => ?_)
  subst e
  refine x_callF_I [] [] (f_J3_size_ok hO p2 b5 ) rc_J3_size md_J3_size rfl q1519 fc_java_util_ArrayList_java_util_List_size_0_I dX9_init_18 rfl rfl (by decide) (Nat.le_of_ble_eq_true rfl) (n := 23) rfl (fun x7 p6 => ?_)
  refine x_istore_n [(3, .int x7), (0, .ref a0), (1, .ref b3), (2, va_rf a2)] dX9_init_23 rfl (by decide) (by simp only [xst, List.filter_cons, List.filter_nil, xcat] <;> rfl) (n := 24) rfl ?_
  refine x_aload_nr 1 dX9_init_24 rfl rfl (n := 25) rfl ?_
  refine x_aload_n 3 dX9_init_25 rfl rfl (n := 26) rfl ?_
  refine x_sm (fun b8 e => ?_)
  subst e
  refine x_callV_I [] [.ref a0] (f_X6_size_ok hO p6 b8 ) rc_X6_size md_X6_size rfl q1520 q1199 q1200 dX9_init_26 rfl rfl (by decide) (Nat.le_of_ble_eq_true rfl) (n := 29) rfl (fun x10 p9 => ?_)
  refine x_newI (t := 0) (atype := .int) rfl q241 rfl (by decide) dX9_init_29 (n := 31) rfl (fun b11 p12 => ?_)
  refine x_pF (pl_X9_34 _ (xfit_a (some b11))) dX9_init_31 (n := 34) rfl (fun p13 => ?_)
  refine x_aload_nr 1 dX9_init_34 rfl rfl (n := 35) rfl ?_
  refine x_aload_nr 3 dX9_init_35 rfl rfl (n := 36) rfl ?_
  refine x_callV_I [] [.ref a0] (f_X6_size_ok hO p13 b8 ) rc_X6_size md_X6_size rfl q1520 q1199 q1200 dX9_init_36 rfl rfl (by decide) (Nat.le_of_ble_eq_true rfl) (n := 39) rfl (fun x15 p14 => ?_)
  refine x_iconst 1 dX9_init_39 rfl (n := 40) rfl ?_
  refine x_iadd dX9_init_40 (n := 41) rfl ?_
  refine x_iload_n 0 dX9_init_41 rfl rfl (n := 42) rfl ?_
  refine x_iconst 1 dX9_init_42 rfl (n := 43) rfl ?_
  refine x_iadd dX9_init_43 (n := 44) rfl ?_
  refine x_multi q1521 q1522 q241 dX9_init_44 (n := 48) rfl (fun b16 p17 => ?_)
  refine x_pF (pl_X9_40 _ (xfit_a (some b16))) dX9_init_48 (n := 51) rfl (fun p18 => ?_)
  refine x_aload_nr 3 dX9_init_51 rfl rfl (n := 52) rfl ?_
  refine x_callV_I [] [] (f_X6_size_ok hO p18 b8 ) rc_X6_size md_X6_size rfl q1520 q1199 q1200 dX9_init_52 rfl rfl (by decide) (Nat.le_of_ble_eq_true rfl) (n := 55) rfl (fun x20 p19 => ?_)
  refine x_iconst 1 dX9_init_55 rfl (n := 56) rfl ?_
  refine x_isub dX9_init_56 (n := 57) rfl ?_
  refine x_nm (fun x21 => ?_)
  refine x_istore [(4, .int x21), (3, .int x7), (0, .ref a0), (1, .ref b3), (2, .ref b8)] dX9_init_57 (by decide) rfl (n := 59) rfl ?_
  refine x_sub [2, 1, 0] [(0, .ref a0), (3, .int x7), (4, .int x21)] rfl ?_
  exact f_X9_init_59_lp hO a0 FU x7 x21 p19
abbrev cX4_match : ByteArray := prog_7_method_3_code
def yX4_match : MethodName := ⟨RX4, "match", "(I)LForestLegs$Match;"⟩
def dkwX4_match_3 : List UInt8 := [185, 0, 68, 2, 0, 192, 0, 47, 183, 0, 75, 83, 42, 180, 0, 62, 27, 50, 176]
abbrev dktX4_match_3 : List UInt8 := dkwX4_match_3 ++ []
def dkwX4_match_2 : List UInt8 := [192, 0, 57, 42, 180, 0, 14, 42, 180, 0, 20, 27, 185, 0, 68, 2, 0, 192, 0, 57, 180, 0, 72]
abbrev dktX4_match_2 : List UInt8 := dkwX4_match_2 ++ dktX4_match_3
def dkwX4_match_1 : List UInt8 := [199, 0, 57, 42, 180, 0, 62, 27, 187, 0, 66, 89, 42, 180, 0, 20, 27, 185, 0, 68, 2, 0]
abbrev dktX4_match_1 : List UInt8 := dkwX4_match_1 ++ dktX4_match_2
def dkwX4_match_0 : List UInt8 := [42, 180, 0, 62, 199, 0, 12, 42, 16, 10, 189, 0, 66, 181, 0, 62, 42, 180, 0, 62, 27, 50]
abbrev dktX4_match_0 : List UInt8 := dkwX4_match_0 ++ dktX4_match_1
theorem dksX4_match_0 : cX4_match.data.toList.drop 0 = dktX4_match_0 := by decide +kernel
theorem dksX4_match_1 : cX4_match.data.toList.drop 22 = dktX4_match_1 := dk_seg dksX4_match_0 22 rfl rfl
theorem dksX4_match_2 : cX4_match.data.toList.drop 44 = dktX4_match_2 := dk_seg dksX4_match_1 22 rfl rfl
theorem dksX4_match_3 : cX4_match.data.toList.drop 67 = dktX4_match_3 := dk_seg dksX4_match_2 23 rfl rfl
theorem dX4_match_0 : decode cX4_match 0 = .ok (.aload_n 0, 1) := dk_42 (dk_at dksX4_match_0 0 rfl rfl)
theorem dX4_match_1 : decode cX4_match 1 = .ok (.getfield 62, 3) := dk_180 0 62 (dk_at dksX4_match_0 1 rfl rfl)
theorem dX4_match_4 : decode cX4_match 4 = .ok (.ifnonnull 12, 3) := dk_199 0 12 (dk_at dksX4_match_0 4 rfl rfl)
theorem dX4_match_7 : decode cX4_match 7 = .ok (.aload_n 0, 1) := dk_42 (dk_at dksX4_match_0 7 rfl rfl)
theorem dX4_match_8 : decode cX4_match 8 = .ok (.bipush 10, 2) := dk_16 10 (dk_at dksX4_match_0 8 rfl rfl)
theorem dX4_match_10 : decode cX4_match 10 = .ok (.anewarray 66, 3) := dk_189 0 66 (dk_at dksX4_match_0 10 rfl rfl)
theorem dX4_match_13 : decode cX4_match 13 = .ok (.putfield 62, 3) := dk_181 0 62 (dk_at dksX4_match_0 13 rfl rfl)
theorem dX4_match_16 : decode cX4_match 16 = .ok (.aload_n 0, 1) := dk_42 (dk_at dksX4_match_0 16 rfl rfl)
theorem dX4_match_17 : decode cX4_match 17 = .ok (.getfield 62, 3) := dk_180 0 62 (dk_at dksX4_match_0 17 rfl rfl)
theorem dX4_match_20 : decode cX4_match 20 = .ok (.iload_n 1, 1) := dk_27 (dk_at dksX4_match_0 20 rfl rfl)
theorem dX4_match_21 : decode cX4_match 21 = .ok (.aaload, 1) := dk_50 (dk_at dksX4_match_0 21 rfl rfl)
theorem dX4_match_22 : decode cX4_match 22 = .ok (.ifnonnull 57, 3) := dk_199 0 57 (dk_at dksX4_match_1 0 rfl rfl)
theorem dX4_match_25 : decode cX4_match 25 = .ok (.aload_n 0, 1) := dk_42 (dk_at dksX4_match_1 3 rfl rfl)
theorem dX4_match_26 : decode cX4_match 26 = .ok (.getfield 62, 3) := dk_180 0 62 (dk_at dksX4_match_1 4 rfl rfl)
theorem dX4_match_29 : decode cX4_match 29 = .ok (.iload_n 1, 1) := dk_27 (dk_at dksX4_match_1 7 rfl rfl)
theorem dX4_match_30 : decode cX4_match 30 = .ok (.new 66, 3) := dk_187 0 66 (dk_at dksX4_match_1 8 rfl rfl)
theorem dX4_match_33 : decode cX4_match 33 = .ok (.dup, 1) := dk_89 (dk_at dksX4_match_1 11 rfl rfl)
theorem dX4_match_34 : decode cX4_match 34 = .ok (.aload_n 0, 1) := dk_42 (dk_at dksX4_match_1 12 rfl rfl)
theorem dX4_match_35 : decode cX4_match 35 = .ok (.getfield 20, 3) := dk_180 0 20 (dk_at dksX4_match_1 13 rfl rfl)
theorem dX4_match_38 : decode cX4_match 38 = .ok (.iload_n 1, 1) := dk_27 (dk_at dksX4_match_1 16 rfl rfl)
theorem dX4_match_39 : decode cX4_match 39 = .ok (.invokeinterface 68 2, 5) := by decide +kernel
theorem dX4_match_44 : decode cX4_match 44 = .ok (.checkcast 57, 3) := dk_192 0 57 (dk_at dksX4_match_2 0 rfl rfl)
theorem dX4_match_47 : decode cX4_match 47 = .ok (.aload_n 0, 1) := dk_42 (dk_at dksX4_match_2 3 rfl rfl)
theorem dX4_match_48 : decode cX4_match 48 = .ok (.getfield 14, 3) := dk_180 0 14 (dk_at dksX4_match_2 4 rfl rfl)
theorem dX4_match_51 : decode cX4_match 51 = .ok (.aload_n 0, 1) := dk_42 (dk_at dksX4_match_2 7 rfl rfl)
theorem dX4_match_52 : decode cX4_match 52 = .ok (.getfield 20, 3) := dk_180 0 20 (dk_at dksX4_match_2 8 rfl rfl)
theorem dX4_match_55 : decode cX4_match 55 = .ok (.iload_n 1, 1) := dk_27 (dk_at dksX4_match_2 11 rfl rfl)
theorem dX4_match_56 : decode cX4_match 56 = .ok (.invokeinterface 68 2, 5) := by decide +kernel
theorem dX4_match_61 : decode cX4_match 61 = .ok (.checkcast 57, 3) := dk_192 0 57 (dk_at dksX4_match_2 17 rfl rfl)
theorem dX4_match_64 : decode cX4_match 64 = .ok (.getfield 72, 3) := dk_180 0 72 (dk_at dksX4_match_2 20 rfl rfl)
theorem dX4_match_67 : decode cX4_match 67 = .ok (.invokeinterface 68 2, 5) := by decide +kernel
theorem dX4_match_72 : decode cX4_match 72 = .ok (.checkcast 47, 3) := dk_192 0 47 (dk_at dksX4_match_3 5 rfl rfl)
theorem dX4_match_75 : decode cX4_match 75 = .ok (.invokespecial 75, 3) := dk_183 0 75 (dk_at dksX4_match_3 8 rfl rfl)
theorem dX4_match_78 : decode cX4_match 78 = .ok (.aastore, 1) := dk_83 (dk_at dksX4_match_3 11 rfl rfl)
theorem dX4_match_79 : decode cX4_match 79 = .ok (.aload_n 0, 1) := dk_42 (dk_at dksX4_match_3 12 rfl rfl)
theorem dX4_match_80 : decode cX4_match 80 = .ok (.getfield 62, 3) := dk_180 0 62 (dk_at dksX4_match_3 13 rfl rfl)
theorem dX4_match_83 : decode cX4_match 83 = .ok (.iload_n 1, 1) := dk_27 (dk_at dksX4_match_3 16 rfl rfl)
theorem dX4_match_84 : decode cX4_match 84 = .ok (.aaload, 1) := dk_50 (dk_at dksX4_match_3 17 rfl rfl)
theorem dX4_match_85 : decode cX4_match 85 = .ok (.areturn, 1) := dk_176 (dk_at dksX4_match_3 18 rfl rfl)
theorem md_X4_match : xMd yX4_match cX4_match 2 (Option.some (Jvm.ClassFile.FieldType.object "ForestLegs$Match")) 1 := ⟨q1506, q128, by decide, by decide +kernel, by decide +kernel, by decide +kernel⟩
def f_X4_match_79 (a0 : Nat)  (v1 : Int32) (p0 : PH) : Option (xO × PH) :=
  (xgR p0 a0 3 4 fun x30 =>
  (xnul x30 none fun b31 =>
  (xaR p0 b31 5 v1 fun x32 =>
  (rR x32 p0))))
def f_X4_match_16 (a0 : Nat)  (v1 : Int32) (p0 : PH) : Option (xO × PH) :=
  (xgR p0 a0 3 4 fun x6 =>
  (xnul x6 none fun b7 =>
  (xaR p0 b7 5 v1 fun x8 =>
  (xnul x8 (xgR p0 a0 3 4 fun x10 =>
  (xnew p0 8 [.null, .null, .null, .null] fun b11 p12 =>
  (xgR p12 a0 3 1 fun x13 =>
  (xnul x13 none fun b14 =>
  (xcR (f_J3_get p12 b14 v1) fun x16 p15 =>
  (xcst p15 (x16) [6]
  (xgR p15 a0 3 0 fun x17 =>
  (xgR p15 a0 3 1 fun x18 =>
  (xnul x18 none fun b19 =>
  (xcR (f_J3_get p15 b19 v1) fun x21 p20 =>
  (xcst p20 (x21) [6]
  (xnul x21 none fun b22 =>
  (xgI p20 b22 6 1 fun x23 =>
  (xnul x17 none fun b24 =>
  (xcR (f_J3_get p20 b24 x23) fun x26 p25 =>
  (xcst p25 (x26) [5]
  (xcV (f_X9_init p25 b11 x16 x26) fun p27 =>
  (xnul x10 none fun b28 =>
  (xsR p27 b28 5 v1 (some b11) fun p29 =>
  (f_X4_match_79 a0 v1 p29)))))))))))))))))))) fun b9 =>
  (f_X4_match_79 a0 v1 p0)))))
def f_X4_match (p0 : PH) (a0 : Nat) (a1 : Int32) : Option (xO × PH) :=
  (xcl1 p0 a0 3 (xgR p0 a0 3 4 fun x1 =>
  (xnul x1 (xnaR p0 5 10 fun b3 p4 =>
  (xpF p4 a0 3 4 (.ref b3) fun p5 =>
  (f_X4_match_16 a0 a1 p5))) fun b2 =>
  (f_X4_match_16 a0 a1 p0))))
theorem rc_X4_match {p0 : PH} {a0 : Nat} {a1 : Int32} : ∀ z, f_X4_match p0 a0 a1 = some z → xco p0 a0 = some 3 := fun z h => xcl1_some h
theorem f_X4_match_79_ok {G : xG} (hO : xOK G) (a0 : Nat)  (v1 : Int32) (p0 : PH) : X G "ForestLegs$Meet" "match" cX4_match 2 (Option.some (Jvm.ClassFile.FieldType.object "ForestLegs$Match")) 7 79 [(0, .ref a0), (1, .int v1)] [] p0 (f_X4_match_79 a0 v1 p0) := by
  unfold f_X4_match_79
  refine x_aload_nr 0 dX4_match_79 rfl rfl (n := 80) rfl ?_
  refine x_getR fl_X4_62 dX4_match_80 (n := 83) rfl (fun x30 => ?_)
  refine x_iload_n 1 dX4_match_83 rfl rfl (n := 84) rfl ?_
  refine x_sm (fun b31 e => ?_)
  subst e
  refine x_aald (t := 5) rfl rfl dX4_match_84 (n := 85) rfl (fun x32 => ?_)
  exact x_areturn (x := x32) (Or.inl ⟨_, rfl⟩) dX4_match_85
theorem f_X4_match_16_ok {G : xG} (hO : xOK G) (a0 : Nat)  (v1 : Int32) (p0 : PH) : X G "ForestLegs$Meet" "match" cX4_match 2 (Option.some (Jvm.ClassFile.FieldType.object "ForestLegs$Match")) 7 16 [(0, .ref a0), (1, .int v1)] [] p0 (f_X4_match_16 a0 v1 p0) := by
  unfold f_X4_match_16
  refine x_aload_nr 0 dX4_match_16 rfl rfl (n := 17) rfl ?_
  refine x_getR fl_X4_62 dX4_match_17 (n := 20) rfl (fun x6 => ?_)
  refine x_iload_n 1 dX4_match_20 rfl rfl (n := 21) rfl ?_
  refine x_sm (fun b7 e => ?_)
  subst e
  refine x_aald (t := 5) rfl rfl dX4_match_21 (n := 22) rfl (fun x8 => ?_)
  refine x_ifnonnull dX4_match_22 (t := 79) (by decide) (n := 25) rfl (fun e => ?_) (fun b9 e => ?_)
  · subst e
    refine x_aload_nr 0 dX4_match_25 rfl rfl (n := 26) rfl ?_
    refine x_getR fl_X4_62 dX4_match_26 (n := 29) rfl (fun x10 => ?_)
    refine x_iload_n 1 dX4_match_29 rfl rfl (n := 30) rfl ?_
    refine x_new cl_8 (by decide) q1507 q1509 q158 rfl dX4_match_30 (n := 33) rfl (fun b11 p12 => ?_)
    refine x_dup dX4_match_33 rfl (n := 34) rfl ?_
    refine x_aload_nr 0 dX4_match_34 rfl rfl (n := 35) rfl ?_
    refine x_getR fl_X4_20 dX4_match_35 (n := 38) rfl (fun x13 => ?_)
    refine x_iload_n 1 dX4_match_38 rfl rfl (n := 39) rfl ?_
    refine x_sm (fun b14 e => ?_)
    subst e
    refine x_callF_R [.int v1] [.ref b11, .ref b11, .int v1, va_rf x10] (f_J3_get_ok hO p12 b14 v1) rc_J3_get md_J3_get rfl q1511 fc_java_util_ArrayList_java_util_List_get_1_ILjava dX4_match_39 rfl rfl (by decide) (by simp only [List.map, xcat]; exact Nat.le_of_ble_eq_true rfl) (n := 44) rfl (fun x16 p15 => ?_)
    refine x_cast (x := x16) (cs := [6]) q1512 cst_ForestLegs_Runner dX4_match_44 (n := 47) rfl ?_
    refine x_aload_nr 0 dX4_match_47 rfl rfl (n := 48) rfl ?_
    refine x_getR fl_X4_14 dX4_match_48 (n := 51) rfl (fun x17 => ?_)
    refine x_aload_nr 0 dX4_match_51 rfl rfl (n := 52) rfl ?_
    refine x_getR fl_X4_20 dX4_match_52 (n := 55) rfl (fun x18 => ?_)
    refine x_iload_n 1 dX4_match_55 rfl rfl (n := 56) rfl ?_
    refine x_sm (fun b19 e => ?_)
    subst e
    refine x_callF_R [.int v1] [va_rf x17, va_rf x16, .ref b11, .ref b11, .int v1, va_rf x10] (f_J3_get_ok hO p15 b19 v1) rc_J3_get md_J3_get rfl q1511 fc_java_util_ArrayList_java_util_List_get_1_ILjava dX4_match_56 rfl rfl (by decide) (by simp only [List.map, xcat]; exact Nat.le_of_ble_eq_true rfl) (n := 61) rfl (fun x21 p20 => ?_)
    refine x_cast (x := x21) (cs := [6]) q1512 cst_ForestLegs_Runner dX4_match_61 (n := 64) rfl ?_
    refine x_sm (fun b22 e => ?_)
    subst e
    refine x_getI fl_X4_72 dX4_match_64 (n := 67) rfl (fun x23 => ?_)
    refine x_sm (fun b24 e => ?_)
    subst e
    refine x_callF_R [.int x23] [va_rf x16, .ref b11, .ref b11, .int v1, va_rf x10] (f_J3_get_ok hO p20 b24 x23) rc_J3_get md_J3_get rfl q1511 fc_java_util_ArrayList_java_util_List_get_1_ILjava dX4_match_67 rfl rfl (by decide) (by simp only [List.map, xcat]; exact Nat.le_of_ble_eq_true rfl) (n := 72) rfl (fun x26 p25 => ?_)
    refine x_cast (x := x26) (cs := [5]) q1513 cst_ForestLegs_Course dX4_match_72 (n := 75) rfl ?_
    refine x_callI_V [va_rf x16, va_rf x26] [.ref b11, .int v1, va_rf x10] (f_X9_init_ok hO p25 b11 x16 x26) md_X9_init rfl q1514 q1515 dX4_match_75 rfl rfl (by decide) (by simp only [List.map, xcat]; exact Nat.le_of_ble_eq_true rfl) (n := 78) rfl (fun p27 => ?_)
    refine x_sm (fun b28 e => ?_)
    subst e
    refine x_aast (t := 5) (x := some b11) rfl (by decide) dX4_match_78 (n := 79) rfl (fun p29 => ?_)
    exact f_X4_match_79_ok hO a0 v1 p29
  · subst e
    exact f_X4_match_79_ok hO a0 v1 p0
theorem f_X4_match_ok {G : xG} (hO : xOK G) (p0 : PH) (a0 : Nat) (a1 : Int32) : CT G 7 yX4_match cX4_match 2 (Option.some (Jvm.ClassFile.FieldType.object "ForestLegs$Match")) [.ref a0, .int a1] p0 (f_X4_match p0 a0 a1) := by
  refine CT_of hO (by decide +kernel) (by decide +kernel) (Nat.le_of_ble_eq_true rfl) ?_
  show X G "ForestLegs$Meet" "match" cX4_match 2 (Option.some (Jvm.ClassFile.FieldType.object "ForestLegs$Match")) 7 0 [(0, .ref a0), (1, .int a1)] [] p0 (f_X4_match p0 a0 a1)
  refine x_cl1 (fun e0 => ?_)
  refine x_aload_nr 0 dX4_match_0 rfl rfl (n := 1) rfl ?_
  refine x_getR fl_X4_62 dX4_match_1 (n := 4) rfl (fun x1 => ?_)
  refine x_ifnonnull dX4_match_4 (t := 16) (by decide) (n := 7) rfl (fun e => ?_) (fun b2 e => ?_)
  · subst e
    refine x_aload_nr 0 dX4_match_7 rfl rfl (n := 8) rfl ?_
    refine x_bipush 10 dX4_match_8 rfl (n := 10) rfl ?_
    refine x_anew (t := 5) rfl (by decide) q1507 q1508 dX4_match_10 (n := 13) rfl (fun b3 p4 => ?_)
    refine x_pF (pl_X4_62 _ _ (xfit_a (some b3))) dX4_match_13 (n := 16) rfl (fun p5 => ?_)
    exact f_X4_match_16_ok hO a0 a1 p5
  · subst e
    exact f_X4_match_16_ok hO a0 a1 p0
abbrev cX9_missed : ByteArray := prog_6_method_4_code
def yX9_missed : MethodName := ⟨RX9, "missed", "()I"⟩
def dkwX9_missed_1 : List UInt8 := [54, 5, 27, 21, 5, 2, 160, 0, 7, 4, 167, 0, 4, 3, 96, 60, 132, 4, 1, 167, 255, 227, 27, 172]
abbrev dktX9_missed_1 : List UInt8 := dkwX9_missed_1 ++ []
def dkwX9_missed_0 : List UInt8 := [3, 60, 42, 180, 0, 34, 77, 44, 190, 62, 3, 54, 4, 21, 4, 29, 162, 0, 29, 44, 21, 4, 46]
abbrev dktX9_missed_0 : List UInt8 := dkwX9_missed_0 ++ dktX9_missed_1
theorem dksX9_missed_0 : cX9_missed.data.toList.drop 0 = dktX9_missed_0 := by decide +kernel
theorem dksX9_missed_1 : cX9_missed.data.toList.drop 23 = dktX9_missed_1 := dk_seg dksX9_missed_0 23 rfl rfl
theorem dX9_missed_0 : decode cX9_missed 0 = .ok (.iconst 0, 1) := dk_3 (dk_at dksX9_missed_0 0 rfl rfl)
theorem dX9_missed_1 : decode cX9_missed 1 = .ok (.istore_n 1, 1) := dk_60 (dk_at dksX9_missed_0 1 rfl rfl)
theorem dX9_missed_2 : decode cX9_missed 2 = .ok (.aload_n 0, 1) := dk_42 (dk_at dksX9_missed_0 2 rfl rfl)
theorem dX9_missed_3 : decode cX9_missed 3 = .ok (.getfield 34, 3) := dk_180 0 34 (dk_at dksX9_missed_0 3 rfl rfl)
theorem dX9_missed_6 : decode cX9_missed 6 = .ok (.astore_n 2, 1) := dk_77 (dk_at dksX9_missed_0 6 rfl rfl)
theorem dX9_missed_7 : decode cX9_missed 7 = .ok (.aload_n 2, 1) := dk_44 (dk_at dksX9_missed_0 7 rfl rfl)
theorem dX9_missed_8 : decode cX9_missed 8 = .ok (.arraylength, 1) := dk_190 (dk_at dksX9_missed_0 8 rfl rfl)
theorem dX9_missed_9 : decode cX9_missed 9 = .ok (.istore_n 3, 1) := dk_62 (dk_at dksX9_missed_0 9 rfl rfl)
theorem dX9_missed_10 : decode cX9_missed 10 = .ok (.iconst 0, 1) := dk_3 (dk_at dksX9_missed_0 10 rfl rfl)
theorem dX9_missed_11 : decode cX9_missed 11 = .ok (.istore 4, 2) := dk_54 4 (dk_at dksX9_missed_0 11 rfl rfl)
theorem dX9_missed_13 : decode cX9_missed 13 = .ok (.iload 4, 2) := dk_21 4 (dk_at dksX9_missed_0 13 rfl rfl)
theorem dX9_missed_15 : decode cX9_missed 15 = .ok (.iload_n 3, 1) := dk_29 (dk_at dksX9_missed_0 15 rfl rfl)
theorem dX9_missed_16 : decode cX9_missed 16 = .ok (.if_icmp .ge 29, 3) := dk_162 0 29 (dk_at dksX9_missed_0 16 rfl rfl)
theorem dX9_missed_19 : decode cX9_missed 19 = .ok (.aload_n 2, 1) := dk_44 (dk_at dksX9_missed_0 19 rfl rfl)
theorem dX9_missed_20 : decode cX9_missed 20 = .ok (.iload 4, 2) := dk_21 4 (dk_at dksX9_missed_0 20 rfl rfl)
theorem dX9_missed_22 : decode cX9_missed 22 = .ok (.iaload, 1) := dk_46 (dk_at dksX9_missed_0 22 rfl rfl)
theorem dX9_missed_23 : decode cX9_missed 23 = .ok (.istore 5, 2) := dk_54 5 (dk_at dksX9_missed_1 0 rfl rfl)
theorem dX9_missed_25 : decode cX9_missed 25 = .ok (.iload_n 1, 1) := dk_27 (dk_at dksX9_missed_1 2 rfl rfl)
theorem dX9_missed_26 : decode cX9_missed 26 = .ok (.iload 5, 2) := dk_21 5 (dk_at dksX9_missed_1 3 rfl rfl)
theorem dX9_missed_28 : decode cX9_missed 28 = .ok (.iconst (-1), 1) := dk_2 (dk_at dksX9_missed_1 5 rfl rfl)
theorem dX9_missed_29 : decode cX9_missed 29 = .ok (.if_icmp .ne 7, 3) := dk_160 0 7 (dk_at dksX9_missed_1 6 rfl rfl)
theorem dX9_missed_32 : decode cX9_missed 32 = .ok (.iconst 1, 1) := dk_4 (dk_at dksX9_missed_1 9 rfl rfl)
theorem dX9_missed_33 : decode cX9_missed 33 = .ok (.goto 4, 3) := dk_167 0 4 (dk_at dksX9_missed_1 10 rfl rfl)
theorem dX9_missed_36 : decode cX9_missed 36 = .ok (.iconst 0, 1) := dk_3 (dk_at dksX9_missed_1 13 rfl rfl)
theorem dX9_missed_37 : decode cX9_missed 37 = .ok (.iadd, 1) := dk_96 (dk_at dksX9_missed_1 14 rfl rfl)
theorem dX9_missed_38 : decode cX9_missed 38 = .ok (.istore_n 1, 1) := dk_60 (dk_at dksX9_missed_1 15 rfl rfl)
theorem dX9_missed_39 : decode cX9_missed 39 = .ok (.iinc 4 1, 3) := dk_132 4 1 (dk_at dksX9_missed_1 16 rfl rfl)
theorem dX9_missed_42 : decode cX9_missed 42 = .ok (.goto (-29), 3) := dk_167 255 227 (dk_at dksX9_missed_1 19 rfl rfl)
theorem dX9_missed_45 : decode cX9_missed 45 = .ok (.iload_n 1, 1) := dk_27 (dk_at dksX9_missed_1 22 rfl rfl)
theorem dX9_missed_46 : decode cX9_missed 46 = .ok (.ireturn, 1) := dk_172 (dk_at dksX9_missed_1 23 rfl rfl)
theorem md_X9_missed : xMd yX9_missed cX9_missed 6 (Option.some Jvm.ClassFile.FieldType.int) 0 := ⟨q1554, q158, by decide, by decide +kernel, by decide +kernel, by decide +kernel⟩
def f_X9_missed_37 (a0 : Nat) (k13 : Int32 × Option Nat × Int32 × Int32 × PH → Option (xO × PH)) (v2 : Option Nat) (v3 : Int32) (v4 : Int32) (w0 : Int32) (w1 : Int32) (p0 : PH) : Option (xO × PH) :=
  (bnd (w0 + w1) fun x6 =>
  (bnd (v4 + 1) fun x7 =>
  (k13 (x6, v2, v3, x7, p0))))
def f_X9_missed_13F (a0 : Nat)  (k13 : Int32 × Option Nat × Int32 × Int32 × PH → Option (xO × PH)) (p : Int32 × Option Nat × Int32 × Int32 × PH) : Option (xO × PH) := match p with
  | (v1, v2, v3, v4, p0) => (if v3 ≤ v4 then
  (rI v1 p0) else
  (xnul v2 none fun b4 =>
  (xaI p0 b4 0 v4 fun x5 =>
  (if x5 = (-1) then
  (f_X9_missed_37 a0 k13 ((some b4)) v3 v4 v1 1 p0) else
  (f_X9_missed_37 a0 k13 ((some b4)) v3 v4 v1 0 p0)))))
def f_X9_missed (p0 : PH) (a0 : Nat) : Option (xO × PH) :=
  (xcl1 p0 a0 8 (xgR p0 a0 8 2 fun x1 =>
  (xnul x1 none fun b2 =>
  (xlen p0 b2 fun x3 =>
  (lp (f_X9_missed_13F a0) FU (0, ((some b2)), x3, 0, p0))))))
theorem rc_X9_missed {p0 : PH} {a0 : Nat} : ∀ z, f_X9_missed p0 a0 = some z → xco p0 a0 = some 8 := fun z h => xcl1_some h
theorem f_X9_missed_37_ok {G : xG} (hO : xOK G) (a0 : Nat) {k13 : Int32 × Option Nat × Int32 × Int32 × PH → Option (xO × PH)} (hk13 : ∀ (v1 : Int32) (v2 : Option Nat) (v3 : Int32) (v4 : Int32) (p0 : PH), X G "ForestLegs$Match" "missed" cX9_missed 6 (Option.some Jvm.ClassFile.FieldType.int) 0 13 [(1, .int v1), (2, va_rf v2), (3, .int v3), (4, .int v4)] [] p0 (k13 (v1, v2, v3, v4, p0))) (v2 : Option Nat) (v3 : Int32) (v4 : Int32) (w0 : Int32) (w1 : Int32) (p0 : PH) : X G "ForestLegs$Match" "missed" cX9_missed 6 (Option.some Jvm.ClassFile.FieldType.int) 0 37 [(2, va_rf v2), (3, .int v3), (4, .int v4)] [.int w1, .int w0] p0 (f_X9_missed_37 a0 k13 v2 v3 v4 w0 w1 p0) := by
  unfold f_X9_missed_37
  refine x_iadd dX9_missed_37 (n := 38) rfl ?_
  refine x_nm (fun x6 => ?_)
  refine x_istore_n [(1, .int x6), (2, va_rf v2), (3, .int v3), (4, .int v4)] dX9_missed_38 rfl (by decide) rfl (n := 39) rfl ?_
  refine x_iincB 3 (fun x7 => [(4, .int x7), (1, .int x6), (2, va_rf v2), (3, .int v3)]) dX9_missed_39 rfl rfl (by decide) (fun _ => rfl) (n := 42) rfl (fun x7 => ?_)
  refine x_goto dX9_missed_42 (n := 13) (by decide) ?_
  refine x_sub [1, 2, 3, 0] [(1, .int x6), (2, va_rf v2), (3, .int v3), (4, .int x7)] rfl ?_
  exact hk13 x6 v2 v3 x7 p0
theorem f_X9_missed_13F_ok {G : xG} (hO : xOK G) (a0 : Nat)  {k13 : Int32 × Option Nat × Int32 × Int32 × PH → Option (xO × PH)} (hk13 : ∀ (v1 : Int32) (v2 : Option Nat) (v3 : Int32) (v4 : Int32) (p0 : PH), X G "ForestLegs$Match" "missed" cX9_missed 6 (Option.some Jvm.ClassFile.FieldType.int) 0 13 [(1, .int v1), (2, va_rf v2), (3, .int v3), (4, .int v4)] [] p0 (k13 (v1, v2, v3, v4, p0))) (v1 : Int32) (v2 : Option Nat) (v3 : Int32) (v4 : Int32) (p0 : PH) : X G "ForestLegs$Match" "missed" cX9_missed 6 (Option.some Jvm.ClassFile.FieldType.int) 0 13 [(1, .int v1), (2, va_rf v2), (3, .int v3), (4, .int v4)] [] p0 (f_X9_missed_13F a0 k13 (v1, v2, v3, v4, p0)) := by
  unfold f_X9_missed_13F
  refine x_iload 3 dX9_missed_13 rfl (n := 15) rfl ?_
  refine x_iload_n 2 dX9_missed_15 rfl rfl (n := 16) rfl ?_
  refine x_icmp_ge dX9_missed_16 (t := 45) (by decide) (n := 19) rfl (fun _ => ?_) (fun _ => ?_)
  · refine x_iload_n 0 dX9_missed_45 rfl rfl (n := 46) rfl ?_
    exact x_ireturn dX9_missed_46
  · refine x_aload_n 1 dX9_missed_19 rfl rfl (n := 20) rfl ?_
    refine x_iload 3 dX9_missed_20 rfl (n := 22) rfl ?_
    refine x_sm (fun b4 e => ?_)
    subst e
    refine x_iald (t := 0) rfl dX9_missed_22 (n := 23) rfl (fun x5 => ?_)
    refine x_istore [(5, .int x5), (1, .int v1), (2, .ref b4), (3, .int v3), (4, .int v4)] dX9_missed_23 (by decide) rfl (n := 25) rfl ?_
    refine x_iload_n 1 dX9_missed_25 rfl rfl (n := 26) rfl ?_
    refine x_iload 0 dX9_missed_26 rfl (n := 28) rfl ?_
    refine x_iconst (-1) dX9_missed_28 rfl (n := 29) rfl ?_
    refine x_icmp_ne dX9_missed_29 (t := 36) (by decide) (n := 32) rfl (fun _ => ?_) (fun _ => ?_)
    · refine x_iconst 0 dX9_missed_36 rfl (n := 37) rfl ?_
      refine x_sub [2, 3, 4] [(2, .ref b4), (3, .int v3), (4, .int v4)] rfl ?_
      exact f_X9_missed_37_ok hO a0 hk13 ((some b4)) v3 v4 v1 0 p0
    · refine x_iconst 1 dX9_missed_32 rfl (n := 33) rfl ?_
      refine x_goto dX9_missed_33 (n := 37) (by decide) ?_
      refine x_sub [2, 3, 4] [(2, .ref b4), (3, .int v3), (4, .int v4)] rfl ?_
      exact f_X9_missed_37_ok hO a0 hk13 ((some b4)) v3 v4 v1 1 p0
theorem f_X9_missed_13_lp {G : xG} (hO : xOK G) (a0 : Nat)  (n : Nat) (v1 : Int32) (v2 : Option Nat) (v3 : Int32) (v4 : Int32) (p0 : PH) : X G "ForestLegs$Match" "missed" cX9_missed 6 (Option.some Jvm.ClassFile.FieldType.int) 0 13 [(1, .int v1), (2, va_rf v2), (3, .int v3), (4, .int v4)] [] p0 (lp (f_X9_missed_13F a0) n (v1, v2, v3, v4, p0)) :=
  lp_ok (W := fun p K => X G "ForestLegs$Match" "missed" cX9_missed 6 (Option.some Jvm.ClassFile.FieldType.int) 0 13 [(1, .int p.1), (2, va_rf p.2.1), (3, .int p.2.2.1), (4, .int p.2.2.2.1)] [] p.2.2.2.2 K) (fun _ => x_no) (fun k hk => fun (v1, v2, v3, v4, p0) => f_X9_missed_13F_ok hO a0 (fun v1 v2 v3 v4 p0 => hk (v1, v2, v3, v4, p0)) v1 v2 v3 v4 p0) n (v1, v2, v3, v4, p0)
theorem f_X9_missed_ok {G : xG} (hO : xOK G) (p0 : PH) (a0 : Nat) : CT G 0 yX9_missed cX9_missed 6 (Option.some Jvm.ClassFile.FieldType.int) [.ref a0] p0 (f_X9_missed p0 a0) := by
  refine CT_of hO (by decide +kernel) (by decide +kernel) (Nat.le_of_ble_eq_true rfl) ?_
  show X G "ForestLegs$Match" "missed" cX9_missed 6 (Option.some Jvm.ClassFile.FieldType.int) 0 0 [(0, .ref a0)] [] p0 (f_X9_missed p0 a0)
  refine x_cl1 (fun e0 => ?_)
  refine x_iconst 0 dX9_missed_0 rfl (n := 1) rfl ?_
  refine x_istore_n [(1, .int 0), (0, .ref a0)] dX9_missed_1 rfl (by decide) rfl (n := 2) rfl ?_
  refine x_aload_nr 1 dX9_missed_2 rfl rfl (n := 3) rfl ?_
  refine x_getR fl_X9_34 dX9_missed_3 (n := 6) rfl (fun x1 => ?_)
  refine x_astore_n [(2, va_rf x1), (1, .int 0), (0, .ref a0)] dX9_missed_6 rfl (by decide) rfl (n := 7) rfl ?_
  refine x_aload_n 0 dX9_missed_7 rfl rfl (n := 8) rfl ?_
  refine x_sm (fun b2 e => ?_)
  subst e
  refine x_alen dX9_missed_8 (n := 9) rfl (fun x3 => ?_)
  refine x_istore_n [(3, .int x3), (2, .ref b2), (1, .int 0), (0, .ref a0)] dX9_missed_9 rfl (by decide) rfl (n := 10) rfl ?_
  refine x_iconst 0 dX9_missed_10 rfl (n := 11) rfl ?_
  refine x_istore [(4, .int 0), (3, .int x3), (2, .ref b2), (1, .int 0), (0, .ref a0)] dX9_missed_11 (by decide) rfl (n := 13) rfl ?_
  refine x_sub [3, 2, 1, 0] [(1, .int 0), (2, .ref b2), (3, .int x3), (4, .int 0)] rfl ?_
  exact f_X9_missed_13_lp hO a0 FU 0 ((some b2)) x3 0 p0
abbrev cX4_isValid : ByteArray := prog_7_method_5_code
def yX4_isValid : MethodName := ⟨RX4, "isValid", "(I)Z"⟩
def dkwX4_isValid_0 : List UInt8 := [42, 27, 182, 0, 78, 182, 0, 82, 154, 0, 7, 4, 167, 0, 4, 3, 172]
abbrev dktX4_isValid_0 : List UInt8 := dkwX4_isValid_0 ++ []
theorem dksX4_isValid_0 : cX4_isValid.data.toList.drop 0 = dktX4_isValid_0 := by decide +kernel
theorem dX4_isValid_0 : decode cX4_isValid 0 = .ok (.aload_n 0, 1) := dk_42 (dk_at dksX4_isValid_0 0 rfl rfl)
theorem dX4_isValid_1 : decode cX4_isValid 1 = .ok (.iload_n 1, 1) := dk_27 (dk_at dksX4_isValid_0 1 rfl rfl)
theorem dX4_isValid_2 : decode cX4_isValid 2 = .ok (.invokevirtual 78, 3) := dk_182 0 78 (dk_at dksX4_isValid_0 2 rfl rfl)
theorem dX4_isValid_5 : decode cX4_isValid 5 = .ok (.invokevirtual 82, 3) := dk_182 0 82 (dk_at dksX4_isValid_0 5 rfl rfl)
theorem dX4_isValid_8 : decode cX4_isValid 8 = .ok (.ifCond .ne 7, 3) := dk_154 0 7 (dk_at dksX4_isValid_0 8 rfl rfl)
theorem dX4_isValid_11 : decode cX4_isValid 11 = .ok (.iconst 1, 1) := dk_4 (dk_at dksX4_isValid_0 11 rfl rfl)
theorem dX4_isValid_12 : decode cX4_isValid 12 = .ok (.goto 4, 3) := dk_167 0 4 (dk_at dksX4_isValid_0 12 rfl rfl)
theorem dX4_isValid_15 : decode cX4_isValid 15 = .ok (.iconst 0, 1) := dk_3 (dk_at dksX4_isValid_0 15 rfl rfl)
theorem dX4_isValid_16 : decode cX4_isValid 16 = .ok (.ireturn, 1) := dk_172 (dk_at dksX4_isValid_0 16 rfl rfl)
theorem md_X4_isValid : xMd yX4_isValid cX4_isValid 2 (Option.some Jvm.ClassFile.FieldType.boolean) 1 := ⟨q1502, q128, by decide, by decide +kernel, by decide +kernel, by decide +kernel⟩
def f_X4_isValid (p0 : PH) (a0 : Nat) (a1 : Int32) : Option (xO × PH) :=
  (xcl1 p0 a0 3 (xcR (f_X4_match p0 a0 a1) fun x2 p1 =>
  (xnul x2 none fun b3 =>
  (xcI (f_X9_missed p1 b3 ) fun x5 p4 =>
  (if x5 = 0 then
  (if vp_nar .boolean 1 = 1 then rI 1 p4 else none) else
  (if vp_nar .boolean 0 = 0 then rI 0 p4 else none))))))
theorem rc_X4_isValid {p0 : PH} {a0 : Nat} {a1 : Int32} : ∀ z, f_X4_isValid p0 a0 a1 = some z → xco p0 a0 = some 3 := fun z h => xcl1_some h
theorem f_X4_isValid_ok {G : xG} (hO : xOK G) (p0 : PH) (a0 : Nat) (a1 : Int32) : CT G 8 yX4_isValid cX4_isValid 2 (Option.some Jvm.ClassFile.FieldType.boolean) [.ref a0, .int a1] p0 (f_X4_isValid p0 a0 a1) := by
  refine CT_of hO (by decide +kernel) (by decide +kernel) (Nat.le_of_ble_eq_true rfl) ?_
  show X G "ForestLegs$Meet" "isValid" cX4_isValid 2 (Option.some Jvm.ClassFile.FieldType.boolean) 8 0 [(0, .ref a0), (1, .int a1)] [] p0 (f_X4_isValid p0 a0 a1)
  refine x_cl1 (fun e0 => ?_)
  refine x_aload_nr 0 dX4_isValid_0 rfl rfl (n := 1) rfl ?_
  refine x_iload_n 1 dX4_isValid_1 rfl rfl (n := 2) rfl ?_
  refine x_callV_R [.int a1] [] (f_X4_match_ok hO p0 a0 a1) rc_X4_match md_X4_match rfl q1503 q1504 q1505 dX4_isValid_2 rfl rfl (by decide) (Nat.le_of_ble_eq_true rfl) (n := 5) rfl (fun x2 p1 => ?_)
  refine x_sm (fun b3 e => ?_)
  subst e
  refine x_callV_I [] [] (f_X9_missed_ok hO p1 b3 ) rc_X9_missed md_X9_missed rfl q1551 q1552 q1553 dX4_isValid_5 rfl rfl (by decide) (Nat.le_of_ble_eq_true rfl) (n := 8) rfl (fun x5 p4 => ?_)
  refine x_if_ne dX4_isValid_8 (t := 15) (by decide) (n := 11) rfl (fun _ => ?_) (fun _ => ?_)
  · refine x_iconst 0 dX4_isValid_15 rfl (n := 16) rfl ?_
    exact x_nreturn rfl dX4_isValid_16
  · refine x_iconst 1 dX4_isValid_11 rfl (n := 12) rfl ?_
    refine x_goto dX4_isValid_12 (n := 16) (by decide) ?_
    exact x_nreturn rfl dX4_isValid_16
abbrev cJ1_sub : ByteArray := prog_45_method_9_code
def yJ1_sub : MethodName := ⟨RJ1, "sub", "(III)I"⟩
def dkwJ1_sub_0 : List UInt8 := [26, 27, 100, 89, 59, 156, 0, 7, 26, 28, 96, 59, 26, 172]
abbrev dktJ1_sub_0 : List UInt8 := dkwJ1_sub_0 ++ []
theorem dksJ1_sub_0 : cJ1_sub.data.toList.drop 0 = dktJ1_sub_0 := by decide +kernel
theorem dJ1_sub_0 : decode cJ1_sub 0 = .ok (.iload_n 0, 1) := dk_26 (dk_at dksJ1_sub_0 0 rfl rfl)
theorem dJ1_sub_1 : decode cJ1_sub 1 = .ok (.iload_n 1, 1) := dk_27 (dk_at dksJ1_sub_0 1 rfl rfl)
theorem dJ1_sub_2 : decode cJ1_sub 2 = .ok (.isub, 1) := dk_100 (dk_at dksJ1_sub_0 2 rfl rfl)
theorem dJ1_sub_3 : decode cJ1_sub 3 = .ok (.dup, 1) := dk_89 (dk_at dksJ1_sub_0 3 rfl rfl)
theorem dJ1_sub_4 : decode cJ1_sub 4 = .ok (.istore_n 0, 1) := dk_59 (dk_at dksJ1_sub_0 4 rfl rfl)
theorem dJ1_sub_5 : decode cJ1_sub 5 = .ok (.ifCond .ge 7, 3) := dk_156 0 7 (dk_at dksJ1_sub_0 5 rfl rfl)
theorem dJ1_sub_8 : decode cJ1_sub 8 = .ok (.iload_n 0, 1) := dk_26 (dk_at dksJ1_sub_0 8 rfl rfl)
theorem dJ1_sub_9 : decode cJ1_sub 9 = .ok (.iload_n 2, 1) := dk_28 (dk_at dksJ1_sub_0 9 rfl rfl)
theorem dJ1_sub_10 : decode cJ1_sub 10 = .ok (.iadd, 1) := dk_96 (dk_at dksJ1_sub_0 10 rfl rfl)
theorem dJ1_sub_11 : decode cJ1_sub 11 = .ok (.istore_n 0, 1) := dk_59 (dk_at dksJ1_sub_0 11 rfl rfl)
theorem dJ1_sub_12 : decode cJ1_sub 12 = .ok (.iload_n 0, 1) := dk_26 (dk_at dksJ1_sub_0 12 rfl rfl)
theorem dJ1_sub_13 : decode cJ1_sub 13 = .ok (.ireturn, 1) := dk_172 (dk_at dksJ1_sub_0 13 rfl rfl)
theorem md_J1_sub : xMd yJ1_sub cJ1_sub 3 (Option.some Jvm.ClassFile.FieldType.int) 3 := ⟨q1561, q125, by decide, by decide +kernel, by decide +kernel, by decide +kernel⟩
def f_J1_sub (p0 : PH) (a0 : Int32) (a1 : Int32) (a2 : Int32) : Option (xO × PH) :=
  (bnd (a0 - a1) fun x1 =>
  (if 0 ≤ x1 then
  (rI x1 p0) else
  (bnd (x1 + a2) fun x2 =>
  (rI x2 p0))))
theorem f_J1_sub_ok {G : xG} (hO : xOK G) (p0 : PH) (a0 : Int32) (a1 : Int32) (a2 : Int32) : CT G 0 yJ1_sub cJ1_sub 3 (Option.some Jvm.ClassFile.FieldType.int) [.int a0, .int a1, .int a2] p0 (f_J1_sub p0 a0 a1 a2) := by
  refine CT_of hO (by decide +kernel) (by decide +kernel) (Nat.le_of_ble_eq_true rfl) ?_
  show X G "java/util/ArrayDeque" "sub" cJ1_sub 3 (Option.some Jvm.ClassFile.FieldType.int) 0 0 [(0, .int a0), (1, .int a1), (2, .int a2)] [] p0 (f_J1_sub p0 a0 a1 a2)
  refine x_iload_n 0 dJ1_sub_0 rfl rfl (n := 1) rfl ?_
  refine x_iload_n 1 dJ1_sub_1 rfl rfl (n := 2) rfl ?_
  refine x_isub dJ1_sub_2 (n := 3) rfl ?_
  refine x_nm (fun x1 => ?_)
  refine x_dup dJ1_sub_3 rfl (n := 4) rfl ?_
  refine x_istore_n [(0, .int x1), (1, .int a1), (2, .int a2)] dJ1_sub_4 rfl (by decide) rfl (n := 5) rfl ?_
  refine x_if_ge dJ1_sub_5 (t := 12) (by decide) (n := 8) rfl (fun _ => ?_) (fun _ => ?_)
  · refine x_iload_n 0 dJ1_sub_12 rfl rfl (n := 13) rfl ?_
    exact x_ireturn dJ1_sub_13
  · refine x_iload_n 0 dJ1_sub_8 rfl rfl (n := 9) rfl ?_
    refine x_iload_n 2 dJ1_sub_9 rfl rfl (n := 10) rfl ?_
    refine x_iadd dJ1_sub_10 (n := 11) rfl ?_
    refine x_nm (fun x2 => ?_)
    refine x_istore_n [(0, .int x2), (1, .int a1), (2, .int a2)] dJ1_sub_11 rfl (by decide) rfl (n := 12) rfl ?_
    refine x_iload_n 0 dJ1_sub_12 rfl rfl (n := 13) rfl ?_
    exact x_ireturn dJ1_sub_13
abbrev cJ1_size : ByteArray := prog_45_method_37_code
def yJ1_size : MethodName := ⟨RJ1, "size", "()I"⟩
def dkwJ1_size_0 : List UInt8 := [42, 180, 0, 20, 42, 180, 0, 24, 42, 180, 0, 3, 190, 184, 0, 127, 172]
abbrev dktJ1_size_0 : List UInt8 := dkwJ1_size_0 ++ []
theorem dksJ1_size_0 : cJ1_size.data.toList.drop 0 = dktJ1_size_0 := by decide +kernel
theorem dJ1_size_0 : decode cJ1_size 0 = .ok (.aload_n 0, 1) := dk_42 (dk_at dksJ1_size_0 0 rfl rfl)
theorem dJ1_size_1 : decode cJ1_size 1 = .ok (.getfield 20, 3) := dk_180 0 20 (dk_at dksJ1_size_0 1 rfl rfl)
theorem dJ1_size_4 : decode cJ1_size 4 = .ok (.aload_n 0, 1) := dk_42 (dk_at dksJ1_size_0 4 rfl rfl)
theorem dJ1_size_5 : decode cJ1_size 5 = .ok (.getfield 24, 3) := dk_180 0 24 (dk_at dksJ1_size_0 5 rfl rfl)
theorem dJ1_size_8 : decode cJ1_size 8 = .ok (.aload_n 0, 1) := dk_42 (dk_at dksJ1_size_0 8 rfl rfl)
theorem dJ1_size_9 : decode cJ1_size 9 = .ok (.getfield 3, 3) := dk_180 0 3 (dk_at dksJ1_size_0 9 rfl rfl)
theorem dJ1_size_12 : decode cJ1_size 12 = .ok (.arraylength, 1) := dk_190 (dk_at dksJ1_size_0 12 rfl rfl)
theorem dJ1_size_13 : decode cJ1_size 13 = .ok (.invokestatic 127, 3) := dk_184 0 127 (dk_at dksJ1_size_0 13 rfl rfl)
theorem dJ1_size_16 : decode cJ1_size 16 = .ok (.ireturn, 1) := dk_172 (dk_at dksJ1_size_0 16 rfl rfl)
theorem md_J1_size : xMd yJ1_size cJ1_size 1 (Option.some Jvm.ClassFile.FieldType.int) 0 := ⟨q1558, q125, by decide, by decide +kernel, by decide +kernel, by decide +kernel⟩
def f_J1_size (p0 : PH) (a0 : Nat) : Option (xO × PH) :=
  (xcl1 p0 a0 13 (xgI p0 a0 13 2 fun x1 =>
  (xgI p0 a0 13 1 fun x2 =>
  (xgR p0 a0 13 0 fun x3 =>
  (xnul x3 none fun b4 =>
  (xlen p0 b4 fun x5 =>
  (xcI (f_J1_sub p0 x1 x2 x5) fun x7 p6 =>
  (rI x7 p6))))))))
theorem rc_J1_size {p0 : PH} {a0 : Nat} : ∀ z, f_J1_size p0 a0 = some z → xco p0 a0 = some 13 := fun z h => xcl1_some h
theorem f_J1_size_ok {G : xG} (hO : xOK G) (p0 : PH) (a0 : Nat) : CT G 1 yJ1_size cJ1_size 1 (Option.some Jvm.ClassFile.FieldType.int) [.ref a0] p0 (f_J1_size p0 a0) := by
  refine CT_of hO (by decide +kernel) (by decide +kernel) (Nat.le_of_ble_eq_true rfl) ?_
  show X G "java/util/ArrayDeque" "size" cJ1_size 1 (Option.some Jvm.ClassFile.FieldType.int) 1 0 [(0, .ref a0)] [] p0 (f_J1_size p0 a0)
  refine x_cl1 (fun e0 => ?_)
  refine x_aload_nr 0 dJ1_size_0 rfl rfl (n := 1) rfl ?_
  refine x_getI fl_J1_20 dJ1_size_1 (n := 4) rfl (fun x1 => ?_)
  refine x_aload_nr 0 dJ1_size_4 rfl rfl (n := 5) rfl ?_
  refine x_getI fl_J1_24 dJ1_size_5 (n := 8) rfl (fun x2 => ?_)
  refine x_aload_nr 0 dJ1_size_8 rfl rfl (n := 9) rfl ?_
  refine x_getR fl_J1_3 dJ1_size_9 (n := 12) rfl (fun x3 => ?_)
  refine x_sm (fun b4 e => ?_)
  subst e
  refine x_alen dJ1_size_12 (n := 13) rfl (fun x5 => ?_)
  refine x_callS_I [.int x1, .int x2, .int x5] [] (f_J1_sub_ok hO p0 x1 x2 x5) md_J1_sub q1559 q1560 dJ1_size_13 rfl rfl (by decide) (Nat.le_of_ble_eq_true rfl) (n := 16) rfl (fun x7 p6 => ?_)
  exact x_ireturn dJ1_size_16
abbrev cX1_about : ByteArray := prog_1_method_15_code
def yX1_about : MethodName := ⟨RX1, "about", "(I)I"⟩
def dkwX1_about_8 : List UInt8 := [42, 42, 180, 0, 29, 182, 0, 124, 182, 0, 83, 172, 42, 4, 182, 0, 40, 172]
abbrev dktX1_about_8 : List UInt8 := dkwX1_about_8 ++ []
def dkwX1_about_7 : List UInt8 := [42, 42, 180, 0, 56, 180, 0, 121, 182, 0, 83, 172, 42, 28, 182, 0, 83, 172, 42, 29, 182, 0, 83, 172]
abbrev dktX1_about_7 : List UInt8 := dkwX1_about_7 ++ dktX1_about_8
def dkwX1_about_6 : List UInt8 := [180, 0, 71, 185, 0, 77, 1, 0, 182, 0, 83, 172, 42, 42, 180, 0, 56, 180, 0, 118, 182, 0, 83, 172]
abbrev dktX1_about_6 : List UInt8 := dkwX1_about_6 ++ dktX1_about_7
def dkwX1_about_5 : List UInt8 := [42, 42, 180, 0, 56, 180, 0, 86, 185, 0, 77, 1, 0, 182, 0, 83, 172, 42, 42, 180, 0, 56]
abbrev dktX1_about_5 : List UInt8 := dkwX1_about_5 ++ dktX1_about_6
def dkwX1_about_4 : List UInt8 := [170, 0, 0, 0, 0, 0, 0, 126, 0, 0, 0, 0, 0, 0, 0, 6, 0, 0, 0, 44, 0, 0, 0, 61, 0, 0, 0, 78, 0, 0, 0, 90, 0, 0, 0, 102, 0, 0, 0, 108, 0, 0, 0, 114]
abbrev dktX1_about_4 : List UInt8 := dkwX1_about_4 ++ dktX1_about_5
def dkwX1_about_3 : List UInt8 := [21, 4, 182, 0, 115, 153, 0, 7, 4, 167, 0, 4, 3, 96, 62, 132, 4, 1, 167, 255, 188, 27]
abbrev dktX1_about_3 : List UInt8 := dkwX1_about_3 ++ dktX1_about_4
def dkwX1_about_2 : List UInt8 := [185, 0, 93, 2, 0, 192, 0, 103, 180, 0, 112, 185, 0, 77, 1, 0, 96, 61, 29, 42, 180, 0, 56]
abbrev dktX1_about_2 : List UInt8 := dkwX1_about_2 ++ dktX1_about_3
def dkwX1_about_1 : List UInt8 := [180, 0, 56, 180, 0, 71, 185, 0, 77, 1, 0, 162, 0, 57, 28, 42, 180, 0, 56, 180, 0, 71, 21, 4]
abbrev dktX1_about_1 : List UInt8 := dkwX1_about_1 ++ dktX1_about_2
def dkwX1_about_0 : List UInt8 := [42, 180, 0, 56, 199, 0, 9, 42, 4, 182, 0, 40, 172, 3, 61, 3, 62, 3, 54, 4, 21, 4, 42]
abbrev dktX1_about_0 : List UInt8 := dkwX1_about_0 ++ dktX1_about_1
theorem dksX1_about_0 : cX1_about.data.toList.drop 0 = dktX1_about_0 := by decide +kernel
theorem dksX1_about_1 : cX1_about.data.toList.drop 23 = dktX1_about_1 := dk_seg dksX1_about_0 23 rfl rfl
theorem dksX1_about_2 : cX1_about.data.toList.drop 47 = dktX1_about_2 := dk_seg dksX1_about_1 24 rfl rfl
theorem dksX1_about_3 : cX1_about.data.toList.drop 70 = dktX1_about_3 := dk_seg dksX1_about_2 23 rfl rfl
theorem dksX1_about_4 : cX1_about.data.toList.drop 92 = dktX1_about_4 := dk_seg dksX1_about_3 22 rfl rfl
theorem dksX1_about_5 : cX1_about.data.toList.drop 136 = dktX1_about_5 := dk_seg dksX1_about_4 44 rfl rfl
theorem dksX1_about_6 : cX1_about.data.toList.drop 158 = dktX1_about_6 := dk_seg dksX1_about_5 22 rfl rfl
theorem dksX1_about_7 : cX1_about.data.toList.drop 182 = dktX1_about_7 := dk_seg dksX1_about_6 24 rfl rfl
theorem dksX1_about_8 : cX1_about.data.toList.drop 206 = dktX1_about_8 := dk_seg dksX1_about_7 24 rfl rfl
theorem dX1_about_0 : decode cX1_about 0 = .ok (.aload_n 0, 1) := dk_42 (dk_at dksX1_about_0 0 rfl rfl)
theorem dX1_about_1 : decode cX1_about 1 = .ok (.getfield 56, 3) := dk_180 0 56 (dk_at dksX1_about_0 1 rfl rfl)
theorem dX1_about_4 : decode cX1_about 4 = .ok (.ifnonnull 9, 3) := dk_199 0 9 (dk_at dksX1_about_0 4 rfl rfl)
theorem dX1_about_7 : decode cX1_about 7 = .ok (.aload_n 0, 1) := dk_42 (dk_at dksX1_about_0 7 rfl rfl)
theorem dX1_about_8 : decode cX1_about 8 = .ok (.iconst 1, 1) := dk_4 (dk_at dksX1_about_0 8 rfl rfl)
theorem dX1_about_9 : decode cX1_about 9 = .ok (.invokevirtual 40, 3) := dk_182 0 40 (dk_at dksX1_about_0 9 rfl rfl)
theorem dX1_about_12 : decode cX1_about 12 = .ok (.ireturn, 1) := dk_172 (dk_at dksX1_about_0 12 rfl rfl)
theorem dX1_about_13 : decode cX1_about 13 = .ok (.iconst 0, 1) := dk_3 (dk_at dksX1_about_0 13 rfl rfl)
theorem dX1_about_14 : decode cX1_about 14 = .ok (.istore_n 2, 1) := dk_61 (dk_at dksX1_about_0 14 rfl rfl)
theorem dX1_about_15 : decode cX1_about 15 = .ok (.iconst 0, 1) := dk_3 (dk_at dksX1_about_0 15 rfl rfl)
theorem dX1_about_16 : decode cX1_about 16 = .ok (.istore_n 3, 1) := dk_62 (dk_at dksX1_about_0 16 rfl rfl)
theorem dX1_about_17 : decode cX1_about 17 = .ok (.iconst 0, 1) := dk_3 (dk_at dksX1_about_0 17 rfl rfl)
theorem dX1_about_18 : decode cX1_about 18 = .ok (.istore 4, 2) := dk_54 4 (dk_at dksX1_about_0 18 rfl rfl)
theorem dX1_about_20 : decode cX1_about 20 = .ok (.iload 4, 2) := dk_21 4 (dk_at dksX1_about_0 20 rfl rfl)
theorem dX1_about_22 : decode cX1_about 22 = .ok (.aload_n 0, 1) := dk_42 (dk_at dksX1_about_0 22 rfl rfl)
theorem dX1_about_23 : decode cX1_about 23 = .ok (.getfield 56, 3) := dk_180 0 56 (dk_at dksX1_about_1 0 rfl rfl)
theorem dX1_about_26 : decode cX1_about 26 = .ok (.getfield 71, 3) := dk_180 0 71 (dk_at dksX1_about_1 3 rfl rfl)
theorem dX1_about_29 : decode cX1_about 29 = .ok (.invokeinterface 77 1, 5) := by decide +kernel
theorem dX1_about_34 : decode cX1_about 34 = .ok (.if_icmp .ge 57, 3) := dk_162 0 57 (dk_at dksX1_about_1 11 rfl rfl)
theorem dX1_about_37 : decode cX1_about 37 = .ok (.iload_n 2, 1) := dk_28 (dk_at dksX1_about_1 14 rfl rfl)
theorem dX1_about_38 : decode cX1_about 38 = .ok (.aload_n 0, 1) := dk_42 (dk_at dksX1_about_1 15 rfl rfl)
theorem dX1_about_39 : decode cX1_about 39 = .ok (.getfield 56, 3) := dk_180 0 56 (dk_at dksX1_about_1 16 rfl rfl)
theorem dX1_about_42 : decode cX1_about 42 = .ok (.getfield 71, 3) := dk_180 0 71 (dk_at dksX1_about_1 19 rfl rfl)
theorem dX1_about_45 : decode cX1_about 45 = .ok (.iload 4, 2) := dk_21 4 (dk_at dksX1_about_1 22 rfl rfl)
theorem dX1_about_47 : decode cX1_about 47 = .ok (.invokeinterface 93 2, 5) := by decide +kernel
theorem dX1_about_52 : decode cX1_about 52 = .ok (.checkcast 103, 3) := dk_192 0 103 (dk_at dksX1_about_2 5 rfl rfl)
theorem dX1_about_55 : decode cX1_about 55 = .ok (.getfield 112, 3) := dk_180 0 112 (dk_at dksX1_about_2 8 rfl rfl)
theorem dX1_about_58 : decode cX1_about 58 = .ok (.invokeinterface 77 1, 5) := by decide +kernel
theorem dX1_about_63 : decode cX1_about 63 = .ok (.iadd, 1) := dk_96 (dk_at dksX1_about_2 16 rfl rfl)
theorem dX1_about_64 : decode cX1_about 64 = .ok (.istore_n 2, 1) := dk_61 (dk_at dksX1_about_2 17 rfl rfl)
theorem dX1_about_65 : decode cX1_about 65 = .ok (.iload_n 3, 1) := dk_29 (dk_at dksX1_about_2 18 rfl rfl)
theorem dX1_about_66 : decode cX1_about 66 = .ok (.aload_n 0, 1) := dk_42 (dk_at dksX1_about_2 19 rfl rfl)
theorem dX1_about_67 : decode cX1_about 67 = .ok (.getfield 56, 3) := dk_180 0 56 (dk_at dksX1_about_2 20 rfl rfl)
theorem dX1_about_70 : decode cX1_about 70 = .ok (.iload 4, 2) := dk_21 4 (dk_at dksX1_about_3 0 rfl rfl)
theorem dX1_about_72 : decode cX1_about 72 = .ok (.invokevirtual 115, 3) := dk_182 0 115 (dk_at dksX1_about_3 2 rfl rfl)
theorem dX1_about_75 : decode cX1_about 75 = .ok (.ifCond .eq 7, 3) := dk_153 0 7 (dk_at dksX1_about_3 5 rfl rfl)
theorem dX1_about_78 : decode cX1_about 78 = .ok (.iconst 1, 1) := dk_4 (dk_at dksX1_about_3 8 rfl rfl)
theorem dX1_about_79 : decode cX1_about 79 = .ok (.goto 4, 3) := dk_167 0 4 (dk_at dksX1_about_3 9 rfl rfl)
theorem dX1_about_82 : decode cX1_about 82 = .ok (.iconst 0, 1) := dk_3 (dk_at dksX1_about_3 12 rfl rfl)
theorem dX1_about_83 : decode cX1_about 83 = .ok (.iadd, 1) := dk_96 (dk_at dksX1_about_3 13 rfl rfl)
theorem dX1_about_84 : decode cX1_about 84 = .ok (.istore_n 3, 1) := dk_62 (dk_at dksX1_about_3 14 rfl rfl)
theorem dX1_about_85 : decode cX1_about 85 = .ok (.iinc 4 1, 3) := dk_132 4 1 (dk_at dksX1_about_3 15 rfl rfl)
theorem dX1_about_88 : decode cX1_about 88 = .ok (.goto (-68), 3) := dk_167 255 188 (dk_at dksX1_about_3 18 rfl rfl)
theorem dX1_about_91 : decode cX1_about 91 = .ok (.iload_n 1, 1) := dk_27 (dk_at dksX1_about_3 21 rfl rfl)
theorem dX1_about_92 : decode cX1_about 92 = .ok (.tableswitch 126 0 6 #[44, 61, 78, 90, 102, 108, 114], 44) := by decide +kernel
theorem dX1_about_136 : decode cX1_about 136 = .ok (.aload_n 0, 1) := dk_42 (dk_at dksX1_about_5 0 rfl rfl)
theorem dX1_about_137 : decode cX1_about 137 = .ok (.aload_n 0, 1) := dk_42 (dk_at dksX1_about_5 1 rfl rfl)
theorem dX1_about_138 : decode cX1_about 138 = .ok (.getfield 56, 3) := dk_180 0 56 (dk_at dksX1_about_5 2 rfl rfl)
theorem dX1_about_141 : decode cX1_about 141 = .ok (.getfield 86, 3) := dk_180 0 86 (dk_at dksX1_about_5 5 rfl rfl)
theorem dX1_about_144 : decode cX1_about 144 = .ok (.invokeinterface 77 1, 5) := by decide +kernel
theorem dX1_about_149 : decode cX1_about 149 = .ok (.invokevirtual 83, 3) := dk_182 0 83 (dk_at dksX1_about_5 13 rfl rfl)
theorem dX1_about_152 : decode cX1_about 152 = .ok (.ireturn, 1) := dk_172 (dk_at dksX1_about_5 16 rfl rfl)
theorem dX1_about_153 : decode cX1_about 153 = .ok (.aload_n 0, 1) := dk_42 (dk_at dksX1_about_5 17 rfl rfl)
theorem dX1_about_154 : decode cX1_about 154 = .ok (.aload_n 0, 1) := dk_42 (dk_at dksX1_about_5 18 rfl rfl)
theorem dX1_about_155 : decode cX1_about 155 = .ok (.getfield 56, 3) := dk_180 0 56 (dk_at dksX1_about_5 19 rfl rfl)
theorem dX1_about_158 : decode cX1_about 158 = .ok (.getfield 71, 3) := dk_180 0 71 (dk_at dksX1_about_6 0 rfl rfl)
theorem dX1_about_161 : decode cX1_about 161 = .ok (.invokeinterface 77 1, 5) := by decide +kernel
theorem dX1_about_166 : decode cX1_about 166 = .ok (.invokevirtual 83, 3) := dk_182 0 83 (dk_at dksX1_about_6 8 rfl rfl)
theorem dX1_about_169 : decode cX1_about 169 = .ok (.ireturn, 1) := dk_172 (dk_at dksX1_about_6 11 rfl rfl)
theorem dX1_about_170 : decode cX1_about 170 = .ok (.aload_n 0, 1) := dk_42 (dk_at dksX1_about_6 12 rfl rfl)
theorem dX1_about_171 : decode cX1_about 171 = .ok (.aload_n 0, 1) := dk_42 (dk_at dksX1_about_6 13 rfl rfl)
theorem dX1_about_172 : decode cX1_about 172 = .ok (.getfield 56, 3) := dk_180 0 56 (dk_at dksX1_about_6 14 rfl rfl)
theorem dX1_about_175 : decode cX1_about 175 = .ok (.getfield 118, 3) := dk_180 0 118 (dk_at dksX1_about_6 17 rfl rfl)
theorem dX1_about_178 : decode cX1_about 178 = .ok (.invokevirtual 83, 3) := dk_182 0 83 (dk_at dksX1_about_6 20 rfl rfl)
theorem dX1_about_181 : decode cX1_about 181 = .ok (.ireturn, 1) := dk_172 (dk_at dksX1_about_6 23 rfl rfl)
theorem dX1_about_182 : decode cX1_about 182 = .ok (.aload_n 0, 1) := dk_42 (dk_at dksX1_about_7 0 rfl rfl)
theorem dX1_about_183 : decode cX1_about 183 = .ok (.aload_n 0, 1) := dk_42 (dk_at dksX1_about_7 1 rfl rfl)
theorem dX1_about_184 : decode cX1_about 184 = .ok (.getfield 56, 3) := dk_180 0 56 (dk_at dksX1_about_7 2 rfl rfl)
theorem dX1_about_187 : decode cX1_about 187 = .ok (.getfield 121, 3) := dk_180 0 121 (dk_at dksX1_about_7 5 rfl rfl)
theorem dX1_about_190 : decode cX1_about 190 = .ok (.invokevirtual 83, 3) := dk_182 0 83 (dk_at dksX1_about_7 8 rfl rfl)
theorem dX1_about_193 : decode cX1_about 193 = .ok (.ireturn, 1) := dk_172 (dk_at dksX1_about_7 11 rfl rfl)
theorem dX1_about_194 : decode cX1_about 194 = .ok (.aload_n 0, 1) := dk_42 (dk_at dksX1_about_7 12 rfl rfl)
theorem dX1_about_195 : decode cX1_about 195 = .ok (.iload_n 2, 1) := dk_28 (dk_at dksX1_about_7 13 rfl rfl)
theorem dX1_about_196 : decode cX1_about 196 = .ok (.invokevirtual 83, 3) := dk_182 0 83 (dk_at dksX1_about_7 14 rfl rfl)
theorem dX1_about_199 : decode cX1_about 199 = .ok (.ireturn, 1) := dk_172 (dk_at dksX1_about_7 17 rfl rfl)
theorem dX1_about_200 : decode cX1_about 200 = .ok (.aload_n 0, 1) := dk_42 (dk_at dksX1_about_7 18 rfl rfl)
theorem dX1_about_201 : decode cX1_about 201 = .ok (.iload_n 3, 1) := dk_29 (dk_at dksX1_about_7 19 rfl rfl)
theorem dX1_about_202 : decode cX1_about 202 = .ok (.invokevirtual 83, 3) := dk_182 0 83 (dk_at dksX1_about_7 20 rfl rfl)
theorem dX1_about_205 : decode cX1_about 205 = .ok (.ireturn, 1) := dk_172 (dk_at dksX1_about_7 23 rfl rfl)
theorem dX1_about_206 : decode cX1_about 206 = .ok (.aload_n 0, 1) := dk_42 (dk_at dksX1_about_8 0 rfl rfl)
theorem dX1_about_207 : decode cX1_about 207 = .ok (.aload_n 0, 1) := dk_42 (dk_at dksX1_about_8 1 rfl rfl)
theorem dX1_about_208 : decode cX1_about 208 = .ok (.getfield 29, 3) := dk_180 0 29 (dk_at dksX1_about_8 2 rfl rfl)
theorem dX1_about_211 : decode cX1_about 211 = .ok (.invokevirtual 124, 3) := dk_182 0 124 (dk_at dksX1_about_8 5 rfl rfl)
theorem dX1_about_214 : decode cX1_about 214 = .ok (.invokevirtual 83, 3) := dk_182 0 83 (dk_at dksX1_about_8 8 rfl rfl)
theorem dX1_about_217 : decode cX1_about 217 = .ok (.ireturn, 1) := dk_172 (dk_at dksX1_about_8 11 rfl rfl)
theorem dX1_about_218 : decode cX1_about 218 = .ok (.aload_n 0, 1) := dk_42 (dk_at dksX1_about_8 12 rfl rfl)
theorem dX1_about_219 : decode cX1_about 219 = .ok (.iconst 1, 1) := dk_4 (dk_at dksX1_about_8 13 rfl rfl)
theorem dX1_about_220 : decode cX1_about 220 = .ok (.invokevirtual 40, 3) := dk_182 0 40 (dk_at dksX1_about_8 14 rfl rfl)
theorem dX1_about_223 : decode cX1_about 223 = .ok (.ireturn, 1) := dk_172 (dk_at dksX1_about_8 17 rfl rfl)
theorem md_X1_about : xMd yX1_about cX1_about 5 (Option.some Jvm.ClassFile.FieldType.int) 1 := ⟨q1495, q123, by decide, by decide +kernel, by decide +kernel, by decide +kernel⟩
def f_X1_about_83 (a0 : Nat) (k20 : Int32 × Int32 × Int32 × Int32 × PH → Option (xO × PH)) (v1 : Int32) (v2 : Int32) (v4 : Int32) (w0 : Int32) (w1 : Int32) (p0 : PH) : Option (xO × PH) :=
  (bnd (w0 + w1) fun x65 =>
  (bnd (v4 + 1) fun x66 =>
  (k20 (v1, v2, x65, x66, p0))))
def f_X1_about_20F (a0 : Nat)  (k20 : Int32 × Int32 × Int32 × Int32 × PH → Option (xO × PH)) (p : Int32 × Int32 × Int32 × Int32 × PH) : Option (xO × PH) := match p with
  | (v1, v2, v3, v4, p0) => (xgR p0 a0 0 5 fun x5 =>
  (xnul x5 none fun b6 =>
  (xgR p0 b6 3 1 fun x7 =>
  (xnul x7 none fun b8 =>
  (xcI (f_J3_size p0 b8 ) fun x10 p9 =>
  (if x10 ≤ v4 then
  (xtab v1 0 [
  (xgR p9 a0 0 5 fun x13 =>
  (xnul x13 none fun b14 =>
  (xgR p9 b14 3 0 fun x15 =>
  (xnul x15 none fun b16 =>
  (xcI (f_J3_size p9 b16 ) fun x18 p17 =>
  (xcI (f_X1_fine p17 a0 x18) fun x20 p19 =>
  (rI x20 p19))))))),
  (xgR p9 a0 0 5 fun x21 =>
  (xnul x21 none fun b22 =>
  (xgR p9 b22 3 1 fun x23 =>
  (xnul x23 none fun b24 =>
  (xcI (f_J3_size p9 b24 ) fun x26 p25 =>
  (xcI (f_X1_fine p25 a0 x26) fun x28 p27 =>
  (rI x28 p27))))))),
  (xgR p9 a0 0 5 fun x29 =>
  (xnul x29 none fun b30 =>
  (xgI p9 b30 3 2 fun x31 =>
  (xcI (f_X1_fine p9 a0 x31) fun x33 p32 =>
  (rI x33 p32))))),
  (xgR p9 a0 0 5 fun x34 =>
  (xnul x34 none fun b35 =>
  (xgI p9 b35 3 3 fun x36 =>
  (xcI (f_X1_fine p9 a0 x36) fun x38 p37 =>
  (rI x38 p37))))),
  (xcI (f_X1_fine p9 a0 v2) fun x40 p39 =>
  (rI x40 p39)),
  (xcI (f_X1_fine p9 a0 v3) fun x42 p41 =>
  (rI x42 p41)),
  (xgR p9 a0 0 6 fun x43 =>
  (xnul x43 none fun b44 =>
  (xcI (f_J1_size p9 b44 ) fun x46 p45 =>
  (xcI (f_X1_fine p45 a0 x46) fun x48 p47 =>
  (rI x48 p47)))))]
  (xcI (f_X1_refused p9 a0 1) fun x12 p11 =>
  (rI x12 p11))) else
  (xgR p9 a0 0 5 fun x49 =>
  (xnul x49 none fun b50 =>
  (xgR p9 b50 3 1 fun x51 =>
  (xnul x51 none fun b52 =>
  (xcR (f_J3_get p9 b52 v4) fun x54 p53 =>
  (xcst p53 (x54) [6]
  (xnul x54 none fun b55 =>
  (xgR p53 b55 6 4 fun x56 =>
  (xnul x56 none fun b57 =>
  (xcI (f_J3_size p53 b57 ) fun x59 p58 =>
  (bnd (v2 + x59) fun x60 =>
  (xgR p58 a0 0 5 fun x61 =>
  (xnul x61 none fun b62 =>
  (xcI (f_X4_isValid p58 b62 v4) fun x64 p63 =>
  (if x64 = 0 then
  (f_X1_about_83 a0 k20 v1 x60 v4 v3 0 p63) else
  (f_X1_about_83 a0 k20 v1 x60 v4 v3 1 p63))))))))))))))))))))))
def f_X1_about (p0 : PH) (a0 : Nat) (a1 : Int32) : Option (xO × PH) :=
  (xcl1 p0 a0 0 (xgR p0 a0 0 5 fun x1 =>
  (xnul x1 (xcI (f_X1_refused p0 a0 1) fun x4 p3 =>
  (rI x4 p3)) fun b2 =>
  (lp (f_X1_about_20F a0) FU (a1, 0, 0, 0, p0)))))
theorem rc_X1_about {p0 : PH} {a0 : Nat} {a1 : Int32} : ∀ z, f_X1_about p0 a0 a1 = some z → xco p0 a0 = some 0 := fun z h => xcl1_some h
theorem f_X1_about_83_ok {G : xG} (hO : xOK G) (a0 : Nat) {k20 : Int32 × Int32 × Int32 × Int32 × PH → Option (xO × PH)} (hk20 : ∀ (v1 : Int32) (v2 : Int32) (v3 : Int32) (v4 : Int32) (p0 : PH), X G "ForestLegs" "about" cX1_about 5 (Option.some Jvm.ClassFile.FieldType.int) 9 20 [(0, .ref a0), (1, .int v1), (2, .int v2), (3, .int v3), (4, .int v4)] [] p0 (k20 (v1, v2, v3, v4, p0))) (v1 : Int32) (v2 : Int32) (v4 : Int32) (w0 : Int32) (w1 : Int32) (p0 : PH) : X G "ForestLegs" "about" cX1_about 5 (Option.some Jvm.ClassFile.FieldType.int) 9 83 [(0, .ref a0), (1, .int v1), (2, .int v2), (4, .int v4)] [.int w1, .int w0] p0 (f_X1_about_83 a0 k20 v1 v2 v4 w0 w1 p0) := by
  unfold f_X1_about_83
  refine x_iadd dX1_about_83 (n := 84) rfl ?_
  refine x_nm (fun x65 => ?_)
  refine x_istore_n [(3, .int x65), (0, .ref a0), (1, .int v1), (2, .int v2), (4, .int v4)] dX1_about_84 rfl (by decide) rfl (n := 85) rfl ?_
  refine x_iincB 4 (fun x66 => [(4, .int x66), (3, .int x65), (0, .ref a0), (1, .int v1), (2, .int v2)]) dX1_about_85 rfl rfl (by decide) (fun _ => rfl) (n := 88) rfl (fun x66 => ?_)
  refine x_goto dX1_about_88 (n := 20) (by decide) ?_
  refine x_sub [2, 3, 4, 1, 0] [(0, .ref a0), (1, .int v1), (2, .int v2), (3, .int x65), (4, .int x66)] rfl ?_
  exact hk20 v1 v2 x65 x66 p0
theorem f_X1_about_20F_ok {G : xG} (hO : xOK G) (a0 : Nat)  {k20 : Int32 × Int32 × Int32 × Int32 × PH → Option (xO × PH)} (hk20 : ∀ (v1 : Int32) (v2 : Int32) (v3 : Int32) (v4 : Int32) (p0 : PH), X G "ForestLegs" "about" cX1_about 5 (Option.some Jvm.ClassFile.FieldType.int) 9 20 [(0, .ref a0), (1, .int v1), (2, .int v2), (3, .int v3), (4, .int v4)] [] p0 (k20 (v1, v2, v3, v4, p0))) (v1 : Int32) (v2 : Int32) (v3 : Int32) (v4 : Int32) (p0 : PH) : X G "ForestLegs" "about" cX1_about 5 (Option.some Jvm.ClassFile.FieldType.int) 9 20 [(0, .ref a0), (1, .int v1), (2, .int v2), (3, .int v3), (4, .int v4)] [] p0 (f_X1_about_20F a0 k20 (v1, v2, v3, v4, p0)) := by
  unfold f_X1_about_20F
  refine x_iload 4 dX1_about_20 rfl (n := 22) rfl ?_
  refine x_aload_nr 0 dX1_about_22 rfl rfl (n := 23) rfl ?_
  refine x_getR fl_X1_56 dX1_about_23 (n := 26) rfl (fun x5 => ?_)
  refine x_sm (fun b6 e => ?_)
  subst e
  refine x_getR fl_X1_71 dX1_about_26 (n := 29) rfl (fun x7 => ?_)
  refine x_sm (fun b8 e => ?_)
  subst e
  refine x_callF_I [] [.int v4] (f_J3_size_ok hO p0 b8 ) rc_J3_size md_J3_size rfl q1479 fc_java_util_ArrayList_java_util_List_size_0_I dX1_about_29 rfl rfl (by decide) (Nat.le_of_ble_eq_true rfl) (n := 34) rfl (fun x10 p9 => ?_)
  refine x_icmp_ge dX1_about_34 (t := 91) (by decide) (n := 37) rfl (fun _ => ?_) (fun _ => ?_)
  · refine x_iload_n 1 dX1_about_91 rfl rfl (n := 92) rfl ?_
    refine x_tab [136, 153, 170, 182, 194, 200, 206] dX1_about_92 rfl rfl (td := 218) (by decide) ?_ ⟨?_, ?_, ?_, ?_, ?_, ?_, ?_, trivial⟩
    · refine x_aload_nr 0 dX1_about_218 rfl rfl (n := 219) rfl ?_
      refine x_iconst 1 dX1_about_219 rfl (n := 220) rfl ?_
      refine x_callV_I [.int 1] [] (f_X1_refused_ok hO p9 a0 1) rc_X1_refused md_X1_refused rfl q250 q252 qs0 dX1_about_220 rfl rfl (by decide) (Nat.le_of_ble_eq_true rfl) (n := 223) rfl (fun x12 p11 => ?_)
      exact x_ireturn dX1_about_223
    · refine x_aload_nr 0 dX1_about_136 rfl rfl (n := 137) rfl ?_
      refine x_aload_nr 0 dX1_about_137 rfl rfl (n := 138) rfl ?_
      refine x_getR fl_X1_56 dX1_about_138 (n := 141) rfl (fun x13 => ?_)
      refine x_sm (fun b14 e => ?_)
      subst e
      refine x_getR fl_X1_86 dX1_about_141 (n := 144) rfl (fun x15 => ?_)
      refine x_sm (fun b16 e => ?_)
      subst e
      refine x_callF_I [] [.ref a0] (f_J3_size_ok hO p9 b16 ) rc_J3_size md_J3_size rfl q1479 fc_java_util_ArrayList_java_util_List_size_0_I dX1_about_144 rfl rfl (by decide) (Nat.le_of_ble_eq_true rfl) (n := 149) rfl (fun x18 p17 => ?_)
      refine x_callV_I [.int x18] [] (f_X1_fine_ok hO p17 a0 x18) rc_X1_fine md_X1_fine rfl q1480 q1482 qs26 dX1_about_149 rfl rfl (by decide) (Nat.le_of_ble_eq_true rfl) (n := 152) rfl (fun x20 p19 => ?_)
      exact x_ireturn dX1_about_152
    · refine x_aload_nr 0 dX1_about_153 rfl rfl (n := 154) rfl ?_
      refine x_aload_nr 0 dX1_about_154 rfl rfl (n := 155) rfl ?_
      refine x_getR fl_X1_56 dX1_about_155 (n := 158) rfl (fun x21 => ?_)
      refine x_sm (fun b22 e => ?_)
      subst e
      refine x_getR fl_X1_71 dX1_about_158 (n := 161) rfl (fun x23 => ?_)
      refine x_sm (fun b24 e => ?_)
      subst e
      refine x_callF_I [] [.ref a0] (f_J3_size_ok hO p9 b24 ) rc_J3_size md_J3_size rfl q1479 fc_java_util_ArrayList_java_util_List_size_0_I dX1_about_161 rfl rfl (by decide) (Nat.le_of_ble_eq_true rfl) (n := 166) rfl (fun x26 p25 => ?_)
      refine x_callV_I [.int x26] [] (f_X1_fine_ok hO p25 a0 x26) rc_X1_fine md_X1_fine rfl q1480 q1482 qs26 dX1_about_166 rfl rfl (by decide) (Nat.le_of_ble_eq_true rfl) (n := 169) rfl (fun x28 p27 => ?_)
      exact x_ireturn dX1_about_169
    · refine x_aload_nr 0 dX1_about_170 rfl rfl (n := 171) rfl ?_
      refine x_aload_nr 0 dX1_about_171 rfl rfl (n := 172) rfl ?_
      refine x_getR fl_X1_56 dX1_about_172 (n := 175) rfl (fun x29 => ?_)
      refine x_sm (fun b30 e => ?_)
      subst e
      refine x_getI fl_X1_118 dX1_about_175 (n := 178) rfl (fun x31 => ?_)
      refine x_callV_I [.int x31] [] (f_X1_fine_ok hO p9 a0 x31) rc_X1_fine md_X1_fine rfl q1480 q1482 qs26 dX1_about_178 rfl rfl (by decide) (Nat.le_of_ble_eq_true rfl) (n := 181) rfl (fun x33 p32 => ?_)
      exact x_ireturn dX1_about_181
    · refine x_aload_nr 0 dX1_about_182 rfl rfl (n := 183) rfl ?_
      refine x_aload_nr 0 dX1_about_183 rfl rfl (n := 184) rfl ?_
      refine x_getR fl_X1_56 dX1_about_184 (n := 187) rfl (fun x34 => ?_)
      refine x_sm (fun b35 e => ?_)
      subst e
      refine x_getI fl_X1_121 dX1_about_187 (n := 190) rfl (fun x36 => ?_)
      refine x_callV_I [.int x36] [] (f_X1_fine_ok hO p9 a0 x36) rc_X1_fine md_X1_fine rfl q1480 q1482 qs26 dX1_about_190 rfl rfl (by decide) (Nat.le_of_ble_eq_true rfl) (n := 193) rfl (fun x38 p37 => ?_)
      exact x_ireturn dX1_about_193
    · refine x_aload_nr 0 dX1_about_194 rfl rfl (n := 195) rfl ?_
      refine x_iload_n 2 dX1_about_195 rfl rfl (n := 196) rfl ?_
      refine x_callV_I [.int v2] [] (f_X1_fine_ok hO p9 a0 v2) rc_X1_fine md_X1_fine rfl q1480 q1482 qs26 dX1_about_196 rfl rfl (by decide) (Nat.le_of_ble_eq_true rfl) (n := 199) rfl (fun x40 p39 => ?_)
      exact x_ireturn dX1_about_199
    · refine x_aload_nr 0 dX1_about_200 rfl rfl (n := 201) rfl ?_
      refine x_iload_n 3 dX1_about_201 rfl rfl (n := 202) rfl ?_
      refine x_callV_I [.int v3] [] (f_X1_fine_ok hO p9 a0 v3) rc_X1_fine md_X1_fine rfl q1480 q1482 qs26 dX1_about_202 rfl rfl (by decide) (Nat.le_of_ble_eq_true rfl) (n := 205) rfl (fun x42 p41 => ?_)
      exact x_ireturn dX1_about_205
    · refine x_aload_nr 0 dX1_about_206 rfl rfl (n := 207) rfl ?_
      refine x_aload_nr 0 dX1_about_207 rfl rfl (n := 208) rfl ?_
      refine x_getR fl_X1_29 dX1_about_208 (n := 211) rfl (fun x43 => ?_)
      refine x_sm (fun b44 e => ?_)
      subst e
      refine x_callV_I [] [.ref a0] (f_J1_size_ok hO p9 b44 ) rc_J1_size md_J1_size rfl q1555 q1556 q1557 dX1_about_211 rfl rfl (by decide) (Nat.le_of_ble_eq_true rfl) (n := 214) rfl (fun x46 p45 => ?_)
      refine x_callV_I [.int x46] [] (f_X1_fine_ok hO p45 a0 x46) rc_X1_fine md_X1_fine rfl q1480 q1482 qs26 dX1_about_214 rfl rfl (by decide) (Nat.le_of_ble_eq_true rfl) (n := 217) rfl (fun x48 p47 => ?_)
      exact x_ireturn dX1_about_217
  · refine x_iload_n 2 dX1_about_37 rfl rfl (n := 38) rfl ?_
    refine x_aload_nr 0 dX1_about_38 rfl rfl (n := 39) rfl ?_
    refine x_getR fl_X1_56 dX1_about_39 (n := 42) rfl (fun x49 => ?_)
    refine x_sm (fun b50 e => ?_)
    subst e
    refine x_getR fl_X1_71 dX1_about_42 (n := 45) rfl (fun x51 => ?_)
    refine x_iload 4 dX1_about_45 rfl (n := 47) rfl ?_
    refine x_sm (fun b52 e => ?_)
    subst e
    refine x_callF_R [.int v4] [.int v2] (f_J3_get_ok hO p9 b52 v4) rc_J3_get md_J3_get rfl q1497 fc_java_util_ArrayList_java_util_List_get_1_ILjava dX1_about_47 rfl rfl (by decide) (Nat.le_of_ble_eq_true rfl) (n := 52) rfl (fun x54 p53 => ?_)
    refine x_cast (x := x54) (cs := [6]) q1498 cst_ForestLegs_Runner dX1_about_52 (n := 55) rfl ?_
    refine x_sm (fun b55 e => ?_)
    subst e
    refine x_getR fl_X1_112 dX1_about_55 (n := 58) rfl (fun x56 => ?_)
    refine x_sm (fun b57 e => ?_)
    subst e
    refine x_callF_I [] [.int v2] (f_J3_size_ok hO p53 b57 ) rc_J3_size md_J3_size rfl q1479 fc_java_util_ArrayList_java_util_List_size_0_I dX1_about_58 rfl rfl (by decide) (Nat.le_of_ble_eq_true rfl) (n := 63) rfl (fun x59 p58 => ?_)
    refine x_iadd dX1_about_63 (n := 64) rfl ?_
    refine x_nm (fun x60 => ?_)
    refine x_istore_n [(2, .int x60), (0, .ref a0), (1, .int v1), (3, .int v3), (4, .int v4)] dX1_about_64 rfl (by decide) rfl (n := 65) rfl ?_
    refine x_iload_n 3 dX1_about_65 rfl rfl (n := 66) rfl ?_
    refine x_aload_nr 1 dX1_about_66 rfl rfl (n := 67) rfl ?_
    refine x_getR fl_X1_56 dX1_about_67 (n := 70) rfl (fun x61 => ?_)
    refine x_iload 4 dX1_about_70 rfl (n := 72) rfl ?_
    refine x_sm (fun b62 e => ?_)
    subst e
    refine x_callV_I [.int v4] [.int v3] (f_X4_isValid_ok hO p58 b62 v4) rc_X4_isValid md_X4_isValid rfl q1499 q1500 q1501 dX1_about_72 rfl rfl (by decide) (Nat.le_of_ble_eq_true rfl) (n := 75) rfl (fun x64 p63 => ?_)
    refine x_if_eq dX1_about_75 (t := 82) (by decide) (n := 78) rfl (fun _ => ?_) (fun _ => ?_)
    · refine x_iconst 0 dX1_about_82 rfl (n := 83) rfl ?_
      refine x_sub [1, 2, 0, 4] [(0, .ref a0), (1, .int v1), (2, .int x60), (4, .int v4)] rfl ?_
      exact f_X1_about_83_ok hO a0 hk20 v1 x60 v4 v3 0 p63
    · refine x_iconst 1 dX1_about_78 rfl (n := 79) rfl ?_
      refine x_goto dX1_about_79 (n := 83) (by decide) ?_
      refine x_sub [1, 2, 0, 4] [(0, .ref a0), (1, .int v1), (2, .int x60), (4, .int v4)] rfl ?_
      exact f_X1_about_83_ok hO a0 hk20 v1 x60 v4 v3 1 p63
theorem f_X1_about_20_lp {G : xG} (hO : xOK G) (a0 : Nat)  (n : Nat) (v1 : Int32) (v2 : Int32) (v3 : Int32) (v4 : Int32) (p0 : PH) : X G "ForestLegs" "about" cX1_about 5 (Option.some Jvm.ClassFile.FieldType.int) 9 20 [(0, .ref a0), (1, .int v1), (2, .int v2), (3, .int v3), (4, .int v4)] [] p0 (lp (f_X1_about_20F a0) n (v1, v2, v3, v4, p0)) :=
  lp_ok (W := fun p K => X G "ForestLegs" "about" cX1_about 5 (Option.some Jvm.ClassFile.FieldType.int) 9 20 [(0, .ref a0), (1, .int p.1), (2, .int p.2.1), (3, .int p.2.2.1), (4, .int p.2.2.2.1)] [] p.2.2.2.2 K) (fun _ => x_no) (fun k hk => fun (v1, v2, v3, v4, p0) => f_X1_about_20F_ok hO a0 (fun v1 v2 v3 v4 p0 => hk (v1, v2, v3, v4, p0)) v1 v2 v3 v4 p0) n (v1, v2, v3, v4, p0)
theorem f_X1_about_ok {G : xG} (hO : xOK G) (p0 : PH) (a0 : Nat) (a1 : Int32) : CT G 9 yX1_about cX1_about 5 (Option.some Jvm.ClassFile.FieldType.int) [.ref a0, .int a1] p0 (f_X1_about p0 a0 a1) := by
  refine CT_of hO (by decide +kernel) (by decide +kernel) (Nat.le_of_ble_eq_true rfl) ?_
  show X G "ForestLegs" "about" cX1_about 5 (Option.some Jvm.ClassFile.FieldType.int) 9 0 [(0, .ref a0), (1, .int a1)] [] p0 (f_X1_about p0 a0 a1)
  refine x_cl1 (fun e0 => ?_)
  refine x_aload_nr 0 dX1_about_0 rfl rfl (n := 1) rfl ?_
  refine x_getR fl_X1_56 dX1_about_1 (n := 4) rfl (fun x1 => ?_)
  refine x_ifnonnull dX1_about_4 (t := 13) (by decide) (n := 7) rfl (fun e => ?_) (fun b2 e => ?_)
  · subst e
    refine x_aload_nr 0 dX1_about_7 rfl rfl (n := 8) rfl ?_
    refine x_iconst 1 dX1_about_8 rfl (n := 9) rfl ?_
    refine x_callV_I [.int 1] [] (f_X1_refused_ok hO p0 a0 1) rc_X1_refused md_X1_refused rfl q250 q252 qs0 dX1_about_9 rfl rfl (by decide) (Nat.le_of_ble_eq_true rfl) (n := 12) rfl (fun x4 p3 => ?_)
    exact x_ireturn dX1_about_12
  · subst e
    refine x_iconst 0 dX1_about_13 rfl (n := 14) rfl ?_
    refine x_istore_n [(2, .int 0), (0, .ref a0), (1, .int a1)] dX1_about_14 rfl (by decide) rfl (n := 15) rfl ?_
    refine x_iconst 0 dX1_about_15 rfl (n := 16) rfl ?_
    refine x_istore_n [(3, .int 0), (2, .int 0), (0, .ref a0), (1, .int a1)] dX1_about_16 rfl (by decide) rfl (n := 17) rfl ?_
    refine x_iconst 0 dX1_about_17 rfl (n := 18) rfl ?_
    refine x_istore [(4, .int 0), (3, .int 0), (2, .int 0), (0, .ref a0), (1, .int a1)] dX1_about_18 (by decide) rfl (n := 20) rfl ?_
    refine x_sub [3, 4, 2, 1, 0] [(0, .ref a0), (1, .int a1), (2, .int 0), (3, .int 0), (4, .int 0)] rfl ?_
    exact f_X1_about_20_lp hO a0 FU a1 0 0 0 p0
abbrev cX1_isCourse : ByteArray := prog_1_method_10_code
def yX1_isCourse : MethodName := ⟨RX1, "isCourse", "(I)Z"⟩
def dkwX1_isCourse_1 : List UInt8 := [184, 0, 36, 153, 0, 7, 4, 167, 0, 4, 3, 172]
abbrev dktX1_isCourse_1 : List UInt8 := dkwX1_isCourse_1 ++ []
def dkwX1_isCourse_0 : List UInt8 := [42, 180, 0, 56, 198, 0, 29, 27, 3, 42, 180, 0, 56, 180, 0, 86, 185, 0, 77, 1, 0, 4, 100]
abbrev dktX1_isCourse_0 : List UInt8 := dkwX1_isCourse_0 ++ dktX1_isCourse_1
theorem dksX1_isCourse_0 : cX1_isCourse.data.toList.drop 0 = dktX1_isCourse_0 := by decide +kernel
theorem dksX1_isCourse_1 : cX1_isCourse.data.toList.drop 23 = dktX1_isCourse_1 := dk_seg dksX1_isCourse_0 23 rfl rfl
theorem dX1_isCourse_0 : decode cX1_isCourse 0 = .ok (.aload_n 0, 1) := dk_42 (dk_at dksX1_isCourse_0 0 rfl rfl)
theorem dX1_isCourse_1 : decode cX1_isCourse 1 = .ok (.getfield 56, 3) := dk_180 0 56 (dk_at dksX1_isCourse_0 1 rfl rfl)
theorem dX1_isCourse_4 : decode cX1_isCourse 4 = .ok (.ifnull 29, 3) := dk_198 0 29 (dk_at dksX1_isCourse_0 4 rfl rfl)
theorem dX1_isCourse_7 : decode cX1_isCourse 7 = .ok (.iload_n 1, 1) := dk_27 (dk_at dksX1_isCourse_0 7 rfl rfl)
theorem dX1_isCourse_8 : decode cX1_isCourse 8 = .ok (.iconst 0, 1) := dk_3 (dk_at dksX1_isCourse_0 8 rfl rfl)
theorem dX1_isCourse_9 : decode cX1_isCourse 9 = .ok (.aload_n 0, 1) := dk_42 (dk_at dksX1_isCourse_0 9 rfl rfl)
theorem dX1_isCourse_10 : decode cX1_isCourse 10 = .ok (.getfield 56, 3) := dk_180 0 56 (dk_at dksX1_isCourse_0 10 rfl rfl)
theorem dX1_isCourse_13 : decode cX1_isCourse 13 = .ok (.getfield 86, 3) := dk_180 0 86 (dk_at dksX1_isCourse_0 13 rfl rfl)
theorem dX1_isCourse_16 : decode cX1_isCourse 16 = .ok (.invokeinterface 77 1, 5) := by decide +kernel
theorem dX1_isCourse_21 : decode cX1_isCourse 21 = .ok (.iconst 1, 1) := dk_4 (dk_at dksX1_isCourse_0 21 rfl rfl)
theorem dX1_isCourse_22 : decode cX1_isCourse 22 = .ok (.isub, 1) := dk_100 (dk_at dksX1_isCourse_0 22 rfl rfl)
theorem dX1_isCourse_23 : decode cX1_isCourse 23 = .ok (.invokestatic 36, 3) := dk_184 0 36 (dk_at dksX1_isCourse_1 0 rfl rfl)
theorem dX1_isCourse_26 : decode cX1_isCourse 26 = .ok (.ifCond .eq 7, 3) := dk_153 0 7 (dk_at dksX1_isCourse_1 3 rfl rfl)
theorem dX1_isCourse_29 : decode cX1_isCourse 29 = .ok (.iconst 1, 1) := dk_4 (dk_at dksX1_isCourse_1 6 rfl rfl)
theorem dX1_isCourse_30 : decode cX1_isCourse 30 = .ok (.goto 4, 3) := dk_167 0 4 (dk_at dksX1_isCourse_1 7 rfl rfl)
theorem dX1_isCourse_33 : decode cX1_isCourse 33 = .ok (.iconst 0, 1) := dk_3 (dk_at dksX1_isCourse_1 10 rfl rfl)
theorem dX1_isCourse_34 : decode cX1_isCourse 34 = .ok (.ireturn, 1) := dk_172 (dk_at dksX1_isCourse_1 11 rfl rfl)
theorem md_X1_isCourse : xMd yX1_isCourse cX1_isCourse 2 (Option.some Jvm.ClassFile.FieldType.boolean) 1 := ⟨q1569, q123, by decide, by decide +kernel, by decide +kernel, by decide +kernel⟩
def f_X1_isCourse (p0 : PH) (a0 : Nat) (a1 : Int32) : Option (xO × PH) :=
  (xcl1 p0 a0 0 (xgR p0 a0 0 5 fun x1 =>
  (xnul x1 (if vp_nar .boolean 0 = 0 then rI 0 p0 else none) fun b2 =>
  (xgR p0 a0 0 5 fun x3 =>
  (xnul x3 none fun b4 =>
  (xgR p0 b4 3 0 fun x5 =>
  (xnul x5 none fun b6 =>
  (xcI (f_J3_size p0 b6 ) fun x8 p7 =>
  (xcI (f_X1_isIn p7 a1 0 (x8 - 1)) fun x10 p9 =>
  (if x10 = 0 then
  (if vp_nar .boolean 0 = 0 then rI 0 p9 else none) else
  (if vp_nar .boolean 1 = 1 then rI 1 p9 else none)))))))))))
theorem rc_X1_isCourse {p0 : PH} {a0 : Nat} {a1 : Int32} : ∀ z, f_X1_isCourse p0 a0 a1 = some z → xco p0 a0 = some 0 := fun z h => xcl1_some h
theorem f_X1_isCourse_ok {G : xG} (hO : xOK G) (p0 : PH) (a0 : Nat) (a1 : Int32) : CT G 1 yX1_isCourse cX1_isCourse 2 (Option.some Jvm.ClassFile.FieldType.boolean) [.ref a0, .int a1] p0 (f_X1_isCourse p0 a0 a1) := by
  refine CT_of hO (by decide +kernel) (by decide +kernel) (Nat.le_of_ble_eq_true rfl) ?_
  show X G "ForestLegs" "isCourse" cX1_isCourse 2 (Option.some Jvm.ClassFile.FieldType.boolean) 1 0 [(0, .ref a0), (1, .int a1)] [] p0 (f_X1_isCourse p0 a0 a1)
  refine x_cl1 (fun e0 => ?_)
  refine x_aload_nr 0 dX1_isCourse_0 rfl rfl (n := 1) rfl ?_
  refine x_getR fl_X1_56 dX1_isCourse_1 (n := 4) rfl (fun x1 => ?_)
  refine x_ifnull dX1_isCourse_4 (t := 33) (by decide) (n := 7) rfl (fun e => ?_) (fun b2 e => ?_)
  · subst e
    refine x_iconst 0 dX1_isCourse_33 rfl (n := 34) rfl ?_
    exact x_nreturn rfl dX1_isCourse_34
  · subst e
    refine x_iload_n 1 dX1_isCourse_7 rfl rfl (n := 8) rfl ?_
    refine x_iconst 0 dX1_isCourse_8 rfl (n := 9) rfl ?_
    refine x_aload_nr 0 dX1_isCourse_9 rfl rfl (n := 10) rfl ?_
    refine x_getR fl_X1_56 dX1_isCourse_10 (n := 13) rfl (fun x3 => ?_)
    refine x_sm (fun b4 e => ?_)
    subst e
    refine x_getR fl_X1_86 dX1_isCourse_13 (n := 16) rfl (fun x5 => ?_)
    refine x_sm (fun b6 e => ?_)
    subst e
    refine x_callF_I [] [.int 0, .int a1] (f_J3_size_ok hO p0 b6 ) rc_J3_size md_J3_size rfl q1479 fc_java_util_ArrayList_java_util_List_size_0_I dX1_isCourse_16 rfl rfl (by decide) (Nat.le_of_ble_eq_true rfl) (n := 21) rfl (fun x8 p7 => ?_)
    refine x_iconst 1 dX1_isCourse_21 rfl (n := 22) rfl ?_
    refine x_isub dX1_isCourse_22 (n := 23) rfl ?_
    refine x_callS_I [.int a1, .int 0, .int (x8 - 1)] [] (f_X1_isIn_ok hO p7 a1 0 (x8 - 1)) md_X1_isIn q247 q248 dX1_isCourse_23 rfl rfl (by decide) (Nat.le_of_ble_eq_true rfl) (n := 26) rfl (fun x10 p9 => ?_)
    refine x_if_eq dX1_isCourse_26 (t := 33) (by decide) (n := 29) rfl (fun _ => ?_) (fun _ => ?_)
    · refine x_iconst 0 dX1_isCourse_33 rfl (n := 34) rfl ?_
      exact x_nreturn rfl dX1_isCourse_34
    · refine x_iconst 1 dX1_isCourse_29 rfl (n := 30) rfl ?_
      refine x_goto dX1_isCourse_30 (n := 34) (by decide) ?_
      exact x_nreturn rfl dX1_isCourse_34
abbrev cX4_isOf : ByteArray := prog_7_method_4_code
def yX4_isOf : MethodName := ⟨RX4, "isOf", "(II)Z"⟩
def dkwX4_isOf_1 : List UInt8 := [3, 172]
abbrev dktX4_isOf_1 : List UInt8 := dkwX4_isOf_1 ++ []
def dkwX4_isOf_0 : List UInt8 := [42, 180, 0, 20, 27, 185, 0, 68, 2, 0, 192, 0, 57, 180, 0, 72, 28, 160, 0, 7, 4, 167, 0, 4]
abbrev dktX4_isOf_0 : List UInt8 := dkwX4_isOf_0 ++ dktX4_isOf_1
theorem dksX4_isOf_0 : cX4_isOf.data.toList.drop 0 = dktX4_isOf_0 := by decide +kernel
theorem dksX4_isOf_1 : cX4_isOf.data.toList.drop 24 = dktX4_isOf_1 := dk_seg dksX4_isOf_0 24 rfl rfl
theorem dX4_isOf_0 : decode cX4_isOf 0 = .ok (.aload_n 0, 1) := dk_42 (dk_at dksX4_isOf_0 0 rfl rfl)
theorem dX4_isOf_1 : decode cX4_isOf 1 = .ok (.getfield 20, 3) := dk_180 0 20 (dk_at dksX4_isOf_0 1 rfl rfl)
theorem dX4_isOf_4 : decode cX4_isOf 4 = .ok (.iload_n 1, 1) := dk_27 (dk_at dksX4_isOf_0 4 rfl rfl)
theorem dX4_isOf_5 : decode cX4_isOf 5 = .ok (.invokeinterface 68 2, 5) := by decide +kernel
theorem dX4_isOf_10 : decode cX4_isOf 10 = .ok (.checkcast 57, 3) := dk_192 0 57 (dk_at dksX4_isOf_0 10 rfl rfl)
theorem dX4_isOf_13 : decode cX4_isOf 13 = .ok (.getfield 72, 3) := dk_180 0 72 (dk_at dksX4_isOf_0 13 rfl rfl)
theorem dX4_isOf_16 : decode cX4_isOf 16 = .ok (.iload_n 2, 1) := dk_28 (dk_at dksX4_isOf_0 16 rfl rfl)
theorem dX4_isOf_17 : decode cX4_isOf 17 = .ok (.if_icmp .ne 7, 3) := dk_160 0 7 (dk_at dksX4_isOf_0 17 rfl rfl)
theorem dX4_isOf_20 : decode cX4_isOf 20 = .ok (.iconst 1, 1) := dk_4 (dk_at dksX4_isOf_0 20 rfl rfl)
theorem dX4_isOf_21 : decode cX4_isOf 21 = .ok (.goto 4, 3) := dk_167 0 4 (dk_at dksX4_isOf_0 21 rfl rfl)
theorem dX4_isOf_24 : decode cX4_isOf 24 = .ok (.iconst 0, 1) := dk_3 (dk_at dksX4_isOf_1 0 rfl rfl)
theorem dX4_isOf_25 : decode cX4_isOf 25 = .ok (.ireturn, 1) := dk_172 (dk_at dksX4_isOf_1 1 rfl rfl)
theorem md_X4_isOf : xMd yX4_isOf cX4_isOf 3 (Option.some Jvm.ClassFile.FieldType.boolean) 2 := ⟨q1573, q128, by decide, by decide +kernel, by decide +kernel, by decide +kernel⟩
def f_X4_isOf (p0 : PH) (a0 : Nat) (a1 : Int32) (a2 : Int32) : Option (xO × PH) :=
  (xcl1 p0 a0 3 (xgR p0 a0 3 1 fun x1 =>
  (xnul x1 none fun b2 =>
  (xcR (f_J3_get p0 b2 a1) fun x4 p3 =>
  (xcst p3 (x4) [6]
  (xnul x4 none fun b5 =>
  (xgI p3 b5 6 1 fun x6 =>
  (if x6 = a2 then
  (if vp_nar .boolean 1 = 1 then rI 1 p3 else none) else
  (if vp_nar .boolean 0 = 0 then rI 0 p3 else none)))))))))
theorem rc_X4_isOf {p0 : PH} {a0 : Nat} {a1 : Int32} {a2 : Int32} : ∀ z, f_X4_isOf p0 a0 a1 a2 = some z → xco p0 a0 = some 3 := fun z h => xcl1_some h
theorem f_X4_isOf_ok {G : xG} (hO : xOK G) (p0 : PH) (a0 : Nat) (a1 : Int32) (a2 : Int32) : CT G 3 yX4_isOf cX4_isOf 3 (Option.some Jvm.ClassFile.FieldType.boolean) [.ref a0, .int a1, .int a2] p0 (f_X4_isOf p0 a0 a1 a2) := by
  refine CT_of hO (by decide +kernel) (by decide +kernel) (Nat.le_of_ble_eq_true rfl) ?_
  show X G "ForestLegs$Meet" "isOf" cX4_isOf 3 (Option.some Jvm.ClassFile.FieldType.boolean) 3 0 [(0, .ref a0), (1, .int a1), (2, .int a2)] [] p0 (f_X4_isOf p0 a0 a1 a2)
  refine x_cl1 (fun e0 => ?_)
  refine x_aload_nr 0 dX4_isOf_0 rfl rfl (n := 1) rfl ?_
  refine x_getR fl_X4_20 dX4_isOf_1 (n := 4) rfl (fun x1 => ?_)
  refine x_iload_n 1 dX4_isOf_4 rfl rfl (n := 5) rfl ?_
  refine x_sm (fun b2 e => ?_)
  subst e
  refine x_callF_R [.int a1] [] (f_J3_get_ok hO p0 b2 a1) rc_J3_get md_J3_get rfl q1511 fc_java_util_ArrayList_java_util_List_get_1_ILjava dX4_isOf_5 rfl rfl (by decide) (Nat.le_of_ble_eq_true rfl) (n := 10) rfl (fun x4 p3 => ?_)
  refine x_cast (x := x4) (cs := [6]) q1512 cst_ForestLegs_Runner dX4_isOf_10 (n := 13) rfl ?_
  refine x_sm (fun b5 e => ?_)
  subst e
  refine x_getI fl_X4_72 dX4_isOf_13 (n := 16) rfl (fun x6 => ?_)
  refine x_iload_n 2 dX4_isOf_16 rfl rfl (n := 17) rfl ?_
  refine x_icmp_ne dX4_isOf_17 (t := 24) (by decide) (n := 20) rfl (fun _ => ?_) (fun _ => ?_)
  · refine x_iconst 0 dX4_isOf_24 rfl (n := 25) rfl ?_
    exact x_nreturn rfl dX4_isOf_25
  · refine x_iconst 1 dX4_isOf_20 rfl (n := 21) rfl ?_
    refine x_goto dX4_isOf_21 (n := 25) (by decide) ?_
    exact x_nreturn rfl dX4_isOf_25
abbrev cX10_init : ByteArray := prog_3_method_1_code
def yX10_init : MethodName := ⟨RX10, "<init>", "(LForestLegs;)V"⟩
def dkwX10_init_0 : List UInt8 := [42, 43, 181, 0, 1, 42, 183, 0, 7, 177]
abbrev dktX10_init_0 : List UInt8 := dkwX10_init_0 ++ []
theorem dksX10_init_0 : cX10_init.data.toList.drop 0 = dktX10_init_0 := by decide +kernel
theorem dX10_init_0 : decode cX10_init 0 = .ok (.aload_n 0, 1) := dk_42 (dk_at dksX10_init_0 0 rfl rfl)
theorem dX10_init_1 : decode cX10_init 1 = .ok (.aload_n 1, 1) := dk_43 (dk_at dksX10_init_0 1 rfl rfl)
theorem dX10_init_2 : decode cX10_init 2 = .ok (.putfield 1, 3) := dk_181 0 1 (dk_at dksX10_init_0 2 rfl rfl)
theorem dX10_init_5 : decode cX10_init 5 = .ok (.aload_n 0, 1) := dk_42 (dk_at dksX10_init_0 5 rfl rfl)
theorem dX10_init_6 : decode cX10_init 6 = .ok (.invokespecial 7, 3) := dk_183 0 7 (dk_at dksX10_init_0 6 rfl rfl)
theorem dX10_init_9 : decode cX10_init 9 = .ok (.return_, 1) := dk_177 (dk_at dksX10_init_0 9 rfl rfl)
theorem md_X10_init : xMd yX10_init cX10_init 2 (Option.none : Option Jvm.ClassFile.FieldType) 1 := ⟨q1589, q159, by decide, by decide +kernel, by decide +kernel, by decide +kernel⟩
def f_X10_init (p0 : PH) (a0 : Nat) (a1 : Option Nat) : Option (xO × PH) :=
  (xpF p0 a0 9 0 (va_rf a1) fun p1 =>
  (rV p1))
theorem f_X10_init_ok {G : xG} (hO : xOK G) (p0 : PH) (a0 : Nat) (a1 : Option Nat) : CT G 1 yX10_init cX10_init 2 (Option.none : Option Jvm.ClassFile.FieldType) [.ref a0, va_rf a1] p0 (f_X10_init p0 a0 a1) := by
  refine CT_of hO (by decide +kernel) (by decide +kernel) (lg_slen _ (by simp only [List.map, xcat]; exact Nat.le_of_ble_eq_true rfl)) ?_
  rw [show lv_args 0 [.ref a0, va_rf a1] = [(0, .ref a0), (1, va_rf a1)] from by simp only [lv_args, xcat] <;> rfl]
  show X G "ForestLegs$2" "<init>" cX10_init 2 (Option.none : Option Jvm.ClassFile.FieldType) 1 0 [(0, .ref a0), (1, va_rf a1)] [] p0 (f_X10_init p0 a0 a1)
  refine x_aload_nr 0 dX10_init_0 rfl rfl (n := 1) rfl ?_
  refine x_aload_n 1 dX10_init_1 rfl rfl (n := 2) rfl ?_
  refine x_pF (pl_X10_1 _ (xfit_o (a1))) dX10_init_2 (n := 5) rfl (fun p1 => ?_)
  refine x_aload_nr 0 dX10_init_5 rfl rfl (n := 6) rfl ?_
  refine x_objInit q1590 q186 q187 dX10_init_6 (by decide) (Nat.le_of_ble_eq_true rfl) (n := 9) rfl ?_
  exact x_return dX10_init_9
abbrev cJ17_rangeCheck : ByteArray := prog_50_method_30_code
def yJ17_rangeCheck : MethodName := ⟨RJ17, "rangeCheck", "(III)V"⟩
def dkwJ17_rangeCheck_3 : List UInt8 := [183, 0, 70, 191, 177]
abbrev dktJ17_rangeCheck_3 : List UInt8 := dkwJ17_rangeCheck_3 ++ []
def dkwJ17_rangeCheck_2 : List UInt8 := [27, 156, 0, 12, 187, 0, 68, 89, 27, 183, 0, 70, 191, 28, 26, 164, 0, 12, 187, 0, 68, 89, 28]
abbrev dktJ17_rangeCheck_2 : List UInt8 := dkwJ17_rangeCheck_2 ++ dktJ17_rangeCheck_3
def dkwJ17_rangeCheck_1 : List UInt8 := [182, 0, 54, 18, 57, 182, 0, 50, 28, 182, 0, 54, 18, 59, 182, 0, 50, 182, 0, 61, 183, 0, 65, 191]
abbrev dktJ17_rangeCheck_1 : List UInt8 := dkwJ17_rangeCheck_1 ++ dktJ17_rangeCheck_2
def dkwJ17_rangeCheck_0 : List UInt8 := [27, 28, 164, 0, 44, 187, 0, 43, 89, 187, 0, 45, 89, 183, 0, 47, 18, 48, 182, 0, 50, 27]
abbrev dktJ17_rangeCheck_0 : List UInt8 := dkwJ17_rangeCheck_0 ++ dktJ17_rangeCheck_1
theorem dksJ17_rangeCheck_0 : cJ17_rangeCheck.data.toList.drop 0 = dktJ17_rangeCheck_0 := by decide +kernel
theorem dksJ17_rangeCheck_1 : cJ17_rangeCheck.data.toList.drop 22 = dktJ17_rangeCheck_1 := dk_seg dksJ17_rangeCheck_0 22 rfl rfl
theorem dksJ17_rangeCheck_2 : cJ17_rangeCheck.data.toList.drop 46 = dktJ17_rangeCheck_2 := dk_seg dksJ17_rangeCheck_1 24 rfl rfl
theorem dksJ17_rangeCheck_3 : cJ17_rangeCheck.data.toList.drop 69 = dktJ17_rangeCheck_3 := dk_seg dksJ17_rangeCheck_2 23 rfl rfl
theorem dJ17_rangeCheck_0 : decode cJ17_rangeCheck 0 = .ok (.iload_n 1, 1) := dk_27 (dk_at dksJ17_rangeCheck_0 0 rfl rfl)
theorem dJ17_rangeCheck_1 : decode cJ17_rangeCheck 1 = .ok (.iload_n 2, 1) := dk_28 (dk_at dksJ17_rangeCheck_0 1 rfl rfl)
theorem dJ17_rangeCheck_2 : decode cJ17_rangeCheck 2 = .ok (.if_icmp .le 44, 3) := dk_164 0 44 (dk_at dksJ17_rangeCheck_0 2 rfl rfl)
theorem dJ17_rangeCheck_5 : decode cJ17_rangeCheck 5 = .ok (.new 43, 3) := dk_187 0 43 (dk_at dksJ17_rangeCheck_0 5 rfl rfl)
theorem dJ17_rangeCheck_8 : decode cJ17_rangeCheck 8 = .ok (.dup, 1) := dk_89 (dk_at dksJ17_rangeCheck_0 8 rfl rfl)
theorem dJ17_rangeCheck_9 : decode cJ17_rangeCheck 9 = .ok (.new 45, 3) := dk_187 0 45 (dk_at dksJ17_rangeCheck_0 9 rfl rfl)
theorem dJ17_rangeCheck_12 : decode cJ17_rangeCheck 12 = .ok (.dup, 1) := dk_89 (dk_at dksJ17_rangeCheck_0 12 rfl rfl)
theorem dJ17_rangeCheck_13 : decode cJ17_rangeCheck 13 = .ok (.invokespecial 47, 3) := dk_183 0 47 (dk_at dksJ17_rangeCheck_0 13 rfl rfl)
theorem dJ17_rangeCheck_16 : decode cJ17_rangeCheck 16 = .ok (.ldc 48, 2) := dk_18 48 (dk_at dksJ17_rangeCheck_0 16 rfl rfl)
theorem dJ17_rangeCheck_18 : decode cJ17_rangeCheck 18 = .ok (.invokevirtual 50, 3) := dk_182 0 50 (dk_at dksJ17_rangeCheck_0 18 rfl rfl)
theorem dJ17_rangeCheck_21 : decode cJ17_rangeCheck 21 = .ok (.iload_n 1, 1) := dk_27 (dk_at dksJ17_rangeCheck_0 21 rfl rfl)
theorem dJ17_rangeCheck_22 : decode cJ17_rangeCheck 22 = .ok (.invokevirtual 54, 3) := dk_182 0 54 (dk_at dksJ17_rangeCheck_1 0 rfl rfl)
theorem dJ17_rangeCheck_25 : decode cJ17_rangeCheck 25 = .ok (.ldc 57, 2) := dk_18 57 (dk_at dksJ17_rangeCheck_1 3 rfl rfl)
theorem dJ17_rangeCheck_27 : decode cJ17_rangeCheck 27 = .ok (.invokevirtual 50, 3) := dk_182 0 50 (dk_at dksJ17_rangeCheck_1 5 rfl rfl)
theorem dJ17_rangeCheck_30 : decode cJ17_rangeCheck 30 = .ok (.iload_n 2, 1) := dk_28 (dk_at dksJ17_rangeCheck_1 8 rfl rfl)
theorem dJ17_rangeCheck_31 : decode cJ17_rangeCheck 31 = .ok (.invokevirtual 54, 3) := dk_182 0 54 (dk_at dksJ17_rangeCheck_1 9 rfl rfl)
theorem dJ17_rangeCheck_34 : decode cJ17_rangeCheck 34 = .ok (.ldc 59, 2) := dk_18 59 (dk_at dksJ17_rangeCheck_1 12 rfl rfl)
theorem dJ17_rangeCheck_36 : decode cJ17_rangeCheck 36 = .ok (.invokevirtual 50, 3) := dk_182 0 50 (dk_at dksJ17_rangeCheck_1 14 rfl rfl)
theorem dJ17_rangeCheck_39 : decode cJ17_rangeCheck 39 = .ok (.invokevirtual 61, 3) := dk_182 0 61 (dk_at dksJ17_rangeCheck_1 17 rfl rfl)
theorem dJ17_rangeCheck_42 : decode cJ17_rangeCheck 42 = .ok (.invokespecial 65, 3) := dk_183 0 65 (dk_at dksJ17_rangeCheck_1 20 rfl rfl)
theorem dJ17_rangeCheck_45 : decode cJ17_rangeCheck 45 = .ok (.athrow, 1) := dk_191 (dk_at dksJ17_rangeCheck_1 23 rfl rfl)
theorem dJ17_rangeCheck_46 : decode cJ17_rangeCheck 46 = .ok (.iload_n 1, 1) := dk_27 (dk_at dksJ17_rangeCheck_2 0 rfl rfl)
theorem dJ17_rangeCheck_47 : decode cJ17_rangeCheck 47 = .ok (.ifCond .ge 12, 3) := dk_156 0 12 (dk_at dksJ17_rangeCheck_2 1 rfl rfl)
theorem dJ17_rangeCheck_50 : decode cJ17_rangeCheck 50 = .ok (.new 68, 3) := dk_187 0 68 (dk_at dksJ17_rangeCheck_2 4 rfl rfl)
theorem dJ17_rangeCheck_53 : decode cJ17_rangeCheck 53 = .ok (.dup, 1) := dk_89 (dk_at dksJ17_rangeCheck_2 7 rfl rfl)
theorem dJ17_rangeCheck_54 : decode cJ17_rangeCheck 54 = .ok (.iload_n 1, 1) := dk_27 (dk_at dksJ17_rangeCheck_2 8 rfl rfl)
theorem dJ17_rangeCheck_55 : decode cJ17_rangeCheck 55 = .ok (.invokespecial 70, 3) := dk_183 0 70 (dk_at dksJ17_rangeCheck_2 9 rfl rfl)
theorem dJ17_rangeCheck_58 : decode cJ17_rangeCheck 58 = .ok (.athrow, 1) := dk_191 (dk_at dksJ17_rangeCheck_2 12 rfl rfl)
theorem dJ17_rangeCheck_59 : decode cJ17_rangeCheck 59 = .ok (.iload_n 2, 1) := dk_28 (dk_at dksJ17_rangeCheck_2 13 rfl rfl)
theorem dJ17_rangeCheck_60 : decode cJ17_rangeCheck 60 = .ok (.iload_n 0, 1) := dk_26 (dk_at dksJ17_rangeCheck_2 14 rfl rfl)
theorem dJ17_rangeCheck_61 : decode cJ17_rangeCheck 61 = .ok (.if_icmp .le 12, 3) := dk_164 0 12 (dk_at dksJ17_rangeCheck_2 15 rfl rfl)
theorem dJ17_rangeCheck_64 : decode cJ17_rangeCheck 64 = .ok (.new 68, 3) := dk_187 0 68 (dk_at dksJ17_rangeCheck_2 18 rfl rfl)
theorem dJ17_rangeCheck_67 : decode cJ17_rangeCheck 67 = .ok (.dup, 1) := dk_89 (dk_at dksJ17_rangeCheck_2 21 rfl rfl)
theorem dJ17_rangeCheck_68 : decode cJ17_rangeCheck 68 = .ok (.iload_n 2, 1) := dk_28 (dk_at dksJ17_rangeCheck_2 22 rfl rfl)
theorem dJ17_rangeCheck_69 : decode cJ17_rangeCheck 69 = .ok (.invokespecial 70, 3) := dk_183 0 70 (dk_at dksJ17_rangeCheck_3 0 rfl rfl)
theorem dJ17_rangeCheck_72 : decode cJ17_rangeCheck 72 = .ok (.athrow, 1) := dk_191 (dk_at dksJ17_rangeCheck_3 3 rfl rfl)
theorem dJ17_rangeCheck_73 : decode cJ17_rangeCheck 73 = .ok (.return_, 1) := dk_177 (dk_at dksJ17_rangeCheck_3 4 rfl rfl)
theorem md_J17_rangeCheck : xMd yJ17_rangeCheck cJ17_rangeCheck 3 (Option.none : Option Jvm.ClassFile.FieldType) 3 := ⟨q1612, q145, by decide, by decide +kernel, by decide +kernel, by decide +kernel⟩
def f_J17_rangeCheck (p0 : PH) (a0 : Int32) (a1 : Int32) (a2 : Int32) : Option (xO × PH) :=
  (if a1 ≤ a2 then
  (if 0 ≤ a1 then
  (if a2 ≤ a0 then
  (rV p0) else
  none) else
  none) else
  none)
theorem f_J17_rangeCheck_ok {G : xG} (hO : xOK G) (p0 : PH) (a0 : Int32) (a1 : Int32) (a2 : Int32) : CT G 0 yJ17_rangeCheck cJ17_rangeCheck 3 (Option.none : Option Jvm.ClassFile.FieldType) [.int a0, .int a1, .int a2] p0 (f_J17_rangeCheck p0 a0 a1 a2) := by
  refine CT_of hO (by decide +kernel) (by decide +kernel) (Nat.le_of_ble_eq_true rfl) ?_
  show X G "java/util/Arrays" "rangeCheck" cJ17_rangeCheck 3 (Option.none : Option Jvm.ClassFile.FieldType) 0 0 [(0, .int a0), (1, .int a1), (2, .int a2)] [] p0 (f_J17_rangeCheck p0 a0 a1 a2)
  refine x_iload_n 1 dJ17_rangeCheck_0 rfl rfl (n := 1) rfl ?_
  refine x_iload_n 2 dJ17_rangeCheck_1 rfl rfl (n := 2) rfl ?_
  refine x_icmp_le dJ17_rangeCheck_2 (t := 46) (by decide) (n := 5) rfl (fun _ => ?_) (fun _ => ?_)
  · refine x_iload_n 1 dJ17_rangeCheck_46 rfl rfl (n := 47) rfl ?_
    refine x_if_ge dJ17_rangeCheck_47 (t := 59) (by decide) (n := 50) rfl (fun _ => ?_) (fun _ => ?_)
    · refine x_iload_n 2 dJ17_rangeCheck_59 rfl rfl (n := 60) rfl ?_
      refine x_iload_n 0 dJ17_rangeCheck_60 rfl rfl (n := 61) rfl ?_
      refine x_icmp_le dJ17_rangeCheck_61 (t := 73) (by decide) (n := 64) rfl (fun _ => ?_) (fun _ => ?_)
      · exact x_return dJ17_rangeCheck_73
      · exact x_no
    · exact x_no
  · exact x_no
abbrev cJ25_reverseRange : ByteArray := prog_76_method_5_code
def yJ25_reverseRange : MethodName := ⟨RJ25, "reverseRange", "([Ljava/lang/Object;II)V"⟩
def dkwJ25_reverseRange_1 : List UInt8 := [132, 2, 255, 45, 83, 167, 255, 231, 177]
abbrev dktJ25_reverseRange_1 : List UInt8 := dkwJ25_reverseRange_1 ++ []
def dkwJ25_reverseRange_0 : List UInt8 := [132, 2, 255, 27, 28, 162, 0, 26, 42, 27, 50, 78, 42, 27, 132, 1, 1, 42, 28, 50, 83, 42, 28]
abbrev dktJ25_reverseRange_0 : List UInt8 := dkwJ25_reverseRange_0 ++ dktJ25_reverseRange_1
theorem dksJ25_reverseRange_0 : cJ25_reverseRange.data.toList.drop 0 = dktJ25_reverseRange_0 := by decide +kernel
theorem dksJ25_reverseRange_1 : cJ25_reverseRange.data.toList.drop 23 = dktJ25_reverseRange_1 := dk_seg dksJ25_reverseRange_0 23 rfl rfl
theorem dJ25_reverseRange_0 : decode cJ25_reverseRange 0 = .ok (.iinc 2 (-1), 3) := dk_132 2 255 (dk_at dksJ25_reverseRange_0 0 rfl rfl)
theorem dJ25_reverseRange_3 : decode cJ25_reverseRange 3 = .ok (.iload_n 1, 1) := dk_27 (dk_at dksJ25_reverseRange_0 3 rfl rfl)
theorem dJ25_reverseRange_4 : decode cJ25_reverseRange 4 = .ok (.iload_n 2, 1) := dk_28 (dk_at dksJ25_reverseRange_0 4 rfl rfl)
theorem dJ25_reverseRange_5 : decode cJ25_reverseRange 5 = .ok (.if_icmp .ge 26, 3) := dk_162 0 26 (dk_at dksJ25_reverseRange_0 5 rfl rfl)
theorem dJ25_reverseRange_8 : decode cJ25_reverseRange 8 = .ok (.aload_n 0, 1) := dk_42 (dk_at dksJ25_reverseRange_0 8 rfl rfl)
theorem dJ25_reverseRange_9 : decode cJ25_reverseRange 9 = .ok (.iload_n 1, 1) := dk_27 (dk_at dksJ25_reverseRange_0 9 rfl rfl)
theorem dJ25_reverseRange_10 : decode cJ25_reverseRange 10 = .ok (.aaload, 1) := dk_50 (dk_at dksJ25_reverseRange_0 10 rfl rfl)
theorem dJ25_reverseRange_11 : decode cJ25_reverseRange 11 = .ok (.astore_n 3, 1) := dk_78 (dk_at dksJ25_reverseRange_0 11 rfl rfl)
theorem dJ25_reverseRange_12 : decode cJ25_reverseRange 12 = .ok (.aload_n 0, 1) := dk_42 (dk_at dksJ25_reverseRange_0 12 rfl rfl)
theorem dJ25_reverseRange_13 : decode cJ25_reverseRange 13 = .ok (.iload_n 1, 1) := dk_27 (dk_at dksJ25_reverseRange_0 13 rfl rfl)
theorem dJ25_reverseRange_14 : decode cJ25_reverseRange 14 = .ok (.iinc 1 1, 3) := dk_132 1 1 (dk_at dksJ25_reverseRange_0 14 rfl rfl)
theorem dJ25_reverseRange_17 : decode cJ25_reverseRange 17 = .ok (.aload_n 0, 1) := dk_42 (dk_at dksJ25_reverseRange_0 17 rfl rfl)
theorem dJ25_reverseRange_18 : decode cJ25_reverseRange 18 = .ok (.iload_n 2, 1) := dk_28 (dk_at dksJ25_reverseRange_0 18 rfl rfl)
theorem dJ25_reverseRange_19 : decode cJ25_reverseRange 19 = .ok (.aaload, 1) := dk_50 (dk_at dksJ25_reverseRange_0 19 rfl rfl)
theorem dJ25_reverseRange_20 : decode cJ25_reverseRange 20 = .ok (.aastore, 1) := dk_83 (dk_at dksJ25_reverseRange_0 20 rfl rfl)
theorem dJ25_reverseRange_21 : decode cJ25_reverseRange 21 = .ok (.aload_n 0, 1) := dk_42 (dk_at dksJ25_reverseRange_0 21 rfl rfl)
theorem dJ25_reverseRange_22 : decode cJ25_reverseRange 22 = .ok (.iload_n 2, 1) := dk_28 (dk_at dksJ25_reverseRange_0 22 rfl rfl)
theorem dJ25_reverseRange_23 : decode cJ25_reverseRange 23 = .ok (.iinc 2 (-1), 3) := dk_132 2 255 (dk_at dksJ25_reverseRange_1 0 rfl rfl)
theorem dJ25_reverseRange_26 : decode cJ25_reverseRange 26 = .ok (.aload_n 3, 1) := dk_45 (dk_at dksJ25_reverseRange_1 3 rfl rfl)
theorem dJ25_reverseRange_27 : decode cJ25_reverseRange 27 = .ok (.aastore, 1) := dk_83 (dk_at dksJ25_reverseRange_1 4 rfl rfl)
theorem dJ25_reverseRange_28 : decode cJ25_reverseRange 28 = .ok (.goto (-25), 3) := dk_167 255 231 (dk_at dksJ25_reverseRange_1 5 rfl rfl)
theorem dJ25_reverseRange_31 : decode cJ25_reverseRange 31 = .ok (.return_, 1) := dk_177 (dk_at dksJ25_reverseRange_1 8 rfl rfl)
theorem md_J25_reverseRange : xMd yJ25_reverseRange cJ25_reverseRange 4 (Option.none : Option Jvm.ClassFile.FieldType) 3 := ⟨q1717, q162, by decide, by decide +kernel, by decide +kernel, by decide +kernel⟩
def f_J25_reverseRange_3F   (k3 : Option Nat × Int32 × Int32 × PH → Option (xO × PH)) (p : Option Nat × Int32 × Int32 × PH) : Option (xO × PH) := match p with
  | (v0, v1, v2, p0) => (if v2 ≤ v1 then
  (rV p0) else
  (xnul v0 none fun b2 =>
  (xaR p0 b2 4 v1 fun x3 =>
  (bnd (v1 + 1) fun x4 =>
  (xaR p0 b2 4 v2 fun x5 =>
  (xsR p0 b2 4 v1 (x5) fun p6 =>
  (bnd (v2 + (-1)) fun x7 =>
  (xsR p6 b2 4 v2 (x3) fun p8 =>
  (k3 (((some b2)), x4, x7, p8))))))))))
def f_J25_reverseRange (p0 : PH) (a0 : Option Nat) (a1 : Int32) (a2 : Int32) : Option (xO × PH) :=
  (bnd (a2 + (-1)) fun x1 =>
  (lp (f_J25_reverseRange_3F) FU (a0, a1, x1, p0)))
theorem f_J25_reverseRange_3F_ok {G : xG} (hO : xOK G)   {k3 : Option Nat × Int32 × Int32 × PH → Option (xO × PH)} (hk3 : ∀ (v0 : Option Nat) (v1 : Int32) (v2 : Int32) (p0 : PH), X G "java/util/TimSort" "reverseRange" cJ25_reverseRange 4 (Option.none : Option Jvm.ClassFile.FieldType) 0 3 [(0, va_rf v0), (1, .int v1), (2, .int v2)] [] p0 (k3 (v0, v1, v2, p0))) (v0 : Option Nat) (v1 : Int32) (v2 : Int32) (p0 : PH) : X G "java/util/TimSort" "reverseRange" cJ25_reverseRange 4 (Option.none : Option Jvm.ClassFile.FieldType) 0 3 [(0, va_rf v0), (1, .int v1), (2, .int v2)] [] p0 (f_J25_reverseRange_3F k3 (v0, v1, v2, p0)) := by
  unfold f_J25_reverseRange_3F
  refine x_iload_n 1 dJ25_reverseRange_3 rfl rfl (n := 4) rfl ?_
  refine x_iload_n 2 dJ25_reverseRange_4 rfl rfl (n := 5) rfl ?_
  refine x_icmp_ge dJ25_reverseRange_5 (t := 31) (by decide) (n := 8) rfl (fun _ => ?_) (fun _ => ?_)
  · exact x_return dJ25_reverseRange_31
  · refine x_aload_n 0 dJ25_reverseRange_8 rfl rfl (n := 9) rfl ?_
    refine x_iload_n 1 dJ25_reverseRange_9 rfl rfl (n := 10) rfl ?_
    refine x_sm (fun b2 e => ?_)
    subst e
    refine x_aald (t := 4) rfl rfl dJ25_reverseRange_10 (n := 11) rfl (fun x3 => ?_)
    refine x_astore_n [(3, va_rf x3), (0, .ref b2), (1, .int v1), (2, .int v2)] dJ25_reverseRange_11 rfl (by decide) rfl (n := 12) rfl ?_
    refine x_aload_nr 1 dJ25_reverseRange_12 rfl rfl (n := 13) rfl ?_
    refine x_iload_n 2 dJ25_reverseRange_13 rfl rfl (n := 14) rfl ?_
    refine x_iincB 2 (fun x4 => [(1, .int x4), (3, va_rf x3), (0, .ref b2), (2, .int v2)]) dJ25_reverseRange_14 rfl rfl (by decide) (fun _ => rfl) (n := 17) rfl (fun x4 => ?_)
    refine x_aload_nr 2 dJ25_reverseRange_17 rfl rfl (n := 18) rfl ?_
    refine x_iload_n 3 dJ25_reverseRange_18 rfl rfl (n := 19) rfl ?_
    refine x_aald (t := 4) rfl rfl dJ25_reverseRange_19 (n := 20) rfl (fun x5 => ?_)
    refine x_aast (t := 4) (x := x5) rfl (by decide) dJ25_reverseRange_20 (n := 21) rfl (fun p6 => ?_)
    refine x_aload_nr 2 dJ25_reverseRange_21 rfl rfl (n := 22) rfl ?_
    refine x_iload_n 3 dJ25_reverseRange_22 rfl rfl (n := 23) rfl ?_
    refine x_iincB 3 (fun x7 => [(2, .int x7), (1, .int x4), (3, va_rf x3), (0, .ref b2)]) dJ25_reverseRange_23 rfl rfl (by decide) (fun _ => rfl) (n := 26) rfl (fun x7 => ?_)
    refine x_aload_n 2 dJ25_reverseRange_26 rfl rfl (n := 27) rfl ?_
    refine x_aast (t := 4) (x := x3) rfl (by decide) dJ25_reverseRange_27 (n := 28) rfl (fun p8 => ?_)
    refine x_goto dJ25_reverseRange_28 (n := 3) (by decide) ?_
    refine x_sub [3, 1, 0] [(0, .ref b2), (1, .int x4), (2, .int x7)] rfl ?_
    exact hk3 ((some b2)) x4 x7 p8
theorem f_J25_reverseRange_3_lp {G : xG} (hO : xOK G)   (n : Nat) (v0 : Option Nat) (v1 : Int32) (v2 : Int32) (p0 : PH) : X G "java/util/TimSort" "reverseRange" cJ25_reverseRange 4 (Option.none : Option Jvm.ClassFile.FieldType) 0 3 [(0, va_rf v0), (1, .int v1), (2, .int v2)] [] p0 (lp (f_J25_reverseRange_3F) n (v0, v1, v2, p0)) :=
  lp_ok (W := fun p K => X G "java/util/TimSort" "reverseRange" cJ25_reverseRange 4 (Option.none : Option Jvm.ClassFile.FieldType) 0 3 [(0, va_rf p.1), (1, .int p.2.1), (2, .int p.2.2.1)] [] p.2.2.2 K) (fun _ => x_no) (fun k hk => fun (v0, v1, v2, p0) => f_J25_reverseRange_3F_ok hO (fun v0 v1 v2 p0 => hk (v0, v1, v2, p0)) v0 v1 v2 p0) n (v0, v1, v2, p0)
theorem f_J25_reverseRange_ok {G : xG} (hO : xOK G) (p0 : PH) (a0 : Option Nat) (a1 : Int32) (a2 : Int32) : CT G 0 yJ25_reverseRange cJ25_reverseRange 4 (Option.none : Option Jvm.ClassFile.FieldType) [va_rf a0, .int a1, .int a2] p0 (f_J25_reverseRange p0 a0 a1 a2) := by
  refine CT_of hO (by decide +kernel) (by decide +kernel) (lg_slen _ (by simp only [List.map, xcat]; exact Nat.le_of_ble_eq_true rfl)) ?_
  rw [show lv_args 0 [va_rf a0, .int a1, .int a2] = [(0, va_rf a0), (1, .int a1), (2, .int a2)] from by simp only [lv_args, xcat] <;> rfl]
  show X G "java/util/TimSort" "reverseRange" cJ25_reverseRange 4 (Option.none : Option Jvm.ClassFile.FieldType) 0 0 [(0, va_rf a0), (1, .int a1), (2, .int a2)] [] p0 (f_J25_reverseRange p0 a0 a1 a2)
  refine x_iincB 2 (fun x1 => [(2, .int x1), (0, va_rf a0), (1, .int a1)]) dJ25_reverseRange_0 rfl rfl (by decide) (fun _ => rfl) (n := 3) rfl (fun x1 => ?_)
  refine x_sub [1, 2, 0] [(0, va_rf a0), (1, .int a1), (2, .int x1)] rfl ?_
  exact f_J25_reverseRange_3_lp hO FU a0 a1 x1 p0
abbrev cJ25_countRunAndMakeAscending : ByteArray := prog_76_method_4_code
def yJ25_countRunAndMakeAscending : MethodName := ⟨RJ25, "countRunAndMakeAscending", "([Ljava/lang/Object;IILjava/util/Comparator;)I"⟩
def dkwJ25_countRunAndMakeAscending_5 : List UInt8 := [155, 0, 9, 132, 4, 1, 167, 255, 228, 21, 4, 27, 100, 172]
abbrev dktJ25_countRunAndMakeAscending_5 : List UInt8 := dkwJ25_countRunAndMakeAscending_5 ++ []
def dkwJ25_countRunAndMakeAscending_4 : List UInt8 := [21, 4, 28, 162, 0, 28, 45, 42, 21, 4, 50, 42, 21, 4, 4, 100, 50, 185, 0, 89, 3, 0]
abbrev dktJ25_countRunAndMakeAscending_4 : List UInt8 := dkwJ25_countRunAndMakeAscending_4 ++ dktJ25_countRunAndMakeAscending_5
def dkwJ25_countRunAndMakeAscending_3 : List UInt8 := [185, 0, 89, 3, 0, 156, 0, 9, 132, 4, 1, 167, 255, 228, 42, 27, 21, 4, 184, 0, 101, 167, 0, 34]
abbrev dktJ25_countRunAndMakeAscending_3 : List UInt8 := dkwJ25_countRunAndMakeAscending_3 ++ dktJ25_countRunAndMakeAscending_4
def dkwJ25_countRunAndMakeAscending_2 : List UInt8 := [156, 0, 44, 21, 4, 28, 162, 0, 28, 45, 42, 21, 4, 50, 42, 21, 4, 4, 100, 50]
abbrev dktJ25_countRunAndMakeAscending_2 : List UInt8 := dkwJ25_countRunAndMakeAscending_2 ++ dktJ25_countRunAndMakeAscending_3
def dkwJ25_countRunAndMakeAscending_1 : List UInt8 := [21, 4, 28, 160, 0, 5, 4, 172, 45, 42, 21, 4, 132, 4, 1, 50, 42, 27, 50, 185, 0, 89, 3, 0]
abbrev dktJ25_countRunAndMakeAscending_1 : List UInt8 := dkwJ25_countRunAndMakeAscending_1 ++ dktJ25_countRunAndMakeAscending_2
def dkwJ25_countRunAndMakeAscending_0 : List UInt8 := [178, 0, 57, 154, 0, 16, 27, 28, 161, 0, 11, 187, 0, 61, 89, 183, 0, 63, 191, 27, 4, 96, 54, 4]
abbrev dktJ25_countRunAndMakeAscending_0 : List UInt8 := dkwJ25_countRunAndMakeAscending_0 ++ dktJ25_countRunAndMakeAscending_1
theorem dksJ25_countRunAndMakeAscending_0 : cJ25_countRunAndMakeAscending.data.toList.drop 0 = dktJ25_countRunAndMakeAscending_0 := by decide +kernel
theorem dksJ25_countRunAndMakeAscending_1 : cJ25_countRunAndMakeAscending.data.toList.drop 24 = dktJ25_countRunAndMakeAscending_1 := dk_seg dksJ25_countRunAndMakeAscending_0 24 rfl rfl
theorem dksJ25_countRunAndMakeAscending_2 : cJ25_countRunAndMakeAscending.data.toList.drop 48 = dktJ25_countRunAndMakeAscending_2 := dk_seg dksJ25_countRunAndMakeAscending_1 24 rfl rfl
theorem dksJ25_countRunAndMakeAscending_3 : cJ25_countRunAndMakeAscending.data.toList.drop 68 = dktJ25_countRunAndMakeAscending_3 := dk_seg dksJ25_countRunAndMakeAscending_2 20 rfl rfl
theorem dksJ25_countRunAndMakeAscending_4 : cJ25_countRunAndMakeAscending.data.toList.drop 92 = dktJ25_countRunAndMakeAscending_4 := dk_seg dksJ25_countRunAndMakeAscending_3 24 rfl rfl
theorem dksJ25_countRunAndMakeAscending_5 : cJ25_countRunAndMakeAscending.data.toList.drop 114 = dktJ25_countRunAndMakeAscending_5 := dk_seg dksJ25_countRunAndMakeAscending_4 22 rfl rfl
theorem dJ25_countRunAndMakeAscending_0 : decode cJ25_countRunAndMakeAscending 0 = .ok (.getstatic 57, 3) := dk_178 0 57 (dk_at dksJ25_countRunAndMakeAscending_0 0 rfl rfl)
theorem dJ25_countRunAndMakeAscending_3 : decode cJ25_countRunAndMakeAscending 3 = .ok (.ifCond .ne 16, 3) := dk_154 0 16 (dk_at dksJ25_countRunAndMakeAscending_0 3 rfl rfl)
theorem dJ25_countRunAndMakeAscending_6 : decode cJ25_countRunAndMakeAscending 6 = .ok (.iload_n 1, 1) := dk_27 (dk_at dksJ25_countRunAndMakeAscending_0 6 rfl rfl)
theorem dJ25_countRunAndMakeAscending_7 : decode cJ25_countRunAndMakeAscending 7 = .ok (.iload_n 2, 1) := dk_28 (dk_at dksJ25_countRunAndMakeAscending_0 7 rfl rfl)
theorem dJ25_countRunAndMakeAscending_8 : decode cJ25_countRunAndMakeAscending 8 = .ok (.if_icmp .lt 11, 3) := dk_161 0 11 (dk_at dksJ25_countRunAndMakeAscending_0 8 rfl rfl)
theorem dJ25_countRunAndMakeAscending_11 : decode cJ25_countRunAndMakeAscending 11 = .ok (.new 61, 3) := dk_187 0 61 (dk_at dksJ25_countRunAndMakeAscending_0 11 rfl rfl)
theorem dJ25_countRunAndMakeAscending_14 : decode cJ25_countRunAndMakeAscending 14 = .ok (.dup, 1) := dk_89 (dk_at dksJ25_countRunAndMakeAscending_0 14 rfl rfl)
theorem dJ25_countRunAndMakeAscending_15 : decode cJ25_countRunAndMakeAscending 15 = .ok (.invokespecial 63, 3) := dk_183 0 63 (dk_at dksJ25_countRunAndMakeAscending_0 15 rfl rfl)
theorem dJ25_countRunAndMakeAscending_18 : decode cJ25_countRunAndMakeAscending 18 = .ok (.athrow, 1) := dk_191 (dk_at dksJ25_countRunAndMakeAscending_0 18 rfl rfl)
theorem dJ25_countRunAndMakeAscending_19 : decode cJ25_countRunAndMakeAscending 19 = .ok (.iload_n 1, 1) := dk_27 (dk_at dksJ25_countRunAndMakeAscending_0 19 rfl rfl)
theorem dJ25_countRunAndMakeAscending_20 : decode cJ25_countRunAndMakeAscending 20 = .ok (.iconst 1, 1) := dk_4 (dk_at dksJ25_countRunAndMakeAscending_0 20 rfl rfl)
theorem dJ25_countRunAndMakeAscending_21 : decode cJ25_countRunAndMakeAscending 21 = .ok (.iadd, 1) := dk_96 (dk_at dksJ25_countRunAndMakeAscending_0 21 rfl rfl)
theorem dJ25_countRunAndMakeAscending_22 : decode cJ25_countRunAndMakeAscending 22 = .ok (.istore 4, 2) := dk_54 4 (dk_at dksJ25_countRunAndMakeAscending_0 22 rfl rfl)
theorem dJ25_countRunAndMakeAscending_24 : decode cJ25_countRunAndMakeAscending 24 = .ok (.iload 4, 2) := dk_21 4 (dk_at dksJ25_countRunAndMakeAscending_1 0 rfl rfl)
theorem dJ25_countRunAndMakeAscending_26 : decode cJ25_countRunAndMakeAscending 26 = .ok (.iload_n 2, 1) := dk_28 (dk_at dksJ25_countRunAndMakeAscending_1 2 rfl rfl)
theorem dJ25_countRunAndMakeAscending_27 : decode cJ25_countRunAndMakeAscending 27 = .ok (.if_icmp .ne 5, 3) := dk_160 0 5 (dk_at dksJ25_countRunAndMakeAscending_1 3 rfl rfl)
theorem dJ25_countRunAndMakeAscending_30 : decode cJ25_countRunAndMakeAscending 30 = .ok (.iconst 1, 1) := dk_4 (dk_at dksJ25_countRunAndMakeAscending_1 6 rfl rfl)
theorem dJ25_countRunAndMakeAscending_31 : decode cJ25_countRunAndMakeAscending 31 = .ok (.ireturn, 1) := dk_172 (dk_at dksJ25_countRunAndMakeAscending_1 7 rfl rfl)
theorem dJ25_countRunAndMakeAscending_32 : decode cJ25_countRunAndMakeAscending 32 = .ok (.aload_n 3, 1) := dk_45 (dk_at dksJ25_countRunAndMakeAscending_1 8 rfl rfl)
theorem dJ25_countRunAndMakeAscending_33 : decode cJ25_countRunAndMakeAscending 33 = .ok (.aload_n 0, 1) := dk_42 (dk_at dksJ25_countRunAndMakeAscending_1 9 rfl rfl)
theorem dJ25_countRunAndMakeAscending_34 : decode cJ25_countRunAndMakeAscending 34 = .ok (.iload 4, 2) := dk_21 4 (dk_at dksJ25_countRunAndMakeAscending_1 10 rfl rfl)
theorem dJ25_countRunAndMakeAscending_36 : decode cJ25_countRunAndMakeAscending 36 = .ok (.iinc 4 1, 3) := dk_132 4 1 (dk_at dksJ25_countRunAndMakeAscending_1 12 rfl rfl)
theorem dJ25_countRunAndMakeAscending_39 : decode cJ25_countRunAndMakeAscending 39 = .ok (.aaload, 1) := dk_50 (dk_at dksJ25_countRunAndMakeAscending_1 15 rfl rfl)
theorem dJ25_countRunAndMakeAscending_40 : decode cJ25_countRunAndMakeAscending 40 = .ok (.aload_n 0, 1) := dk_42 (dk_at dksJ25_countRunAndMakeAscending_1 16 rfl rfl)
theorem dJ25_countRunAndMakeAscending_41 : decode cJ25_countRunAndMakeAscending 41 = .ok (.iload_n 1, 1) := dk_27 (dk_at dksJ25_countRunAndMakeAscending_1 17 rfl rfl)
theorem dJ25_countRunAndMakeAscending_42 : decode cJ25_countRunAndMakeAscending 42 = .ok (.aaload, 1) := dk_50 (dk_at dksJ25_countRunAndMakeAscending_1 18 rfl rfl)
theorem dJ25_countRunAndMakeAscending_43 : decode cJ25_countRunAndMakeAscending 43 = .ok (.invokeinterface 89 3, 5) := by decide +kernel
theorem dJ25_countRunAndMakeAscending_48 : decode cJ25_countRunAndMakeAscending 48 = .ok (.ifCond .ge 44, 3) := dk_156 0 44 (dk_at dksJ25_countRunAndMakeAscending_2 0 rfl rfl)
theorem dJ25_countRunAndMakeAscending_51 : decode cJ25_countRunAndMakeAscending 51 = .ok (.iload 4, 2) := dk_21 4 (dk_at dksJ25_countRunAndMakeAscending_2 3 rfl rfl)
theorem dJ25_countRunAndMakeAscending_53 : decode cJ25_countRunAndMakeAscending 53 = .ok (.iload_n 2, 1) := dk_28 (dk_at dksJ25_countRunAndMakeAscending_2 5 rfl rfl)
theorem dJ25_countRunAndMakeAscending_54 : decode cJ25_countRunAndMakeAscending 54 = .ok (.if_icmp .ge 28, 3) := dk_162 0 28 (dk_at dksJ25_countRunAndMakeAscending_2 6 rfl rfl)
theorem dJ25_countRunAndMakeAscending_57 : decode cJ25_countRunAndMakeAscending 57 = .ok (.aload_n 3, 1) := dk_45 (dk_at dksJ25_countRunAndMakeAscending_2 9 rfl rfl)
theorem dJ25_countRunAndMakeAscending_58 : decode cJ25_countRunAndMakeAscending 58 = .ok (.aload_n 0, 1) := dk_42 (dk_at dksJ25_countRunAndMakeAscending_2 10 rfl rfl)
theorem dJ25_countRunAndMakeAscending_59 : decode cJ25_countRunAndMakeAscending 59 = .ok (.iload 4, 2) := dk_21 4 (dk_at dksJ25_countRunAndMakeAscending_2 11 rfl rfl)
theorem dJ25_countRunAndMakeAscending_61 : decode cJ25_countRunAndMakeAscending 61 = .ok (.aaload, 1) := dk_50 (dk_at dksJ25_countRunAndMakeAscending_2 13 rfl rfl)
theorem dJ25_countRunAndMakeAscending_62 : decode cJ25_countRunAndMakeAscending 62 = .ok (.aload_n 0, 1) := dk_42 (dk_at dksJ25_countRunAndMakeAscending_2 14 rfl rfl)
theorem dJ25_countRunAndMakeAscending_63 : decode cJ25_countRunAndMakeAscending 63 = .ok (.iload 4, 2) := dk_21 4 (dk_at dksJ25_countRunAndMakeAscending_2 15 rfl rfl)
theorem dJ25_countRunAndMakeAscending_65 : decode cJ25_countRunAndMakeAscending 65 = .ok (.iconst 1, 1) := dk_4 (dk_at dksJ25_countRunAndMakeAscending_2 17 rfl rfl)
theorem dJ25_countRunAndMakeAscending_66 : decode cJ25_countRunAndMakeAscending 66 = .ok (.isub, 1) := dk_100 (dk_at dksJ25_countRunAndMakeAscending_2 18 rfl rfl)
theorem dJ25_countRunAndMakeAscending_67 : decode cJ25_countRunAndMakeAscending 67 = .ok (.aaload, 1) := dk_50 (dk_at dksJ25_countRunAndMakeAscending_2 19 rfl rfl)
theorem dJ25_countRunAndMakeAscending_68 : decode cJ25_countRunAndMakeAscending 68 = .ok (.invokeinterface 89 3, 5) := by decide +kernel
theorem dJ25_countRunAndMakeAscending_73 : decode cJ25_countRunAndMakeAscending 73 = .ok (.ifCond .ge 9, 3) := dk_156 0 9 (dk_at dksJ25_countRunAndMakeAscending_3 5 rfl rfl)
theorem dJ25_countRunAndMakeAscending_76 : decode cJ25_countRunAndMakeAscending 76 = .ok (.iinc 4 1, 3) := dk_132 4 1 (dk_at dksJ25_countRunAndMakeAscending_3 8 rfl rfl)
theorem dJ25_countRunAndMakeAscending_79 : decode cJ25_countRunAndMakeAscending 79 = .ok (.goto (-28), 3) := dk_167 255 228 (dk_at dksJ25_countRunAndMakeAscending_3 11 rfl rfl)
theorem dJ25_countRunAndMakeAscending_82 : decode cJ25_countRunAndMakeAscending 82 = .ok (.aload_n 0, 1) := dk_42 (dk_at dksJ25_countRunAndMakeAscending_3 14 rfl rfl)
theorem dJ25_countRunAndMakeAscending_83 : decode cJ25_countRunAndMakeAscending 83 = .ok (.iload_n 1, 1) := dk_27 (dk_at dksJ25_countRunAndMakeAscending_3 15 rfl rfl)
theorem dJ25_countRunAndMakeAscending_84 : decode cJ25_countRunAndMakeAscending 84 = .ok (.iload 4, 2) := dk_21 4 (dk_at dksJ25_countRunAndMakeAscending_3 16 rfl rfl)
theorem dJ25_countRunAndMakeAscending_86 : decode cJ25_countRunAndMakeAscending 86 = .ok (.invokestatic 101, 3) := dk_184 0 101 (dk_at dksJ25_countRunAndMakeAscending_3 18 rfl rfl)
theorem dJ25_countRunAndMakeAscending_89 : decode cJ25_countRunAndMakeAscending 89 = .ok (.goto 34, 3) := dk_167 0 34 (dk_at dksJ25_countRunAndMakeAscending_3 21 rfl rfl)
theorem dJ25_countRunAndMakeAscending_92 : decode cJ25_countRunAndMakeAscending 92 = .ok (.iload 4, 2) := dk_21 4 (dk_at dksJ25_countRunAndMakeAscending_4 0 rfl rfl)
theorem dJ25_countRunAndMakeAscending_94 : decode cJ25_countRunAndMakeAscending 94 = .ok (.iload_n 2, 1) := dk_28 (dk_at dksJ25_countRunAndMakeAscending_4 2 rfl rfl)
theorem dJ25_countRunAndMakeAscending_95 : decode cJ25_countRunAndMakeAscending 95 = .ok (.if_icmp .ge 28, 3) := dk_162 0 28 (dk_at dksJ25_countRunAndMakeAscending_4 3 rfl rfl)
theorem dJ25_countRunAndMakeAscending_98 : decode cJ25_countRunAndMakeAscending 98 = .ok (.aload_n 3, 1) := dk_45 (dk_at dksJ25_countRunAndMakeAscending_4 6 rfl rfl)
theorem dJ25_countRunAndMakeAscending_99 : decode cJ25_countRunAndMakeAscending 99 = .ok (.aload_n 0, 1) := dk_42 (dk_at dksJ25_countRunAndMakeAscending_4 7 rfl rfl)
theorem dJ25_countRunAndMakeAscending_100 : decode cJ25_countRunAndMakeAscending 100 = .ok (.iload 4, 2) := dk_21 4 (dk_at dksJ25_countRunAndMakeAscending_4 8 rfl rfl)
theorem dJ25_countRunAndMakeAscending_102 : decode cJ25_countRunAndMakeAscending 102 = .ok (.aaload, 1) := dk_50 (dk_at dksJ25_countRunAndMakeAscending_4 10 rfl rfl)
theorem dJ25_countRunAndMakeAscending_103 : decode cJ25_countRunAndMakeAscending 103 = .ok (.aload_n 0, 1) := dk_42 (dk_at dksJ25_countRunAndMakeAscending_4 11 rfl rfl)
theorem dJ25_countRunAndMakeAscending_104 : decode cJ25_countRunAndMakeAscending 104 = .ok (.iload 4, 2) := dk_21 4 (dk_at dksJ25_countRunAndMakeAscending_4 12 rfl rfl)
theorem dJ25_countRunAndMakeAscending_106 : decode cJ25_countRunAndMakeAscending 106 = .ok (.iconst 1, 1) := dk_4 (dk_at dksJ25_countRunAndMakeAscending_4 14 rfl rfl)
theorem dJ25_countRunAndMakeAscending_107 : decode cJ25_countRunAndMakeAscending 107 = .ok (.isub, 1) := dk_100 (dk_at dksJ25_countRunAndMakeAscending_4 15 rfl rfl)
theorem dJ25_countRunAndMakeAscending_108 : decode cJ25_countRunAndMakeAscending 108 = .ok (.aaload, 1) := dk_50 (dk_at dksJ25_countRunAndMakeAscending_4 16 rfl rfl)
theorem dJ25_countRunAndMakeAscending_109 : decode cJ25_countRunAndMakeAscending 109 = .ok (.invokeinterface 89 3, 5) := by decide +kernel
theorem dJ25_countRunAndMakeAscending_114 : decode cJ25_countRunAndMakeAscending 114 = .ok (.ifCond .lt 9, 3) := dk_155 0 9 (dk_at dksJ25_countRunAndMakeAscending_5 0 rfl rfl)
theorem dJ25_countRunAndMakeAscending_117 : decode cJ25_countRunAndMakeAscending 117 = .ok (.iinc 4 1, 3) := dk_132 4 1 (dk_at dksJ25_countRunAndMakeAscending_5 3 rfl rfl)
theorem dJ25_countRunAndMakeAscending_120 : decode cJ25_countRunAndMakeAscending 120 = .ok (.goto (-28), 3) := dk_167 255 228 (dk_at dksJ25_countRunAndMakeAscending_5 6 rfl rfl)
theorem dJ25_countRunAndMakeAscending_123 : decode cJ25_countRunAndMakeAscending 123 = .ok (.iload 4, 2) := dk_21 4 (dk_at dksJ25_countRunAndMakeAscending_5 9 rfl rfl)
theorem dJ25_countRunAndMakeAscending_125 : decode cJ25_countRunAndMakeAscending 125 = .ok (.iload_n 1, 1) := dk_27 (dk_at dksJ25_countRunAndMakeAscending_5 11 rfl rfl)
theorem dJ25_countRunAndMakeAscending_126 : decode cJ25_countRunAndMakeAscending 126 = .ok (.isub, 1) := dk_100 (dk_at dksJ25_countRunAndMakeAscending_5 12 rfl rfl)
theorem dJ25_countRunAndMakeAscending_127 : decode cJ25_countRunAndMakeAscending 127 = .ok (.ireturn, 1) := dk_172 (dk_at dksJ25_countRunAndMakeAscending_5 13 rfl rfl)
theorem md_J25_countRunAndMakeAscending : xMd yJ25_countRunAndMakeAscending cJ25_countRunAndMakeAscending 5 (Option.some Jvm.ClassFile.FieldType.int) 4 := ⟨q1712, q162, by decide, by decide +kernel, by decide +kernel, by decide +kernel⟩
def f_J25_countRunAndMakeAscending_123   (v1 : Int32) (v4 : Int32) (p0 : PH) : Option (xO × PH) :=
  (rI (v4 - v1) p0)
def f_J25_countRunAndMakeAscending_92F   (k92 : Option Nat × Int32 × Int32 × Option Nat × Int32 × PH → Option (xO × PH)) (p : Option Nat × Int32 × Int32 × Option Nat × Int32 × PH) : Option (xO × PH) := match p with
  | (v0, v1, v2, v3, v4, p0) => (if v2 ≤ v4 then
  (f_J25_countRunAndMakeAscending_123 v1 v4 p0) else
  (xnul v0 none fun b12 =>
  (xaR p0 b12 4 v4 fun x13 =>
  (xaR p0 b12 4 (v4 - 1) fun x14 =>
  (xnul v3 none fun b15 =>
  (xsw p0 b15 fun c17 =>
  (if c17 = 9 then
  (xcI (f_X10_compare p0 b15 x13 x14) fun x20 p19 =>
  (if x20 < 0 then
  (f_J25_countRunAndMakeAscending_123 v1 v4 p19) else
  (bnd (v4 + 1) fun x21 =>
  (k92 (((some b12)), v1, v2, ((some b15)), x21, p19))))) else
  (if c17 = 12 then
  (xcI (f_X13_compare p0 b15 x13 x14) fun x23 p22 =>
  (if x23 < 0 then
  (f_J25_countRunAndMakeAscending_123 v1 v4 p22) else
  (bnd (v4 + 1) fun x24 =>
  (k92 (((some b12)), v1, v2, ((some b15)), x24, p22))))) else
  none))))))))
def f_J25_countRunAndMakeAscending_82   (v0 : Option Nat) (v1 : Int32) (v4 : Int32) (p0 : PH) : Option (xO × PH) :=
  (xcV (f_J25_reverseRange p0 v0 v1 v4) fun p25 =>
  (f_J25_countRunAndMakeAscending_123 v1 v4 p25))
def f_J25_countRunAndMakeAscending_51F   (k51 : Option Nat × Int32 × Int32 × Option Nat × Int32 × PH → Option (xO × PH)) (p : Option Nat × Int32 × Int32 × Option Nat × Int32 × PH) : Option (xO × PH) := match p with
  | (v0, v1, v2, v3, v4, p0) => (if v2 ≤ v4 then
  (f_J25_countRunAndMakeAscending_82 v0 v1 v4 p0) else
  (xnul v0 none fun b26 =>
  (xaR p0 b26 4 v4 fun x27 =>
  (xaR p0 b26 4 (v4 - 1) fun x28 =>
  (xnul v3 none fun b29 =>
  (xsw p0 b29 fun c31 =>
  (if c31 = 9 then
  (xcI (f_X10_compare p0 b29 x27 x28) fun x34 p33 =>
  (if 0 ≤ x34 then
  (f_J25_countRunAndMakeAscending_82 ((some b26)) v1 v4 p33) else
  (bnd (v4 + 1) fun x35 =>
  (k51 (((some b26)), v1, v2, ((some b29)), x35, p33))))) else
  (if c31 = 12 then
  (xcI (f_X13_compare p0 b29 x27 x28) fun x37 p36 =>
  (if 0 ≤ x37 then
  (f_J25_countRunAndMakeAscending_82 ((some b26)) v1 v4 p36) else
  (bnd (v4 + 1) fun x38 =>
  (k51 (((some b26)), v1, v2, ((some b29)), x38, p36))))) else
  none))))))))
def f_J25_countRunAndMakeAscending_19   (v0 : Option Nat) (v1 : Int32) (v2 : Int32) (v3 : Option Nat) (p0 : PH) : Option (xO × PH) :=
  (bnd (v1 + 1) fun x1 =>
  (if x1 = v2 then
  (rI 1 p0) else
  (bnd (x1 + 1) fun x2 =>
  (xnul v0 none fun b3 =>
  (xaR p0 b3 4 x1 fun x4 =>
  (xaR p0 b3 4 v1 fun x5 =>
  (xnul v3 none fun b6 =>
  (xsw p0 b6 fun c8 =>
  (if c8 = 9 then
  (xcI (f_X10_compare p0 b6 x4 x5) fun x11 p10 =>
  (if 0 ≤ x11 then
  (lp (f_J25_countRunAndMakeAscending_92F) FU (((some b3)), v1, v2, ((some b6)), x2, p10)) else
  (lp (f_J25_countRunAndMakeAscending_51F) FU (((some b3)), v1, v2, ((some b6)), x2, p10)))) else
  (if c8 = 12 then
  (xcI (f_X13_compare p0 b6 x4 x5) fun x40 p39 =>
  (if 0 ≤ x40 then
  (lp (f_J25_countRunAndMakeAscending_92F) FU (((some b3)), v1, v2, ((some b6)), x2, p39)) else
  (lp (f_J25_countRunAndMakeAscending_51F) FU (((some b3)), v1, v2, ((some b6)), x2, p39)))) else
  none))))))))))
def f_J25_countRunAndMakeAscending (p0 : PH) (a0 : Option Nat) (a1 : Int32) (a2 : Int32) (a3 : Option Nat) : Option (xO × PH) :=
  (if (1 : Int32) = 0 then
  (if a1 < a2 then
  (f_J25_countRunAndMakeAscending_19 a0 a1 a2 a3 p0) else
  none) else
  (f_J25_countRunAndMakeAscending_19 a0 a1 a2 a3 p0))
theorem f_J25_countRunAndMakeAscending_123_ok {G : xG} (hO : xOK G)   (v1 : Int32) (v4 : Int32) (p0 : PH) : X G "java/util/TimSort" "countRunAndMakeAscending" cJ25_countRunAndMakeAscending 5 (Option.some Jvm.ClassFile.FieldType.int) 5 123 [(1, .int v1), (4, .int v4)] [] p0 (f_J25_countRunAndMakeAscending_123 v1 v4 p0) := by
  unfold f_J25_countRunAndMakeAscending_123
  refine x_iload 1 dJ25_countRunAndMakeAscending_123 rfl (n := 125) rfl ?_
  refine x_iload_n 0 dJ25_countRunAndMakeAscending_125 rfl rfl (n := 126) rfl ?_
  refine x_isub dJ25_countRunAndMakeAscending_126 (n := 127) rfl ?_
  exact x_ireturn dJ25_countRunAndMakeAscending_127
theorem f_J25_countRunAndMakeAscending_92F_ok {G : xG} (hO : xOK G)   {k92 : Option Nat × Int32 × Int32 × Option Nat × Int32 × PH → Option (xO × PH)} (hk92 : ∀ (v0 : Option Nat) (v1 : Int32) (v2 : Int32) (v3 : Option Nat) (v4 : Int32) (p0 : PH), X G "java/util/TimSort" "countRunAndMakeAscending" cJ25_countRunAndMakeAscending 5 (Option.some Jvm.ClassFile.FieldType.int) 5 92 [(0, va_rf v0), (1, .int v1), (2, .int v2), (3, va_rf v3), (4, .int v4)] [] p0 (k92 (v0, v1, v2, v3, v4, p0))) (v0 : Option Nat) (v1 : Int32) (v2 : Int32) (v3 : Option Nat) (v4 : Int32) (p0 : PH) : X G "java/util/TimSort" "countRunAndMakeAscending" cJ25_countRunAndMakeAscending 5 (Option.some Jvm.ClassFile.FieldType.int) 5 92 [(0, va_rf v0), (1, .int v1), (2, .int v2), (3, va_rf v3), (4, .int v4)] [] p0 (f_J25_countRunAndMakeAscending_92F k92 (v0, v1, v2, v3, v4, p0)) := by
  unfold f_J25_countRunAndMakeAscending_92F
  refine x_iload 4 dJ25_countRunAndMakeAscending_92 rfl (n := 94) rfl ?_
  refine x_iload_n 2 dJ25_countRunAndMakeAscending_94 rfl rfl (n := 95) rfl ?_
  refine x_icmp_ge dJ25_countRunAndMakeAscending_95 (t := 123) (by decide) (n := 98) rfl (fun _ => ?_) (fun _ => ?_)
  · refine x_sub [1, 4] [(1, .int v1), (4, .int v4)] rfl ?_
    exact f_J25_countRunAndMakeAscending_123_ok hO v1 v4 p0
  · refine x_aload_n 3 dJ25_countRunAndMakeAscending_98 rfl rfl (n := 99) rfl ?_
    refine x_aload_n 0 dJ25_countRunAndMakeAscending_99 rfl rfl (n := 100) rfl ?_
    refine x_iload 4 dJ25_countRunAndMakeAscending_100 rfl (n := 102) rfl ?_
    refine x_sm (fun b12 e => ?_)
    subst e
    refine x_aald (t := 4) rfl rfl dJ25_countRunAndMakeAscending_102 (n := 103) rfl (fun x13 => ?_)
    refine x_aload_nr 0 dJ25_countRunAndMakeAscending_103 rfl rfl (n := 104) rfl ?_
    refine x_iload 4 dJ25_countRunAndMakeAscending_104 rfl (n := 106) rfl ?_
    refine x_iconst 1 dJ25_countRunAndMakeAscending_106 rfl (n := 107) rfl ?_
    refine x_isub dJ25_countRunAndMakeAscending_107 (n := 108) rfl ?_
    refine x_aald (t := 4) rfl rfl dJ25_countRunAndMakeAscending_108 (n := 109) rfl (fun x14 => ?_)
    refine x_sm (fun b15 e => ?_)
    subst e
    refine x_sw (fun c17 e => ?_)
    refine x_ite (fun h => ?_) (fun _ => ?_)
    · subst h
      refine x_callF_I [va_rf x13, va_rf x14] [] (f_X10_compare_ok hO p0 b15 x13 x14) rc_X10_compare md_X10_compare rfl q1714 fc_ForestLegs_2_java_util_Comparator_compare_2_Ljaval dJ25_countRunAndMakeAscending_109 rfl rfl (by decide) (Nat.le_of_ble_eq_true rfl) (n := 114) rfl (fun x20 p19 => ?_)
      refine x_if_lt dJ25_countRunAndMakeAscending_114 (t := 123) (by decide) (n := 117) rfl (fun _ => ?_) (fun _ => ?_)
      · refine x_sub [1, 4] [(1, .int v1), (4, .int v4)] rfl ?_
        exact f_J25_countRunAndMakeAscending_123_ok hO v1 v4 p19
      · refine x_iincB 4 (fun x21 => [(4, .int x21), (0, .ref b12), (1, .int v1), (2, .int v2), (3, .ref b15)]) dJ25_countRunAndMakeAscending_117 rfl rfl (by decide) (fun _ => rfl) (n := 120) rfl (fun x21 => ?_)
        refine x_goto dJ25_countRunAndMakeAscending_120 (n := 92) (by decide) ?_
        refine x_sub [1, 2, 3, 4, 0] [(0, .ref b12), (1, .int v1), (2, .int v2), (3, .ref b15), (4, .int x21)] rfl ?_
        exact hk92 ((some b12)) v1 v2 ((some b15)) x21 p19
    refine x_ite (fun h => ?_) (fun _ => ?_)
    · subst h
      refine x_callF_I [va_rf x13, va_rf x14] [] (f_X13_compare_ok hO p0 b15 x13 x14) rc_X13_compare md_X13_compare rfl q1714 fc_ForestLegs_1_java_util_Comparator_compare_2_Ljaval dJ25_countRunAndMakeAscending_109 rfl rfl (by decide) (Nat.le_of_ble_eq_true rfl) (n := 114) rfl (fun x23 p22 => ?_)
      refine x_if_lt dJ25_countRunAndMakeAscending_114 (t := 123) (by decide) (n := 117) rfl (fun _ => ?_) (fun _ => ?_)
      · refine x_sub [1, 4] [(1, .int v1), (4, .int v4)] rfl ?_
        exact f_J25_countRunAndMakeAscending_123_ok hO v1 v4 p22
      · refine x_iincB 4 (fun x24 => [(4, .int x24), (0, .ref b12), (1, .int v1), (2, .int v2), (3, .ref b15)]) dJ25_countRunAndMakeAscending_117 rfl rfl (by decide) (fun _ => rfl) (n := 120) rfl (fun x24 => ?_)
        refine x_goto dJ25_countRunAndMakeAscending_120 (n := 92) (by decide) ?_
        refine x_sub [1, 2, 3, 4, 0] [(0, .ref b12), (1, .int v1), (2, .int v2), (3, .ref b15), (4, .int x24)] rfl ?_
        exact hk92 ((some b12)) v1 v2 ((some b15)) x24 p22
    exact x_no
theorem f_J25_countRunAndMakeAscending_92_lp {G : xG} (hO : xOK G)   (n : Nat) (v0 : Option Nat) (v1 : Int32) (v2 : Int32) (v3 : Option Nat) (v4 : Int32) (p0 : PH) : X G "java/util/TimSort" "countRunAndMakeAscending" cJ25_countRunAndMakeAscending 5 (Option.some Jvm.ClassFile.FieldType.int) 5 92 [(0, va_rf v0), (1, .int v1), (2, .int v2), (3, va_rf v3), (4, .int v4)] [] p0 (lp (f_J25_countRunAndMakeAscending_92F) n (v0, v1, v2, v3, v4, p0)) :=
  lp_ok (W := fun p K => X G "java/util/TimSort" "countRunAndMakeAscending" cJ25_countRunAndMakeAscending 5 (Option.some Jvm.ClassFile.FieldType.int) 5 92 [(0, va_rf p.1), (1, .int p.2.1), (2, .int p.2.2.1), (3, va_rf p.2.2.2.1), (4, .int p.2.2.2.2.1)] [] p.2.2.2.2.2 K) (fun _ => x_no) (fun k hk => fun (v0, v1, v2, v3, v4, p0) => f_J25_countRunAndMakeAscending_92F_ok hO (fun v0 v1 v2 v3 v4 p0 => hk (v0, v1, v2, v3, v4, p0)) v0 v1 v2 v3 v4 p0) n (v0, v1, v2, v3, v4, p0)
theorem f_J25_countRunAndMakeAscending_82_ok {G : xG} (hO : xOK G)   (v0 : Option Nat) (v1 : Int32) (v4 : Int32) (p0 : PH) : X G "java/util/TimSort" "countRunAndMakeAscending" cJ25_countRunAndMakeAscending 5 (Option.some Jvm.ClassFile.FieldType.int) 5 82 [(0, va_rf v0), (1, .int v1), (4, .int v4)] [] p0 (f_J25_countRunAndMakeAscending_82 v0 v1 v4 p0) := by
  unfold f_J25_countRunAndMakeAscending_82
  refine x_aload_n 0 dJ25_countRunAndMakeAscending_82 rfl rfl (n := 83) rfl ?_
  refine x_iload_n 1 dJ25_countRunAndMakeAscending_83 rfl rfl (n := 84) rfl ?_
  refine x_iload 2 dJ25_countRunAndMakeAscending_84 rfl (n := 86) rfl ?_
  refine x_callS_V [va_rf v0, .int v1, .int v4] [] (f_J25_reverseRange_ok hO p0 v0 v1 v4) md_J25_reverseRange q1715 q1716 dJ25_countRunAndMakeAscending_86 rfl rfl (by decide) (Nat.le_of_ble_eq_true rfl) (n := 89) rfl (fun p25 => ?_)
  refine x_goto dJ25_countRunAndMakeAscending_89 (n := 123) (by decide) ?_
  refine x_sub [1, 2] [(1, .int v1), (4, .int v4)] rfl ?_
  exact f_J25_countRunAndMakeAscending_123_ok hO v1 v4 p25
theorem f_J25_countRunAndMakeAscending_51F_ok {G : xG} (hO : xOK G)   {k51 : Option Nat × Int32 × Int32 × Option Nat × Int32 × PH → Option (xO × PH)} (hk51 : ∀ (v0 : Option Nat) (v1 : Int32) (v2 : Int32) (v3 : Option Nat) (v4 : Int32) (p0 : PH), X G "java/util/TimSort" "countRunAndMakeAscending" cJ25_countRunAndMakeAscending 5 (Option.some Jvm.ClassFile.FieldType.int) 5 51 [(0, va_rf v0), (1, .int v1), (2, .int v2), (3, va_rf v3), (4, .int v4)] [] p0 (k51 (v0, v1, v2, v3, v4, p0))) (v0 : Option Nat) (v1 : Int32) (v2 : Int32) (v3 : Option Nat) (v4 : Int32) (p0 : PH) : X G "java/util/TimSort" "countRunAndMakeAscending" cJ25_countRunAndMakeAscending 5 (Option.some Jvm.ClassFile.FieldType.int) 5 51 [(0, va_rf v0), (1, .int v1), (2, .int v2), (3, va_rf v3), (4, .int v4)] [] p0 (f_J25_countRunAndMakeAscending_51F k51 (v0, v1, v2, v3, v4, p0)) := by
  unfold f_J25_countRunAndMakeAscending_51F
  refine x_iload 4 dJ25_countRunAndMakeAscending_51 rfl (n := 53) rfl ?_
  refine x_iload_n 2 dJ25_countRunAndMakeAscending_53 rfl rfl (n := 54) rfl ?_
  refine x_icmp_ge dJ25_countRunAndMakeAscending_54 (t := 82) (by decide) (n := 57) rfl (fun _ => ?_) (fun _ => ?_)
  · refine x_sub [0, 1, 4] [(0, va_rf v0), (1, .int v1), (4, .int v4)] rfl ?_
    exact f_J25_countRunAndMakeAscending_82_ok hO v0 v1 v4 p0
  · refine x_aload_n 3 dJ25_countRunAndMakeAscending_57 rfl rfl (n := 58) rfl ?_
    refine x_aload_n 0 dJ25_countRunAndMakeAscending_58 rfl rfl (n := 59) rfl ?_
    refine x_iload 4 dJ25_countRunAndMakeAscending_59 rfl (n := 61) rfl ?_
    refine x_sm (fun b26 e => ?_)
    subst e
    refine x_aald (t := 4) rfl rfl dJ25_countRunAndMakeAscending_61 (n := 62) rfl (fun x27 => ?_)
    refine x_aload_nr 0 dJ25_countRunAndMakeAscending_62 rfl rfl (n := 63) rfl ?_
    refine x_iload 4 dJ25_countRunAndMakeAscending_63 rfl (n := 65) rfl ?_
    refine x_iconst 1 dJ25_countRunAndMakeAscending_65 rfl (n := 66) rfl ?_
    refine x_isub dJ25_countRunAndMakeAscending_66 (n := 67) rfl ?_
    refine x_aald (t := 4) rfl rfl dJ25_countRunAndMakeAscending_67 (n := 68) rfl (fun x28 => ?_)
    refine x_sm (fun b29 e => ?_)
    subst e
    refine x_sw (fun c31 e => ?_)
    refine x_ite (fun h => ?_) (fun _ => ?_)
    · subst h
      refine x_callF_I [va_rf x27, va_rf x28] [] (f_X10_compare_ok hO p0 b29 x27 x28) rc_X10_compare md_X10_compare rfl q1714 fc_ForestLegs_2_java_util_Comparator_compare_2_Ljaval dJ25_countRunAndMakeAscending_68 rfl rfl (by decide) (Nat.le_of_ble_eq_true rfl) (n := 73) rfl (fun x34 p33 => ?_)
      refine x_if_ge dJ25_countRunAndMakeAscending_73 (t := 82) (by decide) (n := 76) rfl (fun _ => ?_) (fun _ => ?_)
      · refine x_sub [0, 1, 4] [(0, .ref b26), (1, .int v1), (4, .int v4)] rfl ?_
        exact f_J25_countRunAndMakeAscending_82_ok hO ((some b26)) v1 v4 p33
      · refine x_iincB 4 (fun x35 => [(4, .int x35), (0, .ref b26), (1, .int v1), (2, .int v2), (3, .ref b29)]) dJ25_countRunAndMakeAscending_76 rfl rfl (by decide) (fun _ => rfl) (n := 79) rfl (fun x35 => ?_)
        refine x_goto dJ25_countRunAndMakeAscending_79 (n := 51) (by decide) ?_
        refine x_sub [1, 2, 3, 4, 0] [(0, .ref b26), (1, .int v1), (2, .int v2), (3, .ref b29), (4, .int x35)] rfl ?_
        exact hk51 ((some b26)) v1 v2 ((some b29)) x35 p33
    refine x_ite (fun h => ?_) (fun _ => ?_)
    · subst h
      refine x_callF_I [va_rf x27, va_rf x28] [] (f_X13_compare_ok hO p0 b29 x27 x28) rc_X13_compare md_X13_compare rfl q1714 fc_ForestLegs_1_java_util_Comparator_compare_2_Ljaval dJ25_countRunAndMakeAscending_68 rfl rfl (by decide) (Nat.le_of_ble_eq_true rfl) (n := 73) rfl (fun x37 p36 => ?_)
      refine x_if_ge dJ25_countRunAndMakeAscending_73 (t := 82) (by decide) (n := 76) rfl (fun _ => ?_) (fun _ => ?_)
      · refine x_sub [0, 1, 4] [(0, .ref b26), (1, .int v1), (4, .int v4)] rfl ?_
        exact f_J25_countRunAndMakeAscending_82_ok hO ((some b26)) v1 v4 p36
      · refine x_iincB 4 (fun x38 => [(4, .int x38), (0, .ref b26), (1, .int v1), (2, .int v2), (3, .ref b29)]) dJ25_countRunAndMakeAscending_76 rfl rfl (by decide) (fun _ => rfl) (n := 79) rfl (fun x38 => ?_)
        refine x_goto dJ25_countRunAndMakeAscending_79 (n := 51) (by decide) ?_
        refine x_sub [1, 2, 3, 4, 0] [(0, .ref b26), (1, .int v1), (2, .int v2), (3, .ref b29), (4, .int x38)] rfl ?_
        exact hk51 ((some b26)) v1 v2 ((some b29)) x38 p36
    exact x_no
theorem f_J25_countRunAndMakeAscending_51_lp {G : xG} (hO : xOK G)   (n : Nat) (v0 : Option Nat) (v1 : Int32) (v2 : Int32) (v3 : Option Nat) (v4 : Int32) (p0 : PH) : X G "java/util/TimSort" "countRunAndMakeAscending" cJ25_countRunAndMakeAscending 5 (Option.some Jvm.ClassFile.FieldType.int) 5 51 [(0, va_rf v0), (1, .int v1), (2, .int v2), (3, va_rf v3), (4, .int v4)] [] p0 (lp (f_J25_countRunAndMakeAscending_51F) n (v0, v1, v2, v3, v4, p0)) :=
  lp_ok (W := fun p K => X G "java/util/TimSort" "countRunAndMakeAscending" cJ25_countRunAndMakeAscending 5 (Option.some Jvm.ClassFile.FieldType.int) 5 51 [(0, va_rf p.1), (1, .int p.2.1), (2, .int p.2.2.1), (3, va_rf p.2.2.2.1), (4, .int p.2.2.2.2.1)] [] p.2.2.2.2.2 K) (fun _ => x_no) (fun k hk => fun (v0, v1, v2, v3, v4, p0) => f_J25_countRunAndMakeAscending_51F_ok hO (fun v0 v1 v2 v3 v4 p0 => hk (v0, v1, v2, v3, v4, p0)) v0 v1 v2 v3 v4 p0) n (v0, v1, v2, v3, v4, p0)
theorem f_J25_countRunAndMakeAscending_19_ok {G : xG} (hO : xOK G)   (v0 : Option Nat) (v1 : Int32) (v2 : Int32) (v3 : Option Nat) (p0 : PH) : X G "java/util/TimSort" "countRunAndMakeAscending" cJ25_countRunAndMakeAscending 5 (Option.some Jvm.ClassFile.FieldType.int) 5 19 [(0, va_rf v0), (1, .int v1), (2, .int v2), (3, va_rf v3)] [] p0 (f_J25_countRunAndMakeAscending_19 v0 v1 v2 v3 p0) := by
  unfold f_J25_countRunAndMakeAscending_19
  refine x_iload_n 1 dJ25_countRunAndMakeAscending_19 rfl rfl (n := 20) rfl ?_
  refine x_iconst 1 dJ25_countRunAndMakeAscending_20 rfl (n := 21) rfl ?_
  refine x_iadd dJ25_countRunAndMakeAscending_21 (n := 22) rfl ?_
  refine x_nm (fun x1 => ?_)
  refine x_istore [(4, .int x1), (0, va_rf v0), (1, .int v1), (2, .int v2), (3, va_rf v3)] dJ25_countRunAndMakeAscending_22 (by decide) (by simp only [xst, List.filter_cons, List.filter_nil, xcat] <;> rfl) (n := 24) rfl ?_
  refine x_iload 0 dJ25_countRunAndMakeAscending_24 rfl (n := 26) rfl ?_
  refine x_iload_n 3 dJ25_countRunAndMakeAscending_26 rfl rfl (n := 27) rfl ?_
  refine x_icmp_ne dJ25_countRunAndMakeAscending_27 (t := 32) (by decide) (n := 30) rfl (fun _ => ?_) (fun _ => ?_)
  · refine x_aload_n 4 dJ25_countRunAndMakeAscending_32 rfl rfl (n := 33) rfl ?_
    refine x_aload_n 1 dJ25_countRunAndMakeAscending_33 rfl rfl (n := 34) rfl ?_
    refine x_iload 0 dJ25_countRunAndMakeAscending_34 rfl (n := 36) rfl ?_
    refine x_iincB 0 (fun x2 => [(4, .int x2), (0, va_rf v0), (1, .int v1), (2, .int v2), (3, va_rf v3)]) dJ25_countRunAndMakeAscending_36 rfl rfl (by decide) (fun _ => (by simp only [xst, List.filter_cons, List.filter_nil, xcat] <;> rfl)) (n := 39) rfl (fun x2 => ?_)
    refine x_sm (fun b3 e => ?_)
    subst e
    refine x_aald (t := 4) rfl rfl dJ25_countRunAndMakeAscending_39 (n := 40) rfl (fun x4 => ?_)
    refine x_aload_nr 1 dJ25_countRunAndMakeAscending_40 rfl rfl (n := 41) rfl ?_
    refine x_iload_n 2 dJ25_countRunAndMakeAscending_41 rfl rfl (n := 42) rfl ?_
    refine x_aald (t := 4) rfl rfl dJ25_countRunAndMakeAscending_42 (n := 43) rfl (fun x5 => ?_)
    refine x_sm (fun b6 e => ?_)
    subst e
    refine x_sw (fun c8 e => ?_)
    refine x_ite (fun h => ?_) (fun _ => ?_)
    · subst h
      refine x_callF_I [va_rf x4, va_rf x5] [] (f_X10_compare_ok hO p0 b6 x4 x5) rc_X10_compare md_X10_compare rfl q1714 fc_ForestLegs_2_java_util_Comparator_compare_2_Ljaval dJ25_countRunAndMakeAscending_43 rfl rfl (by decide) (Nat.le_of_ble_eq_true rfl) (n := 48) rfl (fun x11 p10 => ?_)
      refine x_if_ge dJ25_countRunAndMakeAscending_48 (t := 92) (by decide) (n := 51) rfl (fun _ => ?_) (fun _ => ?_)
      · refine x_sub [1, 2, 3, 4, 0] [(0, .ref b3), (1, .int v1), (2, .int v2), (3, .ref b6), (4, .int x2)] rfl ?_
        exact f_J25_countRunAndMakeAscending_92_lp hO FU ((some b3)) v1 v2 ((some b6)) x2 p10
      · refine x_sub [1, 2, 3, 4, 0] [(0, .ref b3), (1, .int v1), (2, .int v2), (3, .ref b6), (4, .int x2)] rfl ?_
        exact f_J25_countRunAndMakeAscending_51_lp hO FU ((some b3)) v1 v2 ((some b6)) x2 p10
    refine x_ite (fun h => ?_) (fun _ => ?_)
    · subst h
      refine x_callF_I [va_rf x4, va_rf x5] [] (f_X13_compare_ok hO p0 b6 x4 x5) rc_X13_compare md_X13_compare rfl q1714 fc_ForestLegs_1_java_util_Comparator_compare_2_Ljaval dJ25_countRunAndMakeAscending_43 rfl rfl (by decide) (Nat.le_of_ble_eq_true rfl) (n := 48) rfl (fun x40 p39 => ?_)
      refine x_if_ge dJ25_countRunAndMakeAscending_48 (t := 92) (by decide) (n := 51) rfl (fun _ => ?_) (fun _ => ?_)
      · refine x_sub [1, 2, 3, 4, 0] [(0, .ref b3), (1, .int v1), (2, .int v2), (3, .ref b6), (4, .int x2)] rfl ?_
        exact f_J25_countRunAndMakeAscending_92_lp hO FU ((some b3)) v1 v2 ((some b6)) x2 p39
      · refine x_sub [1, 2, 3, 4, 0] [(0, .ref b3), (1, .int v1), (2, .int v2), (3, .ref b6), (4, .int x2)] rfl ?_
        exact f_J25_countRunAndMakeAscending_51_lp hO FU ((some b3)) v1 v2 ((some b6)) x2 p39
    exact x_no
  · refine x_iconst 1 dJ25_countRunAndMakeAscending_30 rfl (n := 31) rfl ?_
    exact x_ireturn dJ25_countRunAndMakeAscending_31
theorem f_J25_countRunAndMakeAscending_ok {G : xG} (hO : xOK G) (p0 : PH) (a0 : Option Nat) (a1 : Int32) (a2 : Int32) (a3 : Option Nat) : CT G 5 yJ25_countRunAndMakeAscending cJ25_countRunAndMakeAscending 5 (Option.some Jvm.ClassFile.FieldType.int) [va_rf a0, .int a1, .int a2, va_rf a3] p0 (f_J25_countRunAndMakeAscending p0 a0 a1 a2 a3) := by
  refine CT_of hO (by decide +kernel) (by decide +kernel) (lg_slen _ (by simp only [List.map, xcat]; exact Nat.le_of_ble_eq_true rfl)) ?_
  rw [show lv_args 0 [va_rf a0, .int a1, .int a2, va_rf a3] = [(0, va_rf a0), (1, .int a1), (2, .int a2), (3, va_rf a3)] from by simp only [lv_args, xcat] <;> rfl]
  show X G "java/util/TimSort" "countRunAndMakeAscending" cJ25_countRunAndMakeAscending 5 (Option.some Jvm.ClassFile.FieldType.int) 5 0 [(0, va_rf a0), (1, .int a1), (2, .int a2), (3, va_rf a3)] [] p0 (f_J25_countRunAndMakeAscending p0 a0 a1 a2 a3)
  refine x_getsI (j := 10) rfl (Or.inl q1708) dJ25_countRunAndMakeAscending_0 (n := 3) rfl ?_
  refine x_if_ne dJ25_countRunAndMakeAscending_3 (t := 19) (by decide) (n := 6) rfl (fun _ => ?_) (fun _ => ?_)
  · exact f_J25_countRunAndMakeAscending_19_ok hO a0 a1 a2 a3 p0
  · refine x_iload_n 1 dJ25_countRunAndMakeAscending_6 rfl rfl (n := 7) rfl ?_
    refine x_iload_n 2 dJ25_countRunAndMakeAscending_7 rfl rfl (n := 8) rfl ?_
    refine x_icmp_lt dJ25_countRunAndMakeAscending_8 (t := 19) (by decide) (n := 11) rfl (fun _ => ?_) (fun _ => ?_)
    · exact f_J25_countRunAndMakeAscending_19_ok hO a0 a1 a2 a3 p0
    · exact x_no
