set_option maxRecDepth 100000
set_option maxHeartbeats 4000000
abbrev cX11_of : ByteArray := prog_8_method_3_code
def yX11_of : MethodName := ⟨RX11, "of", "(I)I"⟩
def dkwX11_of_1 : List UInt8 := [180, 0, 13, 133, 105, 109, 136, 172]
abbrev dktX11_of_1 : List UInt8 := dkwX11_of_1 ++ []
def dkwX11_of_0 : List UInt8 := [20, 0, 22, 42, 180, 0, 7, 133, 105, 27, 133, 105, 42, 180, 0, 13, 133, 97, 10, 101, 20, 0, 22, 42]
abbrev dktX11_of_0 : List UInt8 := dkwX11_of_0 ++ dktX11_of_1
theorem dksX11_of_0 : cX11_of.data.toList.drop 0 = dktX11_of_0 := by decide +kernel
theorem dksX11_of_1 : cX11_of.data.toList.drop 24 = dktX11_of_1 := dk_seg dksX11_of_0 24 rfl rfl
theorem dX11_of_0 : decode cX11_of 0 = .ok (.ldc2_w 22, 3) := dk_20 0 22 (dk_at dksX11_of_0 0 rfl rfl)
theorem dX11_of_3 : decode cX11_of 3 = .ok (.aload_n 0, 1) := dk_42 (dk_at dksX11_of_0 3 rfl rfl)
theorem dX11_of_4 : decode cX11_of 4 = .ok (.getfield 7, 3) := dk_180 0 7 (dk_at dksX11_of_0 4 rfl rfl)
theorem dX11_of_7 : decode cX11_of 7 = .ok (.i2l, 1) := dk_133 (dk_at dksX11_of_0 7 rfl rfl)
theorem dX11_of_8 : decode cX11_of 8 = .ok (.lmul, 1) := dk_105 (dk_at dksX11_of_0 8 rfl rfl)
theorem dX11_of_9 : decode cX11_of 9 = .ok (.iload_n 1, 1) := dk_27 (dk_at dksX11_of_0 9 rfl rfl)
theorem dX11_of_10 : decode cX11_of 10 = .ok (.i2l, 1) := dk_133 (dk_at dksX11_of_0 10 rfl rfl)
theorem dX11_of_11 : decode cX11_of 11 = .ok (.lmul, 1) := dk_105 (dk_at dksX11_of_0 11 rfl rfl)
theorem dX11_of_12 : decode cX11_of 12 = .ok (.aload_n 0, 1) := dk_42 (dk_at dksX11_of_0 12 rfl rfl)
theorem dX11_of_13 : decode cX11_of 13 = .ok (.getfield 13, 3) := dk_180 0 13 (dk_at dksX11_of_0 13 rfl rfl)
theorem dX11_of_16 : decode cX11_of 16 = .ok (.i2l, 1) := dk_133 (dk_at dksX11_of_0 16 rfl rfl)
theorem dX11_of_17 : decode cX11_of 17 = .ok (.ladd, 1) := dk_97 (dk_at dksX11_of_0 17 rfl rfl)
theorem dX11_of_18 : decode cX11_of 18 = .ok (.lconst 1, 1) := dk_10 (dk_at dksX11_of_0 18 rfl rfl)
theorem dX11_of_19 : decode cX11_of 19 = .ok (.lsub, 1) := dk_101 (dk_at dksX11_of_0 19 rfl rfl)
theorem dX11_of_20 : decode cX11_of 20 = .ok (.ldc2_w 22, 3) := dk_20 0 22 (dk_at dksX11_of_0 20 rfl rfl)
theorem dX11_of_23 : decode cX11_of 23 = .ok (.aload_n 0, 1) := dk_42 (dk_at dksX11_of_0 23 rfl rfl)
theorem dX11_of_24 : decode cX11_of 24 = .ok (.getfield 13, 3) := dk_180 0 13 (dk_at dksX11_of_1 0 rfl rfl)
theorem dX11_of_27 : decode cX11_of 27 = .ok (.i2l, 1) := dk_133 (dk_at dksX11_of_1 3 rfl rfl)
theorem dX11_of_28 : decode cX11_of 28 = .ok (.lmul, 1) := dk_105 (dk_at dksX11_of_1 4 rfl rfl)
theorem dX11_of_29 : decode cX11_of 29 = .ok (.ldiv, 1) := dk_109 (dk_at dksX11_of_1 5 rfl rfl)
theorem dX11_of_30 : decode cX11_of 30 = .ok (.l2i, 1) := dk_136 (dk_at dksX11_of_1 6 rfl rfl)
theorem dX11_of_31 : decode cX11_of 31 = .ok (.ireturn, 1) := dk_172 (dk_at dksX11_of_1 7 rfl rfl)
theorem md_X11_of : xMd yX11_of cX11_of 2 (Option.some Jvm.ClassFile.FieldType.int) 1 := ⟨q2114, q171, by decide, by decide +kernel, by decide +kernel, by decide +kernel⟩
def f_X11_of (p0 : PH) (a0 : Nat) (a1 : Int32) : Option (xO × PH) :=
  (xcl1 p0 a0 10 (xgI p0 a0 10 0 fun x1 =>
  (xgI p0 a0 10 1 fun x2 =>
  (xgI p0 a0 10 1 fun x3 =>
  (if 2 * x3.toInt64 = 0 then none else
  (rI ((((((2 * x1.toInt64) * a1.toInt64) + x2.toInt64) - 1) / (2 * x3.toInt64)).toInt32) p0))))))
theorem rc_X11_of {p0 : PH} {a0 : Nat} {a1 : Int32} : ∀ z, f_X11_of p0 a0 a1 = some z → xco p0 a0 = some 10 := fun z h => xcl1_some h
theorem f_X11_of_ok {G : xG} (hO : xOK G) (p0 : PH) (a0 : Nat) (a1 : Int32) : CT G 0 yX11_of cX11_of 2 (Option.some Jvm.ClassFile.FieldType.int) [.ref a0, .int a1] p0 (f_X11_of p0 a0 a1) := by
  refine CT_of hO (by decide +kernel) (by decide +kernel) (Nat.le_of_ble_eq_true rfl) ?_
  show X G "ForestLegs$Part" "of" cX11_of 2 (Option.some Jvm.ClassFile.FieldType.int) 0 0 [(0, .ref a0), (1, .int a1)] [] p0 (f_X11_of p0 a0 a1)
  refine x_cl1 (fun e0 => ?_)
  refine x_ldc2 2 dX11_of_0 q2115 (n := 3) rfl ?_
  refine x_aload_nr 0 dX11_of_3 rfl rfl (n := 4) rfl ?_
  refine x_getI fl_X11_7 dX11_of_4 (n := 7) rfl (fun x1 => ?_)
  refine x_i2l dX11_of_7 (n := 8) rfl ?_
  refine x_lmul dX11_of_8 (n := 9) rfl ?_
  refine x_iload_n 1 dX11_of_9 rfl rfl (n := 10) rfl ?_
  refine x_i2l dX11_of_10 (n := 11) rfl ?_
  refine x_lmul dX11_of_11 (n := 12) rfl ?_
  refine x_aload_nr 0 dX11_of_12 rfl rfl (n := 13) rfl ?_
  refine x_getI fl_X11_13 dX11_of_13 (n := 16) rfl (fun x2 => ?_)
  refine x_i2l dX11_of_16 (n := 17) rfl ?_
  refine x_ladd dX11_of_17 (n := 18) rfl ?_
  refine x_lconst 1 dX11_of_18 rfl (n := 19) rfl ?_
  refine x_lsub dX11_of_19 (n := 20) rfl ?_
  refine x_ldc2 2 dX11_of_20 q2115 (n := 23) rfl ?_
  refine x_aload_nr 0 dX11_of_23 rfl rfl (n := 24) rfl ?_
  refine x_getI fl_X11_13 dX11_of_24 (n := 27) rfl (fun x3 => ?_)
  refine x_i2l dX11_of_27 (n := 28) rfl ?_
  refine x_lmul dX11_of_28 (n := 29) rfl ?_
  refine x_ldiv dX11_of_29 (n := 30) rfl (fun _ => ?_)
  refine x_l2i dX11_of_30 (n := 31) rfl ?_
  exact x_ireturn dX11_of_31
abbrev cX4_mistake : ByteArray := prog_7_method_15_code
def yX4_mistake : MethodName := ⟨RX4, "mistake", "(IILForestLegs$Part;)I"⟩
def dkwX4_mistake_3 : List UInt8 := [180, 0, 27, 161, 0, 8, 21, 5, 167, 0, 4, 3, 172]
abbrev dktX4_mistake_3 : List UInt8 := dkwX4_mistake_3 ++ []
def dkwX4_mistake_2 : List UInt8 := [182, 0, 78, 28, 182, 0, 97, 45, 21, 4, 182, 0, 131, 100, 54, 5, 21, 5, 158, 0, 17, 21, 5, 42]
abbrev dktX4_mistake_2 : List UInt8 := dkwX4_mistake_2 ++ dktX4_mistake_3
def dkwX4_mistake_1 : List UInt8 := [27, 182, 0, 78, 28, 182, 0, 97, 16, 254, 159, 0, 8, 21, 4, 157, 0, 6, 16, 254, 172, 42, 27]
abbrev dktX4_mistake_1 : List UInt8 := dkwX4_mistake_1 ++ dktX4_mistake_2
def dkwX4_mistake_0 : List UInt8 := [42, 42, 180, 0, 20, 27, 185, 0, 68, 2, 0, 192, 0, 57, 180, 0, 72, 28, 182, 0, 112, 54, 4, 42]
abbrev dktX4_mistake_0 : List UInt8 := dkwX4_mistake_0 ++ dktX4_mistake_1
theorem dksX4_mistake_0 : cX4_mistake.data.toList.drop 0 = dktX4_mistake_0 := by decide +kernel
theorem dksX4_mistake_1 : cX4_mistake.data.toList.drop 24 = dktX4_mistake_1 := dk_seg dksX4_mistake_0 24 rfl rfl
theorem dksX4_mistake_2 : cX4_mistake.data.toList.drop 47 = dktX4_mistake_2 := dk_seg dksX4_mistake_1 23 rfl rfl
theorem dksX4_mistake_3 : cX4_mistake.data.toList.drop 71 = dktX4_mistake_3 := dk_seg dksX4_mistake_2 24 rfl rfl
theorem dX4_mistake_0 : decode cX4_mistake 0 = .ok (.aload_n 0, 1) := dk_42 (dk_at dksX4_mistake_0 0 rfl rfl)
theorem dX4_mistake_1 : decode cX4_mistake 1 = .ok (.aload_n 0, 1) := dk_42 (dk_at dksX4_mistake_0 1 rfl rfl)
theorem dX4_mistake_2 : decode cX4_mistake 2 = .ok (.getfield 20, 3) := dk_180 0 20 (dk_at dksX4_mistake_0 2 rfl rfl)
theorem dX4_mistake_5 : decode cX4_mistake 5 = .ok (.iload_n 1, 1) := dk_27 (dk_at dksX4_mistake_0 5 rfl rfl)
theorem dX4_mistake_6 : decode cX4_mistake 6 = .ok (.invokeinterface 68 2, 5) := by decide +kernel
theorem dX4_mistake_11 : decode cX4_mistake 11 = .ok (.checkcast 57, 3) := dk_192 0 57 (dk_at dksX4_mistake_0 11 rfl rfl)
theorem dX4_mistake_14 : decode cX4_mistake 14 = .ok (.getfield 72, 3) := dk_180 0 72 (dk_at dksX4_mistake_0 14 rfl rfl)
theorem dX4_mistake_17 : decode cX4_mistake 17 = .ok (.iload_n 2, 1) := dk_28 (dk_at dksX4_mistake_0 17 rfl rfl)
theorem dX4_mistake_18 : decode cX4_mistake 18 = .ok (.invokevirtual 112, 3) := dk_182 0 112 (dk_at dksX4_mistake_0 18 rfl rfl)
theorem dX4_mistake_21 : decode cX4_mistake 21 = .ok (.istore 4, 2) := dk_54 4 (dk_at dksX4_mistake_0 21 rfl rfl)
theorem dX4_mistake_23 : decode cX4_mistake 23 = .ok (.aload_n 0, 1) := dk_42 (dk_at dksX4_mistake_0 23 rfl rfl)
theorem dX4_mistake_24 : decode cX4_mistake 24 = .ok (.iload_n 1, 1) := dk_27 (dk_at dksX4_mistake_1 0 rfl rfl)
theorem dX4_mistake_25 : decode cX4_mistake 25 = .ok (.invokevirtual 78, 3) := dk_182 0 78 (dk_at dksX4_mistake_1 1 rfl rfl)
theorem dX4_mistake_28 : decode cX4_mistake 28 = .ok (.iload_n 2, 1) := dk_28 (dk_at dksX4_mistake_1 4 rfl rfl)
theorem dX4_mistake_29 : decode cX4_mistake 29 = .ok (.invokevirtual 97, 3) := dk_182 0 97 (dk_at dksX4_mistake_1 5 rfl rfl)
theorem dX4_mistake_32 : decode cX4_mistake 32 = .ok (.bipush (-2), 2) := dk_16 254 (dk_at dksX4_mistake_1 8 rfl rfl)
theorem dX4_mistake_34 : decode cX4_mistake 34 = .ok (.if_icmp .eq 8, 3) := dk_159 0 8 (dk_at dksX4_mistake_1 10 rfl rfl)
theorem dX4_mistake_37 : decode cX4_mistake 37 = .ok (.iload 4, 2) := dk_21 4 (dk_at dksX4_mistake_1 13 rfl rfl)
theorem dX4_mistake_39 : decode cX4_mistake 39 = .ok (.ifCond .gt 6, 3) := dk_157 0 6 (dk_at dksX4_mistake_1 15 rfl rfl)
theorem dX4_mistake_42 : decode cX4_mistake 42 = .ok (.bipush (-2), 2) := dk_16 254 (dk_at dksX4_mistake_1 18 rfl rfl)
theorem dX4_mistake_44 : decode cX4_mistake 44 = .ok (.ireturn, 1) := dk_172 (dk_at dksX4_mistake_1 20 rfl rfl)
theorem dX4_mistake_45 : decode cX4_mistake 45 = .ok (.aload_n 0, 1) := dk_42 (dk_at dksX4_mistake_1 21 rfl rfl)
theorem dX4_mistake_46 : decode cX4_mistake 46 = .ok (.iload_n 1, 1) := dk_27 (dk_at dksX4_mistake_1 22 rfl rfl)
theorem dX4_mistake_47 : decode cX4_mistake 47 = .ok (.invokevirtual 78, 3) := dk_182 0 78 (dk_at dksX4_mistake_2 0 rfl rfl)
theorem dX4_mistake_50 : decode cX4_mistake 50 = .ok (.iload_n 2, 1) := dk_28 (dk_at dksX4_mistake_2 3 rfl rfl)
theorem dX4_mistake_51 : decode cX4_mistake 51 = .ok (.invokevirtual 97, 3) := dk_182 0 97 (dk_at dksX4_mistake_2 4 rfl rfl)
theorem dX4_mistake_54 : decode cX4_mistake 54 = .ok (.aload_n 3, 1) := dk_45 (dk_at dksX4_mistake_2 7 rfl rfl)
theorem dX4_mistake_55 : decode cX4_mistake 55 = .ok (.iload 4, 2) := dk_21 4 (dk_at dksX4_mistake_2 8 rfl rfl)
theorem dX4_mistake_57 : decode cX4_mistake 57 = .ok (.invokevirtual 131, 3) := dk_182 0 131 (dk_at dksX4_mistake_2 10 rfl rfl)
theorem dX4_mistake_60 : decode cX4_mistake 60 = .ok (.isub, 1) := dk_100 (dk_at dksX4_mistake_2 13 rfl rfl)
theorem dX4_mistake_61 : decode cX4_mistake 61 = .ok (.istore 5, 2) := dk_54 5 (dk_at dksX4_mistake_2 14 rfl rfl)
theorem dX4_mistake_63 : decode cX4_mistake 63 = .ok (.iload 5, 2) := dk_21 5 (dk_at dksX4_mistake_2 16 rfl rfl)
theorem dX4_mistake_65 : decode cX4_mistake 65 = .ok (.ifCond .le 17, 3) := dk_158 0 17 (dk_at dksX4_mistake_2 18 rfl rfl)
theorem dX4_mistake_68 : decode cX4_mistake 68 = .ok (.iload 5, 2) := dk_21 5 (dk_at dksX4_mistake_2 21 rfl rfl)
theorem dX4_mistake_70 : decode cX4_mistake 70 = .ok (.aload_n 0, 1) := dk_42 (dk_at dksX4_mistake_2 23 rfl rfl)
theorem dX4_mistake_71 : decode cX4_mistake 71 = .ok (.getfield 27, 3) := dk_180 0 27 (dk_at dksX4_mistake_3 0 rfl rfl)
theorem dX4_mistake_74 : decode cX4_mistake 74 = .ok (.if_icmp .lt 8, 3) := dk_161 0 8 (dk_at dksX4_mistake_3 3 rfl rfl)
theorem dX4_mistake_77 : decode cX4_mistake 77 = .ok (.iload 5, 2) := dk_21 5 (dk_at dksX4_mistake_3 6 rfl rfl)
theorem dX4_mistake_79 : decode cX4_mistake 79 = .ok (.goto 4, 3) := dk_167 0 4 (dk_at dksX4_mistake_3 8 rfl rfl)
theorem dX4_mistake_82 : decode cX4_mistake 82 = .ok (.iconst 0, 1) := dk_3 (dk_at dksX4_mistake_3 11 rfl rfl)
theorem dX4_mistake_83 : decode cX4_mistake 83 = .ok (.ireturn, 1) := dk_172 (dk_at dksX4_mistake_3 12 rfl rfl)
theorem md_X4_mistake : xMd yX4_mistake cX4_mistake 6 (Option.some Jvm.ClassFile.FieldType.int) 3 := ⟨q2110, q128, by decide, by decide +kernel, by decide +kernel, by decide +kernel⟩
def f_X4_mistake (p0 : PH) (a0 : Nat) (a1 : Int32) (a2 : Int32) (a3 : Option Nat) : Option (xO × PH) :=
  (xcl1 p0 a0 3 (xgR p0 a0 3 1 fun x1 =>
  (xnul x1 none fun b2 =>
  (xcR (f_J3_get p0 b2 a1) fun x4 p3 =>
  (xcst p3 (x4) [6]
  (xnul x4 none fun b5 =>
  (xgI p3 b5 6 1 fun x6 =>
  (xcI (f_X4_best p3 a0 x6 a2) fun x8 p7 =>
  (xcR (f_X4_match p7 a0 a1) fun x10 p9 =>
  (xnul x10 none fun b11 =>
  (xcI (f_X9_leg p9 b11 a2) fun x13 p12 =>
  (if x13 = (-2) then
  (rI (-2) p12) else
  (if 0 < x8 then
  (xcR (f_X4_match p12 a0 a1) fun x15 p14 =>
  (xnul x15 none fun b16 =>
  (xcI (f_X9_leg p14 b16 a2) fun x18 p17 =>
  (xnul a3 none fun b19 =>
  (xcI (f_X11_of p17 b19 x8) fun x21 p20 =>
  (bnd (x18 - x21) fun x22 =>
  (if x22 ≤ 0 then
  (rI 0 p20) else
  (xgI p20 a0 3 3 fun x23 =>
  (if x22 < x23 then
  (rI 0 p20) else
  (rI x22 p20)))))))))) else
  (rI (-2) p12))))))))))))))
theorem rc_X4_mistake {p0 : PH} {a0 : Nat} {a1 : Int32} {a2 : Int32} {a3 : Option Nat} : ∀ z, f_X4_mistake p0 a0 a1 a2 a3 = some z → xco p0 a0 = some 3 := fun z h => xcl1_some h
theorem f_X4_mistake_ok {G : xG} (hO : xOK G) (p0 : PH) (a0 : Nat) (a1 : Int32) (a2 : Int32) (a3 : Option Nat) : CT G 12 yX4_mistake cX4_mistake 6 (Option.some Jvm.ClassFile.FieldType.int) [.ref a0, .int a1, .int a2, va_rf a3] p0 (f_X4_mistake p0 a0 a1 a2 a3) := by
  refine CT_of hO (by decide +kernel) (by decide +kernel) (lg_slen _ (by simp only [List.map, xcat]; exact Nat.le_of_ble_eq_true rfl)) ?_
  rw [show lv_args 0 [.ref a0, .int a1, .int a2, va_rf a3] = [(0, .ref a0), (1, .int a1), (2, .int a2), (3, va_rf a3)] from by simp only [lv_args, xcat] <;> rfl]
  show X G "ForestLegs$Meet" "mistake" cX4_mistake 6 (Option.some Jvm.ClassFile.FieldType.int) 12 0 [(0, .ref a0), (1, .int a1), (2, .int a2), (3, va_rf a3)] [] p0 (f_X4_mistake p0 a0 a1 a2 a3)
  refine x_cl1 (fun e0 => ?_)
  refine x_aload_nr 0 dX4_mistake_0 rfl rfl (n := 1) rfl ?_
  refine x_aload_nr 0 dX4_mistake_1 rfl rfl (n := 2) rfl ?_
  refine x_getR fl_X4_20 dX4_mistake_2 (n := 5) rfl (fun x1 => ?_)
  refine x_iload_n 1 dX4_mistake_5 rfl rfl (n := 6) rfl ?_
  refine x_sm (fun b2 e => ?_)
  subst e
  refine x_callF_R [.int a1] [.ref a0] (f_J3_get_ok hO p0 b2 a1) rc_J3_get md_J3_get rfl q1511 fc_java_util_ArrayList_java_util_List_get_1_ILjava dX4_mistake_6 rfl rfl (by decide) (Nat.le_of_ble_eq_true rfl) (n := 11) rfl (fun x4 p3 => ?_)
  refine x_cast (x := x4) (cs := [6]) q1512 cst_ForestLegs_Runner dX4_mistake_11 (n := 14) rfl ?_
  refine x_sm (fun b5 e => ?_)
  subst e
  refine x_getI fl_X4_72 dX4_mistake_14 (n := 17) rfl (fun x6 => ?_)
  refine x_iload_n 2 dX4_mistake_17 rfl rfl (n := 18) rfl ?_
  refine x_callV_I [.int x6, .int a2] [] (f_X4_best_ok hO p3 a0 x6 a2) rc_X4_best md_X4_best rfl q1727 q1728 q1729 dX4_mistake_18 rfl rfl (by decide) (Nat.le_of_ble_eq_true rfl) (n := 21) rfl (fun x8 p7 => ?_)
  refine x_istore [(4, .int x8), (0, .ref a0), (1, .int a1), (2, .int a2), (3, va_rf a3)] dX4_mistake_21 (by decide) (by simp only [xst, List.filter_cons, List.filter_nil, xcat] <;> rfl) (n := 23) rfl ?_
  refine x_aload_nr 1 dX4_mistake_23 rfl rfl (n := 24) rfl ?_
  refine x_iload_n 2 dX4_mistake_24 rfl rfl (n := 25) rfl ?_
  refine x_callV_R [.int a1] [] (f_X4_match_ok hO p7 a0 a1) rc_X4_match md_X4_match rfl q1503 q1504 q1505 dX4_mistake_25 rfl rfl (by decide) (Nat.le_of_ble_eq_true rfl) (n := 28) rfl (fun x10 p9 => ?_)
  refine x_iload_n 3 dX4_mistake_28 rfl rfl (n := 29) rfl ?_
  refine x_sm (fun b11 e => ?_)
  subst e
  refine x_callV_I [.int a2] [] (f_X9_leg_ok hO p9 b11 a2) rc_X9_leg md_X9_leg rfl q1746 q1747 q1748 dX4_mistake_29 rfl rfl (by decide) (Nat.le_of_ble_eq_true rfl) (n := 32) rfl (fun x13 p12 => ?_)
  refine x_bipush (-2) dX4_mistake_32 rfl (n := 34) rfl ?_
  refine x_icmp_eq dX4_mistake_34 (t := 42) (by decide) (n := 37) rfl (fun _ => ?_) (fun _ => ?_)
  · refine x_bipush (-2) dX4_mistake_42 rfl (n := 44) rfl ?_
    exact x_ireturn dX4_mistake_44
  · refine x_iload 0 dX4_mistake_37 rfl (n := 39) rfl ?_
    refine x_if_gt dX4_mistake_39 (t := 45) (by decide) (n := 42) rfl (fun _ => ?_) (fun _ => ?_)
    · refine x_aload_nr 1 dX4_mistake_45 rfl rfl (n := 46) rfl ?_
      refine x_iload_n 2 dX4_mistake_46 rfl rfl (n := 47) rfl ?_
      refine x_callV_R [.int a1] [] (f_X4_match_ok hO p12 a0 a1) rc_X4_match md_X4_match rfl q1503 q1504 q1505 dX4_mistake_47 rfl rfl (by decide) (Nat.le_of_ble_eq_true rfl) (n := 50) rfl (fun x15 p14 => ?_)
      refine x_iload_n 3 dX4_mistake_50 rfl rfl (n := 51) rfl ?_
      refine x_sm (fun b16 e => ?_)
      subst e
      refine x_callV_I [.int a2] [] (f_X9_leg_ok hO p14 b16 a2) rc_X9_leg md_X9_leg rfl q1746 q1747 q1748 dX4_mistake_51 rfl rfl (by decide) (Nat.le_of_ble_eq_true rfl) (n := 54) rfl (fun x18 p17 => ?_)
      refine x_aload_n 4 dX4_mistake_54 rfl rfl (n := 55) rfl ?_
      refine x_iload 0 dX4_mistake_55 rfl (n := 57) rfl ?_
      refine x_sm (fun b19 e => ?_)
      subst e
      refine x_callV_I [.int x8] [.int x18] (f_X11_of_ok hO p17 b19 x8) rc_X11_of md_X11_of rfl q2111 q2112 q2113 dX4_mistake_57 rfl rfl (by decide) (Nat.le_of_ble_eq_true rfl) (n := 60) rfl (fun x21 p20 => ?_)
      refine x_isub dX4_mistake_60 (n := 61) rfl ?_
      refine x_nm (fun x22 => ?_)
      refine x_istore [(5, .int x22), (4, .int x8), (0, .ref a0), (1, .int a1), (2, .int a2), (3, .ref b19)] dX4_mistake_61 (by decide) rfl (n := 63) rfl ?_
      refine x_iload 0 dX4_mistake_63 rfl (n := 65) rfl ?_
      refine x_if_le dX4_mistake_65 (t := 82) (by decide) (n := 68) rfl (fun _ => ?_) (fun _ => ?_)
      · refine x_iconst 0 dX4_mistake_82 rfl (n := 83) rfl ?_
        exact x_ireturn dX4_mistake_83
      · refine x_iload 0 dX4_mistake_68 rfl (n := 70) rfl ?_
        refine x_aload_nr 2 dX4_mistake_70 rfl rfl (n := 71) rfl ?_
        refine x_getI fl_X4_27 dX4_mistake_71 (n := 74) rfl (fun x23 => ?_)
        refine x_icmp_lt dX4_mistake_74 (t := 82) (by decide) (n := 77) rfl (fun _ => ?_) (fun _ => ?_)
        · refine x_iconst 0 dX4_mistake_82 rfl (n := 83) rfl ?_
          exact x_ireturn dX4_mistake_83
        · refine x_iload 0 dX4_mistake_77 rfl (n := 79) rfl ?_
          refine x_goto dX4_mistake_79 (n := 83) (by decide) ?_
          exact x_ireturn dX4_mistake_83
    · refine x_bipush (-2) dX4_mistake_42 rfl (n := 44) rfl ?_
      exact x_ireturn dX4_mistake_44
abbrev cX1_leg : ByteArray := prog_1_method_29_code
def yX1_leg : MethodName := ⟨RX1, "leg", "(III)I"⟩
def dkwX1_leg_4 : List UInt8 := [167, 0, 20, 42, 180, 0, 56, 27, 28, 42, 180, 0, 56, 27, 182, 0, 248, 182, 0, 252, 182, 0, 83, 172]
abbrev dktX1_leg_4 : List UInt8 := dkwX1_leg_4 ++ []
def dkwX1_leg_3 : List UInt8 := [28, 4, 182, 0, 239, 167, 0, 37, 29, 5, 160, 0, 15, 42, 180, 0, 56, 27, 28, 182, 0, 245]
abbrev dktX1_leg_3 : List UInt8 := dkwX1_leg_3 ++ dktX1_leg_4
def dkwX1_leg_2 : List UInt8 := [182, 0, 83, 172, 42, 29, 154, 0, 8, 21, 4, 167, 0, 55, 29, 4, 160, 0, 16, 42, 180, 0, 56, 27]
abbrev dktX1_leg_2 : List UInt8 := dkwX1_leg_2 ++ dktX1_leg_3
def dkwX1_leg_1 : List UInt8 := [42, 180, 0, 56, 27, 182, 0, 189, 28, 182, 0, 242, 54, 4, 21, 4, 16, 254, 160, 0, 10, 42, 16, 254]
abbrev dktX1_leg_1 : List UInt8 := dkwX1_leg_1 ++ dktX1_leg_2
def dkwX1_leg_0 : List UInt8 := [42, 27, 28, 182, 0, 230, 153, 0, 12, 29, 3, 6, 184, 0, 36, 154, 0, 9, 42, 4, 182, 0, 40, 172]
abbrev dktX1_leg_0 : List UInt8 := dkwX1_leg_0 ++ dktX1_leg_1
theorem dksX1_leg_0 : cX1_leg.data.toList.drop 0 = dktX1_leg_0 := by decide +kernel
theorem dksX1_leg_1 : cX1_leg.data.toList.drop 24 = dktX1_leg_1 := dk_seg dksX1_leg_0 24 rfl rfl
theorem dksX1_leg_2 : cX1_leg.data.toList.drop 48 = dktX1_leg_2 := dk_seg dksX1_leg_1 24 rfl rfl
theorem dksX1_leg_3 : cX1_leg.data.toList.drop 72 = dktX1_leg_3 := dk_seg dksX1_leg_2 24 rfl rfl
theorem dksX1_leg_4 : cX1_leg.data.toList.drop 94 = dktX1_leg_4 := dk_seg dksX1_leg_3 22 rfl rfl
theorem dX1_leg_0 : decode cX1_leg 0 = .ok (.aload_n 0, 1) := dk_42 (dk_at dksX1_leg_0 0 rfl rfl)
theorem dX1_leg_1 : decode cX1_leg 1 = .ok (.iload_n 1, 1) := dk_27 (dk_at dksX1_leg_0 1 rfl rfl)
theorem dX1_leg_2 : decode cX1_leg 2 = .ok (.iload_n 2, 1) := dk_28 (dk_at dksX1_leg_0 2 rfl rfl)
theorem dX1_leg_3 : decode cX1_leg 3 = .ok (.invokevirtual 230, 3) := dk_182 0 230 (dk_at dksX1_leg_0 3 rfl rfl)
theorem dX1_leg_6 : decode cX1_leg 6 = .ok (.ifCond .eq 12, 3) := dk_153 0 12 (dk_at dksX1_leg_0 6 rfl rfl)
theorem dX1_leg_9 : decode cX1_leg 9 = .ok (.iload_n 3, 1) := dk_29 (dk_at dksX1_leg_0 9 rfl rfl)
theorem dX1_leg_10 : decode cX1_leg 10 = .ok (.iconst 0, 1) := dk_3 (dk_at dksX1_leg_0 10 rfl rfl)
theorem dX1_leg_11 : decode cX1_leg 11 = .ok (.iconst 3, 1) := dk_6 (dk_at dksX1_leg_0 11 rfl rfl)
theorem dX1_leg_12 : decode cX1_leg 12 = .ok (.invokestatic 36, 3) := dk_184 0 36 (dk_at dksX1_leg_0 12 rfl rfl)
theorem dX1_leg_15 : decode cX1_leg 15 = .ok (.ifCond .ne 9, 3) := dk_154 0 9 (dk_at dksX1_leg_0 15 rfl rfl)
theorem dX1_leg_18 : decode cX1_leg 18 = .ok (.aload_n 0, 1) := dk_42 (dk_at dksX1_leg_0 18 rfl rfl)
theorem dX1_leg_19 : decode cX1_leg 19 = .ok (.iconst 1, 1) := dk_4 (dk_at dksX1_leg_0 19 rfl rfl)
theorem dX1_leg_20 : decode cX1_leg 20 = .ok (.invokevirtual 40, 3) := dk_182 0 40 (dk_at dksX1_leg_0 20 rfl rfl)
theorem dX1_leg_23 : decode cX1_leg 23 = .ok (.ireturn, 1) := dk_172 (dk_at dksX1_leg_0 23 rfl rfl)
theorem dX1_leg_24 : decode cX1_leg 24 = .ok (.aload_n 0, 1) := dk_42 (dk_at dksX1_leg_1 0 rfl rfl)
theorem dX1_leg_25 : decode cX1_leg 25 = .ok (.getfield 56, 3) := dk_180 0 56 (dk_at dksX1_leg_1 1 rfl rfl)
theorem dX1_leg_28 : decode cX1_leg 28 = .ok (.iload_n 1, 1) := dk_27 (dk_at dksX1_leg_1 4 rfl rfl)
theorem dX1_leg_29 : decode cX1_leg 29 = .ok (.invokevirtual 189, 3) := dk_182 0 189 (dk_at dksX1_leg_1 5 rfl rfl)
theorem dX1_leg_32 : decode cX1_leg 32 = .ok (.iload_n 2, 1) := dk_28 (dk_at dksX1_leg_1 8 rfl rfl)
theorem dX1_leg_33 : decode cX1_leg 33 = .ok (.invokevirtual 242, 3) := dk_182 0 242 (dk_at dksX1_leg_1 9 rfl rfl)
theorem dX1_leg_36 : decode cX1_leg 36 = .ok (.istore 4, 2) := dk_54 4 (dk_at dksX1_leg_1 12 rfl rfl)
theorem dX1_leg_38 : decode cX1_leg 38 = .ok (.iload 4, 2) := dk_21 4 (dk_at dksX1_leg_1 14 rfl rfl)
theorem dX1_leg_40 : decode cX1_leg 40 = .ok (.bipush (-2), 2) := dk_16 254 (dk_at dksX1_leg_1 16 rfl rfl)
theorem dX1_leg_42 : decode cX1_leg 42 = .ok (.if_icmp .ne 10, 3) := dk_160 0 10 (dk_at dksX1_leg_1 18 rfl rfl)
theorem dX1_leg_45 : decode cX1_leg 45 = .ok (.aload_n 0, 1) := dk_42 (dk_at dksX1_leg_1 21 rfl rfl)
theorem dX1_leg_46 : decode cX1_leg 46 = .ok (.bipush (-2), 2) := dk_16 254 (dk_at dksX1_leg_1 22 rfl rfl)
theorem dX1_leg_48 : decode cX1_leg 48 = .ok (.invokevirtual 83, 3) := dk_182 0 83 (dk_at dksX1_leg_2 0 rfl rfl)
theorem dX1_leg_51 : decode cX1_leg 51 = .ok (.ireturn, 1) := dk_172 (dk_at dksX1_leg_2 3 rfl rfl)
theorem dX1_leg_52 : decode cX1_leg 52 = .ok (.aload_n 0, 1) := dk_42 (dk_at dksX1_leg_2 4 rfl rfl)
theorem dX1_leg_53 : decode cX1_leg 53 = .ok (.iload_n 3, 1) := dk_29 (dk_at dksX1_leg_2 5 rfl rfl)
theorem dX1_leg_54 : decode cX1_leg 54 = .ok (.ifCond .ne 8, 3) := dk_154 0 8 (dk_at dksX1_leg_2 6 rfl rfl)
theorem dX1_leg_57 : decode cX1_leg 57 = .ok (.iload 4, 2) := dk_21 4 (dk_at dksX1_leg_2 9 rfl rfl)
theorem dX1_leg_59 : decode cX1_leg 59 = .ok (.goto 55, 3) := dk_167 0 55 (dk_at dksX1_leg_2 11 rfl rfl)
theorem dX1_leg_62 : decode cX1_leg 62 = .ok (.iload_n 3, 1) := dk_29 (dk_at dksX1_leg_2 14 rfl rfl)
theorem dX1_leg_63 : decode cX1_leg 63 = .ok (.iconst 1, 1) := dk_4 (dk_at dksX1_leg_2 15 rfl rfl)
theorem dX1_leg_64 : decode cX1_leg 64 = .ok (.if_icmp .ne 16, 3) := dk_160 0 16 (dk_at dksX1_leg_2 16 rfl rfl)
theorem dX1_leg_67 : decode cX1_leg 67 = .ok (.aload_n 0, 1) := dk_42 (dk_at dksX1_leg_2 19 rfl rfl)
theorem dX1_leg_68 : decode cX1_leg 68 = .ok (.getfield 56, 3) := dk_180 0 56 (dk_at dksX1_leg_2 20 rfl rfl)
theorem dX1_leg_71 : decode cX1_leg 71 = .ok (.iload_n 1, 1) := dk_27 (dk_at dksX1_leg_2 23 rfl rfl)
theorem dX1_leg_72 : decode cX1_leg 72 = .ok (.iload_n 2, 1) := dk_28 (dk_at dksX1_leg_3 0 rfl rfl)
theorem dX1_leg_73 : decode cX1_leg 73 = .ok (.iconst 1, 1) := dk_4 (dk_at dksX1_leg_3 1 rfl rfl)
theorem dX1_leg_74 : decode cX1_leg 74 = .ok (.invokevirtual 239, 3) := dk_182 0 239 (dk_at dksX1_leg_3 2 rfl rfl)
theorem dX1_leg_77 : decode cX1_leg 77 = .ok (.goto 37, 3) := dk_167 0 37 (dk_at dksX1_leg_3 5 rfl rfl)
theorem dX1_leg_80 : decode cX1_leg 80 = .ok (.iload_n 3, 1) := dk_29 (dk_at dksX1_leg_3 8 rfl rfl)
theorem dX1_leg_81 : decode cX1_leg 81 = .ok (.iconst 2, 1) := dk_5 (dk_at dksX1_leg_3 9 rfl rfl)
theorem dX1_leg_82 : decode cX1_leg 82 = .ok (.if_icmp .ne 15, 3) := dk_160 0 15 (dk_at dksX1_leg_3 10 rfl rfl)
theorem dX1_leg_85 : decode cX1_leg 85 = .ok (.aload_n 0, 1) := dk_42 (dk_at dksX1_leg_3 13 rfl rfl)
theorem dX1_leg_86 : decode cX1_leg 86 = .ok (.getfield 56, 3) := dk_180 0 56 (dk_at dksX1_leg_3 14 rfl rfl)
theorem dX1_leg_89 : decode cX1_leg 89 = .ok (.iload_n 1, 1) := dk_27 (dk_at dksX1_leg_3 17 rfl rfl)
theorem dX1_leg_90 : decode cX1_leg 90 = .ok (.iload_n 2, 1) := dk_28 (dk_at dksX1_leg_3 18 rfl rfl)
theorem dX1_leg_91 : decode cX1_leg 91 = .ok (.invokevirtual 245, 3) := dk_182 0 245 (dk_at dksX1_leg_3 19 rfl rfl)
theorem dX1_leg_94 : decode cX1_leg 94 = .ok (.goto 20, 3) := dk_167 0 20 (dk_at dksX1_leg_4 0 rfl rfl)
theorem dX1_leg_97 : decode cX1_leg 97 = .ok (.aload_n 0, 1) := dk_42 (dk_at dksX1_leg_4 3 rfl rfl)
theorem dX1_leg_98 : decode cX1_leg 98 = .ok (.getfield 56, 3) := dk_180 0 56 (dk_at dksX1_leg_4 4 rfl rfl)
theorem dX1_leg_101 : decode cX1_leg 101 = .ok (.iload_n 1, 1) := dk_27 (dk_at dksX1_leg_4 7 rfl rfl)
theorem dX1_leg_102 : decode cX1_leg 102 = .ok (.iload_n 2, 1) := dk_28 (dk_at dksX1_leg_4 8 rfl rfl)
theorem dX1_leg_103 : decode cX1_leg 103 = .ok (.aload_n 0, 1) := dk_42 (dk_at dksX1_leg_4 9 rfl rfl)
theorem dX1_leg_104 : decode cX1_leg 104 = .ok (.getfield 56, 3) := dk_180 0 56 (dk_at dksX1_leg_4 10 rfl rfl)
theorem dX1_leg_107 : decode cX1_leg 107 = .ok (.iload_n 1, 1) := dk_27 (dk_at dksX1_leg_4 13 rfl rfl)
theorem dX1_leg_108 : decode cX1_leg 108 = .ok (.invokevirtual 248, 3) := dk_182 0 248 (dk_at dksX1_leg_4 14 rfl rfl)
theorem dX1_leg_111 : decode cX1_leg 111 = .ok (.invokevirtual 252, 3) := dk_182 0 252 (dk_at dksX1_leg_4 17 rfl rfl)
theorem dX1_leg_114 : decode cX1_leg 114 = .ok (.invokevirtual 83, 3) := dk_182 0 83 (dk_at dksX1_leg_4 20 rfl rfl)
theorem dX1_leg_117 : decode cX1_leg 117 = .ok (.ireturn, 1) := dk_172 (dk_at dksX1_leg_4 23 rfl rfl)
theorem md_X1_leg : xMd yX1_leg cX1_leg 5 (Option.some Jvm.ClassFile.FieldType.int) 3 := ⟨q2000, q123, by decide, by decide +kernel, by decide +kernel, by decide +kernel⟩
def f_X1_leg_18 (a0 : Nat)   (p0 : PH) : Option (xO × PH) :=
  (xcI (f_X1_refused p0 a0 1) fun x4 p3 =>
  (rI x4 p3))
def f_X1_leg_114 (a0 : Nat)  (w1 : Int32) (p0 : PH) : Option (xO × PH) :=
  (xcI (f_X1_fine p0 a0 w1) fun x23 p22 =>
  (rI x23 p22))
def f_X1_leg (p0 : PH) (a0 : Nat) (a1 : Int32) (a2 : Int32) (a3 : Int32) : Option (xO × PH) :=
  (xcl1 p0 a0 0 (xcI (f_X1_isRunnersPoint p0 a0 a1 a2) fun x2 p1 =>
  (if x2 = 0 then
  (f_X1_leg_18 a0  p1) else
  (xcI (f_X1_isIn p1 a3 0 3) fun x6 p5 =>
  (if x6 = 0 then
  (f_X1_leg_18 a0  p5) else
  (xgR p5 a0 0 5 fun x7 =>
  (xnul x7 none fun b8 =>
  (xcR (f_X4_match p5 b8 a1) fun x10 p9 =>
  (xnul x10 none fun b11 =>
  (xcI (f_X9_leg p9 b11 a2) fun x13 p12 =>
  (if x13 = (-2) then
  (xcI (f_X1_fine p12 a0 (-2)) fun x33 p32 =>
  (rI x33 p32)) else
  (if a3 = 0 then
  (f_X1_leg_114 a0 x13 p12) else
  (if a3 = 1 then
  (xgR p12 a0 0 5 fun x28 =>
  (xnul x28 none fun b29 =>
  (xcI (f_X4_place p12 b29 a1 a2 1) fun x31 p30 =>
  (f_X1_leg_114 a0 x31 p30)))) else
  (if a3 = 2 then
  (xgR p12 a0 0 5 fun x24 =>
  (xnul x24 none fun b25 =>
  (xcI (f_X4_lost p12 b25 a1 a2) fun x27 p26 =>
  (f_X1_leg_114 a0 x27 p26)))) else
  (xgR p12 a0 0 5 fun x14 =>
  (xgR p12 a0 0 5 fun x15 =>
  (xnul x15 none fun b16 =>
  (xcR (f_X4_pace p12 b16 a1) fun x18 p17 =>
  (xnul x14 none fun b19 =>
  (xcI (f_X4_mistake p17 b19 a1 a2 x18) fun x21 p20 =>
  (f_X1_leg_114 a0 x21 p20)))))))))))))))))))))
theorem rc_X1_leg {p0 : PH} {a0 : Nat} {a1 : Int32} {a2 : Int32} {a3 : Int32} : ∀ z, f_X1_leg p0 a0 a1 a2 a3 = some z → xco p0 a0 = some 0 := fun z h => xcl1_some h
theorem f_X1_leg_18_ok {G : xG} (hO : xOK G) (a0 : Nat)   (p0 : PH) : X G "ForestLegs" "leg" cX1_leg 5 (Option.some Jvm.ClassFile.FieldType.int) 13 18 [(0, .ref a0)] [] p0 (f_X1_leg_18 a0  p0) := by
  unfold f_X1_leg_18
  refine x_aload_nr 0 dX1_leg_18 rfl rfl (n := 19) rfl ?_
  refine x_iconst 1 dX1_leg_19 rfl (n := 20) rfl ?_
  refine x_callV_I [.int 1] [] (f_X1_refused_ok hO p0 a0 1) rc_X1_refused md_X1_refused rfl q250 q252 qs0 dX1_leg_20 rfl rfl (by decide) (Nat.le_of_ble_eq_true rfl) (n := 23) rfl (fun x4 p3 => ?_)
  exact x_ireturn dX1_leg_23
theorem f_X1_leg_114_ok {G : xG} (hO : xOK G) (a0 : Nat)  (w1 : Int32) (p0 : PH) : X G "ForestLegs" "leg" cX1_leg 5 (Option.some Jvm.ClassFile.FieldType.int) 13 114 [] [.int w1, .ref a0] p0 (f_X1_leg_114 a0 w1 p0) := by
  unfold f_X1_leg_114
  refine x_callV_I [.int w1] [] (f_X1_fine_ok hO p0 a0 w1) rc_X1_fine md_X1_fine rfl q1480 q1482 qs26 dX1_leg_114 rfl rfl (by decide) (Nat.le_of_ble_eq_true rfl) (n := 117) rfl (fun x23 p22 => ?_)
  exact x_ireturn dX1_leg_117
theorem f_X1_leg_ok {G : xG} (hO : xOK G) (p0 : PH) (a0 : Nat) (a1 : Int32) (a2 : Int32) (a3 : Int32) : CT G 13 yX1_leg cX1_leg 5 (Option.some Jvm.ClassFile.FieldType.int) [.ref a0, .int a1, .int a2, .int a3] p0 (f_X1_leg p0 a0 a1 a2 a3) := by
  refine CT_of hO (by decide +kernel) (by decide +kernel) (Nat.le_of_ble_eq_true rfl) ?_
  show X G "ForestLegs" "leg" cX1_leg 5 (Option.some Jvm.ClassFile.FieldType.int) 13 0 [(0, .ref a0), (1, .int a1), (2, .int a2), (3, .int a3)] [] p0 (f_X1_leg p0 a0 a1 a2 a3)
  refine x_cl1 (fun e0 => ?_)
  refine x_aload_nr 0 dX1_leg_0 rfl rfl (n := 1) rfl ?_
  refine x_iload_n 1 dX1_leg_1 rfl rfl (n := 2) rfl ?_
  refine x_iload_n 2 dX1_leg_2 rfl rfl (n := 3) rfl ?_
  refine x_callV_I [.int a1, .int a2] [] (f_X1_isRunnersPoint_ok hO p0 a0 a1 a2) rc_X1_isRunnersPoint md_X1_isRunnersPoint rfl q1980 q1982 qs45 dX1_leg_3 rfl rfl (by decide) (Nat.le_of_ble_eq_true rfl) (n := 6) rfl (fun x2 p1 => ?_)
  refine x_if_eq dX1_leg_6 (t := 18) (by decide) (n := 9) rfl (fun _ => ?_) (fun _ => ?_)
  · refine x_sub [0] [(0, .ref a0)] rfl ?_
    exact f_X1_leg_18_ok hO a0  p1
  · refine x_iload_n 3 dX1_leg_9 rfl rfl (n := 10) rfl ?_
    refine x_iconst 0 dX1_leg_10 rfl (n := 11) rfl ?_
    refine x_iconst 3 dX1_leg_11 rfl (n := 12) rfl ?_
    refine x_callS_I [.int a3, .int 0, .int 3] [] (f_X1_isIn_ok hO p1 a3 0 3) md_X1_isIn q247 q248 dX1_leg_12 rfl rfl (by decide) (Nat.le_of_ble_eq_true rfl) (n := 15) rfl (fun x6 p5 => ?_)
    refine x_if_ne dX1_leg_15 (t := 24) (by decide) (n := 18) rfl (fun _ => ?_) (fun _ => ?_)
    · refine x_aload_nr 0 dX1_leg_24 rfl rfl (n := 25) rfl ?_
      refine x_getR fl_X1_56 dX1_leg_25 (n := 28) rfl (fun x7 => ?_)
      refine x_iload_n 1 dX1_leg_28 rfl rfl (n := 29) rfl ?_
      refine x_sm (fun b8 e => ?_)
      subst e
      refine x_callV_R [.int a1] [] (f_X4_match_ok hO p5 b8 a1) rc_X4_match md_X4_match rfl q1784 q1504 q1505 dX1_leg_29 rfl rfl (by decide) (Nat.le_of_ble_eq_true rfl) (n := 32) rfl (fun x10 p9 => ?_)
      refine x_iload_n 2 dX1_leg_32 rfl rfl (n := 33) rfl ?_
      refine x_sm (fun b11 e => ?_)
      subst e
      refine x_callV_I [.int a2] [] (f_X9_leg_ok hO p9 b11 a2) rc_X9_leg md_X9_leg rfl q2001 q1747 q1748 dX1_leg_33 rfl rfl (by decide) (Nat.le_of_ble_eq_true rfl) (n := 36) rfl (fun x13 p12 => ?_)
      refine x_istore [(4, .int x13), (0, .ref a0), (1, .int a1), (2, .int a2), (3, .int a3)] dX1_leg_36 (by decide) rfl (n := 38) rfl ?_
      refine x_iload 0 dX1_leg_38 rfl (n := 40) rfl ?_
      refine x_bipush (-2) dX1_leg_40 rfl (n := 42) rfl ?_
      refine x_icmp_ne dX1_leg_42 (t := 52) (by decide) (n := 45) rfl (fun _ => ?_) (fun _ => ?_)
      · refine x_aload_nr 1 dX1_leg_52 rfl rfl (n := 53) rfl ?_
        refine x_iload_n 4 dX1_leg_53 rfl rfl (n := 54) rfl ?_
        refine x_if_ne dX1_leg_54 (t := 62) (by decide) (n := 57) rfl (fun _ => ?_) (fun _ => ?_)
        · refine x_iload_n 4 dX1_leg_62 rfl rfl (n := 63) rfl ?_
          refine x_iconst 1 dX1_leg_63 rfl (n := 64) rfl ?_
          refine x_icmp_ne dX1_leg_64 (t := 80) (by decide) (n := 67) rfl (fun _ => ?_) (fun _ => ?_)
          · refine x_iload_n 4 dX1_leg_80 rfl rfl (n := 81) rfl ?_
            refine x_iconst 2 dX1_leg_81 rfl (n := 82) rfl ?_
            refine x_icmp_ne dX1_leg_82 (t := 97) (by decide) (n := 85) rfl (fun _ => ?_) (fun _ => ?_)
            · refine x_aload_nr 1 dX1_leg_97 rfl rfl (n := 98) rfl ?_
              refine x_getR fl_X1_56 dX1_leg_98 (n := 101) rfl (fun x14 => ?_)
              refine x_iload_n 2 dX1_leg_101 rfl rfl (n := 102) rfl ?_
              refine x_iload_n 3 dX1_leg_102 rfl rfl (n := 103) rfl ?_
              refine x_aload_nr 1 dX1_leg_103 rfl rfl (n := 104) rfl ?_
              refine x_getR fl_X1_56 dX1_leg_104 (n := 107) rfl (fun x15 => ?_)
              refine x_iload_n 2 dX1_leg_107 rfl rfl (n := 108) rfl ?_
              refine x_sm (fun b16 e => ?_)
              subst e
              refine x_callV_R [.int a1] [.int a2, .int a1, va_rf x14, .ref a0] (f_X4_pace_ok hO p12 b16 a1) rc_X4_pace md_X4_pace rfl q2006 q2007 q2008 dX1_leg_108 rfl rfl (by decide) (by simp only [List.map, xcat]; exact Nat.le_of_ble_eq_true rfl) (n := 111) rfl (fun x18 p17 => ?_)
              refine x_sm (fun b19 e => ?_)
              subst e
              refine x_callV_I [.int a1, .int a2, va_rf x18] [.ref a0] (f_X4_mistake_ok hO p17 b19 a1 a2 x18) rc_X4_mistake md_X4_mistake rfl q2107 q2108 q2109 dX1_leg_111 rfl rfl (by decide) (Nat.le_of_ble_eq_true rfl) (n := 114) rfl (fun x21 p20 => ?_)
              refine x_sub [] [] rfl ?_
              exact f_X1_leg_114_ok hO a0 x21 p20
            · refine x_aload_nr 1 dX1_leg_85 rfl rfl (n := 86) rfl ?_
              refine x_getR fl_X1_56 dX1_leg_86 (n := 89) rfl (fun x24 => ?_)
              refine x_iload_n 2 dX1_leg_89 rfl rfl (n := 90) rfl ?_
              refine x_iload_n 3 dX1_leg_90 rfl rfl (n := 91) rfl ?_
              refine x_sm (fun b25 e => ?_)
              subst e
              refine x_callV_I [.int a1, .int a2] [.ref a0] (f_X4_lost_ok hO p12 b25 a1 a2) rc_X4_lost md_X4_lost rfl q2002 q2003 q2004 dX1_leg_91 rfl rfl (by decide) (Nat.le_of_ble_eq_true rfl) (n := 94) rfl (fun x27 p26 => ?_)
              refine x_goto dX1_leg_94 (n := 114) (by decide) ?_
              refine x_sub [] [] rfl ?_
              exact f_X1_leg_114_ok hO a0 x27 p26
          · refine x_aload_nr 1 dX1_leg_67 rfl rfl (n := 68) rfl ?_
            refine x_getR fl_X1_56 dX1_leg_68 (n := 71) rfl (fun x28 => ?_)
            refine x_iload_n 2 dX1_leg_71 rfl rfl (n := 72) rfl ?_
            refine x_iload_n 3 dX1_leg_72 rfl rfl (n := 73) rfl ?_
            refine x_iconst 1 dX1_leg_73 rfl (n := 74) rfl ?_
            refine x_sm (fun b29 e => ?_)
            subst e
            refine x_callV_I [.int a1, .int a2, .int 1] [.ref a0] (f_X4_place_ok hO p12 b29 a1 a2 1) rc_X4_place md_X4_place rfl q1993 q1994 q1995 dX1_leg_74 rfl rfl (by decide) (Nat.le_of_ble_eq_true rfl) (n := 77) rfl (fun x31 p30 => ?_)
            refine x_goto dX1_leg_77 (n := 114) (by decide) ?_
            refine x_sub [] [] rfl ?_
            exact f_X1_leg_114_ok hO a0 x31 p30
        · refine x_iload 0 dX1_leg_57 rfl (n := 59) rfl ?_
          refine x_goto dX1_leg_59 (n := 114) (by decide) ?_
          refine x_sub [] [] rfl ?_
          exact f_X1_leg_114_ok hO a0 x13 p12
      · refine x_aload_nr 1 dX1_leg_45 rfl rfl (n := 46) rfl ?_
        refine x_bipush (-2) dX1_leg_46 rfl (n := 48) rfl ?_
        refine x_callV_I [.int (-2)] [] (f_X1_fine_ok hO p12 a0 (-2)) rc_X1_fine md_X1_fine rfl q1480 q1482 qs26 dX1_leg_48 rfl rfl (by decide) (Nat.le_of_ble_eq_true rfl) (n := 51) rfl (fun x33 p32 => ?_)
        exact x_ireturn dX1_leg_51
    · refine x_sub [0] [(0, .ref a0)] rfl ?_
      exact f_X1_leg_18_ok hO a0  p5
abbrev cX1_best : ByteArray := prog_1_method_30_code
def yX1_best : MethodName := ⟨RX1, "best", "(III)I"⟩
def dkwX1_best_2 : List UInt8 := [182, 1, 3, 182, 0, 83, 172]
abbrev dktX1_best_2 : List UInt8 := dkwX1_best_2 ++ []
def dkwX1_best_1 : List UInt8 := [42, 29, 154, 0, 15, 42, 180, 0, 56, 27, 28, 182, 1, 0, 167, 0, 12, 42, 180, 0, 56, 27, 28]
abbrev dktX1_best_1 : List UInt8 := dkwX1_best_1 ++ dktX1_best_2
def dkwX1_best_0 : List UInt8 := [42, 27, 28, 182, 0, 108, 153, 0, 12, 29, 3, 4, 184, 0, 36, 154, 0, 9, 42, 4, 182, 0, 40, 172]
abbrev dktX1_best_0 : List UInt8 := dkwX1_best_0 ++ dktX1_best_1
theorem dksX1_best_0 : cX1_best.data.toList.drop 0 = dktX1_best_0 := by decide +kernel
theorem dksX1_best_1 : cX1_best.data.toList.drop 24 = dktX1_best_1 := dk_seg dksX1_best_0 24 rfl rfl
theorem dksX1_best_2 : cX1_best.data.toList.drop 47 = dktX1_best_2 := dk_seg dksX1_best_1 23 rfl rfl
theorem dX1_best_0 : decode cX1_best 0 = .ok (.aload_n 0, 1) := dk_42 (dk_at dksX1_best_0 0 rfl rfl)
theorem dX1_best_1 : decode cX1_best 1 = .ok (.iload_n 1, 1) := dk_27 (dk_at dksX1_best_0 1 rfl rfl)
theorem dX1_best_2 : decode cX1_best 2 = .ok (.iload_n 2, 1) := dk_28 (dk_at dksX1_best_0 2 rfl rfl)
theorem dX1_best_3 : decode cX1_best 3 = .ok (.invokevirtual 108, 3) := dk_182 0 108 (dk_at dksX1_best_0 3 rfl rfl)
theorem dX1_best_6 : decode cX1_best 6 = .ok (.ifCond .eq 12, 3) := dk_153 0 12 (dk_at dksX1_best_0 6 rfl rfl)
theorem dX1_best_9 : decode cX1_best 9 = .ok (.iload_n 3, 1) := dk_29 (dk_at dksX1_best_0 9 rfl rfl)
theorem dX1_best_10 : decode cX1_best 10 = .ok (.iconst 0, 1) := dk_3 (dk_at dksX1_best_0 10 rfl rfl)
theorem dX1_best_11 : decode cX1_best 11 = .ok (.iconst 1, 1) := dk_4 (dk_at dksX1_best_0 11 rfl rfl)
theorem dX1_best_12 : decode cX1_best 12 = .ok (.invokestatic 36, 3) := dk_184 0 36 (dk_at dksX1_best_0 12 rfl rfl)
theorem dX1_best_15 : decode cX1_best 15 = .ok (.ifCond .ne 9, 3) := dk_154 0 9 (dk_at dksX1_best_0 15 rfl rfl)
theorem dX1_best_18 : decode cX1_best 18 = .ok (.aload_n 0, 1) := dk_42 (dk_at dksX1_best_0 18 rfl rfl)
theorem dX1_best_19 : decode cX1_best 19 = .ok (.iconst 1, 1) := dk_4 (dk_at dksX1_best_0 19 rfl rfl)
theorem dX1_best_20 : decode cX1_best 20 = .ok (.invokevirtual 40, 3) := dk_182 0 40 (dk_at dksX1_best_0 20 rfl rfl)
theorem dX1_best_23 : decode cX1_best 23 = .ok (.ireturn, 1) := dk_172 (dk_at dksX1_best_0 23 rfl rfl)
theorem dX1_best_24 : decode cX1_best 24 = .ok (.aload_n 0, 1) := dk_42 (dk_at dksX1_best_1 0 rfl rfl)
theorem dX1_best_25 : decode cX1_best 25 = .ok (.iload_n 3, 1) := dk_29 (dk_at dksX1_best_1 1 rfl rfl)
theorem dX1_best_26 : decode cX1_best 26 = .ok (.ifCond .ne 15, 3) := dk_154 0 15 (dk_at dksX1_best_1 2 rfl rfl)
theorem dX1_best_29 : decode cX1_best 29 = .ok (.aload_n 0, 1) := dk_42 (dk_at dksX1_best_1 5 rfl rfl)
theorem dX1_best_30 : decode cX1_best 30 = .ok (.getfield 56, 3) := dk_180 0 56 (dk_at dksX1_best_1 6 rfl rfl)
theorem dX1_best_33 : decode cX1_best 33 = .ok (.iload_n 1, 1) := dk_27 (dk_at dksX1_best_1 9 rfl rfl)
theorem dX1_best_34 : decode cX1_best 34 = .ok (.iload_n 2, 1) := dk_28 (dk_at dksX1_best_1 10 rfl rfl)
theorem dX1_best_35 : decode cX1_best 35 = .ok (.invokevirtual 256, 3) := dk_182 1 0 (dk_at dksX1_best_1 11 rfl rfl)
theorem dX1_best_38 : decode cX1_best 38 = .ok (.goto 12, 3) := dk_167 0 12 (dk_at dksX1_best_1 14 rfl rfl)
theorem dX1_best_41 : decode cX1_best 41 = .ok (.aload_n 0, 1) := dk_42 (dk_at dksX1_best_1 17 rfl rfl)
theorem dX1_best_42 : decode cX1_best 42 = .ok (.getfield 56, 3) := dk_180 0 56 (dk_at dksX1_best_1 18 rfl rfl)
theorem dX1_best_45 : decode cX1_best 45 = .ok (.iload_n 1, 1) := dk_27 (dk_at dksX1_best_1 21 rfl rfl)
theorem dX1_best_46 : decode cX1_best 46 = .ok (.iload_n 2, 1) := dk_28 (dk_at dksX1_best_1 22 rfl rfl)
theorem dX1_best_47 : decode cX1_best 47 = .ok (.invokevirtual 259, 3) := dk_182 1 3 (dk_at dksX1_best_2 0 rfl rfl)
theorem dX1_best_50 : decode cX1_best 50 = .ok (.invokevirtual 83, 3) := dk_182 0 83 (dk_at dksX1_best_2 3 rfl rfl)
theorem dX1_best_53 : decode cX1_best 53 = .ok (.ireturn, 1) := dk_172 (dk_at dksX1_best_2 6 rfl rfl)
theorem md_X1_best : xMd yX1_best cX1_best 4 (Option.some Jvm.ClassFile.FieldType.int) 3 := ⟨q2119, q123, by decide, by decide +kernel, by decide +kernel, by decide +kernel⟩
def f_X1_best_18 (a0 : Nat)   (p0 : PH) : Option (xO × PH) :=
  (xcI (f_X1_refused p0 a0 1) fun x4 p3 =>
  (rI x4 p3))
def f_X1_best_50 (a0 : Nat)  (w1 : Int32) (p0 : PH) : Option (xO × PH) :=
  (xcI (f_X1_fine p0 a0 w1) fun x12 p11 =>
  (rI x12 p11))
def f_X1_best (p0 : PH) (a0 : Nat) (a1 : Int32) (a2 : Int32) (a3 : Int32) : Option (xO × PH) :=
  (xcl1 p0 a0 0 (xcI (f_X1_isPoint p0 a0 a1 a2) fun x2 p1 =>
  (if x2 = 0 then
  (f_X1_best_18 a0  p1) else
  (xcI (f_X1_isIn p1 a3 0 1) fun x6 p5 =>
  (if x6 = 0 then
  (f_X1_best_18 a0  p5) else
  (if a3 = 0 then
  (xgR p5 a0 0 5 fun x13 =>
  (xnul x13 none fun b14 =>
  (xcI (f_X4_best p5 b14 a1 a2) fun x16 p15 =>
  (f_X1_best_50 a0 x16 p15)))) else
  (xgR p5 a0 0 5 fun x7 =>
  (xnul x7 none fun b8 =>
  (xcI (f_X4_fastest p5 b8 a1 a2) fun x10 p9 =>
  (f_X1_best_50 a0 x10 p9))))))))))
theorem rc_X1_best {p0 : PH} {a0 : Nat} {a1 : Int32} {a2 : Int32} {a3 : Int32} : ∀ z, f_X1_best p0 a0 a1 a2 a3 = some z → xco p0 a0 = some 0 := fun z h => xcl1_some h
theorem f_X1_best_18_ok {G : xG} (hO : xOK G) (a0 : Nat)   (p0 : PH) : X G "ForestLegs" "best" cX1_best 4 (Option.some Jvm.ClassFile.FieldType.int) 12 18 [(0, .ref a0)] [] p0 (f_X1_best_18 a0  p0) := by
  unfold f_X1_best_18
  refine x_aload_nr 0 dX1_best_18 rfl rfl (n := 19) rfl ?_
  refine x_iconst 1 dX1_best_19 rfl (n := 20) rfl ?_
  refine x_callV_I [.int 1] [] (f_X1_refused_ok hO p0 a0 1) rc_X1_refused md_X1_refused rfl q250 q252 qs0 dX1_best_20 rfl rfl (by decide) (Nat.le_of_ble_eq_true rfl) (n := 23) rfl (fun x4 p3 => ?_)
  exact x_ireturn dX1_best_23
theorem f_X1_best_50_ok {G : xG} (hO : xOK G) (a0 : Nat)  (w1 : Int32) (p0 : PH) : X G "ForestLegs" "best" cX1_best 4 (Option.some Jvm.ClassFile.FieldType.int) 12 50 [] [.int w1, .ref a0] p0 (f_X1_best_50 a0 w1 p0) := by
  unfold f_X1_best_50
  refine x_callV_I [.int w1] [] (f_X1_fine_ok hO p0 a0 w1) rc_X1_fine md_X1_fine rfl q1480 q1482 qs26 dX1_best_50 rfl rfl (by decide) (Nat.le_of_ble_eq_true rfl) (n := 53) rfl (fun x12 p11 => ?_)
  exact x_ireturn dX1_best_53
theorem f_X1_best_ok {G : xG} (hO : xOK G) (p0 : PH) (a0 : Nat) (a1 : Int32) (a2 : Int32) (a3 : Int32) : CT G 12 yX1_best cX1_best 4 (Option.some Jvm.ClassFile.FieldType.int) [.ref a0, .int a1, .int a2, .int a3] p0 (f_X1_best p0 a0 a1 a2 a3) := by
  refine CT_of hO (by decide +kernel) (by decide +kernel) (Nat.le_of_ble_eq_true rfl) ?_
  show X G "ForestLegs" "best" cX1_best 4 (Option.some Jvm.ClassFile.FieldType.int) 12 0 [(0, .ref a0), (1, .int a1), (2, .int a2), (3, .int a3)] [] p0 (f_X1_best p0 a0 a1 a2 a3)
  refine x_cl1 (fun e0 => ?_)
  refine x_aload_nr 0 dX1_best_0 rfl rfl (n := 1) rfl ?_
  refine x_iload_n 1 dX1_best_1 rfl rfl (n := 2) rfl ?_
  refine x_iload_n 2 dX1_best_2 rfl rfl (n := 3) rfl ?_
  refine x_callV_I [.int a1, .int a2] [] (f_X1_isPoint_ok hO p0 a0 a1 a2) rc_X1_isPoint md_X1_isPoint rfl q1984 q1986 qs46 dX1_best_3 rfl rfl (by decide) (Nat.le_of_ble_eq_true rfl) (n := 6) rfl (fun x2 p1 => ?_)
  refine x_if_eq dX1_best_6 (t := 18) (by decide) (n := 9) rfl (fun _ => ?_) (fun _ => ?_)
  · refine x_sub [0] [(0, .ref a0)] rfl ?_
    exact f_X1_best_18_ok hO a0  p1
  · refine x_iload_n 3 dX1_best_9 rfl rfl (n := 10) rfl ?_
    refine x_iconst 0 dX1_best_10 rfl (n := 11) rfl ?_
    refine x_iconst 1 dX1_best_11 rfl (n := 12) rfl ?_
    refine x_callS_I [.int a3, .int 0, .int 1] [] (f_X1_isIn_ok hO p1 a3 0 1) md_X1_isIn q247 q248 dX1_best_12 rfl rfl (by decide) (Nat.le_of_ble_eq_true rfl) (n := 15) rfl (fun x6 p5 => ?_)
    refine x_if_ne dX1_best_15 (t := 24) (by decide) (n := 18) rfl (fun _ => ?_) (fun _ => ?_)
    · refine x_aload_nr 0 dX1_best_24 rfl rfl (n := 25) rfl ?_
      refine x_iload_n 3 dX1_best_25 rfl rfl (n := 26) rfl ?_
      refine x_if_ne dX1_best_26 (t := 41) (by decide) (n := 29) rfl (fun _ => ?_) (fun _ => ?_)
      · refine x_aload_nr 0 dX1_best_41 rfl rfl (n := 42) rfl ?_
        refine x_getR fl_X1_56 dX1_best_42 (n := 45) rfl (fun x7 => ?_)
        refine x_iload_n 1 dX1_best_45 rfl rfl (n := 46) rfl ?_
        refine x_iload_n 2 dX1_best_46 rfl rfl (n := 47) rfl ?_
        refine x_sm (fun b8 e => ?_)
        subst e
        refine x_callV_I [.int a1, .int a2] [.ref a0] (f_X4_fastest_ok hO p5 b8 a1 a2) rc_X4_fastest md_X4_fastest rfl q2121 q1732 q1733 dX1_best_47 rfl rfl (by decide) (Nat.le_of_ble_eq_true rfl) (n := 50) rfl (fun x10 p9 => ?_)
        refine x_sub [] [] rfl ?_
        exact f_X1_best_50_ok hO a0 x10 p9
      · refine x_aload_nr 0 dX1_best_29 rfl rfl (n := 30) rfl ?_
        refine x_getR fl_X1_56 dX1_best_30 (n := 33) rfl (fun x13 => ?_)
        refine x_iload_n 1 dX1_best_33 rfl rfl (n := 34) rfl ?_
        refine x_iload_n 2 dX1_best_34 rfl rfl (n := 35) rfl ?_
        refine x_sm (fun b14 e => ?_)
        subst e
        refine x_callV_I [.int a1, .int a2] [.ref a0] (f_X4_best_ok hO p5 b14 a1 a2) rc_X4_best md_X4_best rfl q2120 q1728 q1729 dX1_best_35 rfl rfl (by decide) (Nat.le_of_ble_eq_true rfl) (n := 38) rfl (fun x16 p15 => ?_)
        refine x_goto dX1_best_38 (n := 50) (by decide) ?_
        refine x_sub [] [] rfl ?_
        exact f_X1_best_50_ok hO a0 x16 p15
    · refine x_sub [0] [(0, .ref a0)] rfl ?_
      exact f_X1_best_18_ok hO a0  p5
abbrev cX1_leads : ByteArray := prog_1_method_31_code
def yX1_leads : MethodName := ⟨RX1, "leads", "(II)I"⟩
def dkwX1_leads_1 : List UInt8 := [167, 0, 8, 42, 4, 182, 0, 40, 172]
abbrev dktX1_leads_1 : List UInt8 := dkwX1_leads_1 ++ []
def dkwX1_leads_0 : List UInt8 := [42, 27, 28, 182, 0, 108, 153, 0, 19, 42, 42, 180, 0, 56, 27, 28, 182, 0, 236, 182, 0, 83]
abbrev dktX1_leads_0 : List UInt8 := dkwX1_leads_0 ++ dktX1_leads_1
theorem dksX1_leads_0 : cX1_leads.data.toList.drop 0 = dktX1_leads_0 := by decide +kernel
theorem dksX1_leads_1 : cX1_leads.data.toList.drop 22 = dktX1_leads_1 := dk_seg dksX1_leads_0 22 rfl rfl
theorem dX1_leads_0 : decode cX1_leads 0 = .ok (.aload_n 0, 1) := dk_42 (dk_at dksX1_leads_0 0 rfl rfl)
theorem dX1_leads_1 : decode cX1_leads 1 = .ok (.iload_n 1, 1) := dk_27 (dk_at dksX1_leads_0 1 rfl rfl)
theorem dX1_leads_2 : decode cX1_leads 2 = .ok (.iload_n 2, 1) := dk_28 (dk_at dksX1_leads_0 2 rfl rfl)
theorem dX1_leads_3 : decode cX1_leads 3 = .ok (.invokevirtual 108, 3) := dk_182 0 108 (dk_at dksX1_leads_0 3 rfl rfl)
theorem dX1_leads_6 : decode cX1_leads 6 = .ok (.ifCond .eq 19, 3) := dk_153 0 19 (dk_at dksX1_leads_0 6 rfl rfl)
theorem dX1_leads_9 : decode cX1_leads 9 = .ok (.aload_n 0, 1) := dk_42 (dk_at dksX1_leads_0 9 rfl rfl)
theorem dX1_leads_10 : decode cX1_leads 10 = .ok (.aload_n 0, 1) := dk_42 (dk_at dksX1_leads_0 10 rfl rfl)
theorem dX1_leads_11 : decode cX1_leads 11 = .ok (.getfield 56, 3) := dk_180 0 56 (dk_at dksX1_leads_0 11 rfl rfl)
theorem dX1_leads_14 : decode cX1_leads 14 = .ok (.iload_n 1, 1) := dk_27 (dk_at dksX1_leads_0 14 rfl rfl)
theorem dX1_leads_15 : decode cX1_leads 15 = .ok (.iload_n 2, 1) := dk_28 (dk_at dksX1_leads_0 15 rfl rfl)
theorem dX1_leads_16 : decode cX1_leads 16 = .ok (.invokevirtual 236, 3) := dk_182 0 236 (dk_at dksX1_leads_0 16 rfl rfl)
theorem dX1_leads_19 : decode cX1_leads 19 = .ok (.invokevirtual 83, 3) := dk_182 0 83 (dk_at dksX1_leads_0 19 rfl rfl)
theorem dX1_leads_22 : decode cX1_leads 22 = .ok (.goto 8, 3) := dk_167 0 8 (dk_at dksX1_leads_1 0 rfl rfl)
theorem dX1_leads_25 : decode cX1_leads 25 = .ok (.aload_n 0, 1) := dk_42 (dk_at dksX1_leads_1 3 rfl rfl)
theorem dX1_leads_26 : decode cX1_leads 26 = .ok (.iconst 1, 1) := dk_4 (dk_at dksX1_leads_1 4 rfl rfl)
theorem dX1_leads_27 : decode cX1_leads 27 = .ok (.invokevirtual 40, 3) := dk_182 0 40 (dk_at dksX1_leads_1 5 rfl rfl)
theorem dX1_leads_30 : decode cX1_leads 30 = .ok (.ireturn, 1) := dk_172 (dk_at dksX1_leads_1 8 rfl rfl)
theorem md_X1_leads : xMd yX1_leads cX1_leads 3 (Option.some Jvm.ClassFile.FieldType.int) 2 := ⟨q2125, q123, by decide, by decide +kernel, by decide +kernel, by decide +kernel⟩
def f_X1_leads (p0 : PH) (a0 : Nat) (a1 : Int32) (a2 : Int32) : Option (xO × PH) :=
  (xcl1 p0 a0 0 (xcI (f_X1_isPoint p0 a0 a1 a2) fun x2 p1 =>
  (if x2 = 0 then
  (xcI (f_X1_refused p1 a0 1) fun x4 p3 =>
  (rI x4 p3)) else
  (xgR p1 a0 0 5 fun x5 =>
  (xnul x5 none fun b6 =>
  (xcI (f_X4_leads p1 b6 a1 a2) fun x8 p7 =>
  (xcI (f_X1_fine p7 a0 x8) fun x10 p9 =>
  (rI x10 p9))))))))
theorem rc_X1_leads {p0 : PH} {a0 : Nat} {a1 : Int32} {a2 : Int32} : ∀ z, f_X1_leads p0 a0 a1 a2 = some z → xco p0 a0 = some 0 := fun z h => xcl1_some h
theorem f_X1_leads_ok {G : xG} (hO : xOK G) (p0 : PH) (a0 : Nat) (a1 : Int32) (a2 : Int32) : CT G 11 yX1_leads cX1_leads 3 (Option.some Jvm.ClassFile.FieldType.int) [.ref a0, .int a1, .int a2] p0 (f_X1_leads p0 a0 a1 a2) := by
  refine CT_of hO (by decide +kernel) (by decide +kernel) (Nat.le_of_ble_eq_true rfl) ?_
  show X G "ForestLegs" "leads" cX1_leads 3 (Option.some Jvm.ClassFile.FieldType.int) 11 0 [(0, .ref a0), (1, .int a1), (2, .int a2)] [] p0 (f_X1_leads p0 a0 a1 a2)
  refine x_cl1 (fun e0 => ?_)
  refine x_aload_nr 0 dX1_leads_0 rfl rfl (n := 1) rfl ?_
  refine x_iload_n 1 dX1_leads_1 rfl rfl (n := 2) rfl ?_
  refine x_iload_n 2 dX1_leads_2 rfl rfl (n := 3) rfl ?_
  refine x_callV_I [.int a1, .int a2] [] (f_X1_isPoint_ok hO p0 a0 a1 a2) rc_X1_isPoint md_X1_isPoint rfl q1984 q1986 qs46 dX1_leads_3 rfl rfl (by decide) (Nat.le_of_ble_eq_true rfl) (n := 6) rfl (fun x2 p1 => ?_)
  refine x_if_eq dX1_leads_6 (t := 25) (by decide) (n := 9) rfl (fun _ => ?_) (fun _ => ?_)
  · refine x_aload_nr 0 dX1_leads_25 rfl rfl (n := 26) rfl ?_
    refine x_iconst 1 dX1_leads_26 rfl (n := 27) rfl ?_
    refine x_callV_I [.int 1] [] (f_X1_refused_ok hO p1 a0 1) rc_X1_refused md_X1_refused rfl q250 q252 qs0 dX1_leads_27 rfl rfl (by decide) (Nat.le_of_ble_eq_true rfl) (n := 30) rfl (fun x4 p3 => ?_)
    exact x_ireturn dX1_leads_30
  · refine x_aload_nr 0 dX1_leads_9 rfl rfl (n := 10) rfl ?_
    refine x_aload_nr 0 dX1_leads_10 rfl rfl (n := 11) rfl ?_
    refine x_getR fl_X1_56 dX1_leads_11 (n := 14) rfl (fun x5 => ?_)
    refine x_iload_n 1 dX1_leads_14 rfl rfl (n := 15) rfl ?_
    refine x_iload_n 2 dX1_leads_15 rfl rfl (n := 16) rfl ?_
    refine x_sm (fun b6 e => ?_)
    subst e
    refine x_callV_I [.int a1, .int a2] [.ref a0] (f_X4_leads_ok hO p1 b6 a1 a2) rc_X4_leads md_X4_leads rfl q1989 q1990 q1991 dX1_leads_16 rfl rfl (by decide) (Nat.le_of_ble_eq_true rfl) (n := 19) rfl (fun x8 p7 => ?_)
    refine x_callV_I [.int x8] [] (f_X1_fine_ok hO p7 a0 x8) rc_X1_fine md_X1_fine rfl q1480 q1482 qs26 dX1_leads_19 rfl rfl (by decide) (Nat.le_of_ble_eq_true rfl) (n := 22) rfl (fun x10 p9 => ?_)
    refine x_goto dX1_leads_22 (n := 30) (by decide) ?_
    exact x_ireturn dX1_leads_30
abbrev cX1_changes : ByteArray := prog_1_method_32_code
def yX1_changes : MethodName := ⟨RX1, "changes", "(I)I"⟩
def dkwX1_changes_4 : List UInt8 := [132, 3, 1, 167, 255, 177, 42, 28, 182, 0, 83, 172]
abbrev dktX1_changes_4 : List UInt8 := dkwX1_changes_4 ++ []
def dkwX1_changes_3 : List UInt8 := [159, 0, 21, 21, 5, 16, 254, 159, 0, 14, 21, 4, 21, 5, 159, 0, 7, 4, 167, 0, 4, 3, 96, 61]
abbrev dktX1_changes_3 : List UInt8 := dkwX1_changes_3 ++ dktX1_changes_4
def dkwX1_changes_2 : List UInt8 := [4, 100, 182, 0, 236, 54, 4, 42, 180, 0, 56, 27, 29, 182, 0, 236, 54, 5, 28, 21, 4, 16, 254]
abbrev dktX1_changes_2 : List UInt8 := dkwX1_changes_2 ++ dktX1_changes_3
def dkwX1_changes_1 : List UInt8 := [180, 0, 86, 27, 185, 0, 93, 2, 0, 192, 0, 97, 182, 0, 99, 163, 0, 62, 42, 180, 0, 56, 27, 29]
abbrev dktX1_changes_1 : List UInt8 := dkwX1_changes_1 ++ dktX1_changes_2
def dkwX1_changes_0 : List UInt8 := [42, 27, 182, 0, 89, 154, 0, 9, 42, 4, 182, 0, 40, 172, 3, 61, 4, 62, 29, 42, 180, 0, 56]
abbrev dktX1_changes_0 : List UInt8 := dkwX1_changes_0 ++ dktX1_changes_1
theorem dksX1_changes_0 : cX1_changes.data.toList.drop 0 = dktX1_changes_0 := by decide +kernel
theorem dksX1_changes_1 : cX1_changes.data.toList.drop 23 = dktX1_changes_1 := dk_seg dksX1_changes_0 23 rfl rfl
theorem dksX1_changes_2 : cX1_changes.data.toList.drop 47 = dktX1_changes_2 := dk_seg dksX1_changes_1 24 rfl rfl
theorem dksX1_changes_3 : cX1_changes.data.toList.drop 70 = dktX1_changes_3 := dk_seg dksX1_changes_2 23 rfl rfl
theorem dksX1_changes_4 : cX1_changes.data.toList.drop 94 = dktX1_changes_4 := dk_seg dksX1_changes_3 24 rfl rfl
theorem dX1_changes_0 : decode cX1_changes 0 = .ok (.aload_n 0, 1) := dk_42 (dk_at dksX1_changes_0 0 rfl rfl)
theorem dX1_changes_1 : decode cX1_changes 1 = .ok (.iload_n 1, 1) := dk_27 (dk_at dksX1_changes_0 1 rfl rfl)
theorem dX1_changes_2 : decode cX1_changes 2 = .ok (.invokevirtual 89, 3) := dk_182 0 89 (dk_at dksX1_changes_0 2 rfl rfl)
theorem dX1_changes_5 : decode cX1_changes 5 = .ok (.ifCond .ne 9, 3) := dk_154 0 9 (dk_at dksX1_changes_0 5 rfl rfl)
theorem dX1_changes_8 : decode cX1_changes 8 = .ok (.aload_n 0, 1) := dk_42 (dk_at dksX1_changes_0 8 rfl rfl)
theorem dX1_changes_9 : decode cX1_changes 9 = .ok (.iconst 1, 1) := dk_4 (dk_at dksX1_changes_0 9 rfl rfl)
theorem dX1_changes_10 : decode cX1_changes 10 = .ok (.invokevirtual 40, 3) := dk_182 0 40 (dk_at dksX1_changes_0 10 rfl rfl)
theorem dX1_changes_13 : decode cX1_changes 13 = .ok (.ireturn, 1) := dk_172 (dk_at dksX1_changes_0 13 rfl rfl)
theorem dX1_changes_14 : decode cX1_changes 14 = .ok (.iconst 0, 1) := dk_3 (dk_at dksX1_changes_0 14 rfl rfl)
theorem dX1_changes_15 : decode cX1_changes 15 = .ok (.istore_n 2, 1) := dk_61 (dk_at dksX1_changes_0 15 rfl rfl)
theorem dX1_changes_16 : decode cX1_changes 16 = .ok (.iconst 1, 1) := dk_4 (dk_at dksX1_changes_0 16 rfl rfl)
theorem dX1_changes_17 : decode cX1_changes 17 = .ok (.istore_n 3, 1) := dk_62 (dk_at dksX1_changes_0 17 rfl rfl)
theorem dX1_changes_18 : decode cX1_changes 18 = .ok (.iload_n 3, 1) := dk_29 (dk_at dksX1_changes_0 18 rfl rfl)
theorem dX1_changes_19 : decode cX1_changes 19 = .ok (.aload_n 0, 1) := dk_42 (dk_at dksX1_changes_0 19 rfl rfl)
theorem dX1_changes_20 : decode cX1_changes 20 = .ok (.getfield 56, 3) := dk_180 0 56 (dk_at dksX1_changes_0 20 rfl rfl)
theorem dX1_changes_23 : decode cX1_changes 23 = .ok (.getfield 86, 3) := dk_180 0 86 (dk_at dksX1_changes_1 0 rfl rfl)
theorem dX1_changes_26 : decode cX1_changes 26 = .ok (.iload_n 1, 1) := dk_27 (dk_at dksX1_changes_1 3 rfl rfl)
theorem dX1_changes_27 : decode cX1_changes 27 = .ok (.invokeinterface 93 2, 5) := by decide +kernel
theorem dX1_changes_32 : decode cX1_changes 32 = .ok (.checkcast 97, 3) := dk_192 0 97 (dk_at dksX1_changes_1 9 rfl rfl)
theorem dX1_changes_35 : decode cX1_changes 35 = .ok (.invokevirtual 99, 3) := dk_182 0 99 (dk_at dksX1_changes_1 12 rfl rfl)
theorem dX1_changes_38 : decode cX1_changes 38 = .ok (.if_icmp .gt 62, 3) := dk_163 0 62 (dk_at dksX1_changes_1 15 rfl rfl)
theorem dX1_changes_41 : decode cX1_changes 41 = .ok (.aload_n 0, 1) := dk_42 (dk_at dksX1_changes_1 18 rfl rfl)
theorem dX1_changes_42 : decode cX1_changes 42 = .ok (.getfield 56, 3) := dk_180 0 56 (dk_at dksX1_changes_1 19 rfl rfl)
theorem dX1_changes_45 : decode cX1_changes 45 = .ok (.iload_n 1, 1) := dk_27 (dk_at dksX1_changes_1 22 rfl rfl)
theorem dX1_changes_46 : decode cX1_changes 46 = .ok (.iload_n 3, 1) := dk_29 (dk_at dksX1_changes_1 23 rfl rfl)
theorem dX1_changes_47 : decode cX1_changes 47 = .ok (.iconst 1, 1) := dk_4 (dk_at dksX1_changes_2 0 rfl rfl)
theorem dX1_changes_48 : decode cX1_changes 48 = .ok (.isub, 1) := dk_100 (dk_at dksX1_changes_2 1 rfl rfl)
theorem dX1_changes_49 : decode cX1_changes 49 = .ok (.invokevirtual 236, 3) := dk_182 0 236 (dk_at dksX1_changes_2 2 rfl rfl)
theorem dX1_changes_52 : decode cX1_changes 52 = .ok (.istore 4, 2) := dk_54 4 (dk_at dksX1_changes_2 5 rfl rfl)
theorem dX1_changes_54 : decode cX1_changes 54 = .ok (.aload_n 0, 1) := dk_42 (dk_at dksX1_changes_2 7 rfl rfl)
theorem dX1_changes_55 : decode cX1_changes 55 = .ok (.getfield 56, 3) := dk_180 0 56 (dk_at dksX1_changes_2 8 rfl rfl)
theorem dX1_changes_58 : decode cX1_changes 58 = .ok (.iload_n 1, 1) := dk_27 (dk_at dksX1_changes_2 11 rfl rfl)
theorem dX1_changes_59 : decode cX1_changes 59 = .ok (.iload_n 3, 1) := dk_29 (dk_at dksX1_changes_2 12 rfl rfl)
theorem dX1_changes_60 : decode cX1_changes 60 = .ok (.invokevirtual 236, 3) := dk_182 0 236 (dk_at dksX1_changes_2 13 rfl rfl)
theorem dX1_changes_63 : decode cX1_changes 63 = .ok (.istore 5, 2) := dk_54 5 (dk_at dksX1_changes_2 16 rfl rfl)
theorem dX1_changes_65 : decode cX1_changes 65 = .ok (.iload_n 2, 1) := dk_28 (dk_at dksX1_changes_2 18 rfl rfl)
theorem dX1_changes_66 : decode cX1_changes 66 = .ok (.iload 4, 2) := dk_21 4 (dk_at dksX1_changes_2 19 rfl rfl)
theorem dX1_changes_68 : decode cX1_changes 68 = .ok (.bipush (-2), 2) := dk_16 254 (dk_at dksX1_changes_2 21 rfl rfl)
theorem dX1_changes_70 : decode cX1_changes 70 = .ok (.if_icmp .eq 21, 3) := dk_159 0 21 (dk_at dksX1_changes_3 0 rfl rfl)
theorem dX1_changes_73 : decode cX1_changes 73 = .ok (.iload 5, 2) := dk_21 5 (dk_at dksX1_changes_3 3 rfl rfl)
theorem dX1_changes_75 : decode cX1_changes 75 = .ok (.bipush (-2), 2) := dk_16 254 (dk_at dksX1_changes_3 5 rfl rfl)
theorem dX1_changes_77 : decode cX1_changes 77 = .ok (.if_icmp .eq 14, 3) := dk_159 0 14 (dk_at dksX1_changes_3 7 rfl rfl)
theorem dX1_changes_80 : decode cX1_changes 80 = .ok (.iload 4, 2) := dk_21 4 (dk_at dksX1_changes_3 10 rfl rfl)
theorem dX1_changes_82 : decode cX1_changes 82 = .ok (.iload 5, 2) := dk_21 5 (dk_at dksX1_changes_3 12 rfl rfl)
theorem dX1_changes_84 : decode cX1_changes 84 = .ok (.if_icmp .eq 7, 3) := dk_159 0 7 (dk_at dksX1_changes_3 14 rfl rfl)
theorem dX1_changes_87 : decode cX1_changes 87 = .ok (.iconst 1, 1) := dk_4 (dk_at dksX1_changes_3 17 rfl rfl)
theorem dX1_changes_88 : decode cX1_changes 88 = .ok (.goto 4, 3) := dk_167 0 4 (dk_at dksX1_changes_3 18 rfl rfl)
theorem dX1_changes_91 : decode cX1_changes 91 = .ok (.iconst 0, 1) := dk_3 (dk_at dksX1_changes_3 21 rfl rfl)
theorem dX1_changes_92 : decode cX1_changes 92 = .ok (.iadd, 1) := dk_96 (dk_at dksX1_changes_3 22 rfl rfl)
theorem dX1_changes_93 : decode cX1_changes 93 = .ok (.istore_n 2, 1) := dk_61 (dk_at dksX1_changes_3 23 rfl rfl)
theorem dX1_changes_94 : decode cX1_changes 94 = .ok (.iinc 3 1, 3) := dk_132 3 1 (dk_at dksX1_changes_4 0 rfl rfl)
theorem dX1_changes_97 : decode cX1_changes 97 = .ok (.goto (-79), 3) := dk_167 255 177 (dk_at dksX1_changes_4 3 rfl rfl)
theorem dX1_changes_100 : decode cX1_changes 100 = .ok (.aload_n 0, 1) := dk_42 (dk_at dksX1_changes_4 6 rfl rfl)
theorem dX1_changes_101 : decode cX1_changes 101 = .ok (.iload_n 2, 1) := dk_28 (dk_at dksX1_changes_4 7 rfl rfl)
theorem dX1_changes_102 : decode cX1_changes 102 = .ok (.invokevirtual 83, 3) := dk_182 0 83 (dk_at dksX1_changes_4 8 rfl rfl)
theorem dX1_changes_105 : decode cX1_changes 105 = .ok (.ireturn, 1) := dk_172 (dk_at dksX1_changes_4 11 rfl rfl)
theorem md_X1_changes : xMd yX1_changes cX1_changes 6 (Option.some Jvm.ClassFile.FieldType.int) 1 := ⟨q2129, q123, by decide, by decide +kernel, by decide +kernel, by decide +kernel⟩
def f_X1_changes_92 (a0 : Nat) (k18 : Int32 × Int32 × Int32 × PH → Option (xO × PH)) (v1 : Int32) (v3 : Int32) (w0 : Int32) (w1 : Int32) (p0 : PH) : Option (xO × PH) :=
  (bnd (w0 + w1) fun x22 =>
  (bnd (v3 + 1) fun x23 =>
  (k18 (v1, x22, x23, p0))))
def f_X1_changes_91 (a0 : Nat) (k18 : Int32 × Int32 × Int32 × PH → Option (xO × PH)) (v1 : Int32) (v3 : Int32) (w0 : Int32) (p0 : PH) : Option (xO × PH) :=
  (f_X1_changes_92 a0 k18 v1 v3 w0 0 p0)
def f_X1_changes_18F (a0 : Nat)  (k18 : Int32 × Int32 × Int32 × PH → Option (xO × PH)) (p : Int32 × Int32 × Int32 × PH) : Option (xO × PH) := match p with
  | (v1, v2, v3, p0) => (xgR p0 a0 0 5 fun x3 =>
  (xnul x3 none fun b4 =>
  (xgR p0 b4 3 0 fun x5 =>
  (xnul x5 none fun b6 =>
  (xcR (f_J3_get p0 b6 v1) fun x8 p7 =>
  (xcst p7 (x8) [5]
  (xnul x8 none fun b9 =>
  (xcI (f_X6_size p7 b9 ) fun x11 p10 =>
  (if x11 < v3 then
  (xcI (f_X1_fine p10 a0 v2) fun x13 p12 =>
  (rI x13 p12)) else
  (xgR p10 a0 0 5 fun x14 =>
  (xnul x14 none fun b15 =>
  (xcI (f_X4_leads p10 b15 v1 (v3 - 1)) fun x17 p16 =>
  (xgR p16 a0 0 5 fun x18 =>
  (xnul x18 none fun b19 =>
  (xcI (f_X4_leads p16 b19 v1 v3) fun x21 p20 =>
  (if x17 = (-2) then
  (f_X1_changes_91 a0 k18 v1 v3 v2 p20) else
  (if x21 = (-2) then
  (f_X1_changes_91 a0 k18 v1 v3 v2 p20) else
  (if x17 = x21 then
  (f_X1_changes_91 a0 k18 v1 v3 v2 p20) else
  (f_X1_changes_92 a0 k18 v1 v3 v2 1 p20)))))))))))))))))))
def f_X1_changes (p0 : PH) (a0 : Nat) (a1 : Int32) : Option (xO × PH) :=
  (xcl1 p0 a0 0 (xcI (f_X1_isCourse p0 a0 a1) fun x2 p1 =>
  (if x2 = 0 then
  (xcI (f_X1_refused p1 a0 1) fun x25 p24 =>
  (rI x25 p24)) else
  (lp (f_X1_changes_18F a0) FU (a1, 0, 1, p1)))))
theorem rc_X1_changes {p0 : PH} {a0 : Nat} {a1 : Int32} : ∀ z, f_X1_changes p0 a0 a1 = some z → xco p0 a0 = some 0 := fun z h => xcl1_some h
theorem f_X1_changes_92_ok {G : xG} (hO : xOK G) (a0 : Nat) {k18 : Int32 × Int32 × Int32 × PH → Option (xO × PH)} (hk18 : ∀ (v1 : Int32) (v2 : Int32) (v3 : Int32) (p0 : PH), X G "ForestLegs" "changes" cX1_changes 6 (Option.some Jvm.ClassFile.FieldType.int) 11 18 [(0, .ref a0), (1, .int v1), (2, .int v2), (3, .int v3)] [] p0 (k18 (v1, v2, v3, p0))) (v1 : Int32) (v3 : Int32) (w0 : Int32) (w1 : Int32) (p0 : PH) : X G "ForestLegs" "changes" cX1_changes 6 (Option.some Jvm.ClassFile.FieldType.int) 11 92 [(0, .ref a0), (1, .int v1), (3, .int v3)] [.int w1, .int w0] p0 (f_X1_changes_92 a0 k18 v1 v3 w0 w1 p0) := by
  unfold f_X1_changes_92
  refine x_iadd dX1_changes_92 (n := 93) rfl ?_
  refine x_nm (fun x22 => ?_)
  refine x_istore_n [(2, .int x22), (0, .ref a0), (1, .int v1), (3, .int v3)] dX1_changes_93 rfl (by decide) rfl (n := 94) rfl ?_
  refine x_iincB 3 (fun x23 => [(3, .int x23), (2, .int x22), (0, .ref a0), (1, .int v1)]) dX1_changes_94 rfl rfl (by decide) (fun _ => rfl) (n := 97) rfl (fun x23 => ?_)
  refine x_goto dX1_changes_97 (n := 18) (by decide) ?_
  refine x_sub [2, 3, 1, 0] [(0, .ref a0), (1, .int v1), (2, .int x22), (3, .int x23)] rfl ?_
  exact hk18 v1 x22 x23 p0
theorem f_X1_changes_91_ok {G : xG} (hO : xOK G) (a0 : Nat) {k18 : Int32 × Int32 × Int32 × PH → Option (xO × PH)} (hk18 : ∀ (v1 : Int32) (v2 : Int32) (v3 : Int32) (p0 : PH), X G "ForestLegs" "changes" cX1_changes 6 (Option.some Jvm.ClassFile.FieldType.int) 11 18 [(0, .ref a0), (1, .int v1), (2, .int v2), (3, .int v3)] [] p0 (k18 (v1, v2, v3, p0))) (v1 : Int32) (v3 : Int32) (w0 : Int32) (p0 : PH) : X G "ForestLegs" "changes" cX1_changes 6 (Option.some Jvm.ClassFile.FieldType.int) 11 91 [(0, .ref a0), (1, .int v1), (3, .int v3)] [.int w0] p0 (f_X1_changes_91 a0 k18 v1 v3 w0 p0) := by
  unfold f_X1_changes_91
  refine x_iconst 0 dX1_changes_91 rfl (n := 92) rfl ?_
  exact f_X1_changes_92_ok hO a0 hk18 v1 v3 w0 0 p0
theorem f_X1_changes_18F_ok {G : xG} (hO : xOK G) (a0 : Nat)  {k18 : Int32 × Int32 × Int32 × PH → Option (xO × PH)} (hk18 : ∀ (v1 : Int32) (v2 : Int32) (v3 : Int32) (p0 : PH), X G "ForestLegs" "changes" cX1_changes 6 (Option.some Jvm.ClassFile.FieldType.int) 11 18 [(0, .ref a0), (1, .int v1), (2, .int v2), (3, .int v3)] [] p0 (k18 (v1, v2, v3, p0))) (v1 : Int32) (v2 : Int32) (v3 : Int32) (p0 : PH) : X G "ForestLegs" "changes" cX1_changes 6 (Option.some Jvm.ClassFile.FieldType.int) 11 18 [(0, .ref a0), (1, .int v1), (2, .int v2), (3, .int v3)] [] p0 (f_X1_changes_18F a0 k18 (v1, v2, v3, p0)) := by
  unfold f_X1_changes_18F
  refine x_iload_n 3 dX1_changes_18 rfl rfl (n := 19) rfl ?_
  refine x_aload_nr 0 dX1_changes_19 rfl rfl (n := 20) rfl ?_
  refine x_getR fl_X1_56 dX1_changes_20 (n := 23) rfl (fun x3 => ?_)
  refine x_sm (fun b4 e => ?_)
  subst e
  refine x_getR fl_X1_86 dX1_changes_23 (n := 26) rfl (fun x5 => ?_)
  refine x_iload_n 1 dX1_changes_26 rfl rfl (n := 27) rfl ?_
  refine x_sm (fun b6 e => ?_)
  subst e
  refine x_callF_R [.int v1] [.int v3] (f_J3_get_ok hO p0 b6 v1) rc_J3_get md_J3_get rfl q1497 fc_java_util_ArrayList_java_util_List_get_1_ILjava dX1_changes_27 rfl rfl (by decide) (Nat.le_of_ble_eq_true rfl) (n := 32) rfl (fun x8 p7 => ?_)
  refine x_cast (x := x8) (cs := [5]) q1574 cst_ForestLegs_Course dX1_changes_32 (n := 35) rfl ?_
  refine x_sm (fun b9 e => ?_)
  subst e
  refine x_callV_I [] [.int v3] (f_X6_size_ok hO p7 b9 ) rc_X6_size md_X6_size rfl q1575 q1199 q1200 dX1_changes_35 rfl rfl (by decide) (Nat.le_of_ble_eq_true rfl) (n := 38) rfl (fun x11 p10 => ?_)
  refine x_icmp_gt dX1_changes_38 (t := 100) (by decide) (n := 41) rfl (fun _ => ?_) (fun _ => ?_)
  · refine x_aload_nr 0 dX1_changes_100 rfl rfl (n := 101) rfl ?_
    refine x_iload_n 2 dX1_changes_101 rfl rfl (n := 102) rfl ?_
    refine x_callV_I [.int v2] [] (f_X1_fine_ok hO p10 a0 v2) rc_X1_fine md_X1_fine rfl q1480 q1482 qs26 dX1_changes_102 rfl rfl (by decide) (Nat.le_of_ble_eq_true rfl) (n := 105) rfl (fun x13 p12 => ?_)
    exact x_ireturn dX1_changes_105
  · refine x_aload_nr 0 dX1_changes_41 rfl rfl (n := 42) rfl ?_
    refine x_getR fl_X1_56 dX1_changes_42 (n := 45) rfl (fun x14 => ?_)
    refine x_iload_n 1 dX1_changes_45 rfl rfl (n := 46) rfl ?_
    refine x_iload_n 3 dX1_changes_46 rfl rfl (n := 47) rfl ?_
    refine x_iconst 1 dX1_changes_47 rfl (n := 48) rfl ?_
    refine x_isub dX1_changes_48 (n := 49) rfl ?_
    refine x_sm (fun b15 e => ?_)
    subst e
    refine x_callV_I [.int v1, .int (v3 - 1)] [] (f_X4_leads_ok hO p10 b15 v1 (v3 - 1)) rc_X4_leads md_X4_leads rfl q1989 q1990 q1991 dX1_changes_49 rfl rfl (by decide) (Nat.le_of_ble_eq_true rfl) (n := 52) rfl (fun x17 p16 => ?_)
    refine x_istore [(4, .int x17), (0, .ref a0), (1, .int v1), (2, .int v2), (3, .int v3)] dX1_changes_52 (by decide) rfl (n := 54) rfl ?_
    refine x_aload_nr 1 dX1_changes_54 rfl rfl (n := 55) rfl ?_
    refine x_getR fl_X1_56 dX1_changes_55 (n := 58) rfl (fun x18 => ?_)
    refine x_iload_n 2 dX1_changes_58 rfl rfl (n := 59) rfl ?_
    refine x_iload_n 4 dX1_changes_59 rfl rfl (n := 60) rfl ?_
    refine x_sm (fun b19 e => ?_)
    subst e
    refine x_callV_I [.int v1, .int v3] [] (f_X4_leads_ok hO p16 b19 v1 v3) rc_X4_leads md_X4_leads rfl q1989 q1990 q1991 dX1_changes_60 rfl rfl (by decide) (Nat.le_of_ble_eq_true rfl) (n := 63) rfl (fun x21 p20 => ?_)
    refine x_istore [(5, .int x21), (4, .int x17), (0, .ref a0), (1, .int v1), (2, .int v2), (3, .int v3)] dX1_changes_63 (by decide) rfl (n := 65) rfl ?_
    refine x_iload_n 4 dX1_changes_65 rfl rfl (n := 66) rfl ?_
    refine x_iload 1 dX1_changes_66 rfl (n := 68) rfl ?_
    refine x_bipush (-2) dX1_changes_68 rfl (n := 70) rfl ?_
    refine x_icmp_eq dX1_changes_70 (t := 91) (by decide) (n := 73) rfl (fun _ => ?_) (fun _ => ?_)
    · refine x_sub [2, 3, 5] [(0, .ref a0), (1, .int v1), (3, .int v3)] rfl ?_
      exact f_X1_changes_91_ok hO a0 hk18 v1 v3 v2 p20
    · refine x_iload 0 dX1_changes_73 rfl (n := 75) rfl ?_
      refine x_bipush (-2) dX1_changes_75 rfl (n := 77) rfl ?_
      refine x_icmp_eq dX1_changes_77 (t := 91) (by decide) (n := 80) rfl (fun _ => ?_) (fun _ => ?_)
      · refine x_sub [2, 3, 5] [(0, .ref a0), (1, .int v1), (3, .int v3)] rfl ?_
        exact f_X1_changes_91_ok hO a0 hk18 v1 v3 v2 p20
      · refine x_iload 1 dX1_changes_80 rfl (n := 82) rfl ?_
        refine x_iload 0 dX1_changes_82 rfl (n := 84) rfl ?_
        refine x_icmp_eq dX1_changes_84 (t := 91) (by decide) (n := 87) rfl (fun _ => ?_) (fun _ => ?_)
        · refine x_sub [2, 3, 5] [(0, .ref a0), (1, .int v1), (3, .int v3)] rfl ?_
          exact f_X1_changes_91_ok hO a0 hk18 v1 v3 v2 p20
        · refine x_iconst 1 dX1_changes_87 rfl (n := 88) rfl ?_
          refine x_goto dX1_changes_88 (n := 92) (by decide) ?_
          refine x_sub [2, 3, 5] [(0, .ref a0), (1, .int v1), (3, .int v3)] rfl ?_
          exact f_X1_changes_92_ok hO a0 hk18 v1 v3 v2 1 p20
theorem f_X1_changes_18_lp {G : xG} (hO : xOK G) (a0 : Nat)  (n : Nat) (v1 : Int32) (v2 : Int32) (v3 : Int32) (p0 : PH) : X G "ForestLegs" "changes" cX1_changes 6 (Option.some Jvm.ClassFile.FieldType.int) 11 18 [(0, .ref a0), (1, .int v1), (2, .int v2), (3, .int v3)] [] p0 (lp (f_X1_changes_18F a0) n (v1, v2, v3, p0)) :=
  lp_ok (W := fun p K => X G "ForestLegs" "changes" cX1_changes 6 (Option.some Jvm.ClassFile.FieldType.int) 11 18 [(0, .ref a0), (1, .int p.1), (2, .int p.2.1), (3, .int p.2.2.1)] [] p.2.2.2 K) (fun _ => x_no) (fun k hk => fun (v1, v2, v3, p0) => f_X1_changes_18F_ok hO a0 (fun v1 v2 v3 p0 => hk (v1, v2, v3, p0)) v1 v2 v3 p0) n (v1, v2, v3, p0)
theorem f_X1_changes_ok {G : xG} (hO : xOK G) (p0 : PH) (a0 : Nat) (a1 : Int32) : CT G 11 yX1_changes cX1_changes 6 (Option.some Jvm.ClassFile.FieldType.int) [.ref a0, .int a1] p0 (f_X1_changes p0 a0 a1) := by
  refine CT_of hO (by decide +kernel) (by decide +kernel) (Nat.le_of_ble_eq_true rfl) ?_
  show X G "ForestLegs" "changes" cX1_changes 6 (Option.some Jvm.ClassFile.FieldType.int) 11 0 [(0, .ref a0), (1, .int a1)] [] p0 (f_X1_changes p0 a0 a1)
  refine x_cl1 (fun e0 => ?_)
  refine x_aload_nr 0 dX1_changes_0 rfl rfl (n := 1) rfl ?_
  refine x_iload_n 1 dX1_changes_1 rfl rfl (n := 2) rfl ?_
  refine x_callV_I [.int a1] [] (f_X1_isCourse_ok hO p0 a0 a1) rc_X1_isCourse md_X1_isCourse rfl q1566 q1568 qs29 dX1_changes_2 rfl rfl (by decide) (Nat.le_of_ble_eq_true rfl) (n := 5) rfl (fun x2 p1 => ?_)
  refine x_if_ne dX1_changes_5 (t := 14) (by decide) (n := 8) rfl (fun _ => ?_) (fun _ => ?_)
  · refine x_iconst 0 dX1_changes_14 rfl (n := 15) rfl ?_
    refine x_istore_n [(2, .int 0), (0, .ref a0), (1, .int a1)] dX1_changes_15 rfl (by decide) rfl (n := 16) rfl ?_
    refine x_iconst 1 dX1_changes_16 rfl (n := 17) rfl ?_
    refine x_istore_n [(3, .int 1), (2, .int 0), (0, .ref a0), (1, .int a1)] dX1_changes_17 rfl (by decide) rfl (n := 18) rfl ?_
    refine x_sub [2, 3, 1, 0] [(0, .ref a0), (1, .int a1), (2, .int 0), (3, .int 1)] rfl ?_
    exact f_X1_changes_18_lp hO a0 FU a1 0 1 p1
  · refine x_aload_nr 0 dX1_changes_8 rfl rfl (n := 9) rfl ?_
    refine x_iconst 1 dX1_changes_9 rfl (n := 10) rfl ?_
    refine x_callV_I [.int 1] [] (f_X1_refused_ok hO p1 a0 1) rc_X1_refused md_X1_refused rfl q250 q252 qs0 dX1_changes_10 rfl rfl (by decide) (Nat.le_of_ble_eq_true rfl) (n := 13) rfl (fun x25 p24 => ?_)
    exact x_ireturn dX1_changes_13
abbrev cX1_ranked : ByteArray := prog_1_method_33_code
def yX1_ranked : MethodName := ⟨RX1, "ranked", "(II)I"⟩
def dkwX1_ranked_2 : List UInt8 := [167, 0, 5, 16, 254, 182, 0, 83, 172]
abbrev dktX1_ranked_2 : List UInt8 := dkwX1_ranked_2 ++ []
def dkwX1_ranked_1 : List UInt8 := [42, 28, 45, 185, 0, 77, 1, 0, 162, 0, 19, 45, 28, 185, 0, 93, 2, 0, 192, 0, 132, 182, 0, 158]
abbrev dktX1_ranked_1 : List UInt8 := dkwX1_ranked_1 ++ dktX1_ranked_2
def dkwX1_ranked_0 : List UInt8 := [42, 27, 182, 0, 89, 153, 0, 7, 28, 156, 0, 9, 42, 4, 182, 0, 40, 172, 42, 27, 182, 0, 150, 78]
abbrev dktX1_ranked_0 : List UInt8 := dkwX1_ranked_0 ++ dktX1_ranked_1
theorem dksX1_ranked_0 : cX1_ranked.data.toList.drop 0 = dktX1_ranked_0 := by decide +kernel
theorem dksX1_ranked_1 : cX1_ranked.data.toList.drop 24 = dktX1_ranked_1 := dk_seg dksX1_ranked_0 24 rfl rfl
theorem dksX1_ranked_2 : cX1_ranked.data.toList.drop 48 = dktX1_ranked_2 := dk_seg dksX1_ranked_1 24 rfl rfl
theorem dX1_ranked_0 : decode cX1_ranked 0 = .ok (.aload_n 0, 1) := dk_42 (dk_at dksX1_ranked_0 0 rfl rfl)
theorem dX1_ranked_1 : decode cX1_ranked 1 = .ok (.iload_n 1, 1) := dk_27 (dk_at dksX1_ranked_0 1 rfl rfl)
theorem dX1_ranked_2 : decode cX1_ranked 2 = .ok (.invokevirtual 89, 3) := dk_182 0 89 (dk_at dksX1_ranked_0 2 rfl rfl)
theorem dX1_ranked_5 : decode cX1_ranked 5 = .ok (.ifCond .eq 7, 3) := dk_153 0 7 (dk_at dksX1_ranked_0 5 rfl rfl)
theorem dX1_ranked_8 : decode cX1_ranked 8 = .ok (.iload_n 2, 1) := dk_28 (dk_at dksX1_ranked_0 8 rfl rfl)
theorem dX1_ranked_9 : decode cX1_ranked 9 = .ok (.ifCond .ge 9, 3) := dk_156 0 9 (dk_at dksX1_ranked_0 9 rfl rfl)
theorem dX1_ranked_12 : decode cX1_ranked 12 = .ok (.aload_n 0, 1) := dk_42 (dk_at dksX1_ranked_0 12 rfl rfl)
theorem dX1_ranked_13 : decode cX1_ranked 13 = .ok (.iconst 1, 1) := dk_4 (dk_at dksX1_ranked_0 13 rfl rfl)
theorem dX1_ranked_14 : decode cX1_ranked 14 = .ok (.invokevirtual 40, 3) := dk_182 0 40 (dk_at dksX1_ranked_0 14 rfl rfl)
theorem dX1_ranked_17 : decode cX1_ranked 17 = .ok (.ireturn, 1) := dk_172 (dk_at dksX1_ranked_0 17 rfl rfl)
theorem dX1_ranked_18 : decode cX1_ranked 18 = .ok (.aload_n 0, 1) := dk_42 (dk_at dksX1_ranked_0 18 rfl rfl)
theorem dX1_ranked_19 : decode cX1_ranked 19 = .ok (.iload_n 1, 1) := dk_27 (dk_at dksX1_ranked_0 19 rfl rfl)
theorem dX1_ranked_20 : decode cX1_ranked 20 = .ok (.invokevirtual 150, 3) := dk_182 0 150 (dk_at dksX1_ranked_0 20 rfl rfl)
theorem dX1_ranked_23 : decode cX1_ranked 23 = .ok (.astore_n 3, 1) := dk_78 (dk_at dksX1_ranked_0 23 rfl rfl)
theorem dX1_ranked_24 : decode cX1_ranked 24 = .ok (.aload_n 0, 1) := dk_42 (dk_at dksX1_ranked_1 0 rfl rfl)
theorem dX1_ranked_25 : decode cX1_ranked 25 = .ok (.iload_n 2, 1) := dk_28 (dk_at dksX1_ranked_1 1 rfl rfl)
theorem dX1_ranked_26 : decode cX1_ranked 26 = .ok (.aload_n 3, 1) := dk_45 (dk_at dksX1_ranked_1 2 rfl rfl)
theorem dX1_ranked_27 : decode cX1_ranked 27 = .ok (.invokeinterface 77 1, 5) := by decide +kernel
theorem dX1_ranked_32 : decode cX1_ranked 32 = .ok (.if_icmp .ge 19, 3) := dk_162 0 19 (dk_at dksX1_ranked_1 8 rfl rfl)
theorem dX1_ranked_35 : decode cX1_ranked 35 = .ok (.aload_n 3, 1) := dk_45 (dk_at dksX1_ranked_1 11 rfl rfl)
theorem dX1_ranked_36 : decode cX1_ranked 36 = .ok (.iload_n 2, 1) := dk_28 (dk_at dksX1_ranked_1 12 rfl rfl)
theorem dX1_ranked_37 : decode cX1_ranked 37 = .ok (.invokeinterface 93 2, 5) := by decide +kernel
theorem dX1_ranked_42 : decode cX1_ranked 42 = .ok (.checkcast 132, 3) := dk_192 0 132 (dk_at dksX1_ranked_1 18 rfl rfl)
theorem dX1_ranked_45 : decode cX1_ranked 45 = .ok (.invokevirtual 158, 3) := dk_182 0 158 (dk_at dksX1_ranked_1 21 rfl rfl)
theorem dX1_ranked_48 : decode cX1_ranked 48 = .ok (.goto 5, 3) := dk_167 0 5 (dk_at dksX1_ranked_2 0 rfl rfl)
theorem dX1_ranked_51 : decode cX1_ranked 51 = .ok (.bipush (-2), 2) := dk_16 254 (dk_at dksX1_ranked_2 3 rfl rfl)
theorem dX1_ranked_53 : decode cX1_ranked 53 = .ok (.invokevirtual 83, 3) := dk_182 0 83 (dk_at dksX1_ranked_2 5 rfl rfl)
theorem dX1_ranked_56 : decode cX1_ranked 56 = .ok (.ireturn, 1) := dk_172 (dk_at dksX1_ranked_2 8 rfl rfl)
theorem md_X1_ranked : xMd yX1_ranked cX1_ranked 4 (Option.some Jvm.ClassFile.FieldType.int) 2 := ⟨q2133, q123, by decide, by decide +kernel, by decide +kernel, by decide +kernel⟩
def f_X1_ranked_12 (a0 : Nat)   (p0 : PH) : Option (xO × PH) :=
  (xcI (f_X1_refused p0 a0 1) fun x4 p3 =>
  (rI x4 p3))
def f_X1_ranked_53 (a0 : Nat)  (w1 : Int32) (p0 : PH) : Option (xO × PH) :=
  (xcI (f_X1_fine p0 a0 w1) fun x11 p10 =>
  (rI x11 p10))
def f_X1_ranked (p0 : PH) (a0 : Nat) (a1 : Int32) (a2 : Int32) : Option (xO × PH) :=
  (xcl1 p0 a0 0 (xcI (f_X1_isCourse p0 a0 a1) fun x2 p1 =>
  (if x2 = 0 then
  (f_X1_ranked_12 a0  p1) else
  (if 0 ≤ a2 then
  (xcR (f_X1_rankedOn p1 a0 a1) fun x6 p5 =>
  (xnul x6 none fun b7 =>
  (xcI (f_J3_size p5 b7 ) fun x9 p8 =>
  (if x9 ≤ a2 then
  (f_X1_ranked_53 a0 (-2) p8) else
  (xcR (f_J3_get p8 b7 a2) fun x13 p12 =>
  (xcst p12 (x13) [18]
  (xnul x13 none fun b14 =>
  (xcI (f_J19_intValue p12 b14 ) fun x16 p15 =>
  (f_X1_ranked_53 a0 x16 p15))))))))) else
  (f_X1_ranked_12 a0  p1)))))
theorem rc_X1_ranked {p0 : PH} {a0 : Nat} {a1 : Int32} {a2 : Int32} : ∀ z, f_X1_ranked p0 a0 a1 a2 = some z → xco p0 a0 = some 0 := fun z h => xcl1_some h
theorem f_X1_ranked_12_ok {G : xG} (hO : xOK G) (a0 : Nat)   (p0 : PH) : X G "ForestLegs" "ranked" cX1_ranked 4 (Option.some Jvm.ClassFile.FieldType.int) 10 12 [(0, .ref a0)] [] p0 (f_X1_ranked_12 a0  p0) := by
  unfold f_X1_ranked_12
  refine x_aload_nr 0 dX1_ranked_12 rfl rfl (n := 13) rfl ?_
  refine x_iconst 1 dX1_ranked_13 rfl (n := 14) rfl ?_
  refine x_callV_I [.int 1] [] (f_X1_refused_ok hO p0 a0 1) rc_X1_refused md_X1_refused rfl q250 q252 qs0 dX1_ranked_14 rfl rfl (by decide) (Nat.le_of_ble_eq_true rfl) (n := 17) rfl (fun x4 p3 => ?_)
  exact x_ireturn dX1_ranked_17
theorem f_X1_ranked_53_ok {G : xG} (hO : xOK G) (a0 : Nat)  (w1 : Int32) (p0 : PH) : X G "ForestLegs" "ranked" cX1_ranked 4 (Option.some Jvm.ClassFile.FieldType.int) 10 53 [] [.int w1, .ref a0] p0 (f_X1_ranked_53 a0 w1 p0) := by
  unfold f_X1_ranked_53
  refine x_callV_I [.int w1] [] (f_X1_fine_ok hO p0 a0 w1) rc_X1_fine md_X1_fine rfl q1480 q1482 qs26 dX1_ranked_53 rfl rfl (by decide) (Nat.le_of_ble_eq_true rfl) (n := 56) rfl (fun x11 p10 => ?_)
  exact x_ireturn dX1_ranked_56
theorem f_X1_ranked_ok {G : xG} (hO : xOK G) (p0 : PH) (a0 : Nat) (a1 : Int32) (a2 : Int32) : CT G 10 yX1_ranked cX1_ranked 4 (Option.some Jvm.ClassFile.FieldType.int) [.ref a0, .int a1, .int a2] p0 (f_X1_ranked p0 a0 a1 a2) := by
  refine CT_of hO (by decide +kernel) (by decide +kernel) (Nat.le_of_ble_eq_true rfl) ?_
  show X G "ForestLegs" "ranked" cX1_ranked 4 (Option.some Jvm.ClassFile.FieldType.int) 10 0 [(0, .ref a0), (1, .int a1), (2, .int a2)] [] p0 (f_X1_ranked p0 a0 a1 a2)
  refine x_cl1 (fun e0 => ?_)
  refine x_aload_nr 0 dX1_ranked_0 rfl rfl (n := 1) rfl ?_
  refine x_iload_n 1 dX1_ranked_1 rfl rfl (n := 2) rfl ?_
  refine x_callV_I [.int a1] [] (f_X1_isCourse_ok hO p0 a0 a1) rc_X1_isCourse md_X1_isCourse rfl q1566 q1568 qs29 dX1_ranked_2 rfl rfl (by decide) (Nat.le_of_ble_eq_true rfl) (n := 5) rfl (fun x2 p1 => ?_)
  refine x_if_eq dX1_ranked_5 (t := 12) (by decide) (n := 8) rfl (fun _ => ?_) (fun _ => ?_)
  · refine x_sub [0] [(0, .ref a0)] rfl ?_
    exact f_X1_ranked_12_ok hO a0  p1
  · refine x_iload_n 2 dX1_ranked_8 rfl rfl (n := 9) rfl ?_
    refine x_if_ge dX1_ranked_9 (t := 18) (by decide) (n := 12) rfl (fun _ => ?_) (fun _ => ?_)
    · refine x_aload_nr 0 dX1_ranked_18 rfl rfl (n := 19) rfl ?_
      refine x_iload_n 1 dX1_ranked_19 rfl rfl (n := 20) rfl ?_
      refine x_callV_R [.int a1] [] (f_X1_rankedOn_ok hO p1 a0 a1) rc_X1_rankedOn md_X1_rankedOn rfl q1576 q1578 qs30 dX1_ranked_20 rfl rfl (by decide) (Nat.le_of_ble_eq_true rfl) (n := 23) rfl (fun x6 p5 => ?_)
      refine x_astore_n [(3, va_rf x6), (0, .ref a0), (1, .int a1), (2, .int a2)] dX1_ranked_23 rfl (by decide) rfl (n := 24) rfl ?_
      refine x_aload_nr 1 dX1_ranked_24 rfl rfl (n := 25) rfl ?_
      refine x_iload_n 3 dX1_ranked_25 rfl rfl (n := 26) rfl ?_
      refine x_aload_n 0 dX1_ranked_26 rfl rfl (n := 27) rfl ?_
      refine x_sm (fun b7 e => ?_)
      subst e
      refine x_callF_I [] [.int a2, .ref a0] (f_J3_size_ok hO p5 b7 ) rc_J3_size md_J3_size rfl q1479 fc_java_util_ArrayList_java_util_List_size_0_I dX1_ranked_27 rfl rfl (by decide) (Nat.le_of_ble_eq_true rfl) (n := 32) rfl (fun x9 p8 => ?_)
      refine x_icmp_ge dX1_ranked_32 (t := 51) (by decide) (n := 35) rfl (fun _ => ?_) (fun _ => ?_)
      · refine x_bipush (-2) dX1_ranked_51 rfl (n := 53) rfl ?_
        refine x_sub [] [] rfl ?_
        exact f_X1_ranked_53_ok hO a0 (-2) p8
      · refine x_aload_nr 0 dX1_ranked_35 rfl rfl (n := 36) rfl ?_
        refine x_iload_n 3 dX1_ranked_36 rfl rfl (n := 37) rfl ?_
        refine x_callF_R [.int a2] [.ref a0] (f_J3_get_ok hO p8 b7 a2) rc_J3_get md_J3_get rfl q1497 fc_java_util_ArrayList_java_util_List_get_1_ILjava dX1_ranked_37 rfl rfl (by decide) (Nat.le_of_ble_eq_true rfl) (n := 42) rfl (fun x13 p12 => ?_)
        refine x_cast (x := x13) (cs := [18]) q1764 cst_java_lang_Integer dX1_ranked_42 (n := 45) rfl ?_
        refine x_sm (fun b14 e => ?_)
        subst e
        refine x_callV_I [] [.ref a0] (f_J19_intValue_ok hO p12 b14 ) rc_J19_intValue md_J19_intValue rfl q1765 q941 q942 dX1_ranked_45 rfl rfl (by decide) (Nat.le_of_ble_eq_true rfl) (n := 48) rfl (fun x16 p15 => ?_)
        refine x_goto dX1_ranked_48 (n := 53) (by decide) ?_
        refine x_sub [] [] rfl ?_
        exact f_X1_ranked_53_ok hO a0 x16 p15
    · refine x_sub [0] [(0, .ref a0)] rfl ?_
      exact f_X1_ranked_12_ok hO a0  p1
abbrev cX1_lost : ByteArray := prog_1_method_34_code
def yX1_lost : MethodName := ⟨RX1, "lost", "(I)I"⟩
def dkwX1_lost_2 : List UInt8 := [96, 61, 132, 3, 1, 167, 255, 221, 42, 28, 182, 0, 83, 172]
abbrev dktX1_lost_2 : List UInt8 := dkwX1_lost_2 ++ []
def dkwX1_lost_1 : List UInt8 := [182, 0, 189, 180, 0, 193, 190, 163, 0, 25, 28, 3, 42, 180, 0, 56, 27, 29, 182, 0, 245, 184, 1, 6]
abbrev dktX1_lost_1 : List UInt8 := dkwX1_lost_1 ++ dktX1_lost_2
def dkwX1_lost_0 : List UInt8 := [42, 27, 182, 0, 100, 154, 0, 9, 42, 4, 182, 0, 40, 172, 3, 61, 3, 62, 29, 42, 180, 0, 56, 27]
abbrev dktX1_lost_0 : List UInt8 := dkwX1_lost_0 ++ dktX1_lost_1
theorem dksX1_lost_0 : cX1_lost.data.toList.drop 0 = dktX1_lost_0 := by decide +kernel
theorem dksX1_lost_1 : cX1_lost.data.toList.drop 24 = dktX1_lost_1 := dk_seg dksX1_lost_0 24 rfl rfl
theorem dksX1_lost_2 : cX1_lost.data.toList.drop 48 = dktX1_lost_2 := dk_seg dksX1_lost_1 24 rfl rfl
theorem dX1_lost_0 : decode cX1_lost 0 = .ok (.aload_n 0, 1) := dk_42 (dk_at dksX1_lost_0 0 rfl rfl)
theorem dX1_lost_1 : decode cX1_lost 1 = .ok (.iload_n 1, 1) := dk_27 (dk_at dksX1_lost_0 1 rfl rfl)
theorem dX1_lost_2 : decode cX1_lost 2 = .ok (.invokevirtual 100, 3) := dk_182 0 100 (dk_at dksX1_lost_0 2 rfl rfl)
theorem dX1_lost_5 : decode cX1_lost 5 = .ok (.ifCond .ne 9, 3) := dk_154 0 9 (dk_at dksX1_lost_0 5 rfl rfl)
theorem dX1_lost_8 : decode cX1_lost 8 = .ok (.aload_n 0, 1) := dk_42 (dk_at dksX1_lost_0 8 rfl rfl)
theorem dX1_lost_9 : decode cX1_lost 9 = .ok (.iconst 1, 1) := dk_4 (dk_at dksX1_lost_0 9 rfl rfl)
theorem dX1_lost_10 : decode cX1_lost 10 = .ok (.invokevirtual 40, 3) := dk_182 0 40 (dk_at dksX1_lost_0 10 rfl rfl)
theorem dX1_lost_13 : decode cX1_lost 13 = .ok (.ireturn, 1) := dk_172 (dk_at dksX1_lost_0 13 rfl rfl)
theorem dX1_lost_14 : decode cX1_lost 14 = .ok (.iconst 0, 1) := dk_3 (dk_at dksX1_lost_0 14 rfl rfl)
theorem dX1_lost_15 : decode cX1_lost 15 = .ok (.istore_n 2, 1) := dk_61 (dk_at dksX1_lost_0 15 rfl rfl)
theorem dX1_lost_16 : decode cX1_lost 16 = .ok (.iconst 0, 1) := dk_3 (dk_at dksX1_lost_0 16 rfl rfl)
theorem dX1_lost_17 : decode cX1_lost 17 = .ok (.istore_n 3, 1) := dk_62 (dk_at dksX1_lost_0 17 rfl rfl)
theorem dX1_lost_18 : decode cX1_lost 18 = .ok (.iload_n 3, 1) := dk_29 (dk_at dksX1_lost_0 18 rfl rfl)
theorem dX1_lost_19 : decode cX1_lost 19 = .ok (.aload_n 0, 1) := dk_42 (dk_at dksX1_lost_0 19 rfl rfl)
theorem dX1_lost_20 : decode cX1_lost 20 = .ok (.getfield 56, 3) := dk_180 0 56 (dk_at dksX1_lost_0 20 rfl rfl)
theorem dX1_lost_23 : decode cX1_lost 23 = .ok (.iload_n 1, 1) := dk_27 (dk_at dksX1_lost_0 23 rfl rfl)
theorem dX1_lost_24 : decode cX1_lost 24 = .ok (.invokevirtual 189, 3) := dk_182 0 189 (dk_at dksX1_lost_1 0 rfl rfl)
theorem dX1_lost_27 : decode cX1_lost 27 = .ok (.getfield 193, 3) := dk_180 0 193 (dk_at dksX1_lost_1 3 rfl rfl)
theorem dX1_lost_30 : decode cX1_lost 30 = .ok (.arraylength, 1) := dk_190 (dk_at dksX1_lost_1 6 rfl rfl)
theorem dX1_lost_31 : decode cX1_lost 31 = .ok (.if_icmp .gt 25, 3) := dk_163 0 25 (dk_at dksX1_lost_1 7 rfl rfl)
theorem dX1_lost_34 : decode cX1_lost 34 = .ok (.iload_n 2, 1) := dk_28 (dk_at dksX1_lost_1 10 rfl rfl)
theorem dX1_lost_35 : decode cX1_lost 35 = .ok (.iconst 0, 1) := dk_3 (dk_at dksX1_lost_1 11 rfl rfl)
theorem dX1_lost_36 : decode cX1_lost 36 = .ok (.aload_n 0, 1) := dk_42 (dk_at dksX1_lost_1 12 rfl rfl)
theorem dX1_lost_37 : decode cX1_lost 37 = .ok (.getfield 56, 3) := dk_180 0 56 (dk_at dksX1_lost_1 13 rfl rfl)
theorem dX1_lost_40 : decode cX1_lost 40 = .ok (.iload_n 1, 1) := dk_27 (dk_at dksX1_lost_1 16 rfl rfl)
theorem dX1_lost_41 : decode cX1_lost 41 = .ok (.iload_n 3, 1) := dk_29 (dk_at dksX1_lost_1 17 rfl rfl)
theorem dX1_lost_42 : decode cX1_lost 42 = .ok (.invokevirtual 245, 3) := dk_182 0 245 (dk_at dksX1_lost_1 18 rfl rfl)
theorem dX1_lost_45 : decode cX1_lost 45 = .ok (.invokestatic 262, 3) := dk_184 1 6 (dk_at dksX1_lost_1 21 rfl rfl)
theorem dX1_lost_48 : decode cX1_lost 48 = .ok (.iadd, 1) := dk_96 (dk_at dksX1_lost_2 0 rfl rfl)
theorem dX1_lost_49 : decode cX1_lost 49 = .ok (.istore_n 2, 1) := dk_61 (dk_at dksX1_lost_2 1 rfl rfl)
theorem dX1_lost_50 : decode cX1_lost 50 = .ok (.iinc 3 1, 3) := dk_132 3 1 (dk_at dksX1_lost_2 2 rfl rfl)
theorem dX1_lost_53 : decode cX1_lost 53 = .ok (.goto (-35), 3) := dk_167 255 221 (dk_at dksX1_lost_2 5 rfl rfl)
theorem dX1_lost_56 : decode cX1_lost 56 = .ok (.aload_n 0, 1) := dk_42 (dk_at dksX1_lost_2 8 rfl rfl)
theorem dX1_lost_57 : decode cX1_lost 57 = .ok (.iload_n 2, 1) := dk_28 (dk_at dksX1_lost_2 9 rfl rfl)
theorem dX1_lost_58 : decode cX1_lost 58 = .ok (.invokevirtual 83, 3) := dk_182 0 83 (dk_at dksX1_lost_2 10 rfl rfl)
theorem dX1_lost_61 : decode cX1_lost 61 = .ok (.ireturn, 1) := dk_172 (dk_at dksX1_lost_2 13 rfl rfl)
theorem md_X1_lost : xMd yX1_lost cX1_lost 4 (Option.some Jvm.ClassFile.FieldType.int) 1 := ⟨q2137, q123, by decide, by decide +kernel, by decide +kernel, by decide +kernel⟩
def f_X1_lost_18F (a0 : Nat)  (k18 : Int32 × Int32 × Int32 × PH → Option (xO × PH)) (p : Int32 × Int32 × Int32 × PH) : Option (xO × PH) := match p with
  | (v1, v2, v3, p0) => (xgR p0 a0 0 5 fun x3 =>
  (xnul x3 none fun b4 =>
  (xcR (f_X4_match p0 b4 v1) fun x6 p5 =>
  (xnul x6 none fun b7 =>
  (xgR p5 b7 8 2 fun x8 =>
  (xnul x8 none fun b9 =>
  (xlen p5 b9 fun x10 =>
  (if x10 < v3 then
  (xcI (f_X1_fine p5 a0 v2) fun x12 p11 =>
  (rI x12 p11)) else
  (xgR p5 a0 0 5 fun x13 =>
  (xnul x13 none fun b14 =>
  (xcI (f_X4_lost p5 b14 v1 v3) fun x16 p15 =>
  (xcI (f_J8_max p15 0 x16) fun x18 p17 =>
  (bnd (v2 + x18) fun x19 =>
  (bnd (v3 + 1) fun x20 =>
  (k18 (v1, x19, x20, p17))))))))))))))))
def f_X1_lost (p0 : PH) (a0 : Nat) (a1 : Int32) : Option (xO × PH) :=
  (xcl1 p0 a0 0 (xcI (f_X1_isRunner p0 a0 a1) fun x2 p1 =>
  (if x2 = 0 then
  (xcI (f_X1_refused p1 a0 1) fun x22 p21 =>
  (rI x22 p21)) else
  (lp (f_X1_lost_18F a0) FU (a1, 0, 0, p1)))))
theorem rc_X1_lost {p0 : PH} {a0 : Nat} {a1 : Int32} : ∀ z, f_X1_lost p0 a0 a1 = some z → xco p0 a0 = some 0 := fun z h => xcl1_some h
theorem f_X1_lost_18F_ok {G : xG} (hO : xOK G) (a0 : Nat)  {k18 : Int32 × Int32 × Int32 × PH → Option (xO × PH)} (hk18 : ∀ (v1 : Int32) (v2 : Int32) (v3 : Int32) (p0 : PH), X G "ForestLegs" "lost" cX1_lost 4 (Option.some Jvm.ClassFile.FieldType.int) 13 18 [(0, .ref a0), (1, .int v1), (2, .int v2), (3, .int v3)] [] p0 (k18 (v1, v2, v3, p0))) (v1 : Int32) (v2 : Int32) (v3 : Int32) (p0 : PH) : X G "ForestLegs" "lost" cX1_lost 4 (Option.some Jvm.ClassFile.FieldType.int) 13 18 [(0, .ref a0), (1, .int v1), (2, .int v2), (3, .int v3)] [] p0 (f_X1_lost_18F a0 k18 (v1, v2, v3, p0)) := by
  unfold f_X1_lost_18F
  refine x_iload_n 3 dX1_lost_18 rfl rfl (n := 19) rfl ?_
  refine x_aload_nr 0 dX1_lost_19 rfl rfl (n := 20) rfl ?_
  refine x_getR fl_X1_56 dX1_lost_20 (n := 23) rfl (fun x3 => ?_)
  refine x_iload_n 1 dX1_lost_23 rfl rfl (n := 24) rfl ?_
  refine x_sm (fun b4 e => ?_)
  subst e
  refine x_callV_R [.int v1] [.int v3] (f_X4_match_ok hO p0 b4 v1) rc_X4_match md_X4_match rfl q1784 q1504 q1505 dX1_lost_24 rfl rfl (by decide) (Nat.le_of_ble_eq_true rfl) (n := 27) rfl (fun x6 p5 => ?_)
  refine x_sm (fun b7 e => ?_)
  subst e
  refine x_getR fl_X1_193 dX1_lost_27 (n := 30) rfl (fun x8 => ?_)
  refine x_sm (fun b9 e => ?_)
  subst e
  refine x_alen dX1_lost_30 (n := 31) rfl (fun x10 => ?_)
  refine x_icmp_gt dX1_lost_31 (t := 56) (by decide) (n := 34) rfl (fun _ => ?_) (fun _ => ?_)
  · refine x_aload_nr 0 dX1_lost_56 rfl rfl (n := 57) rfl ?_
    refine x_iload_n 2 dX1_lost_57 rfl rfl (n := 58) rfl ?_
    refine x_callV_I [.int v2] [] (f_X1_fine_ok hO p5 a0 v2) rc_X1_fine md_X1_fine rfl q1480 q1482 qs26 dX1_lost_58 rfl rfl (by decide) (Nat.le_of_ble_eq_true rfl) (n := 61) rfl (fun x12 p11 => ?_)
    exact x_ireturn dX1_lost_61
  · refine x_iload_n 2 dX1_lost_34 rfl rfl (n := 35) rfl ?_
    refine x_iconst 0 dX1_lost_35 rfl (n := 36) rfl ?_
    refine x_aload_nr 0 dX1_lost_36 rfl rfl (n := 37) rfl ?_
    refine x_getR fl_X1_56 dX1_lost_37 (n := 40) rfl (fun x13 => ?_)
    refine x_iload_n 1 dX1_lost_40 rfl rfl (n := 41) rfl ?_
    refine x_iload_n 3 dX1_lost_41 rfl rfl (n := 42) rfl ?_
    refine x_sm (fun b14 e => ?_)
    subst e
    refine x_callV_I [.int v1, .int v3] [.int 0, .int v2] (f_X4_lost_ok hO p5 b14 v1 v3) rc_X4_lost md_X4_lost rfl q2002 q2003 q2004 dX1_lost_42 rfl rfl (by decide) (Nat.le_of_ble_eq_true rfl) (n := 45) rfl (fun x16 p15 => ?_)
    refine x_callS_I [.int 0, .int x16] [.int v2] (f_J8_max_ok hO p15 0 x16) md_J8_max q2138 q434 dX1_lost_45 rfl rfl (by decide) (Nat.le_of_ble_eq_true rfl) (n := 48) rfl (fun x18 p17 => ?_)
    refine x_iadd dX1_lost_48 (n := 49) rfl ?_
    refine x_nm (fun x19 => ?_)
    refine x_istore_n [(2, .int x19), (0, .ref a0), (1, .int v1), (3, .int v3)] dX1_lost_49 rfl (by decide) rfl (n := 50) rfl ?_
    refine x_iincB 3 (fun x20 => [(3, .int x20), (2, .int x19), (0, .ref a0), (1, .int v1)]) dX1_lost_50 rfl rfl (by decide) (fun _ => rfl) (n := 53) rfl (fun x20 => ?_)
    refine x_goto dX1_lost_53 (n := 18) (by decide) ?_
    refine x_sub [2, 3, 1, 0] [(0, .ref a0), (1, .int v1), (2, .int x19), (3, .int x20)] rfl ?_
    exact hk18 v1 x19 x20 p17
theorem f_X1_lost_18_lp {G : xG} (hO : xOK G) (a0 : Nat)  (n : Nat) (v1 : Int32) (v2 : Int32) (v3 : Int32) (p0 : PH) : X G "ForestLegs" "lost" cX1_lost 4 (Option.some Jvm.ClassFile.FieldType.int) 13 18 [(0, .ref a0), (1, .int v1), (2, .int v2), (3, .int v3)] [] p0 (lp (f_X1_lost_18F a0) n (v1, v2, v3, p0)) :=
  lp_ok (W := fun p K => X G "ForestLegs" "lost" cX1_lost 4 (Option.some Jvm.ClassFile.FieldType.int) 13 18 [(0, .ref a0), (1, .int p.1), (2, .int p.2.1), (3, .int p.2.2.1)] [] p.2.2.2 K) (fun _ => x_no) (fun k hk => fun (v1, v2, v3, p0) => f_X1_lost_18F_ok hO a0 (fun v1 v2 v3 p0 => hk (v1, v2, v3, p0)) v1 v2 v3 p0) n (v1, v2, v3, p0)
theorem f_X1_lost_ok {G : xG} (hO : xOK G) (p0 : PH) (a0 : Nat) (a1 : Int32) : CT G 13 yX1_lost cX1_lost 4 (Option.some Jvm.ClassFile.FieldType.int) [.ref a0, .int a1] p0 (f_X1_lost p0 a0 a1) := by
  refine CT_of hO (by decide +kernel) (by decide +kernel) (Nat.le_of_ble_eq_true rfl) ?_
  show X G "ForestLegs" "lost" cX1_lost 4 (Option.some Jvm.ClassFile.FieldType.int) 13 0 [(0, .ref a0), (1, .int a1)] [] p0 (f_X1_lost p0 a0 a1)
  refine x_cl1 (fun e0 => ?_)
  refine x_aload_nr 0 dX1_lost_0 rfl rfl (n := 1) rfl ?_
  refine x_iload_n 1 dX1_lost_1 rfl rfl (n := 2) rfl ?_
  refine x_callV_I [.int a1] [] (f_X1_isRunner_ok hO p0 a0 a1) rc_X1_isRunner md_X1_isRunner rfl q1780 q1782 qs41 dX1_lost_2 rfl rfl (by decide) (Nat.le_of_ble_eq_true rfl) (n := 5) rfl (fun x2 p1 => ?_)
  refine x_if_ne dX1_lost_5 (t := 14) (by decide) (n := 8) rfl (fun _ => ?_) (fun _ => ?_)
  · refine x_iconst 0 dX1_lost_14 rfl (n := 15) rfl ?_
    refine x_istore_n [(2, .int 0), (0, .ref a0), (1, .int a1)] dX1_lost_15 rfl (by decide) rfl (n := 16) rfl ?_
    refine x_iconst 0 dX1_lost_16 rfl (n := 17) rfl ?_
    refine x_istore_n [(3, .int 0), (2, .int 0), (0, .ref a0), (1, .int a1)] dX1_lost_17 rfl (by decide) rfl (n := 18) rfl ?_
    refine x_sub [2, 3, 1, 0] [(0, .ref a0), (1, .int a1), (2, .int 0), (3, .int 0)] rfl ?_
    exact f_X1_lost_18_lp hO a0 FU a1 0 0 p1
  · refine x_aload_nr 0 dX1_lost_8 rfl rfl (n := 9) rfl ?_
    refine x_iconst 1 dX1_lost_9 rfl (n := 10) rfl ?_
    refine x_callV_I [.int 1] [] (f_X1_refused_ok hO p1 a0 1) rc_X1_refused md_X1_refused rfl q250 q252 qs0 dX1_lost_10 rfl rfl (by decide) (Nat.le_of_ble_eq_true rfl) (n := 13) rfl (fun x22 p21 => ?_)
    exact x_ireturn dX1_lost_13
abbrev cX1_worst : ByteArray := prog_1_method_35_code
def yX1_worst : MethodName := ⟨RX1, "worst", "(I)I"⟩
def dkwX1_worst_3 : List UInt8 := [182, 0, 245, 164, 0, 5, 29, 61, 132, 3, 1, 167, 255, 194, 42, 28, 182, 0, 83, 172]
abbrev dktX1_worst_3 : List UInt8 := dkwX1_worst_3 ++ []
def dkwX1_worst_2 : List UInt8 := [159, 0, 32, 28, 16, 254, 159, 0, 24, 42, 180, 0, 56, 27, 29, 182, 0, 245, 42, 180, 0, 56, 27, 28]
abbrev dktX1_worst_2 : List UInt8 := dkwX1_worst_2 ++ dktX1_worst_3
def dkwX1_worst_1 : List UInt8 := [27, 182, 0, 189, 180, 0, 193, 190, 163, 0, 52, 42, 180, 0, 56, 27, 29, 182, 0, 245, 16, 254]
abbrev dktX1_worst_1 : List UInt8 := dkwX1_worst_1 ++ dktX1_worst_2
def dkwX1_worst_0 : List UInt8 := [42, 27, 182, 0, 100, 154, 0, 9, 42, 4, 182, 0, 40, 172, 16, 254, 61, 3, 62, 29, 42, 180, 0, 56]
abbrev dktX1_worst_0 : List UInt8 := dkwX1_worst_0 ++ dktX1_worst_1
theorem dksX1_worst_0 : cX1_worst.data.toList.drop 0 = dktX1_worst_0 := by decide +kernel
theorem dksX1_worst_1 : cX1_worst.data.toList.drop 24 = dktX1_worst_1 := dk_seg dksX1_worst_0 24 rfl rfl
theorem dksX1_worst_2 : cX1_worst.data.toList.drop 46 = dktX1_worst_2 := dk_seg dksX1_worst_1 22 rfl rfl
theorem dksX1_worst_3 : cX1_worst.data.toList.drop 70 = dktX1_worst_3 := dk_seg dksX1_worst_2 24 rfl rfl
theorem dX1_worst_0 : decode cX1_worst 0 = .ok (.aload_n 0, 1) := dk_42 (dk_at dksX1_worst_0 0 rfl rfl)
theorem dX1_worst_1 : decode cX1_worst 1 = .ok (.iload_n 1, 1) := dk_27 (dk_at dksX1_worst_0 1 rfl rfl)
theorem dX1_worst_2 : decode cX1_worst 2 = .ok (.invokevirtual 100, 3) := dk_182 0 100 (dk_at dksX1_worst_0 2 rfl rfl)
theorem dX1_worst_5 : decode cX1_worst 5 = .ok (.ifCond .ne 9, 3) := dk_154 0 9 (dk_at dksX1_worst_0 5 rfl rfl)
theorem dX1_worst_8 : decode cX1_worst 8 = .ok (.aload_n 0, 1) := dk_42 (dk_at dksX1_worst_0 8 rfl rfl)
theorem dX1_worst_9 : decode cX1_worst 9 = .ok (.iconst 1, 1) := dk_4 (dk_at dksX1_worst_0 9 rfl rfl)
theorem dX1_worst_10 : decode cX1_worst 10 = .ok (.invokevirtual 40, 3) := dk_182 0 40 (dk_at dksX1_worst_0 10 rfl rfl)
theorem dX1_worst_13 : decode cX1_worst 13 = .ok (.ireturn, 1) := dk_172 (dk_at dksX1_worst_0 13 rfl rfl)
theorem dX1_worst_14 : decode cX1_worst 14 = .ok (.bipush (-2), 2) := dk_16 254 (dk_at dksX1_worst_0 14 rfl rfl)
theorem dX1_worst_16 : decode cX1_worst 16 = .ok (.istore_n 2, 1) := dk_61 (dk_at dksX1_worst_0 16 rfl rfl)
theorem dX1_worst_17 : decode cX1_worst 17 = .ok (.iconst 0, 1) := dk_3 (dk_at dksX1_worst_0 17 rfl rfl)
theorem dX1_worst_18 : decode cX1_worst 18 = .ok (.istore_n 3, 1) := dk_62 (dk_at dksX1_worst_0 18 rfl rfl)
theorem dX1_worst_19 : decode cX1_worst 19 = .ok (.iload_n 3, 1) := dk_29 (dk_at dksX1_worst_0 19 rfl rfl)
theorem dX1_worst_20 : decode cX1_worst 20 = .ok (.aload_n 0, 1) := dk_42 (dk_at dksX1_worst_0 20 rfl rfl)
theorem dX1_worst_21 : decode cX1_worst 21 = .ok (.getfield 56, 3) := dk_180 0 56 (dk_at dksX1_worst_0 21 rfl rfl)
theorem dX1_worst_24 : decode cX1_worst 24 = .ok (.iload_n 1, 1) := dk_27 (dk_at dksX1_worst_1 0 rfl rfl)
theorem dX1_worst_25 : decode cX1_worst 25 = .ok (.invokevirtual 189, 3) := dk_182 0 189 (dk_at dksX1_worst_1 1 rfl rfl)
theorem dX1_worst_28 : decode cX1_worst 28 = .ok (.getfield 193, 3) := dk_180 0 193 (dk_at dksX1_worst_1 4 rfl rfl)
theorem dX1_worst_31 : decode cX1_worst 31 = .ok (.arraylength, 1) := dk_190 (dk_at dksX1_worst_1 7 rfl rfl)
theorem dX1_worst_32 : decode cX1_worst 32 = .ok (.if_icmp .gt 52, 3) := dk_163 0 52 (dk_at dksX1_worst_1 8 rfl rfl)
theorem dX1_worst_35 : decode cX1_worst 35 = .ok (.aload_n 0, 1) := dk_42 (dk_at dksX1_worst_1 11 rfl rfl)
theorem dX1_worst_36 : decode cX1_worst 36 = .ok (.getfield 56, 3) := dk_180 0 56 (dk_at dksX1_worst_1 12 rfl rfl)
theorem dX1_worst_39 : decode cX1_worst 39 = .ok (.iload_n 1, 1) := dk_27 (dk_at dksX1_worst_1 15 rfl rfl)
theorem dX1_worst_40 : decode cX1_worst 40 = .ok (.iload_n 3, 1) := dk_29 (dk_at dksX1_worst_1 16 rfl rfl)
theorem dX1_worst_41 : decode cX1_worst 41 = .ok (.invokevirtual 245, 3) := dk_182 0 245 (dk_at dksX1_worst_1 17 rfl rfl)
theorem dX1_worst_44 : decode cX1_worst 44 = .ok (.bipush (-2), 2) := dk_16 254 (dk_at dksX1_worst_1 20 rfl rfl)
theorem dX1_worst_46 : decode cX1_worst 46 = .ok (.if_icmp .eq 32, 3) := dk_159 0 32 (dk_at dksX1_worst_2 0 rfl rfl)
theorem dX1_worst_49 : decode cX1_worst 49 = .ok (.iload_n 2, 1) := dk_28 (dk_at dksX1_worst_2 3 rfl rfl)
theorem dX1_worst_50 : decode cX1_worst 50 = .ok (.bipush (-2), 2) := dk_16 254 (dk_at dksX1_worst_2 4 rfl rfl)
theorem dX1_worst_52 : decode cX1_worst 52 = .ok (.if_icmp .eq 24, 3) := dk_159 0 24 (dk_at dksX1_worst_2 6 rfl rfl)
theorem dX1_worst_55 : decode cX1_worst 55 = .ok (.aload_n 0, 1) := dk_42 (dk_at dksX1_worst_2 9 rfl rfl)
theorem dX1_worst_56 : decode cX1_worst 56 = .ok (.getfield 56, 3) := dk_180 0 56 (dk_at dksX1_worst_2 10 rfl rfl)
theorem dX1_worst_59 : decode cX1_worst 59 = .ok (.iload_n 1, 1) := dk_27 (dk_at dksX1_worst_2 13 rfl rfl)
theorem dX1_worst_60 : decode cX1_worst 60 = .ok (.iload_n 3, 1) := dk_29 (dk_at dksX1_worst_2 14 rfl rfl)
theorem dX1_worst_61 : decode cX1_worst 61 = .ok (.invokevirtual 245, 3) := dk_182 0 245 (dk_at dksX1_worst_2 15 rfl rfl)
theorem dX1_worst_64 : decode cX1_worst 64 = .ok (.aload_n 0, 1) := dk_42 (dk_at dksX1_worst_2 18 rfl rfl)
theorem dX1_worst_65 : decode cX1_worst 65 = .ok (.getfield 56, 3) := dk_180 0 56 (dk_at dksX1_worst_2 19 rfl rfl)
theorem dX1_worst_68 : decode cX1_worst 68 = .ok (.iload_n 1, 1) := dk_27 (dk_at dksX1_worst_2 22 rfl rfl)
theorem dX1_worst_69 : decode cX1_worst 69 = .ok (.iload_n 2, 1) := dk_28 (dk_at dksX1_worst_2 23 rfl rfl)
theorem dX1_worst_70 : decode cX1_worst 70 = .ok (.invokevirtual 245, 3) := dk_182 0 245 (dk_at dksX1_worst_3 0 rfl rfl)
theorem dX1_worst_73 : decode cX1_worst 73 = .ok (.if_icmp .le 5, 3) := dk_164 0 5 (dk_at dksX1_worst_3 3 rfl rfl)
theorem dX1_worst_76 : decode cX1_worst 76 = .ok (.iload_n 3, 1) := dk_29 (dk_at dksX1_worst_3 6 rfl rfl)
theorem dX1_worst_77 : decode cX1_worst 77 = .ok (.istore_n 2, 1) := dk_61 (dk_at dksX1_worst_3 7 rfl rfl)
theorem dX1_worst_78 : decode cX1_worst 78 = .ok (.iinc 3 1, 3) := dk_132 3 1 (dk_at dksX1_worst_3 8 rfl rfl)
theorem dX1_worst_81 : decode cX1_worst 81 = .ok (.goto (-62), 3) := dk_167 255 194 (dk_at dksX1_worst_3 11 rfl rfl)
theorem dX1_worst_84 : decode cX1_worst 84 = .ok (.aload_n 0, 1) := dk_42 (dk_at dksX1_worst_3 14 rfl rfl)
theorem dX1_worst_85 : decode cX1_worst 85 = .ok (.iload_n 2, 1) := dk_28 (dk_at dksX1_worst_3 15 rfl rfl)
theorem dX1_worst_86 : decode cX1_worst 86 = .ok (.invokevirtual 83, 3) := dk_182 0 83 (dk_at dksX1_worst_3 16 rfl rfl)
theorem dX1_worst_89 : decode cX1_worst 89 = .ok (.ireturn, 1) := dk_172 (dk_at dksX1_worst_3 19 rfl rfl)
theorem md_X1_worst : xMd yX1_worst cX1_worst 4 (Option.some Jvm.ClassFile.FieldType.int) 1 := ⟨q2142, q123, by decide, by decide +kernel, by decide +kernel, by decide +kernel⟩
def f_X1_worst_78 (a0 : Nat) (k19 : Int32 × Int32 × Int32 × PH → Option (xO × PH)) (v1 : Int32) (v2 : Int32) (v3 : Int32) (p0 : PH) : Option (xO × PH) :=
  (bnd (v3 + 1) fun x17 =>
  (k19 (v1, v2, x17, p0)))
def f_X1_worst_76 (a0 : Nat) (k19 : Int32 × Int32 × Int32 × PH → Option (xO × PH)) (v1 : Int32) (v3 : Int32) (p0 : PH) : Option (xO × PH) :=
  (f_X1_worst_78 a0 k19 v1 v3 v3 p0)
def f_X1_worst_19F (a0 : Nat)  (k19 : Int32 × Int32 × Int32 × PH → Option (xO × PH)) (p : Int32 × Int32 × Int32 × PH) : Option (xO × PH) := match p with
  | (v1, v2, v3, p0) => (xgR p0 a0 0 5 fun x3 =>
  (xnul x3 none fun b4 =>
  (xcR (f_X4_match p0 b4 v1) fun x6 p5 =>
  (xnul x6 none fun b7 =>
  (xgR p5 b7 8 2 fun x8 =>
  (xnul x8 none fun b9 =>
  (xlen p5 b9 fun x10 =>
  (if x10 < v3 then
  (xcI (f_X1_fine p5 a0 v2) fun x12 p11 =>
  (rI x12 p11)) else
  (xgR p5 a0 0 5 fun x13 =>
  (xnul x13 none fun b14 =>
  (xcI (f_X4_lost p5 b14 v1 v3) fun x16 p15 =>
  (if x16 = (-2) then
  (f_X1_worst_78 a0 k19 v1 v2 v3 p15) else
  (if v2 = (-2) then
  (f_X1_worst_76 a0 k19 v1 v3 p15) else
  (xgR p15 a0 0 5 fun x18 =>
  (xnul x18 none fun b19 =>
  (xcI (f_X4_lost p15 b19 v1 v3) fun x21 p20 =>
  (xgR p20 a0 0 5 fun x22 =>
  (xnul x22 none fun b23 =>
  (xcI (f_X4_lost p20 b23 v1 v2) fun x25 p24 =>
  (if x21 ≤ x25 then
  (f_X1_worst_78 a0 k19 v1 v2 v3 p24) else
  (f_X1_worst_76 a0 k19 v1 v3 p24)))))))))))))))))))))
def f_X1_worst (p0 : PH) (a0 : Nat) (a1 : Int32) : Option (xO × PH) :=
  (xcl1 p0 a0 0 (xcI (f_X1_isRunner p0 a0 a1) fun x2 p1 =>
  (if x2 = 0 then
  (xcI (f_X1_refused p1 a0 1) fun x27 p26 =>
  (rI x27 p26)) else
  (lp (f_X1_worst_19F a0) FU (a1, (-2), 0, p1)))))
theorem rc_X1_worst {p0 : PH} {a0 : Nat} {a1 : Int32} : ∀ z, f_X1_worst p0 a0 a1 = some z → xco p0 a0 = some 0 := fun z h => xcl1_some h
theorem f_X1_worst_78_ok {G : xG} (hO : xOK G) (a0 : Nat) {k19 : Int32 × Int32 × Int32 × PH → Option (xO × PH)} (hk19 : ∀ (v1 : Int32) (v2 : Int32) (v3 : Int32) (p0 : PH), X G "ForestLegs" "worst" cX1_worst 4 (Option.some Jvm.ClassFile.FieldType.int) 13 19 [(0, .ref a0), (1, .int v1), (2, .int v2), (3, .int v3)] [] p0 (k19 (v1, v2, v3, p0))) (v1 : Int32) (v2 : Int32) (v3 : Int32) (p0 : PH) : X G "ForestLegs" "worst" cX1_worst 4 (Option.some Jvm.ClassFile.FieldType.int) 13 78 [(0, .ref a0), (1, .int v1), (2, .int v2), (3, .int v3)] [] p0 (f_X1_worst_78 a0 k19 v1 v2 v3 p0) := by
  unfold f_X1_worst_78
  refine x_iincB 3 (fun x17 => [(3, .int x17), (0, .ref a0), (1, .int v1), (2, .int v2)]) dX1_worst_78 rfl rfl (by decide) (fun _ => rfl) (n := 81) rfl (fun x17 => ?_)
  refine x_goto dX1_worst_81 (n := 19) (by decide) ?_
  refine x_sub [1, 2, 3, 0] [(0, .ref a0), (1, .int v1), (2, .int v2), (3, .int x17)] rfl ?_
  exact hk19 v1 v2 x17 p0
theorem f_X1_worst_76_ok {G : xG} (hO : xOK G) (a0 : Nat) {k19 : Int32 × Int32 × Int32 × PH → Option (xO × PH)} (hk19 : ∀ (v1 : Int32) (v2 : Int32) (v3 : Int32) (p0 : PH), X G "ForestLegs" "worst" cX1_worst 4 (Option.some Jvm.ClassFile.FieldType.int) 13 19 [(0, .ref a0), (1, .int v1), (2, .int v2), (3, .int v3)] [] p0 (k19 (v1, v2, v3, p0))) (v1 : Int32) (v3 : Int32) (p0 : PH) : X G "ForestLegs" "worst" cX1_worst 4 (Option.some Jvm.ClassFile.FieldType.int) 13 76 [(0, .ref a0), (1, .int v1), (3, .int v3)] [] p0 (f_X1_worst_76 a0 k19 v1 v3 p0) := by
  unfold f_X1_worst_76
  refine x_iload_n 2 dX1_worst_76 rfl rfl (n := 77) rfl ?_
  refine x_istore_n [(2, .int v3), (0, .ref a0), (1, .int v1), (3, .int v3)] dX1_worst_77 rfl (by decide) rfl (n := 78) rfl ?_
  refine x_sub [1, 2, 0, 3] [(0, .ref a0), (1, .int v1), (2, .int v3), (3, .int v3)] rfl ?_
  exact f_X1_worst_78_ok hO a0 hk19 v1 v3 v3 p0
theorem f_X1_worst_19F_ok {G : xG} (hO : xOK G) (a0 : Nat)  {k19 : Int32 × Int32 × Int32 × PH → Option (xO × PH)} (hk19 : ∀ (v1 : Int32) (v2 : Int32) (v3 : Int32) (p0 : PH), X G "ForestLegs" "worst" cX1_worst 4 (Option.some Jvm.ClassFile.FieldType.int) 13 19 [(0, .ref a0), (1, .int v1), (2, .int v2), (3, .int v3)] [] p0 (k19 (v1, v2, v3, p0))) (v1 : Int32) (v2 : Int32) (v3 : Int32) (p0 : PH) : X G "ForestLegs" "worst" cX1_worst 4 (Option.some Jvm.ClassFile.FieldType.int) 13 19 [(0, .ref a0), (1, .int v1), (2, .int v2), (3, .int v3)] [] p0 (f_X1_worst_19F a0 k19 (v1, v2, v3, p0)) := by
  unfold f_X1_worst_19F
  refine x_iload_n 3 dX1_worst_19 rfl rfl (n := 20) rfl ?_
  refine x_aload_nr 0 dX1_worst_20 rfl rfl (n := 21) rfl ?_
  refine x_getR fl_X1_56 dX1_worst_21 (n := 24) rfl (fun x3 => ?_)
  refine x_iload_n 1 dX1_worst_24 rfl rfl (n := 25) rfl ?_
  refine x_sm (fun b4 e => ?_)
  subst e
  refine x_callV_R [.int v1] [.int v3] (f_X4_match_ok hO p0 b4 v1) rc_X4_match md_X4_match rfl q1784 q1504 q1505 dX1_worst_25 rfl rfl (by decide) (Nat.le_of_ble_eq_true rfl) (n := 28) rfl (fun x6 p5 => ?_)
  refine x_sm (fun b7 e => ?_)
  subst e
  refine x_getR fl_X1_193 dX1_worst_28 (n := 31) rfl (fun x8 => ?_)
  refine x_sm (fun b9 e => ?_)
  subst e
  refine x_alen dX1_worst_31 (n := 32) rfl (fun x10 => ?_)
  refine x_icmp_gt dX1_worst_32 (t := 84) (by decide) (n := 35) rfl (fun _ => ?_) (fun _ => ?_)
  · refine x_aload_nr 0 dX1_worst_84 rfl rfl (n := 85) rfl ?_
    refine x_iload_n 2 dX1_worst_85 rfl rfl (n := 86) rfl ?_
    refine x_callV_I [.int v2] [] (f_X1_fine_ok hO p5 a0 v2) rc_X1_fine md_X1_fine rfl q1480 q1482 qs26 dX1_worst_86 rfl rfl (by decide) (Nat.le_of_ble_eq_true rfl) (n := 89) rfl (fun x12 p11 => ?_)
    exact x_ireturn dX1_worst_89
  · refine x_aload_nr 0 dX1_worst_35 rfl rfl (n := 36) rfl ?_
    refine x_getR fl_X1_56 dX1_worst_36 (n := 39) rfl (fun x13 => ?_)
    refine x_iload_n 1 dX1_worst_39 rfl rfl (n := 40) rfl ?_
    refine x_iload_n 3 dX1_worst_40 rfl rfl (n := 41) rfl ?_
    refine x_sm (fun b14 e => ?_)
    subst e
    refine x_callV_I [.int v1, .int v3] [] (f_X4_lost_ok hO p5 b14 v1 v3) rc_X4_lost md_X4_lost rfl q2002 q2003 q2004 dX1_worst_41 rfl rfl (by decide) (Nat.le_of_ble_eq_true rfl) (n := 44) rfl (fun x16 p15 => ?_)
    refine x_bipush (-2) dX1_worst_44 rfl (n := 46) rfl ?_
    refine x_icmp_eq dX1_worst_46 (t := 78) (by decide) (n := 49) rfl (fun _ => ?_) (fun _ => ?_)
    · exact f_X1_worst_78_ok hO a0 hk19 v1 v2 v3 p15
    · refine x_iload_n 2 dX1_worst_49 rfl rfl (n := 50) rfl ?_
      refine x_bipush (-2) dX1_worst_50 rfl (n := 52) rfl ?_
      refine x_icmp_eq dX1_worst_52 (t := 76) (by decide) (n := 55) rfl (fun _ => ?_) (fun _ => ?_)
      · refine x_sub [0, 1, 3] [(0, .ref a0), (1, .int v1), (3, .int v3)] rfl ?_
        exact f_X1_worst_76_ok hO a0 hk19 v1 v3 p15
      · refine x_aload_nr 0 dX1_worst_55 rfl rfl (n := 56) rfl ?_
        refine x_getR fl_X1_56 dX1_worst_56 (n := 59) rfl (fun x18 => ?_)
        refine x_iload_n 1 dX1_worst_59 rfl rfl (n := 60) rfl ?_
        refine x_iload_n 3 dX1_worst_60 rfl rfl (n := 61) rfl ?_
        refine x_sm (fun b19 e => ?_)
        subst e
        refine x_callV_I [.int v1, .int v3] [] (f_X4_lost_ok hO p15 b19 v1 v3) rc_X4_lost md_X4_lost rfl q2002 q2003 q2004 dX1_worst_61 rfl rfl (by decide) (Nat.le_of_ble_eq_true rfl) (n := 64) rfl (fun x21 p20 => ?_)
        refine x_aload_nr 0 dX1_worst_64 rfl rfl (n := 65) rfl ?_
        refine x_getR fl_X1_56 dX1_worst_65 (n := 68) rfl (fun x22 => ?_)
        refine x_iload_n 1 dX1_worst_68 rfl rfl (n := 69) rfl ?_
        refine x_iload_n 2 dX1_worst_69 rfl rfl (n := 70) rfl ?_
        refine x_sm (fun b23 e => ?_)
        subst e
        refine x_callV_I [.int v1, .int v2] [.int x21] (f_X4_lost_ok hO p20 b23 v1 v2) rc_X4_lost md_X4_lost rfl q2002 q2003 q2004 dX1_worst_70 rfl rfl (by decide) (Nat.le_of_ble_eq_true rfl) (n := 73) rfl (fun x25 p24 => ?_)
        refine x_icmp_le dX1_worst_73 (t := 78) (by decide) (n := 76) rfl (fun _ => ?_) (fun _ => ?_)
        · exact f_X1_worst_78_ok hO a0 hk19 v1 v2 v3 p24
        · refine x_sub [0, 1, 3] [(0, .ref a0), (1, .int v1), (3, .int v3)] rfl ?_
          exact f_X1_worst_76_ok hO a0 hk19 v1 v3 p24
theorem f_X1_worst_19_lp {G : xG} (hO : xOK G) (a0 : Nat)  (n : Nat) (v1 : Int32) (v2 : Int32) (v3 : Int32) (p0 : PH) : X G "ForestLegs" "worst" cX1_worst 4 (Option.some Jvm.ClassFile.FieldType.int) 13 19 [(0, .ref a0), (1, .int v1), (2, .int v2), (3, .int v3)] [] p0 (lp (f_X1_worst_19F a0) n (v1, v2, v3, p0)) :=
  lp_ok (W := fun p K => X G "ForestLegs" "worst" cX1_worst 4 (Option.some Jvm.ClassFile.FieldType.int) 13 19 [(0, .ref a0), (1, .int p.1), (2, .int p.2.1), (3, .int p.2.2.1)] [] p.2.2.2 K) (fun _ => x_no) (fun k hk => fun (v1, v2, v3, p0) => f_X1_worst_19F_ok hO a0 (fun v1 v2 v3 p0 => hk (v1, v2, v3, p0)) v1 v2 v3 p0) n (v1, v2, v3, p0)
theorem f_X1_worst_ok {G : xG} (hO : xOK G) (p0 : PH) (a0 : Nat) (a1 : Int32) : CT G 13 yX1_worst cX1_worst 4 (Option.some Jvm.ClassFile.FieldType.int) [.ref a0, .int a1] p0 (f_X1_worst p0 a0 a1) := by
  refine CT_of hO (by decide +kernel) (by decide +kernel) (Nat.le_of_ble_eq_true rfl) ?_
  show X G "ForestLegs" "worst" cX1_worst 4 (Option.some Jvm.ClassFile.FieldType.int) 13 0 [(0, .ref a0), (1, .int a1)] [] p0 (f_X1_worst p0 a0 a1)
  refine x_cl1 (fun e0 => ?_)
  refine x_aload_nr 0 dX1_worst_0 rfl rfl (n := 1) rfl ?_
  refine x_iload_n 1 dX1_worst_1 rfl rfl (n := 2) rfl ?_
  refine x_callV_I [.int a1] [] (f_X1_isRunner_ok hO p0 a0 a1) rc_X1_isRunner md_X1_isRunner rfl q1780 q1782 qs41 dX1_worst_2 rfl rfl (by decide) (Nat.le_of_ble_eq_true rfl) (n := 5) rfl (fun x2 p1 => ?_)
  refine x_if_ne dX1_worst_5 (t := 14) (by decide) (n := 8) rfl (fun _ => ?_) (fun _ => ?_)
  · refine x_bipush (-2) dX1_worst_14 rfl (n := 16) rfl ?_
    refine x_istore_n [(2, .int (-2)), (0, .ref a0), (1, .int a1)] dX1_worst_16 rfl (by decide) rfl (n := 17) rfl ?_
    refine x_iconst 0 dX1_worst_17 rfl (n := 18) rfl ?_
    refine x_istore_n [(3, .int 0), (2, .int (-2)), (0, .ref a0), (1, .int a1)] dX1_worst_18 rfl (by decide) rfl (n := 19) rfl ?_
    refine x_sub [2, 3, 1, 0] [(0, .ref a0), (1, .int a1), (2, .int (-2)), (3, .int 0)] rfl ?_
    exact f_X1_worst_19_lp hO a0 FU a1 (-2) 0 p1
  · refine x_aload_nr 0 dX1_worst_8 rfl rfl (n := 9) rfl ?_
    refine x_iconst 1 dX1_worst_9 rfl (n := 10) rfl ?_
    refine x_callV_I [.int 1] [] (f_X1_refused_ok hO p1 a0 1) rc_X1_refused md_X1_refused rfl q250 q252 qs0 dX1_worst_10 rfl rfl (by decide) (Nat.le_of_ble_eq_true rfl) (n := 13) rfl (fun x27 p26 => ?_)
    exact x_ireturn dX1_worst_13
abbrev cX1_divisor : ByteArray := prog_1_method_2_code
def yX1_divisor : MethodName := ⟨RX1, "divisor", "(II)I"⟩
def dkwX1_divisor_0 : List UInt8 := [27, 154, 0, 7, 26, 167, 0, 10, 27, 26, 27, 112, 184, 0, 1, 172]
abbrev dktX1_divisor_0 : List UInt8 := dkwX1_divisor_0 ++ []
theorem dksX1_divisor_0 : cX1_divisor.data.toList.drop 0 = dktX1_divisor_0 := by decide +kernel
theorem dX1_divisor_0 : decode cX1_divisor 0 = .ok (.iload_n 1, 1) := dk_27 (dk_at dksX1_divisor_0 0 rfl rfl)
theorem dX1_divisor_1 : decode cX1_divisor 1 = .ok (.ifCond .ne 7, 3) := dk_154 0 7 (dk_at dksX1_divisor_0 1 rfl rfl)
theorem dX1_divisor_4 : decode cX1_divisor 4 = .ok (.iload_n 0, 1) := dk_26 (dk_at dksX1_divisor_0 4 rfl rfl)
theorem dX1_divisor_5 : decode cX1_divisor 5 = .ok (.goto 10, 3) := dk_167 0 10 (dk_at dksX1_divisor_0 5 rfl rfl)
theorem dX1_divisor_8 : decode cX1_divisor 8 = .ok (.iload_n 1, 1) := dk_27 (dk_at dksX1_divisor_0 8 rfl rfl)
theorem dX1_divisor_9 : decode cX1_divisor 9 = .ok (.iload_n 0, 1) := dk_26 (dk_at dksX1_divisor_0 9 rfl rfl)
theorem dX1_divisor_10 : decode cX1_divisor 10 = .ok (.iload_n 1, 1) := dk_27 (dk_at dksX1_divisor_0 10 rfl rfl)
theorem dX1_divisor_11 : decode cX1_divisor 11 = .ok (.irem, 1) := dk_112 (dk_at dksX1_divisor_0 11 rfl rfl)
theorem dX1_divisor_12 : decode cX1_divisor 12 = .ok (.invokestatic 1, 3) := dk_184 0 1 (dk_at dksX1_divisor_0 12 rfl rfl)
theorem dX1_divisor_15 : decode cX1_divisor 15 = .ok (.ireturn, 1) := dk_172 (dk_at dksX1_divisor_0 15 rfl rfl)
theorem md_X1_divisor : xMd yX1_divisor cX1_divisor 2 (Option.some Jvm.ClassFile.FieldType.int) 2 := ⟨q2149, q123, by decide, by decide +kernel, by decide +kernel, by decide +kernel⟩
def f_X1_divisorB (rec : PH → Int32 → Int32 → Option (xO × PH)) (p0 : PH) (a0 : Int32) (a1 : Int32) : Option (xO × PH) :=
  (if a1 = 0 then
  (rI a0 p0) else
  (if a1 = 0 then none else
  (xcI (rec p0 a1 (a0 - a0 / a1 * a1)) fun x2 p1 =>
  (rI x2 p1))))
theorem f_X1_divisorB_ok {G : xG} (hO : xOK G) {dd : Nat} {rec : PH → Int32 → Int32 → Option (xO × PH)} (rec_ok : xOK G → ∀ p a b, CT G dd yX1_divisor cX1_divisor 2 (Option.some Jvm.ClassFile.FieldType.int) [.int a, .int b] p (rec p a b)) (p0 : PH) (a0 : Int32) (a1 : Int32) : CT G (dd + 1) yX1_divisor cX1_divisor 2 (Option.some Jvm.ClassFile.FieldType.int) [.int a0, .int a1] p0 (f_X1_divisorB rec p0 a0 a1) := by
  refine CT_of hO (by decide +kernel) (by decide +kernel) (Nat.le_of_ble_eq_true rfl) ?_
  show X G "ForestLegs" "divisor" cX1_divisor 2 (Option.some Jvm.ClassFile.FieldType.int) (dd + 1) 0 [(0, .int a0), (1, .int a1)] [] p0 (f_X1_divisorB rec p0 a0 a1)
  refine x_iload_n 1 dX1_divisor_0 rfl rfl (n := 1) rfl ?_
  refine x_if_ne dX1_divisor_1 (t := 8) (by decide) (n := 4) rfl (fun _ => ?_) (fun _ => ?_)
  · refine x_iload_n 1 dX1_divisor_8 rfl rfl (n := 9) rfl ?_
    refine x_iload_n 0 dX1_divisor_9 rfl rfl (n := 10) rfl ?_
    refine x_iload_n 1 dX1_divisor_10 rfl rfl (n := 11) rfl ?_
    refine x_irem dX1_divisor_11 (n := 12) rfl (fun _ => ?_)
    refine x_callS_I [.int a1, .int (a0 - a0 / a1 * a1)] [] (rec_ok hO p0 a1 (a0 - a0 / a1 * a1)) md_X1_divisor q2147 q2148 dX1_divisor_12 rfl rfl (Nat.lt_succ_self _) (Nat.le_of_ble_eq_true rfl) (n := 15) rfl (fun x2 p1 => ?_)
    exact x_ireturn dX1_divisor_15
  · refine x_iload_n 0 dX1_divisor_4 rfl rfl (n := 5) rfl ?_
    refine x_goto dX1_divisor_5 (n := 15) (by decide) ?_
    exact x_ireturn dX1_divisor_15
def f_X1_divisorN : Nat → PH → Int32 → Int32 → Option (xO × PH)
  | 0 => fun _ _ _ => none
  | n + 1 => f_X1_divisorB (f_X1_divisorN n)
theorem f_X1_divisorN_ok {G : xG} (hO : xOK G) (n : Nat) : ∀ (p0 : PH) (a0 a1 : Int32), CT G n yX1_divisor cX1_divisor 2 (Option.some Jvm.ClassFile.FieldType.int) [.int a0, .int a1] p0 (f_X1_divisorN n p0 a0 a1) := by
  induction n with
  | zero => exact fun _ _ _ _ _ h => nomatch h
  | succ n ih => exact fun p a b => f_X1_divisorB_ok hO (fun _ => ih) p a b
def f_X1_divisor (p0 : PH) (a0 a1 : Int32) : Option (xO × PH) := f_X1_divisorN 60 p0 a0 a1
theorem f_X1_divisor_ok {G : xG} (hO : xOK G) (p0 : PH) (a0 a1 : Int32) : CT G 60 yX1_divisor cX1_divisor 2 (Option.some Jvm.ClassFile.FieldType.int) [.int a0, .int a1] p0 (f_X1_divisor p0 a0 a1) := f_X1_divisorN_ok hO 60 p0 a0 a1
abbrev cX1_pace : ByteArray := prog_1_method_36_code
def yX1_pace : MethodName := ⟨RX1, "pace", "(II)I"⟩
def dkwX1_pace_3 : List UInt8 := [21, 4, 108, 182, 0, 83, 172]
abbrev dktX1_pace_3 : List UInt8 := dkwX1_pace_3 ++ []
def dkwX1_pace_2 : List UInt8 := [180, 1, 14, 184, 0, 1, 54, 4, 42, 28, 154, 0, 10, 45, 180, 1, 11, 167, 0, 7, 45, 180, 1, 14]
abbrev dktX1_pace_2 : List UInt8 := dkwX1_pace_2 ++ dktX1_pace_3
def dkwX1_pace_1 : List UInt8 := [180, 0, 56, 27, 182, 0, 248, 78, 45, 199, 0, 10, 42, 16, 6, 182, 0, 40, 172, 45, 180, 1, 11, 45]
abbrev dktX1_pace_1 : List UInt8 := dkwX1_pace_1 ++ dktX1_pace_2
def dkwX1_pace_0 : List UInt8 := [42, 27, 182, 0, 100, 153, 0, 12, 28, 3, 4, 184, 0, 36, 154, 0, 9, 42, 4, 182, 0, 40, 172, 42]
abbrev dktX1_pace_0 : List UInt8 := dkwX1_pace_0 ++ dktX1_pace_1
theorem dksX1_pace_0 : cX1_pace.data.toList.drop 0 = dktX1_pace_0 := by decide +kernel
theorem dksX1_pace_1 : cX1_pace.data.toList.drop 24 = dktX1_pace_1 := dk_seg dksX1_pace_0 24 rfl rfl
theorem dksX1_pace_2 : cX1_pace.data.toList.drop 48 = dktX1_pace_2 := dk_seg dksX1_pace_1 24 rfl rfl
theorem dksX1_pace_3 : cX1_pace.data.toList.drop 72 = dktX1_pace_3 := dk_seg dksX1_pace_2 24 rfl rfl
theorem dX1_pace_0 : decode cX1_pace 0 = .ok (.aload_n 0, 1) := dk_42 (dk_at dksX1_pace_0 0 rfl rfl)
theorem dX1_pace_1 : decode cX1_pace 1 = .ok (.iload_n 1, 1) := dk_27 (dk_at dksX1_pace_0 1 rfl rfl)
theorem dX1_pace_2 : decode cX1_pace 2 = .ok (.invokevirtual 100, 3) := dk_182 0 100 (dk_at dksX1_pace_0 2 rfl rfl)
theorem dX1_pace_5 : decode cX1_pace 5 = .ok (.ifCond .eq 12, 3) := dk_153 0 12 (dk_at dksX1_pace_0 5 rfl rfl)
theorem dX1_pace_8 : decode cX1_pace 8 = .ok (.iload_n 2, 1) := dk_28 (dk_at dksX1_pace_0 8 rfl rfl)
theorem dX1_pace_9 : decode cX1_pace 9 = .ok (.iconst 0, 1) := dk_3 (dk_at dksX1_pace_0 9 rfl rfl)
theorem dX1_pace_10 : decode cX1_pace 10 = .ok (.iconst 1, 1) := dk_4 (dk_at dksX1_pace_0 10 rfl rfl)
theorem dX1_pace_11 : decode cX1_pace 11 = .ok (.invokestatic 36, 3) := dk_184 0 36 (dk_at dksX1_pace_0 11 rfl rfl)
theorem dX1_pace_14 : decode cX1_pace 14 = .ok (.ifCond .ne 9, 3) := dk_154 0 9 (dk_at dksX1_pace_0 14 rfl rfl)
theorem dX1_pace_17 : decode cX1_pace 17 = .ok (.aload_n 0, 1) := dk_42 (dk_at dksX1_pace_0 17 rfl rfl)
theorem dX1_pace_18 : decode cX1_pace 18 = .ok (.iconst 1, 1) := dk_4 (dk_at dksX1_pace_0 18 rfl rfl)
theorem dX1_pace_19 : decode cX1_pace 19 = .ok (.invokevirtual 40, 3) := dk_182 0 40 (dk_at dksX1_pace_0 19 rfl rfl)
theorem dX1_pace_22 : decode cX1_pace 22 = .ok (.ireturn, 1) := dk_172 (dk_at dksX1_pace_0 22 rfl rfl)
theorem dX1_pace_23 : decode cX1_pace 23 = .ok (.aload_n 0, 1) := dk_42 (dk_at dksX1_pace_0 23 rfl rfl)
theorem dX1_pace_24 : decode cX1_pace 24 = .ok (.getfield 56, 3) := dk_180 0 56 (dk_at dksX1_pace_1 0 rfl rfl)
theorem dX1_pace_27 : decode cX1_pace 27 = .ok (.iload_n 1, 1) := dk_27 (dk_at dksX1_pace_1 3 rfl rfl)
theorem dX1_pace_28 : decode cX1_pace 28 = .ok (.invokevirtual 248, 3) := dk_182 0 248 (dk_at dksX1_pace_1 4 rfl rfl)
theorem dX1_pace_31 : decode cX1_pace 31 = .ok (.astore_n 3, 1) := dk_78 (dk_at dksX1_pace_1 7 rfl rfl)
theorem dX1_pace_32 : decode cX1_pace 32 = .ok (.aload_n 3, 1) := dk_45 (dk_at dksX1_pace_1 8 rfl rfl)
theorem dX1_pace_33 : decode cX1_pace 33 = .ok (.ifnonnull 10, 3) := dk_199 0 10 (dk_at dksX1_pace_1 9 rfl rfl)
theorem dX1_pace_36 : decode cX1_pace 36 = .ok (.aload_n 0, 1) := dk_42 (dk_at dksX1_pace_1 12 rfl rfl)
theorem dX1_pace_37 : decode cX1_pace 37 = .ok (.bipush 6, 2) := dk_16 6 (dk_at dksX1_pace_1 13 rfl rfl)
theorem dX1_pace_39 : decode cX1_pace 39 = .ok (.invokevirtual 40, 3) := dk_182 0 40 (dk_at dksX1_pace_1 15 rfl rfl)
theorem dX1_pace_42 : decode cX1_pace 42 = .ok (.ireturn, 1) := dk_172 (dk_at dksX1_pace_1 18 rfl rfl)
theorem dX1_pace_43 : decode cX1_pace 43 = .ok (.aload_n 3, 1) := dk_45 (dk_at dksX1_pace_1 19 rfl rfl)
theorem dX1_pace_44 : decode cX1_pace 44 = .ok (.getfield 267, 3) := dk_180 1 11 (dk_at dksX1_pace_1 20 rfl rfl)
theorem dX1_pace_47 : decode cX1_pace 47 = .ok (.aload_n 3, 1) := dk_45 (dk_at dksX1_pace_1 23 rfl rfl)
theorem dX1_pace_48 : decode cX1_pace 48 = .ok (.getfield 270, 3) := dk_180 1 14 (dk_at dksX1_pace_2 0 rfl rfl)
theorem dX1_pace_51 : decode cX1_pace 51 = .ok (.invokestatic 1, 3) := dk_184 0 1 (dk_at dksX1_pace_2 3 rfl rfl)
theorem dX1_pace_54 : decode cX1_pace 54 = .ok (.istore 4, 2) := dk_54 4 (dk_at dksX1_pace_2 6 rfl rfl)
theorem dX1_pace_56 : decode cX1_pace 56 = .ok (.aload_n 0, 1) := dk_42 (dk_at dksX1_pace_2 8 rfl rfl)
theorem dX1_pace_57 : decode cX1_pace 57 = .ok (.iload_n 2, 1) := dk_28 (dk_at dksX1_pace_2 9 rfl rfl)
theorem dX1_pace_58 : decode cX1_pace 58 = .ok (.ifCond .ne 10, 3) := dk_154 0 10 (dk_at dksX1_pace_2 10 rfl rfl)
theorem dX1_pace_61 : decode cX1_pace 61 = .ok (.aload_n 3, 1) := dk_45 (dk_at dksX1_pace_2 13 rfl rfl)
theorem dX1_pace_62 : decode cX1_pace 62 = .ok (.getfield 267, 3) := dk_180 1 11 (dk_at dksX1_pace_2 14 rfl rfl)
theorem dX1_pace_65 : decode cX1_pace 65 = .ok (.goto 7, 3) := dk_167 0 7 (dk_at dksX1_pace_2 17 rfl rfl)
theorem dX1_pace_68 : decode cX1_pace 68 = .ok (.aload_n 3, 1) := dk_45 (dk_at dksX1_pace_2 20 rfl rfl)
theorem dX1_pace_69 : decode cX1_pace 69 = .ok (.getfield 270, 3) := dk_180 1 14 (dk_at dksX1_pace_2 21 rfl rfl)
theorem dX1_pace_72 : decode cX1_pace 72 = .ok (.iload 4, 2) := dk_21 4 (dk_at dksX1_pace_3 0 rfl rfl)
theorem dX1_pace_74 : decode cX1_pace 74 = .ok (.idiv, 1) := dk_108 (dk_at dksX1_pace_3 2 rfl rfl)
theorem dX1_pace_75 : decode cX1_pace 75 = .ok (.invokevirtual 83, 3) := dk_182 0 83 (dk_at dksX1_pace_3 3 rfl rfl)
theorem dX1_pace_78 : decode cX1_pace 78 = .ok (.ireturn, 1) := dk_172 (dk_at dksX1_pace_3 6 rfl rfl)
theorem md_X1_pace : xMd yX1_pace cX1_pace 5 (Option.some Jvm.ClassFile.FieldType.int) 2 := ⟨q2146, q123, by decide, by decide +kernel, by decide +kernel, by decide +kernel⟩
def f_X1_pace_17 (a0 : Nat)   (p0 : PH) : Option (xO × PH) :=
  (xcI (f_X1_refused p0 a0 1) fun x4 p3 =>
  (rI x4 p3))
def f_X1_pace_72 (a0 : Nat)  (v4 : Int32) (w1 : Int32) (p0 : PH) : Option (xO × PH) :=
  (if v4 = 0 then none else
  (xcI (f_X1_fine p0 a0 (w1 / v4)) fun x20 p19 =>
  (rI x20 p19)))
def f_X1_pace (p0 : PH) (a0 : Nat) (a1 : Int32) (a2 : Int32) : Option (xO × PH) :=
  (xcl1 p0 a0 0 (xcI (f_X1_isRunner p0 a0 a1) fun x2 p1 =>
  (if x2 = 0 then
  (f_X1_pace_17 a0  p1) else
  (xcI (f_X1_isIn p1 a2 0 1) fun x6 p5 =>
  (if x6 = 0 then
  (f_X1_pace_17 a0  p5) else
  (xgR p5 a0 0 5 fun x7 =>
  (xnul x7 none fun b8 =>
  (xcR (f_X4_pace p5 b8 a1) fun x10 p9 =>
  (xnul x10 (xcI (f_X1_refused p9 a0 6) fun x13 p12 =>
  (rI x13 p12)) fun b11 =>
  (xgI p9 b11 10 0 fun x14 =>
  (xgI p9 b11 10 1 fun x15 =>
  (xcI (f_X1_divisor p9 x14 x15) fun x17 p16 =>
  (if a2 = 0 then
  (xgI p16 b11 10 0 fun x21 =>
  (f_X1_pace_72 a0 x17 x21 p16)) else
  (xgI p16 b11 10 1 fun x18 =>
  (f_X1_pace_72 a0 x17 x18 p16)))))))))))))))
theorem rc_X1_pace {p0 : PH} {a0 : Nat} {a1 : Int32} {a2 : Int32} : ∀ z, f_X1_pace p0 a0 a1 a2 = some z → xco p0 a0 = some 0 := fun z h => xcl1_some h
theorem f_X1_pace_17_ok {G : xG} (hO : xOK G) (a0 : Nat)   (p0 : PH) : X G "ForestLegs" "pace" cX1_pace 5 (Option.some Jvm.ClassFile.FieldType.int) 61 17 [(0, .ref a0)] [] p0 (f_X1_pace_17 a0  p0) := by
  unfold f_X1_pace_17
  refine x_aload_nr 0 dX1_pace_17 rfl rfl (n := 18) rfl ?_
  refine x_iconst 1 dX1_pace_18 rfl (n := 19) rfl ?_
  refine x_callV_I [.int 1] [] (f_X1_refused_ok hO p0 a0 1) rc_X1_refused md_X1_refused rfl q250 q252 qs0 dX1_pace_19 rfl rfl (by decide) (Nat.le_of_ble_eq_true rfl) (n := 22) rfl (fun x4 p3 => ?_)
  exact x_ireturn dX1_pace_22
theorem f_X1_pace_72_ok {G : xG} (hO : xOK G) (a0 : Nat)  (v4 : Int32) (w1 : Int32) (p0 : PH) : X G "ForestLegs" "pace" cX1_pace 5 (Option.some Jvm.ClassFile.FieldType.int) 61 72 [(4, .int v4)] [.int w1, .ref a0] p0 (f_X1_pace_72 a0 v4 w1 p0) := by
  unfold f_X1_pace_72
  refine x_iload 0 dX1_pace_72 rfl (n := 74) rfl ?_
  refine x_idiv dX1_pace_74 (n := 75) rfl (fun _ => ?_)
  refine x_callV_I [.int (w1 / v4)] [] (f_X1_fine_ok hO p0 a0 (w1 / v4)) rc_X1_fine md_X1_fine rfl q1480 q1482 qs26 dX1_pace_75 rfl rfl (by decide) (Nat.le_of_ble_eq_true rfl) (n := 78) rfl (fun x20 p19 => ?_)
  exact x_ireturn dX1_pace_78
theorem f_X1_pace_ok {G : xG} (hO : xOK G) (p0 : PH) (a0 : Nat) (a1 : Int32) (a2 : Int32) : CT G 61 yX1_pace cX1_pace 5 (Option.some Jvm.ClassFile.FieldType.int) [.ref a0, .int a1, .int a2] p0 (f_X1_pace p0 a0 a1 a2) := by
  refine CT_of hO (by decide +kernel) (by decide +kernel) (Nat.le_of_ble_eq_true rfl) ?_
  show X G "ForestLegs" "pace" cX1_pace 5 (Option.some Jvm.ClassFile.FieldType.int) 61 0 [(0, .ref a0), (1, .int a1), (2, .int a2)] [] p0 (f_X1_pace p0 a0 a1 a2)
  refine x_cl1 (fun e0 => ?_)
  refine x_aload_nr 0 dX1_pace_0 rfl rfl (n := 1) rfl ?_
  refine x_iload_n 1 dX1_pace_1 rfl rfl (n := 2) rfl ?_
  refine x_callV_I [.int a1] [] (f_X1_isRunner_ok hO p0 a0 a1) rc_X1_isRunner md_X1_isRunner rfl q1780 q1782 qs41 dX1_pace_2 rfl rfl (by decide) (Nat.le_of_ble_eq_true rfl) (n := 5) rfl (fun x2 p1 => ?_)
  refine x_if_eq dX1_pace_5 (t := 17) (by decide) (n := 8) rfl (fun _ => ?_) (fun _ => ?_)
  · refine x_sub [0] [(0, .ref a0)] rfl ?_
    exact f_X1_pace_17_ok hO a0  p1
  · refine x_iload_n 2 dX1_pace_8 rfl rfl (n := 9) rfl ?_
    refine x_iconst 0 dX1_pace_9 rfl (n := 10) rfl ?_
    refine x_iconst 1 dX1_pace_10 rfl (n := 11) rfl ?_
    refine x_callS_I [.int a2, .int 0, .int 1] [] (f_X1_isIn_ok hO p1 a2 0 1) md_X1_isIn q247 q248 dX1_pace_11 rfl rfl (by decide) (Nat.le_of_ble_eq_true rfl) (n := 14) rfl (fun x6 p5 => ?_)
    refine x_if_ne dX1_pace_14 (t := 23) (by decide) (n := 17) rfl (fun _ => ?_) (fun _ => ?_)
    · refine x_aload_nr 0 dX1_pace_23 rfl rfl (n := 24) rfl ?_
      refine x_getR fl_X1_56 dX1_pace_24 (n := 27) rfl (fun x7 => ?_)
      refine x_iload_n 1 dX1_pace_27 rfl rfl (n := 28) rfl ?_
      refine x_sm (fun b8 e => ?_)
      subst e
      refine x_callV_R [.int a1] [] (f_X4_pace_ok hO p5 b8 a1) rc_X4_pace md_X4_pace rfl q2006 q2007 q2008 dX1_pace_28 rfl rfl (by decide) (Nat.le_of_ble_eq_true rfl) (n := 31) rfl (fun x10 p9 => ?_)
      refine x_astore_n [(3, va_rf x10), (0, .ref a0), (1, .int a1), (2, .int a2)] dX1_pace_31 rfl (by decide) rfl (n := 32) rfl ?_
      refine x_aload_n 0 dX1_pace_32 rfl rfl (n := 33) rfl ?_
      refine x_ifnonnull dX1_pace_33 (t := 43) (by decide) (n := 36) rfl (fun e => ?_) (fun b11 e => ?_)
      · subst e
        refine x_aload_nr 1 dX1_pace_36 rfl rfl (n := 37) rfl ?_
        refine x_bipush 6 dX1_pace_37 rfl (n := 39) rfl ?_
        refine x_callV_I [.int 6] [] (f_X1_refused_ok hO p9 a0 6) rc_X1_refused md_X1_refused rfl q250 q252 qs0 dX1_pace_39 rfl rfl (by decide) (Nat.le_of_ble_eq_true rfl) (n := 42) rfl (fun x13 p12 => ?_)
        exact x_ireturn dX1_pace_42
      · subst e
        refine x_aload_nr 0 dX1_pace_43 rfl rfl (n := 44) rfl ?_
        refine x_getI fl_X1_267 dX1_pace_44 (n := 47) rfl (fun x14 => ?_)
        refine x_aload_nr 0 dX1_pace_47 rfl rfl (n := 48) rfl ?_
        refine x_getI fl_X1_270 dX1_pace_48 (n := 51) rfl (fun x15 => ?_)
        refine x_callS_I [.int x14, .int x15] [] (f_X1_divisor_ok hO p9 x14 x15) md_X1_divisor q2147 q2148 dX1_pace_51 rfl rfl (by decide) (Nat.le_of_ble_eq_true rfl) (n := 54) rfl (fun x17 p16 => ?_)
        refine x_istore [(4, .int x17), (3, .ref b11), (0, .ref a0), (1, .int a1), (2, .int a2)] dX1_pace_54 (by decide) rfl (n := 56) rfl ?_
        refine x_aload_nr 2 dX1_pace_56 rfl rfl (n := 57) rfl ?_
        refine x_iload_n 4 dX1_pace_57 rfl rfl (n := 58) rfl ?_
        refine x_if_ne dX1_pace_58 (t := 68) (by decide) (n := 61) rfl (fun _ => ?_) (fun _ => ?_)
        · refine x_aload_nr 1 dX1_pace_68 rfl rfl (n := 69) rfl ?_
          refine x_getI fl_X1_270 dX1_pace_69 (n := 72) rfl (fun x18 => ?_)
          refine x_sub [0] [(4, .int x17)] rfl ?_
          exact f_X1_pace_72_ok hO a0 x17 x18 p16
        · refine x_aload_nr 1 dX1_pace_61 rfl rfl (n := 62) rfl ?_
          refine x_getI fl_X1_267 dX1_pace_62 (n := 65) rfl (fun x21 => ?_)
          refine x_goto dX1_pace_65 (n := 72) (by decide) ?_
          refine x_sub [0] [(4, .int x17)] rfl ?_
          exact f_X1_pace_72_ok hO a0 x17 x21 p16
    · refine x_sub [0] [(0, .ref a0)] rfl ?_
      exact f_X1_pace_17_ok hO a0  p5
abbrev cX1_mistakes : ByteArray := prog_1_method_37_code
def yX1_mistakes : MethodName := ⟨RX1, "mistakes", "(I)I"⟩
def dkwX1_mistakes_3 : List UInt8 := [132, 4, 1, 167, 255, 211, 42, 29, 182, 0, 83, 172]
abbrev dktX1_mistakes_3 : List UInt8 := dkwX1_mistakes_3 ++ []
def dkwX1_mistakes_2 : List UInt8 := [180, 0, 56, 27, 21, 4, 44, 182, 0, 252, 158, 0, 10, 4, 21, 4, 120, 167, 0, 4, 3, 128, 62]
abbrev dktX1_mistakes_2 : List UInt8 := dkwX1_mistakes_2 ++ dktX1_mistakes_3
def dkwX1_mistakes_1 : List UInt8 := [62, 3, 54, 4, 21, 4, 42, 180, 0, 56, 27, 182, 0, 189, 180, 0, 193, 190, 163, 0, 34, 29, 42]
abbrev dktX1_mistakes_1 : List UInt8 := dkwX1_mistakes_1 ++ dktX1_mistakes_2
def dkwX1_mistakes_0 : List UInt8 := [42, 27, 182, 0, 100, 154, 0, 9, 42, 4, 182, 0, 40, 172, 42, 180, 0, 56, 27, 182, 0, 248, 77, 3]
abbrev dktX1_mistakes_0 : List UInt8 := dkwX1_mistakes_0 ++ dktX1_mistakes_1
theorem dksX1_mistakes_0 : cX1_mistakes.data.toList.drop 0 = dktX1_mistakes_0 := by decide +kernel
theorem dksX1_mistakes_1 : cX1_mistakes.data.toList.drop 24 = dktX1_mistakes_1 := dk_seg dksX1_mistakes_0 24 rfl rfl
theorem dksX1_mistakes_2 : cX1_mistakes.data.toList.drop 47 = dktX1_mistakes_2 := dk_seg dksX1_mistakes_1 23 rfl rfl
theorem dksX1_mistakes_3 : cX1_mistakes.data.toList.drop 70 = dktX1_mistakes_3 := dk_seg dksX1_mistakes_2 23 rfl rfl
theorem dX1_mistakes_0 : decode cX1_mistakes 0 = .ok (.aload_n 0, 1) := dk_42 (dk_at dksX1_mistakes_0 0 rfl rfl)
theorem dX1_mistakes_1 : decode cX1_mistakes 1 = .ok (.iload_n 1, 1) := dk_27 (dk_at dksX1_mistakes_0 1 rfl rfl)
theorem dX1_mistakes_2 : decode cX1_mistakes 2 = .ok (.invokevirtual 100, 3) := dk_182 0 100 (dk_at dksX1_mistakes_0 2 rfl rfl)
theorem dX1_mistakes_5 : decode cX1_mistakes 5 = .ok (.ifCond .ne 9, 3) := dk_154 0 9 (dk_at dksX1_mistakes_0 5 rfl rfl)
theorem dX1_mistakes_8 : decode cX1_mistakes 8 = .ok (.aload_n 0, 1) := dk_42 (dk_at dksX1_mistakes_0 8 rfl rfl)
theorem dX1_mistakes_9 : decode cX1_mistakes 9 = .ok (.iconst 1, 1) := dk_4 (dk_at dksX1_mistakes_0 9 rfl rfl)
theorem dX1_mistakes_10 : decode cX1_mistakes 10 = .ok (.invokevirtual 40, 3) := dk_182 0 40 (dk_at dksX1_mistakes_0 10 rfl rfl)
theorem dX1_mistakes_13 : decode cX1_mistakes 13 = .ok (.ireturn, 1) := dk_172 (dk_at dksX1_mistakes_0 13 rfl rfl)
theorem dX1_mistakes_14 : decode cX1_mistakes 14 = .ok (.aload_n 0, 1) := dk_42 (dk_at dksX1_mistakes_0 14 rfl rfl)
theorem dX1_mistakes_15 : decode cX1_mistakes 15 = .ok (.getfield 56, 3) := dk_180 0 56 (dk_at dksX1_mistakes_0 15 rfl rfl)
theorem dX1_mistakes_18 : decode cX1_mistakes 18 = .ok (.iload_n 1, 1) := dk_27 (dk_at dksX1_mistakes_0 18 rfl rfl)
theorem dX1_mistakes_19 : decode cX1_mistakes 19 = .ok (.invokevirtual 248, 3) := dk_182 0 248 (dk_at dksX1_mistakes_0 19 rfl rfl)
theorem dX1_mistakes_22 : decode cX1_mistakes 22 = .ok (.astore_n 2, 1) := dk_77 (dk_at dksX1_mistakes_0 22 rfl rfl)
theorem dX1_mistakes_23 : decode cX1_mistakes 23 = .ok (.iconst 0, 1) := dk_3 (dk_at dksX1_mistakes_0 23 rfl rfl)
theorem dX1_mistakes_24 : decode cX1_mistakes 24 = .ok (.istore_n 3, 1) := dk_62 (dk_at dksX1_mistakes_1 0 rfl rfl)
theorem dX1_mistakes_25 : decode cX1_mistakes 25 = .ok (.iconst 0, 1) := dk_3 (dk_at dksX1_mistakes_1 1 rfl rfl)
theorem dX1_mistakes_26 : decode cX1_mistakes 26 = .ok (.istore 4, 2) := dk_54 4 (dk_at dksX1_mistakes_1 2 rfl rfl)
theorem dX1_mistakes_28 : decode cX1_mistakes 28 = .ok (.iload 4, 2) := dk_21 4 (dk_at dksX1_mistakes_1 4 rfl rfl)
theorem dX1_mistakes_30 : decode cX1_mistakes 30 = .ok (.aload_n 0, 1) := dk_42 (dk_at dksX1_mistakes_1 6 rfl rfl)
theorem dX1_mistakes_31 : decode cX1_mistakes 31 = .ok (.getfield 56, 3) := dk_180 0 56 (dk_at dksX1_mistakes_1 7 rfl rfl)
theorem dX1_mistakes_34 : decode cX1_mistakes 34 = .ok (.iload_n 1, 1) := dk_27 (dk_at dksX1_mistakes_1 10 rfl rfl)
theorem dX1_mistakes_35 : decode cX1_mistakes 35 = .ok (.invokevirtual 189, 3) := dk_182 0 189 (dk_at dksX1_mistakes_1 11 rfl rfl)
theorem dX1_mistakes_38 : decode cX1_mistakes 38 = .ok (.getfield 193, 3) := dk_180 0 193 (dk_at dksX1_mistakes_1 14 rfl rfl)
theorem dX1_mistakes_41 : decode cX1_mistakes 41 = .ok (.arraylength, 1) := dk_190 (dk_at dksX1_mistakes_1 17 rfl rfl)
theorem dX1_mistakes_42 : decode cX1_mistakes 42 = .ok (.if_icmp .gt 34, 3) := dk_163 0 34 (dk_at dksX1_mistakes_1 18 rfl rfl)
theorem dX1_mistakes_45 : decode cX1_mistakes 45 = .ok (.iload_n 3, 1) := dk_29 (dk_at dksX1_mistakes_1 21 rfl rfl)
theorem dX1_mistakes_46 : decode cX1_mistakes 46 = .ok (.aload_n 0, 1) := dk_42 (dk_at dksX1_mistakes_1 22 rfl rfl)
theorem dX1_mistakes_47 : decode cX1_mistakes 47 = .ok (.getfield 56, 3) := dk_180 0 56 (dk_at dksX1_mistakes_2 0 rfl rfl)
theorem dX1_mistakes_50 : decode cX1_mistakes 50 = .ok (.iload_n 1, 1) := dk_27 (dk_at dksX1_mistakes_2 3 rfl rfl)
theorem dX1_mistakes_51 : decode cX1_mistakes 51 = .ok (.iload 4, 2) := dk_21 4 (dk_at dksX1_mistakes_2 4 rfl rfl)
theorem dX1_mistakes_53 : decode cX1_mistakes 53 = .ok (.aload_n 2, 1) := dk_44 (dk_at dksX1_mistakes_2 6 rfl rfl)
theorem dX1_mistakes_54 : decode cX1_mistakes 54 = .ok (.invokevirtual 252, 3) := dk_182 0 252 (dk_at dksX1_mistakes_2 7 rfl rfl)
theorem dX1_mistakes_57 : decode cX1_mistakes 57 = .ok (.ifCond .le 10, 3) := dk_158 0 10 (dk_at dksX1_mistakes_2 10 rfl rfl)
theorem dX1_mistakes_60 : decode cX1_mistakes 60 = .ok (.iconst 1, 1) := dk_4 (dk_at dksX1_mistakes_2 13 rfl rfl)
theorem dX1_mistakes_61 : decode cX1_mistakes 61 = .ok (.iload 4, 2) := dk_21 4 (dk_at dksX1_mistakes_2 14 rfl rfl)
theorem dX1_mistakes_63 : decode cX1_mistakes 63 = .ok (.ishl, 1) := dk_120 (dk_at dksX1_mistakes_2 16 rfl rfl)
theorem dX1_mistakes_64 : decode cX1_mistakes 64 = .ok (.goto 4, 3) := dk_167 0 4 (dk_at dksX1_mistakes_2 17 rfl rfl)
theorem dX1_mistakes_67 : decode cX1_mistakes 67 = .ok (.iconst 0, 1) := dk_3 (dk_at dksX1_mistakes_2 20 rfl rfl)
theorem dX1_mistakes_68 : decode cX1_mistakes 68 = .ok (.ior, 1) := dk_128 (dk_at dksX1_mistakes_2 21 rfl rfl)
theorem dX1_mistakes_69 : decode cX1_mistakes 69 = .ok (.istore_n 3, 1) := dk_62 (dk_at dksX1_mistakes_2 22 rfl rfl)
theorem dX1_mistakes_70 : decode cX1_mistakes 70 = .ok (.iinc 4 1, 3) := dk_132 4 1 (dk_at dksX1_mistakes_3 0 rfl rfl)
theorem dX1_mistakes_73 : decode cX1_mistakes 73 = .ok (.goto (-45), 3) := dk_167 255 211 (dk_at dksX1_mistakes_3 3 rfl rfl)
theorem dX1_mistakes_76 : decode cX1_mistakes 76 = .ok (.aload_n 0, 1) := dk_42 (dk_at dksX1_mistakes_3 6 rfl rfl)
theorem dX1_mistakes_77 : decode cX1_mistakes 77 = .ok (.iload_n 3, 1) := dk_29 (dk_at dksX1_mistakes_3 7 rfl rfl)
theorem dX1_mistakes_78 : decode cX1_mistakes 78 = .ok (.invokevirtual 83, 3) := dk_182 0 83 (dk_at dksX1_mistakes_3 8 rfl rfl)
theorem dX1_mistakes_81 : decode cX1_mistakes 81 = .ok (.ireturn, 1) := dk_172 (dk_at dksX1_mistakes_3 11 rfl rfl)
theorem md_X1_mistakes : xMd yX1_mistakes cX1_mistakes 5 (Option.some Jvm.ClassFile.FieldType.int) 1 := ⟨q2153, q123, by decide, by decide +kernel, by decide +kernel, by decide +kernel⟩
def f_X1_mistakes_68 (a0 : Nat) (k28 : Int32 × Option Nat × Int32 × Int32 × PH → Option (xO × PH)) (v1 : Int32) (v2 : Option Nat) (v4 : Int32) (w0 : Int32) (w1 : Int32) (p0 : PH) : Option (xO × PH) :=
  (bnd (w0 ||| w1) fun x21 =>
  (bnd (v4 + 1) fun x22 =>
  (k28 (v1, v2, x21, x22, p0))))
def f_X1_mistakes_28F (a0 : Nat)  (k28 : Int32 × Option Nat × Int32 × Int32 × PH → Option (xO × PH)) (p : Int32 × Option Nat × Int32 × Int32 × PH) : Option (xO × PH) := match p with
  | (v1, v2, v3, v4, p0) => (xgR p0 a0 0 5 fun x7 =>
  (xnul x7 none fun b8 =>
  (xcR (f_X4_match p0 b8 v1) fun x10 p9 =>
  (xnul x10 none fun b11 =>
  (xgR p9 b11 8 2 fun x12 =>
  (xnul x12 none fun b13 =>
  (xlen p9 b13 fun x14 =>
  (if x14 < v4 then
  (xcI (f_X1_fine p9 a0 v3) fun x16 p15 =>
  (rI x16 p15)) else
  (xgR p9 a0 0 5 fun x17 =>
  (xnul x17 none fun b18 =>
  (xcI (f_X4_mistake p9 b18 v1 v4 v2) fun x20 p19 =>
  (if x20 ≤ 0 then
  (f_X1_mistakes_68 a0 k28 v1 v2 v4 v3 0 p19) else
  (f_X1_mistakes_68 a0 k28 v1 v2 v4 v3 (1 <<< (v4 &&& 31)) p19)))))))))))))
def f_X1_mistakes (p0 : PH) (a0 : Nat) (a1 : Int32) : Option (xO × PH) :=
  (xcl1 p0 a0 0 (xcI (f_X1_isRunner p0 a0 a1) fun x2 p1 =>
  (if x2 = 0 then
  (xcI (f_X1_refused p1 a0 1) fun x24 p23 =>
  (rI x24 p23)) else
  (xgR p1 a0 0 5 fun x3 =>
  (xnul x3 none fun b4 =>
  (xcR (f_X4_pace p1 b4 a1) fun x6 p5 =>
  (lp (f_X1_mistakes_28F a0) FU (a1, x6, 0, 0, p5))))))))
theorem rc_X1_mistakes {p0 : PH} {a0 : Nat} {a1 : Int32} : ∀ z, f_X1_mistakes p0 a0 a1 = some z → xco p0 a0 = some 0 := fun z h => xcl1_some h
theorem f_X1_mistakes_68_ok {G : xG} (hO : xOK G) (a0 : Nat) {k28 : Int32 × Option Nat × Int32 × Int32 × PH → Option (xO × PH)} (hk28 : ∀ (v1 : Int32) (v2 : Option Nat) (v3 : Int32) (v4 : Int32) (p0 : PH), X G "ForestLegs" "mistakes" cX1_mistakes 5 (Option.some Jvm.ClassFile.FieldType.int) 13 28 [(0, .ref a0), (1, .int v1), (2, va_rf v2), (3, .int v3), (4, .int v4)] [] p0 (k28 (v1, v2, v3, v4, p0))) (v1 : Int32) (v2 : Option Nat) (v4 : Int32) (w0 : Int32) (w1 : Int32) (p0 : PH) : X G "ForestLegs" "mistakes" cX1_mistakes 5 (Option.some Jvm.ClassFile.FieldType.int) 13 68 [(0, .ref a0), (1, .int v1), (2, va_rf v2), (4, .int v4)] [.int w1, .int w0] p0 (f_X1_mistakes_68 a0 k28 v1 v2 v4 w0 w1 p0) := by
  unfold f_X1_mistakes_68
  refine x_ior dX1_mistakes_68 (n := 69) rfl ?_
  refine x_nm (fun x21 => ?_)
  refine x_istore_n [(3, .int x21), (0, .ref a0), (1, .int v1), (2, va_rf v2), (4, .int v4)] dX1_mistakes_69 rfl (by decide) (by simp only [xst, List.filter_cons, List.filter_nil, xcat] <;> rfl) (n := 70) rfl ?_
  refine x_iincB 4 (fun x22 => [(4, .int x22), (3, .int x21), (0, .ref a0), (1, .int v1), (2, va_rf v2)]) dX1_mistakes_70 rfl rfl (by decide) (fun _ => rfl) (n := 73) rfl (fun x22 => ?_)
  refine x_goto dX1_mistakes_73 (n := 28) (by decide) ?_
  refine x_sub [2, 3, 4, 1, 0] [(0, .ref a0), (1, .int v1), (2, va_rf v2), (3, .int x21), (4, .int x22)] rfl ?_
  exact hk28 v1 v2 x21 x22 p0
theorem f_X1_mistakes_28F_ok {G : xG} (hO : xOK G) (a0 : Nat)  {k28 : Int32 × Option Nat × Int32 × Int32 × PH → Option (xO × PH)} (hk28 : ∀ (v1 : Int32) (v2 : Option Nat) (v3 : Int32) (v4 : Int32) (p0 : PH), X G "ForestLegs" "mistakes" cX1_mistakes 5 (Option.some Jvm.ClassFile.FieldType.int) 13 28 [(0, .ref a0), (1, .int v1), (2, va_rf v2), (3, .int v3), (4, .int v4)] [] p0 (k28 (v1, v2, v3, v4, p0))) (v1 : Int32) (v2 : Option Nat) (v3 : Int32) (v4 : Int32) (p0 : PH) : X G "ForestLegs" "mistakes" cX1_mistakes 5 (Option.some Jvm.ClassFile.FieldType.int) 13 28 [(0, .ref a0), (1, .int v1), (2, va_rf v2), (3, .int v3), (4, .int v4)] [] p0 (f_X1_mistakes_28F a0 k28 (v1, v2, v3, v4, p0)) := by
  unfold f_X1_mistakes_28F
  refine x_iload 4 dX1_mistakes_28 rfl (n := 30) rfl ?_
  refine x_aload_nr 0 dX1_mistakes_30 rfl rfl (n := 31) rfl ?_
  refine x_getR fl_X1_56 dX1_mistakes_31 (n := 34) rfl (fun x7 => ?_)
  refine x_iload_n 1 dX1_mistakes_34 rfl rfl (n := 35) rfl ?_
  refine x_sm (fun b8 e => ?_)
  subst e
  refine x_callV_R [.int v1] [.int v4] (f_X4_match_ok hO p0 b8 v1) rc_X4_match md_X4_match rfl q1784 q1504 q1505 dX1_mistakes_35 rfl rfl (by decide) (Nat.le_of_ble_eq_true rfl) (n := 38) rfl (fun x10 p9 => ?_)
  refine x_sm (fun b11 e => ?_)
  subst e
  refine x_getR fl_X1_193 dX1_mistakes_38 (n := 41) rfl (fun x12 => ?_)
  refine x_sm (fun b13 e => ?_)
  subst e
  refine x_alen dX1_mistakes_41 (n := 42) rfl (fun x14 => ?_)
  refine x_icmp_gt dX1_mistakes_42 (t := 76) (by decide) (n := 45) rfl (fun _ => ?_) (fun _ => ?_)
  · refine x_aload_nr 0 dX1_mistakes_76 rfl rfl (n := 77) rfl ?_
    refine x_iload_n 3 dX1_mistakes_77 rfl rfl (n := 78) rfl ?_
    refine x_callV_I [.int v3] [] (f_X1_fine_ok hO p9 a0 v3) rc_X1_fine md_X1_fine rfl q1480 q1482 qs26 dX1_mistakes_78 rfl rfl (by decide) (Nat.le_of_ble_eq_true rfl) (n := 81) rfl (fun x16 p15 => ?_)
    exact x_ireturn dX1_mistakes_81
  · refine x_iload_n 3 dX1_mistakes_45 rfl rfl (n := 46) rfl ?_
    refine x_aload_nr 0 dX1_mistakes_46 rfl rfl (n := 47) rfl ?_
    refine x_getR fl_X1_56 dX1_mistakes_47 (n := 50) rfl (fun x17 => ?_)
    refine x_iload_n 1 dX1_mistakes_50 rfl rfl (n := 51) rfl ?_
    refine x_iload 4 dX1_mistakes_51 rfl (n := 53) rfl ?_
    refine x_aload_n 2 dX1_mistakes_53 rfl rfl (n := 54) rfl ?_
    refine x_sm (fun b18 e => ?_)
    subst e
    refine x_callV_I [.int v1, .int v4, va_rf v2] [.int v3] (f_X4_mistake_ok hO p9 b18 v1 v4 v2) rc_X4_mistake md_X4_mistake rfl q2107 q2108 q2109 dX1_mistakes_54 rfl rfl (by decide) (Nat.le_of_ble_eq_true rfl) (n := 57) rfl (fun x20 p19 => ?_)
    refine x_if_le dX1_mistakes_57 (t := 67) (by decide) (n := 60) rfl (fun _ => ?_) (fun _ => ?_)
    · refine x_iconst 0 dX1_mistakes_67 rfl (n := 68) rfl ?_
      refine x_sub [0, 1, 2, 4] [(0, .ref a0), (1, .int v1), (2, va_rf v2), (4, .int v4)] rfl ?_
      exact f_X1_mistakes_68_ok hO a0 hk28 v1 v2 v4 v3 0 p19
    · refine x_iconst 1 dX1_mistakes_60 rfl (n := 61) rfl ?_
      refine x_iload 4 dX1_mistakes_61 rfl (n := 63) rfl ?_
      refine x_ishl dX1_mistakes_63 (n := 64) rfl ?_
      refine x_goto dX1_mistakes_64 (n := 68) (by decide) ?_
      refine x_sub [0, 1, 2, 4] [(0, .ref a0), (1, .int v1), (2, va_rf v2), (4, .int v4)] rfl ?_
      exact f_X1_mistakes_68_ok hO a0 hk28 v1 v2 v4 v3 (1 <<< (v4 &&& 31)) p19
theorem f_X1_mistakes_28_lp {G : xG} (hO : xOK G) (a0 : Nat)  (n : Nat) (v1 : Int32) (v2 : Option Nat) (v3 : Int32) (v4 : Int32) (p0 : PH) : X G "ForestLegs" "mistakes" cX1_mistakes 5 (Option.some Jvm.ClassFile.FieldType.int) 13 28 [(0, .ref a0), (1, .int v1), (2, va_rf v2), (3, .int v3), (4, .int v4)] [] p0 (lp (f_X1_mistakes_28F a0) n (v1, v2, v3, v4, p0)) :=
  lp_ok (W := fun p K => X G "ForestLegs" "mistakes" cX1_mistakes 5 (Option.some Jvm.ClassFile.FieldType.int) 13 28 [(0, .ref a0), (1, .int p.1), (2, va_rf p.2.1), (3, .int p.2.2.1), (4, .int p.2.2.2.1)] [] p.2.2.2.2 K) (fun _ => x_no) (fun k hk => fun (v1, v2, v3, v4, p0) => f_X1_mistakes_28F_ok hO a0 (fun v1 v2 v3 v4 p0 => hk (v1, v2, v3, v4, p0)) v1 v2 v3 v4 p0) n (v1, v2, v3, v4, p0)
theorem f_X1_mistakes_ok {G : xG} (hO : xOK G) (p0 : PH) (a0 : Nat) (a1 : Int32) : CT G 13 yX1_mistakes cX1_mistakes 5 (Option.some Jvm.ClassFile.FieldType.int) [.ref a0, .int a1] p0 (f_X1_mistakes p0 a0 a1) := by
  refine CT_of hO (by decide +kernel) (by decide +kernel) (Nat.le_of_ble_eq_true rfl) ?_
  show X G "ForestLegs" "mistakes" cX1_mistakes 5 (Option.some Jvm.ClassFile.FieldType.int) 13 0 [(0, .ref a0), (1, .int a1)] [] p0 (f_X1_mistakes p0 a0 a1)
  refine x_cl1 (fun e0 => ?_)
  refine x_aload_nr 0 dX1_mistakes_0 rfl rfl (n := 1) rfl ?_
  refine x_iload_n 1 dX1_mistakes_1 rfl rfl (n := 2) rfl ?_
  refine x_callV_I [.int a1] [] (f_X1_isRunner_ok hO p0 a0 a1) rc_X1_isRunner md_X1_isRunner rfl q1780 q1782 qs41 dX1_mistakes_2 rfl rfl (by decide) (Nat.le_of_ble_eq_true rfl) (n := 5) rfl (fun x2 p1 => ?_)
  refine x_if_ne dX1_mistakes_5 (t := 14) (by decide) (n := 8) rfl (fun _ => ?_) (fun _ => ?_)
  · refine x_aload_nr 0 dX1_mistakes_14 rfl rfl (n := 15) rfl ?_
    refine x_getR fl_X1_56 dX1_mistakes_15 (n := 18) rfl (fun x3 => ?_)
    refine x_iload_n 1 dX1_mistakes_18 rfl rfl (n := 19) rfl ?_
    refine x_sm (fun b4 e => ?_)
    subst e
    refine x_callV_R [.int a1] [] (f_X4_pace_ok hO p1 b4 a1) rc_X4_pace md_X4_pace rfl q2006 q2007 q2008 dX1_mistakes_19 rfl rfl (by decide) (Nat.le_of_ble_eq_true rfl) (n := 22) rfl (fun x6 p5 => ?_)
    refine x_astore_n [(2, va_rf x6), (0, .ref a0), (1, .int a1)] dX1_mistakes_22 rfl (by decide) rfl (n := 23) rfl ?_
    refine x_iconst 0 dX1_mistakes_23 rfl (n := 24) rfl ?_
    refine x_istore_n [(3, .int 0), (2, va_rf x6), (0, .ref a0), (1, .int a1)] dX1_mistakes_24 rfl (by decide) (by simp only [xst, List.filter_cons, List.filter_nil, xcat] <;> rfl) (n := 25) rfl ?_
    refine x_iconst 0 dX1_mistakes_25 rfl (n := 26) rfl ?_
    refine x_istore [(4, .int 0), (3, .int 0), (2, va_rf x6), (0, .ref a0), (1, .int a1)] dX1_mistakes_26 (by decide) rfl (n := 28) rfl ?_
    refine x_sub [3, 4, 2, 1, 0] [(0, .ref a0), (1, .int a1), (2, va_rf x6), (3, .int 0), (4, .int 0)] rfl ?_
    exact f_X1_mistakes_28_lp hO a0 FU a1 x6 0 0 p5
  · refine x_aload_nr 0 dX1_mistakes_8 rfl rfl (n := 9) rfl ?_
    refine x_iconst 1 dX1_mistakes_9 rfl (n := 10) rfl ?_
    refine x_callV_I [.int 1] [] (f_X1_refused_ok hO p1 a0 1) rc_X1_refused md_X1_refused rfl q250 q252 qs0 dX1_mistakes_10 rfl rfl (by decide) (Nat.le_of_ble_eq_true rfl) (n := 13) rfl (fun x24 p23 => ?_)
    exact x_ireturn dX1_mistakes_13
abbrev cX4_clean : ByteArray := prog_7_method_16_code
def yX4_clean : MethodName := ⟨RX4, "clean", "(I)I"⟩
def dkwX4_clean_2 : List UInt8 := [182, 0, 144, 184, 0, 148, 100, 62, 132, 4, 1, 167, 255, 224, 29, 172]
abbrev dktX4_clean_2 : List UInt8 := dkwX4_clean_2 ++ []
def dkwX4_clean_1 : List UInt8 := [54, 4, 21, 4, 42, 27, 182, 0, 78, 180, 0, 140, 190, 163, 0, 24, 29, 3, 42, 27, 21, 4, 44]
abbrev dktX4_clean_1 : List UInt8 := dkwX4_clean_1 ++ dktX4_clean_2
def dkwX4_clean_0 : List UInt8 := [42, 27, 182, 0, 133, 77, 42, 180, 0, 20, 27, 185, 0, 68, 2, 0, 192, 0, 57, 182, 0, 137, 62, 3]
abbrev dktX4_clean_0 : List UInt8 := dkwX4_clean_0 ++ dktX4_clean_1
theorem dksX4_clean_0 : cX4_clean.data.toList.drop 0 = dktX4_clean_0 := by decide +kernel
theorem dksX4_clean_1 : cX4_clean.data.toList.drop 24 = dktX4_clean_1 := dk_seg dksX4_clean_0 24 rfl rfl
theorem dksX4_clean_2 : cX4_clean.data.toList.drop 47 = dktX4_clean_2 := dk_seg dksX4_clean_1 23 rfl rfl
theorem dX4_clean_0 : decode cX4_clean 0 = .ok (.aload_n 0, 1) := dk_42 (dk_at dksX4_clean_0 0 rfl rfl)
theorem dX4_clean_1 : decode cX4_clean 1 = .ok (.iload_n 1, 1) := dk_27 (dk_at dksX4_clean_0 1 rfl rfl)
theorem dX4_clean_2 : decode cX4_clean 2 = .ok (.invokevirtual 133, 3) := dk_182 0 133 (dk_at dksX4_clean_0 2 rfl rfl)
theorem dX4_clean_5 : decode cX4_clean 5 = .ok (.astore_n 2, 1) := dk_77 (dk_at dksX4_clean_0 5 rfl rfl)
theorem dX4_clean_6 : decode cX4_clean 6 = .ok (.aload_n 0, 1) := dk_42 (dk_at dksX4_clean_0 6 rfl rfl)
theorem dX4_clean_7 : decode cX4_clean 7 = .ok (.getfield 20, 3) := dk_180 0 20 (dk_at dksX4_clean_0 7 rfl rfl)
theorem dX4_clean_10 : decode cX4_clean 10 = .ok (.iload_n 1, 1) := dk_27 (dk_at dksX4_clean_0 10 rfl rfl)
theorem dX4_clean_11 : decode cX4_clean 11 = .ok (.invokeinterface 68 2, 5) := by decide +kernel
theorem dX4_clean_16 : decode cX4_clean 16 = .ok (.checkcast 57, 3) := dk_192 0 57 (dk_at dksX4_clean_0 16 rfl rfl)
theorem dX4_clean_19 : decode cX4_clean 19 = .ok (.invokevirtual 137, 3) := dk_182 0 137 (dk_at dksX4_clean_0 19 rfl rfl)
theorem dX4_clean_22 : decode cX4_clean 22 = .ok (.istore_n 3, 1) := dk_62 (dk_at dksX4_clean_0 22 rfl rfl)
theorem dX4_clean_23 : decode cX4_clean 23 = .ok (.iconst 0, 1) := dk_3 (dk_at dksX4_clean_0 23 rfl rfl)
theorem dX4_clean_24 : decode cX4_clean 24 = .ok (.istore 4, 2) := dk_54 4 (dk_at dksX4_clean_1 0 rfl rfl)
theorem dX4_clean_26 : decode cX4_clean 26 = .ok (.iload 4, 2) := dk_21 4 (dk_at dksX4_clean_1 2 rfl rfl)
theorem dX4_clean_28 : decode cX4_clean 28 = .ok (.aload_n 0, 1) := dk_42 (dk_at dksX4_clean_1 4 rfl rfl)
theorem dX4_clean_29 : decode cX4_clean 29 = .ok (.iload_n 1, 1) := dk_27 (dk_at dksX4_clean_1 5 rfl rfl)
theorem dX4_clean_30 : decode cX4_clean 30 = .ok (.invokevirtual 78, 3) := dk_182 0 78 (dk_at dksX4_clean_1 6 rfl rfl)
theorem dX4_clean_33 : decode cX4_clean 33 = .ok (.getfield 140, 3) := dk_180 0 140 (dk_at dksX4_clean_1 9 rfl rfl)
theorem dX4_clean_36 : decode cX4_clean 36 = .ok (.arraylength, 1) := dk_190 (dk_at dksX4_clean_1 12 rfl rfl)
theorem dX4_clean_37 : decode cX4_clean 37 = .ok (.if_icmp .gt 24, 3) := dk_163 0 24 (dk_at dksX4_clean_1 13 rfl rfl)
theorem dX4_clean_40 : decode cX4_clean 40 = .ok (.iload_n 3, 1) := dk_29 (dk_at dksX4_clean_1 16 rfl rfl)
theorem dX4_clean_41 : decode cX4_clean 41 = .ok (.iconst 0, 1) := dk_3 (dk_at dksX4_clean_1 17 rfl rfl)
theorem dX4_clean_42 : decode cX4_clean 42 = .ok (.aload_n 0, 1) := dk_42 (dk_at dksX4_clean_1 18 rfl rfl)
theorem dX4_clean_43 : decode cX4_clean 43 = .ok (.iload_n 1, 1) := dk_27 (dk_at dksX4_clean_1 19 rfl rfl)
theorem dX4_clean_44 : decode cX4_clean 44 = .ok (.iload 4, 2) := dk_21 4 (dk_at dksX4_clean_1 20 rfl rfl)
theorem dX4_clean_46 : decode cX4_clean 46 = .ok (.aload_n 2, 1) := dk_44 (dk_at dksX4_clean_1 22 rfl rfl)
theorem dX4_clean_47 : decode cX4_clean 47 = .ok (.invokevirtual 144, 3) := dk_182 0 144 (dk_at dksX4_clean_2 0 rfl rfl)
theorem dX4_clean_50 : decode cX4_clean 50 = .ok (.invokestatic 148, 3) := dk_184 0 148 (dk_at dksX4_clean_2 3 rfl rfl)
theorem dX4_clean_53 : decode cX4_clean 53 = .ok (.isub, 1) := dk_100 (dk_at dksX4_clean_2 6 rfl rfl)
theorem dX4_clean_54 : decode cX4_clean 54 = .ok (.istore_n 3, 1) := dk_62 (dk_at dksX4_clean_2 7 rfl rfl)
theorem dX4_clean_55 : decode cX4_clean 55 = .ok (.iinc 4 1, 3) := dk_132 4 1 (dk_at dksX4_clean_2 8 rfl rfl)
theorem dX4_clean_58 : decode cX4_clean 58 = .ok (.goto (-32), 3) := dk_167 255 224 (dk_at dksX4_clean_2 11 rfl rfl)
theorem dX4_clean_61 : decode cX4_clean 61 = .ok (.iload_n 3, 1) := dk_29 (dk_at dksX4_clean_2 14 rfl rfl)
theorem dX4_clean_62 : decode cX4_clean 62 = .ok (.ireturn, 1) := dk_172 (dk_at dksX4_clean_2 15 rfl rfl)
theorem md_X4_clean : xMd yX4_clean cX4_clean 5 (Option.some Jvm.ClassFile.FieldType.int) 1 := ⟨q2161, q128, by decide, by decide +kernel, by decide +kernel, by decide +kernel⟩
def f_X4_clean_26F (a0 : Nat)  (k26 : Int32 × Option Nat × Int32 × Int32 × PH → Option (xO × PH)) (p : Int32 × Option Nat × Int32 × Int32 × PH) : Option (xO × PH) := match p with
  | (v1, v2, v3, v4, p0) => (xcR (f_X4_match p0 a0 v1) fun x11 p10 =>
  (xnul x11 none fun b12 =>
  (xgR p10 b12 8 2 fun x13 =>
  (xnul x13 none fun b14 =>
  (xlen p10 b14 fun x15 =>
  (if x15 < v4 then
  (rI v3 p10) else
  (xcI (f_X4_mistake p10 a0 v1 v4 v2) fun x17 p16 =>
  (xcI (f_J8_max p16 0 x17) fun x19 p18 =>
  (bnd (v3 - x19) fun x20 =>
  (bnd (v4 + 1) fun x21 =>
  (k26 (v1, v2, x20, x21, p18))))))))))))
def f_X4_clean (p0 : PH) (a0 : Nat) (a1 : Int32) : Option (xO × PH) :=
  (xcl1 p0 a0 3 (xcR (f_X4_pace p0 a0 a1) fun x2 p1 =>
  (xgR p1 a0 3 1 fun x3 =>
  (xnul x3 none fun b4 =>
  (xcR (f_J3_get p1 b4 a1) fun x6 p5 =>
  (xcst p5 (x6) [6]
  (xnul x6 none fun b7 =>
  (xcI (f_X7_total p5 b7 ) fun x9 p8 =>
  (lp (f_X4_clean_26F a0) FU (a1, x2, x9, 0, p8))))))))))
theorem rc_X4_clean {p0 : PH} {a0 : Nat} {a1 : Int32} : ∀ z, f_X4_clean p0 a0 a1 = some z → xco p0 a0 = some 3 := fun z h => xcl1_some h
theorem f_X4_clean_26F_ok {G : xG} (hO : xOK G) (a0 : Nat)  {k26 : Int32 × Option Nat × Int32 × Int32 × PH → Option (xO × PH)} (hk26 : ∀ (v1 : Int32) (v2 : Option Nat) (v3 : Int32) (v4 : Int32) (p0 : PH), X G "ForestLegs$Meet" "clean" cX4_clean 5 (Option.some Jvm.ClassFile.FieldType.int) 13 26 [(0, .ref a0), (1, .int v1), (2, va_rf v2), (3, .int v3), (4, .int v4)] [] p0 (k26 (v1, v2, v3, v4, p0))) (v1 : Int32) (v2 : Option Nat) (v3 : Int32) (v4 : Int32) (p0 : PH) : X G "ForestLegs$Meet" "clean" cX4_clean 5 (Option.some Jvm.ClassFile.FieldType.int) 13 26 [(0, .ref a0), (1, .int v1), (2, va_rf v2), (3, .int v3), (4, .int v4)] [] p0 (f_X4_clean_26F a0 k26 (v1, v2, v3, v4, p0)) := by
  unfold f_X4_clean_26F
  refine x_iload 4 dX4_clean_26 rfl (n := 28) rfl ?_
  refine x_aload_nr 0 dX4_clean_28 rfl rfl (n := 29) rfl ?_
  refine x_iload_n 1 dX4_clean_29 rfl rfl (n := 30) rfl ?_
  refine x_callV_R [.int v1] [.int v4] (f_X4_match_ok hO p0 a0 v1) rc_X4_match md_X4_match rfl q1503 q1504 q1505 dX4_clean_30 rfl rfl (by decide) (Nat.le_of_ble_eq_true rfl) (n := 33) rfl (fun x11 p10 => ?_)
  refine x_sm (fun b12 e => ?_)
  subst e
  refine x_getR fl_X4_140 dX4_clean_33 (n := 36) rfl (fun x13 => ?_)
  refine x_sm (fun b14 e => ?_)
  subst e
  refine x_alen dX4_clean_36 (n := 37) rfl (fun x15 => ?_)
  refine x_icmp_gt dX4_clean_37 (t := 61) (by decide) (n := 40) rfl (fun _ => ?_) (fun _ => ?_)
  · refine x_iload_n 3 dX4_clean_61 rfl rfl (n := 62) rfl ?_
    exact x_ireturn dX4_clean_62
  · refine x_iload_n 3 dX4_clean_40 rfl rfl (n := 41) rfl ?_
    refine x_iconst 0 dX4_clean_41 rfl (n := 42) rfl ?_
    refine x_aload_nr 0 dX4_clean_42 rfl rfl (n := 43) rfl ?_
    refine x_iload_n 1 dX4_clean_43 rfl rfl (n := 44) rfl ?_
    refine x_iload 4 dX4_clean_44 rfl (n := 46) rfl ?_
    refine x_aload_n 2 dX4_clean_46 rfl rfl (n := 47) rfl ?_
    refine x_callV_I [.int v1, .int v4, va_rf v2] [.int 0, .int v3] (f_X4_mistake_ok hO p10 a0 v1 v4 v2) rc_X4_mistake md_X4_mistake rfl q2164 q2108 q2109 dX4_clean_47 rfl rfl (by decide) (Nat.le_of_ble_eq_true rfl) (n := 50) rfl (fun x17 p16 => ?_)
    refine x_callS_I [.int 0, .int x17] [.int v3] (f_J8_max_ok hO p16 0 x17) md_J8_max q2165 q434 dX4_clean_50 rfl rfl (by decide) (Nat.le_of_ble_eq_true rfl) (n := 53) rfl (fun x19 p18 => ?_)
    refine x_isub dX4_clean_53 (n := 54) rfl ?_
    refine x_nm (fun x20 => ?_)
    refine x_istore_n [(3, .int x20), (0, .ref a0), (1, .int v1), (2, va_rf v2), (4, .int v4)] dX4_clean_54 rfl (by decide) (by simp only [xst, List.filter_cons, List.filter_nil, xcat] <;> rfl) (n := 55) rfl ?_
    refine x_iincB 4 (fun x21 => [(4, .int x21), (3, .int x20), (0, .ref a0), (1, .int v1), (2, va_rf v2)]) dX4_clean_55 rfl rfl (by decide) (fun _ => rfl) (n := 58) rfl (fun x21 => ?_)
    refine x_goto dX4_clean_58 (n := 26) (by decide) ?_
    refine x_sub [2, 3, 4, 1, 0] [(0, .ref a0), (1, .int v1), (2, va_rf v2), (3, .int x20), (4, .int x21)] rfl ?_
    exact hk26 v1 v2 x20 x21 p18
theorem f_X4_clean_26_lp {G : xG} (hO : xOK G) (a0 : Nat)  (n : Nat) (v1 : Int32) (v2 : Option Nat) (v3 : Int32) (v4 : Int32) (p0 : PH) : X G "ForestLegs$Meet" "clean" cX4_clean 5 (Option.some Jvm.ClassFile.FieldType.int) 13 26 [(0, .ref a0), (1, .int v1), (2, va_rf v2), (3, .int v3), (4, .int v4)] [] p0 (lp (f_X4_clean_26F a0) n (v1, v2, v3, v4, p0)) :=
  lp_ok (W := fun p K => X G "ForestLegs$Meet" "clean" cX4_clean 5 (Option.some Jvm.ClassFile.FieldType.int) 13 26 [(0, .ref a0), (1, .int p.1), (2, va_rf p.2.1), (3, .int p.2.2.1), (4, .int p.2.2.2.1)] [] p.2.2.2.2 K) (fun _ => x_no) (fun k hk => fun (v1, v2, v3, v4, p0) => f_X4_clean_26F_ok hO a0 (fun v1 v2 v3 v4 p0 => hk (v1, v2, v3, v4, p0)) v1 v2 v3 v4 p0) n (v1, v2, v3, v4, p0)
theorem f_X4_clean_ok {G : xG} (hO : xOK G) (p0 : PH) (a0 : Nat) (a1 : Int32) : CT G 13 yX4_clean cX4_clean 5 (Option.some Jvm.ClassFile.FieldType.int) [.ref a0, .int a1] p0 (f_X4_clean p0 a0 a1) := by
  refine CT_of hO (by decide +kernel) (by decide +kernel) (Nat.le_of_ble_eq_true rfl) ?_
  show X G "ForestLegs$Meet" "clean" cX4_clean 5 (Option.some Jvm.ClassFile.FieldType.int) 13 0 [(0, .ref a0), (1, .int a1)] [] p0 (f_X4_clean p0 a0 a1)
  refine x_cl1 (fun e0 => ?_)
  refine x_aload_nr 0 dX4_clean_0 rfl rfl (n := 1) rfl ?_
  refine x_iload_n 1 dX4_clean_1 rfl rfl (n := 2) rfl ?_
  refine x_callV_R [.int a1] [] (f_X4_pace_ok hO p0 a0 a1) rc_X4_pace md_X4_pace rfl q2162 q2007 q2008 dX4_clean_2 rfl rfl (by decide) (Nat.le_of_ble_eq_true rfl) (n := 5) rfl (fun x2 p1 => ?_)
  refine x_astore_n [(2, va_rf x2), (0, .ref a0), (1, .int a1)] dX4_clean_5 rfl (by decide) rfl (n := 6) rfl ?_
  refine x_aload_nr 1 dX4_clean_6 rfl rfl (n := 7) rfl ?_
  refine x_getR fl_X4_20 dX4_clean_7 (n := 10) rfl (fun x3 => ?_)
  refine x_iload_n 2 dX4_clean_10 rfl rfl (n := 11) rfl ?_
  refine x_sm (fun b4 e => ?_)
  subst e
  refine x_callF_R [.int a1] [] (f_J3_get_ok hO p1 b4 a1) rc_J3_get md_J3_get rfl q1511 fc_java_util_ArrayList_java_util_List_get_1_ILjava dX4_clean_11 rfl rfl (by decide) (Nat.le_of_ble_eq_true rfl) (n := 16) rfl (fun x6 p5 => ?_)
  refine x_cast (x := x6) (cs := [6]) q1512 cst_ForestLegs_Runner dX4_clean_16 (n := 19) rfl ?_
  refine x_sm (fun b7 e => ?_)
  subst e
  refine x_callV_I [] [] (f_X7_total_ok hO p5 b7 ) rc_X7_total md_X7_total rfl q2163 q963 q964 dX4_clean_19 rfl rfl (by decide) (Nat.le_of_ble_eq_true rfl) (n := 22) rfl (fun x9 p8 => ?_)
  refine x_istore_n [(3, .int x9), (2, va_rf x2), (0, .ref a0), (1, .int a1)] dX4_clean_22 rfl (by decide) (by simp only [xst, List.filter_cons, List.filter_nil, xcat] <;> rfl) (n := 23) rfl ?_
  refine x_iconst 0 dX4_clean_23 rfl (n := 24) rfl ?_
  refine x_istore [(4, .int 0), (3, .int x9), (2, va_rf x2), (0, .ref a0), (1, .int a1)] dX4_clean_24 (by decide) rfl (n := 26) rfl ?_
  refine x_sub [3, 4, 2, 1, 0] [(0, .ref a0), (1, .int a1), (2, va_rf x2), (3, .int x9), (4, .int 0)] rfl ?_
  exact f_X4_clean_26_lp hO a0 FU a1 x2 x9 0 p8
abbrev cX1_clean : ByteArray := prog_1_method_38_code
def yX1_clean : MethodName := ⟨RX1, "clean", "(I)I"⟩
def dkwX1_clean_1 : List UInt8 := [4, 182, 0, 40, 172]
abbrev dktX1_clean_1 : List UInt8 := dkwX1_clean_1 ++ []
def dkwX1_clean_0 : List UInt8 := [42, 27, 182, 0, 100, 153, 0, 18, 42, 42, 180, 0, 56, 27, 182, 1, 16, 182, 0, 83, 167, 0, 8, 42]
abbrev dktX1_clean_0 : List UInt8 := dkwX1_clean_0 ++ dktX1_clean_1
theorem dksX1_clean_0 : cX1_clean.data.toList.drop 0 = dktX1_clean_0 := by decide +kernel
theorem dksX1_clean_1 : cX1_clean.data.toList.drop 24 = dktX1_clean_1 := dk_seg dksX1_clean_0 24 rfl rfl
theorem dX1_clean_0 : decode cX1_clean 0 = .ok (.aload_n 0, 1) := dk_42 (dk_at dksX1_clean_0 0 rfl rfl)
theorem dX1_clean_1 : decode cX1_clean 1 = .ok (.iload_n 1, 1) := dk_27 (dk_at dksX1_clean_0 1 rfl rfl)
theorem dX1_clean_2 : decode cX1_clean 2 = .ok (.invokevirtual 100, 3) := dk_182 0 100 (dk_at dksX1_clean_0 2 rfl rfl)
theorem dX1_clean_5 : decode cX1_clean 5 = .ok (.ifCond .eq 18, 3) := dk_153 0 18 (dk_at dksX1_clean_0 5 rfl rfl)
theorem dX1_clean_8 : decode cX1_clean 8 = .ok (.aload_n 0, 1) := dk_42 (dk_at dksX1_clean_0 8 rfl rfl)
theorem dX1_clean_9 : decode cX1_clean 9 = .ok (.aload_n 0, 1) := dk_42 (dk_at dksX1_clean_0 9 rfl rfl)
theorem dX1_clean_10 : decode cX1_clean 10 = .ok (.getfield 56, 3) := dk_180 0 56 (dk_at dksX1_clean_0 10 rfl rfl)
theorem dX1_clean_13 : decode cX1_clean 13 = .ok (.iload_n 1, 1) := dk_27 (dk_at dksX1_clean_0 13 rfl rfl)
theorem dX1_clean_14 : decode cX1_clean 14 = .ok (.invokevirtual 272, 3) := dk_182 1 16 (dk_at dksX1_clean_0 14 rfl rfl)
theorem dX1_clean_17 : decode cX1_clean 17 = .ok (.invokevirtual 83, 3) := dk_182 0 83 (dk_at dksX1_clean_0 17 rfl rfl)
theorem dX1_clean_20 : decode cX1_clean 20 = .ok (.goto 8, 3) := dk_167 0 8 (dk_at dksX1_clean_0 20 rfl rfl)
theorem dX1_clean_23 : decode cX1_clean 23 = .ok (.aload_n 0, 1) := dk_42 (dk_at dksX1_clean_0 23 rfl rfl)
theorem dX1_clean_24 : decode cX1_clean 24 = .ok (.iconst 1, 1) := dk_4 (dk_at dksX1_clean_1 0 rfl rfl)
theorem dX1_clean_25 : decode cX1_clean 25 = .ok (.invokevirtual 40, 3) := dk_182 0 40 (dk_at dksX1_clean_1 1 rfl rfl)
theorem dX1_clean_28 : decode cX1_clean 28 = .ok (.ireturn, 1) := dk_172 (dk_at dksX1_clean_1 4 rfl rfl)
theorem md_X1_clean : xMd yX1_clean cX1_clean 2 (Option.some Jvm.ClassFile.FieldType.int) 1 := ⟨q2157, q123, by decide, by decide +kernel, by decide +kernel, by decide +kernel⟩
def f_X1_clean (p0 : PH) (a0 : Nat) (a1 : Int32) : Option (xO × PH) :=
  (xcl1 p0 a0 0 (xcI (f_X1_isRunner p0 a0 a1) fun x2 p1 =>
  (if x2 = 0 then
  (xcI (f_X1_refused p1 a0 1) fun x4 p3 =>
  (rI x4 p3)) else
  (xgR p1 a0 0 5 fun x5 =>
  (xnul x5 none fun b6 =>
  (xcI (f_X4_clean p1 b6 a1) fun x8 p7 =>
  (xcI (f_X1_fine p7 a0 x8) fun x10 p9 =>
  (rI x10 p9))))))))
theorem rc_X1_clean {p0 : PH} {a0 : Nat} {a1 : Int32} : ∀ z, f_X1_clean p0 a0 a1 = some z → xco p0 a0 = some 0 := fun z h => xcl1_some h
theorem f_X1_clean_ok {G : xG} (hO : xOK G) (p0 : PH) (a0 : Nat) (a1 : Int32) : CT G 14 yX1_clean cX1_clean 2 (Option.some Jvm.ClassFile.FieldType.int) [.ref a0, .int a1] p0 (f_X1_clean p0 a0 a1) := by
  refine CT_of hO (by decide +kernel) (by decide +kernel) (Nat.le_of_ble_eq_true rfl) ?_
  show X G "ForestLegs" "clean" cX1_clean 2 (Option.some Jvm.ClassFile.FieldType.int) 14 0 [(0, .ref a0), (1, .int a1)] [] p0 (f_X1_clean p0 a0 a1)
  refine x_cl1 (fun e0 => ?_)
  refine x_aload_nr 0 dX1_clean_0 rfl rfl (n := 1) rfl ?_
  refine x_iload_n 1 dX1_clean_1 rfl rfl (n := 2) rfl ?_
  refine x_callV_I [.int a1] [] (f_X1_isRunner_ok hO p0 a0 a1) rc_X1_isRunner md_X1_isRunner rfl q1780 q1782 qs41 dX1_clean_2 rfl rfl (by decide) (Nat.le_of_ble_eq_true rfl) (n := 5) rfl (fun x2 p1 => ?_)
  refine x_if_eq dX1_clean_5 (t := 23) (by decide) (n := 8) rfl (fun _ => ?_) (fun _ => ?_)
  · refine x_aload_nr 0 dX1_clean_23 rfl rfl (n := 24) rfl ?_
    refine x_iconst 1 dX1_clean_24 rfl (n := 25) rfl ?_
    refine x_callV_I [.int 1] [] (f_X1_refused_ok hO p1 a0 1) rc_X1_refused md_X1_refused rfl q250 q252 qs0 dX1_clean_25 rfl rfl (by decide) (Nat.le_of_ble_eq_true rfl) (n := 28) rfl (fun x4 p3 => ?_)
    exact x_ireturn dX1_clean_28
  · refine x_aload_nr 0 dX1_clean_8 rfl rfl (n := 9) rfl ?_
    refine x_aload_nr 0 dX1_clean_9 rfl rfl (n := 10) rfl ?_
    refine x_getR fl_X1_56 dX1_clean_10 (n := 13) rfl (fun x5 => ?_)
    refine x_iload_n 1 dX1_clean_13 rfl rfl (n := 14) rfl ?_
    refine x_sm (fun b6 e => ?_)
    subst e
    refine x_callV_I [.int a1] [.ref a0] (f_X4_clean_ok hO p1 b6 a1) rc_X4_clean md_X4_clean rfl q2158 q2159 q2160 dX1_clean_14 rfl rfl (by decide) (Nat.le_of_ble_eq_true rfl) (n := 17) rfl (fun x8 p7 => ?_)
    refine x_callV_I [.int x8] [] (f_X1_fine_ok hO p7 a0 x8) rc_X1_fine md_X1_fine rfl q1480 q1482 qs26 dX1_clean_17 rfl rfl (by decide) (Nat.le_of_ble_eq_true rfl) (n := 20) rfl (fun x10 p9 => ?_)
    refine x_goto dX1_clean_20 (n := 28) (by decide) ?_
    exact x_ireturn dX1_clean_28
abbrev cX1_cleanPlace : ByteArray := prog_1_method_39_code
def yX1_cleanPlace : MethodName := ⟨RX1, "cleanPlace", "(II)I"⟩
def dkwX1_cleanPlace_7 : List UInt8 := [167, 255, 175, 42, 21, 4, 182, 0, 83, 172]
abbrev dktX1_cleanPlace_7 : List UInt8 := dkwX1_cleanPlace_7 ++ []
def dkwX1_cleanPlace_6 : List UInt8 := [167, 0, 12, 42, 180, 0, 56, 21, 6, 182, 1, 16, 29, 162, 0, 7, 4, 167, 0, 4, 3, 96, 54, 4]
abbrev dktX1_cleanPlace_6 : List UInt8 := dkwX1_cleanPlace_6 ++ dktX1_cleanPlace_7
def dkwX1_cleanPlace_5 : List UInt8 := [154, 0, 26, 42, 180, 0, 56, 180, 0, 71, 21, 6, 185, 0, 93, 2, 0, 192, 0, 103, 182, 0, 161]
abbrev dktX1_cleanPlace_5 : List UInt8 := dkwX1_cleanPlace_5 ++ dktX1_cleanPlace_6
def dkwX1_cleanPlace_4 : List UInt8 := [25, 5, 185, 0, 185, 1, 0, 192, 0, 132, 182, 0, 158, 54, 6, 21, 4, 21, 6, 27, 159, 0, 47, 28]
abbrev dktX1_cleanPlace_4 : List UInt8 := dkwX1_cleanPlace_4 ++ dktX1_cleanPlace_5
def dkwX1_cleanPlace_3 : List UInt8 := [180, 0, 105, 182, 0, 150, 185, 0, 176, 1, 0, 58, 5, 25, 5, 185, 0, 180, 1, 0, 153, 0, 77]
abbrev dktX1_cleanPlace_3 : List UInt8 := dkwX1_cleanPlace_3 ++ dktX1_cleanPlace_4
def dkwX1_cleanPlace_2 : List UInt8 := [182, 1, 16, 62, 4, 54, 4, 42, 42, 180, 0, 56, 180, 0, 71, 27, 185, 0, 93, 2, 0, 192, 0, 103]
abbrev dktX1_cleanPlace_2 : List UInt8 := dkwX1_cleanPlace_2 ++ dktX1_cleanPlace_3
def dkwX1_cleanPlace_1 : List UInt8 := [180, 0, 56, 27, 182, 0, 115, 154, 0, 10, 42, 16, 254, 182, 0, 83, 172, 42, 180, 0, 56, 27]
abbrev dktX1_cleanPlace_1 : List UInt8 := dkwX1_cleanPlace_1 ++ dktX1_cleanPlace_2
def dkwX1_cleanPlace_0 : List UInt8 := [42, 27, 182, 0, 100, 153, 0, 12, 28, 3, 4, 184, 0, 36, 154, 0, 9, 42, 4, 182, 0, 40, 172, 42]
abbrev dktX1_cleanPlace_0 : List UInt8 := dkwX1_cleanPlace_0 ++ dktX1_cleanPlace_1
theorem dksX1_cleanPlace_0 : cX1_cleanPlace.data.toList.drop 0 = dktX1_cleanPlace_0 := by decide +kernel
theorem dksX1_cleanPlace_1 : cX1_cleanPlace.data.toList.drop 24 = dktX1_cleanPlace_1 := dk_seg dksX1_cleanPlace_0 24 rfl rfl
theorem dksX1_cleanPlace_2 : cX1_cleanPlace.data.toList.drop 46 = dktX1_cleanPlace_2 := dk_seg dksX1_cleanPlace_1 22 rfl rfl
theorem dksX1_cleanPlace_3 : cX1_cleanPlace.data.toList.drop 70 = dktX1_cleanPlace_3 := dk_seg dksX1_cleanPlace_2 24 rfl rfl
theorem dksX1_cleanPlace_4 : cX1_cleanPlace.data.toList.drop 93 = dktX1_cleanPlace_4 := dk_seg dksX1_cleanPlace_3 23 rfl rfl
theorem dksX1_cleanPlace_5 : cX1_cleanPlace.data.toList.drop 117 = dktX1_cleanPlace_5 := dk_seg dksX1_cleanPlace_4 24 rfl rfl
theorem dksX1_cleanPlace_6 : cX1_cleanPlace.data.toList.drop 140 = dktX1_cleanPlace_6 := dk_seg dksX1_cleanPlace_5 23 rfl rfl
theorem dksX1_cleanPlace_7 : cX1_cleanPlace.data.toList.drop 164 = dktX1_cleanPlace_7 := dk_seg dksX1_cleanPlace_6 24 rfl rfl
theorem dX1_cleanPlace_0 : decode cX1_cleanPlace 0 = .ok (.aload_n 0, 1) := dk_42 (dk_at dksX1_cleanPlace_0 0 rfl rfl)
theorem dX1_cleanPlace_1 : decode cX1_cleanPlace 1 = .ok (.iload_n 1, 1) := dk_27 (dk_at dksX1_cleanPlace_0 1 rfl rfl)
theorem dX1_cleanPlace_2 : decode cX1_cleanPlace 2 = .ok (.invokevirtual 100, 3) := dk_182 0 100 (dk_at dksX1_cleanPlace_0 2 rfl rfl)
theorem dX1_cleanPlace_5 : decode cX1_cleanPlace 5 = .ok (.ifCond .eq 12, 3) := dk_153 0 12 (dk_at dksX1_cleanPlace_0 5 rfl rfl)
theorem dX1_cleanPlace_8 : decode cX1_cleanPlace 8 = .ok (.iload_n 2, 1) := dk_28 (dk_at dksX1_cleanPlace_0 8 rfl rfl)
theorem dX1_cleanPlace_9 : decode cX1_cleanPlace 9 = .ok (.iconst 0, 1) := dk_3 (dk_at dksX1_cleanPlace_0 9 rfl rfl)
theorem dX1_cleanPlace_10 : decode cX1_cleanPlace 10 = .ok (.iconst 1, 1) := dk_4 (dk_at dksX1_cleanPlace_0 10 rfl rfl)
theorem dX1_cleanPlace_11 : decode cX1_cleanPlace 11 = .ok (.invokestatic 36, 3) := dk_184 0 36 (dk_at dksX1_cleanPlace_0 11 rfl rfl)
theorem dX1_cleanPlace_14 : decode cX1_cleanPlace 14 = .ok (.ifCond .ne 9, 3) := dk_154 0 9 (dk_at dksX1_cleanPlace_0 14 rfl rfl)
theorem dX1_cleanPlace_17 : decode cX1_cleanPlace 17 = .ok (.aload_n 0, 1) := dk_42 (dk_at dksX1_cleanPlace_0 17 rfl rfl)
theorem dX1_cleanPlace_18 : decode cX1_cleanPlace 18 = .ok (.iconst 1, 1) := dk_4 (dk_at dksX1_cleanPlace_0 18 rfl rfl)
theorem dX1_cleanPlace_19 : decode cX1_cleanPlace 19 = .ok (.invokevirtual 40, 3) := dk_182 0 40 (dk_at dksX1_cleanPlace_0 19 rfl rfl)
theorem dX1_cleanPlace_22 : decode cX1_cleanPlace 22 = .ok (.ireturn, 1) := dk_172 (dk_at dksX1_cleanPlace_0 22 rfl rfl)
theorem dX1_cleanPlace_23 : decode cX1_cleanPlace 23 = .ok (.aload_n 0, 1) := dk_42 (dk_at dksX1_cleanPlace_0 23 rfl rfl)
theorem dX1_cleanPlace_24 : decode cX1_cleanPlace 24 = .ok (.getfield 56, 3) := dk_180 0 56 (dk_at dksX1_cleanPlace_1 0 rfl rfl)
theorem dX1_cleanPlace_27 : decode cX1_cleanPlace 27 = .ok (.iload_n 1, 1) := dk_27 (dk_at dksX1_cleanPlace_1 3 rfl rfl)
theorem dX1_cleanPlace_28 : decode cX1_cleanPlace 28 = .ok (.invokevirtual 115, 3) := dk_182 0 115 (dk_at dksX1_cleanPlace_1 4 rfl rfl)
theorem dX1_cleanPlace_31 : decode cX1_cleanPlace 31 = .ok (.ifCond .ne 10, 3) := dk_154 0 10 (dk_at dksX1_cleanPlace_1 7 rfl rfl)
theorem dX1_cleanPlace_34 : decode cX1_cleanPlace 34 = .ok (.aload_n 0, 1) := dk_42 (dk_at dksX1_cleanPlace_1 10 rfl rfl)
theorem dX1_cleanPlace_35 : decode cX1_cleanPlace 35 = .ok (.bipush (-2), 2) := dk_16 254 (dk_at dksX1_cleanPlace_1 11 rfl rfl)
theorem dX1_cleanPlace_37 : decode cX1_cleanPlace 37 = .ok (.invokevirtual 83, 3) := dk_182 0 83 (dk_at dksX1_cleanPlace_1 13 rfl rfl)
theorem dX1_cleanPlace_40 : decode cX1_cleanPlace 40 = .ok (.ireturn, 1) := dk_172 (dk_at dksX1_cleanPlace_1 16 rfl rfl)
theorem dX1_cleanPlace_41 : decode cX1_cleanPlace 41 = .ok (.aload_n 0, 1) := dk_42 (dk_at dksX1_cleanPlace_1 17 rfl rfl)
theorem dX1_cleanPlace_42 : decode cX1_cleanPlace 42 = .ok (.getfield 56, 3) := dk_180 0 56 (dk_at dksX1_cleanPlace_1 18 rfl rfl)
theorem dX1_cleanPlace_45 : decode cX1_cleanPlace 45 = .ok (.iload_n 1, 1) := dk_27 (dk_at dksX1_cleanPlace_1 21 rfl rfl)
theorem dX1_cleanPlace_46 : decode cX1_cleanPlace 46 = .ok (.invokevirtual 272, 3) := dk_182 1 16 (dk_at dksX1_cleanPlace_2 0 rfl rfl)
theorem dX1_cleanPlace_49 : decode cX1_cleanPlace 49 = .ok (.istore_n 3, 1) := dk_62 (dk_at dksX1_cleanPlace_2 3 rfl rfl)
theorem dX1_cleanPlace_50 : decode cX1_cleanPlace 50 = .ok (.iconst 1, 1) := dk_4 (dk_at dksX1_cleanPlace_2 4 rfl rfl)
theorem dX1_cleanPlace_51 : decode cX1_cleanPlace 51 = .ok (.istore 4, 2) := dk_54 4 (dk_at dksX1_cleanPlace_2 5 rfl rfl)
theorem dX1_cleanPlace_53 : decode cX1_cleanPlace 53 = .ok (.aload_n 0, 1) := dk_42 (dk_at dksX1_cleanPlace_2 7 rfl rfl)
theorem dX1_cleanPlace_54 : decode cX1_cleanPlace 54 = .ok (.aload_n 0, 1) := dk_42 (dk_at dksX1_cleanPlace_2 8 rfl rfl)
theorem dX1_cleanPlace_55 : decode cX1_cleanPlace 55 = .ok (.getfield 56, 3) := dk_180 0 56 (dk_at dksX1_cleanPlace_2 9 rfl rfl)
theorem dX1_cleanPlace_58 : decode cX1_cleanPlace 58 = .ok (.getfield 71, 3) := dk_180 0 71 (dk_at dksX1_cleanPlace_2 12 rfl rfl)
theorem dX1_cleanPlace_61 : decode cX1_cleanPlace 61 = .ok (.iload_n 1, 1) := dk_27 (dk_at dksX1_cleanPlace_2 15 rfl rfl)
theorem dX1_cleanPlace_62 : decode cX1_cleanPlace 62 = .ok (.invokeinterface 93 2, 5) := by decide +kernel
theorem dX1_cleanPlace_67 : decode cX1_cleanPlace 67 = .ok (.checkcast 103, 3) := dk_192 0 103 (dk_at dksX1_cleanPlace_2 21 rfl rfl)
theorem dX1_cleanPlace_70 : decode cX1_cleanPlace 70 = .ok (.getfield 105, 3) := dk_180 0 105 (dk_at dksX1_cleanPlace_3 0 rfl rfl)
theorem dX1_cleanPlace_73 : decode cX1_cleanPlace 73 = .ok (.invokevirtual 150, 3) := dk_182 0 150 (dk_at dksX1_cleanPlace_3 3 rfl rfl)
theorem dX1_cleanPlace_76 : decode cX1_cleanPlace 76 = .ok (.invokeinterface 176 1, 5) := by decide +kernel
theorem dX1_cleanPlace_81 : decode cX1_cleanPlace 81 = .ok (.astore 5, 2) := dk_58 5 (dk_at dksX1_cleanPlace_3 11 rfl rfl)
theorem dX1_cleanPlace_83 : decode cX1_cleanPlace 83 = .ok (.aload 5, 2) := dk_25 5 (dk_at dksX1_cleanPlace_3 13 rfl rfl)
theorem dX1_cleanPlace_85 : decode cX1_cleanPlace 85 = .ok (.invokeinterface 180 1, 5) := by decide +kernel
theorem dX1_cleanPlace_90 : decode cX1_cleanPlace 90 = .ok (.ifCond .eq 77, 3) := dk_153 0 77 (dk_at dksX1_cleanPlace_3 20 rfl rfl)
theorem dX1_cleanPlace_93 : decode cX1_cleanPlace 93 = .ok (.aload 5, 2) := dk_25 5 (dk_at dksX1_cleanPlace_4 0 rfl rfl)
theorem dX1_cleanPlace_95 : decode cX1_cleanPlace 95 = .ok (.invokeinterface 185 1, 5) := by decide +kernel
theorem dX1_cleanPlace_100 : decode cX1_cleanPlace 100 = .ok (.checkcast 132, 3) := dk_192 0 132 (dk_at dksX1_cleanPlace_4 7 rfl rfl)
theorem dX1_cleanPlace_103 : decode cX1_cleanPlace 103 = .ok (.invokevirtual 158, 3) := dk_182 0 158 (dk_at dksX1_cleanPlace_4 10 rfl rfl)
theorem dX1_cleanPlace_106 : decode cX1_cleanPlace 106 = .ok (.istore 6, 2) := dk_54 6 (dk_at dksX1_cleanPlace_4 13 rfl rfl)
theorem dX1_cleanPlace_108 : decode cX1_cleanPlace 108 = .ok (.iload 4, 2) := dk_21 4 (dk_at dksX1_cleanPlace_4 15 rfl rfl)
theorem dX1_cleanPlace_110 : decode cX1_cleanPlace 110 = .ok (.iload 6, 2) := dk_21 6 (dk_at dksX1_cleanPlace_4 17 rfl rfl)
theorem dX1_cleanPlace_112 : decode cX1_cleanPlace 112 = .ok (.iload_n 1, 1) := dk_27 (dk_at dksX1_cleanPlace_4 19 rfl rfl)
theorem dX1_cleanPlace_113 : decode cX1_cleanPlace 113 = .ok (.if_icmp .eq 47, 3) := dk_159 0 47 (dk_at dksX1_cleanPlace_4 20 rfl rfl)
theorem dX1_cleanPlace_116 : decode cX1_cleanPlace 116 = .ok (.iload_n 2, 1) := dk_28 (dk_at dksX1_cleanPlace_4 23 rfl rfl)
theorem dX1_cleanPlace_117 : decode cX1_cleanPlace 117 = .ok (.ifCond .ne 26, 3) := dk_154 0 26 (dk_at dksX1_cleanPlace_5 0 rfl rfl)
theorem dX1_cleanPlace_120 : decode cX1_cleanPlace 120 = .ok (.aload_n 0, 1) := dk_42 (dk_at dksX1_cleanPlace_5 3 rfl rfl)
theorem dX1_cleanPlace_121 : decode cX1_cleanPlace 121 = .ok (.getfield 56, 3) := dk_180 0 56 (dk_at dksX1_cleanPlace_5 4 rfl rfl)
theorem dX1_cleanPlace_124 : decode cX1_cleanPlace 124 = .ok (.getfield 71, 3) := dk_180 0 71 (dk_at dksX1_cleanPlace_5 7 rfl rfl)
theorem dX1_cleanPlace_127 : decode cX1_cleanPlace 127 = .ok (.iload 6, 2) := dk_21 6 (dk_at dksX1_cleanPlace_5 10 rfl rfl)
theorem dX1_cleanPlace_129 : decode cX1_cleanPlace 129 = .ok (.invokeinterface 93 2, 5) := by decide +kernel
theorem dX1_cleanPlace_134 : decode cX1_cleanPlace 134 = .ok (.checkcast 103, 3) := dk_192 0 103 (dk_at dksX1_cleanPlace_5 17 rfl rfl)
theorem dX1_cleanPlace_137 : decode cX1_cleanPlace 137 = .ok (.invokevirtual 161, 3) := dk_182 0 161 (dk_at dksX1_cleanPlace_5 20 rfl rfl)
theorem dX1_cleanPlace_140 : decode cX1_cleanPlace 140 = .ok (.goto 12, 3) := dk_167 0 12 (dk_at dksX1_cleanPlace_6 0 rfl rfl)
theorem dX1_cleanPlace_143 : decode cX1_cleanPlace 143 = .ok (.aload_n 0, 1) := dk_42 (dk_at dksX1_cleanPlace_6 3 rfl rfl)
theorem dX1_cleanPlace_144 : decode cX1_cleanPlace 144 = .ok (.getfield 56, 3) := dk_180 0 56 (dk_at dksX1_cleanPlace_6 4 rfl rfl)
theorem dX1_cleanPlace_147 : decode cX1_cleanPlace 147 = .ok (.iload 6, 2) := dk_21 6 (dk_at dksX1_cleanPlace_6 7 rfl rfl)
theorem dX1_cleanPlace_149 : decode cX1_cleanPlace 149 = .ok (.invokevirtual 272, 3) := dk_182 1 16 (dk_at dksX1_cleanPlace_6 9 rfl rfl)
theorem dX1_cleanPlace_152 : decode cX1_cleanPlace 152 = .ok (.iload_n 3, 1) := dk_29 (dk_at dksX1_cleanPlace_6 12 rfl rfl)
theorem dX1_cleanPlace_153 : decode cX1_cleanPlace 153 = .ok (.if_icmp .ge 7, 3) := dk_162 0 7 (dk_at dksX1_cleanPlace_6 13 rfl rfl)
theorem dX1_cleanPlace_156 : decode cX1_cleanPlace 156 = .ok (.iconst 1, 1) := dk_4 (dk_at dksX1_cleanPlace_6 16 rfl rfl)
theorem dX1_cleanPlace_157 : decode cX1_cleanPlace 157 = .ok (.goto 4, 3) := dk_167 0 4 (dk_at dksX1_cleanPlace_6 17 rfl rfl)
theorem dX1_cleanPlace_160 : decode cX1_cleanPlace 160 = .ok (.iconst 0, 1) := dk_3 (dk_at dksX1_cleanPlace_6 20 rfl rfl)
theorem dX1_cleanPlace_161 : decode cX1_cleanPlace 161 = .ok (.iadd, 1) := dk_96 (dk_at dksX1_cleanPlace_6 21 rfl rfl)
theorem dX1_cleanPlace_162 : decode cX1_cleanPlace 162 = .ok (.istore 4, 2) := dk_54 4 (dk_at dksX1_cleanPlace_6 22 rfl rfl)
theorem dX1_cleanPlace_164 : decode cX1_cleanPlace 164 = .ok (.goto (-81), 3) := dk_167 255 175 (dk_at dksX1_cleanPlace_7 0 rfl rfl)
theorem dX1_cleanPlace_167 : decode cX1_cleanPlace 167 = .ok (.aload_n 0, 1) := dk_42 (dk_at dksX1_cleanPlace_7 3 rfl rfl)
theorem dX1_cleanPlace_168 : decode cX1_cleanPlace 168 = .ok (.iload 4, 2) := dk_21 4 (dk_at dksX1_cleanPlace_7 4 rfl rfl)
theorem dX1_cleanPlace_170 : decode cX1_cleanPlace 170 = .ok (.invokevirtual 83, 3) := dk_182 0 83 (dk_at dksX1_cleanPlace_7 6 rfl rfl)
theorem dX1_cleanPlace_173 : decode cX1_cleanPlace 173 = .ok (.ireturn, 1) := dk_172 (dk_at dksX1_cleanPlace_7 9 rfl rfl)
theorem md_X1_cleanPlace : xMd yX1_cleanPlace cX1_cleanPlace 7 (Option.some Jvm.ClassFile.FieldType.int) 2 := ⟨q2169, q123, by decide, by decide +kernel, by decide +kernel, by decide +kernel⟩
def f_X1_cleanPlace_17 (a0 : Nat)   (p0 : PH) : Option (xO × PH) :=
  (xcI (f_X1_refused p0 a0 1) fun x4 p3 =>
  (rI x4 p3))
def f_X1_cleanPlace_161 (a0 : Nat) (k83 : Int32 × Int32 × Int32 × Int32 × Option Nat × PH → Option (xO × PH)) (v1 : Int32) (v2 : Int32) (v3 : Int32) (v5 : Option Nat) (w0 : Int32) (w1 : Int32) (p0 : PH) : Option (xO × PH) :=
  (bnd (w0 + w1) fun x44 =>
  (k83 (v1, v2, v3, x44, v5, p0)))
def f_X1_cleanPlace_160 (a0 : Nat) (k83 : Int32 × Int32 × Int32 × Int32 × Option Nat × PH → Option (xO × PH)) (v1 : Int32) (v2 : Int32) (v3 : Int32) (v5 : Option Nat) (w0 : Int32) (p0 : PH) : Option (xO × PH) :=
  (f_X1_cleanPlace_161 a0 k83 v1 v2 v3 v5 w0 0 p0)
def f_X1_cleanPlace_152 (a0 : Nat) (k83 : Int32 × Int32 × Int32 × Int32 × Option Nat × PH → Option (xO × PH)) (v1 : Int32) (v2 : Int32) (v3 : Int32) (v5 : Option Nat) (w0 : Int32) (w1 : Int32) (p0 : PH) : Option (xO × PH) :=
  (if v3 ≤ w1 then
  (f_X1_cleanPlace_160 a0 k83 v1 v2 v3 v5 w0 p0) else
  (f_X1_cleanPlace_161 a0 k83 v1 v2 v3 v5 w0 1 p0))
def f_X1_cleanPlace_83F (a0 : Nat)  (k83 : Int32 × Int32 × Int32 × Int32 × Option Nat × PH → Option (xO × PH)) (p : Int32 × Int32 × Int32 × Int32 × Option Nat × PH) : Option (xO × PH) := match p with
  | (v1, v2, v3, v4, v5, p0) => (xnul v5 none fun b28 =>
  (xsw p0 b28 fun c30 =>
  (if c30 = 20 then
  (xcI (f_J26_hasNext p0 b28 ) fun x33 p32 =>
  (if x33 = 0 then
  (xcI (f_X1_fine p32 a0 v4) fun x35 p34 =>
  (rI x35 p34)) else
  (xsw p32 b28 fun c37 =>
  (if c37 = 20 then
  (xcR (f_J26_next p32 b28 ) fun x40 p39 =>
  (xcst p39 (x40) [18]
  (xnul x40 none fun b41 =>
  (xcI (f_J19_intValue p39 b41 ) fun x43 p42 =>
  (if x43 = v1 then
  (f_X1_cleanPlace_160 a0 k83 v1 v2 v3 ((some b28)) v4 p42) else
  (if v2 = 0 then
  (xgR p42 a0 0 5 fun x49 =>
  (xnul x49 none fun b50 =>
  (xgR p42 b50 3 1 fun x51 =>
  (xnul x51 none fun b52 =>
  (xcR (f_J3_get p42 b52 x43) fun x54 p53 =>
  (xcst p53 (x54) [6]
  (xnul x54 none fun b55 =>
  (xcI (f_X7_total p53 b55 ) fun x57 p56 =>
  (f_X1_cleanPlace_152 a0 k83 v1 v2 v3 ((some b28)) v4 x57 p56))))))))) else
  (xgR p42 a0 0 5 fun x45 =>
  (xnul x45 none fun b46 =>
  (xcI (f_X4_clean p42 b46 x43) fun x48 p47 =>
  (f_X1_cleanPlace_152 a0 k83 v1 v2 v3 ((some b28)) v4 x48 p47)))))))))) else
  (if c37 = 25 then
  (xcR (f_J37_next p32 b28 ) fun x59 p58 =>
  (xcst p58 (x59) [18]
  (xnul x59 none fun b60 =>
  (xcI (f_J19_intValue p58 b60 ) fun x62 p61 =>
  (if x62 = v1 then
  (f_X1_cleanPlace_160 a0 k83 v1 v2 v3 ((some b28)) v4 p61) else
  (if v2 = 0 then
  (xgR p61 a0 0 5 fun x67 =>
  (xnul x67 none fun b68 =>
  (xgR p61 b68 3 1 fun x69 =>
  (xnul x69 none fun b70 =>
  (xcR (f_J3_get p61 b70 x62) fun x72 p71 =>
  (xcst p71 (x72) [6]
  (xnul x72 none fun b73 =>
  (xcI (f_X7_total p71 b73 ) fun x75 p74 =>
  (f_X1_cleanPlace_152 a0 k83 v1 v2 v3 ((some b28)) v4 x75 p74))))))))) else
  (xgR p61 a0 0 5 fun x63 =>
  (xnul x63 none fun b64 =>
  (xcI (f_X4_clean p61 b64 x62) fun x66 p65 =>
  (f_X1_cleanPlace_152 a0 k83 v1 v2 v3 ((some b28)) v4 x66 p65)))))))))) else
  none))))) else
  (if c30 = 25 then
  (xcI (f_J36_hasNext p0 b28 ) fun x77 p76 =>
  (if x77 = 0 then
  (xcI (f_X1_fine p76 a0 v4) fun x79 p78 =>
  (rI x79 p78)) else
  (xsw p76 b28 fun c81 =>
  (if c81 = 20 then
  (xcR (f_J26_next p76 b28 ) fun x84 p83 =>
  (xcst p83 (x84) [18]
  (xnul x84 none fun b85 =>
  (xcI (f_J19_intValue p83 b85 ) fun x87 p86 =>
  (if x87 = v1 then
  (f_X1_cleanPlace_160 a0 k83 v1 v2 v3 ((some b28)) v4 p86) else
  (if v2 = 0 then
  (xgR p86 a0 0 5 fun x92 =>
  (xnul x92 none fun b93 =>
  (xgR p86 b93 3 1 fun x94 =>
  (xnul x94 none fun b95 =>
  (xcR (f_J3_get p86 b95 x87) fun x97 p96 =>
  (xcst p96 (x97) [6]
  (xnul x97 none fun b98 =>
  (xcI (f_X7_total p96 b98 ) fun x100 p99 =>
  (f_X1_cleanPlace_152 a0 k83 v1 v2 v3 ((some b28)) v4 x100 p99))))))))) else
  (xgR p86 a0 0 5 fun x88 =>
  (xnul x88 none fun b89 =>
  (xcI (f_X4_clean p86 b89 x87) fun x91 p90 =>
  (f_X1_cleanPlace_152 a0 k83 v1 v2 v3 ((some b28)) v4 x91 p90)))))))))) else
  (if c81 = 25 then
  (xcR (f_J37_next p76 b28 ) fun x102 p101 =>
  (xcst p101 (x102) [18]
  (xnul x102 none fun b103 =>
  (xcI (f_J19_intValue p101 b103 ) fun x105 p104 =>
  (if x105 = v1 then
  (f_X1_cleanPlace_160 a0 k83 v1 v2 v3 ((some b28)) v4 p104) else
  (if v2 = 0 then
  (xgR p104 a0 0 5 fun x110 =>
  (xnul x110 none fun b111 =>
  (xgR p104 b111 3 1 fun x112 =>
  (xnul x112 none fun b113 =>
  (xcR (f_J3_get p104 b113 x105) fun x115 p114 =>
  (xcst p114 (x115) [6]
  (xnul x115 none fun b116 =>
  (xcI (f_X7_total p114 b116 ) fun x118 p117 =>
  (f_X1_cleanPlace_152 a0 k83 v1 v2 v3 ((some b28)) v4 x118 p117))))))))) else
  (xgR p104 a0 0 5 fun x106 =>
  (xnul x106 none fun b107 =>
  (xcI (f_X4_clean p104 b107 x105) fun x109 p108 =>
  (f_X1_cleanPlace_152 a0 k83 v1 v2 v3 ((some b28)) v4 x109 p108)))))))))) else
  none))))) else
  none))))
def f_X1_cleanPlace (p0 : PH) (a0 : Nat) (a1 : Int32) (a2 : Int32) : Option (xO × PH) :=
  (xcl1 p0 a0 0 (xcI (f_X1_isRunner p0 a0 a1) fun x2 p1 =>
  (if x2 = 0 then
  (f_X1_cleanPlace_17 a0  p1) else
  (xcI (f_X1_isIn p1 a2 0 1) fun x6 p5 =>
  (if x6 = 0 then
  (f_X1_cleanPlace_17 a0  p5) else
  (xgR p5 a0 0 5 fun x7 =>
  (xnul x7 none fun b8 =>
  (xcI (f_X4_isValid p5 b8 a1) fun x10 p9 =>
  (if x10 = 0 then
  (xcI (f_X1_fine p9 a0 (-2)) fun x120 p119 =>
  (rI x120 p119)) else
  (xgR p9 a0 0 5 fun x11 =>
  (xnul x11 none fun b12 =>
  (xcI (f_X4_clean p9 b12 a1) fun x14 p13 =>
  (xgR p13 a0 0 5 fun x15 =>
  (xnul x15 none fun b16 =>
  (xgR p13 b16 3 1 fun x17 =>
  (xnul x17 none fun b18 =>
  (xcR (f_J3_get p13 b18 a1) fun x20 p19 =>
  (xcst p19 (x20) [6]
  (xnul x20 none fun b21 =>
  (xgI p19 b21 6 1 fun x22 =>
  (xcR (f_X1_rankedOn p19 a0 x22) fun x24 p23 =>
  (xnul x24 none fun b25 =>
  (xcR (f_J3_iterator p23 b25 ) fun x27 p26 =>
  (lp (f_X1_cleanPlace_83F a0) FU (a1, a2, x14, 1, x27, p26)))))))))))))))))))))))))
theorem rc_X1_cleanPlace {p0 : PH} {a0 : Nat} {a1 : Int32} {a2 : Int32} : ∀ z, f_X1_cleanPlace p0 a0 a1 a2 = some z → xco p0 a0 = some 0 := fun z h => xcl1_some h
theorem f_X1_cleanPlace_17_ok {G : xG} (hO : xOK G) (a0 : Nat)   (p0 : PH) : X G "ForestLegs" "cleanPlace" cX1_cleanPlace 7 (Option.some Jvm.ClassFile.FieldType.int) 14 17 [(0, .ref a0)] [] p0 (f_X1_cleanPlace_17 a0  p0) := by
  unfold f_X1_cleanPlace_17
  refine x_aload_nr 0 dX1_cleanPlace_17 rfl rfl (n := 18) rfl ?_
  refine x_iconst 1 dX1_cleanPlace_18 rfl (n := 19) rfl ?_
  refine x_callV_I [.int 1] [] (f_X1_refused_ok hO p0 a0 1) rc_X1_refused md_X1_refused rfl q250 q252 qs0 dX1_cleanPlace_19 rfl rfl (by decide) (Nat.le_of_ble_eq_true rfl) (n := 22) rfl (fun x4 p3 => ?_)
  exact x_ireturn dX1_cleanPlace_22
theorem f_X1_cleanPlace_161_ok {G : xG} (hO : xOK G) (a0 : Nat) {k83 : Int32 × Int32 × Int32 × Int32 × Option Nat × PH → Option (xO × PH)} (hk83 : ∀ (v1 : Int32) (v2 : Int32) (v3 : Int32) (v4 : Int32) (v5 : Option Nat) (p0 : PH), X G "ForestLegs" "cleanPlace" cX1_cleanPlace 7 (Option.some Jvm.ClassFile.FieldType.int) 14 83 [(0, .ref a0), (1, .int v1), (2, .int v2), (3, .int v3), (4, .int v4), (5, va_rf v5)] [] p0 (k83 (v1, v2, v3, v4, v5, p0))) (v1 : Int32) (v2 : Int32) (v3 : Int32) (v5 : Option Nat) (w0 : Int32) (w1 : Int32) (p0 : PH) : X G "ForestLegs" "cleanPlace" cX1_cleanPlace 7 (Option.some Jvm.ClassFile.FieldType.int) 14 161 [(0, .ref a0), (1, .int v1), (2, .int v2), (3, .int v3), (5, va_rf v5)] [.int w1, .int w0] p0 (f_X1_cleanPlace_161 a0 k83 v1 v2 v3 v5 w0 w1 p0) := by
  unfold f_X1_cleanPlace_161
  refine x_iadd dX1_cleanPlace_161 (n := 162) rfl ?_
  refine x_nm (fun x44 => ?_)
  refine x_istore [(4, .int x44), (0, .ref a0), (1, .int v1), (2, .int v2), (3, .int v3), (5, va_rf v5)] dX1_cleanPlace_162 (by decide) rfl (n := 164) rfl ?_
  refine x_goto dX1_cleanPlace_164 (n := 83) (by decide) ?_
  refine x_sub [1, 2, 3, 4, 0, 5] [(0, .ref a0), (1, .int v1), (2, .int v2), (3, .int v3), (4, .int x44), (5, va_rf v5)] rfl ?_
  exact hk83 v1 v2 v3 x44 v5 p0
theorem f_X1_cleanPlace_160_ok {G : xG} (hO : xOK G) (a0 : Nat) {k83 : Int32 × Int32 × Int32 × Int32 × Option Nat × PH → Option (xO × PH)} (hk83 : ∀ (v1 : Int32) (v2 : Int32) (v3 : Int32) (v4 : Int32) (v5 : Option Nat) (p0 : PH), X G "ForestLegs" "cleanPlace" cX1_cleanPlace 7 (Option.some Jvm.ClassFile.FieldType.int) 14 83 [(0, .ref a0), (1, .int v1), (2, .int v2), (3, .int v3), (4, .int v4), (5, va_rf v5)] [] p0 (k83 (v1, v2, v3, v4, v5, p0))) (v1 : Int32) (v2 : Int32) (v3 : Int32) (v5 : Option Nat) (w0 : Int32) (p0 : PH) : X G "ForestLegs" "cleanPlace" cX1_cleanPlace 7 (Option.some Jvm.ClassFile.FieldType.int) 14 160 [(0, .ref a0), (1, .int v1), (2, .int v2), (3, .int v3), (5, va_rf v5)] [.int w0] p0 (f_X1_cleanPlace_160 a0 k83 v1 v2 v3 v5 w0 p0) := by
  unfold f_X1_cleanPlace_160
  refine x_iconst 0 dX1_cleanPlace_160 rfl (n := 161) rfl ?_
  exact f_X1_cleanPlace_161_ok hO a0 hk83 v1 v2 v3 v5 w0 0 p0
theorem f_X1_cleanPlace_152_ok {G : xG} (hO : xOK G) (a0 : Nat) {k83 : Int32 × Int32 × Int32 × Int32 × Option Nat × PH → Option (xO × PH)} (hk83 : ∀ (v1 : Int32) (v2 : Int32) (v3 : Int32) (v4 : Int32) (v5 : Option Nat) (p0 : PH), X G "ForestLegs" "cleanPlace" cX1_cleanPlace 7 (Option.some Jvm.ClassFile.FieldType.int) 14 83 [(0, .ref a0), (1, .int v1), (2, .int v2), (3, .int v3), (4, .int v4), (5, va_rf v5)] [] p0 (k83 (v1, v2, v3, v4, v5, p0))) (v1 : Int32) (v2 : Int32) (v3 : Int32) (v5 : Option Nat) (w0 : Int32) (w1 : Int32) (p0 : PH) : X G "ForestLegs" "cleanPlace" cX1_cleanPlace 7 (Option.some Jvm.ClassFile.FieldType.int) 14 152 [(0, .ref a0), (1, .int v1), (2, .int v2), (3, .int v3), (5, va_rf v5)] [.int w1, .int w0] p0 (f_X1_cleanPlace_152 a0 k83 v1 v2 v3 v5 w0 w1 p0) := by
  unfold f_X1_cleanPlace_152
  refine x_iload_n 3 dX1_cleanPlace_152 rfl rfl (n := 153) rfl ?_
  refine x_icmp_ge dX1_cleanPlace_153 (t := 160) (by decide) (n := 156) rfl (fun _ => ?_) (fun _ => ?_)
  · exact f_X1_cleanPlace_160_ok hO a0 hk83 v1 v2 v3 v5 w0 p0
  · refine x_iconst 1 dX1_cleanPlace_156 rfl (n := 157) rfl ?_
    refine x_goto dX1_cleanPlace_157 (n := 161) (by decide) ?_
    exact f_X1_cleanPlace_161_ok hO a0 hk83 v1 v2 v3 v5 w0 1 p0
theorem f_X1_cleanPlace_83F_ok {G : xG} (hO : xOK G) (a0 : Nat)  {k83 : Int32 × Int32 × Int32 × Int32 × Option Nat × PH → Option (xO × PH)} (hk83 : ∀ (v1 : Int32) (v2 : Int32) (v3 : Int32) (v4 : Int32) (v5 : Option Nat) (p0 : PH), X G "ForestLegs" "cleanPlace" cX1_cleanPlace 7 (Option.some Jvm.ClassFile.FieldType.int) 14 83 [(0, .ref a0), (1, .int v1), (2, .int v2), (3, .int v3), (4, .int v4), (5, va_rf v5)] [] p0 (k83 (v1, v2, v3, v4, v5, p0))) (v1 : Int32) (v2 : Int32) (v3 : Int32) (v4 : Int32) (v5 : Option Nat) (p0 : PH) : X G "ForestLegs" "cleanPlace" cX1_cleanPlace 7 (Option.some Jvm.ClassFile.FieldType.int) 14 83 [(0, .ref a0), (1, .int v1), (2, .int v2), (3, .int v3), (4, .int v4), (5, va_rf v5)] [] p0 (f_X1_cleanPlace_83F a0 k83 (v1, v2, v3, v4, v5, p0)) := by
  unfold f_X1_cleanPlace_83F
  refine x_aload 5 dX1_cleanPlace_83 rfl (n := 85) rfl ?_
  refine x_sm (fun b28 e => ?_)
  subst e
  refine x_sw (fun c30 e => ?_)
  refine x_ite (fun h => ?_) (fun _ => ?_)
  · subst h
    refine x_callF_I [] [] (f_J26_hasNext_ok hO p0 b28 ) rc_J26_hasNext md_J26_hasNext rfl q1823 fc_java_util_ArrayList_Itr_java_util_Iterator_hasNext_0_Z dX1_cleanPlace_85 rfl rfl (by decide) (Nat.le_of_ble_eq_true rfl) (n := 90) rfl (fun x33 p32 => ?_)
    refine x_if_eq dX1_cleanPlace_90 (t := 167) (by decide) (n := 93) rfl (fun _ => ?_) (fun _ => ?_)
    · refine x_aload_nr 0 dX1_cleanPlace_167 rfl rfl (n := 168) rfl ?_
      refine x_iload 4 dX1_cleanPlace_168 rfl (n := 170) rfl ?_
      refine x_callV_I [.int v4] [] (f_X1_fine_ok hO p32 a0 v4) rc_X1_fine md_X1_fine rfl q1480 q1482 qs26 dX1_cleanPlace_170 rfl rfl (by decide) (Nat.le_of_ble_eq_true rfl) (n := 173) rfl (fun x35 p34 => ?_)
      exact x_ireturn dX1_cleanPlace_173
    · refine x_aloadr 5 dX1_cleanPlace_93 rfl (n := 95) rfl ?_
      refine x_sw (fun c37 e => ?_)
      refine x_ite (fun h => ?_) (fun _ => ?_)
      · subst h
        refine x_callF_R [] [] (f_J26_next_ok hO p32 b28 ) rc_J26_next md_J26_next rfl q1858 fc_java_util_ArrayList_Itr_java_util_Iterator_next_0_Ljaval dX1_cleanPlace_95 rfl rfl (by decide) (Nat.le_of_ble_eq_true rfl) (n := 100) rfl (fun x40 p39 => ?_)
        refine x_cast (x := x40) (cs := [18]) q1764 cst_java_lang_Integer dX1_cleanPlace_100 (n := 103) rfl ?_
        refine x_sm (fun b41 e => ?_)
        subst e
        refine x_callV_I [] [] (f_J19_intValue_ok hO p39 b41 ) rc_J19_intValue md_J19_intValue rfl q1765 q941 q942 dX1_cleanPlace_103 rfl rfl (by decide) (Nat.le_of_ble_eq_true rfl) (n := 106) rfl (fun x43 p42 => ?_)
        refine x_istore [(6, .int x43), (0, .ref a0), (1, .int v1), (2, .int v2), (3, .int v3), (4, .int v4), (5, .ref b28)] dX1_cleanPlace_106 (by decide) rfl (n := 108) rfl ?_
        refine x_iload 5 dX1_cleanPlace_108 rfl (n := 110) rfl ?_
        refine x_iload 0 dX1_cleanPlace_110 rfl (n := 112) rfl ?_
        refine x_iload_n 2 dX1_cleanPlace_112 rfl rfl (n := 113) rfl ?_
        refine x_icmp_eq dX1_cleanPlace_113 (t := 160) (by decide) (n := 116) rfl (fun _ => ?_) (fun _ => ?_)
        · refine x_sub [1, 2, 3, 4, 6] [(0, .ref a0), (1, .int v1), (2, .int v2), (3, .int v3), (5, .ref b28)] rfl ?_
          exact f_X1_cleanPlace_160_ok hO a0 hk83 v1 v2 v3 ((some b28)) v4 p42
        · refine x_iload_n 3 dX1_cleanPlace_116 rfl rfl (n := 117) rfl ?_
          refine x_if_ne dX1_cleanPlace_117 (t := 143) (by decide) (n := 120) rfl (fun _ => ?_) (fun _ => ?_)
          · refine x_aload_nr 1 dX1_cleanPlace_143 rfl rfl (n := 144) rfl ?_
            refine x_getR fl_X1_56 dX1_cleanPlace_144 (n := 147) rfl (fun x45 => ?_)
            refine x_iload 0 dX1_cleanPlace_147 rfl (n := 149) rfl ?_
            refine x_sm (fun b46 e => ?_)
            subst e
            refine x_callV_I [.int x43] [.int v4] (f_X4_clean_ok hO p42 b46 x43) rc_X4_clean md_X4_clean rfl q2158 q2159 q2160 dX1_cleanPlace_149 rfl rfl (by decide) (Nat.le_of_ble_eq_true rfl) (n := 152) rfl (fun x48 p47 => ?_)
            refine x_sub [1, 2, 3, 4, 6] [(0, .ref a0), (1, .int v1), (2, .int v2), (3, .int v3), (5, .ref b28)] rfl ?_
            exact f_X1_cleanPlace_152_ok hO a0 hk83 v1 v2 v3 ((some b28)) v4 x48 p47
          · refine x_aload_nr 1 dX1_cleanPlace_120 rfl rfl (n := 121) rfl ?_
            refine x_getR fl_X1_56 dX1_cleanPlace_121 (n := 124) rfl (fun x49 => ?_)
            refine x_sm (fun b50 e => ?_)
            subst e
            refine x_getR fl_X1_71 dX1_cleanPlace_124 (n := 127) rfl (fun x51 => ?_)
            refine x_iload 0 dX1_cleanPlace_127 rfl (n := 129) rfl ?_
            refine x_sm (fun b52 e => ?_)
            subst e
            refine x_callF_R [.int x43] [.int v4] (f_J3_get_ok hO p42 b52 x43) rc_J3_get md_J3_get rfl q1497 fc_java_util_ArrayList_java_util_List_get_1_ILjava dX1_cleanPlace_129 rfl rfl (by decide) (Nat.le_of_ble_eq_true rfl) (n := 134) rfl (fun x54 p53 => ?_)
            refine x_cast (x := x54) (cs := [6]) q1498 cst_ForestLegs_Runner dX1_cleanPlace_134 (n := 137) rfl ?_
            refine x_sm (fun b55 e => ?_)
            subst e
            refine x_callV_I [] [.int v4] (f_X7_total_ok hO p53 b55 ) rc_X7_total md_X7_total rfl q1766 q963 q964 dX1_cleanPlace_137 rfl rfl (by decide) (Nat.le_of_ble_eq_true rfl) (n := 140) rfl (fun x57 p56 => ?_)
            refine x_goto dX1_cleanPlace_140 (n := 152) (by decide) ?_
            refine x_sub [1, 2, 3, 4, 6] [(0, .ref a0), (1, .int v1), (2, .int v2), (3, .int v3), (5, .ref b28)] rfl ?_
            exact f_X1_cleanPlace_152_ok hO a0 hk83 v1 v2 v3 ((some b28)) v4 x57 p56
      refine x_ite (fun h => ?_) (fun _ => ?_)
      · subst h
        refine x_callF_R [] [] (f_J37_next_ok hO p32 b28 ) rc_J37_next md_J37_next rfl q1858 fc_java_util_TreeMap_KeyIterator_java_util_Iterator_next_0_Ljaval dX1_cleanPlace_95 rfl rfl (by decide) (Nat.le_of_ble_eq_true rfl) (n := 100) rfl (fun x59 p58 => ?_)
        refine x_cast (x := x59) (cs := [18]) q1764 cst_java_lang_Integer dX1_cleanPlace_100 (n := 103) rfl ?_
        refine x_sm (fun b60 e => ?_)
        subst e
        refine x_callV_I [] [] (f_J19_intValue_ok hO p58 b60 ) rc_J19_intValue md_J19_intValue rfl q1765 q941 q942 dX1_cleanPlace_103 rfl rfl (by decide) (Nat.le_of_ble_eq_true rfl) (n := 106) rfl (fun x62 p61 => ?_)
        refine x_istore [(6, .int x62), (0, .ref a0), (1, .int v1), (2, .int v2), (3, .int v3), (4, .int v4), (5, .ref b28)] dX1_cleanPlace_106 (by decide) rfl (n := 108) rfl ?_
        refine x_iload 5 dX1_cleanPlace_108 rfl (n := 110) rfl ?_
        refine x_iload 0 dX1_cleanPlace_110 rfl (n := 112) rfl ?_
        refine x_iload_n 2 dX1_cleanPlace_112 rfl rfl (n := 113) rfl ?_
        refine x_icmp_eq dX1_cleanPlace_113 (t := 160) (by decide) (n := 116) rfl (fun _ => ?_) (fun _ => ?_)
        · refine x_sub [1, 2, 3, 4, 6] [(0, .ref a0), (1, .int v1), (2, .int v2), (3, .int v3), (5, .ref b28)] rfl ?_
          exact f_X1_cleanPlace_160_ok hO a0 hk83 v1 v2 v3 ((some b28)) v4 p61
        · refine x_iload_n 3 dX1_cleanPlace_116 rfl rfl (n := 117) rfl ?_
          refine x_if_ne dX1_cleanPlace_117 (t := 143) (by decide) (n := 120) rfl (fun _ => ?_) (fun _ => ?_)
          · refine x_aload_nr 1 dX1_cleanPlace_143 rfl rfl (n := 144) rfl ?_
            refine x_getR fl_X1_56 dX1_cleanPlace_144 (n := 147) rfl (fun x63 => ?_)
            refine x_iload 0 dX1_cleanPlace_147 rfl (n := 149) rfl ?_
            refine x_sm (fun b64 e => ?_)
            subst e
            refine x_callV_I [.int x62] [.int v4] (f_X4_clean_ok hO p61 b64 x62) rc_X4_clean md_X4_clean rfl q2158 q2159 q2160 dX1_cleanPlace_149 rfl rfl (by decide) (Nat.le_of_ble_eq_true rfl) (n := 152) rfl (fun x66 p65 => ?_)
            refine x_sub [1, 2, 3, 4, 6] [(0, .ref a0), (1, .int v1), (2, .int v2), (3, .int v3), (5, .ref b28)] rfl ?_
            exact f_X1_cleanPlace_152_ok hO a0 hk83 v1 v2 v3 ((some b28)) v4 x66 p65
          · refine x_aload_nr 1 dX1_cleanPlace_120 rfl rfl (n := 121) rfl ?_
            refine x_getR fl_X1_56 dX1_cleanPlace_121 (n := 124) rfl (fun x67 => ?_)
            refine x_sm (fun b68 e => ?_)
            subst e
            refine x_getR fl_X1_71 dX1_cleanPlace_124 (n := 127) rfl (fun x69 => ?_)
            refine x_iload 0 dX1_cleanPlace_127 rfl (n := 129) rfl ?_
            refine x_sm (fun b70 e => ?_)
            subst e
            refine x_callF_R [.int x62] [.int v4] (f_J3_get_ok hO p61 b70 x62) rc_J3_get md_J3_get rfl q1497 fc_java_util_ArrayList_java_util_List_get_1_ILjava dX1_cleanPlace_129 rfl rfl (by decide) (Nat.le_of_ble_eq_true rfl) (n := 134) rfl (fun x72 p71 => ?_)
            refine x_cast (x := x72) (cs := [6]) q1498 cst_ForestLegs_Runner dX1_cleanPlace_134 (n := 137) rfl ?_
            refine x_sm (fun b73 e => ?_)
            subst e
            refine x_callV_I [] [.int v4] (f_X7_total_ok hO p71 b73 ) rc_X7_total md_X7_total rfl q1766 q963 q964 dX1_cleanPlace_137 rfl rfl (by decide) (Nat.le_of_ble_eq_true rfl) (n := 140) rfl (fun x75 p74 => ?_)
            refine x_goto dX1_cleanPlace_140 (n := 152) (by decide) ?_
            refine x_sub [1, 2, 3, 4, 6] [(0, .ref a0), (1, .int v1), (2, .int v2), (3, .int v3), (5, .ref b28)] rfl ?_
            exact f_X1_cleanPlace_152_ok hO a0 hk83 v1 v2 v3 ((some b28)) v4 x75 p74
      exact x_no
  refine x_ite (fun h => ?_) (fun _ => ?_)
  · subst h
    refine x_callF_I [] [] (f_J36_hasNext_ok hO p0 b28 ) rc_J36_hasNext md_J36_hasNext rfl q1823 fc_java_util_TreeMap_KeyIterator_java_util_Iterator_hasNext_0_Z dX1_cleanPlace_85 rfl rfl (by decide) (Nat.le_of_ble_eq_true rfl) (n := 90) rfl (fun x77 p76 => ?_)
    refine x_if_eq dX1_cleanPlace_90 (t := 167) (by decide) (n := 93) rfl (fun _ => ?_) (fun _ => ?_)
    · refine x_aload_nr 0 dX1_cleanPlace_167 rfl rfl (n := 168) rfl ?_
      refine x_iload 4 dX1_cleanPlace_168 rfl (n := 170) rfl ?_
      refine x_callV_I [.int v4] [] (f_X1_fine_ok hO p76 a0 v4) rc_X1_fine md_X1_fine rfl q1480 q1482 qs26 dX1_cleanPlace_170 rfl rfl (by decide) (Nat.le_of_ble_eq_true rfl) (n := 173) rfl (fun x79 p78 => ?_)
      exact x_ireturn dX1_cleanPlace_173
    · refine x_aloadr 5 dX1_cleanPlace_93 rfl (n := 95) rfl ?_
      refine x_sw (fun c81 e => ?_)
      refine x_ite (fun h => ?_) (fun _ => ?_)
      · subst h
        refine x_callF_R [] [] (f_J26_next_ok hO p76 b28 ) rc_J26_next md_J26_next rfl q1858 fc_java_util_ArrayList_Itr_java_util_Iterator_next_0_Ljaval dX1_cleanPlace_95 rfl rfl (by decide) (Nat.le_of_ble_eq_true rfl) (n := 100) rfl (fun x84 p83 => ?_)
        refine x_cast (x := x84) (cs := [18]) q1764 cst_java_lang_Integer dX1_cleanPlace_100 (n := 103) rfl ?_
        refine x_sm (fun b85 e => ?_)
        subst e
        refine x_callV_I [] [] (f_J19_intValue_ok hO p83 b85 ) rc_J19_intValue md_J19_intValue rfl q1765 q941 q942 dX1_cleanPlace_103 rfl rfl (by decide) (Nat.le_of_ble_eq_true rfl) (n := 106) rfl (fun x87 p86 => ?_)
        refine x_istore [(6, .int x87), (0, .ref a0), (1, .int v1), (2, .int v2), (3, .int v3), (4, .int v4), (5, .ref b28)] dX1_cleanPlace_106 (by decide) rfl (n := 108) rfl ?_
        refine x_iload 5 dX1_cleanPlace_108 rfl (n := 110) rfl ?_
        refine x_iload 0 dX1_cleanPlace_110 rfl (n := 112) rfl ?_
        refine x_iload_n 2 dX1_cleanPlace_112 rfl rfl (n := 113) rfl ?_
        refine x_icmp_eq dX1_cleanPlace_113 (t := 160) (by decide) (n := 116) rfl (fun _ => ?_) (fun _ => ?_)
        · refine x_sub [1, 2, 3, 4, 6] [(0, .ref a0), (1, .int v1), (2, .int v2), (3, .int v3), (5, .ref b28)] rfl ?_
          exact f_X1_cleanPlace_160_ok hO a0 hk83 v1 v2 v3 ((some b28)) v4 p86
        · refine x_iload_n 3 dX1_cleanPlace_116 rfl rfl (n := 117) rfl ?_
          refine x_if_ne dX1_cleanPlace_117 (t := 143) (by decide) (n := 120) rfl (fun _ => ?_) (fun _ => ?_)
          · refine x_aload_nr 1 dX1_cleanPlace_143 rfl rfl (n := 144) rfl ?_
            refine x_getR fl_X1_56 dX1_cleanPlace_144 (n := 147) rfl (fun x88 => ?_)
            refine x_iload 0 dX1_cleanPlace_147 rfl (n := 149) rfl ?_
            refine x_sm (fun b89 e => ?_)
            subst e
            refine x_callV_I [.int x87] [.int v4] (f_X4_clean_ok hO p86 b89 x87) rc_X4_clean md_X4_clean rfl q2158 q2159 q2160 dX1_cleanPlace_149 rfl rfl (by decide) (Nat.le_of_ble_eq_true rfl) (n := 152) rfl (fun x91 p90 => ?_)
            refine x_sub [1, 2, 3, 4, 6] [(0, .ref a0), (1, .int v1), (2, .int v2), (3, .int v3), (5, .ref b28)] rfl ?_
            exact f_X1_cleanPlace_152_ok hO a0 hk83 v1 v2 v3 ((some b28)) v4 x91 p90
          · refine x_aload_nr 1 dX1_cleanPlace_120 rfl rfl (n := 121) rfl ?_
            refine x_getR fl_X1_56 dX1_cleanPlace_121 (n := 124) rfl (fun x92 => ?_)
            refine x_sm (fun b93 e => ?_)
            subst e
            refine x_getR fl_X1_71 dX1_cleanPlace_124 (n := 127) rfl (fun x94 => ?_)
            refine x_iload 0 dX1_cleanPlace_127 rfl (n := 129) rfl ?_
            refine x_sm (fun b95 e => ?_)
            subst e
            refine x_callF_R [.int x87] [.int v4] (f_J3_get_ok hO p86 b95 x87) rc_J3_get md_J3_get rfl q1497 fc_java_util_ArrayList_java_util_List_get_1_ILjava dX1_cleanPlace_129 rfl rfl (by decide) (Nat.le_of_ble_eq_true rfl) (n := 134) rfl (fun x97 p96 => ?_)
            refine x_cast (x := x97) (cs := [6]) q1498 cst_ForestLegs_Runner dX1_cleanPlace_134 (n := 137) rfl ?_
            refine x_sm (fun b98 e => ?_)
            subst e
            refine x_callV_I [] [.int v4] (f_X7_total_ok hO p96 b98 ) rc_X7_total md_X7_total rfl q1766 q963 q964 dX1_cleanPlace_137 rfl rfl (by decide) (Nat.le_of_ble_eq_true rfl) (n := 140) rfl (fun x100 p99 => ?_)
            refine x_goto dX1_cleanPlace_140 (n := 152) (by decide) ?_
            refine x_sub [1, 2, 3, 4, 6] [(0, .ref a0), (1, .int v1), (2, .int v2), (3, .int v3), (5, .ref b28)] rfl ?_
            exact f_X1_cleanPlace_152_ok hO a0 hk83 v1 v2 v3 ((some b28)) v4 x100 p99
      refine x_ite (fun h => ?_) (fun _ => ?_)
      · subst h
        refine x_callF_R [] [] (f_J37_next_ok hO p76 b28 ) rc_J37_next md_J37_next rfl q1858 fc_java_util_TreeMap_KeyIterator_java_util_Iterator_next_0_Ljaval dX1_cleanPlace_95 rfl rfl (by decide) (Nat.le_of_ble_eq_true rfl) (n := 100) rfl (fun x102 p101 => ?_)
        refine x_cast (x := x102) (cs := [18]) q1764 cst_java_lang_Integer dX1_cleanPlace_100 (n := 103) rfl ?_
        refine x_sm (fun b103 e => ?_)
        subst e
        refine x_callV_I [] [] (f_J19_intValue_ok hO p101 b103 ) rc_J19_intValue md_J19_intValue rfl q1765 q941 q942 dX1_cleanPlace_103 rfl rfl (by decide) (Nat.le_of_ble_eq_true rfl) (n := 106) rfl (fun x105 p104 => ?_)
        refine x_istore [(6, .int x105), (0, .ref a0), (1, .int v1), (2, .int v2), (3, .int v3), (4, .int v4), (5, .ref b28)] dX1_cleanPlace_106 (by decide) rfl (n := 108) rfl ?_
        refine x_iload 5 dX1_cleanPlace_108 rfl (n := 110) rfl ?_
        refine x_iload 0 dX1_cleanPlace_110 rfl (n := 112) rfl ?_
        refine x_iload_n 2 dX1_cleanPlace_112 rfl rfl (n := 113) rfl ?_
        refine x_icmp_eq dX1_cleanPlace_113 (t := 160) (by decide) (n := 116) rfl (fun _ => ?_) (fun _ => ?_)
        · refine x_sub [1, 2, 3, 4, 6] [(0, .ref a0), (1, .int v1), (2, .int v2), (3, .int v3), (5, .ref b28)] rfl ?_
          exact f_X1_cleanPlace_160_ok hO a0 hk83 v1 v2 v3 ((some b28)) v4 p104
        · refine x_iload_n 3 dX1_cleanPlace_116 rfl rfl (n := 117) rfl ?_
          refine x_if_ne dX1_cleanPlace_117 (t := 143) (by decide) (n := 120) rfl (fun _ => ?_) (fun _ => ?_)
          · refine x_aload_nr 1 dX1_cleanPlace_143 rfl rfl (n := 144) rfl ?_
            refine x_getR fl_X1_56 dX1_cleanPlace_144 (n := 147) rfl (fun x106 => ?_)
            refine x_iload 0 dX1_cleanPlace_147 rfl (n := 149) rfl ?_
            refine x_sm (fun b107 e => ?_)
            subst e
            refine x_callV_I [.int x105] [.int v4] (f_X4_clean_ok hO p104 b107 x105) rc_X4_clean md_X4_clean rfl q2158 q2159 q2160 dX1_cleanPlace_149 rfl rfl (by decide) (Nat.le_of_ble_eq_true rfl) (n := 152) rfl (fun x109 p108 => ?_)
            refine x_sub [1, 2, 3, 4, 6] [(0, .ref a0), (1, .int v1), (2, .int v2), (3, .int v3), (5, .ref b28)] rfl ?_
            exact f_X1_cleanPlace_152_ok hO a0 hk83 v1 v2 v3 ((some b28)) v4 x109 p108
          · refine x_aload_nr 1 dX1_cleanPlace_120 rfl rfl (n := 121) rfl ?_
            refine x_getR fl_X1_56 dX1_cleanPlace_121 (n := 124) rfl (fun x110 => ?_)
            refine x_sm (fun b111 e => ?_)
            subst e
            refine x_getR fl_X1_71 dX1_cleanPlace_124 (n := 127) rfl (fun x112 => ?_)
            refine x_iload 0 dX1_cleanPlace_127 rfl (n := 129) rfl ?_
            refine x_sm (fun b113 e => ?_)
            subst e
            refine x_callF_R [.int x105] [.int v4] (f_J3_get_ok hO p104 b113 x105) rc_J3_get md_J3_get rfl q1497 fc_java_util_ArrayList_java_util_List_get_1_ILjava dX1_cleanPlace_129 rfl rfl (by decide) (Nat.le_of_ble_eq_true rfl) (n := 134) rfl (fun x115 p114 => ?_)
            refine x_cast (x := x115) (cs := [6]) q1498 cst_ForestLegs_Runner dX1_cleanPlace_134 (n := 137) rfl ?_
            refine x_sm (fun b116 e => ?_)
            subst e
            refine x_callV_I [] [.int v4] (f_X7_total_ok hO p114 b116 ) rc_X7_total md_X7_total rfl q1766 q963 q964 dX1_cleanPlace_137 rfl rfl (by decide) (Nat.le_of_ble_eq_true rfl) (n := 140) rfl (fun x118 p117 => ?_)
            refine x_goto dX1_cleanPlace_140 (n := 152) (by decide) ?_
            refine x_sub [1, 2, 3, 4, 6] [(0, .ref a0), (1, .int v1), (2, .int v2), (3, .int v3), (5, .ref b28)] rfl ?_
            exact f_X1_cleanPlace_152_ok hO a0 hk83 v1 v2 v3 ((some b28)) v4 x118 p117
      exact x_no
  exact x_no
theorem f_X1_cleanPlace_83_lp {G : xG} (hO : xOK G) (a0 : Nat)  (n : Nat) (v1 : Int32) (v2 : Int32) (v3 : Int32) (v4 : Int32) (v5 : Option Nat) (p0 : PH) : X G "ForestLegs" "cleanPlace" cX1_cleanPlace 7 (Option.some Jvm.ClassFile.FieldType.int) 14 83 [(0, .ref a0), (1, .int v1), (2, .int v2), (3, .int v3), (4, .int v4), (5, va_rf v5)] [] p0 (lp (f_X1_cleanPlace_83F a0) n (v1, v2, v3, v4, v5, p0)) :=
  lp_ok (W := fun p K => X G "ForestLegs" "cleanPlace" cX1_cleanPlace 7 (Option.some Jvm.ClassFile.FieldType.int) 14 83 [(0, .ref a0), (1, .int p.1), (2, .int p.2.1), (3, .int p.2.2.1), (4, .int p.2.2.2.1), (5, va_rf p.2.2.2.2.1)] [] p.2.2.2.2.2 K) (fun _ => x_no) (fun k hk => fun (v1, v2, v3, v4, v5, p0) => f_X1_cleanPlace_83F_ok hO a0 (fun v1 v2 v3 v4 v5 p0 => hk (v1, v2, v3, v4, v5, p0)) v1 v2 v3 v4 v5 p0) n (v1, v2, v3, v4, v5, p0)
theorem f_X1_cleanPlace_ok {G : xG} (hO : xOK G) (p0 : PH) (a0 : Nat) (a1 : Int32) (a2 : Int32) : CT G 14 yX1_cleanPlace cX1_cleanPlace 7 (Option.some Jvm.ClassFile.FieldType.int) [.ref a0, .int a1, .int a2] p0 (f_X1_cleanPlace p0 a0 a1 a2) := by
  refine CT_of hO (by decide +kernel) (by decide +kernel) (Nat.le_of_ble_eq_true rfl) ?_
  show X G "ForestLegs" "cleanPlace" cX1_cleanPlace 7 (Option.some Jvm.ClassFile.FieldType.int) 14 0 [(0, .ref a0), (1, .int a1), (2, .int a2)] [] p0 (f_X1_cleanPlace p0 a0 a1 a2)
  refine x_cl1 (fun e0 => ?_)
  refine x_aload_nr 0 dX1_cleanPlace_0 rfl rfl (n := 1) rfl ?_
  refine x_iload_n 1 dX1_cleanPlace_1 rfl rfl (n := 2) rfl ?_
  refine x_callV_I [.int a1] [] (f_X1_isRunner_ok hO p0 a0 a1) rc_X1_isRunner md_X1_isRunner rfl q1780 q1782 qs41 dX1_cleanPlace_2 rfl rfl (by decide) (Nat.le_of_ble_eq_true rfl) (n := 5) rfl (fun x2 p1 => ?_)
  refine x_if_eq dX1_cleanPlace_5 (t := 17) (by decide) (n := 8) rfl (fun _ => ?_) (fun _ => ?_)
  · refine x_sub [0] [(0, .ref a0)] rfl ?_
    exact f_X1_cleanPlace_17_ok hO a0  p1
  · refine x_iload_n 2 dX1_cleanPlace_8 rfl rfl (n := 9) rfl ?_
    refine x_iconst 0 dX1_cleanPlace_9 rfl (n := 10) rfl ?_
    refine x_iconst 1 dX1_cleanPlace_10 rfl (n := 11) rfl ?_
    refine x_callS_I [.int a2, .int 0, .int 1] [] (f_X1_isIn_ok hO p1 a2 0 1) md_X1_isIn q247 q248 dX1_cleanPlace_11 rfl rfl (by decide) (Nat.le_of_ble_eq_true rfl) (n := 14) rfl (fun x6 p5 => ?_)
    refine x_if_ne dX1_cleanPlace_14 (t := 23) (by decide) (n := 17) rfl (fun _ => ?_) (fun _ => ?_)
    · refine x_aload_nr 0 dX1_cleanPlace_23 rfl rfl (n := 24) rfl ?_
      refine x_getR fl_X1_56 dX1_cleanPlace_24 (n := 27) rfl (fun x7 => ?_)
      refine x_iload_n 1 dX1_cleanPlace_27 rfl rfl (n := 28) rfl ?_
      refine x_sm (fun b8 e => ?_)
      subst e
      refine x_callV_I [.int a1] [] (f_X4_isValid_ok hO p5 b8 a1) rc_X4_isValid md_X4_isValid rfl q1499 q1500 q1501 dX1_cleanPlace_28 rfl rfl (by decide) (Nat.le_of_ble_eq_true rfl) (n := 31) rfl (fun x10 p9 => ?_)
      refine x_if_ne dX1_cleanPlace_31 (t := 41) (by decide) (n := 34) rfl (fun _ => ?_) (fun _ => ?_)
      · refine x_aload_nr 0 dX1_cleanPlace_41 rfl rfl (n := 42) rfl ?_
        refine x_getR fl_X1_56 dX1_cleanPlace_42 (n := 45) rfl (fun x11 => ?_)
        refine x_iload_n 1 dX1_cleanPlace_45 rfl rfl (n := 46) rfl ?_
        refine x_sm (fun b12 e => ?_)
        subst e
        refine x_callV_I [.int a1] [] (f_X4_clean_ok hO p9 b12 a1) rc_X4_clean md_X4_clean rfl q2158 q2159 q2160 dX1_cleanPlace_46 rfl rfl (by decide) (Nat.le_of_ble_eq_true rfl) (n := 49) rfl (fun x14 p13 => ?_)
        refine x_istore_n [(3, .int x14), (0, .ref a0), (1, .int a1), (2, .int a2)] dX1_cleanPlace_49 rfl (by decide) rfl (n := 50) rfl ?_
        refine x_iconst 1 dX1_cleanPlace_50 rfl (n := 51) rfl ?_
        refine x_istore [(4, .int 1), (3, .int x14), (0, .ref a0), (1, .int a1), (2, .int a2)] dX1_cleanPlace_51 (by decide) rfl (n := 53) rfl ?_
        refine x_aload_nr 2 dX1_cleanPlace_53 rfl rfl (n := 54) rfl ?_
        refine x_aload_nr 2 dX1_cleanPlace_54 rfl rfl (n := 55) rfl ?_
        refine x_getR fl_X1_56 dX1_cleanPlace_55 (n := 58) rfl (fun x15 => ?_)
        refine x_sm (fun b16 e => ?_)
        subst e
        refine x_getR fl_X1_71 dX1_cleanPlace_58 (n := 61) rfl (fun x17 => ?_)
        refine x_iload_n 3 dX1_cleanPlace_61 rfl rfl (n := 62) rfl ?_
        refine x_sm (fun b18 e => ?_)
        subst e
        refine x_callF_R [.int a1] [.ref a0] (f_J3_get_ok hO p13 b18 a1) rc_J3_get md_J3_get rfl q1497 fc_java_util_ArrayList_java_util_List_get_1_ILjava dX1_cleanPlace_62 rfl rfl (by decide) (Nat.le_of_ble_eq_true rfl) (n := 67) rfl (fun x20 p19 => ?_)
        refine x_cast (x := x20) (cs := [6]) q1498 cst_ForestLegs_Runner dX1_cleanPlace_67 (n := 70) rfl ?_
        refine x_sm (fun b21 e => ?_)
        subst e
        refine x_getI fl_X1_105 dX1_cleanPlace_70 (n := 73) rfl (fun x22 => ?_)
        refine x_callV_R [.int x22] [] (f_X1_rankedOn_ok hO p19 a0 x22) rc_X1_rankedOn md_X1_rankedOn rfl q1576 q1578 qs30 dX1_cleanPlace_73 rfl rfl (by decide) (Nat.le_of_ble_eq_true rfl) (n := 76) rfl (fun x24 p23 => ?_)
        refine x_sm (fun b25 e => ?_)
        subst e
        refine x_callF_R [] [] (f_J3_iterator_ok hO p23 b25 ) rc_J3_iterator md_J3_iterator rfl q1791 fc_java_util_ArrayList_java_util_List_iterator_0_Ljavau dX1_cleanPlace_76 rfl rfl (by decide) (Nat.le_of_ble_eq_true rfl) (n := 81) rfl (fun x27 p26 => ?_)
        refine x_astore [(5, va_rf x27), (4, .int 1), (3, .int x14), (0, .ref a0), (1, .int a1), (2, .int a2)] dX1_cleanPlace_81 (by decide) rfl (n := 83) rfl ?_
        refine x_sub [3, 4, 5, 2, 1, 0] [(0, .ref a0), (1, .int a1), (2, .int a2), (3, .int x14), (4, .int 1), (5, va_rf x27)] rfl ?_
        exact f_X1_cleanPlace_83_lp hO a0 FU a1 a2 x14 1 x27 p26
      · refine x_aload_nr 0 dX1_cleanPlace_34 rfl rfl (n := 35) rfl ?_
        refine x_bipush (-2) dX1_cleanPlace_35 rfl (n := 37) rfl ?_
        refine x_callV_I [.int (-2)] [] (f_X1_fine_ok hO p9 a0 (-2)) rc_X1_fine md_X1_fine rfl q1480 q1482 qs26 dX1_cleanPlace_37 rfl rfl (by decide) (Nat.le_of_ble_eq_true rfl) (n := 40) rfl (fun x120 p119 => ?_)
        exact x_ireturn dX1_cleanPlace_40
    · refine x_sub [0] [(0, .ref a0)] rfl ?_
      exact f_X1_cleanPlace_17_ok hO a0  p5
abbrev cX1_without : ByteArray := prog_1_method_40_code
def yX1_without : MethodName := ⟨RX1, "without", "(III)I"⟩
def dkwX1_without_7 : List UInt8 := [182, 0, 83, 172]
abbrev dktX1_without_7 : List UInt8 := dkwX1_without_7 ++ []
def dkwX1_without_6 : List UInt8 := [21, 6, 54, 5, 132, 6, 1, 167, 255, 147, 42, 29, 154, 0, 8, 21, 5, 167, 0, 5, 21, 4]
abbrev dktX1_without_6 : List UInt8 := dkwX1_without_6 ++ dktX1_without_7
def dkwX1_without_5 : List UInt8 := [100, 54, 7, 21, 5, 16, 254, 159, 0, 13, 21, 7, 21, 4, 161, 0, 6, 167, 0, 11, 21, 7, 54, 4]
abbrev dktX1_without_5 : List UInt8 := dkwX1_without_5 ++ dktX1_without_6
def dkwX1_without_4 : List UInt8 := [185, 0, 93, 2, 0, 192, 0, 103, 182, 0, 161, 42, 180, 0, 56, 21, 6, 182, 0, 189, 28, 182, 0, 242]
abbrev dktX1_without_4 : List UInt8 := dkwX1_without_4 ++ dktX1_without_5
def dkwX1_without_3 : List UInt8 := [180, 0, 56, 21, 6, 182, 0, 115, 154, 0, 6, 167, 0, 64, 42, 180, 0, 56, 180, 0, 71, 21, 6]
abbrev dktX1_without_3 : List UInt8 := dkwX1_without_3 ++ dktX1_without_4
def dkwX1_without_2 : List UInt8 := [185, 0, 77, 1, 0, 162, 0, 98, 42, 180, 0, 56, 21, 6, 27, 182, 0, 128, 153, 0, 79, 42]
abbrev dktX1_without_2 : List UInt8 := dkwX1_without_2 ++ dktX1_without_3
def dkwX1_without_1 : List UInt8 := [16, 254, 54, 4, 16, 254, 54, 5, 3, 54, 6, 21, 6, 42, 180, 0, 56, 180, 0, 71]
abbrev dktX1_without_1 : List UInt8 := dkwX1_without_1 ++ dktX1_without_2
def dkwX1_without_0 : List UInt8 := [42, 27, 28, 182, 0, 108, 153, 0, 12, 29, 3, 4, 184, 0, 36, 154, 0, 9, 42, 4, 182, 0, 40, 172]
abbrev dktX1_without_0 : List UInt8 := dkwX1_without_0 ++ dktX1_without_1
theorem dksX1_without_0 : cX1_without.data.toList.drop 0 = dktX1_without_0 := by decide +kernel
theorem dksX1_without_1 : cX1_without.data.toList.drop 24 = dktX1_without_1 := dk_seg dksX1_without_0 24 rfl rfl
theorem dksX1_without_2 : cX1_without.data.toList.drop 44 = dktX1_without_2 := dk_seg dksX1_without_1 20 rfl rfl
theorem dksX1_without_3 : cX1_without.data.toList.drop 66 = dktX1_without_3 := dk_seg dksX1_without_2 22 rfl rfl
theorem dksX1_without_4 : cX1_without.data.toList.drop 89 = dktX1_without_4 := dk_seg dksX1_without_3 23 rfl rfl
theorem dksX1_without_5 : cX1_without.data.toList.drop 113 = dktX1_without_5 := dk_seg dksX1_without_4 24 rfl rfl
theorem dksX1_without_6 : cX1_without.data.toList.drop 137 = dktX1_without_6 := dk_seg dksX1_without_5 24 rfl rfl
theorem dksX1_without_7 : cX1_without.data.toList.drop 159 = dktX1_without_7 := dk_seg dksX1_without_6 22 rfl rfl
theorem dX1_without_0 : decode cX1_without 0 = .ok (.aload_n 0, 1) := dk_42 (dk_at dksX1_without_0 0 rfl rfl)
theorem dX1_without_1 : decode cX1_without 1 = .ok (.iload_n 1, 1) := dk_27 (dk_at dksX1_without_0 1 rfl rfl)
theorem dX1_without_2 : decode cX1_without 2 = .ok (.iload_n 2, 1) := dk_28 (dk_at dksX1_without_0 2 rfl rfl)
theorem dX1_without_3 : decode cX1_without 3 = .ok (.invokevirtual 108, 3) := dk_182 0 108 (dk_at dksX1_without_0 3 rfl rfl)
theorem dX1_without_6 : decode cX1_without 6 = .ok (.ifCond .eq 12, 3) := dk_153 0 12 (dk_at dksX1_without_0 6 rfl rfl)
theorem dX1_without_9 : decode cX1_without 9 = .ok (.iload_n 3, 1) := dk_29 (dk_at dksX1_without_0 9 rfl rfl)
theorem dX1_without_10 : decode cX1_without 10 = .ok (.iconst 0, 1) := dk_3 (dk_at dksX1_without_0 10 rfl rfl)
theorem dX1_without_11 : decode cX1_without 11 = .ok (.iconst 1, 1) := dk_4 (dk_at dksX1_without_0 11 rfl rfl)
theorem dX1_without_12 : decode cX1_without 12 = .ok (.invokestatic 36, 3) := dk_184 0 36 (dk_at dksX1_without_0 12 rfl rfl)
theorem dX1_without_15 : decode cX1_without 15 = .ok (.ifCond .ne 9, 3) := dk_154 0 9 (dk_at dksX1_without_0 15 rfl rfl)
theorem dX1_without_18 : decode cX1_without 18 = .ok (.aload_n 0, 1) := dk_42 (dk_at dksX1_without_0 18 rfl rfl)
theorem dX1_without_19 : decode cX1_without 19 = .ok (.iconst 1, 1) := dk_4 (dk_at dksX1_without_0 19 rfl rfl)
theorem dX1_without_20 : decode cX1_without 20 = .ok (.invokevirtual 40, 3) := dk_182 0 40 (dk_at dksX1_without_0 20 rfl rfl)
theorem dX1_without_23 : decode cX1_without 23 = .ok (.ireturn, 1) := dk_172 (dk_at dksX1_without_0 23 rfl rfl)
theorem dX1_without_24 : decode cX1_without 24 = .ok (.bipush (-2), 2) := dk_16 254 (dk_at dksX1_without_1 0 rfl rfl)
theorem dX1_without_26 : decode cX1_without 26 = .ok (.istore 4, 2) := dk_54 4 (dk_at dksX1_without_1 2 rfl rfl)
theorem dX1_without_28 : decode cX1_without 28 = .ok (.bipush (-2), 2) := dk_16 254 (dk_at dksX1_without_1 4 rfl rfl)
theorem dX1_without_30 : decode cX1_without 30 = .ok (.istore 5, 2) := dk_54 5 (dk_at dksX1_without_1 6 rfl rfl)
theorem dX1_without_32 : decode cX1_without 32 = .ok (.iconst 0, 1) := dk_3 (dk_at dksX1_without_1 8 rfl rfl)
theorem dX1_without_33 : decode cX1_without 33 = .ok (.istore 6, 2) := dk_54 6 (dk_at dksX1_without_1 9 rfl rfl)
theorem dX1_without_35 : decode cX1_without 35 = .ok (.iload 6, 2) := dk_21 6 (dk_at dksX1_without_1 11 rfl rfl)
theorem dX1_without_37 : decode cX1_without 37 = .ok (.aload_n 0, 1) := dk_42 (dk_at dksX1_without_1 13 rfl rfl)
theorem dX1_without_38 : decode cX1_without 38 = .ok (.getfield 56, 3) := dk_180 0 56 (dk_at dksX1_without_1 14 rfl rfl)
theorem dX1_without_41 : decode cX1_without 41 = .ok (.getfield 71, 3) := dk_180 0 71 (dk_at dksX1_without_1 17 rfl rfl)
theorem dX1_without_44 : decode cX1_without 44 = .ok (.invokeinterface 77 1, 5) := by decide +kernel
theorem dX1_without_49 : decode cX1_without 49 = .ok (.if_icmp .ge 98, 3) := dk_162 0 98 (dk_at dksX1_without_2 5 rfl rfl)
theorem dX1_without_52 : decode cX1_without 52 = .ok (.aload_n 0, 1) := dk_42 (dk_at dksX1_without_2 8 rfl rfl)
theorem dX1_without_53 : decode cX1_without 53 = .ok (.getfield 56, 3) := dk_180 0 56 (dk_at dksX1_without_2 9 rfl rfl)
theorem dX1_without_56 : decode cX1_without 56 = .ok (.iload 6, 2) := dk_21 6 (dk_at dksX1_without_2 12 rfl rfl)
theorem dX1_without_58 : decode cX1_without 58 = .ok (.iload_n 1, 1) := dk_27 (dk_at dksX1_without_2 14 rfl rfl)
theorem dX1_without_59 : decode cX1_without 59 = .ok (.invokevirtual 128, 3) := dk_182 0 128 (dk_at dksX1_without_2 15 rfl rfl)
theorem dX1_without_62 : decode cX1_without 62 = .ok (.ifCond .eq 79, 3) := dk_153 0 79 (dk_at dksX1_without_2 18 rfl rfl)
theorem dX1_without_65 : decode cX1_without 65 = .ok (.aload_n 0, 1) := dk_42 (dk_at dksX1_without_2 21 rfl rfl)
theorem dX1_without_66 : decode cX1_without 66 = .ok (.getfield 56, 3) := dk_180 0 56 (dk_at dksX1_without_3 0 rfl rfl)
theorem dX1_without_69 : decode cX1_without 69 = .ok (.iload 6, 2) := dk_21 6 (dk_at dksX1_without_3 3 rfl rfl)
theorem dX1_without_71 : decode cX1_without 71 = .ok (.invokevirtual 115, 3) := dk_182 0 115 (dk_at dksX1_without_3 5 rfl rfl)
theorem dX1_without_74 : decode cX1_without 74 = .ok (.ifCond .ne 6, 3) := dk_154 0 6 (dk_at dksX1_without_3 8 rfl rfl)
theorem dX1_without_77 : decode cX1_without 77 = .ok (.goto 64, 3) := dk_167 0 64 (dk_at dksX1_without_3 11 rfl rfl)
theorem dX1_without_80 : decode cX1_without 80 = .ok (.aload_n 0, 1) := dk_42 (dk_at dksX1_without_3 14 rfl rfl)
theorem dX1_without_81 : decode cX1_without 81 = .ok (.getfield 56, 3) := dk_180 0 56 (dk_at dksX1_without_3 15 rfl rfl)
theorem dX1_without_84 : decode cX1_without 84 = .ok (.getfield 71, 3) := dk_180 0 71 (dk_at dksX1_without_3 18 rfl rfl)
theorem dX1_without_87 : decode cX1_without 87 = .ok (.iload 6, 2) := dk_21 6 (dk_at dksX1_without_3 21 rfl rfl)
theorem dX1_without_89 : decode cX1_without 89 = .ok (.invokeinterface 93 2, 5) := by decide +kernel
theorem dX1_without_94 : decode cX1_without 94 = .ok (.checkcast 103, 3) := dk_192 0 103 (dk_at dksX1_without_4 5 rfl rfl)
theorem dX1_without_97 : decode cX1_without 97 = .ok (.invokevirtual 161, 3) := dk_182 0 161 (dk_at dksX1_without_4 8 rfl rfl)
theorem dX1_without_100 : decode cX1_without 100 = .ok (.aload_n 0, 1) := dk_42 (dk_at dksX1_without_4 11 rfl rfl)
theorem dX1_without_101 : decode cX1_without 101 = .ok (.getfield 56, 3) := dk_180 0 56 (dk_at dksX1_without_4 12 rfl rfl)
theorem dX1_without_104 : decode cX1_without 104 = .ok (.iload 6, 2) := dk_21 6 (dk_at dksX1_without_4 15 rfl rfl)
theorem dX1_without_106 : decode cX1_without 106 = .ok (.invokevirtual 189, 3) := dk_182 0 189 (dk_at dksX1_without_4 17 rfl rfl)
theorem dX1_without_109 : decode cX1_without 109 = .ok (.iload_n 2, 1) := dk_28 (dk_at dksX1_without_4 20 rfl rfl)
theorem dX1_without_110 : decode cX1_without 110 = .ok (.invokevirtual 242, 3) := dk_182 0 242 (dk_at dksX1_without_4 21 rfl rfl)
theorem dX1_without_113 : decode cX1_without 113 = .ok (.isub, 1) := dk_100 (dk_at dksX1_without_5 0 rfl rfl)
theorem dX1_without_114 : decode cX1_without 114 = .ok (.istore 7, 2) := dk_54 7 (dk_at dksX1_without_5 1 rfl rfl)
theorem dX1_without_116 : decode cX1_without 116 = .ok (.iload 5, 2) := dk_21 5 (dk_at dksX1_without_5 3 rfl rfl)
theorem dX1_without_118 : decode cX1_without 118 = .ok (.bipush (-2), 2) := dk_16 254 (dk_at dksX1_without_5 5 rfl rfl)
theorem dX1_without_120 : decode cX1_without 120 = .ok (.if_icmp .eq 13, 3) := dk_159 0 13 (dk_at dksX1_without_5 7 rfl rfl)
theorem dX1_without_123 : decode cX1_without 123 = .ok (.iload 7, 2) := dk_21 7 (dk_at dksX1_without_5 10 rfl rfl)
theorem dX1_without_125 : decode cX1_without 125 = .ok (.iload 4, 2) := dk_21 4 (dk_at dksX1_without_5 12 rfl rfl)
theorem dX1_without_127 : decode cX1_without 127 = .ok (.if_icmp .lt 6, 3) := dk_161 0 6 (dk_at dksX1_without_5 14 rfl rfl)
theorem dX1_without_130 : decode cX1_without 130 = .ok (.goto 11, 3) := dk_167 0 11 (dk_at dksX1_without_5 17 rfl rfl)
theorem dX1_without_133 : decode cX1_without 133 = .ok (.iload 7, 2) := dk_21 7 (dk_at dksX1_without_5 20 rfl rfl)
theorem dX1_without_135 : decode cX1_without 135 = .ok (.istore 4, 2) := dk_54 4 (dk_at dksX1_without_5 22 rfl rfl)
theorem dX1_without_137 : decode cX1_without 137 = .ok (.iload 6, 2) := dk_21 6 (dk_at dksX1_without_6 0 rfl rfl)
theorem dX1_without_139 : decode cX1_without 139 = .ok (.istore 5, 2) := dk_54 5 (dk_at dksX1_without_6 2 rfl rfl)
theorem dX1_without_141 : decode cX1_without 141 = .ok (.iinc 6 1, 3) := dk_132 6 1 (dk_at dksX1_without_6 4 rfl rfl)
theorem dX1_without_144 : decode cX1_without 144 = .ok (.goto (-109), 3) := dk_167 255 147 (dk_at dksX1_without_6 7 rfl rfl)
theorem dX1_without_147 : decode cX1_without 147 = .ok (.aload_n 0, 1) := dk_42 (dk_at dksX1_without_6 10 rfl rfl)
theorem dX1_without_148 : decode cX1_without 148 = .ok (.iload_n 3, 1) := dk_29 (dk_at dksX1_without_6 11 rfl rfl)
theorem dX1_without_149 : decode cX1_without 149 = .ok (.ifCond .ne 8, 3) := dk_154 0 8 (dk_at dksX1_without_6 12 rfl rfl)
theorem dX1_without_152 : decode cX1_without 152 = .ok (.iload 5, 2) := dk_21 5 (dk_at dksX1_without_6 15 rfl rfl)
theorem dX1_without_154 : decode cX1_without 154 = .ok (.goto 5, 3) := dk_167 0 5 (dk_at dksX1_without_6 17 rfl rfl)
theorem dX1_without_157 : decode cX1_without 157 = .ok (.iload 4, 2) := dk_21 4 (dk_at dksX1_without_6 20 rfl rfl)
theorem dX1_without_159 : decode cX1_without 159 = .ok (.invokevirtual 83, 3) := dk_182 0 83 (dk_at dksX1_without_7 0 rfl rfl)
theorem dX1_without_162 : decode cX1_without 162 = .ok (.ireturn, 1) := dk_172 (dk_at dksX1_without_7 3 rfl rfl)
theorem md_X1_without : xMd yX1_without cX1_without 8 (Option.some Jvm.ClassFile.FieldType.int) 3 := ⟨q2173, q123, by decide, by decide +kernel, by decide +kernel, by decide +kernel⟩
def f_X1_without_18 (a0 : Nat)   (p0 : PH) : Option (xO × PH) :=
  (xcI (f_X1_refused p0 a0 1) fun x4 p3 =>
  (rI x4 p3))
def f_X1_without_159 (a0 : Nat)  (w1 : Int32) (p0 : PH) : Option (xO × PH) :=
  (xcI (f_X1_fine p0 a0 w1) fun x14 p13 =>
  (rI x14 p13))
def f_X1_without_141 (a0 : Nat) (k35 : Int32 × Int32 × Int32 × Int32 × Int32 × Int32 × PH → Option (xO × PH)) (v1 : Int32) (v2 : Int32) (v3 : Int32) (v4 : Int32) (v5 : Int32) (v6 : Int32) (p0 : PH) : Option (xO × PH) :=
  (bnd (v6 + 1) fun x19 =>
  (k35 (v1, v2, v3, v4, v5, x19, p0)))
def f_X1_without_133 (a0 : Nat) (k35 : Int32 × Int32 × Int32 × Int32 × Int32 × Int32 × PH → Option (xO × PH)) (v1 : Int32) (v2 : Int32) (v3 : Int32) (v6 : Int32) (v7 : Int32) (p0 : PH) : Option (xO × PH) :=
  (f_X1_without_141 a0 k35 v1 v2 v3 v7 v6 v6 p0)
def f_X1_without_35F (a0 : Nat)  (k35 : Int32 × Int32 × Int32 × Int32 × Int32 × Int32 × PH → Option (xO × PH)) (p : Int32 × Int32 × Int32 × Int32 × Int32 × Int32 × PH) : Option (xO × PH) := match p with
  | (v1, v2, v3, v4, v5, v6, p0) => (xgR p0 a0 0 5 fun x7 =>
  (xnul x7 none fun b8 =>
  (xgR p0 b8 3 1 fun x9 =>
  (xnul x9 none fun b10 =>
  (xcI (f_J3_size p0 b10 ) fun x12 p11 =>
  (if x12 ≤ v6 then
  (if v3 = 0 then
  (f_X1_without_159 a0 v5 p11) else
  (f_X1_without_159 a0 v4 p11)) else
  (xgR p11 a0 0 5 fun x15 =>
  (xnul x15 none fun b16 =>
  (xcI (f_X4_isOf p11 b16 v6 v1) fun x18 p17 =>
  (if x18 = 0 then
  (f_X1_without_141 a0 k35 v1 v2 v3 v4 v5 v6 p17) else
  (xgR p17 a0 0 5 fun x20 =>
  (xnul x20 none fun b21 =>
  (xcI (f_X4_isValid p17 b21 v6) fun x23 p22 =>
  (if x23 = 0 then
  (f_X1_without_141 a0 k35 v1 v2 v3 v4 v5 v6 p22) else
  (xgR p22 a0 0 5 fun x24 =>
  (xnul x24 none fun b25 =>
  (xgR p22 b25 3 1 fun x26 =>
  (xnul x26 none fun b27 =>
  (xcR (f_J3_get p22 b27 v6) fun x29 p28 =>
  (xcst p28 (x29) [6]
  (xnul x29 none fun b30 =>
  (xcI (f_X7_total p28 b30 ) fun x32 p31 =>
  (xgR p31 a0 0 5 fun x33 =>
  (xnul x33 none fun b34 =>
  (xcR (f_X4_match p31 b34 v6) fun x36 p35 =>
  (xnul x36 none fun b37 =>
  (xcI (f_X9_leg p35 b37 v2) fun x39 p38 =>
  (bnd (x32 - x39) fun x40 =>
  (if v5 = (-2) then
  (f_X1_without_133 a0 k35 v1 v2 v3 v6 x40 p38) else
  (if x40 < v4 then
  (f_X1_without_133 a0 k35 v1 v2 v3 v6 x40 p38) else
  (f_X1_without_141 a0 k35 v1 v2 v3 v4 v5 v6 p38)))))))))))))))))))))))))))))))
def f_X1_without (p0 : PH) (a0 : Nat) (a1 : Int32) (a2 : Int32) (a3 : Int32) : Option (xO × PH) :=
  (xcl1 p0 a0 0 (xcI (f_X1_isPoint p0 a0 a1 a2) fun x2 p1 =>
  (if x2 = 0 then
  (f_X1_without_18 a0  p1) else
  (xcI (f_X1_isIn p1 a3 0 1) fun x6 p5 =>
  (if x6 = 0 then
  (f_X1_without_18 a0  p5) else
  (lp (f_X1_without_35F a0) FU (a1, a2, a3, (-2), (-2), 0, p5)))))))
theorem rc_X1_without {p0 : PH} {a0 : Nat} {a1 : Int32} {a2 : Int32} {a3 : Int32} : ∀ z, f_X1_without p0 a0 a1 a2 a3 = some z → xco p0 a0 = some 0 := fun z h => xcl1_some h
theorem f_X1_without_18_ok {G : xG} (hO : xOK G) (a0 : Nat)   (p0 : PH) : X G "ForestLegs" "without" cX1_without 8 (Option.some Jvm.ClassFile.FieldType.int) 9 18 [(0, .ref a0)] [] p0 (f_X1_without_18 a0  p0) := by
  unfold f_X1_without_18
  refine x_aload_nr 0 dX1_without_18 rfl rfl (n := 19) rfl ?_
  refine x_iconst 1 dX1_without_19 rfl (n := 20) rfl ?_
  refine x_callV_I [.int 1] [] (f_X1_refused_ok hO p0 a0 1) rc_X1_refused md_X1_refused rfl q250 q252 qs0 dX1_without_20 rfl rfl (by decide) (Nat.le_of_ble_eq_true rfl) (n := 23) rfl (fun x4 p3 => ?_)
  exact x_ireturn dX1_without_23
theorem f_X1_without_159_ok {G : xG} (hO : xOK G) (a0 : Nat)  (w1 : Int32) (p0 : PH) : X G "ForestLegs" "without" cX1_without 8 (Option.some Jvm.ClassFile.FieldType.int) 9 159 [] [.int w1, .ref a0] p0 (f_X1_without_159 a0 w1 p0) := by
  unfold f_X1_without_159
  refine x_callV_I [.int w1] [] (f_X1_fine_ok hO p0 a0 w1) rc_X1_fine md_X1_fine rfl q1480 q1482 qs26 dX1_without_159 rfl rfl (by decide) (Nat.le_of_ble_eq_true rfl) (n := 162) rfl (fun x14 p13 => ?_)
  exact x_ireturn dX1_without_162
theorem f_X1_without_141_ok {G : xG} (hO : xOK G) (a0 : Nat) {k35 : Int32 × Int32 × Int32 × Int32 × Int32 × Int32 × PH → Option (xO × PH)} (hk35 : ∀ (v1 : Int32) (v2 : Int32) (v3 : Int32) (v4 : Int32) (v5 : Int32) (v6 : Int32) (p0 : PH), X G "ForestLegs" "without" cX1_without 8 (Option.some Jvm.ClassFile.FieldType.int) 9 35 [(0, .ref a0), (1, .int v1), (2, .int v2), (3, .int v3), (4, .int v4), (5, .int v5), (6, .int v6)] [] p0 (k35 (v1, v2, v3, v4, v5, v6, p0))) (v1 : Int32) (v2 : Int32) (v3 : Int32) (v4 : Int32) (v5 : Int32) (v6 : Int32) (p0 : PH) : X G "ForestLegs" "without" cX1_without 8 (Option.some Jvm.ClassFile.FieldType.int) 9 141 [(0, .ref a0), (1, .int v1), (2, .int v2), (3, .int v3), (4, .int v4), (5, .int v5), (6, .int v6)] [] p0 (f_X1_without_141 a0 k35 v1 v2 v3 v4 v5 v6 p0) := by
  unfold f_X1_without_141
  refine x_iincB 6 (fun x19 => [(6, .int x19), (0, .ref a0), (1, .int v1), (2, .int v2), (3, .int v3), (4, .int v4), (5, .int v5)]) dX1_without_141 rfl rfl (by decide) (fun _ => rfl) (n := 144) rfl (fun x19 => ?_)
  refine x_goto dX1_without_144 (n := 35) (by decide) ?_
  refine x_sub [1, 2, 3, 4, 5, 6, 0] [(0, .ref a0), (1, .int v1), (2, .int v2), (3, .int v3), (4, .int v4), (5, .int v5), (6, .int x19)] rfl ?_
  exact hk35 v1 v2 v3 v4 v5 x19 p0
theorem f_X1_without_133_ok {G : xG} (hO : xOK G) (a0 : Nat) {k35 : Int32 × Int32 × Int32 × Int32 × Int32 × Int32 × PH → Option (xO × PH)} (hk35 : ∀ (v1 : Int32) (v2 : Int32) (v3 : Int32) (v4 : Int32) (v5 : Int32) (v6 : Int32) (p0 : PH), X G "ForestLegs" "without" cX1_without 8 (Option.some Jvm.ClassFile.FieldType.int) 9 35 [(0, .ref a0), (1, .int v1), (2, .int v2), (3, .int v3), (4, .int v4), (5, .int v5), (6, .int v6)] [] p0 (k35 (v1, v2, v3, v4, v5, v6, p0))) (v1 : Int32) (v2 : Int32) (v3 : Int32) (v6 : Int32) (v7 : Int32) (p0 : PH) : X G "ForestLegs" "without" cX1_without 8 (Option.some Jvm.ClassFile.FieldType.int) 9 133 [(0, .ref a0), (1, .int v1), (2, .int v2), (3, .int v3), (6, .int v6), (7, .int v7)] [] p0 (f_X1_without_133 a0 k35 v1 v2 v3 v6 v7 p0) := by
  unfold f_X1_without_133
  refine x_iload 5 dX1_without_133 rfl (n := 135) rfl ?_
  refine x_istore [(4, .int v7), (0, .ref a0), (1, .int v1), (2, .int v2), (3, .int v3), (6, .int v6), (7, .int v7)] dX1_without_135 (by decide) rfl (n := 137) rfl ?_
  refine x_iload 5 dX1_without_137 rfl (n := 139) rfl ?_
  refine x_istore [(5, .int v6), (4, .int v7), (0, .ref a0), (1, .int v1), (2, .int v2), (3, .int v3), (6, .int v6), (7, .int v7)] dX1_without_139 (by decide) rfl (n := 141) rfl ?_
  refine x_sub [2, 3, 4, 5, 1, 0, 6] [(0, .ref a0), (1, .int v1), (2, .int v2), (3, .int v3), (4, .int v7), (5, .int v6), (6, .int v6)] rfl ?_
  exact f_X1_without_141_ok hO a0 hk35 v1 v2 v3 v7 v6 v6 p0
theorem f_X1_without_35F_ok {G : xG} (hO : xOK G) (a0 : Nat)  {k35 : Int32 × Int32 × Int32 × Int32 × Int32 × Int32 × PH → Option (xO × PH)} (hk35 : ∀ (v1 : Int32) (v2 : Int32) (v3 : Int32) (v4 : Int32) (v5 : Int32) (v6 : Int32) (p0 : PH), X G "ForestLegs" "without" cX1_without 8 (Option.some Jvm.ClassFile.FieldType.int) 9 35 [(0, .ref a0), (1, .int v1), (2, .int v2), (3, .int v3), (4, .int v4), (5, .int v5), (6, .int v6)] [] p0 (k35 (v1, v2, v3, v4, v5, v6, p0))) (v1 : Int32) (v2 : Int32) (v3 : Int32) (v4 : Int32) (v5 : Int32) (v6 : Int32) (p0 : PH) : X G "ForestLegs" "without" cX1_without 8 (Option.some Jvm.ClassFile.FieldType.int) 9 35 [(0, .ref a0), (1, .int v1), (2, .int v2), (3, .int v3), (4, .int v4), (5, .int v5), (6, .int v6)] [] p0 (f_X1_without_35F a0 k35 (v1, v2, v3, v4, v5, v6, p0)) := by
  unfold f_X1_without_35F
  refine x_iload 6 dX1_without_35 rfl (n := 37) rfl ?_
  refine x_aload_nr 0 dX1_without_37 rfl rfl (n := 38) rfl ?_
  refine x_getR fl_X1_56 dX1_without_38 (n := 41) rfl (fun x7 => ?_)
  refine x_sm (fun b8 e => ?_)
  subst e
  refine x_getR fl_X1_71 dX1_without_41 (n := 44) rfl (fun x9 => ?_)
  refine x_sm (fun b10 e => ?_)
  subst e
  refine x_callF_I [] [.int v6] (f_J3_size_ok hO p0 b10 ) rc_J3_size md_J3_size rfl q1479 fc_java_util_ArrayList_java_util_List_size_0_I dX1_without_44 rfl rfl (by decide) (Nat.le_of_ble_eq_true rfl) (n := 49) rfl (fun x12 p11 => ?_)
  refine x_icmp_ge dX1_without_49 (t := 147) (by decide) (n := 52) rfl (fun _ => ?_) (fun _ => ?_)
  · refine x_aload_nr 0 dX1_without_147 rfl rfl (n := 148) rfl ?_
    refine x_iload_n 3 dX1_without_148 rfl rfl (n := 149) rfl ?_
    refine x_if_ne dX1_without_149 (t := 157) (by decide) (n := 152) rfl (fun _ => ?_) (fun _ => ?_)
    · refine x_iload 4 dX1_without_157 rfl (n := 159) rfl ?_
      refine x_sub [] [] rfl ?_
      exact f_X1_without_159_ok hO a0 v4 p11
    · refine x_iload 5 dX1_without_152 rfl (n := 154) rfl ?_
      refine x_goto dX1_without_154 (n := 159) (by decide) ?_
      refine x_sub [] [] rfl ?_
      exact f_X1_without_159_ok hO a0 v5 p11
  · refine x_aload_nr 0 dX1_without_52 rfl rfl (n := 53) rfl ?_
    refine x_getR fl_X1_56 dX1_without_53 (n := 56) rfl (fun x15 => ?_)
    refine x_iload 6 dX1_without_56 rfl (n := 58) rfl ?_
    refine x_iload_n 1 dX1_without_58 rfl rfl (n := 59) rfl ?_
    refine x_sm (fun b16 e => ?_)
    subst e
    refine x_callV_I [.int v6, .int v1] [] (f_X4_isOf_ok hO p11 b16 v6 v1) rc_X4_isOf md_X4_isOf rfl q1570 q1571 q1572 dX1_without_59 rfl rfl (by decide) (Nat.le_of_ble_eq_true rfl) (n := 62) rfl (fun x18 p17 => ?_)
    refine x_if_eq dX1_without_62 (t := 141) (by decide) (n := 65) rfl (fun _ => ?_) (fun _ => ?_)
    · exact f_X1_without_141_ok hO a0 hk35 v1 v2 v3 v4 v5 v6 p17
    · refine x_aload_nr 0 dX1_without_65 rfl rfl (n := 66) rfl ?_
      refine x_getR fl_X1_56 dX1_without_66 (n := 69) rfl (fun x20 => ?_)
      refine x_iload 6 dX1_without_69 rfl (n := 71) rfl ?_
      refine x_sm (fun b21 e => ?_)
      subst e
      refine x_callV_I [.int v6] [] (f_X4_isValid_ok hO p17 b21 v6) rc_X4_isValid md_X4_isValid rfl q1499 q1500 q1501 dX1_without_71 rfl rfl (by decide) (Nat.le_of_ble_eq_true rfl) (n := 74) rfl (fun x23 p22 => ?_)
      refine x_if_ne dX1_without_74 (t := 80) (by decide) (n := 77) rfl (fun _ => ?_) (fun _ => ?_)
      · refine x_aload_nr 0 dX1_without_80 rfl rfl (n := 81) rfl ?_
        refine x_getR fl_X1_56 dX1_without_81 (n := 84) rfl (fun x24 => ?_)
        refine x_sm (fun b25 e => ?_)
        subst e
        refine x_getR fl_X1_71 dX1_without_84 (n := 87) rfl (fun x26 => ?_)
        refine x_iload 6 dX1_without_87 rfl (n := 89) rfl ?_
        refine x_sm (fun b27 e => ?_)
        subst e
        refine x_callF_R [.int v6] [] (f_J3_get_ok hO p22 b27 v6) rc_J3_get md_J3_get rfl q1497 fc_java_util_ArrayList_java_util_List_get_1_ILjava dX1_without_89 rfl rfl (by decide) (Nat.le_of_ble_eq_true rfl) (n := 94) rfl (fun x29 p28 => ?_)
        refine x_cast (x := x29) (cs := [6]) q1498 cst_ForestLegs_Runner dX1_without_94 (n := 97) rfl ?_
        refine x_sm (fun b30 e => ?_)
        subst e
        refine x_callV_I [] [] (f_X7_total_ok hO p28 b30 ) rc_X7_total md_X7_total rfl q1766 q963 q964 dX1_without_97 rfl rfl (by decide) (Nat.le_of_ble_eq_true rfl) (n := 100) rfl (fun x32 p31 => ?_)
        refine x_aload_nr 0 dX1_without_100 rfl rfl (n := 101) rfl ?_
        refine x_getR fl_X1_56 dX1_without_101 (n := 104) rfl (fun x33 => ?_)
        refine x_iload 6 dX1_without_104 rfl (n := 106) rfl ?_
        refine x_sm (fun b34 e => ?_)
        subst e
        refine x_callV_R [.int v6] [.int x32] (f_X4_match_ok hO p31 b34 v6) rc_X4_match md_X4_match rfl q1784 q1504 q1505 dX1_without_106 rfl rfl (by decide) (Nat.le_of_ble_eq_true rfl) (n := 109) rfl (fun x36 p35 => ?_)
        refine x_iload_n 2 dX1_without_109 rfl rfl (n := 110) rfl ?_
        refine x_sm (fun b37 e => ?_)
        subst e
        refine x_callV_I [.int v2] [.int x32] (f_X9_leg_ok hO p35 b37 v2) rc_X9_leg md_X9_leg rfl q2001 q1747 q1748 dX1_without_110 rfl rfl (by decide) (Nat.le_of_ble_eq_true rfl) (n := 113) rfl (fun x39 p38 => ?_)
        refine x_isub dX1_without_113 (n := 114) rfl ?_
        refine x_nm (fun x40 => ?_)
        refine x_istore [(7, .int x40), (0, .ref a0), (1, .int v1), (2, .int v2), (3, .int v3), (4, .int v4), (5, .int v5), (6, .int v6)] dX1_without_114 (by decide) rfl (n := 116) rfl ?_
        refine x_iload 6 dX1_without_116 rfl (n := 118) rfl ?_
        refine x_bipush (-2) dX1_without_118 rfl (n := 120) rfl ?_
        refine x_icmp_eq dX1_without_120 (t := 133) (by decide) (n := 123) rfl (fun _ => ?_) (fun _ => ?_)
        · refine x_sub [1, 2, 3, 4, 7, 0] [(0, .ref a0), (1, .int v1), (2, .int v2), (3, .int v3), (6, .int v6), (7, .int x40)] rfl ?_
          exact f_X1_without_133_ok hO a0 hk35 v1 v2 v3 v6 x40 p38
        · refine x_iload 0 dX1_without_123 rfl (n := 125) rfl ?_
          refine x_iload 5 dX1_without_125 rfl (n := 127) rfl ?_
          refine x_icmp_lt dX1_without_127 (t := 133) (by decide) (n := 130) rfl (fun _ => ?_) (fun _ => ?_)
          · refine x_sub [1, 2, 3, 4, 7, 0] [(0, .ref a0), (1, .int v1), (2, .int v2), (3, .int v3), (6, .int v6), (7, .int x40)] rfl ?_
            exact f_X1_without_133_ok hO a0 hk35 v1 v2 v3 v6 x40 p38
          · refine x_goto dX1_without_130 (n := 141) (by decide) ?_
            refine x_sub [1, 2, 3, 4, 5, 6, 7] [(0, .ref a0), (1, .int v1), (2, .int v2), (3, .int v3), (4, .int v4), (5, .int v5), (6, .int v6)] rfl ?_
            exact f_X1_without_141_ok hO a0 hk35 v1 v2 v3 v4 v5 v6 p38
      · refine x_goto dX1_without_77 (n := 141) (by decide) ?_
        exact f_X1_without_141_ok hO a0 hk35 v1 v2 v3 v4 v5 v6 p22
theorem f_X1_without_35_lp {G : xG} (hO : xOK G) (a0 : Nat)  (n : Nat) (v1 : Int32) (v2 : Int32) (v3 : Int32) (v4 : Int32) (v5 : Int32) (v6 : Int32) (p0 : PH) : X G "ForestLegs" "without" cX1_without 8 (Option.some Jvm.ClassFile.FieldType.int) 9 35 [(0, .ref a0), (1, .int v1), (2, .int v2), (3, .int v3), (4, .int v4), (5, .int v5), (6, .int v6)] [] p0 (lp (f_X1_without_35F a0) n (v1, v2, v3, v4, v5, v6, p0)) :=
  lp_ok (W := fun p K => X G "ForestLegs" "without" cX1_without 8 (Option.some Jvm.ClassFile.FieldType.int) 9 35 [(0, .ref a0), (1, .int p.1), (2, .int p.2.1), (3, .int p.2.2.1), (4, .int p.2.2.2.1), (5, .int p.2.2.2.2.1), (6, .int p.2.2.2.2.2.1)] [] p.2.2.2.2.2.2 K) (fun _ => x_no) (fun k hk => fun (v1, v2, v3, v4, v5, v6, p0) => f_X1_without_35F_ok hO a0 (fun v1 v2 v3 v4 v5 v6 p0 => hk (v1, v2, v3, v4, v5, v6, p0)) v1 v2 v3 v4 v5 v6 p0) n (v1, v2, v3, v4, v5, v6, p0)
theorem f_X1_without_ok {G : xG} (hO : xOK G) (p0 : PH) (a0 : Nat) (a1 : Int32) (a2 : Int32) (a3 : Int32) : CT G 9 yX1_without cX1_without 8 (Option.some Jvm.ClassFile.FieldType.int) [.ref a0, .int a1, .int a2, .int a3] p0 (f_X1_without p0 a0 a1 a2 a3) := by
  refine CT_of hO (by decide +kernel) (by decide +kernel) (Nat.le_of_ble_eq_true rfl) ?_
  show X G "ForestLegs" "without" cX1_without 8 (Option.some Jvm.ClassFile.FieldType.int) 9 0 [(0, .ref a0), (1, .int a1), (2, .int a2), (3, .int a3)] [] p0 (f_X1_without p0 a0 a1 a2 a3)
  refine x_cl1 (fun e0 => ?_)
  refine x_aload_nr 0 dX1_without_0 rfl rfl (n := 1) rfl ?_
  refine x_iload_n 1 dX1_without_1 rfl rfl (n := 2) rfl ?_
  refine x_iload_n 2 dX1_without_2 rfl rfl (n := 3) rfl ?_
  refine x_callV_I [.int a1, .int a2] [] (f_X1_isPoint_ok hO p0 a0 a1 a2) rc_X1_isPoint md_X1_isPoint rfl q1984 q1986 qs46 dX1_without_3 rfl rfl (by decide) (Nat.le_of_ble_eq_true rfl) (n := 6) rfl (fun x2 p1 => ?_)
  refine x_if_eq dX1_without_6 (t := 18) (by decide) (n := 9) rfl (fun _ => ?_) (fun _ => ?_)
  · refine x_sub [0] [(0, .ref a0)] rfl ?_
    exact f_X1_without_18_ok hO a0  p1
  · refine x_iload_n 3 dX1_without_9 rfl rfl (n := 10) rfl ?_
    refine x_iconst 0 dX1_without_10 rfl (n := 11) rfl ?_
    refine x_iconst 1 dX1_without_11 rfl (n := 12) rfl ?_
    refine x_callS_I [.int a3, .int 0, .int 1] [] (f_X1_isIn_ok hO p1 a3 0 1) md_X1_isIn q247 q248 dX1_without_12 rfl rfl (by decide) (Nat.le_of_ble_eq_true rfl) (n := 15) rfl (fun x6 p5 => ?_)
    refine x_if_ne dX1_without_15 (t := 24) (by decide) (n := 18) rfl (fun _ => ?_) (fun _ => ?_)
    · refine x_bipush (-2) dX1_without_24 rfl (n := 26) rfl ?_
      refine x_istore [(4, .int (-2)), (0, .ref a0), (1, .int a1), (2, .int a2), (3, .int a3)] dX1_without_26 (by decide) rfl (n := 28) rfl ?_
      refine x_bipush (-2) dX1_without_28 rfl (n := 30) rfl ?_
      refine x_istore [(5, .int (-2)), (4, .int (-2)), (0, .ref a0), (1, .int a1), (2, .int a2), (3, .int a3)] dX1_without_30 (by decide) rfl (n := 32) rfl ?_
      refine x_iconst 0 dX1_without_32 rfl (n := 33) rfl ?_
      refine x_istore [(6, .int 0), (5, .int (-2)), (4, .int (-2)), (0, .ref a0), (1, .int a1), (2, .int a2), (3, .int a3)] dX1_without_33 (by decide) rfl (n := 35) rfl ?_
      refine x_sub [3, 4, 5, 6, 2, 1, 0] [(0, .ref a0), (1, .int a1), (2, .int a2), (3, .int a3), (4, .int (-2)), (5, .int (-2)), (6, .int 0)] rfl ?_
      exact f_X1_without_35_lp hO a0 FU a1 a2 a3 (-2) (-2) 0 p5
    · refine x_sub [0] [(0, .ref a0)] rfl ?_
      exact f_X1_without_18_ok hO a0  p5
abbrev cX1_hardest : ByteArray := prog_1_method_41_code
def yX1_hardest : MethodName := ⟨RX1, "hardest", "(II)I"⟩
def dkwX1_hardest_7 : List UInt8 := [167, 255, 132, 42, 28, 154, 0, 8, 21, 4, 167, 0, 4, 29, 182, 0, 83, 172]
abbrev dktX1_hardest_7 : List UInt8 := dkwX1_hardest_7 ++ []
def dkwX1_hardest_6 : List UInt8 := [159, 0, 19, 21, 6, 29, 163, 0, 6, 167, 0, 10, 21, 6, 62, 21, 5, 54, 4, 132, 5, 1]
abbrev dktX1_hardest_6 : List UInt8 := dkwX1_hardest_6 ++ dktX1_hardest_7
def dkwX1_hardest_5 : List UInt8 := [3, 96, 54, 6, 132, 7, 1, 167, 255, 199, 42, 180, 0, 56, 27, 21, 5, 182, 1, 3, 16, 254]
abbrev dktX1_hardest_5 : List UInt8 := dkwX1_hardest_5 ++ dktX1_hardest_6
def dkwX1_hardest_4 : List UInt8 := [182, 0, 128, 153, 0, 21, 3, 42, 180, 0, 56, 21, 7, 21, 5, 182, 0, 245, 184, 1, 6, 167, 0, 4]
abbrev dktX1_hardest_4 : List UInt8 := dkwX1_hardest_4 ++ dktX1_hardest_5
def dkwX1_hardest_3 : List UInt8 := [180, 0, 56, 180, 0, 71, 185, 0, 77, 1, 0, 162, 0, 46, 21, 6, 42, 180, 0, 56, 21, 7, 27]
abbrev dktX1_hardest_3 : List UInt8 := dkwX1_hardest_3 ++ dktX1_hardest_4
def dkwX1_hardest_2 : List UInt8 := [185, 0, 93, 2, 0, 192, 0, 97, 182, 0, 99, 163, 0, 106, 3, 54, 6, 3, 54, 7, 21, 7, 42]
abbrev dktX1_hardest_2 : List UInt8 := dkwX1_hardest_2 ++ dktX1_hardest_3
def dkwX1_hardest_1 : List UInt8 := [16, 254, 62, 16, 254, 54, 4, 3, 54, 5, 21, 5, 42, 180, 0, 56, 180, 0, 86, 27]
abbrev dktX1_hardest_1 : List UInt8 := dkwX1_hardest_1 ++ dktX1_hardest_2
def dkwX1_hardest_0 : List UInt8 := [42, 27, 182, 0, 89, 153, 0, 12, 28, 3, 4, 184, 0, 36, 154, 0, 9, 42, 4, 182, 0, 40, 172]
abbrev dktX1_hardest_0 : List UInt8 := dkwX1_hardest_0 ++ dktX1_hardest_1
theorem dksX1_hardest_0 : cX1_hardest.data.toList.drop 0 = dktX1_hardest_0 := by decide +kernel
theorem dksX1_hardest_1 : cX1_hardest.data.toList.drop 23 = dktX1_hardest_1 := dk_seg dksX1_hardest_0 23 rfl rfl
theorem dksX1_hardest_2 : cX1_hardest.data.toList.drop 43 = dktX1_hardest_2 := dk_seg dksX1_hardest_1 20 rfl rfl
theorem dksX1_hardest_3 : cX1_hardest.data.toList.drop 66 = dktX1_hardest_3 := dk_seg dksX1_hardest_2 23 rfl rfl
theorem dksX1_hardest_4 : cX1_hardest.data.toList.drop 89 = dktX1_hardest_4 := dk_seg dksX1_hardest_3 23 rfl rfl
theorem dksX1_hardest_5 : cX1_hardest.data.toList.drop 113 = dktX1_hardest_5 := dk_seg dksX1_hardest_4 24 rfl rfl
theorem dksX1_hardest_6 : cX1_hardest.data.toList.drop 135 = dktX1_hardest_6 := dk_seg dksX1_hardest_5 22 rfl rfl
theorem dksX1_hardest_7 : cX1_hardest.data.toList.drop 157 = dktX1_hardest_7 := dk_seg dksX1_hardest_6 22 rfl rfl
theorem dX1_hardest_0 : decode cX1_hardest 0 = .ok (.aload_n 0, 1) := dk_42 (dk_at dksX1_hardest_0 0 rfl rfl)
theorem dX1_hardest_1 : decode cX1_hardest 1 = .ok (.iload_n 1, 1) := dk_27 (dk_at dksX1_hardest_0 1 rfl rfl)
theorem dX1_hardest_2 : decode cX1_hardest 2 = .ok (.invokevirtual 89, 3) := dk_182 0 89 (dk_at dksX1_hardest_0 2 rfl rfl)
theorem dX1_hardest_5 : decode cX1_hardest 5 = .ok (.ifCond .eq 12, 3) := dk_153 0 12 (dk_at dksX1_hardest_0 5 rfl rfl)
theorem dX1_hardest_8 : decode cX1_hardest 8 = .ok (.iload_n 2, 1) := dk_28 (dk_at dksX1_hardest_0 8 rfl rfl)
theorem dX1_hardest_9 : decode cX1_hardest 9 = .ok (.iconst 0, 1) := dk_3 (dk_at dksX1_hardest_0 9 rfl rfl)
theorem dX1_hardest_10 : decode cX1_hardest 10 = .ok (.iconst 1, 1) := dk_4 (dk_at dksX1_hardest_0 10 rfl rfl)
theorem dX1_hardest_11 : decode cX1_hardest 11 = .ok (.invokestatic 36, 3) := dk_184 0 36 (dk_at dksX1_hardest_0 11 rfl rfl)
theorem dX1_hardest_14 : decode cX1_hardest 14 = .ok (.ifCond .ne 9, 3) := dk_154 0 9 (dk_at dksX1_hardest_0 14 rfl rfl)
theorem dX1_hardest_17 : decode cX1_hardest 17 = .ok (.aload_n 0, 1) := dk_42 (dk_at dksX1_hardest_0 17 rfl rfl)
theorem dX1_hardest_18 : decode cX1_hardest 18 = .ok (.iconst 1, 1) := dk_4 (dk_at dksX1_hardest_0 18 rfl rfl)
theorem dX1_hardest_19 : decode cX1_hardest 19 = .ok (.invokevirtual 40, 3) := dk_182 0 40 (dk_at dksX1_hardest_0 19 rfl rfl)
theorem dX1_hardest_22 : decode cX1_hardest 22 = .ok (.ireturn, 1) := dk_172 (dk_at dksX1_hardest_0 22 rfl rfl)
theorem dX1_hardest_23 : decode cX1_hardest 23 = .ok (.bipush (-2), 2) := dk_16 254 (dk_at dksX1_hardest_1 0 rfl rfl)
theorem dX1_hardest_25 : decode cX1_hardest 25 = .ok (.istore_n 3, 1) := dk_62 (dk_at dksX1_hardest_1 2 rfl rfl)
theorem dX1_hardest_26 : decode cX1_hardest 26 = .ok (.bipush (-2), 2) := dk_16 254 (dk_at dksX1_hardest_1 3 rfl rfl)
theorem dX1_hardest_28 : decode cX1_hardest 28 = .ok (.istore 4, 2) := dk_54 4 (dk_at dksX1_hardest_1 5 rfl rfl)
theorem dX1_hardest_30 : decode cX1_hardest 30 = .ok (.iconst 0, 1) := dk_3 (dk_at dksX1_hardest_1 7 rfl rfl)
theorem dX1_hardest_31 : decode cX1_hardest 31 = .ok (.istore 5, 2) := dk_54 5 (dk_at dksX1_hardest_1 8 rfl rfl)
theorem dX1_hardest_33 : decode cX1_hardest 33 = .ok (.iload 5, 2) := dk_21 5 (dk_at dksX1_hardest_1 10 rfl rfl)
theorem dX1_hardest_35 : decode cX1_hardest 35 = .ok (.aload_n 0, 1) := dk_42 (dk_at dksX1_hardest_1 12 rfl rfl)
theorem dX1_hardest_36 : decode cX1_hardest 36 = .ok (.getfield 56, 3) := dk_180 0 56 (dk_at dksX1_hardest_1 13 rfl rfl)
theorem dX1_hardest_39 : decode cX1_hardest 39 = .ok (.getfield 86, 3) := dk_180 0 86 (dk_at dksX1_hardest_1 16 rfl rfl)
theorem dX1_hardest_42 : decode cX1_hardest 42 = .ok (.iload_n 1, 1) := dk_27 (dk_at dksX1_hardest_1 19 rfl rfl)
theorem dX1_hardest_43 : decode cX1_hardest 43 = .ok (.invokeinterface 93 2, 5) := by decide +kernel
theorem dX1_hardest_48 : decode cX1_hardest 48 = .ok (.checkcast 97, 3) := dk_192 0 97 (dk_at dksX1_hardest_2 5 rfl rfl)
theorem dX1_hardest_51 : decode cX1_hardest 51 = .ok (.invokevirtual 99, 3) := dk_182 0 99 (dk_at dksX1_hardest_2 8 rfl rfl)
theorem dX1_hardest_54 : decode cX1_hardest 54 = .ok (.if_icmp .gt 106, 3) := dk_163 0 106 (dk_at dksX1_hardest_2 11 rfl rfl)
theorem dX1_hardest_57 : decode cX1_hardest 57 = .ok (.iconst 0, 1) := dk_3 (dk_at dksX1_hardest_2 14 rfl rfl)
theorem dX1_hardest_58 : decode cX1_hardest 58 = .ok (.istore 6, 2) := dk_54 6 (dk_at dksX1_hardest_2 15 rfl rfl)
theorem dX1_hardest_60 : decode cX1_hardest 60 = .ok (.iconst 0, 1) := dk_3 (dk_at dksX1_hardest_2 17 rfl rfl)
theorem dX1_hardest_61 : decode cX1_hardest 61 = .ok (.istore 7, 2) := dk_54 7 (dk_at dksX1_hardest_2 18 rfl rfl)
theorem dX1_hardest_63 : decode cX1_hardest 63 = .ok (.iload 7, 2) := dk_21 7 (dk_at dksX1_hardest_2 20 rfl rfl)
theorem dX1_hardest_65 : decode cX1_hardest 65 = .ok (.aload_n 0, 1) := dk_42 (dk_at dksX1_hardest_2 22 rfl rfl)
theorem dX1_hardest_66 : decode cX1_hardest 66 = .ok (.getfield 56, 3) := dk_180 0 56 (dk_at dksX1_hardest_3 0 rfl rfl)
theorem dX1_hardest_69 : decode cX1_hardest 69 = .ok (.getfield 71, 3) := dk_180 0 71 (dk_at dksX1_hardest_3 3 rfl rfl)
theorem dX1_hardest_72 : decode cX1_hardest 72 = .ok (.invokeinterface 77 1, 5) := by decide +kernel
theorem dX1_hardest_77 : decode cX1_hardest 77 = .ok (.if_icmp .ge 46, 3) := dk_162 0 46 (dk_at dksX1_hardest_3 11 rfl rfl)
theorem dX1_hardest_80 : decode cX1_hardest 80 = .ok (.iload 6, 2) := dk_21 6 (dk_at dksX1_hardest_3 14 rfl rfl)
theorem dX1_hardest_82 : decode cX1_hardest 82 = .ok (.aload_n 0, 1) := dk_42 (dk_at dksX1_hardest_3 16 rfl rfl)
theorem dX1_hardest_83 : decode cX1_hardest 83 = .ok (.getfield 56, 3) := dk_180 0 56 (dk_at dksX1_hardest_3 17 rfl rfl)
theorem dX1_hardest_86 : decode cX1_hardest 86 = .ok (.iload 7, 2) := dk_21 7 (dk_at dksX1_hardest_3 20 rfl rfl)
theorem dX1_hardest_88 : decode cX1_hardest 88 = .ok (.iload_n 1, 1) := dk_27 (dk_at dksX1_hardest_3 22 rfl rfl)
theorem dX1_hardest_89 : decode cX1_hardest 89 = .ok (.invokevirtual 128, 3) := dk_182 0 128 (dk_at dksX1_hardest_4 0 rfl rfl)
theorem dX1_hardest_92 : decode cX1_hardest 92 = .ok (.ifCond .eq 21, 3) := dk_153 0 21 (dk_at dksX1_hardest_4 3 rfl rfl)
theorem dX1_hardest_95 : decode cX1_hardest 95 = .ok (.iconst 0, 1) := dk_3 (dk_at dksX1_hardest_4 6 rfl rfl)
theorem dX1_hardest_96 : decode cX1_hardest 96 = .ok (.aload_n 0, 1) := dk_42 (dk_at dksX1_hardest_4 7 rfl rfl)
theorem dX1_hardest_97 : decode cX1_hardest 97 = .ok (.getfield 56, 3) := dk_180 0 56 (dk_at dksX1_hardest_4 8 rfl rfl)
theorem dX1_hardest_100 : decode cX1_hardest 100 = .ok (.iload 7, 2) := dk_21 7 (dk_at dksX1_hardest_4 11 rfl rfl)
theorem dX1_hardest_102 : decode cX1_hardest 102 = .ok (.iload 5, 2) := dk_21 5 (dk_at dksX1_hardest_4 13 rfl rfl)
theorem dX1_hardest_104 : decode cX1_hardest 104 = .ok (.invokevirtual 245, 3) := dk_182 0 245 (dk_at dksX1_hardest_4 15 rfl rfl)
theorem dX1_hardest_107 : decode cX1_hardest 107 = .ok (.invokestatic 262, 3) := dk_184 1 6 (dk_at dksX1_hardest_4 18 rfl rfl)
theorem dX1_hardest_110 : decode cX1_hardest 110 = .ok (.goto 4, 3) := dk_167 0 4 (dk_at dksX1_hardest_4 21 rfl rfl)
theorem dX1_hardest_113 : decode cX1_hardest 113 = .ok (.iconst 0, 1) := dk_3 (dk_at dksX1_hardest_5 0 rfl rfl)
theorem dX1_hardest_114 : decode cX1_hardest 114 = .ok (.iadd, 1) := dk_96 (dk_at dksX1_hardest_5 1 rfl rfl)
theorem dX1_hardest_115 : decode cX1_hardest 115 = .ok (.istore 6, 2) := dk_54 6 (dk_at dksX1_hardest_5 2 rfl rfl)
theorem dX1_hardest_117 : decode cX1_hardest 117 = .ok (.iinc 7 1, 3) := dk_132 7 1 (dk_at dksX1_hardest_5 4 rfl rfl)
theorem dX1_hardest_120 : decode cX1_hardest 120 = .ok (.goto (-57), 3) := dk_167 255 199 (dk_at dksX1_hardest_5 7 rfl rfl)
theorem dX1_hardest_123 : decode cX1_hardest 123 = .ok (.aload_n 0, 1) := dk_42 (dk_at dksX1_hardest_5 10 rfl rfl)
theorem dX1_hardest_124 : decode cX1_hardest 124 = .ok (.getfield 56, 3) := dk_180 0 56 (dk_at dksX1_hardest_5 11 rfl rfl)
theorem dX1_hardest_127 : decode cX1_hardest 127 = .ok (.iload_n 1, 1) := dk_27 (dk_at dksX1_hardest_5 14 rfl rfl)
theorem dX1_hardest_128 : decode cX1_hardest 128 = .ok (.iload 5, 2) := dk_21 5 (dk_at dksX1_hardest_5 15 rfl rfl)
theorem dX1_hardest_130 : decode cX1_hardest 130 = .ok (.invokevirtual 259, 3) := dk_182 1 3 (dk_at dksX1_hardest_5 17 rfl rfl)
theorem dX1_hardest_133 : decode cX1_hardest 133 = .ok (.bipush (-2), 2) := dk_16 254 (dk_at dksX1_hardest_5 20 rfl rfl)
theorem dX1_hardest_135 : decode cX1_hardest 135 = .ok (.if_icmp .eq 19, 3) := dk_159 0 19 (dk_at dksX1_hardest_6 0 rfl rfl)
theorem dX1_hardest_138 : decode cX1_hardest 138 = .ok (.iload 6, 2) := dk_21 6 (dk_at dksX1_hardest_6 3 rfl rfl)
theorem dX1_hardest_140 : decode cX1_hardest 140 = .ok (.iload_n 3, 1) := dk_29 (dk_at dksX1_hardest_6 5 rfl rfl)
theorem dX1_hardest_141 : decode cX1_hardest 141 = .ok (.if_icmp .gt 6, 3) := dk_163 0 6 (dk_at dksX1_hardest_6 6 rfl rfl)
theorem dX1_hardest_144 : decode cX1_hardest 144 = .ok (.goto 10, 3) := dk_167 0 10 (dk_at dksX1_hardest_6 9 rfl rfl)
theorem dX1_hardest_147 : decode cX1_hardest 147 = .ok (.iload 6, 2) := dk_21 6 (dk_at dksX1_hardest_6 12 rfl rfl)
theorem dX1_hardest_149 : decode cX1_hardest 149 = .ok (.istore_n 3, 1) := dk_62 (dk_at dksX1_hardest_6 14 rfl rfl)
theorem dX1_hardest_150 : decode cX1_hardest 150 = .ok (.iload 5, 2) := dk_21 5 (dk_at dksX1_hardest_6 15 rfl rfl)
theorem dX1_hardest_152 : decode cX1_hardest 152 = .ok (.istore 4, 2) := dk_54 4 (dk_at dksX1_hardest_6 17 rfl rfl)
theorem dX1_hardest_154 : decode cX1_hardest 154 = .ok (.iinc 5 1, 3) := dk_132 5 1 (dk_at dksX1_hardest_6 19 rfl rfl)
theorem dX1_hardest_157 : decode cX1_hardest 157 = .ok (.goto (-124), 3) := dk_167 255 132 (dk_at dksX1_hardest_7 0 rfl rfl)
theorem dX1_hardest_160 : decode cX1_hardest 160 = .ok (.aload_n 0, 1) := dk_42 (dk_at dksX1_hardest_7 3 rfl rfl)
theorem dX1_hardest_161 : decode cX1_hardest 161 = .ok (.iload_n 2, 1) := dk_28 (dk_at dksX1_hardest_7 4 rfl rfl)
theorem dX1_hardest_162 : decode cX1_hardest 162 = .ok (.ifCond .ne 8, 3) := dk_154 0 8 (dk_at dksX1_hardest_7 5 rfl rfl)
theorem dX1_hardest_165 : decode cX1_hardest 165 = .ok (.iload 4, 2) := dk_21 4 (dk_at dksX1_hardest_7 8 rfl rfl)
theorem dX1_hardest_167 : decode cX1_hardest 167 = .ok (.goto 4, 3) := dk_167 0 4 (dk_at dksX1_hardest_7 10 rfl rfl)
theorem dX1_hardest_170 : decode cX1_hardest 170 = .ok (.iload_n 3, 1) := dk_29 (dk_at dksX1_hardest_7 13 rfl rfl)
theorem dX1_hardest_171 : decode cX1_hardest 171 = .ok (.invokevirtual 83, 3) := dk_182 0 83 (dk_at dksX1_hardest_7 14 rfl rfl)
theorem dX1_hardest_174 : decode cX1_hardest 174 = .ok (.ireturn, 1) := dk_172 (dk_at dksX1_hardest_7 17 rfl rfl)
theorem md_X1_hardest : xMd yX1_hardest cX1_hardest 8 (Option.some Jvm.ClassFile.FieldType.int) 2 := ⟨q2177, q123, by decide, by decide +kernel, by decide +kernel, by decide +kernel⟩
def f_X1_hardest_17 (a0 : Nat)   (p0 : PH) : Option (xO × PH) :=
  (xcI (f_X1_refused p0 a0 1) fun x4 p3 =>
  (rI x4 p3))
def f_X1_hardest_171 (a0 : Nat)  (w1 : Int32) (p0 : PH) : Option (xO × PH) :=
  (xcI (f_X1_fine p0 a0 w1) fun x17 p16 =>
  (rI x17 p16))
def f_X1_hardest_154 (a0 : Nat) (k33 : Int32 × Int32 × Int32 × Int32 × Int32 × PH → Option (xO × PH)) (v1 : Int32) (v2 : Int32) (v3 : Int32) (v4 : Int32) (v5 : Int32) (p0 : PH) : Option (xO × PH) :=
  (bnd (v5 + 1) fun x28 =>
  (k33 (v1, v2, v3, v4, x28, p0)))
def f_X1_hardest_114 (a0 : Nat) (k63 : Int32 × Int32 × Int32 × Int32 × Int32 × Int32 × Int32 × PH → Option (xO × PH)) (v1 : Int32) (v2 : Int32) (v3 : Int32) (v4 : Int32) (v5 : Int32) (v7 : Int32) (w0 : Int32) (w1 : Int32) (p0 : PH) : Option (xO × PH) :=
  (bnd (w0 + w1) fun x33 =>
  (bnd (v7 + 1) fun x34 =>
  (k63 (v1, v2, v3, v4, v5, x33, x34, p0))))
def f_X1_hardest_63F (a0 : Nat) (k33 : Int32 × Int32 × Int32 × Int32 × Int32 × PH → Option (xO × PH)) (k63 : Int32 × Int32 × Int32 × Int32 × Int32 × Int32 × Int32 × PH → Option (xO × PH)) (p : Int32 × Int32 × Int32 × Int32 × Int32 × Int32 × Int32 × PH) : Option (xO × PH) := match p with
  | (v1, v2, v3, v4, v5, v6, v7, p0) => (xgR p0 a0 0 5 fun x18 =>
  (xnul x18 none fun b19 =>
  (xgR p0 b19 3 1 fun x20 =>
  (xnul x20 none fun b21 =>
  (xcI (f_J3_size p0 b21 ) fun x23 p22 =>
  (if x23 ≤ v7 then
  (xgR p22 a0 0 5 fun x24 =>
  (xnul x24 none fun b25 =>
  (xcI (f_X4_fastest p22 b25 v1 v5) fun x27 p26 =>
  (if x27 = (-2) then
  (f_X1_hardest_154 a0 k33 v1 v2 v3 v4 v5 p26) else
  (if v3 < v6 then
  (f_X1_hardest_154 a0 k33 v1 v2 v6 v5 v5 p26) else
  (f_X1_hardest_154 a0 k33 v1 v2 v3 v4 v5 p26)))))) else
  (xgR p22 a0 0 5 fun x29 =>
  (xnul x29 none fun b30 =>
  (xcI (f_X4_isOf p22 b30 v7 v1) fun x32 p31 =>
  (if x32 = 0 then
  (f_X1_hardest_114 a0 k63 v1 v2 v3 v4 v5 v7 v6 0 p31) else
  (xgR p31 a0 0 5 fun x35 =>
  (xnul x35 none fun b36 =>
  (xcI (f_X4_lost p31 b36 v7 v5) fun x38 p37 =>
  (xcI (f_J8_max p37 0 x38) fun x40 p39 =>
  (f_X1_hardest_114 a0 k63 v1 v2 v3 v4 v5 v7 v6 x40 p39)))))))))))))))
def f_X1_hardest_33F (a0 : Nat)  (k33 : Int32 × Int32 × Int32 × Int32 × Int32 × PH → Option (xO × PH)) (p : Int32 × Int32 × Int32 × Int32 × Int32 × PH) : Option (xO × PH) := match p with
  | (v1, v2, v3, v4, v5, p0) => (xgR p0 a0 0 5 fun x7 =>
  (xnul x7 none fun b8 =>
  (xgR p0 b8 3 0 fun x9 =>
  (xnul x9 none fun b10 =>
  (xcR (f_J3_get p0 b10 v1) fun x12 p11 =>
  (xcst p11 (x12) [5]
  (xnul x12 none fun b13 =>
  (xcI (f_X6_size p11 b13 ) fun x15 p14 =>
  (if x15 < v5 then
  (if v2 = 0 then
  (f_X1_hardest_171 a0 v4 p14) else
  (f_X1_hardest_171 a0 v3 p14)) else
  (lp (f_X1_hardest_63F a0 k33) FU (v1, v2, v3, v4, v5, 0, 0, p14)))))))))))
def f_X1_hardest (p0 : PH) (a0 : Nat) (a1 : Int32) (a2 : Int32) : Option (xO × PH) :=
  (xcl1 p0 a0 0 (xcI (f_X1_isCourse p0 a0 a1) fun x2 p1 =>
  (if x2 = 0 then
  (f_X1_hardest_17 a0  p1) else
  (xcI (f_X1_isIn p1 a2 0 1) fun x6 p5 =>
  (if x6 = 0 then
  (f_X1_hardest_17 a0  p5) else
  (lp (f_X1_hardest_33F a0) FU (a1, a2, (-2), (-2), 0, p5)))))))
theorem rc_X1_hardest {p0 : PH} {a0 : Nat} {a1 : Int32} {a2 : Int32} : ∀ z, f_X1_hardest p0 a0 a1 a2 = some z → xco p0 a0 = some 0 := fun z h => xcl1_some h
theorem f_X1_hardest_17_ok {G : xG} (hO : xOK G) (a0 : Nat)   (p0 : PH) : X G "ForestLegs" "hardest" cX1_hardest 8 (Option.some Jvm.ClassFile.FieldType.int) 13 17 [(0, .ref a0)] [] p0 (f_X1_hardest_17 a0  p0) := by
  unfold f_X1_hardest_17
  refine x_aload_nr 0 dX1_hardest_17 rfl rfl (n := 18) rfl ?_
  refine x_iconst 1 dX1_hardest_18 rfl (n := 19) rfl ?_
  refine x_callV_I [.int 1] [] (f_X1_refused_ok hO p0 a0 1) rc_X1_refused md_X1_refused rfl q250 q252 qs0 dX1_hardest_19 rfl rfl (by decide) (Nat.le_of_ble_eq_true rfl) (n := 22) rfl (fun x4 p3 => ?_)
  exact x_ireturn dX1_hardest_22
theorem f_X1_hardest_171_ok {G : xG} (hO : xOK G) (a0 : Nat)  (w1 : Int32) (p0 : PH) : X G "ForestLegs" "hardest" cX1_hardest 8 (Option.some Jvm.ClassFile.FieldType.int) 13 171 [] [.int w1, .ref a0] p0 (f_X1_hardest_171 a0 w1 p0) := by
  unfold f_X1_hardest_171
  refine x_callV_I [.int w1] [] (f_X1_fine_ok hO p0 a0 w1) rc_X1_fine md_X1_fine rfl q1480 q1482 qs26 dX1_hardest_171 rfl rfl (by decide) (Nat.le_of_ble_eq_true rfl) (n := 174) rfl (fun x17 p16 => ?_)
  exact x_ireturn dX1_hardest_174
theorem f_X1_hardest_154_ok {G : xG} (hO : xOK G) (a0 : Nat) {k33 : Int32 × Int32 × Int32 × Int32 × Int32 × PH → Option (xO × PH)} (hk33 : ∀ (v1 : Int32) (v2 : Int32) (v3 : Int32) (v4 : Int32) (v5 : Int32) (p0 : PH), X G "ForestLegs" "hardest" cX1_hardest 8 (Option.some Jvm.ClassFile.FieldType.int) 13 33 [(0, .ref a0), (1, .int v1), (2, .int v2), (3, .int v3), (4, .int v4), (5, .int v5)] [] p0 (k33 (v1, v2, v3, v4, v5, p0))) (v1 : Int32) (v2 : Int32) (v3 : Int32) (v4 : Int32) (v5 : Int32) (p0 : PH) : X G "ForestLegs" "hardest" cX1_hardest 8 (Option.some Jvm.ClassFile.FieldType.int) 13 154 [(0, .ref a0), (1, .int v1), (2, .int v2), (3, .int v3), (4, .int v4), (5, .int v5)] [] p0 (f_X1_hardest_154 a0 k33 v1 v2 v3 v4 v5 p0) := by
  unfold f_X1_hardest_154
  refine x_iincB 5 (fun x28 => [(5, .int x28), (0, .ref a0), (1, .int v1), (2, .int v2), (3, .int v3), (4, .int v4)]) dX1_hardest_154 rfl rfl (by decide) (fun _ => rfl) (n := 157) rfl (fun x28 => ?_)
  refine x_goto dX1_hardest_157 (n := 33) (by decide) ?_
  refine x_sub [1, 2, 3, 4, 5, 0] [(0, .ref a0), (1, .int v1), (2, .int v2), (3, .int v3), (4, .int v4), (5, .int x28)] rfl ?_
  exact hk33 v1 v2 v3 v4 x28 p0
theorem f_X1_hardest_114_ok {G : xG} (hO : xOK G) (a0 : Nat) {k63 : Int32 × Int32 × Int32 × Int32 × Int32 × Int32 × Int32 × PH → Option (xO × PH)} (hk63 : ∀ (v1 : Int32) (v2 : Int32) (v3 : Int32) (v4 : Int32) (v5 : Int32) (v6 : Int32) (v7 : Int32) (p0 : PH), X G "ForestLegs" "hardest" cX1_hardest 8 (Option.some Jvm.ClassFile.FieldType.int) 13 63 [(0, .ref a0), (1, .int v1), (2, .int v2), (3, .int v3), (4, .int v4), (5, .int v5), (6, .int v6), (7, .int v7)] [] p0 (k63 (v1, v2, v3, v4, v5, v6, v7, p0))) (v1 : Int32) (v2 : Int32) (v3 : Int32) (v4 : Int32) (v5 : Int32) (v7 : Int32) (w0 : Int32) (w1 : Int32) (p0 : PH) : X G "ForestLegs" "hardest" cX1_hardest 8 (Option.some Jvm.ClassFile.FieldType.int) 13 114 [(0, .ref a0), (1, .int v1), (2, .int v2), (3, .int v3), (4, .int v4), (5, .int v5), (7, .int v7)] [.int w1, .int w0] p0 (f_X1_hardest_114 a0 k63 v1 v2 v3 v4 v5 v7 w0 w1 p0) := by
  unfold f_X1_hardest_114
  refine x_iadd dX1_hardest_114 (n := 115) rfl ?_
  refine x_nm (fun x33 => ?_)
  refine x_istore [(6, .int x33), (0, .ref a0), (1, .int v1), (2, .int v2), (3, .int v3), (4, .int v4), (5, .int v5), (7, .int v7)] dX1_hardest_115 (by decide) rfl (n := 117) rfl ?_
  refine x_iincB 7 (fun x34 => [(7, .int x34), (6, .int x33), (0, .ref a0), (1, .int v1), (2, .int v2), (3, .int v3), (4, .int v4), (5, .int v5)]) dX1_hardest_117 rfl rfl (by decide) (fun _ => rfl) (n := 120) rfl (fun x34 => ?_)
  refine x_goto dX1_hardest_120 (n := 63) (by decide) ?_
  refine x_sub [2, 3, 4, 5, 6, 7, 1, 0] [(0, .ref a0), (1, .int v1), (2, .int v2), (3, .int v3), (4, .int v4), (5, .int v5), (6, .int x33), (7, .int x34)] rfl ?_
  exact hk63 v1 v2 v3 v4 v5 x33 x34 p0
theorem f_X1_hardest_63F_ok {G : xG} (hO : xOK G) (a0 : Nat) {k33 : Int32 × Int32 × Int32 × Int32 × Int32 × PH → Option (xO × PH)} (hk33 : ∀ (v1 : Int32) (v2 : Int32) (v3 : Int32) (v4 : Int32) (v5 : Int32) (p0 : PH), X G "ForestLegs" "hardest" cX1_hardest 8 (Option.some Jvm.ClassFile.FieldType.int) 13 33 [(0, .ref a0), (1, .int v1), (2, .int v2), (3, .int v3), (4, .int v4), (5, .int v5)] [] p0 (k33 (v1, v2, v3, v4, v5, p0))) {k63 : Int32 × Int32 × Int32 × Int32 × Int32 × Int32 × Int32 × PH → Option (xO × PH)} (hk63 : ∀ (v1 : Int32) (v2 : Int32) (v3 : Int32) (v4 : Int32) (v5 : Int32) (v6 : Int32) (v7 : Int32) (p0 : PH), X G "ForestLegs" "hardest" cX1_hardest 8 (Option.some Jvm.ClassFile.FieldType.int) 13 63 [(0, .ref a0), (1, .int v1), (2, .int v2), (3, .int v3), (4, .int v4), (5, .int v5), (6, .int v6), (7, .int v7)] [] p0 (k63 (v1, v2, v3, v4, v5, v6, v7, p0))) (v1 : Int32) (v2 : Int32) (v3 : Int32) (v4 : Int32) (v5 : Int32) (v6 : Int32) (v7 : Int32) (p0 : PH) : X G "ForestLegs" "hardest" cX1_hardest 8 (Option.some Jvm.ClassFile.FieldType.int) 13 63 [(0, .ref a0), (1, .int v1), (2, .int v2), (3, .int v3), (4, .int v4), (5, .int v5), (6, .int v6), (7, .int v7)] [] p0 (f_X1_hardest_63F a0 k33 k63 (v1, v2, v3, v4, v5, v6, v7, p0)) := by
  unfold f_X1_hardest_63F
  refine x_iload 7 dX1_hardest_63 rfl (n := 65) rfl ?_
  refine x_aload_nr 0 dX1_hardest_65 rfl rfl (n := 66) rfl ?_
  refine x_getR fl_X1_56 dX1_hardest_66 (n := 69) rfl (fun x18 => ?_)
  refine x_sm (fun b19 e => ?_)
  subst e
  refine x_getR fl_X1_71 dX1_hardest_69 (n := 72) rfl (fun x20 => ?_)
  refine x_sm (fun b21 e => ?_)
  subst e
  refine x_callF_I [] [.int v7] (f_J3_size_ok hO p0 b21 ) rc_J3_size md_J3_size rfl q1479 fc_java_util_ArrayList_java_util_List_size_0_I dX1_hardest_72 rfl rfl (by decide) (Nat.le_of_ble_eq_true rfl) (n := 77) rfl (fun x23 p22 => ?_)
  refine x_icmp_ge dX1_hardest_77 (t := 123) (by decide) (n := 80) rfl (fun _ => ?_) (fun _ => ?_)
  · refine x_aload_nr 0 dX1_hardest_123 rfl rfl (n := 124) rfl ?_
    refine x_getR fl_X1_56 dX1_hardest_124 (n := 127) rfl (fun x24 => ?_)
    refine x_iload_n 1 dX1_hardest_127 rfl rfl (n := 128) rfl ?_
    refine x_iload 5 dX1_hardest_128 rfl (n := 130) rfl ?_
    refine x_sm (fun b25 e => ?_)
    subst e
    refine x_callV_I [.int v1, .int v5] [] (f_X4_fastest_ok hO p22 b25 v1 v5) rc_X4_fastest md_X4_fastest rfl q2121 q1732 q1733 dX1_hardest_130 rfl rfl (by decide) (Nat.le_of_ble_eq_true rfl) (n := 133) rfl (fun x27 p26 => ?_)
    refine x_bipush (-2) dX1_hardest_133 rfl (n := 135) rfl ?_
    refine x_icmp_eq dX1_hardest_135 (t := 154) (by decide) (n := 138) rfl (fun _ => ?_) (fun _ => ?_)
    · refine x_sub [0, 1, 2, 3, 4, 5] [(0, .ref a0), (1, .int v1), (2, .int v2), (3, .int v3), (4, .int v4), (5, .int v5)] rfl ?_
      exact f_X1_hardest_154_ok hO a0 hk33 v1 v2 v3 v4 v5 p26
    · refine x_iload 6 dX1_hardest_138 rfl (n := 140) rfl ?_
      refine x_iload_n 3 dX1_hardest_140 rfl rfl (n := 141) rfl ?_
      refine x_icmp_gt dX1_hardest_141 (t := 147) (by decide) (n := 144) rfl (fun _ => ?_) (fun _ => ?_)
      · refine x_iload 6 dX1_hardest_147 rfl (n := 149) rfl ?_
        refine x_istore_n [(3, .int v6), (0, .ref a0), (1, .int v1), (2, .int v2), (4, .int v4), (5, .int v5), (6, .int v6), (7, .int v7)] dX1_hardest_149 rfl (by decide) rfl (n := 150) rfl ?_
        refine x_iload 5 dX1_hardest_150 rfl (n := 152) rfl ?_
        refine x_istore [(4, .int v5), (3, .int v6), (0, .ref a0), (1, .int v1), (2, .int v2), (5, .int v5), (6, .int v6), (7, .int v7)] dX1_hardest_152 (by decide) rfl (n := 154) rfl ?_
        refine x_sub [2, 3, 4, 1, 0, 5] [(0, .ref a0), (1, .int v1), (2, .int v2), (3, .int v6), (4, .int v5), (5, .int v5)] rfl ?_
        exact f_X1_hardest_154_ok hO a0 hk33 v1 v2 v6 v5 v5 p26
      · refine x_goto dX1_hardest_144 (n := 154) (by decide) ?_
        refine x_sub [0, 1, 2, 3, 4, 5] [(0, .ref a0), (1, .int v1), (2, .int v2), (3, .int v3), (4, .int v4), (5, .int v5)] rfl ?_
        exact f_X1_hardest_154_ok hO a0 hk33 v1 v2 v3 v4 v5 p26
  · refine x_iload 6 dX1_hardest_80 rfl (n := 82) rfl ?_
    refine x_aload_nr 0 dX1_hardest_82 rfl rfl (n := 83) rfl ?_
    refine x_getR fl_X1_56 dX1_hardest_83 (n := 86) rfl (fun x29 => ?_)
    refine x_iload 7 dX1_hardest_86 rfl (n := 88) rfl ?_
    refine x_iload_n 1 dX1_hardest_88 rfl rfl (n := 89) rfl ?_
    refine x_sm (fun b30 e => ?_)
    subst e
    refine x_callV_I [.int v7, .int v1] [.int v6] (f_X4_isOf_ok hO p22 b30 v7 v1) rc_X4_isOf md_X4_isOf rfl q1570 q1571 q1572 dX1_hardest_89 rfl rfl (by decide) (Nat.le_of_ble_eq_true rfl) (n := 92) rfl (fun x32 p31 => ?_)
    refine x_if_eq dX1_hardest_92 (t := 113) (by decide) (n := 95) rfl (fun _ => ?_) (fun _ => ?_)
    · refine x_iconst 0 dX1_hardest_113 rfl (n := 114) rfl ?_
      refine x_sub [0, 1, 2, 3, 4, 5, 7] [(0, .ref a0), (1, .int v1), (2, .int v2), (3, .int v3), (4, .int v4), (5, .int v5), (7, .int v7)] rfl ?_
      exact f_X1_hardest_114_ok hO a0 hk63 v1 v2 v3 v4 v5 v7 v6 0 p31
    · refine x_iconst 0 dX1_hardest_95 rfl (n := 96) rfl ?_
      refine x_aload_nr 0 dX1_hardest_96 rfl rfl (n := 97) rfl ?_
      refine x_getR fl_X1_56 dX1_hardest_97 (n := 100) rfl (fun x35 => ?_)
      refine x_iload 7 dX1_hardest_100 rfl (n := 102) rfl ?_
      refine x_iload 5 dX1_hardest_102 rfl (n := 104) rfl ?_
      refine x_sm (fun b36 e => ?_)
      subst e
      refine x_callV_I [.int v7, .int v5] [.int 0, .int v6] (f_X4_lost_ok hO p31 b36 v7 v5) rc_X4_lost md_X4_lost rfl q2002 q2003 q2004 dX1_hardest_104 rfl rfl (by decide) (Nat.le_of_ble_eq_true rfl) (n := 107) rfl (fun x38 p37 => ?_)
      refine x_callS_I [.int 0, .int x38] [.int v6] (f_J8_max_ok hO p37 0 x38) md_J8_max q2138 q434 dX1_hardest_107 rfl rfl (by decide) (Nat.le_of_ble_eq_true rfl) (n := 110) rfl (fun x40 p39 => ?_)
      refine x_goto dX1_hardest_110 (n := 114) (by decide) ?_
      refine x_sub [0, 1, 2, 3, 4, 5, 7] [(0, .ref a0), (1, .int v1), (2, .int v2), (3, .int v3), (4, .int v4), (5, .int v5), (7, .int v7)] rfl ?_
      exact f_X1_hardest_114_ok hO a0 hk63 v1 v2 v3 v4 v5 v7 v6 x40 p39
theorem f_X1_hardest_63_lp {G : xG} (hO : xOK G) (a0 : Nat) {k33 : Int32 × Int32 × Int32 × Int32 × Int32 × PH → Option (xO × PH)} (hk33 : ∀ (v1 : Int32) (v2 : Int32) (v3 : Int32) (v4 : Int32) (v5 : Int32) (p0 : PH), X G "ForestLegs" "hardest" cX1_hardest 8 (Option.some Jvm.ClassFile.FieldType.int) 13 33 [(0, .ref a0), (1, .int v1), (2, .int v2), (3, .int v3), (4, .int v4), (5, .int v5)] [] p0 (k33 (v1, v2, v3, v4, v5, p0))) (n : Nat) (v1 : Int32) (v2 : Int32) (v3 : Int32) (v4 : Int32) (v5 : Int32) (v6 : Int32) (v7 : Int32) (p0 : PH) : X G "ForestLegs" "hardest" cX1_hardest 8 (Option.some Jvm.ClassFile.FieldType.int) 13 63 [(0, .ref a0), (1, .int v1), (2, .int v2), (3, .int v3), (4, .int v4), (5, .int v5), (6, .int v6), (7, .int v7)] [] p0 (lp (f_X1_hardest_63F a0 k33) n (v1, v2, v3, v4, v5, v6, v7, p0)) :=
  lp_ok (W := fun p K => X G "ForestLegs" "hardest" cX1_hardest 8 (Option.some Jvm.ClassFile.FieldType.int) 13 63 [(0, .ref a0), (1, .int p.1), (2, .int p.2.1), (3, .int p.2.2.1), (4, .int p.2.2.2.1), (5, .int p.2.2.2.2.1), (6, .int p.2.2.2.2.2.1), (7, .int p.2.2.2.2.2.2.1)] [] p.2.2.2.2.2.2.2 K) (fun _ => x_no) (fun k hk => fun (v1, v2, v3, v4, v5, v6, v7, p0) => f_X1_hardest_63F_ok hO a0 hk33 (fun v1 v2 v3 v4 v5 v6 v7 p0 => hk (v1, v2, v3, v4, v5, v6, v7, p0)) v1 v2 v3 v4 v5 v6 v7 p0) n (v1, v2, v3, v4, v5, v6, v7, p0)
theorem f_X1_hardest_33F_ok {G : xG} (hO : xOK G) (a0 : Nat)  {k33 : Int32 × Int32 × Int32 × Int32 × Int32 × PH → Option (xO × PH)} (hk33 : ∀ (v1 : Int32) (v2 : Int32) (v3 : Int32) (v4 : Int32) (v5 : Int32) (p0 : PH), X G "ForestLegs" "hardest" cX1_hardest 8 (Option.some Jvm.ClassFile.FieldType.int) 13 33 [(0, .ref a0), (1, .int v1), (2, .int v2), (3, .int v3), (4, .int v4), (5, .int v5)] [] p0 (k33 (v1, v2, v3, v4, v5, p0))) (v1 : Int32) (v2 : Int32) (v3 : Int32) (v4 : Int32) (v5 : Int32) (p0 : PH) : X G "ForestLegs" "hardest" cX1_hardest 8 (Option.some Jvm.ClassFile.FieldType.int) 13 33 [(0, .ref a0), (1, .int v1), (2, .int v2), (3, .int v3), (4, .int v4), (5, .int v5)] [] p0 (f_X1_hardest_33F a0 k33 (v1, v2, v3, v4, v5, p0)) := by
  unfold f_X1_hardest_33F
  refine x_iload 5 dX1_hardest_33 rfl (n := 35) rfl ?_
  refine x_aload_nr 0 dX1_hardest_35 rfl rfl (n := 36) rfl ?_
  refine x_getR fl_X1_56 dX1_hardest_36 (n := 39) rfl (fun x7 => ?_)
  refine x_sm (fun b8 e => ?_)
  subst e
  refine x_getR fl_X1_86 dX1_hardest_39 (n := 42) rfl (fun x9 => ?_)
  refine x_iload_n 1 dX1_hardest_42 rfl rfl (n := 43) rfl ?_
  refine x_sm (fun b10 e => ?_)
  subst e
  refine x_callF_R [.int v1] [.int v5] (f_J3_get_ok hO p0 b10 v1) rc_J3_get md_J3_get rfl q1497 fc_java_util_ArrayList_java_util_List_get_1_ILjava dX1_hardest_43 rfl rfl (by decide) (Nat.le_of_ble_eq_true rfl) (n := 48) rfl (fun x12 p11 => ?_)
  refine x_cast (x := x12) (cs := [5]) q1574 cst_ForestLegs_Course dX1_hardest_48 (n := 51) rfl ?_
  refine x_sm (fun b13 e => ?_)
  subst e
  refine x_callV_I [] [.int v5] (f_X6_size_ok hO p11 b13 ) rc_X6_size md_X6_size rfl q1575 q1199 q1200 dX1_hardest_51 rfl rfl (by decide) (Nat.le_of_ble_eq_true rfl) (n := 54) rfl (fun x15 p14 => ?_)
  refine x_icmp_gt dX1_hardest_54 (t := 160) (by decide) (n := 57) rfl (fun _ => ?_) (fun _ => ?_)
  · refine x_aload_nr 0 dX1_hardest_160 rfl rfl (n := 161) rfl ?_
    refine x_iload_n 2 dX1_hardest_161 rfl rfl (n := 162) rfl ?_
    refine x_if_ne dX1_hardest_162 (t := 170) (by decide) (n := 165) rfl (fun _ => ?_) (fun _ => ?_)
    · refine x_iload_n 3 dX1_hardest_170 rfl rfl (n := 171) rfl ?_
      refine x_sub [] [] rfl ?_
      exact f_X1_hardest_171_ok hO a0 v3 p14
    · refine x_iload 4 dX1_hardest_165 rfl (n := 167) rfl ?_
      refine x_goto dX1_hardest_167 (n := 171) (by decide) ?_
      refine x_sub [] [] rfl ?_
      exact f_X1_hardest_171_ok hO a0 v4 p14
  · refine x_iconst 0 dX1_hardest_57 rfl (n := 58) rfl ?_
    refine x_istore [(6, .int 0), (0, .ref a0), (1, .int v1), (2, .int v2), (3, .int v3), (4, .int v4), (5, .int v5)] dX1_hardest_58 (by decide) rfl (n := 60) rfl ?_
    refine x_iconst 0 dX1_hardest_60 rfl (n := 61) rfl ?_
    refine x_istore [(7, .int 0), (6, .int 0), (0, .ref a0), (1, .int v1), (2, .int v2), (3, .int v3), (4, .int v4), (5, .int v5)] dX1_hardest_61 (by decide) rfl (n := 63) rfl ?_
    refine x_sub [2, 3, 4, 5, 6, 7, 1, 0] [(0, .ref a0), (1, .int v1), (2, .int v2), (3, .int v3), (4, .int v4), (5, .int v5), (6, .int 0), (7, .int 0)] rfl ?_
    exact f_X1_hardest_63_lp hO a0 hk33 FU v1 v2 v3 v4 v5 0 0 p14
theorem f_X1_hardest_33_lp {G : xG} (hO : xOK G) (a0 : Nat)  (n : Nat) (v1 : Int32) (v2 : Int32) (v3 : Int32) (v4 : Int32) (v5 : Int32) (p0 : PH) : X G "ForestLegs" "hardest" cX1_hardest 8 (Option.some Jvm.ClassFile.FieldType.int) 13 33 [(0, .ref a0), (1, .int v1), (2, .int v2), (3, .int v3), (4, .int v4), (5, .int v5)] [] p0 (lp (f_X1_hardest_33F a0) n (v1, v2, v3, v4, v5, p0)) :=
  lp_ok (W := fun p K => X G "ForestLegs" "hardest" cX1_hardest 8 (Option.some Jvm.ClassFile.FieldType.int) 13 33 [(0, .ref a0), (1, .int p.1), (2, .int p.2.1), (3, .int p.2.2.1), (4, .int p.2.2.2.1), (5, .int p.2.2.2.2.1)] [] p.2.2.2.2.2 K) (fun _ => x_no) (fun k hk => fun (v1, v2, v3, v4, v5, p0) => f_X1_hardest_33F_ok hO a0 (fun v1 v2 v3 v4 v5 p0 => hk (v1, v2, v3, v4, v5, p0)) v1 v2 v3 v4 v5 p0) n (v1, v2, v3, v4, v5, p0)
theorem f_X1_hardest_ok {G : xG} (hO : xOK G) (p0 : PH) (a0 : Nat) (a1 : Int32) (a2 : Int32) : CT G 13 yX1_hardest cX1_hardest 8 (Option.some Jvm.ClassFile.FieldType.int) [.ref a0, .int a1, .int a2] p0 (f_X1_hardest p0 a0 a1 a2) := by
  refine CT_of hO (by decide +kernel) (by decide +kernel) (Nat.le_of_ble_eq_true rfl) ?_
  show X G "ForestLegs" "hardest" cX1_hardest 8 (Option.some Jvm.ClassFile.FieldType.int) 13 0 [(0, .ref a0), (1, .int a1), (2, .int a2)] [] p0 (f_X1_hardest p0 a0 a1 a2)
  refine x_cl1 (fun e0 => ?_)
  refine x_aload_nr 0 dX1_hardest_0 rfl rfl (n := 1) rfl ?_
  refine x_iload_n 1 dX1_hardest_1 rfl rfl (n := 2) rfl ?_
  refine x_callV_I [.int a1] [] (f_X1_isCourse_ok hO p0 a0 a1) rc_X1_isCourse md_X1_isCourse rfl q1566 q1568 qs29 dX1_hardest_2 rfl rfl (by decide) (Nat.le_of_ble_eq_true rfl) (n := 5) rfl (fun x2 p1 => ?_)
  refine x_if_eq dX1_hardest_5 (t := 17) (by decide) (n := 8) rfl (fun _ => ?_) (fun _ => ?_)
  · refine x_sub [0] [(0, .ref a0)] rfl ?_
    exact f_X1_hardest_17_ok hO a0  p1
  · refine x_iload_n 2 dX1_hardest_8 rfl rfl (n := 9) rfl ?_
    refine x_iconst 0 dX1_hardest_9 rfl (n := 10) rfl ?_
    refine x_iconst 1 dX1_hardest_10 rfl (n := 11) rfl ?_
    refine x_callS_I [.int a2, .int 0, .int 1] [] (f_X1_isIn_ok hO p1 a2 0 1) md_X1_isIn q247 q248 dX1_hardest_11 rfl rfl (by decide) (Nat.le_of_ble_eq_true rfl) (n := 14) rfl (fun x6 p5 => ?_)
    refine x_if_ne dX1_hardest_14 (t := 23) (by decide) (n := 17) rfl (fun _ => ?_) (fun _ => ?_)
    · refine x_bipush (-2) dX1_hardest_23 rfl (n := 25) rfl ?_
      refine x_istore_n [(3, .int (-2)), (0, .ref a0), (1, .int a1), (2, .int a2)] dX1_hardest_25 rfl (by decide) rfl (n := 26) rfl ?_
      refine x_bipush (-2) dX1_hardest_26 rfl (n := 28) rfl ?_
      refine x_istore [(4, .int (-2)), (3, .int (-2)), (0, .ref a0), (1, .int a1), (2, .int a2)] dX1_hardest_28 (by decide) rfl (n := 30) rfl ?_
      refine x_iconst 0 dX1_hardest_30 rfl (n := 31) rfl ?_
      refine x_istore [(5, .int 0), (4, .int (-2)), (3, .int (-2)), (0, .ref a0), (1, .int a1), (2, .int a2)] dX1_hardest_31 (by decide) rfl (n := 33) rfl ?_
      refine x_sub [3, 4, 5, 2, 1, 0] [(0, .ref a0), (1, .int a1), (2, .int a2), (3, .int (-2)), (4, .int (-2)), (5, .int 0)] rfl ?_
      exact f_X1_hardest_33_lp hO a0 FU a1 a2 (-2) (-2) 0 p5
    · refine x_sub [0] [(0, .ref a0)] rfl ?_
      exact f_X1_hardest_17_ok hO a0  p5
abbrev cJ5_init_2 : ByteArray := prog_77_method_2_code
def yJ5_init_2 : MethodName := ⟨RJ5, "<init>", "(Ljava/util/Comparator;)V"⟩
def dkwJ5_init_2_0 : List UInt8 := [42, 183, 0, 1, 42, 3, 181, 0, 7, 42, 3, 181, 0, 13, 42, 43, 181, 0, 16, 177]
abbrev dktJ5_init_2_0 : List UInt8 := dkwJ5_init_2_0 ++ []
theorem dksJ5_init_2_0 : cJ5_init_2.data.toList.drop 0 = dktJ5_init_2_0 := by decide +kernel
theorem dJ5_init_2_0 : decode cJ5_init_2 0 = .ok (.aload_n 0, 1) := dk_42 (dk_at dksJ5_init_2_0 0 rfl rfl)
theorem dJ5_init_2_1 : decode cJ5_init_2 1 = .ok (.invokespecial 1, 3) := dk_183 0 1 (dk_at dksJ5_init_2_0 1 rfl rfl)
theorem dJ5_init_2_4 : decode cJ5_init_2 4 = .ok (.aload_n 0, 1) := dk_42 (dk_at dksJ5_init_2_0 4 rfl rfl)
theorem dJ5_init_2_5 : decode cJ5_init_2 5 = .ok (.iconst 0, 1) := dk_3 (dk_at dksJ5_init_2_0 5 rfl rfl)
theorem dJ5_init_2_6 : decode cJ5_init_2 6 = .ok (.putfield 7, 3) := dk_181 0 7 (dk_at dksJ5_init_2_0 6 rfl rfl)
theorem dJ5_init_2_9 : decode cJ5_init_2 9 = .ok (.aload_n 0, 1) := dk_42 (dk_at dksJ5_init_2_0 9 rfl rfl)
theorem dJ5_init_2_10 : decode cJ5_init_2 10 = .ok (.iconst 0, 1) := dk_3 (dk_at dksJ5_init_2_0 10 rfl rfl)
theorem dJ5_init_2_11 : decode cJ5_init_2 11 = .ok (.putfield 13, 3) := dk_181 0 13 (dk_at dksJ5_init_2_0 11 rfl rfl)
theorem dJ5_init_2_14 : decode cJ5_init_2 14 = .ok (.aload_n 0, 1) := dk_42 (dk_at dksJ5_init_2_0 14 rfl rfl)
theorem dJ5_init_2_15 : decode cJ5_init_2 15 = .ok (.aload_n 1, 1) := dk_43 (dk_at dksJ5_init_2_0 15 rfl rfl)
theorem dJ5_init_2_16 : decode cJ5_init_2 16 = .ok (.putfield 16, 3) := dk_181 0 16 (dk_at dksJ5_init_2_0 16 rfl rfl)
theorem dJ5_init_2_19 : decode cJ5_init_2 19 = .ok (.return_, 1) := dk_177 (dk_at dksJ5_init_2_0 19 rfl rfl)
theorem md_J5_init_2 : xMd yJ5_init_2 cJ5_init_2 2 (Option.none : Option Jvm.ClassFile.FieldType) 1 := ⟨q2196, q132, by decide, by decide +kernel, by decide +kernel, by decide +kernel⟩
def f_J5_init_2 (p0 : PH) (a0 : Nat) (a1 : Option Nat) : Option (xO × PH) :=
  (xcV (f_J4_init p0 a0 ) fun p1 =>
  (xpF p1 a0 15 4 (.int 0) fun p2 =>
  (xpF p2 a0 15 5 (.int 0) fun p3 =>
  (xpF p3 a0 15 2 (va_rf a1) fun p4 =>
  (rV p4)))))
theorem f_J5_init_2_ok {G : xG} (hO : xOK G) (p0 : PH) (a0 : Nat) (a1 : Option Nat) : CT G 2 yJ5_init_2 cJ5_init_2 2 (Option.none : Option Jvm.ClassFile.FieldType) [.ref a0, va_rf a1] p0 (f_J5_init_2 p0 a0 a1) := by
  refine CT_of hO (by decide +kernel) (by decide +kernel) (lg_slen _ (by simp only [List.map, xcat]; exact Nat.le_of_ble_eq_true rfl)) ?_
  rw [show lv_args 0 [.ref a0, va_rf a1] = [(0, .ref a0), (1, va_rf a1)] from by simp only [lv_args, xcat] <;> rfl]
  show X G "java/util/TreeMap" "<init>" cJ5_init_2 2 (Option.none : Option Jvm.ClassFile.FieldType) 2 0 [(0, .ref a0), (1, va_rf a1)] [] p0 (f_J5_init_2 p0 a0 a1)
  refine x_aload_nr 0 dJ5_init_2_0 rfl rfl (n := 1) rfl ?_
  refine x_callI_V [] [] (f_J4_init_ok hO p0 a0 ) md_J4_init rfl q323 q324 dJ5_init_2_1 rfl rfl (by decide) (Nat.le_of_ble_eq_true rfl) (n := 4) rfl (fun p1 => ?_)
  refine x_aload_nr 0 dJ5_init_2_4 rfl rfl (n := 5) rfl ?_
  refine x_iconst 0 dJ5_init_2_5 rfl (n := 6) rfl ?_
  refine x_pF (pl_J5_7 _ _ ⟨rfl, rfl⟩) dJ5_init_2_6 (n := 9) rfl (fun p2 => ?_)
  refine x_aload_nr 0 dJ5_init_2_9 rfl rfl (n := 10) rfl ?_
  refine x_iconst 0 dJ5_init_2_10 rfl (n := 11) rfl ?_
  refine x_pF (pl_J5_13 _ _ ⟨rfl, rfl⟩) dJ5_init_2_11 (n := 14) rfl (fun p3 => ?_)
  refine x_aload_nr 0 dJ5_init_2_14 rfl rfl (n := 15) rfl ?_
  refine x_aload_n 1 dJ5_init_2_15 rfl rfl (n := 16) rfl ?_
  refine x_pF (pl_J5_16 _ (xfit_o (a1))) dJ5_init_2_16 (n := 19) rfl (fun p4 => ?_)
  exact x_return dJ5_init_2_19
abbrev cJ33_init : ByteArray := prog_44_method_1_code
def yJ33_init : MethodName := ⟨RJ33, "<init>", "()V"⟩
theorem dJ33_init_0 : decode cJ33_init 0 = .ok (.aload_n 0, 1) := by decide +kernel
theorem dJ33_init_1 : decode cJ33_init 1 = .ok (.invokespecial 1, 3) := by decide +kernel
theorem dJ33_init_4 : decode cJ33_init 4 = .ok (.return_, 1) := by decide +kernel
theorem md_J33_init : xMd yJ33_init cJ33_init 1 (Option.none : Option Jvm.ClassFile.FieldType) 0 := ⟨q2202, q172, by decide, by decide +kernel, by decide +kernel, by decide +kernel⟩
def f_J33_init (p0 : PH) (a0 : Nat) : Option (xO × PH) :=
  (xcV (f_J0_init p0 a0 ) fun p1 =>
  (rV p1))
theorem f_J33_init_ok {G : xG} (hO : xOK G) (p0 : PH) (a0 : Nat) : CT G 2 yJ33_init cJ33_init 1 (Option.none : Option Jvm.ClassFile.FieldType) [.ref a0] p0 (f_J33_init p0 a0) := by
  refine CT_of hO (by decide +kernel) (by decide +kernel) (Nat.le_of_ble_eq_true rfl) ?_
  show X G "java/util/AbstractSet" "<init>" cJ33_init 1 (Option.none : Option Jvm.ClassFile.FieldType) 2 0 [(0, .ref a0)] [] p0 (f_J33_init p0 a0)
  refine x_aload_nr 0 dJ33_init_0 rfl rfl (n := 1) rfl ?_
  refine x_callI_V [] [] (f_J0_init_ok hO p0 a0 ) md_J0_init rfl q2203 q194 dJ33_init_1 rfl rfl (by decide) (Nat.le_of_ble_eq_true rfl) (n := 4) rfl (fun p1 => ?_)
  exact x_return dJ33_init_4
abbrev cJ34_init_2 : ByteArray := prog_83_method_1_code
def yJ34_init_2 : MethodName := ⟨RJ34, "<init>", "(Ljava/util/NavigableMap;)V"⟩
def dkwJ34_init_2_0 : List UInt8 := [42, 183, 0, 1, 42, 43, 181, 0, 7, 177]
abbrev dktJ34_init_2_0 : List UInt8 := dkwJ34_init_2_0 ++ []
theorem dksJ34_init_2_0 : cJ34_init_2.data.toList.drop 0 = dktJ34_init_2_0 := by decide +kernel
theorem dJ34_init_2_0 : decode cJ34_init_2 0 = .ok (.aload_n 0, 1) := dk_42 (dk_at dksJ34_init_2_0 0 rfl rfl)
theorem dJ34_init_2_1 : decode cJ34_init_2 1 = .ok (.invokespecial 1, 3) := dk_183 0 1 (dk_at dksJ34_init_2_0 1 rfl rfl)
theorem dJ34_init_2_4 : decode cJ34_init_2 4 = .ok (.aload_n 0, 1) := dk_42 (dk_at dksJ34_init_2_0 4 rfl rfl)
theorem dJ34_init_2_5 : decode cJ34_init_2 5 = .ok (.aload_n 1, 1) := dk_43 (dk_at dksJ34_init_2_0 5 rfl rfl)
theorem dJ34_init_2_6 : decode cJ34_init_2 6 = .ok (.putfield 7, 3) := dk_181 0 7 (dk_at dksJ34_init_2_0 6 rfl rfl)
theorem dJ34_init_2_9 : decode cJ34_init_2 9 = .ok (.return_, 1) := dk_177 (dk_at dksJ34_init_2_0 9 rfl rfl)
theorem md_J34_init_2 : xMd yJ34_init_2 cJ34_init_2 2 (Option.none : Option Jvm.ClassFile.FieldType) 1 := ⟨q2199, q173, by decide, by decide +kernel, by decide +kernel, by decide +kernel⟩
def f_J34_init_2 (p0 : PH) (a0 : Nat) (a1 : Option Nat) : Option (xO × PH) :=
  (xcV (f_J33_init p0 a0 ) fun p1 =>
  (xpF p1 a0 23 0 (va_rf a1) fun p2 =>
  (rV p2)))
theorem f_J34_init_2_ok {G : xG} (hO : xOK G) (p0 : PH) (a0 : Nat) (a1 : Option Nat) : CT G 3 yJ34_init_2 cJ34_init_2 2 (Option.none : Option Jvm.ClassFile.FieldType) [.ref a0, va_rf a1] p0 (f_J34_init_2 p0 a0 a1) := by
  refine CT_of hO (by decide +kernel) (by decide +kernel) (lg_slen _ (by simp only [List.map, xcat]; exact Nat.le_of_ble_eq_true rfl)) ?_
  rw [show lv_args 0 [.ref a0, va_rf a1] = [(0, .ref a0), (1, va_rf a1)] from by simp only [lv_args, xcat] <;> rfl]
  show X G "java/util/TreeSet" "<init>" cJ34_init_2 2 (Option.none : Option Jvm.ClassFile.FieldType) 3 0 [(0, .ref a0), (1, va_rf a1)] [] p0 (f_J34_init_2 p0 a0 a1)
  refine x_aload_nr 0 dJ34_init_2_0 rfl rfl (n := 1) rfl ?_
  refine x_callI_V [] [] (f_J33_init_ok hO p0 a0 ) md_J33_init rfl q2200 q2201 dJ34_init_2_1 rfl rfl (by decide) (Nat.le_of_ble_eq_true rfl) (n := 4) rfl (fun p1 => ?_)
  refine x_aload_nr 0 dJ34_init_2_4 rfl rfl (n := 5) rfl ?_
  refine x_aload_n 1 dJ34_init_2_5 rfl rfl (n := 6) rfl ?_
  refine x_pF (pl_J34_7 _ _ (xfit_o (a1))) dJ34_init_2_6 (n := 9) rfl (fun p2 => ?_)
  exact x_return dJ34_init_2_9
abbrev cJ34_init : ByteArray := prog_83_method_3_code
def yJ34_init : MethodName := ⟨RJ34, "<init>", "(Ljava/util/Comparator;)V"⟩
def dkwJ34_init_0 : List UInt8 := [42, 187, 0, 13, 89, 43, 183, 0, 19, 183, 0, 16, 177]
abbrev dktJ34_init_0 : List UInt8 := dkwJ34_init_0 ++ []
theorem dksJ34_init_0 : cJ34_init.data.toList.drop 0 = dktJ34_init_0 := by decide +kernel
theorem dJ34_init_0 : decode cJ34_init 0 = .ok (.aload_n 0, 1) := dk_42 (dk_at dksJ34_init_0 0 rfl rfl)
theorem dJ34_init_1 : decode cJ34_init 1 = .ok (.new 13, 3) := dk_187 0 13 (dk_at dksJ34_init_0 1 rfl rfl)
theorem dJ34_init_4 : decode cJ34_init 4 = .ok (.dup, 1) := dk_89 (dk_at dksJ34_init_0 4 rfl rfl)
theorem dJ34_init_5 : decode cJ34_init 5 = .ok (.aload_n 1, 1) := dk_43 (dk_at dksJ34_init_0 5 rfl rfl)
theorem dJ34_init_6 : decode cJ34_init 6 = .ok (.invokespecial 19, 3) := dk_183 0 19 (dk_at dksJ34_init_0 6 rfl rfl)
theorem dJ34_init_9 : decode cJ34_init 9 = .ok (.invokespecial 16, 3) := dk_183 0 16 (dk_at dksJ34_init_0 9 rfl rfl)
theorem dJ34_init_12 : decode cJ34_init 12 = .ok (.return_, 1) := dk_177 (dk_at dksJ34_init_0 12 rfl rfl)
theorem md_J34_init : xMd yJ34_init cJ34_init 2 (Option.none : Option Jvm.ClassFile.FieldType) 1 := ⟨q2192, q173, by decide, by decide +kernel, by decide +kernel, by decide +kernel⟩
def f_J34_init (p0 : PH) (a0 : Nat) (a1 : Option Nat) : Option (xO × PH) :=
  (xnew p0 15 [.null, .null, .null, .null, .int 0, .int 0, .null, .null, .null] fun b1 p2 =>
  (xcV (f_J5_init_2 p2 b1 a1) fun p3 =>
  (xcV (f_J34_init_2 p3 a0 (some b1)) fun p4 =>
  (rV p4))))
theorem f_J34_init_ok {G : xG} (hO : xOK G) (p0 : PH) (a0 : Nat) (a1 : Option Nat) : CT G 4 yJ34_init cJ34_init 2 (Option.none : Option Jvm.ClassFile.FieldType) [.ref a0, va_rf a1] p0 (f_J34_init p0 a0 a1) := by
  refine CT_of hO (by decide +kernel) (by decide +kernel) (lg_slen _ (by simp only [List.map, xcat]; exact Nat.le_of_ble_eq_true rfl)) ?_
  rw [show lv_args 0 [.ref a0, va_rf a1] = [(0, .ref a0), (1, va_rf a1)] from by simp only [lv_args, xcat] <;> rfl]
  show X G "java/util/TreeSet" "<init>" cJ34_init 2 (Option.none : Option Jvm.ClassFile.FieldType) 4 0 [(0, .ref a0), (1, va_rf a1)] [] p0 (f_J34_init p0 a0 a1)
  refine x_aload_nr 0 dJ34_init_0 rfl rfl (n := 1) rfl ?_
  refine x_new cl_15 (by decide) q2193 q319 q132 rfl dJ34_init_1 (n := 4) rfl (fun b1 p2 => ?_)
  refine x_dup dJ34_init_4 rfl (n := 5) rfl ?_
  refine x_aload_n 1 dJ34_init_5 rfl rfl (n := 6) rfl ?_
  refine x_callI_V [va_rf a1] [.ref b1, .ref a0] (f_J5_init_2_ok hO p2 b1 a1) md_J5_init_2 rfl q2194 q2195 dJ34_init_6 rfl rfl (by decide) (Nat.le_of_ble_eq_true rfl) (n := 9) rfl (fun p3 => ?_)
  refine x_callI_V [.ref b1] [] (f_J34_init_2_ok hO p3 a0 (some b1)) md_J34_init_2 rfl q2197 q2198 dJ34_init_9 rfl rfl (by decide) (Nat.le_of_ble_eq_true rfl) (n := 12) rfl (fun p4 => ?_)
  exact x_return dJ34_init_12
abbrev cX12_init : ByteArray := prog_12_method_1_code
def yX12_init : MethodName := ⟨RX12, "<init>", "(III)V"⟩
def dkwX12_init_0 : List UInt8 := [42, 183, 0, 1, 42, 27, 181, 0, 7, 42, 28, 181, 0, 13, 42, 29, 181, 0, 16, 177]
abbrev dktX12_init_0 : List UInt8 := dkwX12_init_0 ++ []
theorem dksX12_init_0 : cX12_init.data.toList.drop 0 = dktX12_init_0 := by decide +kernel
theorem dX12_init_0 : decode cX12_init 0 = .ok (.aload_n 0, 1) := dk_42 (dk_at dksX12_init_0 0 rfl rfl)
theorem dX12_init_1 : decode cX12_init 1 = .ok (.invokespecial 1, 3) := dk_183 0 1 (dk_at dksX12_init_0 1 rfl rfl)
theorem dX12_init_4 : decode cX12_init 4 = .ok (.aload_n 0, 1) := dk_42 (dk_at dksX12_init_0 4 rfl rfl)
theorem dX12_init_5 : decode cX12_init 5 = .ok (.iload_n 1, 1) := dk_27 (dk_at dksX12_init_0 5 rfl rfl)
theorem dX12_init_6 : decode cX12_init 6 = .ok (.putfield 7, 3) := dk_181 0 7 (dk_at dksX12_init_0 6 rfl rfl)
theorem dX12_init_9 : decode cX12_init 9 = .ok (.aload_n 0, 1) := dk_42 (dk_at dksX12_init_0 9 rfl rfl)
theorem dX12_init_10 : decode cX12_init 10 = .ok (.iload_n 2, 1) := dk_28 (dk_at dksX12_init_0 10 rfl rfl)
theorem dX12_init_11 : decode cX12_init 11 = .ok (.putfield 13, 3) := dk_181 0 13 (dk_at dksX12_init_0 11 rfl rfl)
theorem dX12_init_14 : decode cX12_init 14 = .ok (.aload_n 0, 1) := dk_42 (dk_at dksX12_init_0 14 rfl rfl)
theorem dX12_init_15 : decode cX12_init 15 = .ok (.iload_n 3, 1) := dk_29 (dk_at dksX12_init_0 15 rfl rfl)
theorem dX12_init_16 : decode cX12_init 16 = .ok (.putfield 16, 3) := dk_181 0 16 (dk_at dksX12_init_0 16 rfl rfl)
theorem dX12_init_19 : decode cX12_init 19 = .ok (.return_, 1) := dk_177 (dk_at dksX12_init_0 19 rfl rfl)
theorem md_X12_init : xMd yX12_init cX12_init 4 (Option.none : Option Jvm.ClassFile.FieldType) 3 := ⟨q2213, q174, by decide, by decide +kernel, by decide +kernel, by decide +kernel⟩
def f_X12_init (p0 : PH) (a0 : Nat) (a1 : Int32) (a2 : Int32) (a3 : Int32) : Option (xO × PH) :=
  (xpF p0 a0 11 0 (.int a1) fun p1 =>
  (xpF p1 a0 11 1 (.int a2) fun p2 =>
  (xpF p2 a0 11 2 (.int a3) fun p3 =>
  (rV p3))))
theorem f_X12_init_ok {G : xG} (hO : xOK G) (p0 : PH) (a0 : Nat) (a1 : Int32) (a2 : Int32) (a3 : Int32) : CT G 1 yX12_init cX12_init 4 (Option.none : Option Jvm.ClassFile.FieldType) [.ref a0, .int a1, .int a2, .int a3] p0 (f_X12_init p0 a0 a1 a2 a3) := by
  refine CT_of hO (by decide +kernel) (by decide +kernel) (Nat.le_of_ble_eq_true rfl) ?_
  show X G "ForestLegs$Stamp" "<init>" cX12_init 4 (Option.none : Option Jvm.ClassFile.FieldType) 1 0 [(0, .ref a0), (1, .int a1), (2, .int a2), (3, .int a3)] [] p0 (f_X12_init p0 a0 a1 a2 a3)
  refine x_aload_nr 0 dX12_init_0 rfl rfl (n := 1) rfl ?_
  refine x_objInit q2214 q186 q187 dX12_init_1 (by decide) (Nat.le_of_ble_eq_true rfl) (n := 4) rfl ?_
  refine x_aload_nr 0 dX12_init_4 rfl rfl (n := 5) rfl ?_
  refine x_iload_n 1 dX12_init_5 rfl rfl (n := 6) rfl ?_
  refine x_pF (pl_X12_7 _ ⟨rfl, rfl⟩) dX12_init_6 (n := 9) rfl (fun p1 => ?_)
  refine x_aload_nr 0 dX12_init_9 rfl rfl (n := 10) rfl ?_
  refine x_iload_n 2 dX12_init_10 rfl rfl (n := 11) rfl ?_
  refine x_pF (pl_X12_13 _ ⟨rfl, rfl⟩) dX12_init_11 (n := 14) rfl (fun p2 => ?_)
  refine x_aload_nr 0 dX12_init_14 rfl rfl (n := 15) rfl ?_
  refine x_iload_n 3 dX12_init_15 rfl rfl (n := 16) rfl ?_
  refine x_pF (pl_X12_16 _ ⟨rfl, rfl⟩) dX12_init_16 (n := 19) rfl (fun p3 => ?_)
  exact x_return dX12_init_19
abbrev cJ34_add : ByteArray := prog_83_method_12_code
def yJ34_add : MethodName := ⟨RJ34, "add", "(Ljava/lang/Object;)Z"⟩
def dkwJ34_add_0 : List UInt8 := [42, 180, 0, 7, 43, 178, 0, 65, 185, 0, 69, 3, 0, 199, 0, 7, 4, 167, 0, 4, 3, 172]
abbrev dktJ34_add_0 : List UInt8 := dkwJ34_add_0 ++ []
theorem dksJ34_add_0 : cJ34_add.data.toList.drop 0 = dktJ34_add_0 := by decide +kernel
theorem dJ34_add_0 : decode cJ34_add 0 = .ok (.aload_n 0, 1) := dk_42 (dk_at dksJ34_add_0 0 rfl rfl)
theorem dJ34_add_1 : decode cJ34_add 1 = .ok (.getfield 7, 3) := dk_180 0 7 (dk_at dksJ34_add_0 1 rfl rfl)
theorem dJ34_add_4 : decode cJ34_add 4 = .ok (.aload_n 1, 1) := dk_43 (dk_at dksJ34_add_0 4 rfl rfl)
theorem dJ34_add_5 : decode cJ34_add 5 = .ok (.getstatic 65, 3) := dk_178 0 65 (dk_at dksJ34_add_0 5 rfl rfl)
theorem dJ34_add_8 : decode cJ34_add 8 = .ok (.invokeinterface 69 3, 5) := by decide +kernel
theorem dJ34_add_13 : decode cJ34_add 13 = .ok (.ifnonnull 7, 3) := dk_199 0 7 (dk_at dksJ34_add_0 13 rfl rfl)
theorem dJ34_add_16 : decode cJ34_add 16 = .ok (.iconst 1, 1) := dk_4 (dk_at dksJ34_add_0 16 rfl rfl)
theorem dJ34_add_17 : decode cJ34_add 17 = .ok (.goto 4, 3) := dk_167 0 4 (dk_at dksJ34_add_0 17 rfl rfl)
theorem dJ34_add_20 : decode cJ34_add 20 = .ok (.iconst 0, 1) := dk_3 (dk_at dksJ34_add_0 20 rfl rfl)
theorem dJ34_add_21 : decode cJ34_add 21 = .ok (.ireturn, 1) := dk_172 (dk_at dksJ34_add_0 21 rfl rfl)
theorem md_J34_add : xMd yJ34_add cJ34_add 2 (Option.some Jvm.ClassFile.FieldType.boolean) 1 := ⟨q2234, q173, by decide, by decide +kernel, by decide +kernel, by decide +kernel⟩
def f_J34_add (p0 : PH) (a0 : Nat) (a1 : Option Nat) : Option (xO × PH) :=
  (xcl1 p0 a0 23 (xgR p0 a0 23 0 fun x1 =>
  (xcon p0 4 fun x2 =>
  (xnul x1 none fun b3 =>
  (xcR (f_J5_put p0 b3 a1 x2) fun x5 p4 =>
  (xnul x5 (if vp_nar .boolean 1 = 1 then rI 1 p4 else none) fun b6 =>
  (if vp_nar .boolean 0 = 0 then rI 0 p4 else none)))))))
theorem rc_J34_add {p0 : PH} {a0 : Nat} {a1 : Option Nat} : ∀ z, f_J34_add p0 a0 a1 = some z → xco p0 a0 = some 23 := fun z h => xcl1_some h
theorem f_J34_add_ok {G : xG} (hO : xOK G) (p0 : PH) (a0 : Nat) (a1 : Option Nat) : CT G 9 yJ34_add cJ34_add 2 (Option.some Jvm.ClassFile.FieldType.boolean) [.ref a0, va_rf a1] p0 (f_J34_add p0 a0 a1) := by
  refine CT_of hO (by decide +kernel) (by decide +kernel) (lg_slen _ (by simp only [List.map, xcat]; exact Nat.le_of_ble_eq_true rfl)) ?_
  rw [show lv_args 0 [.ref a0, va_rf a1] = [(0, .ref a0), (1, va_rf a1)] from by simp only [lv_args, xcat] <;> rfl]
  show X G "java/util/TreeSet" "add" cJ34_add 2 (Option.some Jvm.ClassFile.FieldType.boolean) 9 0 [(0, .ref a0), (1, va_rf a1)] [] p0 (f_J34_add p0 a0 a1)
  refine x_cl1 (fun e0 => ?_)
  refine x_aload_nr 0 dJ34_add_0 rfl rfl (n := 1) rfl ?_
  refine x_getR fl_J34_7 dJ34_add_1 (n := 4) rfl (fun x1 => ?_)
  refine x_aload_n 1 dJ34_add_4 rfl rfl (n := 5) rfl ?_
  refine x_getsR (j := 6) (k := 4) rfl rfl (Or.inl q2235) dJ34_add_5 (n := 8) rfl (fun x2 => ?_)
  refine x_sm (fun b3 e => ?_)
  subst e
  refine x_callJ_R [va_rf a1, va_rf x2] [] (f_J5_put_ok hO p0 b3 a1 x2) rc_J5_put md_J5_put rfl lx_put fd_put dJ34_add_8 rfl rfl (by decide) (Nat.le_of_ble_eq_true rfl) (n := 13) rfl (fun x5 p4 => ?_)
  refine x_ifnonnull dJ34_add_13 (t := 20) (by decide) (n := 16) rfl (fun e => ?_) (fun b6 e => ?_)
  · subst e
    refine x_iconst 1 dJ34_add_16 rfl (n := 17) rfl ?_
    refine x_goto dJ34_add_17 (n := 21) (by decide) ?_
    exact x_nreturn rfl dJ34_add_21
  · subst e
    refine x_iconst 0 dJ34_add_20 rfl (n := 21) rfl ?_
    exact x_nreturn rfl dJ34_add_21
abbrev cJ35_init : ByteArray := prog_80_method_1_code
def yJ35_init : MethodName := ⟨RJ35, "<init>", "(Ljava/util/NavigableMap;)V"⟩
def dkwJ35_init_0 : List UInt8 := [42, 183, 0, 1, 42, 43, 181, 0, 7, 177]
abbrev dktJ35_init_0 : List UInt8 := dkwJ35_init_0 ++ []
theorem dksJ35_init_0 : cJ35_init.data.toList.drop 0 = dktJ35_init_0 := by decide +kernel
theorem dJ35_init_0 : decode cJ35_init 0 = .ok (.aload_n 0, 1) := dk_42 (dk_at dksJ35_init_0 0 rfl rfl)
theorem dJ35_init_1 : decode cJ35_init 1 = .ok (.invokespecial 1, 3) := dk_183 0 1 (dk_at dksJ35_init_0 1 rfl rfl)
theorem dJ35_init_4 : decode cJ35_init 4 = .ok (.aload_n 0, 1) := dk_42 (dk_at dksJ35_init_0 4 rfl rfl)
theorem dJ35_init_5 : decode cJ35_init 5 = .ok (.aload_n 1, 1) := dk_43 (dk_at dksJ35_init_0 5 rfl rfl)
theorem dJ35_init_6 : decode cJ35_init 6 = .ok (.putfield 7, 3) := dk_181 0 7 (dk_at dksJ35_init_0 6 rfl rfl)
theorem dJ35_init_9 : decode cJ35_init 9 = .ok (.return_, 1) := dk_177 (dk_at dksJ35_init_0 9 rfl rfl)
theorem md_J35_init : xMd yJ35_init cJ35_init 2 (Option.none : Option Jvm.ClassFile.FieldType) 1 := ⟨q2261, q175, by decide, by decide +kernel, by decide +kernel, by decide +kernel⟩
def f_J35_init (p0 : PH) (a0 : Nat) (a1 : Option Nat) : Option (xO × PH) :=
  (xcV (f_J33_init p0 a0 ) fun p1 =>
  (xpF p1 a0 24 0 (va_rf a1) fun p2 =>
  (rV p2)))
theorem f_J35_init_ok {G : xG} (hO : xOK G) (p0 : PH) (a0 : Nat) (a1 : Option Nat) : CT G 3 yJ35_init cJ35_init 2 (Option.none : Option Jvm.ClassFile.FieldType) [.ref a0, va_rf a1] p0 (f_J35_init p0 a0 a1) := by
  refine CT_of hO (by decide +kernel) (by decide +kernel) (lg_slen _ (by simp only [List.map, xcat]; exact Nat.le_of_ble_eq_true rfl)) ?_
  rw [show lv_args 0 [.ref a0, va_rf a1] = [(0, .ref a0), (1, va_rf a1)] from by simp only [lv_args, xcat] <;> rfl]
  show X G "java/util/TreeMap$KeySet" "<init>" cJ35_init 2 (Option.none : Option Jvm.ClassFile.FieldType) 3 0 [(0, .ref a0), (1, va_rf a1)] [] p0 (f_J35_init p0 a0 a1)
  refine x_aload_nr 0 dJ35_init_0 rfl rfl (n := 1) rfl ?_
  refine x_callI_V [] [] (f_J33_init_ok hO p0 a0 ) md_J33_init rfl q2262 q2201 dJ35_init_1 rfl rfl (by decide) (Nat.le_of_ble_eq_true rfl) (n := 4) rfl (fun p1 => ?_)
  refine x_aload_nr 0 dJ35_init_4 rfl rfl (n := 5) rfl ?_
  refine x_aload_n 1 dJ35_init_5 rfl rfl (n := 6) rfl ?_
  refine x_pF (pl_J35_7 _ (xfit_o (a1))) dJ35_init_6 (n := 9) rfl (fun p2 => ?_)
  exact x_return dJ35_init_9
abbrev cJ5_navigableKeySet : ByteArray := prog_77_method_50_code
def yJ5_navigableKeySet : MethodName := ⟨RJ5, "navigableKeySet", "()Ljava/util/NavigableSet;"⟩
def dkwJ5_navigableKeySet_1 : List UInt8 := [181, 0, 191, 176]
abbrev dktJ5_navigableKeySet_1 : List UInt8 := dkwJ5_navigableKeySet_1 ++ []
def dkwJ5_navigableKeySet_0 : List UInt8 := [42, 180, 0, 191, 76, 43, 198, 0, 7, 43, 167, 0, 16, 42, 187, 0, 222, 89, 42, 183, 0, 224, 90]
abbrev dktJ5_navigableKeySet_0 : List UInt8 := dkwJ5_navigableKeySet_0 ++ dktJ5_navigableKeySet_1
theorem dksJ5_navigableKeySet_0 : cJ5_navigableKeySet.data.toList.drop 0 = dktJ5_navigableKeySet_0 := by decide +kernel
theorem dksJ5_navigableKeySet_1 : cJ5_navigableKeySet.data.toList.drop 23 = dktJ5_navigableKeySet_1 := dk_seg dksJ5_navigableKeySet_0 23 rfl rfl
theorem dJ5_navigableKeySet_0 : decode cJ5_navigableKeySet 0 = .ok (.aload_n 0, 1) := dk_42 (dk_at dksJ5_navigableKeySet_0 0 rfl rfl)
theorem dJ5_navigableKeySet_1 : decode cJ5_navigableKeySet 1 = .ok (.getfield 191, 3) := dk_180 0 191 (dk_at dksJ5_navigableKeySet_0 1 rfl rfl)
theorem dJ5_navigableKeySet_4 : decode cJ5_navigableKeySet 4 = .ok (.astore_n 1, 1) := dk_76 (dk_at dksJ5_navigableKeySet_0 4 rfl rfl)
theorem dJ5_navigableKeySet_5 : decode cJ5_navigableKeySet 5 = .ok (.aload_n 1, 1) := dk_43 (dk_at dksJ5_navigableKeySet_0 5 rfl rfl)
theorem dJ5_navigableKeySet_6 : decode cJ5_navigableKeySet 6 = .ok (.ifnull 7, 3) := dk_198 0 7 (dk_at dksJ5_navigableKeySet_0 6 rfl rfl)
theorem dJ5_navigableKeySet_9 : decode cJ5_navigableKeySet 9 = .ok (.aload_n 1, 1) := dk_43 (dk_at dksJ5_navigableKeySet_0 9 rfl rfl)
theorem dJ5_navigableKeySet_10 : decode cJ5_navigableKeySet 10 = .ok (.goto 16, 3) := dk_167 0 16 (dk_at dksJ5_navigableKeySet_0 10 rfl rfl)
theorem dJ5_navigableKeySet_13 : decode cJ5_navigableKeySet 13 = .ok (.aload_n 0, 1) := dk_42 (dk_at dksJ5_navigableKeySet_0 13 rfl rfl)
theorem dJ5_navigableKeySet_14 : decode cJ5_navigableKeySet 14 = .ok (.new 222, 3) := dk_187 0 222 (dk_at dksJ5_navigableKeySet_0 14 rfl rfl)
theorem dJ5_navigableKeySet_17 : decode cJ5_navigableKeySet 17 = .ok (.dup, 1) := dk_89 (dk_at dksJ5_navigableKeySet_0 17 rfl rfl)
theorem dJ5_navigableKeySet_18 : decode cJ5_navigableKeySet 18 = .ok (.aload_n 0, 1) := dk_42 (dk_at dksJ5_navigableKeySet_0 18 rfl rfl)
theorem dJ5_navigableKeySet_19 : decode cJ5_navigableKeySet 19 = .ok (.invokespecial 224, 3) := dk_183 0 224 (dk_at dksJ5_navigableKeySet_0 19 rfl rfl)
theorem dJ5_navigableKeySet_22 : decode cJ5_navigableKeySet 22 = .ok (.dup_x1, 1) := dk_90 (dk_at dksJ5_navigableKeySet_0 22 rfl rfl)
theorem dJ5_navigableKeySet_23 : decode cJ5_navigableKeySet 23 = .ok (.putfield 191, 3) := dk_181 0 191 (dk_at dksJ5_navigableKeySet_1 0 rfl rfl)
theorem dJ5_navigableKeySet_26 : decode cJ5_navigableKeySet 26 = .ok (.areturn, 1) := dk_176 (dk_at dksJ5_navigableKeySet_1 3 rfl rfl)
theorem md_J5_navigableKeySet : xMd yJ5_navigableKeySet cJ5_navigableKeySet 2 (Option.some (Jvm.ClassFile.FieldType.object "java/util/NavigableSet")) 0 := ⟨q2256, q132, by decide, by decide +kernel, by decide +kernel, by decide +kernel⟩
def f_J5_navigableKeySet (p0 : PH) (a0 : Nat) : Option (xO × PH) :=
  (xcl1 p0 a0 15 (xgR p0 a0 15 7 fun x1 =>
  (xnul x1 (xnew p0 24 [.null] fun b3 p4 =>
  (xcV (f_J35_init p4 b3 (some a0)) fun p5 =>
  (xpF p5 a0 15 7 (.ref b3) fun p6 =>
  (rR (some b3) p6)))) fun b2 =>
  (rR (some b2) p0))))
theorem rc_J5_navigableKeySet {p0 : PH} {a0 : Nat} : ∀ z, f_J5_navigableKeySet p0 a0 = some z → xco p0 a0 = some 15 := fun z h => xcl1_some h
theorem f_J5_navigableKeySet_ok {G : xG} (hO : xOK G) (p0 : PH) (a0 : Nat) : CT G 4 yJ5_navigableKeySet cJ5_navigableKeySet 2 (Option.some (Jvm.ClassFile.FieldType.object "java/util/NavigableSet")) [.ref a0] p0 (f_J5_navigableKeySet p0 a0) := by
  refine CT_of hO (by decide +kernel) (by decide +kernel) (Nat.le_of_ble_eq_true rfl) ?_
  show X G "java/util/TreeMap" "navigableKeySet" cJ5_navigableKeySet 2 (Option.some (Jvm.ClassFile.FieldType.object "java/util/NavigableSet")) 4 0 [(0, .ref a0)] [] p0 (f_J5_navigableKeySet p0 a0)
  refine x_cl1 (fun e0 => ?_)
  refine x_aload_nr 0 dJ5_navigableKeySet_0 rfl rfl (n := 1) rfl ?_
  refine x_getR fl_J5_191 dJ5_navigableKeySet_1 (n := 4) rfl (fun x1 => ?_)
  refine x_astore_n [(1, va_rf x1), (0, .ref a0)] dJ5_navigableKeySet_4 rfl (by decide) rfl (n := 5) rfl ?_
  refine x_aload_n 0 dJ5_navigableKeySet_5 rfl rfl (n := 6) rfl ?_
  refine x_ifnull dJ5_navigableKeySet_6 (t := 13) (by decide) (n := 9) rfl (fun e => ?_) (fun b2 e => ?_)
  · subst e
    refine x_aload_nr 1 dJ5_navigableKeySet_13 rfl rfl (n := 14) rfl ?_
    refine x_new cl_24 (by decide) q2257 q2258 q175 rfl dJ5_navigableKeySet_14 (n := 17) rfl (fun b3 p4 => ?_)
    refine x_dup dJ5_navigableKeySet_17 rfl (n := 18) rfl ?_
    refine x_aload_nr 1 dJ5_navigableKeySet_18 rfl rfl (n := 19) rfl ?_
    refine x_callI_V [.ref a0] [.ref b3, .ref a0] (f_J35_init_ok hO p4 b3 (some a0)) md_J35_init rfl q2259 q2260 dJ5_navigableKeySet_19 rfl rfl (by decide) (Nat.le_of_ble_eq_true rfl) (n := 22) rfl (fun p5 => ?_)
    refine x_dup_x1 dJ5_navigableKeySet_22 rfl rfl (n := 23) rfl ?_
    refine x_pF (pl_J5_191 _ _ (xfit_o (some b3))) dJ5_navigableKeySet_23 (n := 26) rfl (fun p6 => ?_)
    exact x_areturn (x := some b3) (Or.inl ⟨_, rfl⟩) dJ5_navigableKeySet_26
  · subst e
    refine x_aload_nr 0 dJ5_navigableKeySet_9 rfl rfl (n := 10) rfl ?_
    refine x_goto dJ5_navigableKeySet_10 (n := 26) (by decide) ?_
    exact x_areturn (x := some b2) (Or.inl ⟨_, rfl⟩) dJ5_navigableKeySet_26
abbrev cJ5_getFirstEntry : ByteArray := prog_77_method_72_code
def yJ5_getFirstEntry : MethodName := ⟨RJ5, "getFirstEntry", "()Ljava/util/TreeMap$Entry;"⟩
def dkwJ5_getFirstEntry_1 : List UInt8 := [43, 176]
abbrev dktJ5_getFirstEntry_1 : List UInt8 := dkwJ5_getFirstEntry_1 ++ []
def dkwJ5_getFirstEntry_0 : List UInt8 := [42, 180, 0, 101, 76, 43, 198, 0, 18, 43, 180, 0, 111, 198, 0, 11, 43, 180, 0, 111, 76, 167, 255, 244]
abbrev dktJ5_getFirstEntry_0 : List UInt8 := dkwJ5_getFirstEntry_0 ++ dktJ5_getFirstEntry_1
theorem dksJ5_getFirstEntry_0 : cJ5_getFirstEntry.data.toList.drop 0 = dktJ5_getFirstEntry_0 := by decide +kernel
theorem dksJ5_getFirstEntry_1 : cJ5_getFirstEntry.data.toList.drop 24 = dktJ5_getFirstEntry_1 := dk_seg dksJ5_getFirstEntry_0 24 rfl rfl
theorem dJ5_getFirstEntry_0 : decode cJ5_getFirstEntry 0 = .ok (.aload_n 0, 1) := dk_42 (dk_at dksJ5_getFirstEntry_0 0 rfl rfl)
theorem dJ5_getFirstEntry_1 : decode cJ5_getFirstEntry 1 = .ok (.getfield 101, 3) := dk_180 0 101 (dk_at dksJ5_getFirstEntry_0 1 rfl rfl)
theorem dJ5_getFirstEntry_4 : decode cJ5_getFirstEntry 4 = .ok (.astore_n 1, 1) := dk_76 (dk_at dksJ5_getFirstEntry_0 4 rfl rfl)
theorem dJ5_getFirstEntry_5 : decode cJ5_getFirstEntry 5 = .ok (.aload_n 1, 1) := dk_43 (dk_at dksJ5_getFirstEntry_0 5 rfl rfl)
theorem dJ5_getFirstEntry_6 : decode cJ5_getFirstEntry 6 = .ok (.ifnull 18, 3) := dk_198 0 18 (dk_at dksJ5_getFirstEntry_0 6 rfl rfl)
theorem dJ5_getFirstEntry_9 : decode cJ5_getFirstEntry 9 = .ok (.aload_n 1, 1) := dk_43 (dk_at dksJ5_getFirstEntry_0 9 rfl rfl)
theorem dJ5_getFirstEntry_10 : decode cJ5_getFirstEntry 10 = .ok (.getfield 111, 3) := dk_180 0 111 (dk_at dksJ5_getFirstEntry_0 10 rfl rfl)
theorem dJ5_getFirstEntry_13 : decode cJ5_getFirstEntry 13 = .ok (.ifnull 11, 3) := dk_198 0 11 (dk_at dksJ5_getFirstEntry_0 13 rfl rfl)
theorem dJ5_getFirstEntry_16 : decode cJ5_getFirstEntry 16 = .ok (.aload_n 1, 1) := dk_43 (dk_at dksJ5_getFirstEntry_0 16 rfl rfl)
theorem dJ5_getFirstEntry_17 : decode cJ5_getFirstEntry 17 = .ok (.getfield 111, 3) := dk_180 0 111 (dk_at dksJ5_getFirstEntry_0 17 rfl rfl)
theorem dJ5_getFirstEntry_20 : decode cJ5_getFirstEntry 20 = .ok (.astore_n 1, 1) := dk_76 (dk_at dksJ5_getFirstEntry_0 20 rfl rfl)
theorem dJ5_getFirstEntry_21 : decode cJ5_getFirstEntry 21 = .ok (.goto (-12), 3) := dk_167 255 244 (dk_at dksJ5_getFirstEntry_0 21 rfl rfl)
theorem dJ5_getFirstEntry_24 : decode cJ5_getFirstEntry 24 = .ok (.aload_n 1, 1) := dk_43 (dk_at dksJ5_getFirstEntry_1 0 rfl rfl)
theorem dJ5_getFirstEntry_25 : decode cJ5_getFirstEntry 25 = .ok (.areturn, 1) := dk_176 (dk_at dksJ5_getFirstEntry_1 1 rfl rfl)
theorem md_J5_getFirstEntry : xMd yJ5_getFirstEntry cJ5_getFirstEntry 2 (Option.some (Jvm.ClassFile.FieldType.object "java/util/TreeMap$Entry")) 0 := ⟨q2287, q132, by decide, by decide +kernel, by decide +kernel, by decide +kernel⟩
def f_J5_getFirstEntry_9F (a0 : Nat)  (k9 : Option Nat × PH → Option (xO × PH)) (p : Option Nat × PH) : Option (xO × PH) := match p with
  | (v1, p0) => (xnul v1 none fun b3 =>
  (xgR p0 b3 19 2 fun x4 =>
  (xnul x4 (rR (some b3) p0) fun b5 =>
  (xgR p0 b3 19 2 fun x6 =>
  (k9 (x6, p0))))))
def f_J5_getFirstEntry (p0 : PH) (a0 : Nat) : Option (xO × PH) :=
  (xcl1 p0 a0 15 (xgR p0 a0 15 3 fun x1 =>
  (xnul x1 (rR none p0) fun b2 =>
  (lp (f_J5_getFirstEntry_9F a0) FU (((some b2)), p0)))))
theorem rc_J5_getFirstEntry {p0 : PH} {a0 : Nat} : ∀ z, f_J5_getFirstEntry p0 a0 = some z → xco p0 a0 = some 15 := fun z h => xcl1_some h
theorem f_J5_getFirstEntry_9F_ok {G : xG} (hO : xOK G) (a0 : Nat)  {k9 : Option Nat × PH → Option (xO × PH)} (hk9 : ∀ (v1 : Option Nat) (p0 : PH), X G "java/util/TreeMap" "getFirstEntry" cJ5_getFirstEntry 2 (Option.some (Jvm.ClassFile.FieldType.object "java/util/TreeMap$Entry")) 0 9 [(1, va_rf v1)] [] p0 (k9 (v1, p0))) (v1 : Option Nat) (p0 : PH) : X G "java/util/TreeMap" "getFirstEntry" cJ5_getFirstEntry 2 (Option.some (Jvm.ClassFile.FieldType.object "java/util/TreeMap$Entry")) 0 9 [(1, va_rf v1)] [] p0 (f_J5_getFirstEntry_9F a0 k9 (v1, p0)) := by
  unfold f_J5_getFirstEntry_9F
  refine x_aload_n 0 dJ5_getFirstEntry_9 rfl rfl (n := 10) rfl ?_
  refine x_sm (fun b3 e => ?_)
  subst e
  refine x_getR fl_J5_111 dJ5_getFirstEntry_10 (n := 13) rfl (fun x4 => ?_)
  refine x_ifnull dJ5_getFirstEntry_13 (t := 24) (by decide) (n := 16) rfl (fun e => ?_) (fun b5 e => ?_)
  · subst e
    refine x_aload_nr 0 dJ5_getFirstEntry_24 rfl rfl (n := 25) rfl ?_
    exact x_areturn (x := some b3) (Or.inl ⟨_, rfl⟩) dJ5_getFirstEntry_25
  · subst e
    refine x_aload_nr 0 dJ5_getFirstEntry_16 rfl rfl (n := 17) rfl ?_
    refine x_getR fl_J5_111 dJ5_getFirstEntry_17 (n := 20) rfl (fun x6 => ?_)
    refine x_astore_n [(1, va_rf x6)] dJ5_getFirstEntry_20 rfl (by decide) rfl (n := 21) rfl ?_
    refine x_goto dJ5_getFirstEntry_21 (n := 9) (by decide) ?_
    exact hk9 x6 p0
theorem f_J5_getFirstEntry_9_lp {G : xG} (hO : xOK G) (a0 : Nat)  (n : Nat) (v1 : Option Nat) (p0 : PH) : X G "java/util/TreeMap" "getFirstEntry" cJ5_getFirstEntry 2 (Option.some (Jvm.ClassFile.FieldType.object "java/util/TreeMap$Entry")) 0 9 [(1, va_rf v1)] [] p0 (lp (f_J5_getFirstEntry_9F a0) n (v1, p0)) :=
  lp_ok (W := fun p K => X G "java/util/TreeMap" "getFirstEntry" cJ5_getFirstEntry 2 (Option.some (Jvm.ClassFile.FieldType.object "java/util/TreeMap$Entry")) 0 9 [(1, va_rf p.1)] [] p.2 K) (fun _ => x_no) (fun k hk => fun (v1, p0) => f_J5_getFirstEntry_9F_ok hO a0 (fun v1 p0 => hk (v1, p0)) v1 p0) n (v1, p0)
theorem f_J5_getFirstEntry_ok {G : xG} (hO : xOK G) (p0 : PH) (a0 : Nat) : CT G 0 yJ5_getFirstEntry cJ5_getFirstEntry 2 (Option.some (Jvm.ClassFile.FieldType.object "java/util/TreeMap$Entry")) [.ref a0] p0 (f_J5_getFirstEntry p0 a0) := by
  refine CT_of hO (by decide +kernel) (by decide +kernel) (Nat.le_of_ble_eq_true rfl) ?_
  show X G "java/util/TreeMap" "getFirstEntry" cJ5_getFirstEntry 2 (Option.some (Jvm.ClassFile.FieldType.object "java/util/TreeMap$Entry")) 0 0 [(0, .ref a0)] [] p0 (f_J5_getFirstEntry p0 a0)
  refine x_cl1 (fun e0 => ?_)
  refine x_aload_nr 0 dJ5_getFirstEntry_0 rfl rfl (n := 1) rfl ?_
  refine x_getR fl_J5_101 dJ5_getFirstEntry_1 (n := 4) rfl (fun x1 => ?_)
  refine x_astore_n [(1, va_rf x1), (0, .ref a0)] dJ5_getFirstEntry_4 rfl (by decide) rfl (n := 5) rfl ?_
  refine x_aload_n 0 dJ5_getFirstEntry_5 rfl rfl (n := 6) rfl ?_
  refine x_ifnull dJ5_getFirstEntry_6 (t := 24) (by decide) (n := 9) rfl (fun e => ?_) (fun b2 e => ?_)
  · subst e
    refine x_aload_n 0 dJ5_getFirstEntry_24 rfl rfl (n := 25) rfl ?_
    exact x_areturn (x := none) (Or.inl ⟨_, rfl⟩) dJ5_getFirstEntry_25
  · subst e
    refine x_sub [0] [(1, .ref b2)] rfl ?_
    exact f_J5_getFirstEntry_9_lp hO a0 FU ((some b2)) p0
abbrev cJ36_init : ByteArray := prog_82_method_1_code
def yJ36_init : MethodName := ⟨RJ36, "<init>", "(Ljava/util/TreeMap;Ljava/util/TreeMap$Entry;)V"⟩
def dkwJ36_init_1 : List UInt8 := [181, 0, 26, 177]
abbrev dktJ36_init_1 : List UInt8 := dkwJ36_init_1 ++ []
def dkwJ36_init_0 : List UInt8 := [42, 43, 181, 0, 1, 42, 183, 0, 7, 42, 43, 180, 0, 13, 181, 0, 19, 42, 1, 181, 0, 22, 42, 44]
abbrev dktJ36_init_0 : List UInt8 := dkwJ36_init_0 ++ dktJ36_init_1
theorem dksJ36_init_0 : cJ36_init.data.toList.drop 0 = dktJ36_init_0 := by decide +kernel
theorem dksJ36_init_1 : cJ36_init.data.toList.drop 24 = dktJ36_init_1 := dk_seg dksJ36_init_0 24 rfl rfl
theorem dJ36_init_0 : decode cJ36_init 0 = .ok (.aload_n 0, 1) := dk_42 (dk_at dksJ36_init_0 0 rfl rfl)
theorem dJ36_init_1 : decode cJ36_init 1 = .ok (.aload_n 1, 1) := dk_43 (dk_at dksJ36_init_0 1 rfl rfl)
theorem dJ36_init_2 : decode cJ36_init 2 = .ok (.putfield 1, 3) := dk_181 0 1 (dk_at dksJ36_init_0 2 rfl rfl)
theorem dJ36_init_5 : decode cJ36_init 5 = .ok (.aload_n 0, 1) := dk_42 (dk_at dksJ36_init_0 5 rfl rfl)
theorem dJ36_init_6 : decode cJ36_init 6 = .ok (.invokespecial 7, 3) := dk_183 0 7 (dk_at dksJ36_init_0 6 rfl rfl)
theorem dJ36_init_9 : decode cJ36_init 9 = .ok (.aload_n 0, 1) := dk_42 (dk_at dksJ36_init_0 9 rfl rfl)
theorem dJ36_init_10 : decode cJ36_init 10 = .ok (.aload_n 1, 1) := dk_43 (dk_at dksJ36_init_0 10 rfl rfl)
theorem dJ36_init_11 : decode cJ36_init 11 = .ok (.getfield 13, 3) := dk_180 0 13 (dk_at dksJ36_init_0 11 rfl rfl)
theorem dJ36_init_14 : decode cJ36_init 14 = .ok (.putfield 19, 3) := dk_181 0 19 (dk_at dksJ36_init_0 14 rfl rfl)
theorem dJ36_init_17 : decode cJ36_init 17 = .ok (.aload_n 0, 1) := dk_42 (dk_at dksJ36_init_0 17 rfl rfl)
theorem dJ36_init_18 : decode cJ36_init 18 = .ok (.aconst_null, 1) := dk_1 (dk_at dksJ36_init_0 18 rfl rfl)
theorem dJ36_init_19 : decode cJ36_init 19 = .ok (.putfield 22, 3) := dk_181 0 22 (dk_at dksJ36_init_0 19 rfl rfl)
theorem dJ36_init_22 : decode cJ36_init 22 = .ok (.aload_n 0, 1) := dk_42 (dk_at dksJ36_init_0 22 rfl rfl)
theorem dJ36_init_23 : decode cJ36_init 23 = .ok (.aload_n 2, 1) := dk_44 (dk_at dksJ36_init_0 23 rfl rfl)
theorem dJ36_init_24 : decode cJ36_init 24 = .ok (.putfield 26, 3) := dk_181 0 26 (dk_at dksJ36_init_1 0 rfl rfl)
theorem dJ36_init_27 : decode cJ36_init 27 = .ok (.return_, 1) := dk_177 (dk_at dksJ36_init_1 3 rfl rfl)
theorem md_J36_init : xMd yJ36_init cJ36_init 3 (Option.none : Option Jvm.ClassFile.FieldType) 2 := ⟨q2293, q176, by decide, by decide +kernel, by decide +kernel, by decide +kernel⟩
def f_J36_init (p0 : PH) (a0 : Nat) (a1 : Option Nat) (a2 : Option Nat) : Option (xO × PH) :=
  (xpF p0 a0 25 3 (va_rf a1) fun p1 =>
  (xnul a1 none fun b2 =>
  (xgI p1 b2 15 5 fun x3 =>
  (xpF p1 a0 25 2 (.int x3) fun p4 =>
  (xpF p4 a0 25 1 (va_rf none) fun p5 =>
  (xpF p5 a0 25 0 (va_rf a2) fun p6 =>
  (rV p6)))))))
theorem f_J36_init_ok {G : xG} (hO : xOK G) (p0 : PH) (a0 : Nat) (a1 : Option Nat) (a2 : Option Nat) : CT G 1 yJ36_init cJ36_init 3 (Option.none : Option Jvm.ClassFile.FieldType) [.ref a0, va_rf a1, va_rf a2] p0 (f_J36_init p0 a0 a1 a2) := by
  refine CT_of hO (by decide +kernel) (by decide +kernel) (lg_slen _ (by simp only [List.map, xcat]; exact Nat.le_of_ble_eq_true rfl)) ?_
  rw [show lv_args 0 [.ref a0, va_rf a1, va_rf a2] = [(0, .ref a0), (1, va_rf a1), (2, va_rf a2)] from by simp only [lv_args, xcat] <;> rfl]
  show X G "java/util/TreeMap$PrivateEntryIterator" "<init>" cJ36_init 3 (Option.none : Option Jvm.ClassFile.FieldType) 1 0 [(0, .ref a0), (1, va_rf a1), (2, va_rf a2)] [] p0 (f_J36_init p0 a0 a1 a2)
  refine x_aload_nr 0 dJ36_init_0 rfl rfl (n := 1) rfl ?_
  refine x_aload_n 1 dJ36_init_1 rfl rfl (n := 2) rfl ?_
  refine x_pF (pl_J36_1 _ (xfit_o (a1))) dJ36_init_2 (n := 5) rfl (fun p1 => ?_)
  refine x_aload_nr 0 dJ36_init_5 rfl rfl (n := 6) rfl ?_
  refine x_objInit q2294 q186 q187 dJ36_init_6 (by decide) (Nat.le_of_ble_eq_true rfl) (n := 9) rfl ?_
  refine x_aload_nr 0 dJ36_init_9 rfl rfl (n := 10) rfl ?_
  refine x_aload_n 1 dJ36_init_10 rfl rfl (n := 11) rfl ?_
  refine x_sm (fun b2 e => ?_)
  subst e
  refine x_getI fl_J36_13 dJ36_init_11 (n := 14) rfl (fun x3 => ?_)
  refine x_pF (pl_J36_19 _ _ ⟨rfl, rfl⟩) dJ36_init_14 (n := 17) rfl (fun p4 => ?_)
  refine x_aload_nr 0 dJ36_init_17 rfl rfl (n := 18) rfl ?_
  refine x_null dJ36_init_18 (n := 19) rfl ?_
  refine x_pF (pl_J36_22 _ _ (xfit_o (none))) dJ36_init_19 (n := 22) rfl (fun p5 => ?_)
  refine x_aload_nr 0 dJ36_init_22 rfl rfl (n := 23) rfl ?_
  refine x_aload_n 2 dJ36_init_23 rfl rfl (n := 24) rfl ?_
  refine x_pF (pl_J36_26 _ _ (xfit_o (a2))) dJ36_init_24 (n := 27) rfl (fun p6 => ?_)
  exact x_return dJ36_init_27
abbrev cJ37_init : ByteArray := prog_79_method_1_code
def yJ37_init : MethodName := ⟨RJ37, "<init>", "(Ljava/util/TreeMap;Ljava/util/TreeMap$Entry;)V"⟩
def dkwJ37_init_0 : List UInt8 := [42, 43, 44, 183, 0, 1, 177]
abbrev dktJ37_init_0 : List UInt8 := dkwJ37_init_0 ++ []
theorem dksJ37_init_0 : cJ37_init.data.toList.drop 0 = dktJ37_init_0 := by decide +kernel
theorem dJ37_init_0 : decode cJ37_init 0 = .ok (.aload_n 0, 1) := dk_42 (dk_at dksJ37_init_0 0 rfl rfl)
theorem dJ37_init_1 : decode cJ37_init 1 = .ok (.aload_n 1, 1) := dk_43 (dk_at dksJ37_init_0 1 rfl rfl)
theorem dJ37_init_2 : decode cJ37_init 2 = .ok (.aload_n 2, 1) := dk_44 (dk_at dksJ37_init_0 2 rfl rfl)
theorem dJ37_init_3 : decode cJ37_init 3 = .ok (.invokespecial 1, 3) := dk_183 0 1 (dk_at dksJ37_init_0 3 rfl rfl)
theorem dJ37_init_6 : decode cJ37_init 6 = .ok (.return_, 1) := dk_177 (dk_at dksJ37_init_0 6 rfl rfl)
theorem md_J37_init : xMd yJ37_init cJ37_init 3 (Option.none : Option Jvm.ClassFile.FieldType) 2 := ⟨q2290, q177, by decide, by decide +kernel, by decide +kernel, by decide +kernel⟩
def f_J37_init (p0 : PH) (a0 : Nat) (a1 : Option Nat) (a2 : Option Nat) : Option (xO × PH) :=
  (xcV (f_J36_init p0 a0 a1 a2) fun p1 =>
  (rV p1))
theorem f_J37_init_ok {G : xG} (hO : xOK G) (p0 : PH) (a0 : Nat) (a1 : Option Nat) (a2 : Option Nat) : CT G 2 yJ37_init cJ37_init 3 (Option.none : Option Jvm.ClassFile.FieldType) [.ref a0, va_rf a1, va_rf a2] p0 (f_J37_init p0 a0 a1 a2) := by
  refine CT_of hO (by decide +kernel) (by decide +kernel) (lg_slen _ (by simp only [List.map, xcat]; exact Nat.le_of_ble_eq_true rfl)) ?_
  rw [show lv_args 0 [.ref a0, va_rf a1, va_rf a2] = [(0, .ref a0), (1, va_rf a1), (2, va_rf a2)] from by simp only [lv_args, xcat] <;> rfl]
  show X G "java/util/TreeMap$KeyIterator" "<init>" cJ37_init 3 (Option.none : Option Jvm.ClassFile.FieldType) 2 0 [(0, .ref a0), (1, va_rf a1), (2, va_rf a2)] [] p0 (f_J37_init p0 a0 a1 a2)
  refine x_aload_nr 0 dJ37_init_0 rfl rfl (n := 1) rfl ?_
  refine x_aload_n 1 dJ37_init_1 rfl rfl (n := 2) rfl ?_
  refine x_aload_n 2 dJ37_init_2 rfl rfl (n := 3) rfl ?_
  refine x_callI_V [va_rf a1, va_rf a2] [] (f_J36_init_ok hO p0 a0 a1 a2) md_J36_init rfl q2291 q2292 dJ37_init_3 rfl rfl (by decide) (Nat.le_of_ble_eq_true rfl) (n := 6) rfl (fun p1 => ?_)
  exact x_return dJ37_init_6
abbrev cJ5_keyIterator : ByteArray := prog_77_method_65_code
def yJ5_keyIterator : MethodName := ⟨RJ5, "keyIterator", "()Ljava/util/Iterator;"⟩
def dkwJ5_keyIterator_0 : List UInt8 := [187, 1, 13, 89, 42, 42, 182, 0, 54, 183, 1, 15, 176]
abbrev dktJ5_keyIterator_0 : List UInt8 := dkwJ5_keyIterator_0 ++ []
theorem dksJ5_keyIterator_0 : cJ5_keyIterator.data.toList.drop 0 = dktJ5_keyIterator_0 := by decide +kernel
theorem dJ5_keyIterator_0 : decode cJ5_keyIterator 0 = .ok (.new 269, 3) := dk_187 1 13 (dk_at dksJ5_keyIterator_0 0 rfl rfl)
theorem dJ5_keyIterator_3 : decode cJ5_keyIterator 3 = .ok (.dup, 1) := dk_89 (dk_at dksJ5_keyIterator_0 3 rfl rfl)
theorem dJ5_keyIterator_4 : decode cJ5_keyIterator 4 = .ok (.aload_n 0, 1) := dk_42 (dk_at dksJ5_keyIterator_0 4 rfl rfl)
theorem dJ5_keyIterator_5 : decode cJ5_keyIterator 5 = .ok (.aload_n 0, 1) := dk_42 (dk_at dksJ5_keyIterator_0 5 rfl rfl)
theorem dJ5_keyIterator_6 : decode cJ5_keyIterator 6 = .ok (.invokevirtual 54, 3) := dk_182 0 54 (dk_at dksJ5_keyIterator_0 6 rfl rfl)
theorem dJ5_keyIterator_9 : decode cJ5_keyIterator 9 = .ok (.invokespecial 271, 3) := dk_183 1 15 (dk_at dksJ5_keyIterator_0 9 rfl rfl)
theorem dJ5_keyIterator_12 : decode cJ5_keyIterator 12 = .ok (.areturn, 1) := dk_176 (dk_at dksJ5_keyIterator_0 12 rfl rfl)
theorem md_J5_keyIterator : xMd yJ5_keyIterator cJ5_keyIterator 1 (Option.some (Jvm.ClassFile.FieldType.object "java/util/Iterator")) 0 := ⟨q2281, q132, by decide, by decide +kernel, by decide +kernel, by decide +kernel⟩
def f_J5_keyIterator (p0 : PH) (a0 : Nat) : Option (xO × PH) :=
  (xcl1 p0 a0 15 (xnew p0 25 [.null, .null, .int 0, .null] fun b1 p2 =>
  (xcR (f_J5_getFirstEntry p2 a0 ) fun x4 p3 =>
  (xcV (f_J37_init p3 b1 (some a0) x4) fun p5 =>
  (rR (some b1) p5)))))
theorem rc_J5_keyIterator {p0 : PH} {a0 : Nat} : ∀ z, f_J5_keyIterator p0 a0 = some z → xco p0 a0 = some 15 := fun z h => xcl1_some h
theorem f_J5_keyIterator_ok {G : xG} (hO : xOK G) (p0 : PH) (a0 : Nat) : CT G 3 yJ5_keyIterator cJ5_keyIterator 1 (Option.some (Jvm.ClassFile.FieldType.object "java/util/Iterator")) [.ref a0] p0 (f_J5_keyIterator p0 a0) := by
  refine CT_of hO (by decide +kernel) (by decide +kernel) (Nat.le_of_ble_eq_true rfl) ?_
  show X G "java/util/TreeMap" "keyIterator" cJ5_keyIterator 1 (Option.some (Jvm.ClassFile.FieldType.object "java/util/Iterator")) 3 0 [(0, .ref a0)] [] p0 (f_J5_keyIterator p0 a0)
  refine x_cl1 (fun e0 => ?_)
  refine x_new cl_25 (by decide) q2282 q2283 q177 rfl dJ5_keyIterator_0 (n := 3) rfl (fun b1 p2 => ?_)
  refine x_dup dJ5_keyIterator_3 rfl (n := 4) rfl ?_
  refine x_aload_nr 0 dJ5_keyIterator_4 rfl rfl (n := 5) rfl ?_
  refine x_aload_nr 0 dJ5_keyIterator_5 rfl rfl (n := 6) rfl ?_
  refine x_callV_R [] [.ref a0, .ref b1, .ref b1] (f_J5_getFirstEntry_ok hO p2 a0 ) rc_J5_getFirstEntry md_J5_getFirstEntry rfl q2284 q2285 q2286 dJ5_keyIterator_6 rfl rfl (by decide) (Nat.le_of_ble_eq_true rfl) (n := 9) rfl (fun x4 p3 => ?_)
  refine x_callI_V [.ref a0, va_rf x4] [.ref b1] (f_J37_init_ok hO p3 b1 (some a0) x4) md_J37_init rfl q2288 q2289 dJ5_keyIterator_9 rfl rfl (by decide) (Nat.le_of_ble_eq_true rfl) (n := 12) rfl (fun p5 => ?_)
  exact x_areturn (x := some b1) (Or.inl ⟨_, rfl⟩) dJ5_keyIterator_12
abbrev cJ35_iterator : ByteArray := prog_80_method_2_code
def yJ35_iterator : MethodName := ⟨RJ35, "iterator", "()Ljava/util/Iterator;"⟩
def dkwJ35_iterator_1 : List UInt8 := [180, 0, 7, 192, 0, 19, 182, 0, 21, 176]
abbrev dktJ35_iterator_1 : List UInt8 := dkwJ35_iterator_1 ++ []
def dkwJ35_iterator_0 : List UInt8 := [42, 180, 0, 7, 193, 0, 13, 153, 0, 14, 42, 180, 0, 7, 192, 0, 13, 182, 0, 15, 176, 42]
abbrev dktJ35_iterator_0 : List UInt8 := dkwJ35_iterator_0 ++ dktJ35_iterator_1
theorem dksJ35_iterator_0 : cJ35_iterator.data.toList.drop 0 = dktJ35_iterator_0 := by decide +kernel
theorem dksJ35_iterator_1 : cJ35_iterator.data.toList.drop 22 = dktJ35_iterator_1 := dk_seg dksJ35_iterator_0 22 rfl rfl
theorem dJ35_iterator_0 : decode cJ35_iterator 0 = .ok (.aload_n 0, 1) := dk_42 (dk_at dksJ35_iterator_0 0 rfl rfl)
theorem dJ35_iterator_1 : decode cJ35_iterator 1 = .ok (.getfield 7, 3) := dk_180 0 7 (dk_at dksJ35_iterator_0 1 rfl rfl)
theorem dJ35_iterator_4 : decode cJ35_iterator 4 = .ok (.instanceof 13, 3) := dk_193 0 13 (dk_at dksJ35_iterator_0 4 rfl rfl)
theorem dJ35_iterator_7 : decode cJ35_iterator 7 = .ok (.ifCond .eq 14, 3) := dk_153 0 14 (dk_at dksJ35_iterator_0 7 rfl rfl)
theorem dJ35_iterator_10 : decode cJ35_iterator 10 = .ok (.aload_n 0, 1) := dk_42 (dk_at dksJ35_iterator_0 10 rfl rfl)
theorem dJ35_iterator_11 : decode cJ35_iterator 11 = .ok (.getfield 7, 3) := dk_180 0 7 (dk_at dksJ35_iterator_0 11 rfl rfl)
theorem dJ35_iterator_14 : decode cJ35_iterator 14 = .ok (.checkcast 13, 3) := dk_192 0 13 (dk_at dksJ35_iterator_0 14 rfl rfl)
theorem dJ35_iterator_17 : decode cJ35_iterator 17 = .ok (.invokevirtual 15, 3) := dk_182 0 15 (dk_at dksJ35_iterator_0 17 rfl rfl)
theorem dJ35_iterator_20 : decode cJ35_iterator 20 = .ok (.areturn, 1) := dk_176 (dk_at dksJ35_iterator_0 20 rfl rfl)
theorem dJ35_iterator_21 : decode cJ35_iterator 21 = .ok (.aload_n 0, 1) := dk_42 (dk_at dksJ35_iterator_0 21 rfl rfl)
theorem dJ35_iterator_22 : decode cJ35_iterator 22 = .ok (.getfield 7, 3) := dk_180 0 7 (dk_at dksJ35_iterator_1 0 rfl rfl)
theorem dJ35_iterator_25 : decode cJ35_iterator 25 = .ok (.checkcast 19, 3) := dk_192 0 19 (dk_at dksJ35_iterator_1 3 rfl rfl)
theorem dJ35_iterator_28 : decode cJ35_iterator 28 = .ok (.invokevirtual 21, 3) := dk_182 0 21 (dk_at dksJ35_iterator_1 6 rfl rfl)
theorem dJ35_iterator_31 : decode cJ35_iterator 31 = .ok (.areturn, 1) := dk_176 (dk_at dksJ35_iterator_1 9 rfl rfl)
theorem md_J35_iterator : xMd yJ35_iterator cJ35_iterator 1 (Option.some (Jvm.ClassFile.FieldType.object "java/util/Iterator")) 0 := ⟨q2276, q175, by decide, by decide +kernel, by decide +kernel, by decide +kernel⟩
def f_J35_iterator (p0 : PH) (a0 : Nat) : Option (xO × PH) :=
  (xcl1 p0 a0 24 (xgR p0 a0 24 0 fun x1 =>
  (xins p0 (x1) [15] fun x2 =>
  (if x2 = 0 then
  (xgR p0 a0 24 0 fun x3 =>
  none) else
  (xgR p0 a0 24 0 fun x4 =>
  (xcst p0 (x4) [15]
  (xnul x4 none fun b5 =>
  (xcR (f_J5_keyIterator p0 b5 ) fun x7 p6 =>
  (rR x7 p6)))))))))
theorem rc_J35_iterator {p0 : PH} {a0 : Nat} : ∀ z, f_J35_iterator p0 a0 = some z → xco p0 a0 = some 24 := fun z h => xcl1_some h
theorem f_J35_iterator_ok {G : xG} (hO : xOK G) (p0 : PH) (a0 : Nat) : CT G 4 yJ35_iterator cJ35_iterator 1 (Option.some (Jvm.ClassFile.FieldType.object "java/util/Iterator")) [.ref a0] p0 (f_J35_iterator p0 a0) := by
  refine CT_of hO (by decide +kernel) (by decide +kernel) (Nat.le_of_ble_eq_true rfl) ?_
  show X G "java/util/TreeMap$KeySet" "iterator" cJ35_iterator 1 (Option.some (Jvm.ClassFile.FieldType.object "java/util/Iterator")) 4 0 [(0, .ref a0)] [] p0 (f_J35_iterator p0 a0)
  refine x_cl1 (fun e0 => ?_)
  refine x_aload_nr 0 dJ35_iterator_0 rfl rfl (n := 1) rfl ?_
  refine x_getR fl_J35_7 dJ35_iterator_1 (n := 4) rfl (fun x1 => ?_)
  refine x_inst (x := x1) (cs := [15]) q2277 cst_java_util_TreeMap dJ35_iterator_4 (n := 7) rfl (fun x2 => ?_)
  refine x_if_eq dJ35_iterator_7 (t := 21) (by decide) (n := 10) rfl (fun _ => ?_) (fun _ => ?_)
  · refine x_aload_nr 0 dJ35_iterator_21 rfl rfl (n := 22) rfl ?_
    refine x_getR fl_J35_7 dJ35_iterator_22 (n := 25) rfl (fun x3 => ?_)
    exact x_no
  · refine x_aload_nr 0 dJ35_iterator_10 rfl rfl (n := 11) rfl ?_
    refine x_getR fl_J35_7 dJ35_iterator_11 (n := 14) rfl (fun x4 => ?_)
    refine x_cast (x := x4) (cs := [15]) q2277 cst_java_util_TreeMap dJ35_iterator_14 (n := 17) rfl ?_
    refine x_sm (fun b5 e => ?_)
    subst e
    refine x_callV_R [] [] (f_J5_keyIterator_ok hO p0 b5 ) rc_J5_keyIterator md_J5_keyIterator rfl q2278 q2279 q2280 dJ35_iterator_17 rfl rfl (by decide) (Nat.le_of_ble_eq_true rfl) (n := 20) rfl (fun x7 p6 => ?_)
    exact x_areturn (x := x7) (Or.inl ⟨_, rfl⟩) dJ35_iterator_20
abbrev cJ34_iterator : ByteArray := prog_83_method_6_code
def yJ34_iterator : MethodName := ⟨RJ34, "iterator", "()Ljava/util/Iterator;"⟩
def dkwJ34_iterator_0 : List UInt8 := [42, 180, 0, 7, 185, 0, 34, 1, 0, 185, 0, 40, 1, 0, 176]
abbrev dktJ34_iterator_0 : List UInt8 := dkwJ34_iterator_0 ++ []
theorem dksJ34_iterator_0 : cJ34_iterator.data.toList.drop 0 = dktJ34_iterator_0 := by decide +kernel
theorem dJ34_iterator_0 : decode cJ34_iterator 0 = .ok (.aload_n 0, 1) := dk_42 (dk_at dksJ34_iterator_0 0 rfl rfl)
theorem dJ34_iterator_1 : decode cJ34_iterator 1 = .ok (.getfield 7, 3) := dk_180 0 7 (dk_at dksJ34_iterator_0 1 rfl rfl)
theorem dJ34_iterator_4 : decode cJ34_iterator 4 = .ok (.invokeinterface 34 1, 5) := by decide +kernel
theorem dJ34_iterator_9 : decode cJ34_iterator 9 = .ok (.invokeinterface 40 1, 5) := by decide +kernel
theorem dJ34_iterator_14 : decode cJ34_iterator 14 = .ok (.areturn, 1) := dk_176 (dk_at dksJ34_iterator_0 14 rfl rfl)
theorem md_J34_iterator : xMd yJ34_iterator cJ34_iterator 1 (Option.some (Jvm.ClassFile.FieldType.object "java/util/Iterator")) 0 := ⟨q2247, q173, by decide, by decide +kernel, by decide +kernel, by decide +kernel⟩
def f_J34_iterator (p0 : PH) (a0 : Nat) : Option (xO × PH) :=
  (xcl1 p0 a0 23 (xgR p0 a0 23 0 fun x1 =>
  (xnul x1 none fun b2 =>
  (xcR (f_J5_navigableKeySet p0 b2 ) fun x4 p3 =>
  (xnul x4 none fun b5 =>
  (xcR (f_J35_iterator p3 b5 ) fun x7 p6 =>
  (rR x7 p6)))))))
theorem rc_J34_iterator {p0 : PH} {a0 : Nat} : ∀ z, f_J34_iterator p0 a0 = some z → xco p0 a0 = some 23 := fun z h => xcl1_some h
theorem f_J34_iterator_ok {G : xG} (hO : xOK G) (p0 : PH) (a0 : Nat) : CT G 5 yJ34_iterator cJ34_iterator 1 (Option.some (Jvm.ClassFile.FieldType.object "java/util/Iterator")) [.ref a0] p0 (f_J34_iterator p0 a0) := by
  refine CT_of hO (by decide +kernel) (by decide +kernel) (Nat.le_of_ble_eq_true rfl) ?_
  show X G "java/util/TreeSet" "iterator" cJ34_iterator 1 (Option.some (Jvm.ClassFile.FieldType.object "java/util/Iterator")) 5 0 [(0, .ref a0)] [] p0 (f_J34_iterator p0 a0)
  refine x_cl1 (fun e0 => ?_)
  refine x_aload_nr 0 dJ34_iterator_0 rfl rfl (n := 1) rfl ?_
  refine x_getR fl_J34_7 dJ34_iterator_1 (n := 4) rfl (fun x1 => ?_)
  refine x_sm (fun b2 e => ?_)
  subst e
  refine x_callF_R [] [] (f_J5_navigableKeySet_ok hO p0 b2 ) rc_J5_navigableKeySet md_J5_navigableKeySet rfl q2249 fc_java_util_TreeMap_java_util_NavigableMap_navigableKeySet_0_Ljavau dJ34_iterator_4 rfl rfl (by decide) (Nat.le_of_ble_eq_true rfl) (n := 9) rfl (fun x4 p3 => ?_)
  refine x_sm (fun b5 e => ?_)
  subst e
  refine x_callF_R [] [] (f_J35_iterator_ok hO p3 b5 ) rc_J35_iterator md_J35_iterator rfl q2268 fc_java_util_TreeMap_KeySet_java_util_NavigableSet_iterator_0_Ljavau dJ34_iterator_9 rfl rfl (by decide) (Nat.le_of_ble_eq_true rfl) (n := 14) rfl (fun x7 p6 => ?_)
  exact x_areturn (x := x7) (Or.inl ⟨_, rfl⟩) dJ34_iterator_14
abbrev cX4_packs : ByteArray := prog_7_method_17_code
def yX4_packs : MethodName := ⟨RX4, "packs", "(I)Ljava/util/List;"⟩
def dkwX4_packs_13 : List UInt8 := [25, 4, 185, 0, 53, 2, 0, 87, 45, 176]
abbrev dktX4_packs_13 : List UInt8 := dkwX4_packs_13 ++ []
def dkwX4_packs_12 : List UInt8 := [25, 6, 185, 0, 53, 2, 0, 87, 167, 255, 149, 25, 4, 185, 0, 86, 1, 0, 4, 164, 0, 12, 45]
abbrev dktX4_packs_12 : List UInt8 := dkwX4_packs_12 ++ dktX4_packs_13
def dkwX4_packs_11 : List UInt8 := [164, 0, 12, 45, 25, 4, 185, 0, 53, 2, 0, 87, 187, 0, 9, 89, 7, 183, 0, 11, 58, 4, 25, 4]
abbrev dktX4_packs_11 : List UInt8 := dkwX4_packs_11 ++ dktX4_packs_12
def dkwX4_packs_10 : List UInt8 := [192, 0, 170, 180, 0, 183, 100, 42, 180, 0, 23, 164, 0, 33, 25, 4, 185, 0, 86, 1, 0, 4]
abbrev dktX4_packs_10 : List UInt8 := dkwX4_packs_10 ++ dktX4_packs_11
def dkwX4_packs_9 : List UInt8 := [154, 0, 68, 25, 6, 180, 0, 183, 25, 4, 25, 4, 185, 0, 86, 1, 0, 4, 100, 185, 0, 68, 2, 0]
abbrev dktX4_packs_9 : List UInt8 := dkwX4_packs_9 ++ dktX4_packs_10
def dkwX4_packs_8 : List UInt8 := [153, 0, 103, 25, 5, 185, 0, 43, 1, 0, 192, 0, 170, 58, 6, 25, 4, 185, 0, 180, 1, 0]
abbrev dktX4_packs_8 : List UInt8 := dkwX4_packs_8 ++ dktX4_packs_9
def dkwX4_packs_7 : List UInt8 := [78, 187, 0, 9, 89, 7, 183, 0, 11, 58, 4, 44, 182, 0, 179, 58, 5, 25, 5, 185, 0, 37, 1, 0]
abbrev dktX4_packs_7 : List UInt8 := dkwX4_packs_7 ++ dktX4_packs_8
def dkwX4_packs_6 : List UInt8 := [182, 0, 178, 87, 132, 6, 1, 167, 255, 156, 132, 3, 1, 167, 255, 119, 187, 0, 9, 89, 7, 183, 0, 11]
abbrev dktX4_packs_6 : List UInt8 := dkwX4_packs_6 ++ dktX4_packs_7
def dkwX4_packs_5 : List UInt8 := [180, 0, 162, 21, 7, 185, 0, 68, 2, 0, 192, 0, 165, 180, 0, 172, 29, 21, 7, 183, 0, 175]
abbrev dktX4_packs_5 : List UInt8 := dkwX4_packs_5 ++ dktX4_packs_6
def dkwX4_packs_4 : List UInt8 := [27, 160, 0, 47, 44, 187, 0, 170, 89, 42, 180, 0, 20, 29, 185, 0, 68, 2, 0, 192, 0, 57]
abbrev dktX4_packs_4 : List UInt8 := dkwX4_packs_4 ++ dktX4_packs_5
def dkwX4_packs_3 : List UInt8 := [185, 0, 68, 2, 0, 192, 0, 57, 180, 0, 162, 21, 7, 185, 0, 68, 2, 0, 192, 0, 165, 180, 0, 167]
abbrev dktX4_packs_3 : List UInt8 := dkwX4_packs_3 ++ dktX4_packs_4
def dkwX4_packs_2 : List UInt8 := [21, 5, 162, 0, 99, 25, 4, 21, 6, 46, 54, 7, 21, 7, 2, 159, 0, 80, 42, 180, 0, 20, 29]
abbrev dktX4_packs_2 : List UInt8 := dkwX4_packs_2 ++ dktX4_packs_3
def dkwX4_packs_1 : List UInt8 := [162, 0, 130, 42, 29, 182, 0, 78, 180, 0, 140, 58, 4, 25, 4, 190, 54, 5, 3, 54, 6, 21, 6]
abbrev dktX4_packs_1 : List UInt8 := dkwX4_packs_1 ++ dktX4_packs_2
def dkwX4_packs_0 : List UInt8 := [187, 0, 153, 89, 178, 0, 155, 183, 0, 159, 77, 3, 62, 29, 42, 180, 0, 20, 185, 0, 86, 1, 0]
abbrev dktX4_packs_0 : List UInt8 := dkwX4_packs_0 ++ dktX4_packs_1
theorem dksX4_packs_0 : cX4_packs.data.toList.drop 0 = dktX4_packs_0 := by decide +kernel
theorem dksX4_packs_1 : cX4_packs.data.toList.drop 23 = dktX4_packs_1 := dk_seg dksX4_packs_0 23 rfl rfl
theorem dksX4_packs_2 : cX4_packs.data.toList.drop 46 = dktX4_packs_2 := dk_seg dksX4_packs_1 23 rfl rfl
theorem dksX4_packs_3 : cX4_packs.data.toList.drop 69 = dktX4_packs_3 := dk_seg dksX4_packs_2 23 rfl rfl
theorem dksX4_packs_4 : cX4_packs.data.toList.drop 93 = dktX4_packs_4 := dk_seg dksX4_packs_3 24 rfl rfl
theorem dksX4_packs_5 : cX4_packs.data.toList.drop 115 = dktX4_packs_5 := dk_seg dksX4_packs_4 22 rfl rfl
theorem dksX4_packs_6 : cX4_packs.data.toList.drop 137 = dktX4_packs_6 := dk_seg dksX4_packs_5 22 rfl rfl
theorem dksX4_packs_7 : cX4_packs.data.toList.drop 161 = dktX4_packs_7 := dk_seg dksX4_packs_6 24 rfl rfl
theorem dksX4_packs_8 : cX4_packs.data.toList.drop 185 = dktX4_packs_8 := dk_seg dksX4_packs_7 24 rfl rfl
theorem dksX4_packs_9 : cX4_packs.data.toList.drop 207 = dktX4_packs_9 := dk_seg dksX4_packs_8 22 rfl rfl
theorem dksX4_packs_10 : cX4_packs.data.toList.drop 231 = dktX4_packs_10 := dk_seg dksX4_packs_9 24 rfl rfl
theorem dksX4_packs_11 : cX4_packs.data.toList.drop 253 = dktX4_packs_11 := dk_seg dksX4_packs_10 22 rfl rfl
theorem dksX4_packs_12 : cX4_packs.data.toList.drop 277 = dktX4_packs_12 := dk_seg dksX4_packs_11 24 rfl rfl
theorem dksX4_packs_13 : cX4_packs.data.toList.drop 300 = dktX4_packs_13 := dk_seg dksX4_packs_12 23 rfl rfl
theorem dX4_packs_0 : decode cX4_packs 0 = .ok (.new 153, 3) := dk_187 0 153 (dk_at dksX4_packs_0 0 rfl rfl)
theorem dX4_packs_3 : decode cX4_packs 3 = .ok (.dup, 1) := dk_89 (dk_at dksX4_packs_0 3 rfl rfl)
theorem dX4_packs_4 : decode cX4_packs 4 = .ok (.getstatic 155, 3) := dk_178 0 155 (dk_at dksX4_packs_0 4 rfl rfl)
theorem dX4_packs_7 : decode cX4_packs 7 = .ok (.invokespecial 159, 3) := dk_183 0 159 (dk_at dksX4_packs_0 7 rfl rfl)
theorem dX4_packs_10 : decode cX4_packs 10 = .ok (.astore_n 2, 1) := dk_77 (dk_at dksX4_packs_0 10 rfl rfl)
theorem dX4_packs_11 : decode cX4_packs 11 = .ok (.iconst 0, 1) := dk_3 (dk_at dksX4_packs_0 11 rfl rfl)
theorem dX4_packs_12 : decode cX4_packs 12 = .ok (.istore_n 3, 1) := dk_62 (dk_at dksX4_packs_0 12 rfl rfl)
theorem dX4_packs_13 : decode cX4_packs 13 = .ok (.iload_n 3, 1) := dk_29 (dk_at dksX4_packs_0 13 rfl rfl)
theorem dX4_packs_14 : decode cX4_packs 14 = .ok (.aload_n 0, 1) := dk_42 (dk_at dksX4_packs_0 14 rfl rfl)
theorem dX4_packs_15 : decode cX4_packs 15 = .ok (.getfield 20, 3) := dk_180 0 20 (dk_at dksX4_packs_0 15 rfl rfl)
theorem dX4_packs_18 : decode cX4_packs 18 = .ok (.invokeinterface 86 1, 5) := by decide +kernel
theorem dX4_packs_23 : decode cX4_packs 23 = .ok (.if_icmp .ge 130, 3) := dk_162 0 130 (dk_at dksX4_packs_1 0 rfl rfl)
theorem dX4_packs_26 : decode cX4_packs 26 = .ok (.aload_n 0, 1) := dk_42 (dk_at dksX4_packs_1 3 rfl rfl)
theorem dX4_packs_27 : decode cX4_packs 27 = .ok (.iload_n 3, 1) := dk_29 (dk_at dksX4_packs_1 4 rfl rfl)
theorem dX4_packs_28 : decode cX4_packs 28 = .ok (.invokevirtual 78, 3) := dk_182 0 78 (dk_at dksX4_packs_1 5 rfl rfl)
theorem dX4_packs_31 : decode cX4_packs 31 = .ok (.getfield 140, 3) := dk_180 0 140 (dk_at dksX4_packs_1 8 rfl rfl)
theorem dX4_packs_34 : decode cX4_packs 34 = .ok (.astore 4, 2) := dk_58 4 (dk_at dksX4_packs_1 11 rfl rfl)
theorem dX4_packs_36 : decode cX4_packs 36 = .ok (.aload 4, 2) := dk_25 4 (dk_at dksX4_packs_1 13 rfl rfl)
theorem dX4_packs_38 : decode cX4_packs 38 = .ok (.arraylength, 1) := dk_190 (dk_at dksX4_packs_1 15 rfl rfl)
theorem dX4_packs_39 : decode cX4_packs 39 = .ok (.istore 5, 2) := dk_54 5 (dk_at dksX4_packs_1 16 rfl rfl)
theorem dX4_packs_41 : decode cX4_packs 41 = .ok (.iconst 0, 1) := dk_3 (dk_at dksX4_packs_1 18 rfl rfl)
theorem dX4_packs_42 : decode cX4_packs 42 = .ok (.istore 6, 2) := dk_54 6 (dk_at dksX4_packs_1 19 rfl rfl)
theorem dX4_packs_44 : decode cX4_packs 44 = .ok (.iload 6, 2) := dk_21 6 (dk_at dksX4_packs_1 21 rfl rfl)
theorem dX4_packs_46 : decode cX4_packs 46 = .ok (.iload 5, 2) := dk_21 5 (dk_at dksX4_packs_2 0 rfl rfl)
theorem dX4_packs_48 : decode cX4_packs 48 = .ok (.if_icmp .ge 99, 3) := dk_162 0 99 (dk_at dksX4_packs_2 2 rfl rfl)
theorem dX4_packs_51 : decode cX4_packs 51 = .ok (.aload 4, 2) := dk_25 4 (dk_at dksX4_packs_2 5 rfl rfl)
theorem dX4_packs_53 : decode cX4_packs 53 = .ok (.iload 6, 2) := dk_21 6 (dk_at dksX4_packs_2 7 rfl rfl)
theorem dX4_packs_55 : decode cX4_packs 55 = .ok (.iaload, 1) := dk_46 (dk_at dksX4_packs_2 9 rfl rfl)
theorem dX4_packs_56 : decode cX4_packs 56 = .ok (.istore 7, 2) := dk_54 7 (dk_at dksX4_packs_2 10 rfl rfl)
theorem dX4_packs_58 : decode cX4_packs 58 = .ok (.iload 7, 2) := dk_21 7 (dk_at dksX4_packs_2 12 rfl rfl)
theorem dX4_packs_60 : decode cX4_packs 60 = .ok (.iconst (-1), 1) := dk_2 (dk_at dksX4_packs_2 14 rfl rfl)
theorem dX4_packs_61 : decode cX4_packs 61 = .ok (.if_icmp .eq 80, 3) := dk_159 0 80 (dk_at dksX4_packs_2 15 rfl rfl)
theorem dX4_packs_64 : decode cX4_packs 64 = .ok (.aload_n 0, 1) := dk_42 (dk_at dksX4_packs_2 18 rfl rfl)
theorem dX4_packs_65 : decode cX4_packs 65 = .ok (.getfield 20, 3) := dk_180 0 20 (dk_at dksX4_packs_2 19 rfl rfl)
theorem dX4_packs_68 : decode cX4_packs 68 = .ok (.iload_n 3, 1) := dk_29 (dk_at dksX4_packs_2 22 rfl rfl)
theorem dX4_packs_69 : decode cX4_packs 69 = .ok (.invokeinterface 68 2, 5) := by decide +kernel
theorem dX4_packs_74 : decode cX4_packs 74 = .ok (.checkcast 57, 3) := dk_192 0 57 (dk_at dksX4_packs_3 5 rfl rfl)
theorem dX4_packs_77 : decode cX4_packs 77 = .ok (.getfield 162, 3) := dk_180 0 162 (dk_at dksX4_packs_3 8 rfl rfl)
theorem dX4_packs_80 : decode cX4_packs 80 = .ok (.iload 7, 2) := dk_21 7 (dk_at dksX4_packs_3 11 rfl rfl)
theorem dX4_packs_82 : decode cX4_packs 82 = .ok (.invokeinterface 68 2, 5) := by decide +kernel
theorem dX4_packs_87 : decode cX4_packs 87 = .ok (.checkcast 165, 3) := dk_192 0 165 (dk_at dksX4_packs_3 18 rfl rfl)
theorem dX4_packs_90 : decode cX4_packs 90 = .ok (.getfield 167, 3) := dk_180 0 167 (dk_at dksX4_packs_3 21 rfl rfl)
theorem dX4_packs_93 : decode cX4_packs 93 = .ok (.iload_n 1, 1) := dk_27 (dk_at dksX4_packs_4 0 rfl rfl)
theorem dX4_packs_94 : decode cX4_packs 94 = .ok (.if_icmp .ne 47, 3) := dk_160 0 47 (dk_at dksX4_packs_4 1 rfl rfl)
theorem dX4_packs_97 : decode cX4_packs 97 = .ok (.aload_n 2, 1) := dk_44 (dk_at dksX4_packs_4 4 rfl rfl)
theorem dX4_packs_98 : decode cX4_packs 98 = .ok (.new 170, 3) := dk_187 0 170 (dk_at dksX4_packs_4 5 rfl rfl)
theorem dX4_packs_101 : decode cX4_packs 101 = .ok (.dup, 1) := dk_89 (dk_at dksX4_packs_4 8 rfl rfl)
theorem dX4_packs_102 : decode cX4_packs 102 = .ok (.aload_n 0, 1) := dk_42 (dk_at dksX4_packs_4 9 rfl rfl)
theorem dX4_packs_103 : decode cX4_packs 103 = .ok (.getfield 20, 3) := dk_180 0 20 (dk_at dksX4_packs_4 10 rfl rfl)
theorem dX4_packs_106 : decode cX4_packs 106 = .ok (.iload_n 3, 1) := dk_29 (dk_at dksX4_packs_4 13 rfl rfl)
theorem dX4_packs_107 : decode cX4_packs 107 = .ok (.invokeinterface 68 2, 5) := by decide +kernel
theorem dX4_packs_112 : decode cX4_packs 112 = .ok (.checkcast 57, 3) := dk_192 0 57 (dk_at dksX4_packs_4 19 rfl rfl)
theorem dX4_packs_115 : decode cX4_packs 115 = .ok (.getfield 162, 3) := dk_180 0 162 (dk_at dksX4_packs_5 0 rfl rfl)
theorem dX4_packs_118 : decode cX4_packs 118 = .ok (.iload 7, 2) := dk_21 7 (dk_at dksX4_packs_5 3 rfl rfl)
theorem dX4_packs_120 : decode cX4_packs 120 = .ok (.invokeinterface 68 2, 5) := by decide +kernel
theorem dX4_packs_125 : decode cX4_packs 125 = .ok (.checkcast 165, 3) := dk_192 0 165 (dk_at dksX4_packs_5 10 rfl rfl)
theorem dX4_packs_128 : decode cX4_packs 128 = .ok (.getfield 172, 3) := dk_180 0 172 (dk_at dksX4_packs_5 13 rfl rfl)
theorem dX4_packs_131 : decode cX4_packs 131 = .ok (.iload_n 3, 1) := dk_29 (dk_at dksX4_packs_5 16 rfl rfl)
theorem dX4_packs_132 : decode cX4_packs 132 = .ok (.iload 7, 2) := dk_21 7 (dk_at dksX4_packs_5 17 rfl rfl)
theorem dX4_packs_134 : decode cX4_packs 134 = .ok (.invokespecial 175, 3) := dk_183 0 175 (dk_at dksX4_packs_5 19 rfl rfl)
theorem dX4_packs_137 : decode cX4_packs 137 = .ok (.invokevirtual 178, 3) := dk_182 0 178 (dk_at dksX4_packs_6 0 rfl rfl)
theorem dX4_packs_140 : decode cX4_packs 140 = .ok (.pop, 1) := dk_87 (dk_at dksX4_packs_6 3 rfl rfl)
theorem dX4_packs_141 : decode cX4_packs 141 = .ok (.iinc 6 1, 3) := dk_132 6 1 (dk_at dksX4_packs_6 4 rfl rfl)
theorem dX4_packs_144 : decode cX4_packs 144 = .ok (.goto (-100), 3) := dk_167 255 156 (dk_at dksX4_packs_6 7 rfl rfl)
theorem dX4_packs_147 : decode cX4_packs 147 = .ok (.iinc 3 1, 3) := dk_132 3 1 (dk_at dksX4_packs_6 10 rfl rfl)
theorem dX4_packs_150 : decode cX4_packs 150 = .ok (.goto (-137), 3) := dk_167 255 119 (dk_at dksX4_packs_6 13 rfl rfl)
theorem dX4_packs_153 : decode cX4_packs 153 = .ok (.new 9, 3) := dk_187 0 9 (dk_at dksX4_packs_6 16 rfl rfl)
theorem dX4_packs_156 : decode cX4_packs 156 = .ok (.dup, 1) := dk_89 (dk_at dksX4_packs_6 19 rfl rfl)
theorem dX4_packs_157 : decode cX4_packs 157 = .ok (.iconst 4, 1) := dk_7 (dk_at dksX4_packs_6 20 rfl rfl)
theorem dX4_packs_158 : decode cX4_packs 158 = .ok (.invokespecial 11, 3) := dk_183 0 11 (dk_at dksX4_packs_6 21 rfl rfl)
theorem dX4_packs_161 : decode cX4_packs 161 = .ok (.astore_n 3, 1) := dk_78 (dk_at dksX4_packs_7 0 rfl rfl)
theorem dX4_packs_162 : decode cX4_packs 162 = .ok (.new 9, 3) := dk_187 0 9 (dk_at dksX4_packs_7 1 rfl rfl)
theorem dX4_packs_165 : decode cX4_packs 165 = .ok (.dup, 1) := dk_89 (dk_at dksX4_packs_7 4 rfl rfl)
theorem dX4_packs_166 : decode cX4_packs 166 = .ok (.iconst 4, 1) := dk_7 (dk_at dksX4_packs_7 5 rfl rfl)
theorem dX4_packs_167 : decode cX4_packs 167 = .ok (.invokespecial 11, 3) := dk_183 0 11 (dk_at dksX4_packs_7 6 rfl rfl)
theorem dX4_packs_170 : decode cX4_packs 170 = .ok (.astore 4, 2) := dk_58 4 (dk_at dksX4_packs_7 9 rfl rfl)
theorem dX4_packs_172 : decode cX4_packs 172 = .ok (.aload_n 2, 1) := dk_44 (dk_at dksX4_packs_7 11 rfl rfl)
theorem dX4_packs_173 : decode cX4_packs 173 = .ok (.invokevirtual 179, 3) := dk_182 0 179 (dk_at dksX4_packs_7 12 rfl rfl)
theorem dX4_packs_176 : decode cX4_packs 176 = .ok (.astore 5, 2) := dk_58 5 (dk_at dksX4_packs_7 15 rfl rfl)
theorem dX4_packs_178 : decode cX4_packs 178 = .ok (.aload 5, 2) := dk_25 5 (dk_at dksX4_packs_7 17 rfl rfl)
theorem dX4_packs_180 : decode cX4_packs 180 = .ok (.invokeinterface 37 1, 5) := by decide +kernel
theorem dX4_packs_185 : decode cX4_packs 185 = .ok (.ifCond .eq 103, 3) := dk_153 0 103 (dk_at dksX4_packs_8 0 rfl rfl)
theorem dX4_packs_188 : decode cX4_packs 188 = .ok (.aload 5, 2) := dk_25 5 (dk_at dksX4_packs_8 3 rfl rfl)
theorem dX4_packs_190 : decode cX4_packs 190 = .ok (.invokeinterface 43 1, 5) := by decide +kernel
theorem dX4_packs_195 : decode cX4_packs 195 = .ok (.checkcast 170, 3) := dk_192 0 170 (dk_at dksX4_packs_8 10 rfl rfl)
theorem dX4_packs_198 : decode cX4_packs 198 = .ok (.astore 6, 2) := dk_58 6 (dk_at dksX4_packs_8 13 rfl rfl)
theorem dX4_packs_200 : decode cX4_packs 200 = .ok (.aload 4, 2) := dk_25 4 (dk_at dksX4_packs_8 15 rfl rfl)
theorem dX4_packs_202 : decode cX4_packs 202 = .ok (.invokeinterface 180 1, 5) := by decide +kernel
theorem dX4_packs_207 : decode cX4_packs 207 = .ok (.ifCond .ne 68, 3) := dk_154 0 68 (dk_at dksX4_packs_9 0 rfl rfl)
theorem dX4_packs_210 : decode cX4_packs 210 = .ok (.aload 6, 2) := dk_25 6 (dk_at dksX4_packs_9 3 rfl rfl)
theorem dX4_packs_212 : decode cX4_packs 212 = .ok (.getfield 183, 3) := dk_180 0 183 (dk_at dksX4_packs_9 5 rfl rfl)
theorem dX4_packs_215 : decode cX4_packs 215 = .ok (.aload 4, 2) := dk_25 4 (dk_at dksX4_packs_9 8 rfl rfl)
theorem dX4_packs_217 : decode cX4_packs 217 = .ok (.aload 4, 2) := dk_25 4 (dk_at dksX4_packs_9 10 rfl rfl)
theorem dX4_packs_219 : decode cX4_packs 219 = .ok (.invokeinterface 86 1, 5) := by decide +kernel
theorem dX4_packs_224 : decode cX4_packs 224 = .ok (.iconst 1, 1) := dk_4 (dk_at dksX4_packs_9 17 rfl rfl)
theorem dX4_packs_225 : decode cX4_packs 225 = .ok (.isub, 1) := dk_100 (dk_at dksX4_packs_9 18 rfl rfl)
theorem dX4_packs_226 : decode cX4_packs 226 = .ok (.invokeinterface 68 2, 5) := by decide +kernel
theorem dX4_packs_231 : decode cX4_packs 231 = .ok (.checkcast 170, 3) := dk_192 0 170 (dk_at dksX4_packs_10 0 rfl rfl)
theorem dX4_packs_234 : decode cX4_packs 234 = .ok (.getfield 183, 3) := dk_180 0 183 (dk_at dksX4_packs_10 3 rfl rfl)
theorem dX4_packs_237 : decode cX4_packs 237 = .ok (.isub, 1) := dk_100 (dk_at dksX4_packs_10 6 rfl rfl)
theorem dX4_packs_238 : decode cX4_packs 238 = .ok (.aload_n 0, 1) := dk_42 (dk_at dksX4_packs_10 7 rfl rfl)
theorem dX4_packs_239 : decode cX4_packs 239 = .ok (.getfield 23, 3) := dk_180 0 23 (dk_at dksX4_packs_10 8 rfl rfl)
theorem dX4_packs_242 : decode cX4_packs 242 = .ok (.if_icmp .le 33, 3) := dk_164 0 33 (dk_at dksX4_packs_10 11 rfl rfl)
theorem dX4_packs_245 : decode cX4_packs 245 = .ok (.aload 4, 2) := dk_25 4 (dk_at dksX4_packs_10 14 rfl rfl)
theorem dX4_packs_247 : decode cX4_packs 247 = .ok (.invokeinterface 86 1, 5) := by decide +kernel
theorem dX4_packs_252 : decode cX4_packs 252 = .ok (.iconst 1, 1) := dk_4 (dk_at dksX4_packs_10 21 rfl rfl)
theorem dX4_packs_253 : decode cX4_packs 253 = .ok (.if_icmp .le 12, 3) := dk_164 0 12 (dk_at dksX4_packs_11 0 rfl rfl)
theorem dX4_packs_256 : decode cX4_packs 256 = .ok (.aload_n 3, 1) := dk_45 (dk_at dksX4_packs_11 3 rfl rfl)
theorem dX4_packs_257 : decode cX4_packs 257 = .ok (.aload 4, 2) := dk_25 4 (dk_at dksX4_packs_11 4 rfl rfl)
theorem dX4_packs_259 : decode cX4_packs 259 = .ok (.invokeinterface 53 2, 5) := by decide +kernel
theorem dX4_packs_264 : decode cX4_packs 264 = .ok (.pop, 1) := dk_87 (dk_at dksX4_packs_11 11 rfl rfl)
theorem dX4_packs_265 : decode cX4_packs 265 = .ok (.new 9, 3) := dk_187 0 9 (dk_at dksX4_packs_11 12 rfl rfl)
theorem dX4_packs_268 : decode cX4_packs 268 = .ok (.dup, 1) := dk_89 (dk_at dksX4_packs_11 15 rfl rfl)
theorem dX4_packs_269 : decode cX4_packs 269 = .ok (.iconst 4, 1) := dk_7 (dk_at dksX4_packs_11 16 rfl rfl)
theorem dX4_packs_270 : decode cX4_packs 270 = .ok (.invokespecial 11, 3) := dk_183 0 11 (dk_at dksX4_packs_11 17 rfl rfl)
theorem dX4_packs_273 : decode cX4_packs 273 = .ok (.astore 4, 2) := dk_58 4 (dk_at dksX4_packs_11 20 rfl rfl)
theorem dX4_packs_275 : decode cX4_packs 275 = .ok (.aload 4, 2) := dk_25 4 (dk_at dksX4_packs_11 22 rfl rfl)
theorem dX4_packs_277 : decode cX4_packs 277 = .ok (.aload 6, 2) := dk_25 6 (dk_at dksX4_packs_12 0 rfl rfl)
theorem dX4_packs_279 : decode cX4_packs 279 = .ok (.invokeinterface 53 2, 5) := by decide +kernel
theorem dX4_packs_284 : decode cX4_packs 284 = .ok (.pop, 1) := dk_87 (dk_at dksX4_packs_12 7 rfl rfl)
theorem dX4_packs_285 : decode cX4_packs 285 = .ok (.goto (-107), 3) := dk_167 255 149 (dk_at dksX4_packs_12 8 rfl rfl)
theorem dX4_packs_288 : decode cX4_packs 288 = .ok (.aload 4, 2) := dk_25 4 (dk_at dksX4_packs_12 11 rfl rfl)
theorem dX4_packs_290 : decode cX4_packs 290 = .ok (.invokeinterface 86 1, 5) := by decide +kernel
theorem dX4_packs_295 : decode cX4_packs 295 = .ok (.iconst 1, 1) := dk_4 (dk_at dksX4_packs_12 18 rfl rfl)
theorem dX4_packs_296 : decode cX4_packs 296 = .ok (.if_icmp .le 12, 3) := dk_164 0 12 (dk_at dksX4_packs_12 19 rfl rfl)
theorem dX4_packs_299 : decode cX4_packs 299 = .ok (.aload_n 3, 1) := dk_45 (dk_at dksX4_packs_12 22 rfl rfl)
theorem dX4_packs_300 : decode cX4_packs 300 = .ok (.aload 4, 2) := dk_25 4 (dk_at dksX4_packs_13 0 rfl rfl)
theorem dX4_packs_302 : decode cX4_packs 302 = .ok (.invokeinterface 53 2, 5) := by decide +kernel
theorem dX4_packs_307 : decode cX4_packs 307 = .ok (.pop, 1) := dk_87 (dk_at dksX4_packs_13 7 rfl rfl)
theorem dX4_packs_308 : decode cX4_packs 308 = .ok (.aload_n 3, 1) := dk_45 (dk_at dksX4_packs_13 8 rfl rfl)
theorem dX4_packs_309 : decode cX4_packs 309 = .ok (.areturn, 1) := dk_176 (dk_at dksX4_packs_13 9 rfl rfl)
theorem md_X4_packs : xMd yX4_packs cX4_packs 8 (Option.some (Jvm.ClassFile.FieldType.object "java/util/List")) 1 := ⟨q2185, q128, by decide, by decide +kernel, by decide +kernel, by decide +kernel⟩
def f_X4_packs_275 (a0 : Nat) (k178 : Nat × Nat × Option Nat × PH → Option (xO × PH)) (v3 : Nat) (v4 : Nat) (v5 : Option Nat) (v6 : Option Nat) (p0 : PH) : Option (xO × PH) :=
  (xcI (f_J3_add p0 v4 v6) fun x35 p34 =>
  (k178 (v3, v4, v5, p34)))
def f_X4_packs_265 (a0 : Nat) (k178 : Nat × Nat × Option Nat × PH → Option (xO × PH)) (v3 : Nat) (v5 : Option Nat) (v6 : Option Nat) (p0 : PH) : Option (xO × PH) :=
  (xnew p0 14 [.int 0, .null, .int 0] fun b47 p48 =>
  (xcV (f_J3_init p48 b47 4) fun p49 =>
  (f_X4_packs_275 a0 k178 v3 b47 v5 v6 p49)))
def f_X4_packs_178F (a0 : Nat)  (k178 : Nat × Nat × Option Nat × PH → Option (xO × PH)) (p : Nat × Nat × Option Nat × PH) : Option (xO × PH) := match p with
  | (v3, v4, v5, p0) => (xnul v5 none fun b17 =>
  (xsw p0 b17 fun c19 =>
  (if c19 = 20 then
  (xcI (f_J26_hasNext p0 b17 ) fun x22 p21 =>
  (if x22 = 0 then
  (xcI (f_J3_size p21 v4 ) fun x24 p23 =>
  (if x24 ≤ 1 then
  (rR (some v3) p23) else
  (xcI (f_J3_add p23 v3 (some v4)) fun x26 p25 =>
  (rR (some v3) p25)))) else
  (xsw p21 b17 fun c28 =>
  (if c28 = 20 then
  (xcR (f_J26_next p21 b17 ) fun x31 p30 =>
  (xcst p30 (x31) [11]
  (xcI (f_J3_isEmpty p30 v4 ) fun x33 p32 =>
  (if x33 = 0 then
  (xnul x31 none fun b36 =>
  (xgI p32 b36 11 0 fun x37 =>
  (xcI (f_J3_size p32 v4 ) fun x39 p38 =>
  (xcR (f_J3_get p38 v4 (x39 - 1)) fun x41 p40 =>
  (xcst p40 (x41) [11]
  (xnul x41 none fun b42 =>
  (xgI p40 b42 11 0 fun x43 =>
  (xgI p40 a0 3 2 fun x44 =>
  (if (x37 - x43) ≤ x44 then
  (f_X4_packs_275 a0 k178 v3 v4 ((some b17)) ((some b36)) p40) else
  (xcI (f_J3_size p40 v4 ) fun x46 p45 =>
  (if x46 ≤ 1 then
  (f_X4_packs_265 a0 k178 v3 ((some b17)) ((some b36)) p45) else
  (xcI (f_J3_add p45 v3 (some v4)) fun x51 p50 =>
  (f_X4_packs_265 a0 k178 v3 ((some b17)) ((some b36)) p50))))))))))))) else
  (f_X4_packs_275 a0 k178 v3 v4 ((some b17)) x31 p32))))) else
  (if c28 = 25 then
  (xcR (f_J37_next p21 b17 ) fun x53 p52 =>
  (xcst p52 (x53) [11]
  (xcI (f_J3_isEmpty p52 v4 ) fun x55 p54 =>
  (if x55 = 0 then
  (xnul x53 none fun b56 =>
  (xgI p54 b56 11 0 fun x57 =>
  (xcI (f_J3_size p54 v4 ) fun x59 p58 =>
  (xcR (f_J3_get p58 v4 (x59 - 1)) fun x61 p60 =>
  (xcst p60 (x61) [11]
  (xnul x61 none fun b62 =>
  (xgI p60 b62 11 0 fun x63 =>
  (xgI p60 a0 3 2 fun x64 =>
  (if (x57 - x63) ≤ x64 then
  (f_X4_packs_275 a0 k178 v3 v4 ((some b17)) ((some b56)) p60) else
  (xcI (f_J3_size p60 v4 ) fun x66 p65 =>
  (if x66 ≤ 1 then
  (f_X4_packs_265 a0 k178 v3 ((some b17)) ((some b56)) p65) else
  (xcI (f_J3_add p65 v3 (some v4)) fun x68 p67 =>
  (f_X4_packs_265 a0 k178 v3 ((some b17)) ((some b56)) p67))))))))))))) else
  (f_X4_packs_275 a0 k178 v3 v4 ((some b17)) x53 p54))))) else
  none))))) else
  (if c19 = 25 then
  (xcI (f_J36_hasNext p0 b17 ) fun x70 p69 =>
  (if x70 = 0 then
  (xcI (f_J3_size p69 v4 ) fun x72 p71 =>
  (if x72 ≤ 1 then
  (rR (some v3) p71) else
  (xcI (f_J3_add p71 v3 (some v4)) fun x74 p73 =>
  (rR (some v3) p73)))) else
  (xsw p69 b17 fun c76 =>
  (if c76 = 20 then
  (xcR (f_J26_next p69 b17 ) fun x79 p78 =>
  (xcst p78 (x79) [11]
  (xcI (f_J3_isEmpty p78 v4 ) fun x81 p80 =>
  (if x81 = 0 then
  (xnul x79 none fun b82 =>
  (xgI p80 b82 11 0 fun x83 =>
  (xcI (f_J3_size p80 v4 ) fun x85 p84 =>
  (xcR (f_J3_get p84 v4 (x85 - 1)) fun x87 p86 =>
  (xcst p86 (x87) [11]
  (xnul x87 none fun b88 =>
  (xgI p86 b88 11 0 fun x89 =>
  (xgI p86 a0 3 2 fun x90 =>
  (if (x83 - x89) ≤ x90 then
  (f_X4_packs_275 a0 k178 v3 v4 ((some b17)) ((some b82)) p86) else
  (xcI (f_J3_size p86 v4 ) fun x92 p91 =>
  (if x92 ≤ 1 then
  (f_X4_packs_265 a0 k178 v3 ((some b17)) ((some b82)) p91) else
  (xcI (f_J3_add p91 v3 (some v4)) fun x94 p93 =>
  (f_X4_packs_265 a0 k178 v3 ((some b17)) ((some b82)) p93))))))))))))) else
  (f_X4_packs_275 a0 k178 v3 v4 ((some b17)) x79 p80))))) else
  (if c76 = 25 then
  (xcR (f_J37_next p69 b17 ) fun x96 p95 =>
  (xcst p95 (x96) [11]
  (xcI (f_J3_isEmpty p95 v4 ) fun x98 p97 =>
  (if x98 = 0 then
  (xnul x96 none fun b99 =>
  (xgI p97 b99 11 0 fun x100 =>
  (xcI (f_J3_size p97 v4 ) fun x102 p101 =>
  (xcR (f_J3_get p101 v4 (x102 - 1)) fun x104 p103 =>
  (xcst p103 (x104) [11]
  (xnul x104 none fun b105 =>
  (xgI p103 b105 11 0 fun x106 =>
  (xgI p103 a0 3 2 fun x107 =>
  (if (x100 - x106) ≤ x107 then
  (f_X4_packs_275 a0 k178 v3 v4 ((some b17)) ((some b99)) p103) else
  (xcI (f_J3_size p103 v4 ) fun x109 p108 =>
  (if x109 ≤ 1 then
  (f_X4_packs_265 a0 k178 v3 ((some b17)) ((some b99)) p108) else
  (xcI (f_J3_add p108 v3 (some v4)) fun x111 p110 =>
  (f_X4_packs_265 a0 k178 v3 ((some b17)) ((some b99)) p110))))))))))))) else
  (f_X4_packs_275 a0 k178 v3 v4 ((some b17)) x96 p97))))) else
  none))))) else
  none))))
def f_X4_packs_141 (a0 : Nat) (k44 : Int32 × Nat × Int32 × Option Nat × Int32 × Int32 × PH → Option (xO × PH)) (v1 : Int32) (v2 : Nat) (v3 : Int32) (v4 : Option Nat) (v5 : Int32) (v6 : Int32) (p0 : PH) : Option (xO × PH) :=
  (bnd (v6 + 1) fun x121 =>
  (k44 (v1, v2, v3, v4, v5, x121, p0)))
def f_X4_packs_44F (a0 : Nat) (k13 : Int32 × Nat × Int32 × PH → Option (xO × PH)) (k44 : Int32 × Nat × Int32 × Option Nat × Int32 × Int32 × PH → Option (xO × PH)) (p : Int32 × Nat × Int32 × Option Nat × Int32 × Int32 × PH) : Option (xO × PH) := match p with
  | (v1, v2, v3, v4, v5, v6, p0) => (if v5 ≤ v6 then
  (bnd (v3 + 1) fun x118 =>
  (k13 (v1, v2, x118, p0))) else
  (xnul v4 none fun b119 =>
  (xaI p0 b119 0 v6 fun x120 =>
  (if x120 = (-1) then
  (f_X4_packs_141 a0 k44 v1 v2 v3 ((some b119)) v5 v6 p0) else
  (xgR p0 a0 3 1 fun x122 =>
  (xnul x122 none fun b123 =>
  (xcR (f_J3_get p0 b123 v3) fun x125 p124 =>
  (xcst p124 (x125) [6]
  (xnul x125 none fun b126 =>
  (xgR p124 b126 6 4 fun x127 =>
  (xnul x127 none fun b128 =>
  (xcR (f_J3_get p124 b128 x120) fun x130 p129 =>
  (xcst p129 (x130) [7]
  (xnul x130 none fun b131 =>
  (xgI p129 b131 7 0 fun x132 =>
  (if x132 = v1 then
  (xnew p129 11 [.int 0, .int 0, .int 0] fun b133 p134 =>
  (xgR p134 a0 3 1 fun x135 =>
  (xnul x135 none fun b136 =>
  (xcR (f_J3_get p134 b136 v3) fun x138 p137 =>
  (xcst p137 (x138) [6]
  (xnul x138 none fun b139 =>
  (xgR p137 b139 6 4 fun x140 =>
  (xnul x140 none fun b141 =>
  (xcR (f_J3_get p137 b141 x120) fun x143 p142 =>
  (xcst p142 (x143) [7]
  (xnul x143 none fun b144 =>
  (xgI p142 b144 7 1 fun x145 =>
  (xcV (f_X12_init p142 b133 x145 v3 x120) fun p146 =>
  (xcI (f_J34_add p146 v2 (some b133)) fun x148 p147 =>
  (f_X4_packs_141 a0 k44 v1 v2 v3 ((some b119)) v5 v6 p147))))))))))))))) else
  (f_X4_packs_141 a0 k44 v1 v2 v3 ((some b119)) v5 v6 p129)))))))))))))))))
def f_X4_packs_13F (a0 : Nat)  (k13 : Int32 × Nat × Int32 × PH → Option (xO × PH)) (p : Int32 × Nat × Int32 × PH) : Option (xO × PH) := match p with
  | (v1, v2, v3, p0) => (xgR p0 a0 3 1 fun x5 =>
  (xnul x5 none fun b6 =>
  (xcI (f_J3_size p0 b6 ) fun x8 p7 =>
  (if x8 ≤ v3 then
  (xnew p7 14 [.int 0, .null, .int 0] fun b9 p10 =>
  (xcV (f_J3_init p10 b9 4) fun p11 =>
  (xnew p11 14 [.int 0, .null, .int 0] fun b12 p13 =>
  (xcV (f_J3_init p13 b12 4) fun p14 =>
  (xcR (f_J34_iterator p14 v2 ) fun x16 p15 =>
  (lp (f_X4_packs_178F a0) FU (b9, b12, x16, p15))))))) else
  (xcR (f_X4_match p7 a0 v3) fun x113 p112 =>
  (xnul x113 none fun b114 =>
  (xgR p112 b114 8 2 fun x115 =>
  (xnul x115 none fun b116 =>
  (xlen p112 b116 fun x117 =>
  (lp (f_X4_packs_44F a0 k13) FU (v1, v2, v3, ((some b116)), x117, 0, p112)))))))))))
def f_X4_packs (p0 : PH) (a0 : Nat) (a1 : Int32) : Option (xO × PH) :=
  (xcl1 p0 a0 3 (xnew p0 23 [.null] fun b1 p2 =>
  (xcon p2 0 fun x3 =>
  (xcV (f_J34_init p2 b1 x3) fun p4 =>
  (lp (f_X4_packs_13F a0) FU (a1, b1, 0, p4))))))
theorem rc_X4_packs {p0 : PH} {a0 : Nat} {a1 : Int32} : ∀ z, f_X4_packs p0 a0 a1 = some z → xco p0 a0 = some 3 := fun z h => xcl1_some h
theorem f_X4_packs_275_ok {G : xG} (hO : xOK G) (a0 : Nat) {k178 : Nat × Nat × Option Nat × PH → Option (xO × PH)} (hk178 : ∀ (v3 : Nat) (v4 : Nat) (v5 : Option Nat) (p0 : PH), X G "ForestLegs$Meet" "packs" cX4_packs 8 (Option.some (Jvm.ClassFile.FieldType.object "java/util/List")) 10 178 [(0, .ref a0), (3, .ref v3), (4, .ref v4), (5, va_rf v5)] [] p0 (k178 (v3, v4, v5, p0))) (v3 : Nat) (v4 : Nat) (v5 : Option Nat) (v6 : Option Nat) (p0 : PH) : X G "ForestLegs$Meet" "packs" cX4_packs 8 (Option.some (Jvm.ClassFile.FieldType.object "java/util/List")) 10 275 [(0, .ref a0), (3, .ref v3), (4, .ref v4), (5, va_rf v5), (6, va_rf v6)] [] p0 (f_X4_packs_275 a0 k178 v3 v4 v5 v6 p0) := by
  unfold f_X4_packs_275
  refine x_aloadr 2 dX4_packs_275 rfl (n := 277) rfl ?_
  refine x_aload 4 dX4_packs_277 rfl (n := 279) rfl ?_
  refine x_callF_I [va_rf v6] [] (f_J3_add_ok hO p0 v4 v6) rc_J3_add md_J3_add rfl q2323 fc_java_util_ArrayList_java_util_List_add_1_Ljaval dX4_packs_279 rfl rfl (by decide) (Nat.le_of_ble_eq_true rfl) (n := 284) rfl (fun x35 p34 => ?_)
  refine x_pop dX4_packs_284 rfl (n := 285) rfl ?_
  refine x_goto dX4_packs_285 (n := 178) (by decide) ?_
  refine x_sub [0, 1, 2, 3] [(0, .ref a0), (3, .ref v3), (4, .ref v4), (5, va_rf v5)] rfl ?_
  exact hk178 v3 v4 v5 p34
theorem f_X4_packs_265_ok {G : xG} (hO : xOK G) (a0 : Nat) {k178 : Nat × Nat × Option Nat × PH → Option (xO × PH)} (hk178 : ∀ (v3 : Nat) (v4 : Nat) (v5 : Option Nat) (p0 : PH), X G "ForestLegs$Meet" "packs" cX4_packs 8 (Option.some (Jvm.ClassFile.FieldType.object "java/util/List")) 10 178 [(0, .ref a0), (3, .ref v3), (4, .ref v4), (5, va_rf v5)] [] p0 (k178 (v3, v4, v5, p0))) (v3 : Nat) (v5 : Option Nat) (v6 : Option Nat) (p0 : PH) : X G "ForestLegs$Meet" "packs" cX4_packs 8 (Option.some (Jvm.ClassFile.FieldType.object "java/util/List")) 10 265 [(0, .ref a0), (3, .ref v3), (5, va_rf v5), (6, va_rf v6)] [] p0 (f_X4_packs_265 a0 k178 v3 v5 v6 p0) := by
  unfold f_X4_packs_265
  refine x_new cl_14 (by decide) q266 q267 q130 rfl dX4_packs_265 (n := 268) rfl (fun b47 p48 => ?_)
  refine x_dup dX4_packs_268 rfl (n := 269) rfl ?_
  refine x_iconst 4 dX4_packs_269 rfl (n := 270) rfl ?_
  refine x_callI_V [.int 4] [.ref b47] (f_J3_init_ok hO p48 b47 4) md_J3_init rfl q268 q269 dX4_packs_270 rfl rfl (by decide) (Nat.le_of_ble_eq_true rfl) (n := 273) rfl (fun p49 => ?_)
  refine x_astorer [(4, .ref b47), (0, .ref a0), (3, .ref v3), (5, va_rf v5), (6, va_rf v6)] dX4_packs_273 (by decide) rfl (n := 275) rfl ?_
  refine x_sub [1, 2, 0, 3, 4] [(0, .ref a0), (3, .ref v3), (4, .ref b47), (5, va_rf v5), (6, va_rf v6)] rfl ?_
  exact f_X4_packs_275_ok hO a0 hk178 v3 b47 v5 v6 p49
theorem f_X4_packs_178F_ok {G : xG} (hO : xOK G) (a0 : Nat)  {k178 : Nat × Nat × Option Nat × PH → Option (xO × PH)} (hk178 : ∀ (v3 : Nat) (v4 : Nat) (v5 : Option Nat) (p0 : PH), X G "ForestLegs$Meet" "packs" cX4_packs 8 (Option.some (Jvm.ClassFile.FieldType.object "java/util/List")) 10 178 [(0, .ref a0), (3, .ref v3), (4, .ref v4), (5, va_rf v5)] [] p0 (k178 (v3, v4, v5, p0))) (v3 : Nat) (v4 : Nat) (v5 : Option Nat) (p0 : PH) : X G "ForestLegs$Meet" "packs" cX4_packs 8 (Option.some (Jvm.ClassFile.FieldType.object "java/util/List")) 10 178 [(0, .ref a0), (3, .ref v3), (4, .ref v4), (5, va_rf v5)] [] p0 (f_X4_packs_178F a0 k178 (v3, v4, v5, p0)) := by
  unfold f_X4_packs_178F
  refine x_aload 3 dX4_packs_178 rfl (n := 180) rfl ?_
  refine x_sm (fun b17 e => ?_)
  subst e
  refine x_sw (fun c19 e => ?_)
  refine x_ite (fun h => ?_) (fun _ => ?_)
  · subst h
    refine x_callF_I [] [] (f_J26_hasNext_ok hO p0 b17 ) rc_J26_hasNext md_J26_hasNext rfl q2317 fc_java_util_ArrayList_Itr_java_util_Iterator_hasNext_0_Z dX4_packs_180 rfl rfl (by decide) (Nat.le_of_ble_eq_true rfl) (n := 185) rfl (fun x22 p21 => ?_)
    refine x_if_eq dX4_packs_185 (t := 288) (by decide) (n := 188) rfl (fun _ => ?_) (fun _ => ?_)
    · refine x_aloadr 2 dX4_packs_288 rfl (n := 290) rfl ?_
      refine x_callF_I [] [] (f_J3_size_ok hO p21 v4 ) rc_J3_size md_J3_size rfl q1740 fc_java_util_ArrayList_java_util_List_size_0_I dX4_packs_290 rfl rfl (by decide) (Nat.le_of_ble_eq_true rfl) (n := 295) rfl (fun x24 p23 => ?_)
      refine x_iconst 1 dX4_packs_295 rfl (n := 296) rfl ?_
      refine x_icmp_le dX4_packs_296 (t := 308) (by decide) (n := 299) rfl (fun _ => ?_) (fun _ => ?_)
      · refine x_aload_nr 1 dX4_packs_308 rfl rfl (n := 309) rfl ?_
        exact x_areturn (x := some v3) (Or.inl ⟨_, rfl⟩) dX4_packs_309
      · refine x_aload_nr 1 dX4_packs_299 rfl rfl (n := 300) rfl ?_
        refine x_aloadr 2 dX4_packs_300 rfl (n := 302) rfl ?_
        refine x_callF_I [.ref v4] [] (f_J3_add_ok hO p23 v3 (some v4)) rc_J3_add md_J3_add rfl q2323 fc_java_util_ArrayList_java_util_List_add_1_Ljaval dX4_packs_302 rfl rfl (by decide) (Nat.le_of_ble_eq_true rfl) (n := 307) rfl (fun x26 p25 => ?_)
        refine x_pop dX4_packs_307 rfl (n := 308) rfl ?_
        refine x_aload_nr 1 dX4_packs_308 rfl rfl (n := 309) rfl ?_
        exact x_areturn (x := some v3) (Or.inl ⟨_, rfl⟩) dX4_packs_309
    · refine x_aloadr 3 dX4_packs_188 rfl (n := 190) rfl ?_
      refine x_sw (fun c28 e => ?_)
      refine x_ite (fun h => ?_) (fun _ => ?_)
      · subst h
        refine x_callF_R [] [] (f_J26_next_ok hO p21 b17 ) rc_J26_next md_J26_next rfl q2319 fc_java_util_ArrayList_Itr_java_util_Iterator_next_0_Ljaval dX4_packs_190 rfl rfl (by decide) (Nat.le_of_ble_eq_true rfl) (n := 195) rfl (fun x31 p30 => ?_)
        refine x_cast (x := x31) (cs := [11]) q2209 cst_ForestLegs_Stamp dX4_packs_195 (n := 198) rfl ?_
        refine x_astore [(6, va_rf x31), (0, .ref a0), (3, .ref v3), (4, .ref v4), (5, .ref b17)] dX4_packs_198 (by decide) rfl (n := 200) rfl ?_
        refine x_aloadr 3 dX4_packs_200 rfl (n := 202) rfl ?_
        refine x_callF_I [] [] (f_J3_isEmpty_ok hO p30 v4 ) rc_J3_isEmpty md_J3_isEmpty rfl q2321 fc_java_util_ArrayList_java_util_List_isEmpty_0_Z dX4_packs_202 rfl rfl (by decide) (Nat.le_of_ble_eq_true rfl) (n := 207) rfl (fun x33 p32 => ?_)
        refine x_if_ne dX4_packs_207 (t := 275) (by decide) (n := 210) rfl (fun _ => ?_) (fun _ => ?_)
        · refine x_sub [1, 2, 3, 4, 0] [(0, .ref a0), (3, .ref v3), (4, .ref v4), (5, .ref b17), (6, va_rf x31)] rfl ?_
          exact f_X4_packs_275_ok hO a0 hk178 v3 v4 ((some b17)) x31 p32
        · refine x_aload 0 dX4_packs_210 rfl (n := 212) rfl ?_
          refine x_sm (fun b36 e => ?_)
          subst e
          refine x_getI fl_X4_183 dX4_packs_212 (n := 215) rfl (fun x37 => ?_)
          refine x_aloadr 3 dX4_packs_215 rfl (n := 217) rfl ?_
          refine x_aloadr 3 dX4_packs_217 rfl (n := 219) rfl ?_
          refine x_callF_I [] [.ref v4, .int x37] (f_J3_size_ok hO p32 v4 ) rc_J3_size md_J3_size rfl q1740 fc_java_util_ArrayList_java_util_List_size_0_I dX4_packs_219 rfl rfl (by decide) (Nat.le_of_ble_eq_true rfl) (n := 224) rfl (fun x39 p38 => ?_)
          refine x_iconst 1 dX4_packs_224 rfl (n := 225) rfl ?_
          refine x_isub dX4_packs_225 (n := 226) rfl ?_
          refine x_callF_R [.int (x39 - 1)] [.int x37] (f_J3_get_ok hO p38 v4 (x39 - 1)) rc_J3_get md_J3_get rfl q1511 fc_java_util_ArrayList_java_util_List_get_1_ILjava dX4_packs_226 rfl rfl (by decide) (Nat.le_of_ble_eq_true rfl) (n := 231) rfl (fun x41 p40 => ?_)
          refine x_cast (x := x41) (cs := [11]) q2209 cst_ForestLegs_Stamp dX4_packs_231 (n := 234) rfl ?_
          refine x_sm (fun b42 e => ?_)
          subst e
          refine x_getI fl_X4_183 dX4_packs_234 (n := 237) rfl (fun x43 => ?_)
          refine x_isub dX4_packs_237 (n := 238) rfl ?_
          refine x_aload_nr 1 dX4_packs_238 rfl rfl (n := 239) rfl ?_
          refine x_getI fl_X4_23 dX4_packs_239 (n := 242) rfl (fun x44 => ?_)
          refine x_icmp_le dX4_packs_242 (t := 275) (by decide) (n := 245) rfl (fun _ => ?_) (fun _ => ?_)
          · refine x_sub [1, 2, 3, 4, 0] [(0, .ref a0), (3, .ref v3), (4, .ref v4), (5, .ref b17), (6, .ref b36)] rfl ?_
            exact f_X4_packs_275_ok hO a0 hk178 v3 v4 ((some b17)) ((some b36)) p40
          · refine x_aloadr 3 dX4_packs_245 rfl (n := 247) rfl ?_
            refine x_callF_I [] [] (f_J3_size_ok hO p40 v4 ) rc_J3_size md_J3_size rfl q1740 fc_java_util_ArrayList_java_util_List_size_0_I dX4_packs_247 rfl rfl (by decide) (Nat.le_of_ble_eq_true rfl) (n := 252) rfl (fun x46 p45 => ?_)
            refine x_iconst 1 dX4_packs_252 rfl (n := 253) rfl ?_
            refine x_icmp_le dX4_packs_253 (t := 265) (by decide) (n := 256) rfl (fun _ => ?_) (fun _ => ?_)
            · refine x_sub [1, 2, 4, 0] [(0, .ref a0), (3, .ref v3), (5, .ref b17), (6, .ref b36)] rfl ?_
              exact f_X4_packs_265_ok hO a0 hk178 v3 ((some b17)) ((some b36)) p45
            · refine x_aload_nr 2 dX4_packs_256 rfl rfl (n := 257) rfl ?_
              refine x_aloadr 3 dX4_packs_257 rfl (n := 259) rfl ?_
              refine x_callF_I [.ref v4] [] (f_J3_add_ok hO p45 v3 (some v4)) rc_J3_add md_J3_add rfl q2323 fc_java_util_ArrayList_java_util_List_add_1_Ljaval dX4_packs_259 rfl rfl (by decide) (Nat.le_of_ble_eq_true rfl) (n := 264) rfl (fun x51 p50 => ?_)
              refine x_pop dX4_packs_264 rfl (n := 265) rfl ?_
              refine x_sub [1, 2, 4, 0] [(0, .ref a0), (3, .ref v3), (5, .ref b17), (6, .ref b36)] rfl ?_
              exact f_X4_packs_265_ok hO a0 hk178 v3 ((some b17)) ((some b36)) p50
      refine x_ite (fun h => ?_) (fun _ => ?_)
      · subst h
        refine x_callF_R [] [] (f_J37_next_ok hO p21 b17 ) rc_J37_next md_J37_next rfl q2319 fc_java_util_TreeMap_KeyIterator_java_util_Iterator_next_0_Ljaval dX4_packs_190 rfl rfl (by decide) (Nat.le_of_ble_eq_true rfl) (n := 195) rfl (fun x53 p52 => ?_)
        refine x_cast (x := x53) (cs := [11]) q2209 cst_ForestLegs_Stamp dX4_packs_195 (n := 198) rfl ?_
        refine x_astore [(6, va_rf x53), (0, .ref a0), (3, .ref v3), (4, .ref v4), (5, .ref b17)] dX4_packs_198 (by decide) rfl (n := 200) rfl ?_
        refine x_aloadr 3 dX4_packs_200 rfl (n := 202) rfl ?_
        refine x_callF_I [] [] (f_J3_isEmpty_ok hO p52 v4 ) rc_J3_isEmpty md_J3_isEmpty rfl q2321 fc_java_util_ArrayList_java_util_List_isEmpty_0_Z dX4_packs_202 rfl rfl (by decide) (Nat.le_of_ble_eq_true rfl) (n := 207) rfl (fun x55 p54 => ?_)
        refine x_if_ne dX4_packs_207 (t := 275) (by decide) (n := 210) rfl (fun _ => ?_) (fun _ => ?_)
        · refine x_sub [1, 2, 3, 4, 0] [(0, .ref a0), (3, .ref v3), (4, .ref v4), (5, .ref b17), (6, va_rf x53)] rfl ?_
          exact f_X4_packs_275_ok hO a0 hk178 v3 v4 ((some b17)) x53 p54
        · refine x_aload 0 dX4_packs_210 rfl (n := 212) rfl ?_
          refine x_sm (fun b56 e => ?_)
          subst e
          refine x_getI fl_X4_183 dX4_packs_212 (n := 215) rfl (fun x57 => ?_)
          refine x_aloadr 3 dX4_packs_215 rfl (n := 217) rfl ?_
          refine x_aloadr 3 dX4_packs_217 rfl (n := 219) rfl ?_
          refine x_callF_I [] [.ref v4, .int x57] (f_J3_size_ok hO p54 v4 ) rc_J3_size md_J3_size rfl q1740 fc_java_util_ArrayList_java_util_List_size_0_I dX4_packs_219 rfl rfl (by decide) (Nat.le_of_ble_eq_true rfl) (n := 224) rfl (fun x59 p58 => ?_)
          refine x_iconst 1 dX4_packs_224 rfl (n := 225) rfl ?_
          refine x_isub dX4_packs_225 (n := 226) rfl ?_
          refine x_callF_R [.int (x59 - 1)] [.int x57] (f_J3_get_ok hO p58 v4 (x59 - 1)) rc_J3_get md_J3_get rfl q1511 fc_java_util_ArrayList_java_util_List_get_1_ILjava dX4_packs_226 rfl rfl (by decide) (Nat.le_of_ble_eq_true rfl) (n := 231) rfl (fun x61 p60 => ?_)
          refine x_cast (x := x61) (cs := [11]) q2209 cst_ForestLegs_Stamp dX4_packs_231 (n := 234) rfl ?_
          refine x_sm (fun b62 e => ?_)
          subst e
          refine x_getI fl_X4_183 dX4_packs_234 (n := 237) rfl (fun x63 => ?_)
          refine x_isub dX4_packs_237 (n := 238) rfl ?_
          refine x_aload_nr 1 dX4_packs_238 rfl rfl (n := 239) rfl ?_
          refine x_getI fl_X4_23 dX4_packs_239 (n := 242) rfl (fun x64 => ?_)
          refine x_icmp_le dX4_packs_242 (t := 275) (by decide) (n := 245) rfl (fun _ => ?_) (fun _ => ?_)
          · refine x_sub [1, 2, 3, 4, 0] [(0, .ref a0), (3, .ref v3), (4, .ref v4), (5, .ref b17), (6, .ref b56)] rfl ?_
            exact f_X4_packs_275_ok hO a0 hk178 v3 v4 ((some b17)) ((some b56)) p60
          · refine x_aloadr 3 dX4_packs_245 rfl (n := 247) rfl ?_
            refine x_callF_I [] [] (f_J3_size_ok hO p60 v4 ) rc_J3_size md_J3_size rfl q1740 fc_java_util_ArrayList_java_util_List_size_0_I dX4_packs_247 rfl rfl (by decide) (Nat.le_of_ble_eq_true rfl) (n := 252) rfl (fun x66 p65 => ?_)
            refine x_iconst 1 dX4_packs_252 rfl (n := 253) rfl ?_
            refine x_icmp_le dX4_packs_253 (t := 265) (by decide) (n := 256) rfl (fun _ => ?_) (fun _ => ?_)
            · refine x_sub [1, 2, 4, 0] [(0, .ref a0), (3, .ref v3), (5, .ref b17), (6, .ref b56)] rfl ?_
              exact f_X4_packs_265_ok hO a0 hk178 v3 ((some b17)) ((some b56)) p65
            · refine x_aload_nr 2 dX4_packs_256 rfl rfl (n := 257) rfl ?_
              refine x_aloadr 3 dX4_packs_257 rfl (n := 259) rfl ?_
              refine x_callF_I [.ref v4] [] (f_J3_add_ok hO p65 v3 (some v4)) rc_J3_add md_J3_add rfl q2323 fc_java_util_ArrayList_java_util_List_add_1_Ljaval dX4_packs_259 rfl rfl (by decide) (Nat.le_of_ble_eq_true rfl) (n := 264) rfl (fun x68 p67 => ?_)
              refine x_pop dX4_packs_264 rfl (n := 265) rfl ?_
              refine x_sub [1, 2, 4, 0] [(0, .ref a0), (3, .ref v3), (5, .ref b17), (6, .ref b56)] rfl ?_
              exact f_X4_packs_265_ok hO a0 hk178 v3 ((some b17)) ((some b56)) p67
      exact x_no
  refine x_ite (fun h => ?_) (fun _ => ?_)
  · subst h
    refine x_callF_I [] [] (f_J36_hasNext_ok hO p0 b17 ) rc_J36_hasNext md_J36_hasNext rfl q2317 fc_java_util_TreeMap_KeyIterator_java_util_Iterator_hasNext_0_Z dX4_packs_180 rfl rfl (by decide) (Nat.le_of_ble_eq_true rfl) (n := 185) rfl (fun x70 p69 => ?_)
    refine x_if_eq dX4_packs_185 (t := 288) (by decide) (n := 188) rfl (fun _ => ?_) (fun _ => ?_)
    · refine x_aloadr 2 dX4_packs_288 rfl (n := 290) rfl ?_
      refine x_callF_I [] [] (f_J3_size_ok hO p69 v4 ) rc_J3_size md_J3_size rfl q1740 fc_java_util_ArrayList_java_util_List_size_0_I dX4_packs_290 rfl rfl (by decide) (Nat.le_of_ble_eq_true rfl) (n := 295) rfl (fun x72 p71 => ?_)
      refine x_iconst 1 dX4_packs_295 rfl (n := 296) rfl ?_
      refine x_icmp_le dX4_packs_296 (t := 308) (by decide) (n := 299) rfl (fun _ => ?_) (fun _ => ?_)
      · refine x_aload_nr 1 dX4_packs_308 rfl rfl (n := 309) rfl ?_
        exact x_areturn (x := some v3) (Or.inl ⟨_, rfl⟩) dX4_packs_309
      · refine x_aload_nr 1 dX4_packs_299 rfl rfl (n := 300) rfl ?_
        refine x_aloadr 2 dX4_packs_300 rfl (n := 302) rfl ?_
        refine x_callF_I [.ref v4] [] (f_J3_add_ok hO p71 v3 (some v4)) rc_J3_add md_J3_add rfl q2323 fc_java_util_ArrayList_java_util_List_add_1_Ljaval dX4_packs_302 rfl rfl (by decide) (Nat.le_of_ble_eq_true rfl) (n := 307) rfl (fun x74 p73 => ?_)
        refine x_pop dX4_packs_307 rfl (n := 308) rfl ?_
        refine x_aload_nr 1 dX4_packs_308 rfl rfl (n := 309) rfl ?_
        exact x_areturn (x := some v3) (Or.inl ⟨_, rfl⟩) dX4_packs_309
    · refine x_aloadr 3 dX4_packs_188 rfl (n := 190) rfl ?_
      refine x_sw (fun c76 e => ?_)
      refine x_ite (fun h => ?_) (fun _ => ?_)
      · subst h
        refine x_callF_R [] [] (f_J26_next_ok hO p69 b17 ) rc_J26_next md_J26_next rfl q2319 fc_java_util_ArrayList_Itr_java_util_Iterator_next_0_Ljaval dX4_packs_190 rfl rfl (by decide) (Nat.le_of_ble_eq_true rfl) (n := 195) rfl (fun x79 p78 => ?_)
        refine x_cast (x := x79) (cs := [11]) q2209 cst_ForestLegs_Stamp dX4_packs_195 (n := 198) rfl ?_
        refine x_astore [(6, va_rf x79), (0, .ref a0), (3, .ref v3), (4, .ref v4), (5, .ref b17)] dX4_packs_198 (by decide) rfl (n := 200) rfl ?_
        refine x_aloadr 3 dX4_packs_200 rfl (n := 202) rfl ?_
        refine x_callF_I [] [] (f_J3_isEmpty_ok hO p78 v4 ) rc_J3_isEmpty md_J3_isEmpty rfl q2321 fc_java_util_ArrayList_java_util_List_isEmpty_0_Z dX4_packs_202 rfl rfl (by decide) (Nat.le_of_ble_eq_true rfl) (n := 207) rfl (fun x81 p80 => ?_)
        refine x_if_ne dX4_packs_207 (t := 275) (by decide) (n := 210) rfl (fun _ => ?_) (fun _ => ?_)
        · refine x_sub [1, 2, 3, 4, 0] [(0, .ref a0), (3, .ref v3), (4, .ref v4), (5, .ref b17), (6, va_rf x79)] rfl ?_
          exact f_X4_packs_275_ok hO a0 hk178 v3 v4 ((some b17)) x79 p80
        · refine x_aload 0 dX4_packs_210 rfl (n := 212) rfl ?_
          refine x_sm (fun b82 e => ?_)
          subst e
          refine x_getI fl_X4_183 dX4_packs_212 (n := 215) rfl (fun x83 => ?_)
          refine x_aloadr 3 dX4_packs_215 rfl (n := 217) rfl ?_
          refine x_aloadr 3 dX4_packs_217 rfl (n := 219) rfl ?_
          refine x_callF_I [] [.ref v4, .int x83] (f_J3_size_ok hO p80 v4 ) rc_J3_size md_J3_size rfl q1740 fc_java_util_ArrayList_java_util_List_size_0_I dX4_packs_219 rfl rfl (by decide) (Nat.le_of_ble_eq_true rfl) (n := 224) rfl (fun x85 p84 => ?_)
          refine x_iconst 1 dX4_packs_224 rfl (n := 225) rfl ?_
          refine x_isub dX4_packs_225 (n := 226) rfl ?_
          refine x_callF_R [.int (x85 - 1)] [.int x83] (f_J3_get_ok hO p84 v4 (x85 - 1)) rc_J3_get md_J3_get rfl q1511 fc_java_util_ArrayList_java_util_List_get_1_ILjava dX4_packs_226 rfl rfl (by decide) (Nat.le_of_ble_eq_true rfl) (n := 231) rfl (fun x87 p86 => ?_)
          refine x_cast (x := x87) (cs := [11]) q2209 cst_ForestLegs_Stamp dX4_packs_231 (n := 234) rfl ?_
          refine x_sm (fun b88 e => ?_)
          subst e
          refine x_getI fl_X4_183 dX4_packs_234 (n := 237) rfl (fun x89 => ?_)
          refine x_isub dX4_packs_237 (n := 238) rfl ?_
          refine x_aload_nr 1 dX4_packs_238 rfl rfl (n := 239) rfl ?_
          refine x_getI fl_X4_23 dX4_packs_239 (n := 242) rfl (fun x90 => ?_)
          refine x_icmp_le dX4_packs_242 (t := 275) (by decide) (n := 245) rfl (fun _ => ?_) (fun _ => ?_)
          · refine x_sub [1, 2, 3, 4, 0] [(0, .ref a0), (3, .ref v3), (4, .ref v4), (5, .ref b17), (6, .ref b82)] rfl ?_
            exact f_X4_packs_275_ok hO a0 hk178 v3 v4 ((some b17)) ((some b82)) p86
          · refine x_aloadr 3 dX4_packs_245 rfl (n := 247) rfl ?_
            refine x_callF_I [] [] (f_J3_size_ok hO p86 v4 ) rc_J3_size md_J3_size rfl q1740 fc_java_util_ArrayList_java_util_List_size_0_I dX4_packs_247 rfl rfl (by decide) (Nat.le_of_ble_eq_true rfl) (n := 252) rfl (fun x92 p91 => ?_)
            refine x_iconst 1 dX4_packs_252 rfl (n := 253) rfl ?_
            refine x_icmp_le dX4_packs_253 (t := 265) (by decide) (n := 256) rfl (fun _ => ?_) (fun _ => ?_)
            · refine x_sub [1, 2, 4, 0] [(0, .ref a0), (3, .ref v3), (5, .ref b17), (6, .ref b82)] rfl ?_
              exact f_X4_packs_265_ok hO a0 hk178 v3 ((some b17)) ((some b82)) p91
            · refine x_aload_nr 2 dX4_packs_256 rfl rfl (n := 257) rfl ?_
              refine x_aloadr 3 dX4_packs_257 rfl (n := 259) rfl ?_
              refine x_callF_I [.ref v4] [] (f_J3_add_ok hO p91 v3 (some v4)) rc_J3_add md_J3_add rfl q2323 fc_java_util_ArrayList_java_util_List_add_1_Ljaval dX4_packs_259 rfl rfl (by decide) (Nat.le_of_ble_eq_true rfl) (n := 264) rfl (fun x94 p93 => ?_)
              refine x_pop dX4_packs_264 rfl (n := 265) rfl ?_
              refine x_sub [1, 2, 4, 0] [(0, .ref a0), (3, .ref v3), (5, .ref b17), (6, .ref b82)] rfl ?_
              exact f_X4_packs_265_ok hO a0 hk178 v3 ((some b17)) ((some b82)) p93
      refine x_ite (fun h => ?_) (fun _ => ?_)
      · subst h
        refine x_callF_R [] [] (f_J37_next_ok hO p69 b17 ) rc_J37_next md_J37_next rfl q2319 fc_java_util_TreeMap_KeyIterator_java_util_Iterator_next_0_Ljaval dX4_packs_190 rfl rfl (by decide) (Nat.le_of_ble_eq_true rfl) (n := 195) rfl (fun x96 p95 => ?_)
        refine x_cast (x := x96) (cs := [11]) q2209 cst_ForestLegs_Stamp dX4_packs_195 (n := 198) rfl ?_
        refine x_astore [(6, va_rf x96), (0, .ref a0), (3, .ref v3), (4, .ref v4), (5, .ref b17)] dX4_packs_198 (by decide) rfl (n := 200) rfl ?_
        refine x_aloadr 3 dX4_packs_200 rfl (n := 202) rfl ?_
        refine x_callF_I [] [] (f_J3_isEmpty_ok hO p95 v4 ) rc_J3_isEmpty md_J3_isEmpty rfl q2321 fc_java_util_ArrayList_java_util_List_isEmpty_0_Z dX4_packs_202 rfl rfl (by decide) (Nat.le_of_ble_eq_true rfl) (n := 207) rfl (fun x98 p97 => ?_)
        refine x_if_ne dX4_packs_207 (t := 275) (by decide) (n := 210) rfl (fun _ => ?_) (fun _ => ?_)
        · refine x_sub [1, 2, 3, 4, 0] [(0, .ref a0), (3, .ref v3), (4, .ref v4), (5, .ref b17), (6, va_rf x96)] rfl ?_
          exact f_X4_packs_275_ok hO a0 hk178 v3 v4 ((some b17)) x96 p97
        · refine x_aload 0 dX4_packs_210 rfl (n := 212) rfl ?_
          refine x_sm (fun b99 e => ?_)
          subst e
          refine x_getI fl_X4_183 dX4_packs_212 (n := 215) rfl (fun x100 => ?_)
          refine x_aloadr 3 dX4_packs_215 rfl (n := 217) rfl ?_
          refine x_aloadr 3 dX4_packs_217 rfl (n := 219) rfl ?_
          refine x_callF_I [] [.ref v4, .int x100] (f_J3_size_ok hO p97 v4 ) rc_J3_size md_J3_size rfl q1740 fc_java_util_ArrayList_java_util_List_size_0_I dX4_packs_219 rfl rfl (by decide) (Nat.le_of_ble_eq_true rfl) (n := 224) rfl (fun x102 p101 => ?_)
          refine x_iconst 1 dX4_packs_224 rfl (n := 225) rfl ?_
          refine x_isub dX4_packs_225 (n := 226) rfl ?_
          refine x_callF_R [.int (x102 - 1)] [.int x100] (f_J3_get_ok hO p101 v4 (x102 - 1)) rc_J3_get md_J3_get rfl q1511 fc_java_util_ArrayList_java_util_List_get_1_ILjava dX4_packs_226 rfl rfl (by decide) (Nat.le_of_ble_eq_true rfl) (n := 231) rfl (fun x104 p103 => ?_)
          refine x_cast (x := x104) (cs := [11]) q2209 cst_ForestLegs_Stamp dX4_packs_231 (n := 234) rfl ?_
          refine x_sm (fun b105 e => ?_)
          subst e
          refine x_getI fl_X4_183 dX4_packs_234 (n := 237) rfl (fun x106 => ?_)
          refine x_isub dX4_packs_237 (n := 238) rfl ?_
          refine x_aload_nr 1 dX4_packs_238 rfl rfl (n := 239) rfl ?_
          refine x_getI fl_X4_23 dX4_packs_239 (n := 242) rfl (fun x107 => ?_)
          refine x_icmp_le dX4_packs_242 (t := 275) (by decide) (n := 245) rfl (fun _ => ?_) (fun _ => ?_)
          · refine x_sub [1, 2, 3, 4, 0] [(0, .ref a0), (3, .ref v3), (4, .ref v4), (5, .ref b17), (6, .ref b99)] rfl ?_
            exact f_X4_packs_275_ok hO a0 hk178 v3 v4 ((some b17)) ((some b99)) p103
          · refine x_aloadr 3 dX4_packs_245 rfl (n := 247) rfl ?_
            refine x_callF_I [] [] (f_J3_size_ok hO p103 v4 ) rc_J3_size md_J3_size rfl q1740 fc_java_util_ArrayList_java_util_List_size_0_I dX4_packs_247 rfl rfl (by decide) (Nat.le_of_ble_eq_true rfl) (n := 252) rfl (fun x109 p108 => ?_)
            refine x_iconst 1 dX4_packs_252 rfl (n := 253) rfl ?_
            refine x_icmp_le dX4_packs_253 (t := 265) (by decide) (n := 256) rfl (fun _ => ?_) (fun _ => ?_)
            · refine x_sub [1, 2, 4, 0] [(0, .ref a0), (3, .ref v3), (5, .ref b17), (6, .ref b99)] rfl ?_
              exact f_X4_packs_265_ok hO a0 hk178 v3 ((some b17)) ((some b99)) p108
            · refine x_aload_nr 2 dX4_packs_256 rfl rfl (n := 257) rfl ?_
              refine x_aloadr 3 dX4_packs_257 rfl (n := 259) rfl ?_
              refine x_callF_I [.ref v4] [] (f_J3_add_ok hO p108 v3 (some v4)) rc_J3_add md_J3_add rfl q2323 fc_java_util_ArrayList_java_util_List_add_1_Ljaval dX4_packs_259 rfl rfl (by decide) (Nat.le_of_ble_eq_true rfl) (n := 264) rfl (fun x111 p110 => ?_)
              refine x_pop dX4_packs_264 rfl (n := 265) rfl ?_
              refine x_sub [1, 2, 4, 0] [(0, .ref a0), (3, .ref v3), (5, .ref b17), (6, .ref b99)] rfl ?_
              exact f_X4_packs_265_ok hO a0 hk178 v3 ((some b17)) ((some b99)) p110
      exact x_no
  exact x_no
theorem f_X4_packs_178_lp {G : xG} (hO : xOK G) (a0 : Nat)  (n : Nat) (v3 : Nat) (v4 : Nat) (v5 : Option Nat) (p0 : PH) : X G "ForestLegs$Meet" "packs" cX4_packs 8 (Option.some (Jvm.ClassFile.FieldType.object "java/util/List")) 10 178 [(0, .ref a0), (3, .ref v3), (4, .ref v4), (5, va_rf v5)] [] p0 (lp (f_X4_packs_178F a0) n (v3, v4, v5, p0)) :=
  lp_ok (W := fun p K => X G "ForestLegs$Meet" "packs" cX4_packs 8 (Option.some (Jvm.ClassFile.FieldType.object "java/util/List")) 10 178 [(0, .ref a0), (3, .ref p.1), (4, .ref p.2.1), (5, va_rf p.2.2.1)] [] p.2.2.2 K) (fun _ => x_no) (fun k hk => fun (v3, v4, v5, p0) => f_X4_packs_178F_ok hO a0 (fun v3 v4 v5 p0 => hk (v3, v4, v5, p0)) v3 v4 v5 p0) n (v3, v4, v5, p0)
theorem f_X4_packs_141_ok {G : xG} (hO : xOK G) (a0 : Nat) {k44 : Int32 × Nat × Int32 × Option Nat × Int32 × Int32 × PH → Option (xO × PH)} (hk44 : ∀ (v1 : Int32) (v2 : Nat) (v3 : Int32) (v4 : Option Nat) (v5 : Int32) (v6 : Int32) (p0 : PH), X G "ForestLegs$Meet" "packs" cX4_packs 8 (Option.some (Jvm.ClassFile.FieldType.object "java/util/List")) 10 44 [(0, .ref a0), (1, .int v1), (2, .ref v2), (3, .int v3), (4, va_rf v4), (5, .int v5), (6, .int v6)] [] p0 (k44 (v1, v2, v3, v4, v5, v6, p0))) (v1 : Int32) (v2 : Nat) (v3 : Int32) (v4 : Option Nat) (v5 : Int32) (v6 : Int32) (p0 : PH) : X G "ForestLegs$Meet" "packs" cX4_packs 8 (Option.some (Jvm.ClassFile.FieldType.object "java/util/List")) 10 141 [(0, .ref a0), (1, .int v1), (2, .ref v2), (3, .int v3), (4, va_rf v4), (5, .int v5), (6, .int v6)] [] p0 (f_X4_packs_141 a0 k44 v1 v2 v3 v4 v5 v6 p0) := by
  unfold f_X4_packs_141
  refine x_iincB 6 (fun x121 => [(6, .int x121), (0, .ref a0), (1, .int v1), (2, .ref v2), (3, .int v3), (4, va_rf v4), (5, .int v5)]) dX4_packs_141 rfl rfl (by decide) (fun _ => rfl) (n := 144) rfl (fun x121 => ?_)
  refine x_goto dX4_packs_144 (n := 44) (by decide) ?_
  refine x_sub [1, 2, 3, 4, 5, 6, 0] [(0, .ref a0), (1, .int v1), (2, .ref v2), (3, .int v3), (4, va_rf v4), (5, .int v5), (6, .int x121)] rfl ?_
  exact hk44 v1 v2 v3 v4 v5 x121 p0
theorem f_X4_packs_44F_ok {G : xG} (hO : xOK G) (a0 : Nat) {k13 : Int32 × Nat × Int32 × PH → Option (xO × PH)} (hk13 : ∀ (v1 : Int32) (v2 : Nat) (v3 : Int32) (p0 : PH), X G "ForestLegs$Meet" "packs" cX4_packs 8 (Option.some (Jvm.ClassFile.FieldType.object "java/util/List")) 10 13 [(0, .ref a0), (1, .int v1), (2, .ref v2), (3, .int v3)] [] p0 (k13 (v1, v2, v3, p0))) {k44 : Int32 × Nat × Int32 × Option Nat × Int32 × Int32 × PH → Option (xO × PH)} (hk44 : ∀ (v1 : Int32) (v2 : Nat) (v3 : Int32) (v4 : Option Nat) (v5 : Int32) (v6 : Int32) (p0 : PH), X G "ForestLegs$Meet" "packs" cX4_packs 8 (Option.some (Jvm.ClassFile.FieldType.object "java/util/List")) 10 44 [(0, .ref a0), (1, .int v1), (2, .ref v2), (3, .int v3), (4, va_rf v4), (5, .int v5), (6, .int v6)] [] p0 (k44 (v1, v2, v3, v4, v5, v6, p0))) (v1 : Int32) (v2 : Nat) (v3 : Int32) (v4 : Option Nat) (v5 : Int32) (v6 : Int32) (p0 : PH) : X G "ForestLegs$Meet" "packs" cX4_packs 8 (Option.some (Jvm.ClassFile.FieldType.object "java/util/List")) 10 44 [(0, .ref a0), (1, .int v1), (2, .ref v2), (3, .int v3), (4, va_rf v4), (5, .int v5), (6, .int v6)] [] p0 (f_X4_packs_44F a0 k13 k44 (v1, v2, v3, v4, v5, v6, p0)) := by
  unfold f_X4_packs_44F
  refine x_iload 6 dX4_packs_44 rfl (n := 46) rfl ?_
  refine x_iload 5 dX4_packs_46 rfl (n := 48) rfl ?_
  refine x_icmp_ge dX4_packs_48 (t := 147) (by decide) (n := 51) rfl (fun _ => ?_) (fun _ => ?_)
  · refine x_iincB 3 (fun x118 => [(3, .int x118), (0, .ref a0), (1, .int v1), (2, .ref v2), (4, va_rf v4), (5, .int v5), (6, .int v6)]) dX4_packs_147 rfl rfl (by decide) (fun _ => rfl) (n := 150) rfl (fun x118 => ?_)
    refine x_goto dX4_packs_150 (n := 13) (by decide) ?_
    refine x_sub [1, 2, 3, 0] [(0, .ref a0), (1, .int v1), (2, .ref v2), (3, .int x118)] rfl ?_
    exact hk13 v1 v2 x118 p0
  · refine x_aload 4 dX4_packs_51 rfl (n := 53) rfl ?_
    refine x_iload 6 dX4_packs_53 rfl (n := 55) rfl ?_
    refine x_sm (fun b119 e => ?_)
    subst e
    refine x_iald (t := 0) rfl dX4_packs_55 (n := 56) rfl (fun x120 => ?_)
    refine x_istore [(7, .int x120), (0, .ref a0), (1, .int v1), (2, .ref v2), (3, .int v3), (4, .ref b119), (5, .int v5), (6, .int v6)] dX4_packs_56 (by decide) rfl (n := 58) rfl ?_
    refine x_iload 0 dX4_packs_58 rfl (n := 60) rfl ?_
    refine x_iconst (-1) dX4_packs_60 rfl (n := 61) rfl ?_
    refine x_icmp_eq dX4_packs_61 (t := 141) (by decide) (n := 64) rfl (fun _ => ?_) (fun _ => ?_)
    · refine x_sub [1, 2, 3, 4, 5, 6, 7] [(0, .ref a0), (1, .int v1), (2, .ref v2), (3, .int v3), (4, .ref b119), (5, .int v5), (6, .int v6)] rfl ?_
      exact f_X4_packs_141_ok hO a0 hk44 v1 v2 v3 ((some b119)) v5 v6 p0
    · refine x_aload_nr 1 dX4_packs_64 rfl rfl (n := 65) rfl ?_
      refine x_getR fl_X4_20 dX4_packs_65 (n := 68) rfl (fun x122 => ?_)
      refine x_iload_n 4 dX4_packs_68 rfl rfl (n := 69) rfl ?_
      refine x_sm (fun b123 e => ?_)
      subst e
      refine x_callF_R [.int v3] [] (f_J3_get_ok hO p0 b123 v3) rc_J3_get md_J3_get rfl q1511 fc_java_util_ArrayList_java_util_List_get_1_ILjava dX4_packs_69 rfl rfl (by decide) (Nat.le_of_ble_eq_true rfl) (n := 74) rfl (fun x125 p124 => ?_)
      refine x_cast (x := x125) (cs := [6]) q1512 cst_ForestLegs_Runner dX4_packs_74 (n := 77) rfl ?_
      refine x_sm (fun b126 e => ?_)
      subst e
      refine x_getR fl_X4_162 dX4_packs_77 (n := 80) rfl (fun x127 => ?_)
      refine x_iload 0 dX4_packs_80 rfl (n := 82) rfl ?_
      refine x_sm (fun b128 e => ?_)
      subst e
      refine x_callF_R [.int x120] [] (f_J3_get_ok hO p124 b128 x120) rc_J3_get md_J3_get rfl q1511 fc_java_util_ArrayList_java_util_List_get_1_ILjava dX4_packs_82 rfl rfl (by decide) (Nat.le_of_ble_eq_true rfl) (n := 87) rfl (fun x130 p129 => ?_)
      refine x_cast (x := x130) (cs := [7]) q2208 cst_ForestLegs_Punch dX4_packs_87 (n := 90) rfl ?_
      refine x_sm (fun b131 e => ?_)
      subst e
      refine x_getI fl_X4_167 dX4_packs_90 (n := 93) rfl (fun x132 => ?_)
      refine x_iload_n 2 dX4_packs_93 rfl rfl (n := 94) rfl ?_
      refine x_icmp_ne dX4_packs_94 (t := 141) (by decide) (n := 97) rfl (fun _ => ?_) (fun _ => ?_)
      · refine x_sub [1, 2, 3, 4, 5, 6, 7] [(0, .ref a0), (1, .int v1), (2, .ref v2), (3, .int v3), (4, .ref b119), (5, .int v5), (6, .int v6)] rfl ?_
        exact f_X4_packs_141_ok hO a0 hk44 v1 v2 v3 ((some b119)) v5 v6 p129
      · refine x_aload_nr 3 dX4_packs_97 rfl rfl (n := 98) rfl ?_
        refine x_new cl_11 (by decide) q2209 q2210 q174 rfl dX4_packs_98 (n := 101) rfl (fun b133 p134 => ?_)
        refine x_dup dX4_packs_101 rfl (n := 102) rfl ?_
        refine x_aload_nr 1 dX4_packs_102 rfl rfl (n := 103) rfl ?_
        refine x_getR fl_X4_20 dX4_packs_103 (n := 106) rfl (fun x135 => ?_)
        refine x_iload_n 4 dX4_packs_106 rfl rfl (n := 107) rfl ?_
        refine x_sm (fun b136 e => ?_)
        subst e
        refine x_callF_R [.int v3] [.ref b133, .ref b133, .ref v2] (f_J3_get_ok hO p134 b136 v3) rc_J3_get md_J3_get rfl q1511 fc_java_util_ArrayList_java_util_List_get_1_ILjava dX4_packs_107 rfl rfl (by decide) (Nat.le_of_ble_eq_true rfl) (n := 112) rfl (fun x138 p137 => ?_)
        refine x_cast (x := x138) (cs := [6]) q1512 cst_ForestLegs_Runner dX4_packs_112 (n := 115) rfl ?_
        refine x_sm (fun b139 e => ?_)
        subst e
        refine x_getR fl_X4_162 dX4_packs_115 (n := 118) rfl (fun x140 => ?_)
        refine x_iload 0 dX4_packs_118 rfl (n := 120) rfl ?_
        refine x_sm (fun b141 e => ?_)
        subst e
        refine x_callF_R [.int x120] [.ref b133, .ref b133, .ref v2] (f_J3_get_ok hO p137 b141 x120) rc_J3_get md_J3_get rfl q1511 fc_java_util_ArrayList_java_util_List_get_1_ILjava dX4_packs_120 rfl rfl (by decide) (Nat.le_of_ble_eq_true rfl) (n := 125) rfl (fun x143 p142 => ?_)
        refine x_cast (x := x143) (cs := [7]) q2208 cst_ForestLegs_Punch dX4_packs_125 (n := 128) rfl ?_
        refine x_sm (fun b144 e => ?_)
        subst e
        refine x_getI fl_X4_172 dX4_packs_128 (n := 131) rfl (fun x145 => ?_)
        refine x_iload_n 4 dX4_packs_131 rfl rfl (n := 132) rfl ?_
        refine x_iload 0 dX4_packs_132 rfl (n := 134) rfl ?_
        refine x_callI_V [.int x145, .int v3, .int x120] [.ref b133, .ref v2] (f_X12_init_ok hO p142 b133 x145 v3 x120) md_X12_init rfl q2211 q2212 dX4_packs_134 rfl rfl (by decide) (Nat.le_of_ble_eq_true rfl) (n := 137) rfl (fun p146 => ?_)
        refine x_callV_I [.ref b133] [] (f_J34_add_ok hO p146 v2 (some b133)) rc_J34_add md_J34_add rfl q2231 q2232 q2233 dX4_packs_137 rfl rfl (by decide) (Nat.le_of_ble_eq_true rfl) (n := 140) rfl (fun x148 p147 => ?_)
        refine x_pop dX4_packs_140 rfl (n := 141) rfl ?_
        refine x_sub [1, 2, 3, 4, 5, 6, 7] [(0, .ref a0), (1, .int v1), (2, .ref v2), (3, .int v3), (4, .ref b119), (5, .int v5), (6, .int v6)] rfl ?_
        exact f_X4_packs_141_ok hO a0 hk44 v1 v2 v3 ((some b119)) v5 v6 p147
theorem f_X4_packs_44_lp {G : xG} (hO : xOK G) (a0 : Nat) {k13 : Int32 × Nat × Int32 × PH → Option (xO × PH)} (hk13 : ∀ (v1 : Int32) (v2 : Nat) (v3 : Int32) (p0 : PH), X G "ForestLegs$Meet" "packs" cX4_packs 8 (Option.some (Jvm.ClassFile.FieldType.object "java/util/List")) 10 13 [(0, .ref a0), (1, .int v1), (2, .ref v2), (3, .int v3)] [] p0 (k13 (v1, v2, v3, p0))) (n : Nat) (v1 : Int32) (v2 : Nat) (v3 : Int32) (v4 : Option Nat) (v5 : Int32) (v6 : Int32) (p0 : PH) : X G "ForestLegs$Meet" "packs" cX4_packs 8 (Option.some (Jvm.ClassFile.FieldType.object "java/util/List")) 10 44 [(0, .ref a0), (1, .int v1), (2, .ref v2), (3, .int v3), (4, va_rf v4), (5, .int v5), (6, .int v6)] [] p0 (lp (f_X4_packs_44F a0 k13) n (v1, v2, v3, v4, v5, v6, p0)) :=
  lp_ok (W := fun p K => X G "ForestLegs$Meet" "packs" cX4_packs 8 (Option.some (Jvm.ClassFile.FieldType.object "java/util/List")) 10 44 [(0, .ref a0), (1, .int p.1), (2, .ref p.2.1), (3, .int p.2.2.1), (4, va_rf p.2.2.2.1), (5, .int p.2.2.2.2.1), (6, .int p.2.2.2.2.2.1)] [] p.2.2.2.2.2.2 K) (fun _ => x_no) (fun k hk => fun (v1, v2, v3, v4, v5, v6, p0) => f_X4_packs_44F_ok hO a0 hk13 (fun v1 v2 v3 v4 v5 v6 p0 => hk (v1, v2, v3, v4, v5, v6, p0)) v1 v2 v3 v4 v5 v6 p0) n (v1, v2, v3, v4, v5, v6, p0)
theorem f_X4_packs_13F_ok {G : xG} (hO : xOK G) (a0 : Nat)  {k13 : Int32 × Nat × Int32 × PH → Option (xO × PH)} (hk13 : ∀ (v1 : Int32) (v2 : Nat) (v3 : Int32) (p0 : PH), X G "ForestLegs$Meet" "packs" cX4_packs 8 (Option.some (Jvm.ClassFile.FieldType.object "java/util/List")) 10 13 [(0, .ref a0), (1, .int v1), (2, .ref v2), (3, .int v3)] [] p0 (k13 (v1, v2, v3, p0))) (v1 : Int32) (v2 : Nat) (v3 : Int32) (p0 : PH) : X G "ForestLegs$Meet" "packs" cX4_packs 8 (Option.some (Jvm.ClassFile.FieldType.object "java/util/List")) 10 13 [(0, .ref a0), (1, .int v1), (2, .ref v2), (3, .int v3)] [] p0 (f_X4_packs_13F a0 k13 (v1, v2, v3, p0)) := by
  unfold f_X4_packs_13F
  refine x_iload_n 3 dX4_packs_13 rfl rfl (n := 14) rfl ?_
  refine x_aload_nr 0 dX4_packs_14 rfl rfl (n := 15) rfl ?_
  refine x_getR fl_X4_20 dX4_packs_15 (n := 18) rfl (fun x5 => ?_)
  refine x_sm (fun b6 e => ?_)
  subst e
  refine x_callF_I [] [.int v3] (f_J3_size_ok hO p0 b6 ) rc_J3_size md_J3_size rfl q1740 fc_java_util_ArrayList_java_util_List_size_0_I dX4_packs_18 rfl rfl (by decide) (Nat.le_of_ble_eq_true rfl) (n := 23) rfl (fun x8 p7 => ?_)
  refine x_icmp_ge dX4_packs_23 (t := 153) (by decide) (n := 26) rfl (fun _ => ?_) (fun _ => ?_)
  · refine x_new cl_14 (by decide) q266 q267 q130 rfl dX4_packs_153 (n := 156) rfl (fun b9 p10 => ?_)
    refine x_dup dX4_packs_156 rfl (n := 157) rfl ?_
    refine x_iconst 4 dX4_packs_157 rfl (n := 158) rfl ?_
    refine x_callI_V [.int 4] [.ref b9] (f_J3_init_ok hO p10 b9 4) md_J3_init rfl q268 q269 dX4_packs_158 rfl rfl (by decide) (Nat.le_of_ble_eq_true rfl) (n := 161) rfl (fun p11 => ?_)
    refine x_astore_nr [(3, .ref b9), (0, .ref a0), (1, .int v1), (2, .ref v2)] dX4_packs_161 rfl (by decide) rfl (n := 162) rfl ?_
    refine x_new cl_14 (by decide) q266 q267 q130 rfl dX4_packs_162 (n := 165) rfl (fun b12 p13 => ?_)
    refine x_dup dX4_packs_165 rfl (n := 166) rfl ?_
    refine x_iconst 4 dX4_packs_166 rfl (n := 167) rfl ?_
    refine x_callI_V [.int 4] [.ref b12] (f_J3_init_ok hO p13 b12 4) md_J3_init rfl q268 q269 dX4_packs_167 rfl rfl (by decide) (Nat.le_of_ble_eq_true rfl) (n := 170) rfl (fun p14 => ?_)
    refine x_astorer [(4, .ref b12), (3, .ref b9), (0, .ref a0), (1, .int v1), (2, .ref v2)] dX4_packs_170 (by decide) rfl (n := 172) rfl ?_
    refine x_aload_nr 4 dX4_packs_172 rfl rfl (n := 173) rfl ?_
    refine x_callV_R [] [] (f_J34_iterator_ok hO p14 v2 ) rc_J34_iterator md_J34_iterator rfl q2244 q2245 q2246 dX4_packs_173 rfl rfl (by decide) (Nat.le_of_ble_eq_true rfl) (n := 176) rfl (fun x16 p15 => ?_)
    refine x_astore [(5, va_rf x16), (4, .ref b12), (3, .ref b9), (0, .ref a0), (1, .int v1), (2, .ref v2)] dX4_packs_176 (by decide) rfl (n := 178) rfl ?_
    refine x_sub [3, 2, 1, 0] [(0, .ref a0), (3, .ref b9), (4, .ref b12), (5, va_rf x16)] rfl ?_
    exact f_X4_packs_178_lp hO a0 FU b9 b12 x16 p15
  · refine x_aload_nr 0 dX4_packs_26 rfl rfl (n := 27) rfl ?_
    refine x_iload_n 3 dX4_packs_27 rfl rfl (n := 28) rfl ?_
    refine x_callV_R [.int v3] [] (f_X4_match_ok hO p7 a0 v3) rc_X4_match md_X4_match rfl q1503 q1504 q1505 dX4_packs_28 rfl rfl (by decide) (Nat.le_of_ble_eq_true rfl) (n := 31) rfl (fun x113 p112 => ?_)
    refine x_sm (fun b114 e => ?_)
    subst e
    refine x_getR fl_X4_140 dX4_packs_31 (n := 34) rfl (fun x115 => ?_)
    refine x_astore [(4, va_rf x115), (0, .ref a0), (1, .int v1), (2, .ref v2), (3, .int v3)] dX4_packs_34 (by decide) rfl (n := 36) rfl ?_
    refine x_aload 0 dX4_packs_36 rfl (n := 38) rfl ?_
    refine x_sm (fun b116 e => ?_)
    subst e
    refine x_alen dX4_packs_38 (n := 39) rfl (fun x117 => ?_)
    refine x_istore [(5, .int x117), (4, .ref b116), (0, .ref a0), (1, .int v1), (2, .ref v2), (3, .int v3)] dX4_packs_39 (by decide) rfl (n := 41) rfl ?_
    refine x_iconst 0 dX4_packs_41 rfl (n := 42) rfl ?_
    refine x_istore [(6, .int 0), (5, .int x117), (4, .ref b116), (0, .ref a0), (1, .int v1), (2, .ref v2), (3, .int v3)] dX4_packs_42 (by decide) rfl (n := 44) rfl ?_
    refine x_sub [3, 4, 5, 6, 2, 1, 0] [(0, .ref a0), (1, .int v1), (2, .ref v2), (3, .int v3), (4, .ref b116), (5, .int x117), (6, .int 0)] rfl ?_
    exact f_X4_packs_44_lp hO a0 hk13 FU v1 v2 v3 ((some b116)) x117 0 p112
theorem f_X4_packs_13_lp {G : xG} (hO : xOK G) (a0 : Nat)  (n : Nat) (v1 : Int32) (v2 : Nat) (v3 : Int32) (p0 : PH) : X G "ForestLegs$Meet" "packs" cX4_packs 8 (Option.some (Jvm.ClassFile.FieldType.object "java/util/List")) 10 13 [(0, .ref a0), (1, .int v1), (2, .ref v2), (3, .int v3)] [] p0 (lp (f_X4_packs_13F a0) n (v1, v2, v3, p0)) :=
  lp_ok (W := fun p K => X G "ForestLegs$Meet" "packs" cX4_packs 8 (Option.some (Jvm.ClassFile.FieldType.object "java/util/List")) 10 13 [(0, .ref a0), (1, .int p.1), (2, .ref p.2.1), (3, .int p.2.2.1)] [] p.2.2.2 K) (fun _ => x_no) (fun k hk => fun (v1, v2, v3, p0) => f_X4_packs_13F_ok hO a0 (fun v1 v2 v3 p0 => hk (v1, v2, v3, p0)) v1 v2 v3 p0) n (v1, v2, v3, p0)
theorem f_X4_packs_ok {G : xG} (hO : xOK G) (p0 : PH) (a0 : Nat) (a1 : Int32) : CT G 10 yX4_packs cX4_packs 8 (Option.some (Jvm.ClassFile.FieldType.object "java/util/List")) [.ref a0, .int a1] p0 (f_X4_packs p0 a0 a1) := by
  refine CT_of hO (by decide +kernel) (by decide +kernel) (Nat.le_of_ble_eq_true rfl) ?_
  show X G "ForestLegs$Meet" "packs" cX4_packs 8 (Option.some (Jvm.ClassFile.FieldType.object "java/util/List")) 10 0 [(0, .ref a0), (1, .int a1)] [] p0 (f_X4_packs p0 a0 a1)
  refine x_cl1 (fun e0 => ?_)
  refine x_new cl_23 (by decide) q2186 q2187 q173 rfl dX4_packs_0 (n := 3) rfl (fun b1 p2 => ?_)
  refine x_dup dX4_packs_3 rfl (n := 4) rfl ?_
  refine x_getsR (j := 0) (k := 0) rfl rfl (Or.inr ⟨_, q2188⟩) dX4_packs_4 (n := 7) rfl (fun x3 => ?_)
  refine x_callI_V [va_rf x3] [.ref b1] (f_J34_init_ok hO p2 b1 x3) md_J34_init rfl q2190 q2191 dX4_packs_7 rfl rfl (by decide) (Nat.le_of_ble_eq_true rfl) (n := 10) rfl (fun p4 => ?_)
  refine x_astore_nr [(2, .ref b1), (0, .ref a0), (1, .int a1)] dX4_packs_10 rfl (by decide) rfl (n := 11) rfl ?_
  refine x_iconst 0 dX4_packs_11 rfl (n := 12) rfl ?_
  refine x_istore_n [(3, .int 0), (2, .ref b1), (0, .ref a0), (1, .int a1)] dX4_packs_12 rfl (by decide) rfl (n := 13) rfl ?_
  refine x_sub [2, 3, 1, 0] [(0, .ref a0), (1, .int a1), (2, .ref b1), (3, .int 0)] rfl ?_
  exact f_X4_packs_13_lp hO a0 FU a1 b1 0 p4
abbrev cX1_packs : ByteArray := prog_1_method_42_code
def yX1_packs : MethodName := ⟨RX1, "packs", "(I)I"⟩
def dkwX1_packs_2 : List UInt8 := [172]
abbrev dktX1_packs_2 : List UInt8 := dkwX1_packs_2 ++ []
def dkwX1_packs_1 : List UInt8 := [42, 180, 0, 56, 27, 182, 1, 19, 185, 0, 77, 1, 0, 182, 0, 83, 167, 0, 8, 42, 5, 182, 0, 40]
abbrev dktX1_packs_1 : List UInt8 := dkwX1_packs_1 ++ dktX1_packs_2
def dkwX1_packs_0 : List UInt8 := [42, 180, 0, 56, 199, 0, 9, 42, 4, 182, 0, 40, 172, 27, 4, 16, 99, 184, 0, 36, 153, 0, 23, 42]
abbrev dktX1_packs_0 : List UInt8 := dkwX1_packs_0 ++ dktX1_packs_1
theorem dksX1_packs_0 : cX1_packs.data.toList.drop 0 = dktX1_packs_0 := by decide +kernel
theorem dksX1_packs_1 : cX1_packs.data.toList.drop 24 = dktX1_packs_1 := dk_seg dksX1_packs_0 24 rfl rfl
theorem dksX1_packs_2 : cX1_packs.data.toList.drop 48 = dktX1_packs_2 := dk_seg dksX1_packs_1 24 rfl rfl
theorem dX1_packs_0 : decode cX1_packs 0 = .ok (.aload_n 0, 1) := dk_42 (dk_at dksX1_packs_0 0 rfl rfl)
theorem dX1_packs_1 : decode cX1_packs 1 = .ok (.getfield 56, 3) := dk_180 0 56 (dk_at dksX1_packs_0 1 rfl rfl)
theorem dX1_packs_4 : decode cX1_packs 4 = .ok (.ifnonnull 9, 3) := dk_199 0 9 (dk_at dksX1_packs_0 4 rfl rfl)
theorem dX1_packs_7 : decode cX1_packs 7 = .ok (.aload_n 0, 1) := dk_42 (dk_at dksX1_packs_0 7 rfl rfl)
theorem dX1_packs_8 : decode cX1_packs 8 = .ok (.iconst 1, 1) := dk_4 (dk_at dksX1_packs_0 8 rfl rfl)
theorem dX1_packs_9 : decode cX1_packs 9 = .ok (.invokevirtual 40, 3) := dk_182 0 40 (dk_at dksX1_packs_0 9 rfl rfl)
theorem dX1_packs_12 : decode cX1_packs 12 = .ok (.ireturn, 1) := dk_172 (dk_at dksX1_packs_0 12 rfl rfl)
theorem dX1_packs_13 : decode cX1_packs 13 = .ok (.iload_n 1, 1) := dk_27 (dk_at dksX1_packs_0 13 rfl rfl)
theorem dX1_packs_14 : decode cX1_packs 14 = .ok (.iconst 1, 1) := dk_4 (dk_at dksX1_packs_0 14 rfl rfl)
theorem dX1_packs_15 : decode cX1_packs 15 = .ok (.bipush 99, 2) := dk_16 99 (dk_at dksX1_packs_0 15 rfl rfl)
theorem dX1_packs_17 : decode cX1_packs 17 = .ok (.invokestatic 36, 3) := dk_184 0 36 (dk_at dksX1_packs_0 17 rfl rfl)
theorem dX1_packs_20 : decode cX1_packs 20 = .ok (.ifCond .eq 23, 3) := dk_153 0 23 (dk_at dksX1_packs_0 20 rfl rfl)
theorem dX1_packs_23 : decode cX1_packs 23 = .ok (.aload_n 0, 1) := dk_42 (dk_at dksX1_packs_0 23 rfl rfl)
theorem dX1_packs_24 : decode cX1_packs 24 = .ok (.aload_n 0, 1) := dk_42 (dk_at dksX1_packs_1 0 rfl rfl)
theorem dX1_packs_25 : decode cX1_packs 25 = .ok (.getfield 56, 3) := dk_180 0 56 (dk_at dksX1_packs_1 1 rfl rfl)
theorem dX1_packs_28 : decode cX1_packs 28 = .ok (.iload_n 1, 1) := dk_27 (dk_at dksX1_packs_1 4 rfl rfl)
theorem dX1_packs_29 : decode cX1_packs 29 = .ok (.invokevirtual 275, 3) := dk_182 1 19 (dk_at dksX1_packs_1 5 rfl rfl)
theorem dX1_packs_32 : decode cX1_packs 32 = .ok (.invokeinterface 77 1, 5) := by decide +kernel
theorem dX1_packs_37 : decode cX1_packs 37 = .ok (.invokevirtual 83, 3) := dk_182 0 83 (dk_at dksX1_packs_1 13 rfl rfl)
theorem dX1_packs_40 : decode cX1_packs 40 = .ok (.goto 8, 3) := dk_167 0 8 (dk_at dksX1_packs_1 16 rfl rfl)
theorem dX1_packs_43 : decode cX1_packs 43 = .ok (.aload_n 0, 1) := dk_42 (dk_at dksX1_packs_1 19 rfl rfl)
theorem dX1_packs_44 : decode cX1_packs 44 = .ok (.iconst 2, 1) := dk_5 (dk_at dksX1_packs_1 20 rfl rfl)
theorem dX1_packs_45 : decode cX1_packs 45 = .ok (.invokevirtual 40, 3) := dk_182 0 40 (dk_at dksX1_packs_1 21 rfl rfl)
theorem dX1_packs_48 : decode cX1_packs 48 = .ok (.ireturn, 1) := dk_172 (dk_at dksX1_packs_2 0 rfl rfl)
theorem md_X1_packs : xMd yX1_packs cX1_packs 2 (Option.some Jvm.ClassFile.FieldType.int) 1 := ⟨q2181, q123, by decide, by decide +kernel, by decide +kernel, by decide +kernel⟩
def f_X1_packs (p0 : PH) (a0 : Nat) (a1 : Int32) : Option (xO × PH) :=
  (xcl1 p0 a0 0 (xgR p0 a0 0 5 fun x1 =>
  (xnul x1 (xcI (f_X1_refused p0 a0 1) fun x4 p3 =>
  (rI x4 p3)) fun b2 =>
  (xcI (f_X1_isIn p0 a1 1 99) fun x6 p5 =>
  (if x6 = 0 then
  (xcI (f_X1_refused p5 a0 2) fun x8 p7 =>
  (rI x8 p7)) else
  (xgR p5 a0 0 5 fun x9 =>
  (xnul x9 none fun b10 =>
  (xcR (f_X4_packs p5 b10 a1) fun x12 p11 =>
  (xnul x12 none fun b13 =>
  (xcI (f_J3_size p11 b13 ) fun x15 p14 =>
  (xcI (f_X1_fine p14 a0 x15) fun x17 p16 =>
  (rI x17 p16))))))))))))
theorem rc_X1_packs {p0 : PH} {a0 : Nat} {a1 : Int32} : ∀ z, f_X1_packs p0 a0 a1 = some z → xco p0 a0 = some 0 := fun z h => xcl1_some h
theorem f_X1_packs_ok {G : xG} (hO : xOK G) (p0 : PH) (a0 : Nat) (a1 : Int32) : CT G 11 yX1_packs cX1_packs 2 (Option.some Jvm.ClassFile.FieldType.int) [.ref a0, .int a1] p0 (f_X1_packs p0 a0 a1) := by
  refine CT_of hO (by decide +kernel) (by decide +kernel) (Nat.le_of_ble_eq_true rfl) ?_
  show X G "ForestLegs" "packs" cX1_packs 2 (Option.some Jvm.ClassFile.FieldType.int) 11 0 [(0, .ref a0), (1, .int a1)] [] p0 (f_X1_packs p0 a0 a1)
  refine x_cl1 (fun e0 => ?_)
  refine x_aload_nr 0 dX1_packs_0 rfl rfl (n := 1) rfl ?_
  refine x_getR fl_X1_56 dX1_packs_1 (n := 4) rfl (fun x1 => ?_)
  refine x_ifnonnull dX1_packs_4 (t := 13) (by decide) (n := 7) rfl (fun e => ?_) (fun b2 e => ?_)
  · subst e
    refine x_aload_nr 0 dX1_packs_7 rfl rfl (n := 8) rfl ?_
    refine x_iconst 1 dX1_packs_8 rfl (n := 9) rfl ?_
    refine x_callV_I [.int 1] [] (f_X1_refused_ok hO p0 a0 1) rc_X1_refused md_X1_refused rfl q250 q252 qs0 dX1_packs_9 rfl rfl (by decide) (Nat.le_of_ble_eq_true rfl) (n := 12) rfl (fun x4 p3 => ?_)
    exact x_ireturn dX1_packs_12
  · subst e
    refine x_iload_n 1 dX1_packs_13 rfl rfl (n := 14) rfl ?_
    refine x_iconst 1 dX1_packs_14 rfl (n := 15) rfl ?_
    refine x_bipush 99 dX1_packs_15 rfl (n := 17) rfl ?_
    refine x_callS_I [.int a1, .int 1, .int 99] [] (f_X1_isIn_ok hO p0 a1 1 99) md_X1_isIn q247 q248 dX1_packs_17 rfl rfl (by decide) (Nat.le_of_ble_eq_true rfl) (n := 20) rfl (fun x6 p5 => ?_)
    refine x_if_eq dX1_packs_20 (t := 43) (by decide) (n := 23) rfl (fun _ => ?_) (fun _ => ?_)
    · refine x_aload_nr 0 dX1_packs_43 rfl rfl (n := 44) rfl ?_
      refine x_iconst 2 dX1_packs_44 rfl (n := 45) rfl ?_
      refine x_callV_I [.int 2] [] (f_X1_refused_ok hO p5 a0 2) rc_X1_refused md_X1_refused rfl q250 q252 qs0 dX1_packs_45 rfl rfl (by decide) (Nat.le_of_ble_eq_true rfl) (n := 48) rfl (fun x8 p7 => ?_)
      exact x_ireturn dX1_packs_48
    · refine x_aload_nr 0 dX1_packs_23 rfl rfl (n := 24) rfl ?_
      refine x_aload_nr 0 dX1_packs_24 rfl rfl (n := 25) rfl ?_
      refine x_getR fl_X1_56 dX1_packs_25 (n := 28) rfl (fun x9 => ?_)
      refine x_iload_n 1 dX1_packs_28 rfl rfl (n := 29) rfl ?_
      refine x_sm (fun b10 e => ?_)
      subst e
      refine x_callV_R [.int a1] [.ref a0] (f_X4_packs_ok hO p5 b10 a1) rc_X4_packs md_X4_packs rfl q2182 q2183 q2184 dX1_packs_29 rfl rfl (by decide) (Nat.le_of_ble_eq_true rfl) (n := 32) rfl (fun x12 p11 => ?_)
      refine x_sm (fun b13 e => ?_)
      subst e
      refine x_callF_I [] [.ref a0] (f_J3_size_ok hO p11 b13 ) rc_J3_size md_J3_size rfl q1479 fc_java_util_ArrayList_java_util_List_size_0_I dX1_packs_32 rfl rfl (by decide) (Nat.le_of_ble_eq_true rfl) (n := 37) rfl (fun x15 p14 => ?_)
      refine x_callV_I [.int x15] [] (f_X1_fine_ok hO p14 a0 x15) rc_X1_fine md_X1_fine rfl q1480 q1482 qs26 dX1_packs_37 rfl rfl (by decide) (Nat.le_of_ble_eq_true rfl) (n := 40) rfl (fun x17 p16 => ?_)
      refine x_goto dX1_packs_40 (n := 48) (by decide) ?_
      exact x_ireturn dX1_packs_48
abbrev cX1_pack : ByteArray := prog_1_method_43_code
def yX1_pack : MethodName := ⟨RX1, "pack", "(III)I"⟩
def dkwX1_pack_8 : List UInt8 := [180, 1, 27, 182, 0, 83, 172]
abbrev dktX1_pack_8 : List UInt8 := dkwX1_pack_8 ++ []
def dkwX1_pack_7 : List UInt8 := [160, 0, 7, 3, 167, 0, 12, 25, 5, 185, 0, 77, 1, 0, 4, 100, 185, 0, 93, 2, 0, 192, 1, 22]
abbrev dktX1_pack_7 : List UInt8 := dkwX1_pack_7 ++ dktX1_pack_8
def dkwX1_pack_6 : List UInt8 := [185, 0, 77, 1, 0, 167, 0, 44, 29, 4, 160, 0, 8, 21, 6, 167, 0, 34, 25, 5, 29, 5]
abbrev dktX1_pack_6 : List UInt8 := dkwX1_pack_6 ++ dktX1_pack_7
def dkwX1_pack_5 : List UInt8 := [21, 6, 4, 25, 8, 180, 1, 24, 120, 128, 54, 6, 167, 255, 222, 42, 29, 154, 0, 13, 25, 5]
abbrev dktX1_pack_5 : List UInt8 := dkwX1_pack_5 ++ dktX1_pack_6
def dkwX1_pack_4 : List UInt8 := [58, 7, 25, 7, 185, 0, 180, 1, 0, 153, 0, 30, 25, 7, 185, 0, 185, 1, 0, 192, 1, 22, 58, 8]
abbrev dktX1_pack_4 : List UInt8 := dkwX1_pack_4 ++ dktX1_pack_5
def dkwX1_pack_3 : List UInt8 := [25, 4, 28, 185, 0, 93, 2, 0, 192, 0, 78, 58, 5, 3, 54, 6, 25, 5, 185, 0, 176, 1, 0]
abbrev dktX1_pack_3 : List UInt8 := dkwX1_pack_3 ++ dktX1_pack_4
def dkwX1_pack_2 : List UInt8 := [27, 182, 1, 19, 58, 4, 28, 25, 4, 185, 0, 77, 1, 0, 161, 0, 10, 42, 16, 254, 182, 0, 83, 172]
abbrev dktX1_pack_2 : List UInt8 := dkwX1_pack_2 ++ dktX1_pack_3
def dkwX1_pack_1 : List UInt8 := [182, 0, 40, 172, 27, 4, 16, 99, 184, 0, 36, 154, 0, 9, 42, 5, 182, 0, 40, 172, 42, 180, 0, 56]
abbrev dktX1_pack_1 : List UInt8 := dkwX1_pack_1 ++ dktX1_pack_2
def dkwX1_pack_0 : List UInt8 := [42, 180, 0, 56, 198, 0, 16, 28, 155, 0, 12, 29, 3, 6, 184, 0, 36, 154, 0, 9, 42, 4]
abbrev dktX1_pack_0 : List UInt8 := dkwX1_pack_0 ++ dktX1_pack_1
theorem dksX1_pack_0 : cX1_pack.data.toList.drop 0 = dktX1_pack_0 := by decide +kernel
theorem dksX1_pack_1 : cX1_pack.data.toList.drop 22 = dktX1_pack_1 := dk_seg dksX1_pack_0 22 rfl rfl
theorem dksX1_pack_2 : cX1_pack.data.toList.drop 46 = dktX1_pack_2 := dk_seg dksX1_pack_1 24 rfl rfl
theorem dksX1_pack_3 : cX1_pack.data.toList.drop 70 = dktX1_pack_3 := dk_seg dksX1_pack_2 24 rfl rfl
theorem dksX1_pack_4 : cX1_pack.data.toList.drop 93 = dktX1_pack_4 := dk_seg dksX1_pack_3 23 rfl rfl
theorem dksX1_pack_5 : cX1_pack.data.toList.drop 117 = dktX1_pack_5 := dk_seg dksX1_pack_4 24 rfl rfl
theorem dksX1_pack_6 : cX1_pack.data.toList.drop 139 = dktX1_pack_6 := dk_seg dksX1_pack_5 22 rfl rfl
theorem dksX1_pack_7 : cX1_pack.data.toList.drop 161 = dktX1_pack_7 := dk_seg dksX1_pack_6 22 rfl rfl
theorem dksX1_pack_8 : cX1_pack.data.toList.drop 185 = dktX1_pack_8 := dk_seg dksX1_pack_7 24 rfl rfl
theorem dX1_pack_0 : decode cX1_pack 0 = .ok (.aload_n 0, 1) := dk_42 (dk_at dksX1_pack_0 0 rfl rfl)
theorem dX1_pack_1 : decode cX1_pack 1 = .ok (.getfield 56, 3) := dk_180 0 56 (dk_at dksX1_pack_0 1 rfl rfl)
theorem dX1_pack_4 : decode cX1_pack 4 = .ok (.ifnull 16, 3) := dk_198 0 16 (dk_at dksX1_pack_0 4 rfl rfl)
theorem dX1_pack_7 : decode cX1_pack 7 = .ok (.iload_n 2, 1) := dk_28 (dk_at dksX1_pack_0 7 rfl rfl)
theorem dX1_pack_8 : decode cX1_pack 8 = .ok (.ifCond .lt 12, 3) := dk_155 0 12 (dk_at dksX1_pack_0 8 rfl rfl)
theorem dX1_pack_11 : decode cX1_pack 11 = .ok (.iload_n 3, 1) := dk_29 (dk_at dksX1_pack_0 11 rfl rfl)
theorem dX1_pack_12 : decode cX1_pack 12 = .ok (.iconst 0, 1) := dk_3 (dk_at dksX1_pack_0 12 rfl rfl)
theorem dX1_pack_13 : decode cX1_pack 13 = .ok (.iconst 3, 1) := dk_6 (dk_at dksX1_pack_0 13 rfl rfl)
theorem dX1_pack_14 : decode cX1_pack 14 = .ok (.invokestatic 36, 3) := dk_184 0 36 (dk_at dksX1_pack_0 14 rfl rfl)
theorem dX1_pack_17 : decode cX1_pack 17 = .ok (.ifCond .ne 9, 3) := dk_154 0 9 (dk_at dksX1_pack_0 17 rfl rfl)
theorem dX1_pack_20 : decode cX1_pack 20 = .ok (.aload_n 0, 1) := dk_42 (dk_at dksX1_pack_0 20 rfl rfl)
theorem dX1_pack_21 : decode cX1_pack 21 = .ok (.iconst 1, 1) := dk_4 (dk_at dksX1_pack_0 21 rfl rfl)
theorem dX1_pack_22 : decode cX1_pack 22 = .ok (.invokevirtual 40, 3) := dk_182 0 40 (dk_at dksX1_pack_1 0 rfl rfl)
theorem dX1_pack_25 : decode cX1_pack 25 = .ok (.ireturn, 1) := dk_172 (dk_at dksX1_pack_1 3 rfl rfl)
theorem dX1_pack_26 : decode cX1_pack 26 = .ok (.iload_n 1, 1) := dk_27 (dk_at dksX1_pack_1 4 rfl rfl)
theorem dX1_pack_27 : decode cX1_pack 27 = .ok (.iconst 1, 1) := dk_4 (dk_at dksX1_pack_1 5 rfl rfl)
theorem dX1_pack_28 : decode cX1_pack 28 = .ok (.bipush 99, 2) := dk_16 99 (dk_at dksX1_pack_1 6 rfl rfl)
theorem dX1_pack_30 : decode cX1_pack 30 = .ok (.invokestatic 36, 3) := dk_184 0 36 (dk_at dksX1_pack_1 8 rfl rfl)
theorem dX1_pack_33 : decode cX1_pack 33 = .ok (.ifCond .ne 9, 3) := dk_154 0 9 (dk_at dksX1_pack_1 11 rfl rfl)
theorem dX1_pack_36 : decode cX1_pack 36 = .ok (.aload_n 0, 1) := dk_42 (dk_at dksX1_pack_1 14 rfl rfl)
theorem dX1_pack_37 : decode cX1_pack 37 = .ok (.iconst 2, 1) := dk_5 (dk_at dksX1_pack_1 15 rfl rfl)
theorem dX1_pack_38 : decode cX1_pack 38 = .ok (.invokevirtual 40, 3) := dk_182 0 40 (dk_at dksX1_pack_1 16 rfl rfl)
theorem dX1_pack_41 : decode cX1_pack 41 = .ok (.ireturn, 1) := dk_172 (dk_at dksX1_pack_1 19 rfl rfl)
theorem dX1_pack_42 : decode cX1_pack 42 = .ok (.aload_n 0, 1) := dk_42 (dk_at dksX1_pack_1 20 rfl rfl)
theorem dX1_pack_43 : decode cX1_pack 43 = .ok (.getfield 56, 3) := dk_180 0 56 (dk_at dksX1_pack_1 21 rfl rfl)
theorem dX1_pack_46 : decode cX1_pack 46 = .ok (.iload_n 1, 1) := dk_27 (dk_at dksX1_pack_2 0 rfl rfl)
theorem dX1_pack_47 : decode cX1_pack 47 = .ok (.invokevirtual 275, 3) := dk_182 1 19 (dk_at dksX1_pack_2 1 rfl rfl)
theorem dX1_pack_50 : decode cX1_pack 50 = .ok (.astore 4, 2) := dk_58 4 (dk_at dksX1_pack_2 4 rfl rfl)
theorem dX1_pack_52 : decode cX1_pack 52 = .ok (.iload_n 2, 1) := dk_28 (dk_at dksX1_pack_2 6 rfl rfl)
theorem dX1_pack_53 : decode cX1_pack 53 = .ok (.aload 4, 2) := dk_25 4 (dk_at dksX1_pack_2 7 rfl rfl)
theorem dX1_pack_55 : decode cX1_pack 55 = .ok (.invokeinterface 77 1, 5) := by decide +kernel
theorem dX1_pack_60 : decode cX1_pack 60 = .ok (.if_icmp .lt 10, 3) := dk_161 0 10 (dk_at dksX1_pack_2 14 rfl rfl)
theorem dX1_pack_63 : decode cX1_pack 63 = .ok (.aload_n 0, 1) := dk_42 (dk_at dksX1_pack_2 17 rfl rfl)
theorem dX1_pack_64 : decode cX1_pack 64 = .ok (.bipush (-2), 2) := dk_16 254 (dk_at dksX1_pack_2 18 rfl rfl)
theorem dX1_pack_66 : decode cX1_pack 66 = .ok (.invokevirtual 83, 3) := dk_182 0 83 (dk_at dksX1_pack_2 20 rfl rfl)
theorem dX1_pack_69 : decode cX1_pack 69 = .ok (.ireturn, 1) := dk_172 (dk_at dksX1_pack_2 23 rfl rfl)
theorem dX1_pack_70 : decode cX1_pack 70 = .ok (.aload 4, 2) := dk_25 4 (dk_at dksX1_pack_3 0 rfl rfl)
theorem dX1_pack_72 : decode cX1_pack 72 = .ok (.iload_n 2, 1) := dk_28 (dk_at dksX1_pack_3 2 rfl rfl)
theorem dX1_pack_73 : decode cX1_pack 73 = .ok (.invokeinterface 93 2, 5) := by decide +kernel
theorem dX1_pack_78 : decode cX1_pack 78 = .ok (.checkcast 78, 3) := dk_192 0 78 (dk_at dksX1_pack_3 8 rfl rfl)
theorem dX1_pack_81 : decode cX1_pack 81 = .ok (.astore 5, 2) := dk_58 5 (dk_at dksX1_pack_3 11 rfl rfl)
theorem dX1_pack_83 : decode cX1_pack 83 = .ok (.iconst 0, 1) := dk_3 (dk_at dksX1_pack_3 13 rfl rfl)
theorem dX1_pack_84 : decode cX1_pack 84 = .ok (.istore 6, 2) := dk_54 6 (dk_at dksX1_pack_3 14 rfl rfl)
theorem dX1_pack_86 : decode cX1_pack 86 = .ok (.aload 5, 2) := dk_25 5 (dk_at dksX1_pack_3 16 rfl rfl)
theorem dX1_pack_88 : decode cX1_pack 88 = .ok (.invokeinterface 176 1, 5) := by decide +kernel
theorem dX1_pack_93 : decode cX1_pack 93 = .ok (.astore 7, 2) := dk_58 7 (dk_at dksX1_pack_4 0 rfl rfl)
theorem dX1_pack_95 : decode cX1_pack 95 = .ok (.aload 7, 2) := dk_25 7 (dk_at dksX1_pack_4 2 rfl rfl)
theorem dX1_pack_97 : decode cX1_pack 97 = .ok (.invokeinterface 180 1, 5) := by decide +kernel
theorem dX1_pack_102 : decode cX1_pack 102 = .ok (.ifCond .eq 30, 3) := dk_153 0 30 (dk_at dksX1_pack_4 9 rfl rfl)
theorem dX1_pack_105 : decode cX1_pack 105 = .ok (.aload 7, 2) := dk_25 7 (dk_at dksX1_pack_4 12 rfl rfl)
theorem dX1_pack_107 : decode cX1_pack 107 = .ok (.invokeinterface 185 1, 5) := by decide +kernel
theorem dX1_pack_112 : decode cX1_pack 112 = .ok (.checkcast 278, 3) := dk_192 1 22 (dk_at dksX1_pack_4 19 rfl rfl)
theorem dX1_pack_115 : decode cX1_pack 115 = .ok (.astore 8, 2) := dk_58 8 (dk_at dksX1_pack_4 22 rfl rfl)
theorem dX1_pack_117 : decode cX1_pack 117 = .ok (.iload 6, 2) := dk_21 6 (dk_at dksX1_pack_5 0 rfl rfl)
theorem dX1_pack_119 : decode cX1_pack 119 = .ok (.iconst 1, 1) := dk_4 (dk_at dksX1_pack_5 2 rfl rfl)
theorem dX1_pack_120 : decode cX1_pack 120 = .ok (.aload 8, 2) := dk_25 8 (dk_at dksX1_pack_5 3 rfl rfl)
theorem dX1_pack_122 : decode cX1_pack 122 = .ok (.getfield 280, 3) := dk_180 1 24 (dk_at dksX1_pack_5 5 rfl rfl)
theorem dX1_pack_125 : decode cX1_pack 125 = .ok (.ishl, 1) := dk_120 (dk_at dksX1_pack_5 8 rfl rfl)
theorem dX1_pack_126 : decode cX1_pack 126 = .ok (.ior, 1) := dk_128 (dk_at dksX1_pack_5 9 rfl rfl)
theorem dX1_pack_127 : decode cX1_pack 127 = .ok (.istore 6, 2) := dk_54 6 (dk_at dksX1_pack_5 10 rfl rfl)
theorem dX1_pack_129 : decode cX1_pack 129 = .ok (.goto (-34), 3) := dk_167 255 222 (dk_at dksX1_pack_5 12 rfl rfl)
theorem dX1_pack_132 : decode cX1_pack 132 = .ok (.aload_n 0, 1) := dk_42 (dk_at dksX1_pack_5 15 rfl rfl)
theorem dX1_pack_133 : decode cX1_pack 133 = .ok (.iload_n 3, 1) := dk_29 (dk_at dksX1_pack_5 16 rfl rfl)
theorem dX1_pack_134 : decode cX1_pack 134 = .ok (.ifCond .ne 13, 3) := dk_154 0 13 (dk_at dksX1_pack_5 17 rfl rfl)
theorem dX1_pack_137 : decode cX1_pack 137 = .ok (.aload 5, 2) := dk_25 5 (dk_at dksX1_pack_5 20 rfl rfl)
theorem dX1_pack_139 : decode cX1_pack 139 = .ok (.invokeinterface 77 1, 5) := by decide +kernel
theorem dX1_pack_144 : decode cX1_pack 144 = .ok (.goto 44, 3) := dk_167 0 44 (dk_at dksX1_pack_6 5 rfl rfl)
theorem dX1_pack_147 : decode cX1_pack 147 = .ok (.iload_n 3, 1) := dk_29 (dk_at dksX1_pack_6 8 rfl rfl)
theorem dX1_pack_148 : decode cX1_pack 148 = .ok (.iconst 1, 1) := dk_4 (dk_at dksX1_pack_6 9 rfl rfl)
theorem dX1_pack_149 : decode cX1_pack 149 = .ok (.if_icmp .ne 8, 3) := dk_160 0 8 (dk_at dksX1_pack_6 10 rfl rfl)
theorem dX1_pack_152 : decode cX1_pack 152 = .ok (.iload 6, 2) := dk_21 6 (dk_at dksX1_pack_6 13 rfl rfl)
theorem dX1_pack_154 : decode cX1_pack 154 = .ok (.goto 34, 3) := dk_167 0 34 (dk_at dksX1_pack_6 15 rfl rfl)
theorem dX1_pack_157 : decode cX1_pack 157 = .ok (.aload 5, 2) := dk_25 5 (dk_at dksX1_pack_6 18 rfl rfl)
theorem dX1_pack_159 : decode cX1_pack 159 = .ok (.iload_n 3, 1) := dk_29 (dk_at dksX1_pack_6 20 rfl rfl)
theorem dX1_pack_160 : decode cX1_pack 160 = .ok (.iconst 2, 1) := dk_5 (dk_at dksX1_pack_6 21 rfl rfl)
theorem dX1_pack_161 : decode cX1_pack 161 = .ok (.if_icmp .ne 7, 3) := dk_160 0 7 (dk_at dksX1_pack_7 0 rfl rfl)
theorem dX1_pack_164 : decode cX1_pack 164 = .ok (.iconst 0, 1) := dk_3 (dk_at dksX1_pack_7 3 rfl rfl)
theorem dX1_pack_165 : decode cX1_pack 165 = .ok (.goto 12, 3) := dk_167 0 12 (dk_at dksX1_pack_7 4 rfl rfl)
theorem dX1_pack_168 : decode cX1_pack 168 = .ok (.aload 5, 2) := dk_25 5 (dk_at dksX1_pack_7 7 rfl rfl)
theorem dX1_pack_170 : decode cX1_pack 170 = .ok (.invokeinterface 77 1, 5) := by decide +kernel
theorem dX1_pack_175 : decode cX1_pack 175 = .ok (.iconst 1, 1) := dk_4 (dk_at dksX1_pack_7 14 rfl rfl)
theorem dX1_pack_176 : decode cX1_pack 176 = .ok (.isub, 1) := dk_100 (dk_at dksX1_pack_7 15 rfl rfl)
theorem dX1_pack_177 : decode cX1_pack 177 = .ok (.invokeinterface 93 2, 5) := by decide +kernel
theorem dX1_pack_182 : decode cX1_pack 182 = .ok (.checkcast 278, 3) := dk_192 1 22 (dk_at dksX1_pack_7 21 rfl rfl)
theorem dX1_pack_185 : decode cX1_pack 185 = .ok (.getfield 283, 3) := dk_180 1 27 (dk_at dksX1_pack_8 0 rfl rfl)
theorem dX1_pack_188 : decode cX1_pack 188 = .ok (.invokevirtual 83, 3) := dk_182 0 83 (dk_at dksX1_pack_8 3 rfl rfl)
theorem dX1_pack_191 : decode cX1_pack 191 = .ok (.ireturn, 1) := dk_172 (dk_at dksX1_pack_8 6 rfl rfl)
theorem md_X1_pack : xMd yX1_pack cX1_pack 9 (Option.some Jvm.ClassFile.FieldType.int) 3 := ⟨q2327, q123, by decide, by decide +kernel, by decide +kernel, by decide +kernel⟩
def f_X1_pack_20 (a0 : Nat)   (p0 : PH) : Option (xO × PH) :=
  (xcI (f_X1_refused p0 a0 1) fun x4 p3 =>
  (rI x4 p3))
def f_X1_pack_188 (a0 : Nat)  (w1 : Int32) (p0 : PH) : Option (xO × PH) :=
  (xcI (f_X1_fine p0 a0 w1) fun x36 p35 =>
  (rI x36 p35))
def f_X1_pack_177 (a0 : Nat)  (w1 : Option Nat) (w2 : Int32) (p0 : PH) : Option (xO × PH) :=
  (xnul w1 none fun b30 =>
  (xcR (f_J3_get p0 b30 w2) fun x32 p31 =>
  (xcst p31 (x32) [11]
  (xnul x32 none fun b33 =>
  (xgI p31 b33 11 0 fun x34 =>
  (f_X1_pack_188 a0 x34 p31))))))
def f_X1_pack_95F (a0 : Nat)  (k95 : Int32 × Option Nat × Int32 × Option Nat × PH → Option (xO × PH)) (p : Int32 × Option Nat × Int32 × Option Nat × PH) : Option (xO × PH) := match p with
  | (v3, v5, v6, v7, p0) => (xnul v7 none fun b21 =>
  (xsw p0 b21 fun c23 =>
  (if c23 = 20 then
  (xcI (f_J26_hasNext p0 b21 ) fun x26 p25 =>
  (if x26 = 0 then
  (if v3 = 0 then
  (xnul v5 none fun b37 =>
  (xcI (f_J3_size p25 b37 ) fun x39 p38 =>
  (f_X1_pack_188 a0 x39 p38))) else
  (if v3 = 1 then
  (f_X1_pack_188 a0 v6 p25) else
  (if v3 = 2 then
  (f_X1_pack_177 a0 v5 0 p25) else
  (xnul v5 none fun b27 =>
  (xcI (f_J3_size p25 b27 ) fun x29 p28 =>
  (f_X1_pack_177 a0 ((some b27)) (x29 - 1) p28)))))) else
  (xsw p25 b21 fun c41 =>
  (if c41 = 20 then
  (xcR (f_J26_next p25 b21 ) fun x44 p43 =>
  (xcst p43 (x44) [11]
  (xnul x44 none fun b45 =>
  (xgI p43 b45 11 1 fun x46 =>
  (bnd (v6 ||| (1 <<< (x46 &&& 31))) fun x47 =>
  (k95 (v3, v5, x47, ((some b21)), p43))))))) else
  (if c41 = 25 then
  (xcR (f_J37_next p25 b21 ) fun x49 p48 =>
  (xcst p48 (x49) [11]
  (xnul x49 none fun b50 =>
  (xgI p48 b50 11 1 fun x51 =>
  (bnd (v6 ||| (1 <<< (x51 &&& 31))) fun x52 =>
  (k95 (v3, v5, x52, ((some b21)), p48))))))) else
  none))))) else
  (if c23 = 25 then
  (xcI (f_J36_hasNext p0 b21 ) fun x54 p53 =>
  (if x54 = 0 then
  (if v3 = 0 then
  (xnul v5 none fun b58 =>
  (xcI (f_J3_size p53 b58 ) fun x60 p59 =>
  (f_X1_pack_188 a0 x60 p59))) else
  (if v3 = 1 then
  (f_X1_pack_188 a0 v6 p53) else
  (if v3 = 2 then
  (f_X1_pack_177 a0 v5 0 p53) else
  (xnul v5 none fun b55 =>
  (xcI (f_J3_size p53 b55 ) fun x57 p56 =>
  (f_X1_pack_177 a0 ((some b55)) (x57 - 1) p56)))))) else
  (xsw p53 b21 fun c62 =>
  (if c62 = 20 then
  (xcR (f_J26_next p53 b21 ) fun x65 p64 =>
  (xcst p64 (x65) [11]
  (xnul x65 none fun b66 =>
  (xgI p64 b66 11 1 fun x67 =>
  (bnd (v6 ||| (1 <<< (x67 &&& 31))) fun x68 =>
  (k95 (v3, v5, x68, ((some b21)), p64))))))) else
  (if c62 = 25 then
  (xcR (f_J37_next p53 b21 ) fun x70 p69 =>
  (xcst p69 (x70) [11]
  (xnul x70 none fun b71 =>
  (xgI p69 b71 11 1 fun x72 =>
  (bnd (v6 ||| (1 <<< (x72 &&& 31))) fun x73 =>
  (k95 (v3, v5, x73, ((some b21)), p69))))))) else
  none))))) else
  none))))
def f_X1_pack (p0 : PH) (a0 : Nat) (a1 : Int32) (a2 : Int32) (a3 : Int32) : Option (xO × PH) :=
  (xcl1 p0 a0 0 (xgR p0 a0 0 5 fun x1 =>
  (xnul x1 (f_X1_pack_20 a0  p0) fun b2 =>
  (if a2 < 0 then
  (f_X1_pack_20 a0  p0) else
  (xcI (f_X1_isIn p0 a3 0 3) fun x6 p5 =>
  (if x6 = 0 then
  (f_X1_pack_20 a0  p5) else
  (xcI (f_X1_isIn p5 a1 1 99) fun x8 p7 =>
  (if x8 = 0 then
  (xcI (f_X1_refused p7 a0 2) fun x77 p76 =>
  (rI x77 p76)) else
  (xgR p7 a0 0 5 fun x9 =>
  (xnul x9 none fun b10 =>
  (xcR (f_X4_packs p7 b10 a1) fun x12 p11 =>
  (xnul x12 none fun b13 =>
  (xcI (f_J3_size p11 b13 ) fun x15 p14 =>
  (if a2 < x15 then
  (xcR (f_J3_get p14 b13 a2) fun x17 p16 =>
  (xcst p16 (x17) [14]
  (xnul x17 none fun b18 =>
  (xcR (f_J3_iterator p16 b18 ) fun x20 p19 =>
  (lp (f_X1_pack_95F a0) FU (a3, ((some b18)), 0, x20, p19)))))) else
  (xcI (f_X1_fine p14 a0 (-2)) fun x75 p74 =>
  (rI x75 p74))))))))))))))))
theorem rc_X1_pack {p0 : PH} {a0 : Nat} {a1 : Int32} {a2 : Int32} {a3 : Int32} : ∀ z, f_X1_pack p0 a0 a1 a2 a3 = some z → xco p0 a0 = some 0 := fun z h => xcl1_some h
theorem f_X1_pack_20_ok {G : xG} (hO : xOK G) (a0 : Nat)   (p0 : PH) : X G "ForestLegs" "pack" cX1_pack 9 (Option.some Jvm.ClassFile.FieldType.int) 11 20 [(0, .ref a0)] [] p0 (f_X1_pack_20 a0  p0) := by
  unfold f_X1_pack_20
  refine x_aload_nr 0 dX1_pack_20 rfl rfl (n := 21) rfl ?_
  refine x_iconst 1 dX1_pack_21 rfl (n := 22) rfl ?_
  refine x_callV_I [.int 1] [] (f_X1_refused_ok hO p0 a0 1) rc_X1_refused md_X1_refused rfl q250 q252 qs0 dX1_pack_22 rfl rfl (by decide) (Nat.le_of_ble_eq_true rfl) (n := 25) rfl (fun x4 p3 => ?_)
  exact x_ireturn dX1_pack_25
theorem f_X1_pack_188_ok {G : xG} (hO : xOK G) (a0 : Nat)  (w1 : Int32) (p0 : PH) : X G "ForestLegs" "pack" cX1_pack 9 (Option.some Jvm.ClassFile.FieldType.int) 11 188 [] [.int w1, .ref a0] p0 (f_X1_pack_188 a0 w1 p0) := by
  unfold f_X1_pack_188
  refine x_callV_I [.int w1] [] (f_X1_fine_ok hO p0 a0 w1) rc_X1_fine md_X1_fine rfl q1480 q1482 qs26 dX1_pack_188 rfl rfl (by decide) (Nat.le_of_ble_eq_true rfl) (n := 191) rfl (fun x36 p35 => ?_)
  exact x_ireturn dX1_pack_191
theorem f_X1_pack_177_ok {G : xG} (hO : xOK G) (a0 : Nat)  (w1 : Option Nat) (w2 : Int32) (p0 : PH) : X G "ForestLegs" "pack" cX1_pack 9 (Option.some Jvm.ClassFile.FieldType.int) 11 177 [] [.int w2, va_rf w1, .ref a0] p0 (f_X1_pack_177 a0 w1 w2 p0) := by
  unfold f_X1_pack_177
  refine x_sm (fun b30 e => ?_)
  subst e
  refine x_callF_R [.int w2] [.ref a0] (f_J3_get_ok hO p0 b30 w2) rc_J3_get md_J3_get rfl q1497 fc_java_util_ArrayList_java_util_List_get_1_ILjava dX1_pack_177 rfl rfl (by decide) (Nat.le_of_ble_eq_true rfl) (n := 182) rfl (fun x32 p31 => ?_)
  refine x_cast (x := x32) (cs := [11]) q2329 cst_ForestLegs_Stamp dX1_pack_182 (n := 185) rfl ?_
  refine x_sm (fun b33 e => ?_)
  subst e
  refine x_getI fl_X1_283 dX1_pack_185 (n := 188) rfl (fun x34 => ?_)
  exact f_X1_pack_188_ok hO a0 x34 p31
theorem f_X1_pack_95F_ok {G : xG} (hO : xOK G) (a0 : Nat)  {k95 : Int32 × Option Nat × Int32 × Option Nat × PH → Option (xO × PH)} (hk95 : ∀ (v3 : Int32) (v5 : Option Nat) (v6 : Int32) (v7 : Option Nat) (p0 : PH), X G "ForestLegs" "pack" cX1_pack 9 (Option.some Jvm.ClassFile.FieldType.int) 11 95 [(0, .ref a0), (3, .int v3), (5, va_rf v5), (6, .int v6), (7, va_rf v7)] [] p0 (k95 (v3, v5, v6, v7, p0))) (v3 : Int32) (v5 : Option Nat) (v6 : Int32) (v7 : Option Nat) (p0 : PH) : X G "ForestLegs" "pack" cX1_pack 9 (Option.some Jvm.ClassFile.FieldType.int) 11 95 [(0, .ref a0), (3, .int v3), (5, va_rf v5), (6, .int v6), (7, va_rf v7)] [] p0 (f_X1_pack_95F a0 k95 (v3, v5, v6, v7, p0)) := by
  unfold f_X1_pack_95F
  refine x_aload 4 dX1_pack_95 rfl (n := 97) rfl ?_
  refine x_sm (fun b21 e => ?_)
  subst e
  refine x_sw (fun c23 e => ?_)
  refine x_ite (fun h => ?_) (fun _ => ?_)
  · subst h
    refine x_callF_I [] [] (f_J26_hasNext_ok hO p0 b21 ) rc_J26_hasNext md_J26_hasNext rfl q1823 fc_java_util_ArrayList_Itr_java_util_Iterator_hasNext_0_Z dX1_pack_97 rfl rfl (by decide) (Nat.le_of_ble_eq_true rfl) (n := 102) rfl (fun x26 p25 => ?_)
    refine x_if_eq dX1_pack_102 (t := 132) (by decide) (n := 105) rfl (fun _ => ?_) (fun _ => ?_)
    · refine x_aload_nr 0 dX1_pack_132 rfl rfl (n := 133) rfl ?_
      refine x_iload_n 1 dX1_pack_133 rfl rfl (n := 134) rfl ?_
      refine x_if_ne dX1_pack_134 (t := 147) (by decide) (n := 137) rfl (fun _ => ?_) (fun _ => ?_)
      · refine x_iload_n 1 dX1_pack_147 rfl rfl (n := 148) rfl ?_
        refine x_iconst 1 dX1_pack_148 rfl (n := 149) rfl ?_
        refine x_icmp_ne dX1_pack_149 (t := 157) (by decide) (n := 152) rfl (fun _ => ?_) (fun _ => ?_)
        · refine x_aload 2 dX1_pack_157 rfl (n := 159) rfl ?_
          refine x_iload_n 1 dX1_pack_159 rfl rfl (n := 160) rfl ?_
          refine x_iconst 2 dX1_pack_160 rfl (n := 161) rfl ?_
          refine x_icmp_ne dX1_pack_161 (t := 168) (by decide) (n := 164) rfl (fun _ => ?_) (fun _ => ?_)
          · refine x_aload 2 dX1_pack_168 rfl (n := 170) rfl ?_
            refine x_sm (fun b27 e => ?_)
            subst e
            refine x_callF_I [] [.ref b27, .ref a0] (f_J3_size_ok hO p25 b27 ) rc_J3_size md_J3_size rfl q1479 fc_java_util_ArrayList_java_util_List_size_0_I dX1_pack_170 rfl rfl (by decide) (Nat.le_of_ble_eq_true rfl) (n := 175) rfl (fun x29 p28 => ?_)
            refine x_iconst 1 dX1_pack_175 rfl (n := 176) rfl ?_
            refine x_isub dX1_pack_176 (n := 177) rfl ?_
            refine x_sub [] [] rfl ?_
            exact f_X1_pack_177_ok hO a0 ((some b27)) (x29 - 1) p28
          · refine x_iconst 0 dX1_pack_164 rfl (n := 165) rfl ?_
            refine x_goto dX1_pack_165 (n := 177) (by decide) ?_
            refine x_sub [] [] rfl ?_
            exact f_X1_pack_177_ok hO a0 v5 0 p25
        · refine x_iload 3 dX1_pack_152 rfl (n := 154) rfl ?_
          refine x_goto dX1_pack_154 (n := 188) (by decide) ?_
          refine x_sub [] [] rfl ?_
          exact f_X1_pack_188_ok hO a0 v6 p25
      · refine x_aload 2 dX1_pack_137 rfl (n := 139) rfl ?_
        refine x_sm (fun b37 e => ?_)
        subst e
        refine x_callF_I [] [.ref a0] (f_J3_size_ok hO p25 b37 ) rc_J3_size md_J3_size rfl q1479 fc_java_util_ArrayList_java_util_List_size_0_I dX1_pack_139 rfl rfl (by decide) (Nat.le_of_ble_eq_true rfl) (n := 144) rfl (fun x39 p38 => ?_)
        refine x_goto dX1_pack_144 (n := 188) (by decide) ?_
        refine x_sub [] [] rfl ?_
        exact f_X1_pack_188_ok hO a0 x39 p38
    · refine x_aloadr 4 dX1_pack_105 rfl (n := 107) rfl ?_
      refine x_sw (fun c41 e => ?_)
      refine x_ite (fun h => ?_) (fun _ => ?_)
      · subst h
        refine x_callF_R [] [] (f_J26_next_ok hO p25 b21 ) rc_J26_next md_J26_next rfl q1858 fc_java_util_ArrayList_Itr_java_util_Iterator_next_0_Ljaval dX1_pack_107 rfl rfl (by decide) (Nat.le_of_ble_eq_true rfl) (n := 112) rfl (fun x44 p43 => ?_)
        refine x_cast (x := x44) (cs := [11]) q2329 cst_ForestLegs_Stamp dX1_pack_112 (n := 115) rfl ?_
        refine x_astore [(8, va_rf x44), (0, .ref a0), (3, .int v3), (5, va_rf v5), (6, .int v6), (7, .ref b21)] dX1_pack_115 (by decide) rfl (n := 117) rfl ?_
        refine x_iload 4 dX1_pack_117 rfl (n := 119) rfl ?_
        refine x_iconst 1 dX1_pack_119 rfl (n := 120) rfl ?_
        refine x_aload 0 dX1_pack_120 rfl (n := 122) rfl ?_
        refine x_sm (fun b45 e => ?_)
        subst e
        refine x_getI fl_X1_280 dX1_pack_122 (n := 125) rfl (fun x46 => ?_)
        refine x_ishl dX1_pack_125 (n := 126) rfl ?_
        refine x_ior dX1_pack_126 (n := 127) rfl ?_
        refine x_nm (fun x47 => ?_)
        refine x_istore [(6, .int x47), (8, .ref b45), (0, .ref a0), (3, .int v3), (5, va_rf v5), (7, .ref b21)] dX1_pack_127 (by decide) (by simp only [xst, List.filter_cons, List.filter_nil, xcat] <;> rfl) (n := 129) rfl ?_
        refine x_goto dX1_pack_129 (n := 95) (by decide) ?_
        refine x_sub [2, 3, 4, 0, 5] [(0, .ref a0), (3, .int v3), (5, va_rf v5), (6, .int x47), (7, .ref b21)] rfl ?_
        exact hk95 v3 v5 x47 ((some b21)) p43
      refine x_ite (fun h => ?_) (fun _ => ?_)
      · subst h
        refine x_callF_R [] [] (f_J37_next_ok hO p25 b21 ) rc_J37_next md_J37_next rfl q1858 fc_java_util_TreeMap_KeyIterator_java_util_Iterator_next_0_Ljaval dX1_pack_107 rfl rfl (by decide) (Nat.le_of_ble_eq_true rfl) (n := 112) rfl (fun x49 p48 => ?_)
        refine x_cast (x := x49) (cs := [11]) q2329 cst_ForestLegs_Stamp dX1_pack_112 (n := 115) rfl ?_
        refine x_astore [(8, va_rf x49), (0, .ref a0), (3, .int v3), (5, va_rf v5), (6, .int v6), (7, .ref b21)] dX1_pack_115 (by decide) rfl (n := 117) rfl ?_
        refine x_iload 4 dX1_pack_117 rfl (n := 119) rfl ?_
        refine x_iconst 1 dX1_pack_119 rfl (n := 120) rfl ?_
        refine x_aload 0 dX1_pack_120 rfl (n := 122) rfl ?_
        refine x_sm (fun b50 e => ?_)
        subst e
        refine x_getI fl_X1_280 dX1_pack_122 (n := 125) rfl (fun x51 => ?_)
        refine x_ishl dX1_pack_125 (n := 126) rfl ?_
        refine x_ior dX1_pack_126 (n := 127) rfl ?_
        refine x_nm (fun x52 => ?_)
        refine x_istore [(6, .int x52), (8, .ref b50), (0, .ref a0), (3, .int v3), (5, va_rf v5), (7, .ref b21)] dX1_pack_127 (by decide) (by simp only [xst, List.filter_cons, List.filter_nil, xcat] <;> rfl) (n := 129) rfl ?_
        refine x_goto dX1_pack_129 (n := 95) (by decide) ?_
        refine x_sub [2, 3, 4, 0, 5] [(0, .ref a0), (3, .int v3), (5, va_rf v5), (6, .int x52), (7, .ref b21)] rfl ?_
        exact hk95 v3 v5 x52 ((some b21)) p48
      exact x_no
  refine x_ite (fun h => ?_) (fun _ => ?_)
  · subst h
    refine x_callF_I [] [] (f_J36_hasNext_ok hO p0 b21 ) rc_J36_hasNext md_J36_hasNext rfl q1823 fc_java_util_TreeMap_KeyIterator_java_util_Iterator_hasNext_0_Z dX1_pack_97 rfl rfl (by decide) (Nat.le_of_ble_eq_true rfl) (n := 102) rfl (fun x54 p53 => ?_)
    refine x_if_eq dX1_pack_102 (t := 132) (by decide) (n := 105) rfl (fun _ => ?_) (fun _ => ?_)
    · refine x_aload_nr 0 dX1_pack_132 rfl rfl (n := 133) rfl ?_
      refine x_iload_n 1 dX1_pack_133 rfl rfl (n := 134) rfl ?_
      refine x_if_ne dX1_pack_134 (t := 147) (by decide) (n := 137) rfl (fun _ => ?_) (fun _ => ?_)
      · refine x_iload_n 1 dX1_pack_147 rfl rfl (n := 148) rfl ?_
        refine x_iconst 1 dX1_pack_148 rfl (n := 149) rfl ?_
        refine x_icmp_ne dX1_pack_149 (t := 157) (by decide) (n := 152) rfl (fun _ => ?_) (fun _ => ?_)
        · refine x_aload 2 dX1_pack_157 rfl (n := 159) rfl ?_
          refine x_iload_n 1 dX1_pack_159 rfl rfl (n := 160) rfl ?_
          refine x_iconst 2 dX1_pack_160 rfl (n := 161) rfl ?_
          refine x_icmp_ne dX1_pack_161 (t := 168) (by decide) (n := 164) rfl (fun _ => ?_) (fun _ => ?_)
          · refine x_aload 2 dX1_pack_168 rfl (n := 170) rfl ?_
            refine x_sm (fun b55 e => ?_)
            subst e
            refine x_callF_I [] [.ref b55, .ref a0] (f_J3_size_ok hO p53 b55 ) rc_J3_size md_J3_size rfl q1479 fc_java_util_ArrayList_java_util_List_size_0_I dX1_pack_170 rfl rfl (by decide) (Nat.le_of_ble_eq_true rfl) (n := 175) rfl (fun x57 p56 => ?_)
            refine x_iconst 1 dX1_pack_175 rfl (n := 176) rfl ?_
            refine x_isub dX1_pack_176 (n := 177) rfl ?_
            refine x_sub [] [] rfl ?_
            exact f_X1_pack_177_ok hO a0 ((some b55)) (x57 - 1) p56
          · refine x_iconst 0 dX1_pack_164 rfl (n := 165) rfl ?_
            refine x_goto dX1_pack_165 (n := 177) (by decide) ?_
            refine x_sub [] [] rfl ?_
            exact f_X1_pack_177_ok hO a0 v5 0 p53
        · refine x_iload 3 dX1_pack_152 rfl (n := 154) rfl ?_
          refine x_goto dX1_pack_154 (n := 188) (by decide) ?_
          refine x_sub [] [] rfl ?_
          exact f_X1_pack_188_ok hO a0 v6 p53
      · refine x_aload 2 dX1_pack_137 rfl (n := 139) rfl ?_
        refine x_sm (fun b58 e => ?_)
        subst e
        refine x_callF_I [] [.ref a0] (f_J3_size_ok hO p53 b58 ) rc_J3_size md_J3_size rfl q1479 fc_java_util_ArrayList_java_util_List_size_0_I dX1_pack_139 rfl rfl (by decide) (Nat.le_of_ble_eq_true rfl) (n := 144) rfl (fun x60 p59 => ?_)
        refine x_goto dX1_pack_144 (n := 188) (by decide) ?_
        refine x_sub [] [] rfl ?_
        exact f_X1_pack_188_ok hO a0 x60 p59
    · refine x_aloadr 4 dX1_pack_105 rfl (n := 107) rfl ?_
      refine x_sw (fun c62 e => ?_)
      refine x_ite (fun h => ?_) (fun _ => ?_)
      · subst h
        refine x_callF_R [] [] (f_J26_next_ok hO p53 b21 ) rc_J26_next md_J26_next rfl q1858 fc_java_util_ArrayList_Itr_java_util_Iterator_next_0_Ljaval dX1_pack_107 rfl rfl (by decide) (Nat.le_of_ble_eq_true rfl) (n := 112) rfl (fun x65 p64 => ?_)
        refine x_cast (x := x65) (cs := [11]) q2329 cst_ForestLegs_Stamp dX1_pack_112 (n := 115) rfl ?_
        refine x_astore [(8, va_rf x65), (0, .ref a0), (3, .int v3), (5, va_rf v5), (6, .int v6), (7, .ref b21)] dX1_pack_115 (by decide) rfl (n := 117) rfl ?_
        refine x_iload 4 dX1_pack_117 rfl (n := 119) rfl ?_
        refine x_iconst 1 dX1_pack_119 rfl (n := 120) rfl ?_
        refine x_aload 0 dX1_pack_120 rfl (n := 122) rfl ?_
        refine x_sm (fun b66 e => ?_)
        subst e
        refine x_getI fl_X1_280 dX1_pack_122 (n := 125) rfl (fun x67 => ?_)
        refine x_ishl dX1_pack_125 (n := 126) rfl ?_
        refine x_ior dX1_pack_126 (n := 127) rfl ?_
        refine x_nm (fun x68 => ?_)
        refine x_istore [(6, .int x68), (8, .ref b66), (0, .ref a0), (3, .int v3), (5, va_rf v5), (7, .ref b21)] dX1_pack_127 (by decide) (by simp only [xst, List.filter_cons, List.filter_nil, xcat] <;> rfl) (n := 129) rfl ?_
        refine x_goto dX1_pack_129 (n := 95) (by decide) ?_
        refine x_sub [2, 3, 4, 0, 5] [(0, .ref a0), (3, .int v3), (5, va_rf v5), (6, .int x68), (7, .ref b21)] rfl ?_
        exact hk95 v3 v5 x68 ((some b21)) p64
      refine x_ite (fun h => ?_) (fun _ => ?_)
      · subst h
        refine x_callF_R [] [] (f_J37_next_ok hO p53 b21 ) rc_J37_next md_J37_next rfl q1858 fc_java_util_TreeMap_KeyIterator_java_util_Iterator_next_0_Ljaval dX1_pack_107 rfl rfl (by decide) (Nat.le_of_ble_eq_true rfl) (n := 112) rfl (fun x70 p69 => ?_)
        refine x_cast (x := x70) (cs := [11]) q2329 cst_ForestLegs_Stamp dX1_pack_112 (n := 115) rfl ?_
        refine x_astore [(8, va_rf x70), (0, .ref a0), (3, .int v3), (5, va_rf v5), (6, .int v6), (7, .ref b21)] dX1_pack_115 (by decide) rfl (n := 117) rfl ?_
        refine x_iload 4 dX1_pack_117 rfl (n := 119) rfl ?_
        refine x_iconst 1 dX1_pack_119 rfl (n := 120) rfl ?_
        refine x_aload 0 dX1_pack_120 rfl (n := 122) rfl ?_
        refine x_sm (fun b71 e => ?_)
        subst e
        refine x_getI fl_X1_280 dX1_pack_122 (n := 125) rfl (fun x72 => ?_)
        refine x_ishl dX1_pack_125 (n := 126) rfl ?_
        refine x_ior dX1_pack_126 (n := 127) rfl ?_
        refine x_nm (fun x73 => ?_)
        refine x_istore [(6, .int x73), (8, .ref b71), (0, .ref a0), (3, .int v3), (5, va_rf v5), (7, .ref b21)] dX1_pack_127 (by decide) (by simp only [xst, List.filter_cons, List.filter_nil, xcat] <;> rfl) (n := 129) rfl ?_
        refine x_goto dX1_pack_129 (n := 95) (by decide) ?_
        refine x_sub [2, 3, 4, 0, 5] [(0, .ref a0), (3, .int v3), (5, va_rf v5), (6, .int x73), (7, .ref b21)] rfl ?_
        exact hk95 v3 v5 x73 ((some b21)) p69
      exact x_no
  exact x_no
theorem f_X1_pack_95_lp {G : xG} (hO : xOK G) (a0 : Nat)  (n : Nat) (v3 : Int32) (v5 : Option Nat) (v6 : Int32) (v7 : Option Nat) (p0 : PH) : X G "ForestLegs" "pack" cX1_pack 9 (Option.some Jvm.ClassFile.FieldType.int) 11 95 [(0, .ref a0), (3, .int v3), (5, va_rf v5), (6, .int v6), (7, va_rf v7)] [] p0 (lp (f_X1_pack_95F a0) n (v3, v5, v6, v7, p0)) :=
  lp_ok (W := fun p K => X G "ForestLegs" "pack" cX1_pack 9 (Option.some Jvm.ClassFile.FieldType.int) 11 95 [(0, .ref a0), (3, .int p.1), (5, va_rf p.2.1), (6, .int p.2.2.1), (7, va_rf p.2.2.2.1)] [] p.2.2.2.2 K) (fun _ => x_no) (fun k hk => fun (v3, v5, v6, v7, p0) => f_X1_pack_95F_ok hO a0 (fun v3 v5 v6 v7 p0 => hk (v3, v5, v6, v7, p0)) v3 v5 v6 v7 p0) n (v3, v5, v6, v7, p0)
theorem f_X1_pack_ok {G : xG} (hO : xOK G) (p0 : PH) (a0 : Nat) (a1 : Int32) (a2 : Int32) (a3 : Int32) : CT G 11 yX1_pack cX1_pack 9 (Option.some Jvm.ClassFile.FieldType.int) [.ref a0, .int a1, .int a2, .int a3] p0 (f_X1_pack p0 a0 a1 a2 a3) := by
  refine CT_of hO (by decide +kernel) (by decide +kernel) (Nat.le_of_ble_eq_true rfl) ?_
  show X G "ForestLegs" "pack" cX1_pack 9 (Option.some Jvm.ClassFile.FieldType.int) 11 0 [(0, .ref a0), (1, .int a1), (2, .int a2), (3, .int a3)] [] p0 (f_X1_pack p0 a0 a1 a2 a3)
  refine x_cl1 (fun e0 => ?_)
  refine x_aload_nr 0 dX1_pack_0 rfl rfl (n := 1) rfl ?_
  refine x_getR fl_X1_56 dX1_pack_1 (n := 4) rfl (fun x1 => ?_)
  refine x_ifnull dX1_pack_4 (t := 20) (by decide) (n := 7) rfl (fun e => ?_) (fun b2 e => ?_)
  · subst e
    refine x_sub [0] [(0, .ref a0)] rfl ?_
    exact f_X1_pack_20_ok hO a0  p0
  · subst e
    refine x_iload_n 2 dX1_pack_7 rfl rfl (n := 8) rfl ?_
    refine x_if_lt dX1_pack_8 (t := 20) (by decide) (n := 11) rfl (fun _ => ?_) (fun _ => ?_)
    · refine x_sub [0] [(0, .ref a0)] rfl ?_
      exact f_X1_pack_20_ok hO a0  p0
    · refine x_iload_n 3 dX1_pack_11 rfl rfl (n := 12) rfl ?_
      refine x_iconst 0 dX1_pack_12 rfl (n := 13) rfl ?_
      refine x_iconst 3 dX1_pack_13 rfl (n := 14) rfl ?_
      refine x_callS_I [.int a3, .int 0, .int 3] [] (f_X1_isIn_ok hO p0 a3 0 3) md_X1_isIn q247 q248 dX1_pack_14 rfl rfl (by decide) (Nat.le_of_ble_eq_true rfl) (n := 17) rfl (fun x6 p5 => ?_)
      refine x_if_ne dX1_pack_17 (t := 26) (by decide) (n := 20) rfl (fun _ => ?_) (fun _ => ?_)
      · refine x_iload_n 1 dX1_pack_26 rfl rfl (n := 27) rfl ?_
        refine x_iconst 1 dX1_pack_27 rfl (n := 28) rfl ?_
        refine x_bipush 99 dX1_pack_28 rfl (n := 30) rfl ?_
        refine x_callS_I [.int a1, .int 1, .int 99] [] (f_X1_isIn_ok hO p5 a1 1 99) md_X1_isIn q247 q248 dX1_pack_30 rfl rfl (by decide) (Nat.le_of_ble_eq_true rfl) (n := 33) rfl (fun x8 p7 => ?_)
        refine x_if_ne dX1_pack_33 (t := 42) (by decide) (n := 36) rfl (fun _ => ?_) (fun _ => ?_)
        · refine x_aload_nr 0 dX1_pack_42 rfl rfl (n := 43) rfl ?_
          refine x_getR fl_X1_56 dX1_pack_43 (n := 46) rfl (fun x9 => ?_)
          refine x_iload_n 1 dX1_pack_46 rfl rfl (n := 47) rfl ?_
          refine x_sm (fun b10 e => ?_)
          subst e
          refine x_callV_R [.int a1] [] (f_X4_packs_ok hO p7 b10 a1) rc_X4_packs md_X4_packs rfl q2182 q2183 q2184 dX1_pack_47 rfl rfl (by decide) (Nat.le_of_ble_eq_true rfl) (n := 50) rfl (fun x12 p11 => ?_)
          refine x_astore [(4, va_rf x12), (0, .ref a0), (1, .int a1), (2, .int a2), (3, .int a3)] dX1_pack_50 (by decide) rfl (n := 52) rfl ?_
          refine x_iload_n 3 dX1_pack_52 rfl rfl (n := 53) rfl ?_
          refine x_aload 0 dX1_pack_53 rfl (n := 55) rfl ?_
          refine x_sm (fun b13 e => ?_)
          subst e
          refine x_callF_I [] [.int a2] (f_J3_size_ok hO p11 b13 ) rc_J3_size md_J3_size rfl q1479 fc_java_util_ArrayList_java_util_List_size_0_I dX1_pack_55 rfl rfl (by decide) (Nat.le_of_ble_eq_true rfl) (n := 60) rfl (fun x15 p14 => ?_)
          refine x_icmp_lt dX1_pack_60 (t := 70) (by decide) (n := 63) rfl (fun _ => ?_) (fun _ => ?_)
          · refine x_aloadr 0 dX1_pack_70 rfl (n := 72) rfl ?_
            refine x_iload_n 3 dX1_pack_72 rfl rfl (n := 73) rfl ?_
            refine x_callF_R [.int a2] [] (f_J3_get_ok hO p14 b13 a2) rc_J3_get md_J3_get rfl q1497 fc_java_util_ArrayList_java_util_List_get_1_ILjava dX1_pack_73 rfl rfl (by decide) (Nat.le_of_ble_eq_true rfl) (n := 78) rfl (fun x17 p16 => ?_)
            refine x_cast (x := x17) (cs := [14]) q2328 cst_java_util_List dX1_pack_78 (n := 81) rfl ?_
            refine x_astore [(5, va_rf x17), (4, .ref b13), (0, .ref a0), (1, .int a1), (2, .int a2), (3, .int a3)] dX1_pack_81 (by decide) rfl (n := 83) rfl ?_
            refine x_iconst 0 dX1_pack_83 rfl (n := 84) rfl ?_
            refine x_istore [(6, .int 0), (5, va_rf x17), (4, .ref b13), (0, .ref a0), (1, .int a1), (2, .int a2), (3, .int a3)] dX1_pack_84 (by decide) (by simp only [xst, List.filter_cons, List.filter_nil, xcat] <;> rfl) (n := 86) rfl ?_
            refine x_aload 1 dX1_pack_86 rfl (n := 88) rfl ?_
            refine x_sm (fun b18 e => ?_)
            subst e
            refine x_callF_R [] [] (f_J3_iterator_ok hO p16 b18 ) rc_J3_iterator md_J3_iterator rfl q1791 fc_java_util_ArrayList_java_util_List_iterator_0_Ljavau dX1_pack_88 rfl rfl (by decide) (Nat.le_of_ble_eq_true rfl) (n := 93) rfl (fun x20 p19 => ?_)
            refine x_astore [(7, va_rf x20), (6, .int 0), (5, .ref b18), (4, .ref b13), (0, .ref a0), (1, .int a1), (2, .int a2), (3, .int a3)] dX1_pack_93 (by decide) rfl (n := 95) rfl ?_
            refine x_sub [4, 7, 2, 1, 0] [(0, .ref a0), (3, .int a3), (5, .ref b18), (6, .int 0), (7, va_rf x20)] rfl ?_
            exact f_X1_pack_95_lp hO a0 FU a3 ((some b18)) 0 x20 p19
          · refine x_aload_nr 1 dX1_pack_63 rfl rfl (n := 64) rfl ?_
            refine x_bipush (-2) dX1_pack_64 rfl (n := 66) rfl ?_
            refine x_callV_I [.int (-2)] [] (f_X1_fine_ok hO p14 a0 (-2)) rc_X1_fine md_X1_fine rfl q1480 q1482 qs26 dX1_pack_66 rfl rfl (by decide) (Nat.le_of_ble_eq_true rfl) (n := 69) rfl (fun x75 p74 => ?_)
            exact x_ireturn dX1_pack_69
        · refine x_aload_nr 0 dX1_pack_36 rfl rfl (n := 37) rfl ?_
          refine x_iconst 2 dX1_pack_37 rfl (n := 38) rfl ?_
          refine x_callV_I [.int 2] [] (f_X1_refused_ok hO p7 a0 2) rc_X1_refused md_X1_refused rfl q250 q252 qs0 dX1_pack_38 rfl rfl (by decide) (Nat.le_of_ble_eq_true rfl) (n := 41) rfl (fun x77 p76 => ?_)
          exact x_ireturn dX1_pack_41
      · refine x_sub [0] [(0, .ref a0)] rfl ?_
        exact f_X1_pack_20_ok hO a0  p5
abbrev cX1_whyNot : ByteArray := prog_1_method_44_code
def yX1_whyNot : MethodName := ⟨RX1, "whyNot", "(II)I"⟩
def dkwX1_whyNot_3 : List UInt8 := [167, 0, 4, 3, 172]
abbrev dktX1_whyNot_3 : List UInt8 := dkwX1_whyNot_3 ++ []
def dkwX1_whyNot_2 : List UInt8 := [180, 0, 56, 180, 0, 71, 28, 185, 0, 93, 2, 0, 192, 0, 103, 180, 0, 105, 159, 0, 7, 8]
abbrev dktX1_whyNot_2 : List UInt8 := dkwX1_whyNot_2 ++ dktX1_whyNot_3
def dkwX1_whyNot_1 : List UInt8 := [159, 0, 44, 42, 180, 0, 56, 180, 0, 71, 27, 185, 0, 93, 2, 0, 192, 0, 103, 180, 0, 105, 42]
abbrev dktX1_whyNot_1 : List UInt8 := dkwX1_whyNot_1 ++ dktX1_whyNot_2
def dkwX1_whyNot_0 : List UInt8 := [42, 27, 182, 0, 100, 153, 0, 11, 42, 28, 182, 0, 100, 154, 0, 7, 4, 167, 0, 54, 27, 28]
abbrev dktX1_whyNot_0 : List UInt8 := dkwX1_whyNot_0 ++ dktX1_whyNot_1
theorem dksX1_whyNot_0 : cX1_whyNot.data.toList.drop 0 = dktX1_whyNot_0 := by decide +kernel
theorem dksX1_whyNot_1 : cX1_whyNot.data.toList.drop 22 = dktX1_whyNot_1 := dk_seg dksX1_whyNot_0 22 rfl rfl
theorem dksX1_whyNot_2 : cX1_whyNot.data.toList.drop 45 = dktX1_whyNot_2 := dk_seg dksX1_whyNot_1 23 rfl rfl
theorem dksX1_whyNot_3 : cX1_whyNot.data.toList.drop 67 = dktX1_whyNot_3 := dk_seg dksX1_whyNot_2 22 rfl rfl
theorem dX1_whyNot_0 : decode cX1_whyNot 0 = .ok (.aload_n 0, 1) := dk_42 (dk_at dksX1_whyNot_0 0 rfl rfl)
theorem dX1_whyNot_1 : decode cX1_whyNot 1 = .ok (.iload_n 1, 1) := dk_27 (dk_at dksX1_whyNot_0 1 rfl rfl)
theorem dX1_whyNot_2 : decode cX1_whyNot 2 = .ok (.invokevirtual 100, 3) := dk_182 0 100 (dk_at dksX1_whyNot_0 2 rfl rfl)
theorem dX1_whyNot_5 : decode cX1_whyNot 5 = .ok (.ifCond .eq 11, 3) := dk_153 0 11 (dk_at dksX1_whyNot_0 5 rfl rfl)
theorem dX1_whyNot_8 : decode cX1_whyNot 8 = .ok (.aload_n 0, 1) := dk_42 (dk_at dksX1_whyNot_0 8 rfl rfl)
theorem dX1_whyNot_9 : decode cX1_whyNot 9 = .ok (.iload_n 2, 1) := dk_28 (dk_at dksX1_whyNot_0 9 rfl rfl)
theorem dX1_whyNot_10 : decode cX1_whyNot 10 = .ok (.invokevirtual 100, 3) := dk_182 0 100 (dk_at dksX1_whyNot_0 10 rfl rfl)
theorem dX1_whyNot_13 : decode cX1_whyNot 13 = .ok (.ifCond .ne 7, 3) := dk_154 0 7 (dk_at dksX1_whyNot_0 13 rfl rfl)
theorem dX1_whyNot_16 : decode cX1_whyNot 16 = .ok (.iconst 1, 1) := dk_4 (dk_at dksX1_whyNot_0 16 rfl rfl)
theorem dX1_whyNot_17 : decode cX1_whyNot 17 = .ok (.goto 54, 3) := dk_167 0 54 (dk_at dksX1_whyNot_0 17 rfl rfl)
theorem dX1_whyNot_20 : decode cX1_whyNot 20 = .ok (.iload_n 1, 1) := dk_27 (dk_at dksX1_whyNot_0 20 rfl rfl)
theorem dX1_whyNot_21 : decode cX1_whyNot 21 = .ok (.iload_n 2, 1) := dk_28 (dk_at dksX1_whyNot_0 21 rfl rfl)
theorem dX1_whyNot_22 : decode cX1_whyNot 22 = .ok (.if_icmp .eq 44, 3) := dk_159 0 44 (dk_at dksX1_whyNot_1 0 rfl rfl)
theorem dX1_whyNot_25 : decode cX1_whyNot 25 = .ok (.aload_n 0, 1) := dk_42 (dk_at dksX1_whyNot_1 3 rfl rfl)
theorem dX1_whyNot_26 : decode cX1_whyNot 26 = .ok (.getfield 56, 3) := dk_180 0 56 (dk_at dksX1_whyNot_1 4 rfl rfl)
theorem dX1_whyNot_29 : decode cX1_whyNot 29 = .ok (.getfield 71, 3) := dk_180 0 71 (dk_at dksX1_whyNot_1 7 rfl rfl)
theorem dX1_whyNot_32 : decode cX1_whyNot 32 = .ok (.iload_n 1, 1) := dk_27 (dk_at dksX1_whyNot_1 10 rfl rfl)
theorem dX1_whyNot_33 : decode cX1_whyNot 33 = .ok (.invokeinterface 93 2, 5) := by decide +kernel
theorem dX1_whyNot_38 : decode cX1_whyNot 38 = .ok (.checkcast 103, 3) := dk_192 0 103 (dk_at dksX1_whyNot_1 16 rfl rfl)
theorem dX1_whyNot_41 : decode cX1_whyNot 41 = .ok (.getfield 105, 3) := dk_180 0 105 (dk_at dksX1_whyNot_1 19 rfl rfl)
theorem dX1_whyNot_44 : decode cX1_whyNot 44 = .ok (.aload_n 0, 1) := dk_42 (dk_at dksX1_whyNot_1 22 rfl rfl)
theorem dX1_whyNot_45 : decode cX1_whyNot 45 = .ok (.getfield 56, 3) := dk_180 0 56 (dk_at dksX1_whyNot_2 0 rfl rfl)
theorem dX1_whyNot_48 : decode cX1_whyNot 48 = .ok (.getfield 71, 3) := dk_180 0 71 (dk_at dksX1_whyNot_2 3 rfl rfl)
theorem dX1_whyNot_51 : decode cX1_whyNot 51 = .ok (.iload_n 2, 1) := dk_28 (dk_at dksX1_whyNot_2 6 rfl rfl)
theorem dX1_whyNot_52 : decode cX1_whyNot 52 = .ok (.invokeinterface 93 2, 5) := by decide +kernel
theorem dX1_whyNot_57 : decode cX1_whyNot 57 = .ok (.checkcast 103, 3) := dk_192 0 103 (dk_at dksX1_whyNot_2 12 rfl rfl)
theorem dX1_whyNot_60 : decode cX1_whyNot 60 = .ok (.getfield 105, 3) := dk_180 0 105 (dk_at dksX1_whyNot_2 15 rfl rfl)
theorem dX1_whyNot_63 : decode cX1_whyNot 63 = .ok (.if_icmp .eq 7, 3) := dk_159 0 7 (dk_at dksX1_whyNot_2 18 rfl rfl)
theorem dX1_whyNot_66 : decode cX1_whyNot 66 = .ok (.iconst 5, 1) := dk_8 (dk_at dksX1_whyNot_2 21 rfl rfl)
theorem dX1_whyNot_67 : decode cX1_whyNot 67 = .ok (.goto 4, 3) := dk_167 0 4 (dk_at dksX1_whyNot_3 0 rfl rfl)
theorem dX1_whyNot_70 : decode cX1_whyNot 70 = .ok (.iconst 0, 1) := dk_3 (dk_at dksX1_whyNot_3 3 rfl rfl)
theorem dX1_whyNot_71 : decode cX1_whyNot 71 = .ok (.ireturn, 1) := dk_172 (dk_at dksX1_whyNot_3 4 rfl rfl)
theorem md_X1_whyNot : xMd yX1_whyNot cX1_whyNot 3 (Option.some Jvm.ClassFile.FieldType.int) 2 := ⟨q2337, q123, by decide, by decide +kernel, by decide +kernel, by decide +kernel⟩
def f_X1_whyNot (p0 : PH) (a0 : Nat) (a1 : Int32) (a2 : Int32) : Option (xO × PH) :=
  (xcl1 p0 a0 0 (xcI (f_X1_isRunner p0 a0 a1) fun x2 p1 =>
  (if x2 = 0 then
  (rI 1 p1) else
  (xcI (f_X1_isRunner p1 a0 a2) fun x4 p3 =>
  (if x4 = 0 then
  (rI 1 p3) else
  (if a1 = a2 then
  (rI 5 p3) else
  (xgR p3 a0 0 5 fun x5 =>
  (xnul x5 none fun b6 =>
  (xgR p3 b6 3 1 fun x7 =>
  (xnul x7 none fun b8 =>
  (xcR (f_J3_get p3 b8 a1) fun x10 p9 =>
  (xcst p9 (x10) [6]
  (xnul x10 none fun b11 =>
  (xgI p9 b11 6 1 fun x12 =>
  (xgR p9 a0 0 5 fun x13 =>
  (xnul x13 none fun b14 =>
  (xgR p9 b14 3 1 fun x15 =>
  (xnul x15 none fun b16 =>
  (xcR (f_J3_get p9 b16 a2) fun x18 p17 =>
  (xcst p17 (x18) [6]
  (xnul x18 none fun b19 =>
  (xgI p17 b19 6 1 fun x20 =>
  (if x12 = x20 then
  (rI 0 p17) else
  (rI 5 p17))))))))))))))))))))))))
theorem rc_X1_whyNot {p0 : PH} {a0 : Nat} {a1 : Int32} {a2 : Int32} : ∀ z, f_X1_whyNot p0 a0 a1 a2 = some z → xco p0 a0 = some 0 := fun z h => xcl1_some h
theorem f_X1_whyNot_ok {G : xG} (hO : xOK G) (p0 : PH) (a0 : Nat) (a1 : Int32) (a2 : Int32) : CT G 3 yX1_whyNot cX1_whyNot 3 (Option.some Jvm.ClassFile.FieldType.int) [.ref a0, .int a1, .int a2] p0 (f_X1_whyNot p0 a0 a1 a2) := by
  refine CT_of hO (by decide +kernel) (by decide +kernel) (Nat.le_of_ble_eq_true rfl) ?_
  show X G "ForestLegs" "whyNot" cX1_whyNot 3 (Option.some Jvm.ClassFile.FieldType.int) 3 0 [(0, .ref a0), (1, .int a1), (2, .int a2)] [] p0 (f_X1_whyNot p0 a0 a1 a2)
  refine x_cl1 (fun e0 => ?_)
  refine x_aload_nr 0 dX1_whyNot_0 rfl rfl (n := 1) rfl ?_
  refine x_iload_n 1 dX1_whyNot_1 rfl rfl (n := 2) rfl ?_
  refine x_callV_I [.int a1] [] (f_X1_isRunner_ok hO p0 a0 a1) rc_X1_isRunner md_X1_isRunner rfl q1780 q1782 qs41 dX1_whyNot_2 rfl rfl (by decide) (Nat.le_of_ble_eq_true rfl) (n := 5) rfl (fun x2 p1 => ?_)
  refine x_if_eq dX1_whyNot_5 (t := 16) (by decide) (n := 8) rfl (fun _ => ?_) (fun _ => ?_)
  · refine x_iconst 1 dX1_whyNot_16 rfl (n := 17) rfl ?_
    refine x_goto dX1_whyNot_17 (n := 71) (by decide) ?_
    exact x_ireturn dX1_whyNot_71
  · refine x_aload_nr 0 dX1_whyNot_8 rfl rfl (n := 9) rfl ?_
    refine x_iload_n 2 dX1_whyNot_9 rfl rfl (n := 10) rfl ?_
    refine x_callV_I [.int a2] [] (f_X1_isRunner_ok hO p1 a0 a2) rc_X1_isRunner md_X1_isRunner rfl q1780 q1782 qs41 dX1_whyNot_10 rfl rfl (by decide) (Nat.le_of_ble_eq_true rfl) (n := 13) rfl (fun x4 p3 => ?_)
    refine x_if_ne dX1_whyNot_13 (t := 20) (by decide) (n := 16) rfl (fun _ => ?_) (fun _ => ?_)
    · refine x_iload_n 1 dX1_whyNot_20 rfl rfl (n := 21) rfl ?_
      refine x_iload_n 2 dX1_whyNot_21 rfl rfl (n := 22) rfl ?_
      refine x_icmp_eq dX1_whyNot_22 (t := 66) (by decide) (n := 25) rfl (fun _ => ?_) (fun _ => ?_)
      · refine x_iconst 5 dX1_whyNot_66 rfl (n := 67) rfl ?_
        refine x_goto dX1_whyNot_67 (n := 71) (by decide) ?_
        exact x_ireturn dX1_whyNot_71
      · refine x_aload_nr 0 dX1_whyNot_25 rfl rfl (n := 26) rfl ?_
        refine x_getR fl_X1_56 dX1_whyNot_26 (n := 29) rfl (fun x5 => ?_)
        refine x_sm (fun b6 e => ?_)
        subst e
        refine x_getR fl_X1_71 dX1_whyNot_29 (n := 32) rfl (fun x7 => ?_)
        refine x_iload_n 1 dX1_whyNot_32 rfl rfl (n := 33) rfl ?_
        refine x_sm (fun b8 e => ?_)
        subst e
        refine x_callF_R [.int a1] [] (f_J3_get_ok hO p3 b8 a1) rc_J3_get md_J3_get rfl q1497 fc_java_util_ArrayList_java_util_List_get_1_ILjava dX1_whyNot_33 rfl rfl (by decide) (Nat.le_of_ble_eq_true rfl) (n := 38) rfl (fun x10 p9 => ?_)
        refine x_cast (x := x10) (cs := [6]) q1498 cst_ForestLegs_Runner dX1_whyNot_38 (n := 41) rfl ?_
        refine x_sm (fun b11 e => ?_)
        subst e
        refine x_getI fl_X1_105 dX1_whyNot_41 (n := 44) rfl (fun x12 => ?_)
        refine x_aload_nr 0 dX1_whyNot_44 rfl rfl (n := 45) rfl ?_
        refine x_getR fl_X1_56 dX1_whyNot_45 (n := 48) rfl (fun x13 => ?_)
        refine x_sm (fun b14 e => ?_)
        subst e
        refine x_getR fl_X1_71 dX1_whyNot_48 (n := 51) rfl (fun x15 => ?_)
        refine x_iload_n 2 dX1_whyNot_51 rfl rfl (n := 52) rfl ?_
        refine x_sm (fun b16 e => ?_)
        subst e
        refine x_callF_R [.int a2] [.int x12] (f_J3_get_ok hO p9 b16 a2) rc_J3_get md_J3_get rfl q1497 fc_java_util_ArrayList_java_util_List_get_1_ILjava dX1_whyNot_52 rfl rfl (by decide) (Nat.le_of_ble_eq_true rfl) (n := 57) rfl (fun x18 p17 => ?_)
        refine x_cast (x := x18) (cs := [6]) q1498 cst_ForestLegs_Runner dX1_whyNot_57 (n := 60) rfl ?_
        refine x_sm (fun b19 e => ?_)
        subst e
        refine x_getI fl_X1_105 dX1_whyNot_60 (n := 63) rfl (fun x20 => ?_)
        refine x_icmp_eq dX1_whyNot_63 (t := 70) (by decide) (n := 66) rfl (fun _ => ?_) (fun _ => ?_)
        · refine x_iconst 0 dX1_whyNot_70 rfl (n := 71) rfl ?_
          exact x_ireturn dX1_whyNot_71
        · refine x_iconst 5 dX1_whyNot_66 rfl (n := 67) rfl ?_
          refine x_goto dX1_whyNot_67 (n := 71) (by decide) ?_
          exact x_ireturn dX1_whyNot_71
    · refine x_iconst 1 dX1_whyNot_16 rfl (n := 17) rfl ?_
      refine x_goto dX1_whyNot_17 (n := 71) (by decide) ?_
      exact x_ireturn dX1_whyNot_71
abbrev cJ8_abs : ByteArray := prog_28_method_59_code
def yJ8_abs : MethodName := ⟨RJ8, "abs", "(I)I"⟩
def dkwJ8_abs_0 : List UInt8 := [26, 156, 0, 8, 26, 116, 167, 0, 4, 26, 172]
abbrev dktJ8_abs_0 : List UInt8 := dkwJ8_abs_0 ++ []
theorem dksJ8_abs_0 : cJ8_abs.data.toList.drop 0 = dktJ8_abs_0 := by decide +kernel
theorem dJ8_abs_0 : decode cJ8_abs 0 = .ok (.iload_n 0, 1) := dk_26 (dk_at dksJ8_abs_0 0 rfl rfl)
theorem dJ8_abs_1 : decode cJ8_abs 1 = .ok (.ifCond .ge 8, 3) := dk_156 0 8 (dk_at dksJ8_abs_0 1 rfl rfl)
theorem dJ8_abs_4 : decode cJ8_abs 4 = .ok (.iload_n 0, 1) := dk_26 (dk_at dksJ8_abs_0 4 rfl rfl)
theorem dJ8_abs_5 : decode cJ8_abs 5 = .ok (.ineg, 1) := dk_116 (dk_at dksJ8_abs_0 5 rfl rfl)
theorem dJ8_abs_6 : decode cJ8_abs 6 = .ok (.goto 4, 3) := dk_167 0 4 (dk_at dksJ8_abs_0 6 rfl rfl)
theorem dJ8_abs_9 : decode cJ8_abs 9 = .ok (.iload_n 0, 1) := dk_26 (dk_at dksJ8_abs_0 9 rfl rfl)
theorem dJ8_abs_10 : decode cJ8_abs 10 = .ok (.ireturn, 1) := dk_172 (dk_at dksJ8_abs_0 10 rfl rfl)
theorem md_J8_abs : xMd yJ8_abs cJ8_abs 1 (Option.some Jvm.ClassFile.FieldType.int) 1 := ⟨q2349, q135, by decide, by decide +kernel, by decide +kernel, by decide +kernel⟩
def f_J8_abs (p0 : PH) (a0 : Int32) : Option (xO × PH) :=
  (if 0 ≤ a0 then
  (rI a0 p0) else
  (rI (-a0) p0))
theorem f_J8_abs_ok {G : xG} (hO : xOK G) (p0 : PH) (a0 : Int32) : CT G 0 yJ8_abs cJ8_abs 1 (Option.some Jvm.ClassFile.FieldType.int) [.int a0] p0 (f_J8_abs p0 a0) := by
  refine CT_of hO (by decide +kernel) (by decide +kernel) (Nat.le_of_ble_eq_true rfl) ?_
  show X G "java/lang/Math" "abs" cJ8_abs 1 (Option.some Jvm.ClassFile.FieldType.int) 0 0 [(0, .int a0)] [] p0 (f_J8_abs p0 a0)
  refine x_iload_n 0 dJ8_abs_0 rfl rfl (n := 1) rfl ?_
  refine x_if_ge dJ8_abs_1 (t := 9) (by decide) (n := 4) rfl (fun _ => ?_) (fun _ => ?_)
  · refine x_iload_n 0 dJ8_abs_9 rfl rfl (n := 10) rfl ?_
    exact x_ireturn dJ8_abs_10
  · refine x_iload_n 0 dJ8_abs_4 rfl rfl (n := 5) rfl ?_
    refine x_ineg dJ8_abs_5 (n := 6) rfl ?_
    refine x_goto dJ8_abs_6 (n := 10) (by decide) ?_
    exact x_ireturn dJ8_abs_10
abbrev cX4_areTogether : ByteArray := prog_7_method_18_code
def yX4_areTogether : MethodName := ⟨RX4, "areTogether", "(III)Z"⟩
def dkwX4_areTogether_2 : List UInt8 := [184, 0, 186, 42, 180, 0, 23, 163, 0, 7, 4, 167, 0, 4, 3, 172]
abbrev dktX4_areTogether_2 : List UInt8 := dkwX4_areTogether_2 ++ []
def dkwX4_areTogether_1 : List UInt8 := [16, 254, 159, 0, 36, 42, 27, 182, 0, 78, 29, 182, 0, 184, 42, 28, 182, 0, 78, 29, 182, 0, 184, 100]
abbrev dktX4_areTogether_1 : List UInt8 := dkwX4_areTogether_1 ++ dktX4_areTogether_2
def dkwX4_areTogether_0 : List UInt8 := [42, 27, 182, 0, 78, 29, 182, 0, 184, 16, 254, 159, 0, 50, 42, 28, 182, 0, 78, 29, 182, 0, 184]
abbrev dktX4_areTogether_0 : List UInt8 := dkwX4_areTogether_0 ++ dktX4_areTogether_1
theorem dksX4_areTogether_0 : cX4_areTogether.data.toList.drop 0 = dktX4_areTogether_0 := by decide +kernel
theorem dksX4_areTogether_1 : cX4_areTogether.data.toList.drop 23 = dktX4_areTogether_1 := dk_seg dksX4_areTogether_0 23 rfl rfl
theorem dksX4_areTogether_2 : cX4_areTogether.data.toList.drop 47 = dktX4_areTogether_2 := dk_seg dksX4_areTogether_1 24 rfl rfl
theorem dX4_areTogether_0 : decode cX4_areTogether 0 = .ok (.aload_n 0, 1) := dk_42 (dk_at dksX4_areTogether_0 0 rfl rfl)
theorem dX4_areTogether_1 : decode cX4_areTogether 1 = .ok (.iload_n 1, 1) := dk_27 (dk_at dksX4_areTogether_0 1 rfl rfl)
theorem dX4_areTogether_2 : decode cX4_areTogether 2 = .ok (.invokevirtual 78, 3) := dk_182 0 78 (dk_at dksX4_areTogether_0 2 rfl rfl)
theorem dX4_areTogether_5 : decode cX4_areTogether 5 = .ok (.iload_n 3, 1) := dk_29 (dk_at dksX4_areTogether_0 5 rfl rfl)
theorem dX4_areTogether_6 : decode cX4_areTogether 6 = .ok (.invokevirtual 184, 3) := dk_182 0 184 (dk_at dksX4_areTogether_0 6 rfl rfl)
theorem dX4_areTogether_9 : decode cX4_areTogether 9 = .ok (.bipush (-2), 2) := dk_16 254 (dk_at dksX4_areTogether_0 9 rfl rfl)
theorem dX4_areTogether_11 : decode cX4_areTogether 11 = .ok (.if_icmp .eq 50, 3) := dk_159 0 50 (dk_at dksX4_areTogether_0 11 rfl rfl)
theorem dX4_areTogether_14 : decode cX4_areTogether 14 = .ok (.aload_n 0, 1) := dk_42 (dk_at dksX4_areTogether_0 14 rfl rfl)
theorem dX4_areTogether_15 : decode cX4_areTogether 15 = .ok (.iload_n 2, 1) := dk_28 (dk_at dksX4_areTogether_0 15 rfl rfl)
theorem dX4_areTogether_16 : decode cX4_areTogether 16 = .ok (.invokevirtual 78, 3) := dk_182 0 78 (dk_at dksX4_areTogether_0 16 rfl rfl)
theorem dX4_areTogether_19 : decode cX4_areTogether 19 = .ok (.iload_n 3, 1) := dk_29 (dk_at dksX4_areTogether_0 19 rfl rfl)
theorem dX4_areTogether_20 : decode cX4_areTogether 20 = .ok (.invokevirtual 184, 3) := dk_182 0 184 (dk_at dksX4_areTogether_0 20 rfl rfl)
theorem dX4_areTogether_23 : decode cX4_areTogether 23 = .ok (.bipush (-2), 2) := dk_16 254 (dk_at dksX4_areTogether_1 0 rfl rfl)
theorem dX4_areTogether_25 : decode cX4_areTogether 25 = .ok (.if_icmp .eq 36, 3) := dk_159 0 36 (dk_at dksX4_areTogether_1 2 rfl rfl)
theorem dX4_areTogether_28 : decode cX4_areTogether 28 = .ok (.aload_n 0, 1) := dk_42 (dk_at dksX4_areTogether_1 5 rfl rfl)
theorem dX4_areTogether_29 : decode cX4_areTogether 29 = .ok (.iload_n 1, 1) := dk_27 (dk_at dksX4_areTogether_1 6 rfl rfl)
theorem dX4_areTogether_30 : decode cX4_areTogether 30 = .ok (.invokevirtual 78, 3) := dk_182 0 78 (dk_at dksX4_areTogether_1 7 rfl rfl)
theorem dX4_areTogether_33 : decode cX4_areTogether 33 = .ok (.iload_n 3, 1) := dk_29 (dk_at dksX4_areTogether_1 10 rfl rfl)
theorem dX4_areTogether_34 : decode cX4_areTogether 34 = .ok (.invokevirtual 184, 3) := dk_182 0 184 (dk_at dksX4_areTogether_1 11 rfl rfl)
theorem dX4_areTogether_37 : decode cX4_areTogether 37 = .ok (.aload_n 0, 1) := dk_42 (dk_at dksX4_areTogether_1 14 rfl rfl)
theorem dX4_areTogether_38 : decode cX4_areTogether 38 = .ok (.iload_n 2, 1) := dk_28 (dk_at dksX4_areTogether_1 15 rfl rfl)
theorem dX4_areTogether_39 : decode cX4_areTogether 39 = .ok (.invokevirtual 78, 3) := dk_182 0 78 (dk_at dksX4_areTogether_1 16 rfl rfl)
theorem dX4_areTogether_42 : decode cX4_areTogether 42 = .ok (.iload_n 3, 1) := dk_29 (dk_at dksX4_areTogether_1 19 rfl rfl)
theorem dX4_areTogether_43 : decode cX4_areTogether 43 = .ok (.invokevirtual 184, 3) := dk_182 0 184 (dk_at dksX4_areTogether_1 20 rfl rfl)
theorem dX4_areTogether_46 : decode cX4_areTogether 46 = .ok (.isub, 1) := dk_100 (dk_at dksX4_areTogether_1 23 rfl rfl)
theorem dX4_areTogether_47 : decode cX4_areTogether 47 = .ok (.invokestatic 186, 3) := dk_184 0 186 (dk_at dksX4_areTogether_2 0 rfl rfl)
theorem dX4_areTogether_50 : decode cX4_areTogether 50 = .ok (.aload_n 0, 1) := dk_42 (dk_at dksX4_areTogether_2 3 rfl rfl)
theorem dX4_areTogether_51 : decode cX4_areTogether 51 = .ok (.getfield 23, 3) := dk_180 0 23 (dk_at dksX4_areTogether_2 4 rfl rfl)
theorem dX4_areTogether_54 : decode cX4_areTogether 54 = .ok (.if_icmp .gt 7, 3) := dk_163 0 7 (dk_at dksX4_areTogether_2 7 rfl rfl)
theorem dX4_areTogether_57 : decode cX4_areTogether 57 = .ok (.iconst 1, 1) := dk_4 (dk_at dksX4_areTogether_2 10 rfl rfl)
theorem dX4_areTogether_58 : decode cX4_areTogether 58 = .ok (.goto 4, 3) := dk_167 0 4 (dk_at dksX4_areTogether_2 11 rfl rfl)
theorem dX4_areTogether_61 : decode cX4_areTogether 61 = .ok (.iconst 0, 1) := dk_3 (dk_at dksX4_areTogether_2 14 rfl rfl)
theorem dX4_areTogether_62 : decode cX4_areTogether 62 = .ok (.ireturn, 1) := dk_172 (dk_at dksX4_areTogether_2 15 rfl rfl)
theorem md_X4_areTogether : xMd yX4_areTogether cX4_areTogether 4 (Option.some Jvm.ClassFile.FieldType.boolean) 3 := ⟨q2345, q128, by decide, by decide +kernel, by decide +kernel, by decide +kernel⟩
def f_X4_areTogether (p0 : PH) (a0 : Nat) (a1 : Int32) (a2 : Int32) (a3 : Int32) : Option (xO × PH) :=
  (xcl1 p0 a0 3 (xcR (f_X4_match p0 a0 a1) fun x2 p1 =>
  (xnul x2 none fun b3 =>
  (xcI (f_X9_time p1 b3 a3) fun x5 p4 =>
  (if x5 = (-2) then
  (if vp_nar .boolean 0 = 0 then rI 0 p4 else none) else
  (xcR (f_X4_match p4 a0 a2) fun x7 p6 =>
  (xnul x7 none fun b8 =>
  (xcI (f_X9_time p6 b8 a3) fun x10 p9 =>
  (if x10 = (-2) then
  (if vp_nar .boolean 0 = 0 then rI 0 p9 else none) else
  (xcR (f_X4_match p9 a0 a1) fun x12 p11 =>
  (xnul x12 none fun b13 =>
  (xcI (f_X9_time p11 b13 a3) fun x15 p14 =>
  (xcR (f_X4_match p14 a0 a2) fun x17 p16 =>
  (xnul x17 none fun b18 =>
  (xcI (f_X9_time p16 b18 a3) fun x20 p19 =>
  (xcI (f_J8_abs p19 (x15 - x20)) fun x22 p21 =>
  (xgI p21 a0 3 2 fun x23 =>
  (if x23 < x22 then
  (if vp_nar .boolean 0 = 0 then rI 0 p21 else none) else
  (if vp_nar .boolean 1 = 1 then rI 1 p21 else none)))))))))))))))))))
theorem rc_X4_areTogether {p0 : PH} {a0 : Nat} {a1 : Int32} {a2 : Int32} {a3 : Int32} : ∀ z, f_X4_areTogether p0 a0 a1 a2 a3 = some z → xco p0 a0 = some 3 := fun z h => xcl1_some h
theorem f_X4_areTogether_ok {G : xG} (hO : xOK G) (p0 : PH) (a0 : Nat) (a1 : Int32) (a2 : Int32) (a3 : Int32) : CT G 8 yX4_areTogether cX4_areTogether 4 (Option.some Jvm.ClassFile.FieldType.boolean) [.ref a0, .int a1, .int a2, .int a3] p0 (f_X4_areTogether p0 a0 a1 a2 a3) := by
  refine CT_of hO (by decide +kernel) (by decide +kernel) (Nat.le_of_ble_eq_true rfl) ?_
  show X G "ForestLegs$Meet" "areTogether" cX4_areTogether 4 (Option.some Jvm.ClassFile.FieldType.boolean) 8 0 [(0, .ref a0), (1, .int a1), (2, .int a2), (3, .int a3)] [] p0 (f_X4_areTogether p0 a0 a1 a2 a3)
  refine x_cl1 (fun e0 => ?_)
  refine x_aload_nr 0 dX4_areTogether_0 rfl rfl (n := 1) rfl ?_
  refine x_iload_n 1 dX4_areTogether_1 rfl rfl (n := 2) rfl ?_
  refine x_callV_R [.int a1] [] (f_X4_match_ok hO p0 a0 a1) rc_X4_match md_X4_match rfl q1503 q1504 q1505 dX4_areTogether_2 rfl rfl (by decide) (Nat.le_of_ble_eq_true rfl) (n := 5) rfl (fun x2 p1 => ?_)
  refine x_iload_n 3 dX4_areTogether_5 rfl rfl (n := 6) rfl ?_
  refine x_sm (fun b3 e => ?_)
  subst e
  refine x_callV_I [.int a3] [] (f_X9_time_ok hO p1 b3 a3) rc_X9_time md_X9_time rfl q2346 q1751 q1752 dX4_areTogether_6 rfl rfl (by decide) (Nat.le_of_ble_eq_true rfl) (n := 9) rfl (fun x5 p4 => ?_)
  refine x_bipush (-2) dX4_areTogether_9 rfl (n := 11) rfl ?_
  refine x_icmp_eq dX4_areTogether_11 (t := 61) (by decide) (n := 14) rfl (fun _ => ?_) (fun _ => ?_)
  · refine x_iconst 0 dX4_areTogether_61 rfl (n := 62) rfl ?_
    exact x_nreturn rfl dX4_areTogether_62
  · refine x_aload_nr 0 dX4_areTogether_14 rfl rfl (n := 15) rfl ?_
    refine x_iload_n 2 dX4_areTogether_15 rfl rfl (n := 16) rfl ?_
    refine x_callV_R [.int a2] [] (f_X4_match_ok hO p4 a0 a2) rc_X4_match md_X4_match rfl q1503 q1504 q1505 dX4_areTogether_16 rfl rfl (by decide) (Nat.le_of_ble_eq_true rfl) (n := 19) rfl (fun x7 p6 => ?_)
    refine x_iload_n 3 dX4_areTogether_19 rfl rfl (n := 20) rfl ?_
    refine x_sm (fun b8 e => ?_)
    subst e
    refine x_callV_I [.int a3] [] (f_X9_time_ok hO p6 b8 a3) rc_X9_time md_X9_time rfl q2346 q1751 q1752 dX4_areTogether_20 rfl rfl (by decide) (Nat.le_of_ble_eq_true rfl) (n := 23) rfl (fun x10 p9 => ?_)
    refine x_bipush (-2) dX4_areTogether_23 rfl (n := 25) rfl ?_
    refine x_icmp_eq dX4_areTogether_25 (t := 61) (by decide) (n := 28) rfl (fun _ => ?_) (fun _ => ?_)
    · refine x_iconst 0 dX4_areTogether_61 rfl (n := 62) rfl ?_
      exact x_nreturn rfl dX4_areTogether_62
    · refine x_aload_nr 0 dX4_areTogether_28 rfl rfl (n := 29) rfl ?_
      refine x_iload_n 1 dX4_areTogether_29 rfl rfl (n := 30) rfl ?_
      refine x_callV_R [.int a1] [] (f_X4_match_ok hO p9 a0 a1) rc_X4_match md_X4_match rfl q1503 q1504 q1505 dX4_areTogether_30 rfl rfl (by decide) (Nat.le_of_ble_eq_true rfl) (n := 33) rfl (fun x12 p11 => ?_)
      refine x_iload_n 3 dX4_areTogether_33 rfl rfl (n := 34) rfl ?_
      refine x_sm (fun b13 e => ?_)
      subst e
      refine x_callV_I [.int a3] [] (f_X9_time_ok hO p11 b13 a3) rc_X9_time md_X9_time rfl q2346 q1751 q1752 dX4_areTogether_34 rfl rfl (by decide) (Nat.le_of_ble_eq_true rfl) (n := 37) rfl (fun x15 p14 => ?_)
      refine x_aload_nr 0 dX4_areTogether_37 rfl rfl (n := 38) rfl ?_
      refine x_iload_n 2 dX4_areTogether_38 rfl rfl (n := 39) rfl ?_
      refine x_callV_R [.int a2] [.int x15] (f_X4_match_ok hO p14 a0 a2) rc_X4_match md_X4_match rfl q1503 q1504 q1505 dX4_areTogether_39 rfl rfl (by decide) (Nat.le_of_ble_eq_true rfl) (n := 42) rfl (fun x17 p16 => ?_)
      refine x_iload_n 3 dX4_areTogether_42 rfl rfl (n := 43) rfl ?_
      refine x_sm (fun b18 e => ?_)
      subst e
      refine x_callV_I [.int a3] [.int x15] (f_X9_time_ok hO p16 b18 a3) rc_X9_time md_X9_time rfl q2346 q1751 q1752 dX4_areTogether_43 rfl rfl (by decide) (Nat.le_of_ble_eq_true rfl) (n := 46) rfl (fun x20 p19 => ?_)
      refine x_isub dX4_areTogether_46 (n := 47) rfl ?_
      refine x_callS_I [.int (x15 - x20)] [] (f_J8_abs_ok hO p19 (x15 - x20)) md_J8_abs q2347 q2348 dX4_areTogether_47 rfl rfl (by decide) (Nat.le_of_ble_eq_true rfl) (n := 50) rfl (fun x22 p21 => ?_)
      refine x_aload_nr 0 dX4_areTogether_50 rfl rfl (n := 51) rfl ?_
      refine x_getI fl_X4_23 dX4_areTogether_51 (n := 54) rfl (fun x23 => ?_)
      refine x_icmp_gt dX4_areTogether_54 (t := 61) (by decide) (n := 57) rfl (fun _ => ?_) (fun _ => ?_)
      · refine x_iconst 0 dX4_areTogether_61 rfl (n := 62) rfl ?_
        exact x_nreturn rfl dX4_areTogether_62
      · refine x_iconst 1 dX4_areTogether_57 rfl (n := 58) rfl ?_
        refine x_goto dX4_areTogether_58 (n := 62) (by decide) ?_
        exact x_nreturn rfl dX4_areTogether_62
abbrev cX1_togetherOf : ByteArray := prog_1_method_45_code
def yX1_togetherOf : MethodName := ⟨RX1, "togetherOf", "(II)I"⟩
def dkwX1_togetherOf_2 : List UInt8 := [132, 4, 1, 167, 255, 211, 29, 172]
abbrev dktX1_togetherOf_2 : List UInt8 := dkwX1_togetherOf_2 ++ []
def dkwX1_togetherOf_1 : List UInt8 := [180, 0, 56, 27, 28, 21, 4, 182, 1, 28, 153, 0, 10, 4, 21, 4, 120, 167, 0, 4, 3, 128, 62]
abbrev dktX1_togetherOf_1 : List UInt8 := dkwX1_togetherOf_1 ++ dktX1_togetherOf_2
def dkwX1_togetherOf_0 : List UInt8 := [3, 62, 3, 54, 4, 21, 4, 42, 180, 0, 56, 27, 182, 0, 189, 180, 0, 193, 190, 163, 0, 34, 29, 42]
abbrev dktX1_togetherOf_0 : List UInt8 := dkwX1_togetherOf_0 ++ dktX1_togetherOf_1
theorem dksX1_togetherOf_0 : cX1_togetherOf.data.toList.drop 0 = dktX1_togetherOf_0 := by decide +kernel
theorem dksX1_togetherOf_1 : cX1_togetherOf.data.toList.drop 24 = dktX1_togetherOf_1 := dk_seg dksX1_togetherOf_0 24 rfl rfl
theorem dksX1_togetherOf_2 : cX1_togetherOf.data.toList.drop 47 = dktX1_togetherOf_2 := dk_seg dksX1_togetherOf_1 23 rfl rfl
theorem dX1_togetherOf_0 : decode cX1_togetherOf 0 = .ok (.iconst 0, 1) := dk_3 (dk_at dksX1_togetherOf_0 0 rfl rfl)
theorem dX1_togetherOf_1 : decode cX1_togetherOf 1 = .ok (.istore_n 3, 1) := dk_62 (dk_at dksX1_togetherOf_0 1 rfl rfl)
theorem dX1_togetherOf_2 : decode cX1_togetherOf 2 = .ok (.iconst 0, 1) := dk_3 (dk_at dksX1_togetherOf_0 2 rfl rfl)
theorem dX1_togetherOf_3 : decode cX1_togetherOf 3 = .ok (.istore 4, 2) := dk_54 4 (dk_at dksX1_togetherOf_0 3 rfl rfl)
theorem dX1_togetherOf_5 : decode cX1_togetherOf 5 = .ok (.iload 4, 2) := dk_21 4 (dk_at dksX1_togetherOf_0 5 rfl rfl)
theorem dX1_togetherOf_7 : decode cX1_togetherOf 7 = .ok (.aload_n 0, 1) := dk_42 (dk_at dksX1_togetherOf_0 7 rfl rfl)
theorem dX1_togetherOf_8 : decode cX1_togetherOf 8 = .ok (.getfield 56, 3) := dk_180 0 56 (dk_at dksX1_togetherOf_0 8 rfl rfl)
theorem dX1_togetherOf_11 : decode cX1_togetherOf 11 = .ok (.iload_n 1, 1) := dk_27 (dk_at dksX1_togetherOf_0 11 rfl rfl)
theorem dX1_togetherOf_12 : decode cX1_togetherOf 12 = .ok (.invokevirtual 189, 3) := dk_182 0 189 (dk_at dksX1_togetherOf_0 12 rfl rfl)
theorem dX1_togetherOf_15 : decode cX1_togetherOf 15 = .ok (.getfield 193, 3) := dk_180 0 193 (dk_at dksX1_togetherOf_0 15 rfl rfl)
theorem dX1_togetherOf_18 : decode cX1_togetherOf 18 = .ok (.arraylength, 1) := dk_190 (dk_at dksX1_togetherOf_0 18 rfl rfl)
theorem dX1_togetherOf_19 : decode cX1_togetherOf 19 = .ok (.if_icmp .gt 34, 3) := dk_163 0 34 (dk_at dksX1_togetherOf_0 19 rfl rfl)
theorem dX1_togetherOf_22 : decode cX1_togetherOf 22 = .ok (.iload_n 3, 1) := dk_29 (dk_at dksX1_togetherOf_0 22 rfl rfl)
theorem dX1_togetherOf_23 : decode cX1_togetherOf 23 = .ok (.aload_n 0, 1) := dk_42 (dk_at dksX1_togetherOf_0 23 rfl rfl)
theorem dX1_togetherOf_24 : decode cX1_togetherOf 24 = .ok (.getfield 56, 3) := dk_180 0 56 (dk_at dksX1_togetherOf_1 0 rfl rfl)
theorem dX1_togetherOf_27 : decode cX1_togetherOf 27 = .ok (.iload_n 1, 1) := dk_27 (dk_at dksX1_togetherOf_1 3 rfl rfl)
theorem dX1_togetherOf_28 : decode cX1_togetherOf 28 = .ok (.iload_n 2, 1) := dk_28 (dk_at dksX1_togetherOf_1 4 rfl rfl)
theorem dX1_togetherOf_29 : decode cX1_togetherOf 29 = .ok (.iload 4, 2) := dk_21 4 (dk_at dksX1_togetherOf_1 5 rfl rfl)
theorem dX1_togetherOf_31 : decode cX1_togetherOf 31 = .ok (.invokevirtual 284, 3) := dk_182 1 28 (dk_at dksX1_togetherOf_1 7 rfl rfl)
theorem dX1_togetherOf_34 : decode cX1_togetherOf 34 = .ok (.ifCond .eq 10, 3) := dk_153 0 10 (dk_at dksX1_togetherOf_1 10 rfl rfl)
theorem dX1_togetherOf_37 : decode cX1_togetherOf 37 = .ok (.iconst 1, 1) := dk_4 (dk_at dksX1_togetherOf_1 13 rfl rfl)
theorem dX1_togetherOf_38 : decode cX1_togetherOf 38 = .ok (.iload 4, 2) := dk_21 4 (dk_at dksX1_togetherOf_1 14 rfl rfl)
theorem dX1_togetherOf_40 : decode cX1_togetherOf 40 = .ok (.ishl, 1) := dk_120 (dk_at dksX1_togetherOf_1 16 rfl rfl)
theorem dX1_togetherOf_41 : decode cX1_togetherOf 41 = .ok (.goto 4, 3) := dk_167 0 4 (dk_at dksX1_togetherOf_1 17 rfl rfl)
theorem dX1_togetherOf_44 : decode cX1_togetherOf 44 = .ok (.iconst 0, 1) := dk_3 (dk_at dksX1_togetherOf_1 20 rfl rfl)
theorem dX1_togetherOf_45 : decode cX1_togetherOf 45 = .ok (.ior, 1) := dk_128 (dk_at dksX1_togetherOf_1 21 rfl rfl)
theorem dX1_togetherOf_46 : decode cX1_togetherOf 46 = .ok (.istore_n 3, 1) := dk_62 (dk_at dksX1_togetherOf_1 22 rfl rfl)
theorem dX1_togetherOf_47 : decode cX1_togetherOf 47 = .ok (.iinc 4 1, 3) := dk_132 4 1 (dk_at dksX1_togetherOf_2 0 rfl rfl)
theorem dX1_togetherOf_50 : decode cX1_togetherOf 50 = .ok (.goto (-45), 3) := dk_167 255 211 (dk_at dksX1_togetherOf_2 3 rfl rfl)
theorem dX1_togetherOf_53 : decode cX1_togetherOf 53 = .ok (.iload_n 3, 1) := dk_29 (dk_at dksX1_togetherOf_2 6 rfl rfl)
theorem dX1_togetherOf_54 : decode cX1_togetherOf 54 = .ok (.ireturn, 1) := dk_172 (dk_at dksX1_togetherOf_2 7 rfl rfl)
theorem md_X1_togetherOf : xMd yX1_togetherOf cX1_togetherOf 5 (Option.some Jvm.ClassFile.FieldType.int) 2 := ⟨q2341, q123, by decide, by decide +kernel, by decide +kernel, by decide +kernel⟩
def f_X1_togetherOf_45 (a0 : Nat) (k5 : Int32 × Int32 × Int32 × Int32 × PH → Option (xO × PH)) (v1 : Int32) (v2 : Int32) (v4 : Int32) (w0 : Int32) (w1 : Int32) (p0 : PH) : Option (xO × PH) :=
  (bnd (w0 ||| w1) fun x13 =>
  (bnd (v4 + 1) fun x14 =>
  (k5 (v1, v2, x13, x14, p0))))
def f_X1_togetherOf_5F (a0 : Nat)  (k5 : Int32 × Int32 × Int32 × Int32 × PH → Option (xO × PH)) (p : Int32 × Int32 × Int32 × Int32 × PH) : Option (xO × PH) := match p with
  | (v1, v2, v3, v4, p0) => (xgR p0 a0 0 5 fun x1 =>
  (xnul x1 none fun b2 =>
  (xcR (f_X4_match p0 b2 v1) fun x4 p3 =>
  (xnul x4 none fun b5 =>
  (xgR p3 b5 8 2 fun x6 =>
  (xnul x6 none fun b7 =>
  (xlen p3 b7 fun x8 =>
  (if x8 < v4 then
  (rI v3 p3) else
  (xgR p3 a0 0 5 fun x9 =>
  (xnul x9 none fun b10 =>
  (xcI (f_X4_areTogether p3 b10 v1 v2 v4) fun x12 p11 =>
  (if x12 = 0 then
  (f_X1_togetherOf_45 a0 k5 v1 v2 v4 v3 0 p11) else
  (f_X1_togetherOf_45 a0 k5 v1 v2 v4 v3 (1 <<< (v4 &&& 31)) p11)))))))))))))
def f_X1_togetherOf (p0 : PH) (a0 : Nat) (a1 : Int32) (a2 : Int32) : Option (xO × PH) :=
  (xcl1 p0 a0 0 (lp (f_X1_togetherOf_5F a0) FU (a1, a2, 0, 0, p0)))
theorem rc_X1_togetherOf {p0 : PH} {a0 : Nat} {a1 : Int32} {a2 : Int32} : ∀ z, f_X1_togetherOf p0 a0 a1 a2 = some z → xco p0 a0 = some 0 := fun z h => xcl1_some h
theorem f_X1_togetherOf_45_ok {G : xG} (hO : xOK G) (a0 : Nat) {k5 : Int32 × Int32 × Int32 × Int32 × PH → Option (xO × PH)} (hk5 : ∀ (v1 : Int32) (v2 : Int32) (v3 : Int32) (v4 : Int32) (p0 : PH), X G "ForestLegs" "togetherOf" cX1_togetherOf 5 (Option.some Jvm.ClassFile.FieldType.int) 9 5 [(0, .ref a0), (1, .int v1), (2, .int v2), (3, .int v3), (4, .int v4)] [] p0 (k5 (v1, v2, v3, v4, p0))) (v1 : Int32) (v2 : Int32) (v4 : Int32) (w0 : Int32) (w1 : Int32) (p0 : PH) : X G "ForestLegs" "togetherOf" cX1_togetherOf 5 (Option.some Jvm.ClassFile.FieldType.int) 9 45 [(0, .ref a0), (1, .int v1), (2, .int v2), (4, .int v4)] [.int w1, .int w0] p0 (f_X1_togetherOf_45 a0 k5 v1 v2 v4 w0 w1 p0) := by
  unfold f_X1_togetherOf_45
  refine x_ior dX1_togetherOf_45 (n := 46) rfl ?_
  refine x_nm (fun x13 => ?_)
  refine x_istore_n [(3, .int x13), (0, .ref a0), (1, .int v1), (2, .int v2), (4, .int v4)] dX1_togetherOf_46 rfl (by decide) rfl (n := 47) rfl ?_
  refine x_iincB 4 (fun x14 => [(4, .int x14), (3, .int x13), (0, .ref a0), (1, .int v1), (2, .int v2)]) dX1_togetherOf_47 rfl rfl (by decide) (fun _ => rfl) (n := 50) rfl (fun x14 => ?_)
  refine x_goto dX1_togetherOf_50 (n := 5) (by decide) ?_
  refine x_sub [2, 3, 4, 1, 0] [(0, .ref a0), (1, .int v1), (2, .int v2), (3, .int x13), (4, .int x14)] rfl ?_
  exact hk5 v1 v2 x13 x14 p0
theorem f_X1_togetherOf_5F_ok {G : xG} (hO : xOK G) (a0 : Nat)  {k5 : Int32 × Int32 × Int32 × Int32 × PH → Option (xO × PH)} (hk5 : ∀ (v1 : Int32) (v2 : Int32) (v3 : Int32) (v4 : Int32) (p0 : PH), X G "ForestLegs" "togetherOf" cX1_togetherOf 5 (Option.some Jvm.ClassFile.FieldType.int) 9 5 [(0, .ref a0), (1, .int v1), (2, .int v2), (3, .int v3), (4, .int v4)] [] p0 (k5 (v1, v2, v3, v4, p0))) (v1 : Int32) (v2 : Int32) (v3 : Int32) (v4 : Int32) (p0 : PH) : X G "ForestLegs" "togetherOf" cX1_togetherOf 5 (Option.some Jvm.ClassFile.FieldType.int) 9 5 [(0, .ref a0), (1, .int v1), (2, .int v2), (3, .int v3), (4, .int v4)] [] p0 (f_X1_togetherOf_5F a0 k5 (v1, v2, v3, v4, p0)) := by
  unfold f_X1_togetherOf_5F
  refine x_iload 4 dX1_togetherOf_5 rfl (n := 7) rfl ?_
  refine x_aload_nr 0 dX1_togetherOf_7 rfl rfl (n := 8) rfl ?_
  refine x_getR fl_X1_56 dX1_togetherOf_8 (n := 11) rfl (fun x1 => ?_)
  refine x_iload_n 1 dX1_togetherOf_11 rfl rfl (n := 12) rfl ?_
  refine x_sm (fun b2 e => ?_)
  subst e
  refine x_callV_R [.int v1] [.int v4] (f_X4_match_ok hO p0 b2 v1) rc_X4_match md_X4_match rfl q1784 q1504 q1505 dX1_togetherOf_12 rfl rfl (by decide) (Nat.le_of_ble_eq_true rfl) (n := 15) rfl (fun x4 p3 => ?_)
  refine x_sm (fun b5 e => ?_)
  subst e
  refine x_getR fl_X1_193 dX1_togetherOf_15 (n := 18) rfl (fun x6 => ?_)
  refine x_sm (fun b7 e => ?_)
  subst e
  refine x_alen dX1_togetherOf_18 (n := 19) rfl (fun x8 => ?_)
  refine x_icmp_gt dX1_togetherOf_19 (t := 53) (by decide) (n := 22) rfl (fun _ => ?_) (fun _ => ?_)
  · refine x_iload_n 3 dX1_togetherOf_53 rfl rfl (n := 54) rfl ?_
    exact x_ireturn dX1_togetherOf_54
  · refine x_iload_n 3 dX1_togetherOf_22 rfl rfl (n := 23) rfl ?_
    refine x_aload_nr 0 dX1_togetherOf_23 rfl rfl (n := 24) rfl ?_
    refine x_getR fl_X1_56 dX1_togetherOf_24 (n := 27) rfl (fun x9 => ?_)
    refine x_iload_n 1 dX1_togetherOf_27 rfl rfl (n := 28) rfl ?_
    refine x_iload_n 2 dX1_togetherOf_28 rfl rfl (n := 29) rfl ?_
    refine x_iload 4 dX1_togetherOf_29 rfl (n := 31) rfl ?_
    refine x_sm (fun b10 e => ?_)
    subst e
    refine x_callV_I [.int v1, .int v2, .int v4] [.int v3] (f_X4_areTogether_ok hO p3 b10 v1 v2 v4) rc_X4_areTogether md_X4_areTogether rfl q2342 q2343 q2344 dX1_togetherOf_31 rfl rfl (by decide) (Nat.le_of_ble_eq_true rfl) (n := 34) rfl (fun x12 p11 => ?_)
    refine x_if_eq dX1_togetherOf_34 (t := 44) (by decide) (n := 37) rfl (fun _ => ?_) (fun _ => ?_)
    · refine x_iconst 0 dX1_togetherOf_44 rfl (n := 45) rfl ?_
      refine x_sub [0, 1, 2, 4] [(0, .ref a0), (1, .int v1), (2, .int v2), (4, .int v4)] rfl ?_
      exact f_X1_togetherOf_45_ok hO a0 hk5 v1 v2 v4 v3 0 p11
    · refine x_iconst 1 dX1_togetherOf_37 rfl (n := 38) rfl ?_
      refine x_iload 4 dX1_togetherOf_38 rfl (n := 40) rfl ?_
      refine x_ishl dX1_togetherOf_40 (n := 41) rfl ?_
      refine x_goto dX1_togetherOf_41 (n := 45) (by decide) ?_
      refine x_sub [0, 1, 2, 4] [(0, .ref a0), (1, .int v1), (2, .int v2), (4, .int v4)] rfl ?_
      exact f_X1_togetherOf_45_ok hO a0 hk5 v1 v2 v4 v3 (1 <<< (v4 &&& 31)) p11
theorem f_X1_togetherOf_5_lp {G : xG} (hO : xOK G) (a0 : Nat)  (n : Nat) (v1 : Int32) (v2 : Int32) (v3 : Int32) (v4 : Int32) (p0 : PH) : X G "ForestLegs" "togetherOf" cX1_togetherOf 5 (Option.some Jvm.ClassFile.FieldType.int) 9 5 [(0, .ref a0), (1, .int v1), (2, .int v2), (3, .int v3), (4, .int v4)] [] p0 (lp (f_X1_togetherOf_5F a0) n (v1, v2, v3, v4, p0)) :=
  lp_ok (W := fun p K => X G "ForestLegs" "togetherOf" cX1_togetherOf 5 (Option.some Jvm.ClassFile.FieldType.int) 9 5 [(0, .ref a0), (1, .int p.1), (2, .int p.2.1), (3, .int p.2.2.1), (4, .int p.2.2.2.1)] [] p.2.2.2.2 K) (fun _ => x_no) (fun k hk => fun (v1, v2, v3, v4, p0) => f_X1_togetherOf_5F_ok hO a0 (fun v1 v2 v3 v4 p0 => hk (v1, v2, v3, v4, p0)) v1 v2 v3 v4 p0) n (v1, v2, v3, v4, p0)
theorem f_X1_togetherOf_ok {G : xG} (hO : xOK G) (p0 : PH) (a0 : Nat) (a1 : Int32) (a2 : Int32) : CT G 9 yX1_togetherOf cX1_togetherOf 5 (Option.some Jvm.ClassFile.FieldType.int) [.ref a0, .int a1, .int a2] p0 (f_X1_togetherOf p0 a0 a1 a2) := by
  refine CT_of hO (by decide +kernel) (by decide +kernel) (Nat.le_of_ble_eq_true rfl) ?_
  show X G "ForestLegs" "togetherOf" cX1_togetherOf 5 (Option.some Jvm.ClassFile.FieldType.int) 9 0 [(0, .ref a0), (1, .int a1), (2, .int a2)] [] p0 (f_X1_togetherOf p0 a0 a1 a2)
  refine x_cl1 (fun e0 => ?_)
  refine x_iconst 0 dX1_togetherOf_0 rfl (n := 1) rfl ?_
  refine x_istore_n [(3, .int 0), (0, .ref a0), (1, .int a1), (2, .int a2)] dX1_togetherOf_1 rfl (by decide) rfl (n := 2) rfl ?_
  refine x_iconst 0 dX1_togetherOf_2 rfl (n := 3) rfl ?_
  refine x_istore [(4, .int 0), (3, .int 0), (0, .ref a0), (1, .int a1), (2, .int a2)] dX1_togetherOf_3 (by decide) rfl (n := 5) rfl ?_
  refine x_sub [2, 3, 4, 1, 0] [(0, .ref a0), (1, .int a1), (2, .int a2), (3, .int 0), (4, .int 0)] rfl ?_
  exact f_X1_togetherOf_5_lp hO a0 FU a1 a2 0 0 p0
abbrev cX1_together : ByteArray := prog_1_method_46_code
def yX1_together : MethodName := ⟨RX1, "together", "(II)I"⟩
def dkwX1_together_1 : List UInt8 := [182, 1, 34, 182, 0, 83, 172]
abbrev dktX1_together_1 : List UInt8 := dkwX1_together_1 ++ []
def dkwX1_together_0 : List UInt8 := [42, 27, 28, 182, 1, 31, 62, 29, 158, 0, 11, 42, 29, 182, 0, 40, 167, 0, 13, 42, 42, 27, 28]
abbrev dktX1_together_0 : List UInt8 := dkwX1_together_0 ++ dktX1_together_1
theorem dksX1_together_0 : cX1_together.data.toList.drop 0 = dktX1_together_0 := by decide +kernel
theorem dksX1_together_1 : cX1_together.data.toList.drop 23 = dktX1_together_1 := dk_seg dksX1_together_0 23 rfl rfl
theorem dX1_together_0 : decode cX1_together 0 = .ok (.aload_n 0, 1) := dk_42 (dk_at dksX1_together_0 0 rfl rfl)
theorem dX1_together_1 : decode cX1_together 1 = .ok (.iload_n 1, 1) := dk_27 (dk_at dksX1_together_0 1 rfl rfl)
theorem dX1_together_2 : decode cX1_together 2 = .ok (.iload_n 2, 1) := dk_28 (dk_at dksX1_together_0 2 rfl rfl)
theorem dX1_together_3 : decode cX1_together 3 = .ok (.invokevirtual 287, 3) := dk_182 1 31 (dk_at dksX1_together_0 3 rfl rfl)
theorem dX1_together_6 : decode cX1_together 6 = .ok (.istore_n 3, 1) := dk_62 (dk_at dksX1_together_0 6 rfl rfl)
theorem dX1_together_7 : decode cX1_together 7 = .ok (.iload_n 3, 1) := dk_29 (dk_at dksX1_together_0 7 rfl rfl)
theorem dX1_together_8 : decode cX1_together 8 = .ok (.ifCond .le 11, 3) := dk_158 0 11 (dk_at dksX1_together_0 8 rfl rfl)
theorem dX1_together_11 : decode cX1_together 11 = .ok (.aload_n 0, 1) := dk_42 (dk_at dksX1_together_0 11 rfl rfl)
theorem dX1_together_12 : decode cX1_together 12 = .ok (.iload_n 3, 1) := dk_29 (dk_at dksX1_together_0 12 rfl rfl)
theorem dX1_together_13 : decode cX1_together 13 = .ok (.invokevirtual 40, 3) := dk_182 0 40 (dk_at dksX1_together_0 13 rfl rfl)
theorem dX1_together_16 : decode cX1_together 16 = .ok (.goto 13, 3) := dk_167 0 13 (dk_at dksX1_together_0 16 rfl rfl)
theorem dX1_together_19 : decode cX1_together 19 = .ok (.aload_n 0, 1) := dk_42 (dk_at dksX1_together_0 19 rfl rfl)
theorem dX1_together_20 : decode cX1_together 20 = .ok (.aload_n 0, 1) := dk_42 (dk_at dksX1_together_0 20 rfl rfl)
theorem dX1_together_21 : decode cX1_together 21 = .ok (.iload_n 1, 1) := dk_27 (dk_at dksX1_together_0 21 rfl rfl)
theorem dX1_together_22 : decode cX1_together 22 = .ok (.iload_n 2, 1) := dk_28 (dk_at dksX1_together_0 22 rfl rfl)
theorem dX1_together_23 : decode cX1_together 23 = .ok (.invokevirtual 290, 3) := dk_182 1 34 (dk_at dksX1_together_1 0 rfl rfl)
theorem dX1_together_26 : decode cX1_together 26 = .ok (.invokevirtual 83, 3) := dk_182 0 83 (dk_at dksX1_together_1 3 rfl rfl)
theorem dX1_together_29 : decode cX1_together 29 = .ok (.ireturn, 1) := dk_172 (dk_at dksX1_together_1 6 rfl rfl)
theorem md_X1_together : xMd yX1_together cX1_together 4 (Option.some Jvm.ClassFile.FieldType.int) 2 := ⟨q2333, q123, by decide, by decide +kernel, by decide +kernel, by decide +kernel⟩
def f_X1_together (p0 : PH) (a0 : Nat) (a1 : Int32) (a2 : Int32) : Option (xO × PH) :=
  (xcl1 p0 a0 0 (xcI (f_X1_whyNot p0 a0 a1 a2) fun x2 p1 =>
  (if x2 ≤ 0 then
  (xcI (f_X1_togetherOf p1 a0 a1 a2) fun x4 p3 =>
  (xcI (f_X1_fine p3 a0 x4) fun x6 p5 =>
  (rI x6 p5))) else
  (xcI (f_X1_refused p1 a0 x2) fun x8 p7 =>
  (rI x8 p7)))))
theorem rc_X1_together {p0 : PH} {a0 : Nat} {a1 : Int32} {a2 : Int32} : ∀ z, f_X1_together p0 a0 a1 a2 = some z → xco p0 a0 = some 0 := fun z h => xcl1_some h
theorem f_X1_together_ok {G : xG} (hO : xOK G) (p0 : PH) (a0 : Nat) (a1 : Int32) (a2 : Int32) : CT G 10 yX1_together cX1_together 4 (Option.some Jvm.ClassFile.FieldType.int) [.ref a0, .int a1, .int a2] p0 (f_X1_together p0 a0 a1 a2) := by
  refine CT_of hO (by decide +kernel) (by decide +kernel) (Nat.le_of_ble_eq_true rfl) ?_
  show X G "ForestLegs" "together" cX1_together 4 (Option.some Jvm.ClassFile.FieldType.int) 10 0 [(0, .ref a0), (1, .int a1), (2, .int a2)] [] p0 (f_X1_together p0 a0 a1 a2)
  refine x_cl1 (fun e0 => ?_)
  refine x_aload_nr 0 dX1_together_0 rfl rfl (n := 1) rfl ?_
  refine x_iload_n 1 dX1_together_1 rfl rfl (n := 2) rfl ?_
  refine x_iload_n 2 dX1_together_2 rfl rfl (n := 3) rfl ?_
  refine x_callV_I [.int a1, .int a2] [] (f_X1_whyNot_ok hO p0 a0 a1 a2) rc_X1_whyNot md_X1_whyNot rfl q2334 q2336 qs49 dX1_together_3 rfl rfl (by decide) (Nat.le_of_ble_eq_true rfl) (n := 6) rfl (fun x2 p1 => ?_)
  refine x_istore_n [(3, .int x2), (0, .ref a0), (1, .int a1), (2, .int a2)] dX1_together_6 rfl (by decide) rfl (n := 7) rfl ?_
  refine x_iload_n 0 dX1_together_7 rfl rfl (n := 8) rfl ?_
  refine x_if_le dX1_together_8 (t := 19) (by decide) (n := 11) rfl (fun _ => ?_) (fun _ => ?_)
  · refine x_aload_nr 1 dX1_together_19 rfl rfl (n := 20) rfl ?_
    refine x_aload_nr 1 dX1_together_20 rfl rfl (n := 21) rfl ?_
    refine x_iload_n 2 dX1_together_21 rfl rfl (n := 22) rfl ?_
    refine x_iload_n 3 dX1_together_22 rfl rfl (n := 23) rfl ?_
    refine x_callV_I [.int a1, .int a2] [.ref a0] (f_X1_togetherOf_ok hO p1 a0 a1 a2) rc_X1_togetherOf md_X1_togetherOf rfl q2338 q2340 qs50 dX1_together_23 rfl rfl (by decide) (Nat.le_of_ble_eq_true rfl) (n := 26) rfl (fun x4 p3 => ?_)
    refine x_callV_I [.int x4] [] (f_X1_fine_ok hO p3 a0 x4) rc_X1_fine md_X1_fine rfl q1480 q1482 qs26 dX1_together_26 rfl rfl (by decide) (Nat.le_of_ble_eq_true rfl) (n := 29) rfl (fun x6 p5 => ?_)
    exact x_ireturn dX1_together_29
  · refine x_aload_nr 1 dX1_together_11 rfl rfl (n := 12) rfl ?_
    refine x_iload_n 0 dX1_together_12 rfl rfl (n := 13) rfl ?_
    refine x_callV_I [.int x2] [] (f_X1_refused_ok hO p1 a0 x2) rc_X1_refused md_X1_refused rfl q250 q252 qs0 dX1_together_13 rfl rfl (by decide) (Nat.le_of_ble_eq_true rfl) (n := 16) rfl (fun x8 p7 => ?_)
    refine x_goto dX1_together_16 (n := 29) (by decide) ?_
    exact x_ireturn dX1_together_29
abbrev cX1_alone : ByteArray := prog_1_method_47_code
def yX1_alone : MethodName := ⟨RX1, "alone", "(I)I"⟩
def dkwX1_alone_5 : List UInt8 := [4, 29, 120, 167, 0, 4, 3, 128, 61, 132, 3, 1, 167, 255, 146, 42, 28, 182, 0, 83, 172]
abbrev dktX1_alone_5 : List UInt8 := dkwX1_alone_5 ++ []
def dkwX1_alone_4 : List UInt8 := [21, 5, 29, 182, 1, 28, 153, 0, 6, 3, 54, 4, 132, 5, 1, 167, 255, 209, 28, 21, 4, 153, 0, 9]
abbrev dktX1_alone_4 : List UInt8 := dkwX1_alone_4 ++ dktX1_alone_5
def dkwX1_alone_3 : List UInt8 := [185, 0, 77, 1, 0, 162, 0, 36, 42, 27, 21, 5, 182, 1, 31, 154, 0, 20, 42, 180, 0, 56, 27]
abbrev dktX1_alone_3 : List UInt8 := dkwX1_alone_3 ++ dktX1_alone_4
def dkwX1_alone_2 : List UInt8 := [160, 0, 6, 167, 0, 74, 4, 54, 4, 3, 54, 5, 21, 5, 42, 180, 0, 56, 180, 0, 71]
abbrev dktX1_alone_2 : List UInt8 := dkwX1_alone_2 ++ dktX1_alone_3
def dkwX1_alone_1 : List UInt8 := [182, 0, 189, 180, 0, 193, 190, 163, 0, 100, 42, 180, 0, 56, 27, 182, 0, 189, 29, 182, 1, 37, 16, 254]
abbrev dktX1_alone_1 : List UInt8 := dkwX1_alone_1 ++ dktX1_alone_2
def dkwX1_alone_0 : List UInt8 := [42, 27, 182, 0, 100, 154, 0, 9, 42, 4, 182, 0, 40, 172, 3, 61, 3, 62, 29, 42, 180, 0, 56, 27]
abbrev dktX1_alone_0 : List UInt8 := dkwX1_alone_0 ++ dktX1_alone_1
theorem dksX1_alone_0 : cX1_alone.data.toList.drop 0 = dktX1_alone_0 := by decide +kernel
theorem dksX1_alone_1 : cX1_alone.data.toList.drop 24 = dktX1_alone_1 := dk_seg dksX1_alone_0 24 rfl rfl
theorem dksX1_alone_2 : cX1_alone.data.toList.drop 48 = dktX1_alone_2 := dk_seg dksX1_alone_1 24 rfl rfl
theorem dksX1_alone_3 : cX1_alone.data.toList.drop 69 = dktX1_alone_3 := dk_seg dksX1_alone_2 21 rfl rfl
theorem dksX1_alone_4 : cX1_alone.data.toList.drop 92 = dktX1_alone_4 := dk_seg dksX1_alone_3 23 rfl rfl
theorem dksX1_alone_5 : cX1_alone.data.toList.drop 116 = dktX1_alone_5 := dk_seg dksX1_alone_4 24 rfl rfl
theorem dX1_alone_0 : decode cX1_alone 0 = .ok (.aload_n 0, 1) := dk_42 (dk_at dksX1_alone_0 0 rfl rfl)
theorem dX1_alone_1 : decode cX1_alone 1 = .ok (.iload_n 1, 1) := dk_27 (dk_at dksX1_alone_0 1 rfl rfl)
theorem dX1_alone_2 : decode cX1_alone 2 = .ok (.invokevirtual 100, 3) := dk_182 0 100 (dk_at dksX1_alone_0 2 rfl rfl)
theorem dX1_alone_5 : decode cX1_alone 5 = .ok (.ifCond .ne 9, 3) := dk_154 0 9 (dk_at dksX1_alone_0 5 rfl rfl)
theorem dX1_alone_8 : decode cX1_alone 8 = .ok (.aload_n 0, 1) := dk_42 (dk_at dksX1_alone_0 8 rfl rfl)
theorem dX1_alone_9 : decode cX1_alone 9 = .ok (.iconst 1, 1) := dk_4 (dk_at dksX1_alone_0 9 rfl rfl)
theorem dX1_alone_10 : decode cX1_alone 10 = .ok (.invokevirtual 40, 3) := dk_182 0 40 (dk_at dksX1_alone_0 10 rfl rfl)
theorem dX1_alone_13 : decode cX1_alone 13 = .ok (.ireturn, 1) := dk_172 (dk_at dksX1_alone_0 13 rfl rfl)
theorem dX1_alone_14 : decode cX1_alone 14 = .ok (.iconst 0, 1) := dk_3 (dk_at dksX1_alone_0 14 rfl rfl)
theorem dX1_alone_15 : decode cX1_alone 15 = .ok (.istore_n 2, 1) := dk_61 (dk_at dksX1_alone_0 15 rfl rfl)
theorem dX1_alone_16 : decode cX1_alone 16 = .ok (.iconst 0, 1) := dk_3 (dk_at dksX1_alone_0 16 rfl rfl)
theorem dX1_alone_17 : decode cX1_alone 17 = .ok (.istore_n 3, 1) := dk_62 (dk_at dksX1_alone_0 17 rfl rfl)
theorem dX1_alone_18 : decode cX1_alone 18 = .ok (.iload_n 3, 1) := dk_29 (dk_at dksX1_alone_0 18 rfl rfl)
theorem dX1_alone_19 : decode cX1_alone 19 = .ok (.aload_n 0, 1) := dk_42 (dk_at dksX1_alone_0 19 rfl rfl)
theorem dX1_alone_20 : decode cX1_alone 20 = .ok (.getfield 56, 3) := dk_180 0 56 (dk_at dksX1_alone_0 20 rfl rfl)
theorem dX1_alone_23 : decode cX1_alone 23 = .ok (.iload_n 1, 1) := dk_27 (dk_at dksX1_alone_0 23 rfl rfl)
theorem dX1_alone_24 : decode cX1_alone 24 = .ok (.invokevirtual 189, 3) := dk_182 0 189 (dk_at dksX1_alone_1 0 rfl rfl)
theorem dX1_alone_27 : decode cX1_alone 27 = .ok (.getfield 193, 3) := dk_180 0 193 (dk_at dksX1_alone_1 3 rfl rfl)
theorem dX1_alone_30 : decode cX1_alone 30 = .ok (.arraylength, 1) := dk_190 (dk_at dksX1_alone_1 6 rfl rfl)
theorem dX1_alone_31 : decode cX1_alone 31 = .ok (.if_icmp .gt 100, 3) := dk_163 0 100 (dk_at dksX1_alone_1 7 rfl rfl)
theorem dX1_alone_34 : decode cX1_alone 34 = .ok (.aload_n 0, 1) := dk_42 (dk_at dksX1_alone_1 10 rfl rfl)
theorem dX1_alone_35 : decode cX1_alone 35 = .ok (.getfield 56, 3) := dk_180 0 56 (dk_at dksX1_alone_1 11 rfl rfl)
theorem dX1_alone_38 : decode cX1_alone 38 = .ok (.iload_n 1, 1) := dk_27 (dk_at dksX1_alone_1 14 rfl rfl)
theorem dX1_alone_39 : decode cX1_alone 39 = .ok (.invokevirtual 189, 3) := dk_182 0 189 (dk_at dksX1_alone_1 15 rfl rfl)
theorem dX1_alone_42 : decode cX1_alone 42 = .ok (.iload_n 3, 1) := dk_29 (dk_at dksX1_alone_1 18 rfl rfl)
theorem dX1_alone_43 : decode cX1_alone 43 = .ok (.invokevirtual 293, 3) := dk_182 1 37 (dk_at dksX1_alone_1 19 rfl rfl)
theorem dX1_alone_46 : decode cX1_alone 46 = .ok (.bipush (-2), 2) := dk_16 254 (dk_at dksX1_alone_1 22 rfl rfl)
theorem dX1_alone_48 : decode cX1_alone 48 = .ok (.if_icmp .ne 6, 3) := dk_160 0 6 (dk_at dksX1_alone_2 0 rfl rfl)
theorem dX1_alone_51 : decode cX1_alone 51 = .ok (.goto 74, 3) := dk_167 0 74 (dk_at dksX1_alone_2 3 rfl rfl)
theorem dX1_alone_54 : decode cX1_alone 54 = .ok (.iconst 1, 1) := dk_4 (dk_at dksX1_alone_2 6 rfl rfl)
theorem dX1_alone_55 : decode cX1_alone 55 = .ok (.istore 4, 2) := dk_54 4 (dk_at dksX1_alone_2 7 rfl rfl)
theorem dX1_alone_57 : decode cX1_alone 57 = .ok (.iconst 0, 1) := dk_3 (dk_at dksX1_alone_2 9 rfl rfl)
theorem dX1_alone_58 : decode cX1_alone 58 = .ok (.istore 5, 2) := dk_54 5 (dk_at dksX1_alone_2 10 rfl rfl)
theorem dX1_alone_60 : decode cX1_alone 60 = .ok (.iload 5, 2) := dk_21 5 (dk_at dksX1_alone_2 12 rfl rfl)
theorem dX1_alone_62 : decode cX1_alone 62 = .ok (.aload_n 0, 1) := dk_42 (dk_at dksX1_alone_2 14 rfl rfl)
theorem dX1_alone_63 : decode cX1_alone 63 = .ok (.getfield 56, 3) := dk_180 0 56 (dk_at dksX1_alone_2 15 rfl rfl)
theorem dX1_alone_66 : decode cX1_alone 66 = .ok (.getfield 71, 3) := dk_180 0 71 (dk_at dksX1_alone_2 18 rfl rfl)
theorem dX1_alone_69 : decode cX1_alone 69 = .ok (.invokeinterface 77 1, 5) := by decide +kernel
theorem dX1_alone_74 : decode cX1_alone 74 = .ok (.if_icmp .ge 36, 3) := dk_162 0 36 (dk_at dksX1_alone_3 5 rfl rfl)
theorem dX1_alone_77 : decode cX1_alone 77 = .ok (.aload_n 0, 1) := dk_42 (dk_at dksX1_alone_3 8 rfl rfl)
theorem dX1_alone_78 : decode cX1_alone 78 = .ok (.iload_n 1, 1) := dk_27 (dk_at dksX1_alone_3 9 rfl rfl)
theorem dX1_alone_79 : decode cX1_alone 79 = .ok (.iload 5, 2) := dk_21 5 (dk_at dksX1_alone_3 10 rfl rfl)
theorem dX1_alone_81 : decode cX1_alone 81 = .ok (.invokevirtual 287, 3) := dk_182 1 31 (dk_at dksX1_alone_3 12 rfl rfl)
theorem dX1_alone_84 : decode cX1_alone 84 = .ok (.ifCond .ne 20, 3) := dk_154 0 20 (dk_at dksX1_alone_3 15 rfl rfl)
theorem dX1_alone_87 : decode cX1_alone 87 = .ok (.aload_n 0, 1) := dk_42 (dk_at dksX1_alone_3 18 rfl rfl)
theorem dX1_alone_88 : decode cX1_alone 88 = .ok (.getfield 56, 3) := dk_180 0 56 (dk_at dksX1_alone_3 19 rfl rfl)
theorem dX1_alone_91 : decode cX1_alone 91 = .ok (.iload_n 1, 1) := dk_27 (dk_at dksX1_alone_3 22 rfl rfl)
theorem dX1_alone_92 : decode cX1_alone 92 = .ok (.iload 5, 2) := dk_21 5 (dk_at dksX1_alone_4 0 rfl rfl)
theorem dX1_alone_94 : decode cX1_alone 94 = .ok (.iload_n 3, 1) := dk_29 (dk_at dksX1_alone_4 2 rfl rfl)
theorem dX1_alone_95 : decode cX1_alone 95 = .ok (.invokevirtual 284, 3) := dk_182 1 28 (dk_at dksX1_alone_4 3 rfl rfl)
theorem dX1_alone_98 : decode cX1_alone 98 = .ok (.ifCond .eq 6, 3) := dk_153 0 6 (dk_at dksX1_alone_4 6 rfl rfl)
theorem dX1_alone_101 : decode cX1_alone 101 = .ok (.iconst 0, 1) := dk_3 (dk_at dksX1_alone_4 9 rfl rfl)
theorem dX1_alone_102 : decode cX1_alone 102 = .ok (.istore 4, 2) := dk_54 4 (dk_at dksX1_alone_4 10 rfl rfl)
theorem dX1_alone_104 : decode cX1_alone 104 = .ok (.iinc 5 1, 3) := dk_132 5 1 (dk_at dksX1_alone_4 12 rfl rfl)
theorem dX1_alone_107 : decode cX1_alone 107 = .ok (.goto (-47), 3) := dk_167 255 209 (dk_at dksX1_alone_4 15 rfl rfl)
theorem dX1_alone_110 : decode cX1_alone 110 = .ok (.iload_n 2, 1) := dk_28 (dk_at dksX1_alone_4 18 rfl rfl)
theorem dX1_alone_111 : decode cX1_alone 111 = .ok (.iload 4, 2) := dk_21 4 (dk_at dksX1_alone_4 19 rfl rfl)
theorem dX1_alone_113 : decode cX1_alone 113 = .ok (.ifCond .eq 9, 3) := dk_153 0 9 (dk_at dksX1_alone_4 21 rfl rfl)
theorem dX1_alone_116 : decode cX1_alone 116 = .ok (.iconst 1, 1) := dk_4 (dk_at dksX1_alone_5 0 rfl rfl)
theorem dX1_alone_117 : decode cX1_alone 117 = .ok (.iload_n 3, 1) := dk_29 (dk_at dksX1_alone_5 1 rfl rfl)
theorem dX1_alone_118 : decode cX1_alone 118 = .ok (.ishl, 1) := dk_120 (dk_at dksX1_alone_5 2 rfl rfl)
theorem dX1_alone_119 : decode cX1_alone 119 = .ok (.goto 4, 3) := dk_167 0 4 (dk_at dksX1_alone_5 3 rfl rfl)
theorem dX1_alone_122 : decode cX1_alone 122 = .ok (.iconst 0, 1) := dk_3 (dk_at dksX1_alone_5 6 rfl rfl)
theorem dX1_alone_123 : decode cX1_alone 123 = .ok (.ior, 1) := dk_128 (dk_at dksX1_alone_5 7 rfl rfl)
theorem dX1_alone_124 : decode cX1_alone 124 = .ok (.istore_n 2, 1) := dk_61 (dk_at dksX1_alone_5 8 rfl rfl)
theorem dX1_alone_125 : decode cX1_alone 125 = .ok (.iinc 3 1, 3) := dk_132 3 1 (dk_at dksX1_alone_5 9 rfl rfl)
theorem dX1_alone_128 : decode cX1_alone 128 = .ok (.goto (-110), 3) := dk_167 255 146 (dk_at dksX1_alone_5 12 rfl rfl)
theorem dX1_alone_131 : decode cX1_alone 131 = .ok (.aload_n 0, 1) := dk_42 (dk_at dksX1_alone_5 15 rfl rfl)
theorem dX1_alone_132 : decode cX1_alone 132 = .ok (.iload_n 2, 1) := dk_28 (dk_at dksX1_alone_5 16 rfl rfl)
theorem dX1_alone_133 : decode cX1_alone 133 = .ok (.invokevirtual 83, 3) := dk_182 0 83 (dk_at dksX1_alone_5 17 rfl rfl)
theorem dX1_alone_136 : decode cX1_alone 136 = .ok (.ireturn, 1) := dk_172 (dk_at dksX1_alone_5 20 rfl rfl)
theorem md_X1_alone : xMd yX1_alone cX1_alone 6 (Option.some Jvm.ClassFile.FieldType.int) 1 := ⟨q2353, q123, by decide, by decide +kernel, by decide +kernel, by decide +kernel⟩
def f_X1_alone_125 (a0 : Nat) (k18 : Int32 × Int32 × Int32 × PH → Option (xO × PH)) (v1 : Int32) (v2 : Int32) (v3 : Int32) (p0 : PH) : Option (xO × PH) :=
  (bnd (v3 + 1) fun x27 =>
  (k18 (v1, v2, x27, p0)))
def f_X1_alone_123 (a0 : Nat) (k18 : Int32 × Int32 × Int32 × PH → Option (xO × PH)) (v1 : Int32) (v3 : Int32) (w0 : Int32) (w1 : Int32) (p0 : PH) : Option (xO × PH) :=
  (bnd (w0 ||| w1) fun x26 =>
  (f_X1_alone_125 a0 k18 v1 x26 v3 p0))
def f_X1_alone_104 (a0 : Nat) (k60 : Int32 × Int32 × Int32 × Int32 × Int32 × PH → Option (xO × PH)) (v1 : Int32) (v2 : Int32) (v3 : Int32) (v4 : Int32) (v5 : Int32) (p0 : PH) : Option (xO × PH) :=
  (bnd (v5 + 1) fun x30 =>
  (k60 (v1, v2, v3, v4, x30, p0)))
def f_X1_alone_60F (a0 : Nat) (k18 : Int32 × Int32 × Int32 × PH → Option (xO × PH)) (k60 : Int32 × Int32 × Int32 × Int32 × Int32 × PH → Option (xO × PH)) (p : Int32 × Int32 × Int32 × Int32 × Int32 × PH) : Option (xO × PH) := match p with
  | (v1, v2, v3, v4, v5, p0) => (xgR p0 a0 0 5 fun x20 =>
  (xnul x20 none fun b21 =>
  (xgR p0 b21 3 1 fun x22 =>
  (xnul x22 none fun b23 =>
  (xcI (f_J3_size p0 b23 ) fun x25 p24 =>
  (if x25 ≤ v5 then
  (if v4 = 0 then
  (f_X1_alone_123 a0 k18 v1 v3 v2 0 p24) else
  (f_X1_alone_123 a0 k18 v1 v3 v2 (1 <<< (v3 &&& 31)) p24)) else
  (xcI (f_X1_whyNot p24 a0 v1 v5) fun x29 p28 =>
  (if x29 = 0 then
  (xgR p28 a0 0 5 fun x31 =>
  (xnul x31 none fun b32 =>
  (xcI (f_X4_areTogether p28 b32 v1 v5 v3) fun x34 p33 =>
  (if x34 = 0 then
  (f_X1_alone_104 a0 k60 v1 v2 v3 v4 v5 p33) else
  (f_X1_alone_104 a0 k60 v1 v2 v3 0 v5 p33))))) else
  (f_X1_alone_104 a0 k60 v1 v2 v3 v4 v5 p28)))))))))
def f_X1_alone_18F (a0 : Nat)  (k18 : Int32 × Int32 × Int32 × PH → Option (xO × PH)) (p : Int32 × Int32 × Int32 × PH) : Option (xO × PH) := match p with
  | (v1, v2, v3, p0) => (xgR p0 a0 0 5 fun x3 =>
  (xnul x3 none fun b4 =>
  (xcR (f_X4_match p0 b4 v1) fun x6 p5 =>
  (xnul x6 none fun b7 =>
  (xgR p5 b7 8 2 fun x8 =>
  (xnul x8 none fun b9 =>
  (xlen p5 b9 fun x10 =>
  (if x10 < v3 then
  (xcI (f_X1_fine p5 a0 v2) fun x12 p11 =>
  (rI x12 p11)) else
  (xgR p5 a0 0 5 fun x13 =>
  (xnul x13 none fun b14 =>
  (xcR (f_X4_match p5 b14 v1) fun x16 p15 =>
  (xnul x16 none fun b17 =>
  (xcI (f_X9_time p15 b17 v3) fun x19 p18 =>
  (if x19 = (-2) then
  (f_X1_alone_125 a0 k18 v1 v2 v3 p18) else
  (lp (f_X1_alone_60F a0 k18) FU (v1, v2, v3, 1, 0, p18))))))))))))))))
def f_X1_alone (p0 : PH) (a0 : Nat) (a1 : Int32) : Option (xO × PH) :=
  (xcl1 p0 a0 0 (xcI (f_X1_isRunner p0 a0 a1) fun x2 p1 =>
  (if x2 = 0 then
  (xcI (f_X1_refused p1 a0 1) fun x36 p35 =>
  (rI x36 p35)) else
  (lp (f_X1_alone_18F a0) FU (a1, 0, 0, p1)))))
theorem rc_X1_alone {p0 : PH} {a0 : Nat} {a1 : Int32} : ∀ z, f_X1_alone p0 a0 a1 = some z → xco p0 a0 = some 0 := fun z h => xcl1_some h
theorem f_X1_alone_125_ok {G : xG} (hO : xOK G) (a0 : Nat) {k18 : Int32 × Int32 × Int32 × PH → Option (xO × PH)} (hk18 : ∀ (v1 : Int32) (v2 : Int32) (v3 : Int32) (p0 : PH), X G "ForestLegs" "alone" cX1_alone 6 (Option.some Jvm.ClassFile.FieldType.int) 9 18 [(0, .ref a0), (1, .int v1), (2, .int v2), (3, .int v3)] [] p0 (k18 (v1, v2, v3, p0))) (v1 : Int32) (v2 : Int32) (v3 : Int32) (p0 : PH) : X G "ForestLegs" "alone" cX1_alone 6 (Option.some Jvm.ClassFile.FieldType.int) 9 125 [(0, .ref a0), (1, .int v1), (2, .int v2), (3, .int v3)] [] p0 (f_X1_alone_125 a0 k18 v1 v2 v3 p0) := by
  unfold f_X1_alone_125
  refine x_iincB 3 (fun x27 => [(3, .int x27), (0, .ref a0), (1, .int v1), (2, .int v2)]) dX1_alone_125 rfl rfl (by decide) (fun _ => rfl) (n := 128) rfl (fun x27 => ?_)
  refine x_goto dX1_alone_128 (n := 18) (by decide) ?_
  refine x_sub [1, 2, 3, 0] [(0, .ref a0), (1, .int v1), (2, .int v2), (3, .int x27)] rfl ?_
  exact hk18 v1 v2 x27 p0
theorem f_X1_alone_123_ok {G : xG} (hO : xOK G) (a0 : Nat) {k18 : Int32 × Int32 × Int32 × PH → Option (xO × PH)} (hk18 : ∀ (v1 : Int32) (v2 : Int32) (v3 : Int32) (p0 : PH), X G "ForestLegs" "alone" cX1_alone 6 (Option.some Jvm.ClassFile.FieldType.int) 9 18 [(0, .ref a0), (1, .int v1), (2, .int v2), (3, .int v3)] [] p0 (k18 (v1, v2, v3, p0))) (v1 : Int32) (v3 : Int32) (w0 : Int32) (w1 : Int32) (p0 : PH) : X G "ForestLegs" "alone" cX1_alone 6 (Option.some Jvm.ClassFile.FieldType.int) 9 123 [(0, .ref a0), (1, .int v1), (3, .int v3)] [.int w1, .int w0] p0 (f_X1_alone_123 a0 k18 v1 v3 w0 w1 p0) := by
  unfold f_X1_alone_123
  refine x_ior dX1_alone_123 (n := 124) rfl ?_
  refine x_nm (fun x26 => ?_)
  refine x_istore_n [(2, .int x26), (0, .ref a0), (1, .int v1), (3, .int v3)] dX1_alone_124 rfl (by decide) rfl (n := 125) rfl ?_
  refine x_sub [1, 2, 0, 3] [(0, .ref a0), (1, .int v1), (2, .int x26), (3, .int v3)] rfl ?_
  exact f_X1_alone_125_ok hO a0 hk18 v1 x26 v3 p0
theorem f_X1_alone_104_ok {G : xG} (hO : xOK G) (a0 : Nat) {k60 : Int32 × Int32 × Int32 × Int32 × Int32 × PH → Option (xO × PH)} (hk60 : ∀ (v1 : Int32) (v2 : Int32) (v3 : Int32) (v4 : Int32) (v5 : Int32) (p0 : PH), X G "ForestLegs" "alone" cX1_alone 6 (Option.some Jvm.ClassFile.FieldType.int) 9 60 [(0, .ref a0), (1, .int v1), (2, .int v2), (3, .int v3), (4, .int v4), (5, .int v5)] [] p0 (k60 (v1, v2, v3, v4, v5, p0))) (v1 : Int32) (v2 : Int32) (v3 : Int32) (v4 : Int32) (v5 : Int32) (p0 : PH) : X G "ForestLegs" "alone" cX1_alone 6 (Option.some Jvm.ClassFile.FieldType.int) 9 104 [(0, .ref a0), (1, .int v1), (2, .int v2), (3, .int v3), (4, .int v4), (5, .int v5)] [] p0 (f_X1_alone_104 a0 k60 v1 v2 v3 v4 v5 p0) := by
  unfold f_X1_alone_104
  refine x_iincB 5 (fun x30 => [(5, .int x30), (0, .ref a0), (1, .int v1), (2, .int v2), (3, .int v3), (4, .int v4)]) dX1_alone_104 rfl rfl (by decide) (fun _ => rfl) (n := 107) rfl (fun x30 => ?_)
  refine x_goto dX1_alone_107 (n := 60) (by decide) ?_
  refine x_sub [1, 2, 3, 4, 5, 0] [(0, .ref a0), (1, .int v1), (2, .int v2), (3, .int v3), (4, .int v4), (5, .int x30)] rfl ?_
  exact hk60 v1 v2 v3 v4 x30 p0
theorem f_X1_alone_60F_ok {G : xG} (hO : xOK G) (a0 : Nat) {k18 : Int32 × Int32 × Int32 × PH → Option (xO × PH)} (hk18 : ∀ (v1 : Int32) (v2 : Int32) (v3 : Int32) (p0 : PH), X G "ForestLegs" "alone" cX1_alone 6 (Option.some Jvm.ClassFile.FieldType.int) 9 18 [(0, .ref a0), (1, .int v1), (2, .int v2), (3, .int v3)] [] p0 (k18 (v1, v2, v3, p0))) {k60 : Int32 × Int32 × Int32 × Int32 × Int32 × PH → Option (xO × PH)} (hk60 : ∀ (v1 : Int32) (v2 : Int32) (v3 : Int32) (v4 : Int32) (v5 : Int32) (p0 : PH), X G "ForestLegs" "alone" cX1_alone 6 (Option.some Jvm.ClassFile.FieldType.int) 9 60 [(0, .ref a0), (1, .int v1), (2, .int v2), (3, .int v3), (4, .int v4), (5, .int v5)] [] p0 (k60 (v1, v2, v3, v4, v5, p0))) (v1 : Int32) (v2 : Int32) (v3 : Int32) (v4 : Int32) (v5 : Int32) (p0 : PH) : X G "ForestLegs" "alone" cX1_alone 6 (Option.some Jvm.ClassFile.FieldType.int) 9 60 [(0, .ref a0), (1, .int v1), (2, .int v2), (3, .int v3), (4, .int v4), (5, .int v5)] [] p0 (f_X1_alone_60F a0 k18 k60 (v1, v2, v3, v4, v5, p0)) := by
  unfold f_X1_alone_60F
  refine x_iload 5 dX1_alone_60 rfl (n := 62) rfl ?_
  refine x_aload_nr 0 dX1_alone_62 rfl rfl (n := 63) rfl ?_
  refine x_getR fl_X1_56 dX1_alone_63 (n := 66) rfl (fun x20 => ?_)
  refine x_sm (fun b21 e => ?_)
  subst e
  refine x_getR fl_X1_71 dX1_alone_66 (n := 69) rfl (fun x22 => ?_)
  refine x_sm (fun b23 e => ?_)
  subst e
  refine x_callF_I [] [.int v5] (f_J3_size_ok hO p0 b23 ) rc_J3_size md_J3_size rfl q1479 fc_java_util_ArrayList_java_util_List_size_0_I dX1_alone_69 rfl rfl (by decide) (Nat.le_of_ble_eq_true rfl) (n := 74) rfl (fun x25 p24 => ?_)
  refine x_icmp_ge dX1_alone_74 (t := 110) (by decide) (n := 77) rfl (fun _ => ?_) (fun _ => ?_)
  · refine x_iload_n 2 dX1_alone_110 rfl rfl (n := 111) rfl ?_
    refine x_iload 4 dX1_alone_111 rfl (n := 113) rfl ?_
    refine x_if_eq dX1_alone_113 (t := 122) (by decide) (n := 116) rfl (fun _ => ?_) (fun _ => ?_)
    · refine x_iconst 0 dX1_alone_122 rfl (n := 123) rfl ?_
      refine x_sub [0, 1, 3] [(0, .ref a0), (1, .int v1), (3, .int v3)] rfl ?_
      exact f_X1_alone_123_ok hO a0 hk18 v1 v3 v2 0 p24
    · refine x_iconst 1 dX1_alone_116 rfl (n := 117) rfl ?_
      refine x_iload_n 3 dX1_alone_117 rfl rfl (n := 118) rfl ?_
      refine x_ishl dX1_alone_118 (n := 119) rfl ?_
      refine x_goto dX1_alone_119 (n := 123) (by decide) ?_
      refine x_sub [0, 1, 3] [(0, .ref a0), (1, .int v1), (3, .int v3)] rfl ?_
      exact f_X1_alone_123_ok hO a0 hk18 v1 v3 v2 (1 <<< (v3 &&& 31)) p24
  · refine x_aload_nr 0 dX1_alone_77 rfl rfl (n := 78) rfl ?_
    refine x_iload_n 1 dX1_alone_78 rfl rfl (n := 79) rfl ?_
    refine x_iload 5 dX1_alone_79 rfl (n := 81) rfl ?_
    refine x_callV_I [.int v1, .int v5] [] (f_X1_whyNot_ok hO p24 a0 v1 v5) rc_X1_whyNot md_X1_whyNot rfl q2334 q2336 qs49 dX1_alone_81 rfl rfl (by decide) (Nat.le_of_ble_eq_true rfl) (n := 84) rfl (fun x29 p28 => ?_)
    refine x_if_ne dX1_alone_84 (t := 104) (by decide) (n := 87) rfl (fun _ => ?_) (fun _ => ?_)
    · exact f_X1_alone_104_ok hO a0 hk60 v1 v2 v3 v4 v5 p28
    · refine x_aload_nr 0 dX1_alone_87 rfl rfl (n := 88) rfl ?_
      refine x_getR fl_X1_56 dX1_alone_88 (n := 91) rfl (fun x31 => ?_)
      refine x_iload_n 1 dX1_alone_91 rfl rfl (n := 92) rfl ?_
      refine x_iload 5 dX1_alone_92 rfl (n := 94) rfl ?_
      refine x_iload_n 3 dX1_alone_94 rfl rfl (n := 95) rfl ?_
      refine x_sm (fun b32 e => ?_)
      subst e
      refine x_callV_I [.int v1, .int v5, .int v3] [] (f_X4_areTogether_ok hO p28 b32 v1 v5 v3) rc_X4_areTogether md_X4_areTogether rfl q2342 q2343 q2344 dX1_alone_95 rfl rfl (by decide) (Nat.le_of_ble_eq_true rfl) (n := 98) rfl (fun x34 p33 => ?_)
      refine x_if_eq dX1_alone_98 (t := 104) (by decide) (n := 101) rfl (fun _ => ?_) (fun _ => ?_)
      · exact f_X1_alone_104_ok hO a0 hk60 v1 v2 v3 v4 v5 p33
      · refine x_iconst 0 dX1_alone_101 rfl (n := 102) rfl ?_
        refine x_istore [(4, .int 0), (0, .ref a0), (1, .int v1), (2, .int v2), (3, .int v3), (5, .int v5)] dX1_alone_102 (by decide) rfl (n := 104) rfl ?_
        refine x_sub [1, 2, 3, 4, 0, 5] [(0, .ref a0), (1, .int v1), (2, .int v2), (3, .int v3), (4, .int 0), (5, .int v5)] rfl ?_
        exact f_X1_alone_104_ok hO a0 hk60 v1 v2 v3 0 v5 p33
theorem f_X1_alone_60_lp {G : xG} (hO : xOK G) (a0 : Nat) {k18 : Int32 × Int32 × Int32 × PH → Option (xO × PH)} (hk18 : ∀ (v1 : Int32) (v2 : Int32) (v3 : Int32) (p0 : PH), X G "ForestLegs" "alone" cX1_alone 6 (Option.some Jvm.ClassFile.FieldType.int) 9 18 [(0, .ref a0), (1, .int v1), (2, .int v2), (3, .int v3)] [] p0 (k18 (v1, v2, v3, p0))) (n : Nat) (v1 : Int32) (v2 : Int32) (v3 : Int32) (v4 : Int32) (v5 : Int32) (p0 : PH) : X G "ForestLegs" "alone" cX1_alone 6 (Option.some Jvm.ClassFile.FieldType.int) 9 60 [(0, .ref a0), (1, .int v1), (2, .int v2), (3, .int v3), (4, .int v4), (5, .int v5)] [] p0 (lp (f_X1_alone_60F a0 k18) n (v1, v2, v3, v4, v5, p0)) :=
  lp_ok (W := fun p K => X G "ForestLegs" "alone" cX1_alone 6 (Option.some Jvm.ClassFile.FieldType.int) 9 60 [(0, .ref a0), (1, .int p.1), (2, .int p.2.1), (3, .int p.2.2.1), (4, .int p.2.2.2.1), (5, .int p.2.2.2.2.1)] [] p.2.2.2.2.2 K) (fun _ => x_no) (fun k hk => fun (v1, v2, v3, v4, v5, p0) => f_X1_alone_60F_ok hO a0 hk18 (fun v1 v2 v3 v4 v5 p0 => hk (v1, v2, v3, v4, v5, p0)) v1 v2 v3 v4 v5 p0) n (v1, v2, v3, v4, v5, p0)
theorem f_X1_alone_18F_ok {G : xG} (hO : xOK G) (a0 : Nat)  {k18 : Int32 × Int32 × Int32 × PH → Option (xO × PH)} (hk18 : ∀ (v1 : Int32) (v2 : Int32) (v3 : Int32) (p0 : PH), X G "ForestLegs" "alone" cX1_alone 6 (Option.some Jvm.ClassFile.FieldType.int) 9 18 [(0, .ref a0), (1, .int v1), (2, .int v2), (3, .int v3)] [] p0 (k18 (v1, v2, v3, p0))) (v1 : Int32) (v2 : Int32) (v3 : Int32) (p0 : PH) : X G "ForestLegs" "alone" cX1_alone 6 (Option.some Jvm.ClassFile.FieldType.int) 9 18 [(0, .ref a0), (1, .int v1), (2, .int v2), (3, .int v3)] [] p0 (f_X1_alone_18F a0 k18 (v1, v2, v3, p0)) := by
  unfold f_X1_alone_18F
  refine x_iload_n 3 dX1_alone_18 rfl rfl (n := 19) rfl ?_
  refine x_aload_nr 0 dX1_alone_19 rfl rfl (n := 20) rfl ?_
  refine x_getR fl_X1_56 dX1_alone_20 (n := 23) rfl (fun x3 => ?_)
  refine x_iload_n 1 dX1_alone_23 rfl rfl (n := 24) rfl ?_
  refine x_sm (fun b4 e => ?_)
  subst e
  refine x_callV_R [.int v1] [.int v3] (f_X4_match_ok hO p0 b4 v1) rc_X4_match md_X4_match rfl q1784 q1504 q1505 dX1_alone_24 rfl rfl (by decide) (Nat.le_of_ble_eq_true rfl) (n := 27) rfl (fun x6 p5 => ?_)
  refine x_sm (fun b7 e => ?_)
  subst e
  refine x_getR fl_X1_193 dX1_alone_27 (n := 30) rfl (fun x8 => ?_)
  refine x_sm (fun b9 e => ?_)
  subst e
  refine x_alen dX1_alone_30 (n := 31) rfl (fun x10 => ?_)
  refine x_icmp_gt dX1_alone_31 (t := 131) (by decide) (n := 34) rfl (fun _ => ?_) (fun _ => ?_)
  · refine x_aload_nr 0 dX1_alone_131 rfl rfl (n := 132) rfl ?_
    refine x_iload_n 2 dX1_alone_132 rfl rfl (n := 133) rfl ?_
    refine x_callV_I [.int v2] [] (f_X1_fine_ok hO p5 a0 v2) rc_X1_fine md_X1_fine rfl q1480 q1482 qs26 dX1_alone_133 rfl rfl (by decide) (Nat.le_of_ble_eq_true rfl) (n := 136) rfl (fun x12 p11 => ?_)
    exact x_ireturn dX1_alone_136
  · refine x_aload_nr 0 dX1_alone_34 rfl rfl (n := 35) rfl ?_
    refine x_getR fl_X1_56 dX1_alone_35 (n := 38) rfl (fun x13 => ?_)
    refine x_iload_n 1 dX1_alone_38 rfl rfl (n := 39) rfl ?_
    refine x_sm (fun b14 e => ?_)
    subst e
    refine x_callV_R [.int v1] [] (f_X4_match_ok hO p5 b14 v1) rc_X4_match md_X4_match rfl q1784 q1504 q1505 dX1_alone_39 rfl rfl (by decide) (Nat.le_of_ble_eq_true rfl) (n := 42) rfl (fun x16 p15 => ?_)
    refine x_iload_n 3 dX1_alone_42 rfl rfl (n := 43) rfl ?_
    refine x_sm (fun b17 e => ?_)
    subst e
    refine x_callV_I [.int v3] [] (f_X9_time_ok hO p15 b17 v3) rc_X9_time md_X9_time rfl q2354 q1751 q1752 dX1_alone_43 rfl rfl (by decide) (Nat.le_of_ble_eq_true rfl) (n := 46) rfl (fun x19 p18 => ?_)
    refine x_bipush (-2) dX1_alone_46 rfl (n := 48) rfl ?_
    refine x_icmp_ne dX1_alone_48 (t := 54) (by decide) (n := 51) rfl (fun _ => ?_) (fun _ => ?_)
    · refine x_iconst 1 dX1_alone_54 rfl (n := 55) rfl ?_
      refine x_istore [(4, .int 1), (0, .ref a0), (1, .int v1), (2, .int v2), (3, .int v3)] dX1_alone_55 (by decide) rfl (n := 57) rfl ?_
      refine x_iconst 0 dX1_alone_57 rfl (n := 58) rfl ?_
      refine x_istore [(5, .int 0), (4, .int 1), (0, .ref a0), (1, .int v1), (2, .int v2), (3, .int v3)] dX1_alone_58 (by decide) rfl (n := 60) rfl ?_
      refine x_sub [2, 3, 4, 5, 1, 0] [(0, .ref a0), (1, .int v1), (2, .int v2), (3, .int v3), (4, .int 1), (5, .int 0)] rfl ?_
      exact f_X1_alone_60_lp hO a0 hk18 FU v1 v2 v3 1 0 p18
    · refine x_goto dX1_alone_51 (n := 125) (by decide) ?_
      exact f_X1_alone_125_ok hO a0 hk18 v1 v2 v3 p18
theorem f_X1_alone_18_lp {G : xG} (hO : xOK G) (a0 : Nat)  (n : Nat) (v1 : Int32) (v2 : Int32) (v3 : Int32) (p0 : PH) : X G "ForestLegs" "alone" cX1_alone 6 (Option.some Jvm.ClassFile.FieldType.int) 9 18 [(0, .ref a0), (1, .int v1), (2, .int v2), (3, .int v3)] [] p0 (lp (f_X1_alone_18F a0) n (v1, v2, v3, p0)) :=
  lp_ok (W := fun p K => X G "ForestLegs" "alone" cX1_alone 6 (Option.some Jvm.ClassFile.FieldType.int) 9 18 [(0, .ref a0), (1, .int p.1), (2, .int p.2.1), (3, .int p.2.2.1)] [] p.2.2.2 K) (fun _ => x_no) (fun k hk => fun (v1, v2, v3, p0) => f_X1_alone_18F_ok hO a0 (fun v1 v2 v3 p0 => hk (v1, v2, v3, p0)) v1 v2 v3 p0) n (v1, v2, v3, p0)
theorem f_X1_alone_ok {G : xG} (hO : xOK G) (p0 : PH) (a0 : Nat) (a1 : Int32) : CT G 9 yX1_alone cX1_alone 6 (Option.some Jvm.ClassFile.FieldType.int) [.ref a0, .int a1] p0 (f_X1_alone p0 a0 a1) := by
  refine CT_of hO (by decide +kernel) (by decide +kernel) (Nat.le_of_ble_eq_true rfl) ?_
  show X G "ForestLegs" "alone" cX1_alone 6 (Option.some Jvm.ClassFile.FieldType.int) 9 0 [(0, .ref a0), (1, .int a1)] [] p0 (f_X1_alone p0 a0 a1)
  refine x_cl1 (fun e0 => ?_)
  refine x_aload_nr 0 dX1_alone_0 rfl rfl (n := 1) rfl ?_
  refine x_iload_n 1 dX1_alone_1 rfl rfl (n := 2) rfl ?_
  refine x_callV_I [.int a1] [] (f_X1_isRunner_ok hO p0 a0 a1) rc_X1_isRunner md_X1_isRunner rfl q1780 q1782 qs41 dX1_alone_2 rfl rfl (by decide) (Nat.le_of_ble_eq_true rfl) (n := 5) rfl (fun x2 p1 => ?_)
  refine x_if_ne dX1_alone_5 (t := 14) (by decide) (n := 8) rfl (fun _ => ?_) (fun _ => ?_)
  · refine x_iconst 0 dX1_alone_14 rfl (n := 15) rfl ?_
    refine x_istore_n [(2, .int 0), (0, .ref a0), (1, .int a1)] dX1_alone_15 rfl (by decide) rfl (n := 16) rfl ?_
    refine x_iconst 0 dX1_alone_16 rfl (n := 17) rfl ?_
    refine x_istore_n [(3, .int 0), (2, .int 0), (0, .ref a0), (1, .int a1)] dX1_alone_17 rfl (by decide) rfl (n := 18) rfl ?_
    refine x_sub [2, 3, 1, 0] [(0, .ref a0), (1, .int a1), (2, .int 0), (3, .int 0)] rfl ?_
    exact f_X1_alone_18_lp hO a0 FU a1 0 0 p1
  · refine x_aload_nr 0 dX1_alone_8 rfl rfl (n := 9) rfl ?_
    refine x_iconst 1 dX1_alone_9 rfl (n := 10) rfl ?_
    refine x_callV_I [.int 1] [] (f_X1_refused_ok hO p1 a0 1) rc_X1_refused md_X1_refused rfl q250 q252 qs0 dX1_alone_10 rfl rfl (by decide) (Nat.le_of_ble_eq_true rfl) (n := 13) rfl (fun x36 p35 => ?_)
    exact x_ireturn dX1_alone_13
abbrev cJ19_numberOfTrailingZeros : ByteArray := prog_24_method_48_code
def yJ19_numberOfTrailingZeros : MethodName := ⟨RJ19, "numberOfTrailingZeros", "(I)I"⟩
def dkwJ19_numberOfTrailingZeros_3 : List UInt8 := [5, 124, 59, 27, 26, 4, 124, 96, 172]
abbrev dktJ19_numberOfTrailingZeros_3 : List UInt8 := dkwJ19_numberOfTrailingZeros_3 ++ []
def dkwJ19_numberOfTrailingZeros_2 : List UInt8 := [124, 59, 26, 16, 16, 164, 0, 10, 132, 1, 4, 26, 7, 124, 59, 26, 7, 164, 0, 10, 132, 1, 2, 26]
abbrev dktJ19_numberOfTrailingZeros_2 : List UInt8 := dkwJ19_numberOfTrailingZeros_2 ++ dktJ19_numberOfTrailingZeros_3
def dkwJ19_numberOfTrailingZeros_1 : List UInt8 := [164, 0, 11, 132, 1, 16, 26, 16, 16, 124, 59, 26, 17, 1, 0, 164, 0, 11, 132, 1, 8, 26, 16, 8]
abbrev dktJ19_numberOfTrailingZeros_1 : List UInt8 := dkwJ19_numberOfTrailingZeros_1 ++ dktJ19_numberOfTrailingZeros_2
def dkwJ19_numberOfTrailingZeros_0 : List UInt8 := [26, 2, 130, 26, 4, 100, 126, 59, 26, 157, 0, 8, 26, 16, 32, 126, 172, 4, 60, 26, 19, 1, 8]
abbrev dktJ19_numberOfTrailingZeros_0 : List UInt8 := dkwJ19_numberOfTrailingZeros_0 ++ dktJ19_numberOfTrailingZeros_1
theorem dksJ19_numberOfTrailingZeros_0 : cJ19_numberOfTrailingZeros.data.toList.drop 0 = dktJ19_numberOfTrailingZeros_0 := by decide +kernel
theorem dksJ19_numberOfTrailingZeros_1 : cJ19_numberOfTrailingZeros.data.toList.drop 23 = dktJ19_numberOfTrailingZeros_1 := dk_seg dksJ19_numberOfTrailingZeros_0 23 rfl rfl
theorem dksJ19_numberOfTrailingZeros_2 : cJ19_numberOfTrailingZeros.data.toList.drop 47 = dktJ19_numberOfTrailingZeros_2 := dk_seg dksJ19_numberOfTrailingZeros_1 24 rfl rfl
theorem dksJ19_numberOfTrailingZeros_3 : cJ19_numberOfTrailingZeros.data.toList.drop 71 = dktJ19_numberOfTrailingZeros_3 := dk_seg dksJ19_numberOfTrailingZeros_2 24 rfl rfl
theorem dJ19_numberOfTrailingZeros_0 : decode cJ19_numberOfTrailingZeros 0 = .ok (.iload_n 0, 1) := dk_26 (dk_at dksJ19_numberOfTrailingZeros_0 0 rfl rfl)
theorem dJ19_numberOfTrailingZeros_1 : decode cJ19_numberOfTrailingZeros 1 = .ok (.iconst (-1), 1) := dk_2 (dk_at dksJ19_numberOfTrailingZeros_0 1 rfl rfl)
theorem dJ19_numberOfTrailingZeros_2 : decode cJ19_numberOfTrailingZeros 2 = .ok (.ixor, 1) := dk_130 (dk_at dksJ19_numberOfTrailingZeros_0 2 rfl rfl)
theorem dJ19_numberOfTrailingZeros_3 : decode cJ19_numberOfTrailingZeros 3 = .ok (.iload_n 0, 1) := dk_26 (dk_at dksJ19_numberOfTrailingZeros_0 3 rfl rfl)
theorem dJ19_numberOfTrailingZeros_4 : decode cJ19_numberOfTrailingZeros 4 = .ok (.iconst 1, 1) := dk_4 (dk_at dksJ19_numberOfTrailingZeros_0 4 rfl rfl)
theorem dJ19_numberOfTrailingZeros_5 : decode cJ19_numberOfTrailingZeros 5 = .ok (.isub, 1) := dk_100 (dk_at dksJ19_numberOfTrailingZeros_0 5 rfl rfl)
theorem dJ19_numberOfTrailingZeros_6 : decode cJ19_numberOfTrailingZeros 6 = .ok (.iand, 1) := dk_126 (dk_at dksJ19_numberOfTrailingZeros_0 6 rfl rfl)
theorem dJ19_numberOfTrailingZeros_7 : decode cJ19_numberOfTrailingZeros 7 = .ok (.istore_n 0, 1) := dk_59 (dk_at dksJ19_numberOfTrailingZeros_0 7 rfl rfl)
theorem dJ19_numberOfTrailingZeros_8 : decode cJ19_numberOfTrailingZeros 8 = .ok (.iload_n 0, 1) := dk_26 (dk_at dksJ19_numberOfTrailingZeros_0 8 rfl rfl)
theorem dJ19_numberOfTrailingZeros_9 : decode cJ19_numberOfTrailingZeros 9 = .ok (.ifCond .gt 8, 3) := dk_157 0 8 (dk_at dksJ19_numberOfTrailingZeros_0 9 rfl rfl)
theorem dJ19_numberOfTrailingZeros_12 : decode cJ19_numberOfTrailingZeros 12 = .ok (.iload_n 0, 1) := dk_26 (dk_at dksJ19_numberOfTrailingZeros_0 12 rfl rfl)
theorem dJ19_numberOfTrailingZeros_13 : decode cJ19_numberOfTrailingZeros 13 = .ok (.bipush 32, 2) := dk_16 32 (dk_at dksJ19_numberOfTrailingZeros_0 13 rfl rfl)
theorem dJ19_numberOfTrailingZeros_15 : decode cJ19_numberOfTrailingZeros 15 = .ok (.iand, 1) := dk_126 (dk_at dksJ19_numberOfTrailingZeros_0 15 rfl rfl)
theorem dJ19_numberOfTrailingZeros_16 : decode cJ19_numberOfTrailingZeros 16 = .ok (.ireturn, 1) := dk_172 (dk_at dksJ19_numberOfTrailingZeros_0 16 rfl rfl)
theorem dJ19_numberOfTrailingZeros_17 : decode cJ19_numberOfTrailingZeros 17 = .ok (.iconst 1, 1) := dk_4 (dk_at dksJ19_numberOfTrailingZeros_0 17 rfl rfl)
theorem dJ19_numberOfTrailingZeros_18 : decode cJ19_numberOfTrailingZeros 18 = .ok (.istore_n 1, 1) := dk_60 (dk_at dksJ19_numberOfTrailingZeros_0 18 rfl rfl)
theorem dJ19_numberOfTrailingZeros_19 : decode cJ19_numberOfTrailingZeros 19 = .ok (.iload_n 0, 1) := dk_26 (dk_at dksJ19_numberOfTrailingZeros_0 19 rfl rfl)
theorem dJ19_numberOfTrailingZeros_20 : decode cJ19_numberOfTrailingZeros 20 = .ok (.ldc_w 264, 3) := dk_19 1 8 (dk_at dksJ19_numberOfTrailingZeros_0 20 rfl rfl)
theorem dJ19_numberOfTrailingZeros_23 : decode cJ19_numberOfTrailingZeros 23 = .ok (.if_icmp .le 11, 3) := dk_164 0 11 (dk_at dksJ19_numberOfTrailingZeros_1 0 rfl rfl)
theorem dJ19_numberOfTrailingZeros_26 : decode cJ19_numberOfTrailingZeros 26 = .ok (.iinc 1 16, 3) := dk_132 1 16 (dk_at dksJ19_numberOfTrailingZeros_1 3 rfl rfl)
theorem dJ19_numberOfTrailingZeros_29 : decode cJ19_numberOfTrailingZeros 29 = .ok (.iload_n 0, 1) := dk_26 (dk_at dksJ19_numberOfTrailingZeros_1 6 rfl rfl)
theorem dJ19_numberOfTrailingZeros_30 : decode cJ19_numberOfTrailingZeros 30 = .ok (.bipush 16, 2) := dk_16 16 (dk_at dksJ19_numberOfTrailingZeros_1 7 rfl rfl)
theorem dJ19_numberOfTrailingZeros_32 : decode cJ19_numberOfTrailingZeros 32 = .ok (.iushr, 1) := dk_124 (dk_at dksJ19_numberOfTrailingZeros_1 9 rfl rfl)
theorem dJ19_numberOfTrailingZeros_33 : decode cJ19_numberOfTrailingZeros 33 = .ok (.istore_n 0, 1) := dk_59 (dk_at dksJ19_numberOfTrailingZeros_1 10 rfl rfl)
theorem dJ19_numberOfTrailingZeros_34 : decode cJ19_numberOfTrailingZeros 34 = .ok (.iload_n 0, 1) := dk_26 (dk_at dksJ19_numberOfTrailingZeros_1 11 rfl rfl)
theorem dJ19_numberOfTrailingZeros_35 : decode cJ19_numberOfTrailingZeros 35 = .ok (.sipush 256, 3) := dk_17 1 0 (dk_at dksJ19_numberOfTrailingZeros_1 12 rfl rfl)
theorem dJ19_numberOfTrailingZeros_38 : decode cJ19_numberOfTrailingZeros 38 = .ok (.if_icmp .le 11, 3) := dk_164 0 11 (dk_at dksJ19_numberOfTrailingZeros_1 15 rfl rfl)
theorem dJ19_numberOfTrailingZeros_41 : decode cJ19_numberOfTrailingZeros 41 = .ok (.iinc 1 8, 3) := dk_132 1 8 (dk_at dksJ19_numberOfTrailingZeros_1 18 rfl rfl)
theorem dJ19_numberOfTrailingZeros_44 : decode cJ19_numberOfTrailingZeros 44 = .ok (.iload_n 0, 1) := dk_26 (dk_at dksJ19_numberOfTrailingZeros_1 21 rfl rfl)
theorem dJ19_numberOfTrailingZeros_45 : decode cJ19_numberOfTrailingZeros 45 = .ok (.bipush 8, 2) := dk_16 8 (dk_at dksJ19_numberOfTrailingZeros_1 22 rfl rfl)
theorem dJ19_numberOfTrailingZeros_47 : decode cJ19_numberOfTrailingZeros 47 = .ok (.iushr, 1) := dk_124 (dk_at dksJ19_numberOfTrailingZeros_2 0 rfl rfl)
theorem dJ19_numberOfTrailingZeros_48 : decode cJ19_numberOfTrailingZeros 48 = .ok (.istore_n 0, 1) := dk_59 (dk_at dksJ19_numberOfTrailingZeros_2 1 rfl rfl)
theorem dJ19_numberOfTrailingZeros_49 : decode cJ19_numberOfTrailingZeros 49 = .ok (.iload_n 0, 1) := dk_26 (dk_at dksJ19_numberOfTrailingZeros_2 2 rfl rfl)
theorem dJ19_numberOfTrailingZeros_50 : decode cJ19_numberOfTrailingZeros 50 = .ok (.bipush 16, 2) := dk_16 16 (dk_at dksJ19_numberOfTrailingZeros_2 3 rfl rfl)
theorem dJ19_numberOfTrailingZeros_52 : decode cJ19_numberOfTrailingZeros 52 = .ok (.if_icmp .le 10, 3) := dk_164 0 10 (dk_at dksJ19_numberOfTrailingZeros_2 5 rfl rfl)
theorem dJ19_numberOfTrailingZeros_55 : decode cJ19_numberOfTrailingZeros 55 = .ok (.iinc 1 4, 3) := dk_132 1 4 (dk_at dksJ19_numberOfTrailingZeros_2 8 rfl rfl)
theorem dJ19_numberOfTrailingZeros_58 : decode cJ19_numberOfTrailingZeros 58 = .ok (.iload_n 0, 1) := dk_26 (dk_at dksJ19_numberOfTrailingZeros_2 11 rfl rfl)
theorem dJ19_numberOfTrailingZeros_59 : decode cJ19_numberOfTrailingZeros 59 = .ok (.iconst 4, 1) := dk_7 (dk_at dksJ19_numberOfTrailingZeros_2 12 rfl rfl)
theorem dJ19_numberOfTrailingZeros_60 : decode cJ19_numberOfTrailingZeros 60 = .ok (.iushr, 1) := dk_124 (dk_at dksJ19_numberOfTrailingZeros_2 13 rfl rfl)
theorem dJ19_numberOfTrailingZeros_61 : decode cJ19_numberOfTrailingZeros 61 = .ok (.istore_n 0, 1) := dk_59 (dk_at dksJ19_numberOfTrailingZeros_2 14 rfl rfl)
theorem dJ19_numberOfTrailingZeros_62 : decode cJ19_numberOfTrailingZeros 62 = .ok (.iload_n 0, 1) := dk_26 (dk_at dksJ19_numberOfTrailingZeros_2 15 rfl rfl)
theorem dJ19_numberOfTrailingZeros_63 : decode cJ19_numberOfTrailingZeros 63 = .ok (.iconst 4, 1) := dk_7 (dk_at dksJ19_numberOfTrailingZeros_2 16 rfl rfl)
theorem dJ19_numberOfTrailingZeros_64 : decode cJ19_numberOfTrailingZeros 64 = .ok (.if_icmp .le 10, 3) := dk_164 0 10 (dk_at dksJ19_numberOfTrailingZeros_2 17 rfl rfl)
theorem dJ19_numberOfTrailingZeros_67 : decode cJ19_numberOfTrailingZeros 67 = .ok (.iinc 1 2, 3) := dk_132 1 2 (dk_at dksJ19_numberOfTrailingZeros_2 20 rfl rfl)
theorem dJ19_numberOfTrailingZeros_70 : decode cJ19_numberOfTrailingZeros 70 = .ok (.iload_n 0, 1) := dk_26 (dk_at dksJ19_numberOfTrailingZeros_2 23 rfl rfl)
theorem dJ19_numberOfTrailingZeros_71 : decode cJ19_numberOfTrailingZeros 71 = .ok (.iconst 2, 1) := dk_5 (dk_at dksJ19_numberOfTrailingZeros_3 0 rfl rfl)
theorem dJ19_numberOfTrailingZeros_72 : decode cJ19_numberOfTrailingZeros 72 = .ok (.iushr, 1) := dk_124 (dk_at dksJ19_numberOfTrailingZeros_3 1 rfl rfl)
theorem dJ19_numberOfTrailingZeros_73 : decode cJ19_numberOfTrailingZeros 73 = .ok (.istore_n 0, 1) := dk_59 (dk_at dksJ19_numberOfTrailingZeros_3 2 rfl rfl)
theorem dJ19_numberOfTrailingZeros_74 : decode cJ19_numberOfTrailingZeros 74 = .ok (.iload_n 1, 1) := dk_27 (dk_at dksJ19_numberOfTrailingZeros_3 3 rfl rfl)
theorem dJ19_numberOfTrailingZeros_75 : decode cJ19_numberOfTrailingZeros 75 = .ok (.iload_n 0, 1) := dk_26 (dk_at dksJ19_numberOfTrailingZeros_3 4 rfl rfl)
theorem dJ19_numberOfTrailingZeros_76 : decode cJ19_numberOfTrailingZeros 76 = .ok (.iconst 1, 1) := dk_4 (dk_at dksJ19_numberOfTrailingZeros_3 5 rfl rfl)
theorem dJ19_numberOfTrailingZeros_77 : decode cJ19_numberOfTrailingZeros 77 = .ok (.iushr, 1) := dk_124 (dk_at dksJ19_numberOfTrailingZeros_3 6 rfl rfl)
theorem dJ19_numberOfTrailingZeros_78 : decode cJ19_numberOfTrailingZeros 78 = .ok (.iadd, 1) := dk_96 (dk_at dksJ19_numberOfTrailingZeros_3 7 rfl rfl)
theorem dJ19_numberOfTrailingZeros_79 : decode cJ19_numberOfTrailingZeros 79 = .ok (.ireturn, 1) := dk_172 (dk_at dksJ19_numberOfTrailingZeros_3 8 rfl rfl)
theorem md_J19_numberOfTrailingZeros : xMd yJ19_numberOfTrailingZeros cJ19_numberOfTrailingZeros 2 (Option.some Jvm.ClassFile.FieldType.int) 1 := ⟨q1099, q149, by decide, by decide +kernel, by decide +kernel, by decide +kernel⟩
def f_J19_numberOfTrailingZeros_74   (v0 : Int32) (v1 : Int32) (p0 : PH) : Option (xO × PH) :=
  (rI (v1 + ((v0.toUInt32 >>> ((1 : Int32).toUInt32 &&& Int32.toUInt32 31)).toInt32)) p0)
def f_J19_numberOfTrailingZeros_62   (v0 : Int32) (v1 : Int32) (p0 : PH) : Option (xO × PH) :=
  (if v0 ≤ 4 then
  (f_J19_numberOfTrailingZeros_74 v0 v1 p0) else
  (bnd (v1 + 2) fun x2 =>
  (bnd ((v0.toUInt32 >>> ((2 : Int32).toUInt32 &&& Int32.toUInt32 31)).toInt32) fun x3 =>
  (f_J19_numberOfTrailingZeros_74 x3 x2 p0))))
def f_J19_numberOfTrailingZeros_49   (v0 : Int32) (v1 : Int32) (p0 : PH) : Option (xO × PH) :=
  (if v0 ≤ 16 then
  (f_J19_numberOfTrailingZeros_62 v0 v1 p0) else
  (bnd (v1 + 4) fun x4 =>
  (bnd ((v0.toUInt32 >>> ((4 : Int32).toUInt32 &&& Int32.toUInt32 31)).toInt32) fun x5 =>
  (f_J19_numberOfTrailingZeros_62 x5 x4 p0))))
def f_J19_numberOfTrailingZeros_34   (v0 : Int32) (v1 : Int32) (p0 : PH) : Option (xO × PH) :=
  (if v0 ≤ 256 then
  (f_J19_numberOfTrailingZeros_49 v0 v1 p0) else
  (bnd (v1 + 8) fun x6 =>
  (bnd ((v0.toUInt32 >>> ((8 : Int32).toUInt32 &&& Int32.toUInt32 31)).toInt32) fun x7 =>
  (f_J19_numberOfTrailingZeros_49 x7 x6 p0))))
def f_J19_numberOfTrailingZeros (p0 : PH) (a0 : Int32) : Option (xO × PH) :=
  (bnd ((a0 ^^^ (-1)) &&& (a0 - 1)) fun x1 =>
  (if 0 < x1 then
  (if x1 ≤ 65536 then
  (f_J19_numberOfTrailingZeros_34 x1 1 p0) else
  (bnd (1 + 16) fun x8 =>
  (bnd ((x1.toUInt32 >>> ((16 : Int32).toUInt32 &&& Int32.toUInt32 31)).toInt32) fun x9 =>
  (f_J19_numberOfTrailingZeros_34 x9 x8 p0)))) else
  (rI (x1 &&& 32) p0)))
theorem f_J19_numberOfTrailingZeros_74_ok {G : xG} (hO : xOK G)   (v0 : Int32) (v1 : Int32) (p0 : PH) : X G "java/lang/Integer" "numberOfTrailingZeros" cJ19_numberOfTrailingZeros 2 (Option.some Jvm.ClassFile.FieldType.int) 0 74 [(0, .int v0), (1, .int v1)] [] p0 (f_J19_numberOfTrailingZeros_74 v0 v1 p0) := by
  unfold f_J19_numberOfTrailingZeros_74
  refine x_iload_n 1 dJ19_numberOfTrailingZeros_74 rfl rfl (n := 75) rfl ?_
  refine x_iload_n 0 dJ19_numberOfTrailingZeros_75 rfl rfl (n := 76) rfl ?_
  refine x_iconst 1 dJ19_numberOfTrailingZeros_76 rfl (n := 77) rfl ?_
  refine x_iushr dJ19_numberOfTrailingZeros_77 (n := 78) rfl ?_
  refine x_iadd dJ19_numberOfTrailingZeros_78 (n := 79) rfl ?_
  exact x_ireturn dJ19_numberOfTrailingZeros_79
theorem f_J19_numberOfTrailingZeros_62_ok {G : xG} (hO : xOK G)   (v0 : Int32) (v1 : Int32) (p0 : PH) : X G "java/lang/Integer" "numberOfTrailingZeros" cJ19_numberOfTrailingZeros 2 (Option.some Jvm.ClassFile.FieldType.int) 0 62 [(0, .int v0), (1, .int v1)] [] p0 (f_J19_numberOfTrailingZeros_62 v0 v1 p0) := by
  unfold f_J19_numberOfTrailingZeros_62
  refine x_iload_n 0 dJ19_numberOfTrailingZeros_62 rfl rfl (n := 63) rfl ?_
  refine x_iconst 4 dJ19_numberOfTrailingZeros_63 rfl (n := 64) rfl ?_
  refine x_icmp_le dJ19_numberOfTrailingZeros_64 (t := 74) (by decide) (n := 67) rfl (fun _ => ?_) (fun _ => ?_)
  · exact f_J19_numberOfTrailingZeros_74_ok hO v0 v1 p0
  · refine x_iincB 1 (fun x2 => [(1, .int x2), (0, .int v0)]) dJ19_numberOfTrailingZeros_67 rfl rfl (by decide) (fun _ => rfl) (n := 70) rfl (fun x2 => ?_)
    refine x_iload_n 1 dJ19_numberOfTrailingZeros_70 rfl rfl (n := 71) rfl ?_
    refine x_iconst 2 dJ19_numberOfTrailingZeros_71 rfl (n := 72) rfl ?_
    refine x_iushr dJ19_numberOfTrailingZeros_72 (n := 73) rfl ?_
    refine x_nm (fun x3 => ?_)
    refine x_istore_n [(0, .int x3), (1, .int x2)] dJ19_numberOfTrailingZeros_73 rfl (by decide) rfl (n := 74) rfl ?_
    exact f_J19_numberOfTrailingZeros_74_ok hO x3 x2 p0
theorem f_J19_numberOfTrailingZeros_49_ok {G : xG} (hO : xOK G)   (v0 : Int32) (v1 : Int32) (p0 : PH) : X G "java/lang/Integer" "numberOfTrailingZeros" cJ19_numberOfTrailingZeros 2 (Option.some Jvm.ClassFile.FieldType.int) 0 49 [(0, .int v0), (1, .int v1)] [] p0 (f_J19_numberOfTrailingZeros_49 v0 v1 p0) := by
  unfold f_J19_numberOfTrailingZeros_49
  refine x_iload_n 0 dJ19_numberOfTrailingZeros_49 rfl rfl (n := 50) rfl ?_
  refine x_bipush 16 dJ19_numberOfTrailingZeros_50 rfl (n := 52) rfl ?_
  refine x_icmp_le dJ19_numberOfTrailingZeros_52 (t := 62) (by decide) (n := 55) rfl (fun _ => ?_) (fun _ => ?_)
  · exact f_J19_numberOfTrailingZeros_62_ok hO v0 v1 p0
  · refine x_iincB 1 (fun x4 => [(1, .int x4), (0, .int v0)]) dJ19_numberOfTrailingZeros_55 rfl rfl (by decide) (fun _ => rfl) (n := 58) rfl (fun x4 => ?_)
    refine x_iload_n 1 dJ19_numberOfTrailingZeros_58 rfl rfl (n := 59) rfl ?_
    refine x_iconst 4 dJ19_numberOfTrailingZeros_59 rfl (n := 60) rfl ?_
    refine x_iushr dJ19_numberOfTrailingZeros_60 (n := 61) rfl ?_
    refine x_nm (fun x5 => ?_)
    refine x_istore_n [(0, .int x5), (1, .int x4)] dJ19_numberOfTrailingZeros_61 rfl (by decide) rfl (n := 62) rfl ?_
    exact f_J19_numberOfTrailingZeros_62_ok hO x5 x4 p0
theorem f_J19_numberOfTrailingZeros_34_ok {G : xG} (hO : xOK G)   (v0 : Int32) (v1 : Int32) (p0 : PH) : X G "java/lang/Integer" "numberOfTrailingZeros" cJ19_numberOfTrailingZeros 2 (Option.some Jvm.ClassFile.FieldType.int) 0 34 [(0, .int v0), (1, .int v1)] [] p0 (f_J19_numberOfTrailingZeros_34 v0 v1 p0) := by
  unfold f_J19_numberOfTrailingZeros_34
  refine x_iload_n 0 dJ19_numberOfTrailingZeros_34 rfl rfl (n := 35) rfl ?_
  refine x_sipush 256 dJ19_numberOfTrailingZeros_35 rfl (n := 38) rfl ?_
  refine x_icmp_le dJ19_numberOfTrailingZeros_38 (t := 49) (by decide) (n := 41) rfl (fun _ => ?_) (fun _ => ?_)
  · exact f_J19_numberOfTrailingZeros_49_ok hO v0 v1 p0
  · refine x_iincB 1 (fun x6 => [(1, .int x6), (0, .int v0)]) dJ19_numberOfTrailingZeros_41 rfl rfl (by decide) (fun _ => rfl) (n := 44) rfl (fun x6 => ?_)
    refine x_iload_n 1 dJ19_numberOfTrailingZeros_44 rfl rfl (n := 45) rfl ?_
    refine x_bipush 8 dJ19_numberOfTrailingZeros_45 rfl (n := 47) rfl ?_
    refine x_iushr dJ19_numberOfTrailingZeros_47 (n := 48) rfl ?_
    refine x_nm (fun x7 => ?_)
    refine x_istore_n [(0, .int x7), (1, .int x6)] dJ19_numberOfTrailingZeros_48 rfl (by decide) rfl (n := 49) rfl ?_
    exact f_J19_numberOfTrailingZeros_49_ok hO x7 x6 p0
theorem f_J19_numberOfTrailingZeros_ok {G : xG} (hO : xOK G) (p0 : PH) (a0 : Int32) : CT G 0 yJ19_numberOfTrailingZeros cJ19_numberOfTrailingZeros 2 (Option.some Jvm.ClassFile.FieldType.int) [.int a0] p0 (f_J19_numberOfTrailingZeros p0 a0) := by
  refine CT_of hO (by decide +kernel) (by decide +kernel) (Nat.le_of_ble_eq_true rfl) ?_
  show X G "java/lang/Integer" "numberOfTrailingZeros" cJ19_numberOfTrailingZeros 2 (Option.some Jvm.ClassFile.FieldType.int) 0 0 [(0, .int a0)] [] p0 (f_J19_numberOfTrailingZeros p0 a0)
  refine x_iload_n 0 dJ19_numberOfTrailingZeros_0 rfl rfl (n := 1) rfl ?_
  refine x_iconst (-1) dJ19_numberOfTrailingZeros_1 rfl (n := 2) rfl ?_
  refine x_ixor dJ19_numberOfTrailingZeros_2 (n := 3) rfl ?_
  refine x_iload_n 0 dJ19_numberOfTrailingZeros_3 rfl rfl (n := 4) rfl ?_
  refine x_iconst 1 dJ19_numberOfTrailingZeros_4 rfl (n := 5) rfl ?_
  refine x_isub dJ19_numberOfTrailingZeros_5 (n := 6) rfl ?_
  refine x_iand dJ19_numberOfTrailingZeros_6 (n := 7) rfl ?_
  refine x_nm (fun x1 => ?_)
  refine x_istore_n [(0, .int x1)] dJ19_numberOfTrailingZeros_7 rfl (by decide) rfl (n := 8) rfl ?_
  refine x_iload_n 0 dJ19_numberOfTrailingZeros_8 rfl rfl (n := 9) rfl ?_
  refine x_if_gt dJ19_numberOfTrailingZeros_9 (t := 17) (by decide) (n := 12) rfl (fun _ => ?_) (fun _ => ?_)
  · refine x_iconst 1 dJ19_numberOfTrailingZeros_17 rfl (n := 18) rfl ?_
    refine x_istore_n [(1, .int 1), (0, .int x1)] dJ19_numberOfTrailingZeros_18 rfl (by decide) rfl (n := 19) rfl ?_
    refine x_iload_n 1 dJ19_numberOfTrailingZeros_19 rfl rfl (n := 20) rfl ?_
    refine x_ldcw 65536 dJ19_numberOfTrailingZeros_20 q1091 (n := 23) rfl ?_
    refine x_icmp_le dJ19_numberOfTrailingZeros_23 (t := 34) (by decide) (n := 26) rfl (fun _ => ?_) (fun _ => ?_)
    · refine x_sub [1, 0] [(0, .int x1), (1, .int 1)] rfl ?_
      exact f_J19_numberOfTrailingZeros_34_ok hO x1 1 p0
    · refine x_iincB 0 (fun x8 => [(1, .int x8), (0, .int x1)]) dJ19_numberOfTrailingZeros_26 rfl rfl (by decide) (fun _ => rfl) (n := 29) rfl (fun x8 => ?_)
      refine x_iload_n 1 dJ19_numberOfTrailingZeros_29 rfl rfl (n := 30) rfl ?_
      refine x_bipush 16 dJ19_numberOfTrailingZeros_30 rfl (n := 32) rfl ?_
      refine x_iushr dJ19_numberOfTrailingZeros_32 (n := 33) rfl ?_
      refine x_nm (fun x9 => ?_)
      refine x_istore_n [(0, .int x9), (1, .int x8)] dJ19_numberOfTrailingZeros_33 rfl (by decide) rfl (n := 34) rfl ?_
      exact f_J19_numberOfTrailingZeros_34_ok hO x9 x8 p0
  · refine x_iload_n 0 dJ19_numberOfTrailingZeros_12 rfl rfl (n := 13) rfl ?_
    refine x_bipush 32 dJ19_numberOfTrailingZeros_13 rfl (n := 15) rfl ?_
    refine x_iand dJ19_numberOfTrailingZeros_15 (n := 16) rfl ?_
    exact x_ireturn dJ19_numberOfTrailingZeros_16
abbrev cX1_chase : ByteArray := prog_1_method_48_code
def yX1_chase : MethodName := ⟨RX1, "chase", "(III)I"⟩
def dkwX1_chase_8 : List UInt8 := [28, 182, 0, 83, 172]
abbrev dktX1_chase_8 : List UInt8 := dkwX1_chase_8 ++ []
def dkwX1_chase_7 : List UInt8 := [21, 7, 167, 0, 23, 21, 9, 155, 0, 13, 21, 9, 154, 0, 12, 27, 28, 162, 0, 7, 27, 167, 0, 4]
abbrev dktX1_chase_7 : List UInt8 := dkwX1_chase_7 ++ dktX1_chase_8
def dkwX1_chase_6 : List UInt8 := [21, 8, 182, 1, 37, 100, 54, 9, 42, 29, 154, 0, 8, 21, 6, 167, 0, 33, 29, 4, 160, 0, 8]
abbrev dktX1_chase_6 : List UInt8 := dkwX1_chase_6 ++ dktX1_chase_7
def dkwX1_chase_5 : List UInt8 := [54, 8, 42, 180, 0, 56, 27, 182, 0, 189, 21, 8, 182, 1, 37, 42, 180, 0, 56, 28, 182, 0, 189]
abbrev dktX1_chase_5 : List UInt8 := dkwX1_chase_5 ++ dktX1_chase_6
def dkwX1_chase_4 : List UInt8 := [167, 255, 216, 21, 7, 16, 254, 160, 0, 10, 42, 16, 254, 182, 0, 83, 172, 21, 7, 21, 6, 96, 4, 100]
abbrev dktX1_chase_4 : List UInt8 := dkwX1_chase_4 ++ dktX1_chase_5
def dkwX1_chase_3 : List UInt8 := [54, 9, 21, 9, 21, 6, 163, 0, 6, 167, 0, 11, 21, 9, 54, 6, 21, 8, 54, 7, 132, 8, 1]
abbrev dktX1_chase_3 : List UInt8 := dkwX1_chase_3 ++ dktX1_chase_4
def dkwX1_chase_2 : List UInt8 := [16, 254, 54, 7, 3, 54, 8, 21, 8, 16, 10, 163, 0, 39, 21, 5, 21, 8, 122, 2, 130, 184, 1, 39]
abbrev dktX1_chase_2 : List UInt8 := dkwX1_chase_2 ++ dktX1_chase_3
def dkwX1_chase_1 : List UInt8 := [21, 4, 158, 0, 10, 42, 21, 4, 182, 0, 40, 172, 42, 27, 28, 182, 1, 34, 54, 5, 3, 54, 6]
abbrev dktX1_chase_1 : List UInt8 := dkwX1_chase_1 ++ dktX1_chase_2
def dkwX1_chase_0 : List UInt8 := [29, 3, 5, 184, 0, 36, 154, 0, 9, 42, 4, 182, 0, 40, 172, 42, 27, 28, 182, 1, 31, 54, 4]
abbrev dktX1_chase_0 : List UInt8 := dkwX1_chase_0 ++ dktX1_chase_1
theorem dksX1_chase_0 : cX1_chase.data.toList.drop 0 = dktX1_chase_0 := by decide +kernel
theorem dksX1_chase_1 : cX1_chase.data.toList.drop 23 = dktX1_chase_1 := dk_seg dksX1_chase_0 23 rfl rfl
theorem dksX1_chase_2 : cX1_chase.data.toList.drop 46 = dktX1_chase_2 := dk_seg dksX1_chase_1 23 rfl rfl
theorem dksX1_chase_3 : cX1_chase.data.toList.drop 70 = dktX1_chase_3 := dk_seg dksX1_chase_2 24 rfl rfl
theorem dksX1_chase_4 : cX1_chase.data.toList.drop 93 = dktX1_chase_4 := dk_seg dksX1_chase_3 23 rfl rfl
theorem dksX1_chase_5 : cX1_chase.data.toList.drop 117 = dktX1_chase_5 := dk_seg dksX1_chase_4 24 rfl rfl
theorem dksX1_chase_6 : cX1_chase.data.toList.drop 140 = dktX1_chase_6 := dk_seg dksX1_chase_5 23 rfl rfl
theorem dksX1_chase_7 : cX1_chase.data.toList.drop 163 = dktX1_chase_7 := dk_seg dksX1_chase_6 23 rfl rfl
theorem dksX1_chase_8 : cX1_chase.data.toList.drop 187 = dktX1_chase_8 := dk_seg dksX1_chase_7 24 rfl rfl
theorem dX1_chase_0 : decode cX1_chase 0 = .ok (.iload_n 3, 1) := dk_29 (dk_at dksX1_chase_0 0 rfl rfl)
theorem dX1_chase_1 : decode cX1_chase 1 = .ok (.iconst 0, 1) := dk_3 (dk_at dksX1_chase_0 1 rfl rfl)
theorem dX1_chase_2 : decode cX1_chase 2 = .ok (.iconst 2, 1) := dk_5 (dk_at dksX1_chase_0 2 rfl rfl)
theorem dX1_chase_3 : decode cX1_chase 3 = .ok (.invokestatic 36, 3) := dk_184 0 36 (dk_at dksX1_chase_0 3 rfl rfl)
theorem dX1_chase_6 : decode cX1_chase 6 = .ok (.ifCond .ne 9, 3) := dk_154 0 9 (dk_at dksX1_chase_0 6 rfl rfl)
theorem dX1_chase_9 : decode cX1_chase 9 = .ok (.aload_n 0, 1) := dk_42 (dk_at dksX1_chase_0 9 rfl rfl)
theorem dX1_chase_10 : decode cX1_chase 10 = .ok (.iconst 1, 1) := dk_4 (dk_at dksX1_chase_0 10 rfl rfl)
theorem dX1_chase_11 : decode cX1_chase 11 = .ok (.invokevirtual 40, 3) := dk_182 0 40 (dk_at dksX1_chase_0 11 rfl rfl)
theorem dX1_chase_14 : decode cX1_chase 14 = .ok (.ireturn, 1) := dk_172 (dk_at dksX1_chase_0 14 rfl rfl)
theorem dX1_chase_15 : decode cX1_chase 15 = .ok (.aload_n 0, 1) := dk_42 (dk_at dksX1_chase_0 15 rfl rfl)
theorem dX1_chase_16 : decode cX1_chase 16 = .ok (.iload_n 1, 1) := dk_27 (dk_at dksX1_chase_0 16 rfl rfl)
theorem dX1_chase_17 : decode cX1_chase 17 = .ok (.iload_n 2, 1) := dk_28 (dk_at dksX1_chase_0 17 rfl rfl)
theorem dX1_chase_18 : decode cX1_chase 18 = .ok (.invokevirtual 287, 3) := dk_182 1 31 (dk_at dksX1_chase_0 18 rfl rfl)
theorem dX1_chase_21 : decode cX1_chase 21 = .ok (.istore 4, 2) := dk_54 4 (dk_at dksX1_chase_0 21 rfl rfl)
theorem dX1_chase_23 : decode cX1_chase 23 = .ok (.iload 4, 2) := dk_21 4 (dk_at dksX1_chase_1 0 rfl rfl)
theorem dX1_chase_25 : decode cX1_chase 25 = .ok (.ifCond .le 10, 3) := dk_158 0 10 (dk_at dksX1_chase_1 2 rfl rfl)
theorem dX1_chase_28 : decode cX1_chase 28 = .ok (.aload_n 0, 1) := dk_42 (dk_at dksX1_chase_1 5 rfl rfl)
theorem dX1_chase_29 : decode cX1_chase 29 = .ok (.iload 4, 2) := dk_21 4 (dk_at dksX1_chase_1 6 rfl rfl)
theorem dX1_chase_31 : decode cX1_chase 31 = .ok (.invokevirtual 40, 3) := dk_182 0 40 (dk_at dksX1_chase_1 8 rfl rfl)
theorem dX1_chase_34 : decode cX1_chase 34 = .ok (.ireturn, 1) := dk_172 (dk_at dksX1_chase_1 11 rfl rfl)
theorem dX1_chase_35 : decode cX1_chase 35 = .ok (.aload_n 0, 1) := dk_42 (dk_at dksX1_chase_1 12 rfl rfl)
theorem dX1_chase_36 : decode cX1_chase 36 = .ok (.iload_n 1, 1) := dk_27 (dk_at dksX1_chase_1 13 rfl rfl)
theorem dX1_chase_37 : decode cX1_chase 37 = .ok (.iload_n 2, 1) := dk_28 (dk_at dksX1_chase_1 14 rfl rfl)
theorem dX1_chase_38 : decode cX1_chase 38 = .ok (.invokevirtual 290, 3) := dk_182 1 34 (dk_at dksX1_chase_1 15 rfl rfl)
theorem dX1_chase_41 : decode cX1_chase 41 = .ok (.istore 5, 2) := dk_54 5 (dk_at dksX1_chase_1 18 rfl rfl)
theorem dX1_chase_43 : decode cX1_chase 43 = .ok (.iconst 0, 1) := dk_3 (dk_at dksX1_chase_1 20 rfl rfl)
theorem dX1_chase_44 : decode cX1_chase 44 = .ok (.istore 6, 2) := dk_54 6 (dk_at dksX1_chase_1 21 rfl rfl)
theorem dX1_chase_46 : decode cX1_chase 46 = .ok (.bipush (-2), 2) := dk_16 254 (dk_at dksX1_chase_2 0 rfl rfl)
theorem dX1_chase_48 : decode cX1_chase 48 = .ok (.istore 7, 2) := dk_54 7 (dk_at dksX1_chase_2 2 rfl rfl)
theorem dX1_chase_50 : decode cX1_chase 50 = .ok (.iconst 0, 1) := dk_3 (dk_at dksX1_chase_2 4 rfl rfl)
theorem dX1_chase_51 : decode cX1_chase 51 = .ok (.istore 8, 2) := dk_54 8 (dk_at dksX1_chase_2 5 rfl rfl)
theorem dX1_chase_53 : decode cX1_chase 53 = .ok (.iload 8, 2) := dk_21 8 (dk_at dksX1_chase_2 7 rfl rfl)
theorem dX1_chase_55 : decode cX1_chase 55 = .ok (.bipush 10, 2) := dk_16 10 (dk_at dksX1_chase_2 9 rfl rfl)
theorem dX1_chase_57 : decode cX1_chase 57 = .ok (.if_icmp .gt 39, 3) := dk_163 0 39 (dk_at dksX1_chase_2 11 rfl rfl)
theorem dX1_chase_60 : decode cX1_chase 60 = .ok (.iload 5, 2) := dk_21 5 (dk_at dksX1_chase_2 14 rfl rfl)
theorem dX1_chase_62 : decode cX1_chase 62 = .ok (.iload 8, 2) := dk_21 8 (dk_at dksX1_chase_2 16 rfl rfl)
theorem dX1_chase_64 : decode cX1_chase 64 = .ok (.ishr, 1) := dk_122 (dk_at dksX1_chase_2 18 rfl rfl)
theorem dX1_chase_65 : decode cX1_chase 65 = .ok (.iconst (-1), 1) := dk_2 (dk_at dksX1_chase_2 19 rfl rfl)
theorem dX1_chase_66 : decode cX1_chase 66 = .ok (.ixor, 1) := dk_130 (dk_at dksX1_chase_2 20 rfl rfl)
theorem dX1_chase_67 : decode cX1_chase 67 = .ok (.invokestatic 295, 3) := dk_184 1 39 (dk_at dksX1_chase_2 21 rfl rfl)
theorem dX1_chase_70 : decode cX1_chase 70 = .ok (.istore 9, 2) := dk_54 9 (dk_at dksX1_chase_3 0 rfl rfl)
theorem dX1_chase_72 : decode cX1_chase 72 = .ok (.iload 9, 2) := dk_21 9 (dk_at dksX1_chase_3 2 rfl rfl)
theorem dX1_chase_74 : decode cX1_chase 74 = .ok (.iload 6, 2) := dk_21 6 (dk_at dksX1_chase_3 4 rfl rfl)
theorem dX1_chase_76 : decode cX1_chase 76 = .ok (.if_icmp .gt 6, 3) := dk_163 0 6 (dk_at dksX1_chase_3 6 rfl rfl)
theorem dX1_chase_79 : decode cX1_chase 79 = .ok (.goto 11, 3) := dk_167 0 11 (dk_at dksX1_chase_3 9 rfl rfl)
theorem dX1_chase_82 : decode cX1_chase 82 = .ok (.iload 9, 2) := dk_21 9 (dk_at dksX1_chase_3 12 rfl rfl)
theorem dX1_chase_84 : decode cX1_chase 84 = .ok (.istore 6, 2) := dk_54 6 (dk_at dksX1_chase_3 14 rfl rfl)
theorem dX1_chase_86 : decode cX1_chase 86 = .ok (.iload 8, 2) := dk_21 8 (dk_at dksX1_chase_3 16 rfl rfl)
theorem dX1_chase_88 : decode cX1_chase 88 = .ok (.istore 7, 2) := dk_54 7 (dk_at dksX1_chase_3 18 rfl rfl)
theorem dX1_chase_90 : decode cX1_chase 90 = .ok (.iinc 8 1, 3) := dk_132 8 1 (dk_at dksX1_chase_3 20 rfl rfl)
theorem dX1_chase_93 : decode cX1_chase 93 = .ok (.goto (-40), 3) := dk_167 255 216 (dk_at dksX1_chase_4 0 rfl rfl)
theorem dX1_chase_96 : decode cX1_chase 96 = .ok (.iload 7, 2) := dk_21 7 (dk_at dksX1_chase_4 3 rfl rfl)
theorem dX1_chase_98 : decode cX1_chase 98 = .ok (.bipush (-2), 2) := dk_16 254 (dk_at dksX1_chase_4 5 rfl rfl)
theorem dX1_chase_100 : decode cX1_chase 100 = .ok (.if_icmp .ne 10, 3) := dk_160 0 10 (dk_at dksX1_chase_4 7 rfl rfl)
theorem dX1_chase_103 : decode cX1_chase 103 = .ok (.aload_n 0, 1) := dk_42 (dk_at dksX1_chase_4 10 rfl rfl)
theorem dX1_chase_104 : decode cX1_chase 104 = .ok (.bipush (-2), 2) := dk_16 254 (dk_at dksX1_chase_4 11 rfl rfl)
theorem dX1_chase_106 : decode cX1_chase 106 = .ok (.invokevirtual 83, 3) := dk_182 0 83 (dk_at dksX1_chase_4 13 rfl rfl)
theorem dX1_chase_109 : decode cX1_chase 109 = .ok (.ireturn, 1) := dk_172 (dk_at dksX1_chase_4 16 rfl rfl)
theorem dX1_chase_110 : decode cX1_chase 110 = .ok (.iload 7, 2) := dk_21 7 (dk_at dksX1_chase_4 17 rfl rfl)
theorem dX1_chase_112 : decode cX1_chase 112 = .ok (.iload 6, 2) := dk_21 6 (dk_at dksX1_chase_4 19 rfl rfl)
theorem dX1_chase_114 : decode cX1_chase 114 = .ok (.iadd, 1) := dk_96 (dk_at dksX1_chase_4 21 rfl rfl)
theorem dX1_chase_115 : decode cX1_chase 115 = .ok (.iconst 1, 1) := dk_4 (dk_at dksX1_chase_4 22 rfl rfl)
theorem dX1_chase_116 : decode cX1_chase 116 = .ok (.isub, 1) := dk_100 (dk_at dksX1_chase_4 23 rfl rfl)
theorem dX1_chase_117 : decode cX1_chase 117 = .ok (.istore 8, 2) := dk_54 8 (dk_at dksX1_chase_5 0 rfl rfl)
theorem dX1_chase_119 : decode cX1_chase 119 = .ok (.aload_n 0, 1) := dk_42 (dk_at dksX1_chase_5 2 rfl rfl)
theorem dX1_chase_120 : decode cX1_chase 120 = .ok (.getfield 56, 3) := dk_180 0 56 (dk_at dksX1_chase_5 3 rfl rfl)
theorem dX1_chase_123 : decode cX1_chase 123 = .ok (.iload_n 1, 1) := dk_27 (dk_at dksX1_chase_5 6 rfl rfl)
theorem dX1_chase_124 : decode cX1_chase 124 = .ok (.invokevirtual 189, 3) := dk_182 0 189 (dk_at dksX1_chase_5 7 rfl rfl)
theorem dX1_chase_127 : decode cX1_chase 127 = .ok (.iload 8, 2) := dk_21 8 (dk_at dksX1_chase_5 10 rfl rfl)
theorem dX1_chase_129 : decode cX1_chase 129 = .ok (.invokevirtual 293, 3) := dk_182 1 37 (dk_at dksX1_chase_5 12 rfl rfl)
theorem dX1_chase_132 : decode cX1_chase 132 = .ok (.aload_n 0, 1) := dk_42 (dk_at dksX1_chase_5 15 rfl rfl)
theorem dX1_chase_133 : decode cX1_chase 133 = .ok (.getfield 56, 3) := dk_180 0 56 (dk_at dksX1_chase_5 16 rfl rfl)
theorem dX1_chase_136 : decode cX1_chase 136 = .ok (.iload_n 2, 1) := dk_28 (dk_at dksX1_chase_5 19 rfl rfl)
theorem dX1_chase_137 : decode cX1_chase 137 = .ok (.invokevirtual 189, 3) := dk_182 0 189 (dk_at dksX1_chase_5 20 rfl rfl)
theorem dX1_chase_140 : decode cX1_chase 140 = .ok (.iload 8, 2) := dk_21 8 (dk_at dksX1_chase_6 0 rfl rfl)
theorem dX1_chase_142 : decode cX1_chase 142 = .ok (.invokevirtual 293, 3) := dk_182 1 37 (dk_at dksX1_chase_6 2 rfl rfl)
theorem dX1_chase_145 : decode cX1_chase 145 = .ok (.isub, 1) := dk_100 (dk_at dksX1_chase_6 5 rfl rfl)
theorem dX1_chase_146 : decode cX1_chase 146 = .ok (.istore 9, 2) := dk_54 9 (dk_at dksX1_chase_6 6 rfl rfl)
theorem dX1_chase_148 : decode cX1_chase 148 = .ok (.aload_n 0, 1) := dk_42 (dk_at dksX1_chase_6 8 rfl rfl)
theorem dX1_chase_149 : decode cX1_chase 149 = .ok (.iload_n 3, 1) := dk_29 (dk_at dksX1_chase_6 9 rfl rfl)
theorem dX1_chase_150 : decode cX1_chase 150 = .ok (.ifCond .ne 8, 3) := dk_154 0 8 (dk_at dksX1_chase_6 10 rfl rfl)
theorem dX1_chase_153 : decode cX1_chase 153 = .ok (.iload 6, 2) := dk_21 6 (dk_at dksX1_chase_6 13 rfl rfl)
theorem dX1_chase_155 : decode cX1_chase 155 = .ok (.goto 33, 3) := dk_167 0 33 (dk_at dksX1_chase_6 15 rfl rfl)
theorem dX1_chase_158 : decode cX1_chase 158 = .ok (.iload_n 3, 1) := dk_29 (dk_at dksX1_chase_6 18 rfl rfl)
theorem dX1_chase_159 : decode cX1_chase 159 = .ok (.iconst 1, 1) := dk_4 (dk_at dksX1_chase_6 19 rfl rfl)
theorem dX1_chase_160 : decode cX1_chase 160 = .ok (.if_icmp .ne 8, 3) := dk_160 0 8 (dk_at dksX1_chase_6 20 rfl rfl)
theorem dX1_chase_163 : decode cX1_chase 163 = .ok (.iload 7, 2) := dk_21 7 (dk_at dksX1_chase_7 0 rfl rfl)
theorem dX1_chase_165 : decode cX1_chase 165 = .ok (.goto 23, 3) := dk_167 0 23 (dk_at dksX1_chase_7 2 rfl rfl)
theorem dX1_chase_168 : decode cX1_chase 168 = .ok (.iload 9, 2) := dk_21 9 (dk_at dksX1_chase_7 5 rfl rfl)
theorem dX1_chase_170 : decode cX1_chase 170 = .ok (.ifCond .lt 13, 3) := dk_155 0 13 (dk_at dksX1_chase_7 7 rfl rfl)
theorem dX1_chase_173 : decode cX1_chase 173 = .ok (.iload 9, 2) := dk_21 9 (dk_at dksX1_chase_7 10 rfl rfl)
theorem dX1_chase_175 : decode cX1_chase 175 = .ok (.ifCond .ne 12, 3) := dk_154 0 12 (dk_at dksX1_chase_7 12 rfl rfl)
theorem dX1_chase_178 : decode cX1_chase 178 = .ok (.iload_n 1, 1) := dk_27 (dk_at dksX1_chase_7 15 rfl rfl)
theorem dX1_chase_179 : decode cX1_chase 179 = .ok (.iload_n 2, 1) := dk_28 (dk_at dksX1_chase_7 16 rfl rfl)
theorem dX1_chase_180 : decode cX1_chase 180 = .ok (.if_icmp .ge 7, 3) := dk_162 0 7 (dk_at dksX1_chase_7 17 rfl rfl)
theorem dX1_chase_183 : decode cX1_chase 183 = .ok (.iload_n 1, 1) := dk_27 (dk_at dksX1_chase_7 20 rfl rfl)
theorem dX1_chase_184 : decode cX1_chase 184 = .ok (.goto 4, 3) := dk_167 0 4 (dk_at dksX1_chase_7 21 rfl rfl)
theorem dX1_chase_187 : decode cX1_chase 187 = .ok (.iload_n 2, 1) := dk_28 (dk_at dksX1_chase_8 0 rfl rfl)
theorem dX1_chase_188 : decode cX1_chase 188 = .ok (.invokevirtual 83, 3) := dk_182 0 83 (dk_at dksX1_chase_8 1 rfl rfl)
theorem dX1_chase_191 : decode cX1_chase 191 = .ok (.ireturn, 1) := dk_172 (dk_at dksX1_chase_8 4 rfl rfl)
theorem md_X1_chase : xMd yX1_chase cX1_chase 10 (Option.some Jvm.ClassFile.FieldType.int) 3 := ⟨q2358, q123, by decide, by decide +kernel, by decide +kernel, by decide +kernel⟩
def f_X1_chase_188 (a0 : Nat)  (w1 : Int32) (p0 : PH) : Option (xO × PH) :=
  (xcI (f_X1_fine p0 a0 w1) fun x24 p23 =>
  (rI x24 p23))
def f_X1_chase_183 (a0 : Nat)  (v1 : Int32) (p0 : PH) : Option (xO × PH) :=
  (f_X1_chase_188 a0 v1 p0)
def f_X1_chase_187 (a0 : Nat)  (v2 : Int32) (p0 : PH) : Option (xO × PH) :=
  (f_X1_chase_188 a0 v2 p0)
def f_X1_chase_90 (a0 : Nat) (k53 : Int32 × Int32 × Int32 × Int32 × Int32 × Int32 × Int32 × PH → Option (xO × PH)) (v1 : Int32) (v2 : Int32) (v3 : Int32) (v5 : Int32) (v6 : Int32) (v7 : Int32) (v8 : Int32) (p0 : PH) : Option (xO × PH) :=
  (bnd (v8 + 1) fun x29 =>
  (k53 (v1, v2, v3, v5, v6, v7, x29, p0)))
def f_X1_chase_53F (a0 : Nat)  (k53 : Int32 × Int32 × Int32 × Int32 × Int32 × Int32 × Int32 × PH → Option (xO × PH)) (p : Int32 × Int32 × Int32 × Int32 × Int32 × Int32 × Int32 × PH) : Option (xO × PH) := match p with
  | (v1, v2, v3, v5, v6, v7, v8, p0) => (if 10 < v8 then
  (if v7 = (-2) then
  (xcI (f_X1_fine p0 a0 (-2)) fun x26 p25 =>
  (rI x26 p25)) else
  (bnd ((v7 + v6) - 1) fun x7 =>
  (xgR p0 a0 0 5 fun x8 =>
  (xnul x8 none fun b9 =>
  (xcR (f_X4_match p0 b9 v1) fun x11 p10 =>
  (xnul x11 none fun b12 =>
  (xcI (f_X9_time p10 b12 x7) fun x14 p13 =>
  (xgR p13 a0 0 5 fun x15 =>
  (xnul x15 none fun b16 =>
  (xcR (f_X4_match p13 b16 v2) fun x18 p17 =>
  (xnul x18 none fun b19 =>
  (xcI (f_X9_time p17 b19 x7) fun x21 p20 =>
  (bnd (x14 - x21) fun x22 =>
  (if v3 = 0 then
  (f_X1_chase_188 a0 v6 p20) else
  (if v3 = 1 then
  (f_X1_chase_188 a0 v7 p20) else
  (if x22 < 0 then
  (f_X1_chase_183 a0 v1 p20) else
  (if x22 = 0 then
  (if v2 ≤ v1 then
  (f_X1_chase_187 a0 v2 p20) else
  (f_X1_chase_183 a0 v1 p20)) else
  (f_X1_chase_187 a0 v2 p20)))))))))))))))))) else
  (xcI (f_J19_numberOfTrailingZeros p0 ((v5 >>> (v8 &&& 31)) ^^^ (-1))) fun x28 p27 =>
  (if v6 < x28 then
  (f_X1_chase_90 a0 k53 v1 v2 v3 v5 x28 v8 v8 p27) else
  (f_X1_chase_90 a0 k53 v1 v2 v3 v5 v6 v7 v8 p27))))
def f_X1_chase (p0 : PH) (a0 : Nat) (a1 : Int32) (a2 : Int32) (a3 : Int32) : Option (xO × PH) :=
  (xcl1 p0 a0 0 (xcI (f_X1_isIn p0 a3 0 2) fun x2 p1 =>
  (if x2 = 0 then
  (xcI (f_X1_refused p1 a0 1) fun x33 p32 =>
  (rI x33 p32)) else
  (xcI (f_X1_whyNot p1 a0 a1 a2) fun x4 p3 =>
  (if x4 ≤ 0 then
  (xcI (f_X1_togetherOf p3 a0 a1 a2) fun x6 p5 =>
  (lp (f_X1_chase_53F a0) FU (a1, a2, a3, x6, 0, (-2), 0, p5))) else
  (xcI (f_X1_refused p3 a0 x4) fun x31 p30 =>
  (rI x31 p30)))))))
theorem rc_X1_chase {p0 : PH} {a0 : Nat} {a1 : Int32} {a2 : Int32} {a3 : Int32} : ∀ z, f_X1_chase p0 a0 a1 a2 a3 = some z → xco p0 a0 = some 0 := fun z h => xcl1_some h
theorem f_X1_chase_188_ok {G : xG} (hO : xOK G) (a0 : Nat)  (w1 : Int32) (p0 : PH) : X G "ForestLegs" "chase" cX1_chase 10 (Option.some Jvm.ClassFile.FieldType.int) 10 188 [] [.int w1, .ref a0] p0 (f_X1_chase_188 a0 w1 p0) := by
  unfold f_X1_chase_188
  refine x_callV_I [.int w1] [] (f_X1_fine_ok hO p0 a0 w1) rc_X1_fine md_X1_fine rfl q1480 q1482 qs26 dX1_chase_188 rfl rfl (by decide) (Nat.le_of_ble_eq_true rfl) (n := 191) rfl (fun x24 p23 => ?_)
  exact x_ireturn dX1_chase_191
theorem f_X1_chase_183_ok {G : xG} (hO : xOK G) (a0 : Nat)  (v1 : Int32) (p0 : PH) : X G "ForestLegs" "chase" cX1_chase 10 (Option.some Jvm.ClassFile.FieldType.int) 10 183 [(1, .int v1)] [.ref a0] p0 (f_X1_chase_183 a0 v1 p0) := by
  unfold f_X1_chase_183
  refine x_iload_n 0 dX1_chase_183 rfl rfl (n := 184) rfl ?_
  refine x_goto dX1_chase_184 (n := 188) (by decide) ?_
  refine x_sub [] [] rfl ?_
  exact f_X1_chase_188_ok hO a0 v1 p0
theorem f_X1_chase_187_ok {G : xG} (hO : xOK G) (a0 : Nat)  (v2 : Int32) (p0 : PH) : X G "ForestLegs" "chase" cX1_chase 10 (Option.some Jvm.ClassFile.FieldType.int) 10 187 [(2, .int v2)] [.ref a0] p0 (f_X1_chase_187 a0 v2 p0) := by
  unfold f_X1_chase_187
  refine x_iload_n 0 dX1_chase_187 rfl rfl (n := 188) rfl ?_
  refine x_sub [] [] rfl ?_
  exact f_X1_chase_188_ok hO a0 v2 p0
theorem f_X1_chase_90_ok {G : xG} (hO : xOK G) (a0 : Nat) {k53 : Int32 × Int32 × Int32 × Int32 × Int32 × Int32 × Int32 × PH → Option (xO × PH)} (hk53 : ∀ (v1 : Int32) (v2 : Int32) (v3 : Int32) (v5 : Int32) (v6 : Int32) (v7 : Int32) (v8 : Int32) (p0 : PH), X G "ForestLegs" "chase" cX1_chase 10 (Option.some Jvm.ClassFile.FieldType.int) 10 53 [(0, .ref a0), (1, .int v1), (2, .int v2), (3, .int v3), (5, .int v5), (6, .int v6), (7, .int v7), (8, .int v8)] [] p0 (k53 (v1, v2, v3, v5, v6, v7, v8, p0))) (v1 : Int32) (v2 : Int32) (v3 : Int32) (v5 : Int32) (v6 : Int32) (v7 : Int32) (v8 : Int32) (p0 : PH) : X G "ForestLegs" "chase" cX1_chase 10 (Option.some Jvm.ClassFile.FieldType.int) 10 90 [(0, .ref a0), (1, .int v1), (2, .int v2), (3, .int v3), (5, .int v5), (6, .int v6), (7, .int v7), (8, .int v8)] [] p0 (f_X1_chase_90 a0 k53 v1 v2 v3 v5 v6 v7 v8 p0) := by
  unfold f_X1_chase_90
  refine x_iincB 7 (fun x29 => [(8, .int x29), (0, .ref a0), (1, .int v1), (2, .int v2), (3, .int v3), (5, .int v5), (6, .int v6), (7, .int v7)]) dX1_chase_90 rfl rfl (by decide) (fun _ => rfl) (n := 93) rfl (fun x29 => ?_)
  refine x_goto dX1_chase_93 (n := 53) (by decide) ?_
  refine x_sub [1, 2, 3, 4, 5, 6, 7, 0] [(0, .ref a0), (1, .int v1), (2, .int v2), (3, .int v3), (5, .int v5), (6, .int v6), (7, .int v7), (8, .int x29)] rfl ?_
  exact hk53 v1 v2 v3 v5 v6 v7 x29 p0
theorem f_X1_chase_53F_ok {G : xG} (hO : xOK G) (a0 : Nat)  {k53 : Int32 × Int32 × Int32 × Int32 × Int32 × Int32 × Int32 × PH → Option (xO × PH)} (hk53 : ∀ (v1 : Int32) (v2 : Int32) (v3 : Int32) (v5 : Int32) (v6 : Int32) (v7 : Int32) (v8 : Int32) (p0 : PH), X G "ForestLegs" "chase" cX1_chase 10 (Option.some Jvm.ClassFile.FieldType.int) 10 53 [(0, .ref a0), (1, .int v1), (2, .int v2), (3, .int v3), (5, .int v5), (6, .int v6), (7, .int v7), (8, .int v8)] [] p0 (k53 (v1, v2, v3, v5, v6, v7, v8, p0))) (v1 : Int32) (v2 : Int32) (v3 : Int32) (v5 : Int32) (v6 : Int32) (v7 : Int32) (v8 : Int32) (p0 : PH) : X G "ForestLegs" "chase" cX1_chase 10 (Option.some Jvm.ClassFile.FieldType.int) 10 53 [(0, .ref a0), (1, .int v1), (2, .int v2), (3, .int v3), (5, .int v5), (6, .int v6), (7, .int v7), (8, .int v8)] [] p0 (f_X1_chase_53F a0 k53 (v1, v2, v3, v5, v6, v7, v8, p0)) := by
  unfold f_X1_chase_53F
  refine x_iload 7 dX1_chase_53 rfl (n := 55) rfl ?_
  refine x_bipush 10 dX1_chase_55 rfl (n := 57) rfl ?_
  refine x_icmp_gt dX1_chase_57 (t := 96) (by decide) (n := 60) rfl (fun _ => ?_) (fun _ => ?_)
  · refine x_iload 6 dX1_chase_96 rfl (n := 98) rfl ?_
    refine x_bipush (-2) dX1_chase_98 rfl (n := 100) rfl ?_
    refine x_icmp_ne dX1_chase_100 (t := 110) (by decide) (n := 103) rfl (fun _ => ?_) (fun _ => ?_)
    · refine x_iload 6 dX1_chase_110 rfl (n := 112) rfl ?_
      refine x_iload 5 dX1_chase_112 rfl (n := 114) rfl ?_
      refine x_iadd dX1_chase_114 (n := 115) rfl ?_
      refine x_iconst 1 dX1_chase_115 rfl (n := 116) rfl ?_
      refine x_isub dX1_chase_116 (n := 117) rfl ?_
      refine x_nm (fun x7 => ?_)
      refine x_istore [(8, .int x7), (0, .ref a0), (1, .int v1), (2, .int v2), (3, .int v3), (5, .int v5), (6, .int v6), (7, .int v7)] dX1_chase_117 (by decide) rfl (n := 119) rfl ?_
      refine x_aload_nr 1 dX1_chase_119 rfl rfl (n := 120) rfl ?_
      refine x_getR fl_X1_56 dX1_chase_120 (n := 123) rfl (fun x8 => ?_)
      refine x_iload_n 2 dX1_chase_123 rfl rfl (n := 124) rfl ?_
      refine x_sm (fun b9 e => ?_)
      subst e
      refine x_callV_R [.int v1] [] (f_X4_match_ok hO p0 b9 v1) rc_X4_match md_X4_match rfl q1784 q1504 q1505 dX1_chase_124 rfl rfl (by decide) (Nat.le_of_ble_eq_true rfl) (n := 127) rfl (fun x11 p10 => ?_)
      refine x_iload 0 dX1_chase_127 rfl (n := 129) rfl ?_
      refine x_sm (fun b12 e => ?_)
      subst e
      refine x_callV_I [.int x7] [] (f_X9_time_ok hO p10 b12 x7) rc_X9_time md_X9_time rfl q2354 q1751 q1752 dX1_chase_129 rfl rfl (by decide) (Nat.le_of_ble_eq_true rfl) (n := 132) rfl (fun x14 p13 => ?_)
      refine x_aload_nr 1 dX1_chase_132 rfl rfl (n := 133) rfl ?_
      refine x_getR fl_X1_56 dX1_chase_133 (n := 136) rfl (fun x15 => ?_)
      refine x_iload_n 3 dX1_chase_136 rfl rfl (n := 137) rfl ?_
      refine x_sm (fun b16 e => ?_)
      subst e
      refine x_callV_R [.int v2] [.int x14] (f_X4_match_ok hO p13 b16 v2) rc_X4_match md_X4_match rfl q1784 q1504 q1505 dX1_chase_137 rfl rfl (by decide) (Nat.le_of_ble_eq_true rfl) (n := 140) rfl (fun x18 p17 => ?_)
      refine x_iload 0 dX1_chase_140 rfl (n := 142) rfl ?_
      refine x_sm (fun b19 e => ?_)
      subst e
      refine x_callV_I [.int x7] [.int x14] (f_X9_time_ok hO p17 b19 x7) rc_X9_time md_X9_time rfl q2354 q1751 q1752 dX1_chase_142 rfl rfl (by decide) (Nat.le_of_ble_eq_true rfl) (n := 145) rfl (fun x21 p20 => ?_)
      refine x_isub dX1_chase_145 (n := 146) rfl ?_
      refine x_nm (fun x22 => ?_)
      refine x_istore [(9, .int x22), (8, .int x7), (0, .ref a0), (1, .int v1), (2, .int v2), (3, .int v3), (5, .int v5), (6, .int v6), (7, .int v7)] dX1_chase_146 (by decide) rfl (n := 148) rfl ?_
      refine x_aload_nr 2 dX1_chase_148 rfl rfl (n := 149) rfl ?_
      refine x_iload_n 5 dX1_chase_149 rfl rfl (n := 150) rfl ?_
      refine x_if_ne dX1_chase_150 (t := 158) (by decide) (n := 153) rfl (fun _ => ?_) (fun _ => ?_)
      · refine x_iload_n 5 dX1_chase_158 rfl rfl (n := 159) rfl ?_
        refine x_iconst 1 dX1_chase_159 rfl (n := 160) rfl ?_
        refine x_icmp_ne dX1_chase_160 (t := 168) (by decide) (n := 163) rfl (fun _ => ?_) (fun _ => ?_)
        · refine x_iload 0 dX1_chase_168 rfl (n := 170) rfl ?_
          refine x_if_lt dX1_chase_170 (t := 183) (by decide) (n := 173) rfl (fun _ => ?_) (fun _ => ?_)
          · refine x_sub [3] [(1, .int v1)] rfl ?_
            exact f_X1_chase_183_ok hO a0 v1 p20
          · refine x_iload 0 dX1_chase_173 rfl (n := 175) rfl ?_
            refine x_if_ne dX1_chase_175 (t := 187) (by decide) (n := 178) rfl (fun _ => ?_) (fun _ => ?_)
            · refine x_sub [4] [(2, .int v2)] rfl ?_
              exact f_X1_chase_187_ok hO a0 v2 p20
            · refine x_iload_n 3 dX1_chase_178 rfl rfl (n := 179) rfl ?_
              refine x_iload_n 4 dX1_chase_179 rfl rfl (n := 180) rfl ?_
              refine x_icmp_ge dX1_chase_180 (t := 187) (by decide) (n := 183) rfl (fun _ => ?_) (fun _ => ?_)
              · refine x_sub [4] [(2, .int v2)] rfl ?_
                exact f_X1_chase_187_ok hO a0 v2 p20
              · refine x_sub [3] [(1, .int v1)] rfl ?_
                exact f_X1_chase_183_ok hO a0 v1 p20
        · refine x_iload 8 dX1_chase_163 rfl (n := 165) rfl ?_
          refine x_goto dX1_chase_165 (n := 188) (by decide) ?_
          refine x_sub [] [] rfl ?_
          exact f_X1_chase_188_ok hO a0 v7 p20
      · refine x_iload 7 dX1_chase_153 rfl (n := 155) rfl ?_
        refine x_goto dX1_chase_155 (n := 188) (by decide) ?_
        refine x_sub [] [] rfl ?_
        exact f_X1_chase_188_ok hO a0 v6 p20
    · refine x_aload_nr 0 dX1_chase_103 rfl rfl (n := 104) rfl ?_
      refine x_bipush (-2) dX1_chase_104 rfl (n := 106) rfl ?_
      refine x_callV_I [.int (-2)] [] (f_X1_fine_ok hO p0 a0 (-2)) rc_X1_fine md_X1_fine rfl q1480 q1482 qs26 dX1_chase_106 rfl rfl (by decide) (Nat.le_of_ble_eq_true rfl) (n := 109) rfl (fun x26 p25 => ?_)
      exact x_ireturn dX1_chase_109
  · refine x_iload 4 dX1_chase_60 rfl (n := 62) rfl ?_
    refine x_iload 7 dX1_chase_62 rfl (n := 64) rfl ?_
    refine x_ishr dX1_chase_64 (n := 65) rfl ?_
    refine x_iconst (-1) dX1_chase_65 rfl (n := 66) rfl ?_
    refine x_ixor dX1_chase_66 (n := 67) rfl ?_
    refine x_callS_I [.int ((v5 >>> (v8 &&& 31)) ^^^ (-1))] [] (f_J19_numberOfTrailingZeros_ok hO p0 ((v5 >>> (v8 &&& 31)) ^^^ (-1))) md_J19_numberOfTrailingZeros q2359 q1098 dX1_chase_67 rfl rfl (by decide) (Nat.le_of_ble_eq_true rfl) (n := 70) rfl (fun x28 p27 => ?_)
    refine x_istore [(9, .int x28), (0, .ref a0), (1, .int v1), (2, .int v2), (3, .int v3), (5, .int v5), (6, .int v6), (7, .int v7), (8, .int v8)] dX1_chase_70 (by decide) rfl (n := 72) rfl ?_
    refine x_iload 0 dX1_chase_72 rfl (n := 74) rfl ?_
    refine x_iload 6 dX1_chase_74 rfl (n := 76) rfl ?_
    refine x_icmp_gt dX1_chase_76 (t := 82) (by decide) (n := 79) rfl (fun _ => ?_) (fun _ => ?_)
    · refine x_iload 0 dX1_chase_82 rfl (n := 84) rfl ?_
      refine x_istore [(6, .int x28), (9, .int x28), (0, .ref a0), (1, .int v1), (2, .int v2), (3, .int v3), (5, .int v5), (7, .int v7), (8, .int v8)] dX1_chase_84 (by decide) rfl (n := 86) rfl ?_
      refine x_iload 8 dX1_chase_86 rfl (n := 88) rfl ?_
      refine x_istore [(7, .int v8), (6, .int x28), (9, .int x28), (0, .ref a0), (1, .int v1), (2, .int v2), (3, .int v3), (5, .int v5), (8, .int v8)] dX1_chase_88 (by decide) rfl (n := 90) rfl ?_
      refine x_sub [3, 4, 5, 6, 7, 1, 0, 8] [(0, .ref a0), (1, .int v1), (2, .int v2), (3, .int v3), (5, .int v5), (6, .int x28), (7, .int v8), (8, .int v8)] rfl ?_
      exact f_X1_chase_90_ok hO a0 hk53 v1 v2 v3 v5 x28 v8 v8 p27
    · refine x_goto dX1_chase_79 (n := 90) (by decide) ?_
      refine x_sub [1, 2, 3, 4, 5, 6, 7, 8] [(0, .ref a0), (1, .int v1), (2, .int v2), (3, .int v3), (5, .int v5), (6, .int v6), (7, .int v7), (8, .int v8)] rfl ?_
      exact f_X1_chase_90_ok hO a0 hk53 v1 v2 v3 v5 v6 v7 v8 p27
theorem f_X1_chase_53_lp {G : xG} (hO : xOK G) (a0 : Nat)  (n : Nat) (v1 : Int32) (v2 : Int32) (v3 : Int32) (v5 : Int32) (v6 : Int32) (v7 : Int32) (v8 : Int32) (p0 : PH) : X G "ForestLegs" "chase" cX1_chase 10 (Option.some Jvm.ClassFile.FieldType.int) 10 53 [(0, .ref a0), (1, .int v1), (2, .int v2), (3, .int v3), (5, .int v5), (6, .int v6), (7, .int v7), (8, .int v8)] [] p0 (lp (f_X1_chase_53F a0) n (v1, v2, v3, v5, v6, v7, v8, p0)) :=
  lp_ok (W := fun p K => X G "ForestLegs" "chase" cX1_chase 10 (Option.some Jvm.ClassFile.FieldType.int) 10 53 [(0, .ref a0), (1, .int p.1), (2, .int p.2.1), (3, .int p.2.2.1), (5, .int p.2.2.2.1), (6, .int p.2.2.2.2.1), (7, .int p.2.2.2.2.2.1), (8, .int p.2.2.2.2.2.2.1)] [] p.2.2.2.2.2.2.2 K) (fun _ => x_no) (fun k hk => fun (v1, v2, v3, v5, v6, v7, v8, p0) => f_X1_chase_53F_ok hO a0 (fun v1 v2 v3 v5 v6 v7 v8 p0 => hk (v1, v2, v3, v5, v6, v7, v8, p0)) v1 v2 v3 v5 v6 v7 v8 p0) n (v1, v2, v3, v5, v6, v7, v8, p0)
theorem f_X1_chase_ok {G : xG} (hO : xOK G) (p0 : PH) (a0 : Nat) (a1 : Int32) (a2 : Int32) (a3 : Int32) : CT G 10 yX1_chase cX1_chase 10 (Option.some Jvm.ClassFile.FieldType.int) [.ref a0, .int a1, .int a2, .int a3] p0 (f_X1_chase p0 a0 a1 a2 a3) := by
  refine CT_of hO (by decide +kernel) (by decide +kernel) (Nat.le_of_ble_eq_true rfl) ?_
  show X G "ForestLegs" "chase" cX1_chase 10 (Option.some Jvm.ClassFile.FieldType.int) 10 0 [(0, .ref a0), (1, .int a1), (2, .int a2), (3, .int a3)] [] p0 (f_X1_chase p0 a0 a1 a2 a3)
  refine x_cl1 (fun e0 => ?_)
  refine x_iload_n 3 dX1_chase_0 rfl rfl (n := 1) rfl ?_
  refine x_iconst 0 dX1_chase_1 rfl (n := 2) rfl ?_
  refine x_iconst 2 dX1_chase_2 rfl (n := 3) rfl ?_
  refine x_callS_I [.int a3, .int 0, .int 2] [] (f_X1_isIn_ok hO p0 a3 0 2) md_X1_isIn q247 q248 dX1_chase_3 rfl rfl (by decide) (Nat.le_of_ble_eq_true rfl) (n := 6) rfl (fun x2 p1 => ?_)
  refine x_if_ne dX1_chase_6 (t := 15) (by decide) (n := 9) rfl (fun _ => ?_) (fun _ => ?_)
  · refine x_aload_nr 0 dX1_chase_15 rfl rfl (n := 16) rfl ?_
    refine x_iload_n 1 dX1_chase_16 rfl rfl (n := 17) rfl ?_
    refine x_iload_n 2 dX1_chase_17 rfl rfl (n := 18) rfl ?_
    refine x_callV_I [.int a1, .int a2] [] (f_X1_whyNot_ok hO p1 a0 a1 a2) rc_X1_whyNot md_X1_whyNot rfl q2334 q2336 qs49 dX1_chase_18 rfl rfl (by decide) (Nat.le_of_ble_eq_true rfl) (n := 21) rfl (fun x4 p3 => ?_)
    refine x_istore [(4, .int x4), (0, .ref a0), (1, .int a1), (2, .int a2), (3, .int a3)] dX1_chase_21 (by decide) rfl (n := 23) rfl ?_
    refine x_iload 0 dX1_chase_23 rfl (n := 25) rfl ?_
    refine x_if_le dX1_chase_25 (t := 35) (by decide) (n := 28) rfl (fun _ => ?_) (fun _ => ?_)
    · refine x_aload_nr 1 dX1_chase_35 rfl rfl (n := 36) rfl ?_
      refine x_iload_n 2 dX1_chase_36 rfl rfl (n := 37) rfl ?_
      refine x_iload_n 3 dX1_chase_37 rfl rfl (n := 38) rfl ?_
      refine x_callV_I [.int a1, .int a2] [] (f_X1_togetherOf_ok hO p3 a0 a1 a2) rc_X1_togetherOf md_X1_togetherOf rfl q2338 q2340 qs50 dX1_chase_38 rfl rfl (by decide) (Nat.le_of_ble_eq_true rfl) (n := 41) rfl (fun x6 p5 => ?_)
      refine x_istore [(5, .int x6), (4, .int x4), (0, .ref a0), (1, .int a1), (2, .int a2), (3, .int a3)] dX1_chase_41 (by decide) rfl (n := 43) rfl ?_
      refine x_iconst 0 dX1_chase_43 rfl (n := 44) rfl ?_
      refine x_istore [(6, .int 0), (5, .int x6), (4, .int x4), (0, .ref a0), (1, .int a1), (2, .int a2), (3, .int a3)] dX1_chase_44 (by decide) rfl (n := 46) rfl ?_
      refine x_bipush (-2) dX1_chase_46 rfl (n := 48) rfl ?_
      refine x_istore [(7, .int (-2)), (6, .int 0), (5, .int x6), (4, .int x4), (0, .ref a0), (1, .int a1), (2, .int a2), (3, .int a3)] dX1_chase_48 (by decide) rfl (n := 50) rfl ?_
      refine x_iconst 0 dX1_chase_50 rfl (n := 51) rfl ?_
      refine x_istore [(8, .int 0), (7, .int (-2)), (6, .int 0), (5, .int x6), (4, .int x4), (0, .ref a0), (1, .int a1), (2, .int a2), (3, .int a3)] dX1_chase_51 (by decide) rfl (n := 53) rfl ?_
      refine x_sub [5, 6, 7, 8, 3, 2, 1, 0] [(0, .ref a0), (1, .int a1), (2, .int a2), (3, .int a3), (5, .int x6), (6, .int 0), (7, .int (-2)), (8, .int 0)] rfl ?_
      exact f_X1_chase_53_lp hO a0 FU a1 a2 a3 x6 0 (-2) 0 p5
    · refine x_aload_nr 1 dX1_chase_28 rfl rfl (n := 29) rfl ?_
      refine x_iload 0 dX1_chase_29 rfl (n := 31) rfl ?_
      refine x_callV_I [.int x4] [] (f_X1_refused_ok hO p3 a0 x4) rc_X1_refused md_X1_refused rfl q250 q252 qs0 dX1_chase_31 rfl rfl (by decide) (Nat.le_of_ble_eq_true rfl) (n := 34) rfl (fun x31 p30 => ?_)
      exact x_ireturn dX1_chase_34
  · refine x_aload_nr 0 dX1_chase_9 rfl rfl (n := 10) rfl ?_
    refine x_iconst 1 dX1_chase_10 rfl (n := 11) rfl ?_
    refine x_callV_I [.int 1] [] (f_X1_refused_ok hO p1 a0 1) rc_X1_refused md_X1_refused rfl q250 q252 qs0 dX1_chase_11 rfl rfl (by decide) (Nat.le_of_ble_eq_true rfl) (n := 14) rfl (fun x33 p32 => ?_)
    exact x_ireturn dX1_chase_14
abbrev cX1_teamOf : ByteArray := prog_1_method_49_code
def yX1_teamOf : MethodName := ⟨RX1, "teamOf", "(II)I"⟩
def dkwX1_teamOf_4 : List UInt8 := [21, 5, 21, 6, 184, 1, 42, 96, 62, 132, 4, 1, 167, 255, 155, 29, 172]
abbrev dktX1_teamOf_4 : List UInt8 := dkwX1_teamOf_4 ++ []
def dkwX1_teamOf_3 : List UInt8 := [21, 5, 16, 254, 160, 0, 8, 21, 6, 167, 0, 22, 21, 6, 16, 254, 160, 0, 8, 21, 5, 167, 0, 10]
abbrev dktX1_teamOf_3 : List UInt8 := dkwX1_teamOf_3 ++ dktX1_teamOf_4
def dkwX1_teamOf_2 : List UInt8 := [182, 0, 242, 54, 6, 21, 5, 16, 254, 160, 0, 13, 21, 6, 16, 254, 160, 0, 6, 16, 254, 172, 29]
abbrev dktX1_teamOf_2 : List UInt8 := dkwX1_teamOf_2 ++ dktX1_teamOf_3
def dkwX1_teamOf_1 : List UInt8 := [180, 0, 56, 27, 182, 0, 189, 21, 4, 182, 0, 242, 54, 5, 42, 180, 0, 56, 28, 182, 0, 189, 21, 4]
abbrev dktX1_teamOf_1 : List UInt8 := dkwX1_teamOf_1 ++ dktX1_teamOf_2
def dkwX1_teamOf_0 : List UInt8 := [3, 62, 3, 54, 4, 21, 4, 42, 180, 0, 56, 27, 182, 0, 189, 180, 0, 193, 190, 163, 0, 90, 42]
abbrev dktX1_teamOf_0 : List UInt8 := dkwX1_teamOf_0 ++ dktX1_teamOf_1
theorem dksX1_teamOf_0 : cX1_teamOf.data.toList.drop 0 = dktX1_teamOf_0 := by decide +kernel
theorem dksX1_teamOf_1 : cX1_teamOf.data.toList.drop 23 = dktX1_teamOf_1 := dk_seg dksX1_teamOf_0 23 rfl rfl
theorem dksX1_teamOf_2 : cX1_teamOf.data.toList.drop 47 = dktX1_teamOf_2 := dk_seg dksX1_teamOf_1 24 rfl rfl
theorem dksX1_teamOf_3 : cX1_teamOf.data.toList.drop 70 = dktX1_teamOf_3 := dk_seg dksX1_teamOf_2 23 rfl rfl
theorem dksX1_teamOf_4 : cX1_teamOf.data.toList.drop 94 = dktX1_teamOf_4 := dk_seg dksX1_teamOf_3 24 rfl rfl
theorem dX1_teamOf_0 : decode cX1_teamOf 0 = .ok (.iconst 0, 1) := dk_3 (dk_at dksX1_teamOf_0 0 rfl rfl)
theorem dX1_teamOf_1 : decode cX1_teamOf 1 = .ok (.istore_n 3, 1) := dk_62 (dk_at dksX1_teamOf_0 1 rfl rfl)
theorem dX1_teamOf_2 : decode cX1_teamOf 2 = .ok (.iconst 0, 1) := dk_3 (dk_at dksX1_teamOf_0 2 rfl rfl)
theorem dX1_teamOf_3 : decode cX1_teamOf 3 = .ok (.istore 4, 2) := dk_54 4 (dk_at dksX1_teamOf_0 3 rfl rfl)
theorem dX1_teamOf_5 : decode cX1_teamOf 5 = .ok (.iload 4, 2) := dk_21 4 (dk_at dksX1_teamOf_0 5 rfl rfl)
theorem dX1_teamOf_7 : decode cX1_teamOf 7 = .ok (.aload_n 0, 1) := dk_42 (dk_at dksX1_teamOf_0 7 rfl rfl)
theorem dX1_teamOf_8 : decode cX1_teamOf 8 = .ok (.getfield 56, 3) := dk_180 0 56 (dk_at dksX1_teamOf_0 8 rfl rfl)
theorem dX1_teamOf_11 : decode cX1_teamOf 11 = .ok (.iload_n 1, 1) := dk_27 (dk_at dksX1_teamOf_0 11 rfl rfl)
theorem dX1_teamOf_12 : decode cX1_teamOf 12 = .ok (.invokevirtual 189, 3) := dk_182 0 189 (dk_at dksX1_teamOf_0 12 rfl rfl)
theorem dX1_teamOf_15 : decode cX1_teamOf 15 = .ok (.getfield 193, 3) := dk_180 0 193 (dk_at dksX1_teamOf_0 15 rfl rfl)
theorem dX1_teamOf_18 : decode cX1_teamOf 18 = .ok (.arraylength, 1) := dk_190 (dk_at dksX1_teamOf_0 18 rfl rfl)
theorem dX1_teamOf_19 : decode cX1_teamOf 19 = .ok (.if_icmp .gt 90, 3) := dk_163 0 90 (dk_at dksX1_teamOf_0 19 rfl rfl)
theorem dX1_teamOf_22 : decode cX1_teamOf 22 = .ok (.aload_n 0, 1) := dk_42 (dk_at dksX1_teamOf_0 22 rfl rfl)
theorem dX1_teamOf_23 : decode cX1_teamOf 23 = .ok (.getfield 56, 3) := dk_180 0 56 (dk_at dksX1_teamOf_1 0 rfl rfl)
theorem dX1_teamOf_26 : decode cX1_teamOf 26 = .ok (.iload_n 1, 1) := dk_27 (dk_at dksX1_teamOf_1 3 rfl rfl)
theorem dX1_teamOf_27 : decode cX1_teamOf 27 = .ok (.invokevirtual 189, 3) := dk_182 0 189 (dk_at dksX1_teamOf_1 4 rfl rfl)
theorem dX1_teamOf_30 : decode cX1_teamOf 30 = .ok (.iload 4, 2) := dk_21 4 (dk_at dksX1_teamOf_1 7 rfl rfl)
theorem dX1_teamOf_32 : decode cX1_teamOf 32 = .ok (.invokevirtual 242, 3) := dk_182 0 242 (dk_at dksX1_teamOf_1 9 rfl rfl)
theorem dX1_teamOf_35 : decode cX1_teamOf 35 = .ok (.istore 5, 2) := dk_54 5 (dk_at dksX1_teamOf_1 12 rfl rfl)
theorem dX1_teamOf_37 : decode cX1_teamOf 37 = .ok (.aload_n 0, 1) := dk_42 (dk_at dksX1_teamOf_1 14 rfl rfl)
theorem dX1_teamOf_38 : decode cX1_teamOf 38 = .ok (.getfield 56, 3) := dk_180 0 56 (dk_at dksX1_teamOf_1 15 rfl rfl)
theorem dX1_teamOf_41 : decode cX1_teamOf 41 = .ok (.iload_n 2, 1) := dk_28 (dk_at dksX1_teamOf_1 18 rfl rfl)
theorem dX1_teamOf_42 : decode cX1_teamOf 42 = .ok (.invokevirtual 189, 3) := dk_182 0 189 (dk_at dksX1_teamOf_1 19 rfl rfl)
theorem dX1_teamOf_45 : decode cX1_teamOf 45 = .ok (.iload 4, 2) := dk_21 4 (dk_at dksX1_teamOf_1 22 rfl rfl)
theorem dX1_teamOf_47 : decode cX1_teamOf 47 = .ok (.invokevirtual 242, 3) := dk_182 0 242 (dk_at dksX1_teamOf_2 0 rfl rfl)
theorem dX1_teamOf_50 : decode cX1_teamOf 50 = .ok (.istore 6, 2) := dk_54 6 (dk_at dksX1_teamOf_2 3 rfl rfl)
theorem dX1_teamOf_52 : decode cX1_teamOf 52 = .ok (.iload 5, 2) := dk_21 5 (dk_at dksX1_teamOf_2 5 rfl rfl)
theorem dX1_teamOf_54 : decode cX1_teamOf 54 = .ok (.bipush (-2), 2) := dk_16 254 (dk_at dksX1_teamOf_2 7 rfl rfl)
theorem dX1_teamOf_56 : decode cX1_teamOf 56 = .ok (.if_icmp .ne 13, 3) := dk_160 0 13 (dk_at dksX1_teamOf_2 9 rfl rfl)
theorem dX1_teamOf_59 : decode cX1_teamOf 59 = .ok (.iload 6, 2) := dk_21 6 (dk_at dksX1_teamOf_2 12 rfl rfl)
theorem dX1_teamOf_61 : decode cX1_teamOf 61 = .ok (.bipush (-2), 2) := dk_16 254 (dk_at dksX1_teamOf_2 14 rfl rfl)
theorem dX1_teamOf_63 : decode cX1_teamOf 63 = .ok (.if_icmp .ne 6, 3) := dk_160 0 6 (dk_at dksX1_teamOf_2 16 rfl rfl)
theorem dX1_teamOf_66 : decode cX1_teamOf 66 = .ok (.bipush (-2), 2) := dk_16 254 (dk_at dksX1_teamOf_2 19 rfl rfl)
theorem dX1_teamOf_68 : decode cX1_teamOf 68 = .ok (.ireturn, 1) := dk_172 (dk_at dksX1_teamOf_2 21 rfl rfl)
theorem dX1_teamOf_69 : decode cX1_teamOf 69 = .ok (.iload_n 3, 1) := dk_29 (dk_at dksX1_teamOf_2 22 rfl rfl)
theorem dX1_teamOf_70 : decode cX1_teamOf 70 = .ok (.iload 5, 2) := dk_21 5 (dk_at dksX1_teamOf_3 0 rfl rfl)
theorem dX1_teamOf_72 : decode cX1_teamOf 72 = .ok (.bipush (-2), 2) := dk_16 254 (dk_at dksX1_teamOf_3 2 rfl rfl)
theorem dX1_teamOf_74 : decode cX1_teamOf 74 = .ok (.if_icmp .ne 8, 3) := dk_160 0 8 (dk_at dksX1_teamOf_3 4 rfl rfl)
theorem dX1_teamOf_77 : decode cX1_teamOf 77 = .ok (.iload 6, 2) := dk_21 6 (dk_at dksX1_teamOf_3 7 rfl rfl)
theorem dX1_teamOf_79 : decode cX1_teamOf 79 = .ok (.goto 22, 3) := dk_167 0 22 (dk_at dksX1_teamOf_3 9 rfl rfl)
theorem dX1_teamOf_82 : decode cX1_teamOf 82 = .ok (.iload 6, 2) := dk_21 6 (dk_at dksX1_teamOf_3 12 rfl rfl)
theorem dX1_teamOf_84 : decode cX1_teamOf 84 = .ok (.bipush (-2), 2) := dk_16 254 (dk_at dksX1_teamOf_3 14 rfl rfl)
theorem dX1_teamOf_86 : decode cX1_teamOf 86 = .ok (.if_icmp .ne 8, 3) := dk_160 0 8 (dk_at dksX1_teamOf_3 16 rfl rfl)
theorem dX1_teamOf_89 : decode cX1_teamOf 89 = .ok (.iload 5, 2) := dk_21 5 (dk_at dksX1_teamOf_3 19 rfl rfl)
theorem dX1_teamOf_91 : decode cX1_teamOf 91 = .ok (.goto 10, 3) := dk_167 0 10 (dk_at dksX1_teamOf_3 21 rfl rfl)
theorem dX1_teamOf_94 : decode cX1_teamOf 94 = .ok (.iload 5, 2) := dk_21 5 (dk_at dksX1_teamOf_4 0 rfl rfl)
theorem dX1_teamOf_96 : decode cX1_teamOf 96 = .ok (.iload 6, 2) := dk_21 6 (dk_at dksX1_teamOf_4 2 rfl rfl)
theorem dX1_teamOf_98 : decode cX1_teamOf 98 = .ok (.invokestatic 298, 3) := dk_184 1 42 (dk_at dksX1_teamOf_4 4 rfl rfl)
theorem dX1_teamOf_101 : decode cX1_teamOf 101 = .ok (.iadd, 1) := dk_96 (dk_at dksX1_teamOf_4 7 rfl rfl)
theorem dX1_teamOf_102 : decode cX1_teamOf 102 = .ok (.istore_n 3, 1) := dk_62 (dk_at dksX1_teamOf_4 8 rfl rfl)
theorem dX1_teamOf_103 : decode cX1_teamOf 103 = .ok (.iinc 4 1, 3) := dk_132 4 1 (dk_at dksX1_teamOf_4 9 rfl rfl)
theorem dX1_teamOf_106 : decode cX1_teamOf 106 = .ok (.goto (-101), 3) := dk_167 255 155 (dk_at dksX1_teamOf_4 12 rfl rfl)
theorem dX1_teamOf_109 : decode cX1_teamOf 109 = .ok (.iload_n 3, 1) := dk_29 (dk_at dksX1_teamOf_4 15 rfl rfl)
theorem dX1_teamOf_110 : decode cX1_teamOf 110 = .ok (.ireturn, 1) := dk_172 (dk_at dksX1_teamOf_4 16 rfl rfl)
theorem md_X1_teamOf : xMd yX1_teamOf cX1_teamOf 7 (Option.some Jvm.ClassFile.FieldType.int) 2 := ⟨q2367, q123, by decide, by decide +kernel, by decide +kernel, by decide +kernel⟩
def f_X1_teamOf_101 (a0 : Nat) (k5 : Int32 × Int32 × Int32 × Int32 × PH → Option (xO × PH)) (v1 : Int32) (v2 : Int32) (v4 : Int32) (w0 : Int32) (w1 : Int32) (p0 : PH) : Option (xO × PH) :=
  (bnd (w0 + w1) fun x25 =>
  (bnd (v4 + 1) fun x26 =>
  (k5 (v1, v2, x25, x26, p0))))
def f_X1_teamOf_69 (a0 : Nat) (k5 : Int32 × Int32 × Int32 × Int32 × PH → Option (xO × PH)) (v1 : Int32) (v2 : Int32) (v3 : Int32) (v4 : Int32) (v5 : Int32) (v6 : Int32) (p0 : PH) : Option (xO × PH) :=
  (if v5 = (-2) then
  (f_X1_teamOf_101 a0 k5 v1 v2 v4 v3 v6 p0) else
  (if v6 = (-2) then
  (f_X1_teamOf_101 a0 k5 v1 v2 v4 v3 v5 p0) else
  (xcI (f_J8_min p0 v5 v6) fun x24 p23 =>
  (f_X1_teamOf_101 a0 k5 v1 v2 v4 v3 x24 p23))))
def f_X1_teamOf_5F (a0 : Nat)  (k5 : Int32 × Int32 × Int32 × Int32 × PH → Option (xO × PH)) (p : Int32 × Int32 × Int32 × Int32 × PH) : Option (xO × PH) := match p with
  | (v1, v2, v3, v4, p0) => (xgR p0 a0 0 5 fun x1 =>
  (xnul x1 none fun b2 =>
  (xcR (f_X4_match p0 b2 v1) fun x4 p3 =>
  (xnul x4 none fun b5 =>
  (xgR p3 b5 8 2 fun x6 =>
  (xnul x6 none fun b7 =>
  (xlen p3 b7 fun x8 =>
  (if x8 < v4 then
  (rI v3 p3) else
  (xgR p3 a0 0 5 fun x9 =>
  (xnul x9 none fun b10 =>
  (xcR (f_X4_match p3 b10 v1) fun x12 p11 =>
  (xnul x12 none fun b13 =>
  (xcI (f_X9_leg p11 b13 v4) fun x15 p14 =>
  (xgR p14 a0 0 5 fun x16 =>
  (xnul x16 none fun b17 =>
  (xcR (f_X4_match p14 b17 v2) fun x19 p18 =>
  (xnul x19 none fun b20 =>
  (xcI (f_X9_leg p18 b20 v4) fun x22 p21 =>
  (if x15 = (-2) then
  (if x22 = (-2) then
  (rI (-2) p21) else
  (f_X1_teamOf_69 a0 k5 v1 v2 v3 v4 x15 x22 p21)) else
  (f_X1_teamOf_69 a0 k5 v1 v2 v3 v4 x15 x22 p21))))))))))))))))))))
def f_X1_teamOf (p0 : PH) (a0 : Nat) (a1 : Int32) (a2 : Int32) : Option (xO × PH) :=
  (xcl1 p0 a0 0 (lp (f_X1_teamOf_5F a0) FU (a1, a2, 0, 0, p0)))
theorem rc_X1_teamOf {p0 : PH} {a0 : Nat} {a1 : Int32} {a2 : Int32} : ∀ z, f_X1_teamOf p0 a0 a1 a2 = some z → xco p0 a0 = some 0 := fun z h => xcl1_some h
theorem f_X1_teamOf_101_ok {G : xG} (hO : xOK G) (a0 : Nat) {k5 : Int32 × Int32 × Int32 × Int32 × PH → Option (xO × PH)} (hk5 : ∀ (v1 : Int32) (v2 : Int32) (v3 : Int32) (v4 : Int32) (p0 : PH), X G "ForestLegs" "teamOf" cX1_teamOf 7 (Option.some Jvm.ClassFile.FieldType.int) 8 5 [(0, .ref a0), (1, .int v1), (2, .int v2), (3, .int v3), (4, .int v4)] [] p0 (k5 (v1, v2, v3, v4, p0))) (v1 : Int32) (v2 : Int32) (v4 : Int32) (w0 : Int32) (w1 : Int32) (p0 : PH) : X G "ForestLegs" "teamOf" cX1_teamOf 7 (Option.some Jvm.ClassFile.FieldType.int) 8 101 [(0, .ref a0), (1, .int v1), (2, .int v2), (4, .int v4)] [.int w1, .int w0] p0 (f_X1_teamOf_101 a0 k5 v1 v2 v4 w0 w1 p0) := by
  unfold f_X1_teamOf_101
  refine x_iadd dX1_teamOf_101 (n := 102) rfl ?_
  refine x_nm (fun x25 => ?_)
  refine x_istore_n [(3, .int x25), (0, .ref a0), (1, .int v1), (2, .int v2), (4, .int v4)] dX1_teamOf_102 rfl (by decide) rfl (n := 103) rfl ?_
  refine x_iincB 4 (fun x26 => [(4, .int x26), (3, .int x25), (0, .ref a0), (1, .int v1), (2, .int v2)]) dX1_teamOf_103 rfl rfl (by decide) (fun _ => rfl) (n := 106) rfl (fun x26 => ?_)
  refine x_goto dX1_teamOf_106 (n := 5) (by decide) ?_
  refine x_sub [2, 3, 4, 1, 0] [(0, .ref a0), (1, .int v1), (2, .int v2), (3, .int x25), (4, .int x26)] rfl ?_
  exact hk5 v1 v2 x25 x26 p0
theorem f_X1_teamOf_69_ok {G : xG} (hO : xOK G) (a0 : Nat) {k5 : Int32 × Int32 × Int32 × Int32 × PH → Option (xO × PH)} (hk5 : ∀ (v1 : Int32) (v2 : Int32) (v3 : Int32) (v4 : Int32) (p0 : PH), X G "ForestLegs" "teamOf" cX1_teamOf 7 (Option.some Jvm.ClassFile.FieldType.int) 8 5 [(0, .ref a0), (1, .int v1), (2, .int v2), (3, .int v3), (4, .int v4)] [] p0 (k5 (v1, v2, v3, v4, p0))) (v1 : Int32) (v2 : Int32) (v3 : Int32) (v4 : Int32) (v5 : Int32) (v6 : Int32) (p0 : PH) : X G "ForestLegs" "teamOf" cX1_teamOf 7 (Option.some Jvm.ClassFile.FieldType.int) 8 69 [(0, .ref a0), (1, .int v1), (2, .int v2), (3, .int v3), (4, .int v4), (5, .int v5), (6, .int v6)] [] p0 (f_X1_teamOf_69 a0 k5 v1 v2 v3 v4 v5 v6 p0) := by
  unfold f_X1_teamOf_69
  refine x_iload_n 3 dX1_teamOf_69 rfl rfl (n := 70) rfl ?_
  refine x_iload 5 dX1_teamOf_70 rfl (n := 72) rfl ?_
  refine x_bipush (-2) dX1_teamOf_72 rfl (n := 74) rfl ?_
  refine x_icmp_ne dX1_teamOf_74 (t := 82) (by decide) (n := 77) rfl (fun _ => ?_) (fun _ => ?_)
  · refine x_iload 6 dX1_teamOf_82 rfl (n := 84) rfl ?_
    refine x_bipush (-2) dX1_teamOf_84 rfl (n := 86) rfl ?_
    refine x_icmp_ne dX1_teamOf_86 (t := 94) (by decide) (n := 89) rfl (fun _ => ?_) (fun _ => ?_)
    · refine x_iload 5 dX1_teamOf_94 rfl (n := 96) rfl ?_
      refine x_iload 6 dX1_teamOf_96 rfl (n := 98) rfl ?_
      refine x_callS_I [.int v5, .int v6] [.int v3] (f_J8_min_ok hO p0 v5 v6) md_J8_min q2368 q437 dX1_teamOf_98 rfl rfl (by decide) (Nat.le_of_ble_eq_true rfl) (n := 101) rfl (fun x24 p23 => ?_)
      refine x_sub [0, 1, 2, 4] [(0, .ref a0), (1, .int v1), (2, .int v2), (4, .int v4)] rfl ?_
      exact f_X1_teamOf_101_ok hO a0 hk5 v1 v2 v4 v3 x24 p23
    · refine x_iload 5 dX1_teamOf_89 rfl (n := 91) rfl ?_
      refine x_goto dX1_teamOf_91 (n := 101) (by decide) ?_
      refine x_sub [0, 1, 2, 4] [(0, .ref a0), (1, .int v1), (2, .int v2), (4, .int v4)] rfl ?_
      exact f_X1_teamOf_101_ok hO a0 hk5 v1 v2 v4 v3 v5 p0
  · refine x_iload 6 dX1_teamOf_77 rfl (n := 79) rfl ?_
    refine x_goto dX1_teamOf_79 (n := 101) (by decide) ?_
    refine x_sub [0, 1, 2, 4] [(0, .ref a0), (1, .int v1), (2, .int v2), (4, .int v4)] rfl ?_
    exact f_X1_teamOf_101_ok hO a0 hk5 v1 v2 v4 v3 v6 p0
theorem f_X1_teamOf_5F_ok {G : xG} (hO : xOK G) (a0 : Nat)  {k5 : Int32 × Int32 × Int32 × Int32 × PH → Option (xO × PH)} (hk5 : ∀ (v1 : Int32) (v2 : Int32) (v3 : Int32) (v4 : Int32) (p0 : PH), X G "ForestLegs" "teamOf" cX1_teamOf 7 (Option.some Jvm.ClassFile.FieldType.int) 8 5 [(0, .ref a0), (1, .int v1), (2, .int v2), (3, .int v3), (4, .int v4)] [] p0 (k5 (v1, v2, v3, v4, p0))) (v1 : Int32) (v2 : Int32) (v3 : Int32) (v4 : Int32) (p0 : PH) : X G "ForestLegs" "teamOf" cX1_teamOf 7 (Option.some Jvm.ClassFile.FieldType.int) 8 5 [(0, .ref a0), (1, .int v1), (2, .int v2), (3, .int v3), (4, .int v4)] [] p0 (f_X1_teamOf_5F a0 k5 (v1, v2, v3, v4, p0)) := by
  unfold f_X1_teamOf_5F
  refine x_iload 4 dX1_teamOf_5 rfl (n := 7) rfl ?_
  refine x_aload_nr 0 dX1_teamOf_7 rfl rfl (n := 8) rfl ?_
  refine x_getR fl_X1_56 dX1_teamOf_8 (n := 11) rfl (fun x1 => ?_)
  refine x_iload_n 1 dX1_teamOf_11 rfl rfl (n := 12) rfl ?_
  refine x_sm (fun b2 e => ?_)
  subst e
  refine x_callV_R [.int v1] [.int v4] (f_X4_match_ok hO p0 b2 v1) rc_X4_match md_X4_match rfl q1784 q1504 q1505 dX1_teamOf_12 rfl rfl (by decide) (Nat.le_of_ble_eq_true rfl) (n := 15) rfl (fun x4 p3 => ?_)
  refine x_sm (fun b5 e => ?_)
  subst e
  refine x_getR fl_X1_193 dX1_teamOf_15 (n := 18) rfl (fun x6 => ?_)
  refine x_sm (fun b7 e => ?_)
  subst e
  refine x_alen dX1_teamOf_18 (n := 19) rfl (fun x8 => ?_)
  refine x_icmp_gt dX1_teamOf_19 (t := 109) (by decide) (n := 22) rfl (fun _ => ?_) (fun _ => ?_)
  · refine x_iload_n 3 dX1_teamOf_109 rfl rfl (n := 110) rfl ?_
    exact x_ireturn dX1_teamOf_110
  · refine x_aload_nr 0 dX1_teamOf_22 rfl rfl (n := 23) rfl ?_
    refine x_getR fl_X1_56 dX1_teamOf_23 (n := 26) rfl (fun x9 => ?_)
    refine x_iload_n 1 dX1_teamOf_26 rfl rfl (n := 27) rfl ?_
    refine x_sm (fun b10 e => ?_)
    subst e
    refine x_callV_R [.int v1] [] (f_X4_match_ok hO p3 b10 v1) rc_X4_match md_X4_match rfl q1784 q1504 q1505 dX1_teamOf_27 rfl rfl (by decide) (Nat.le_of_ble_eq_true rfl) (n := 30) rfl (fun x12 p11 => ?_)
    refine x_iload 4 dX1_teamOf_30 rfl (n := 32) rfl ?_
    refine x_sm (fun b13 e => ?_)
    subst e
    refine x_callV_I [.int v4] [] (f_X9_leg_ok hO p11 b13 v4) rc_X9_leg md_X9_leg rfl q2001 q1747 q1748 dX1_teamOf_32 rfl rfl (by decide) (Nat.le_of_ble_eq_true rfl) (n := 35) rfl (fun x15 p14 => ?_)
    refine x_istore [(5, .int x15), (0, .ref a0), (1, .int v1), (2, .int v2), (3, .int v3), (4, .int v4)] dX1_teamOf_35 (by decide) rfl (n := 37) rfl ?_
    refine x_aload_nr 1 dX1_teamOf_37 rfl rfl (n := 38) rfl ?_
    refine x_getR fl_X1_56 dX1_teamOf_38 (n := 41) rfl (fun x16 => ?_)
    refine x_iload_n 3 dX1_teamOf_41 rfl rfl (n := 42) rfl ?_
    refine x_sm (fun b17 e => ?_)
    subst e
    refine x_callV_R [.int v2] [] (f_X4_match_ok hO p14 b17 v2) rc_X4_match md_X4_match rfl q1784 q1504 q1505 dX1_teamOf_42 rfl rfl (by decide) (Nat.le_of_ble_eq_true rfl) (n := 45) rfl (fun x19 p18 => ?_)
    refine x_iload 5 dX1_teamOf_45 rfl (n := 47) rfl ?_
    refine x_sm (fun b20 e => ?_)
    subst e
    refine x_callV_I [.int v4] [] (f_X9_leg_ok hO p18 b20 v4) rc_X9_leg md_X9_leg rfl q2001 q1747 q1748 dX1_teamOf_47 rfl rfl (by decide) (Nat.le_of_ble_eq_true rfl) (n := 50) rfl (fun x22 p21 => ?_)
    refine x_istore [(6, .int x22), (5, .int x15), (0, .ref a0), (1, .int v1), (2, .int v2), (3, .int v3), (4, .int v4)] dX1_teamOf_50 (by decide) rfl (n := 52) rfl ?_
    refine x_iload 1 dX1_teamOf_52 rfl (n := 54) rfl ?_
    refine x_bipush (-2) dX1_teamOf_54 rfl (n := 56) rfl ?_
    refine x_icmp_ne dX1_teamOf_56 (t := 69) (by decide) (n := 59) rfl (fun _ => ?_) (fun _ => ?_)
    · refine x_sub [2, 3, 4, 5, 6, 1, 0] [(0, .ref a0), (1, .int v1), (2, .int v2), (3, .int v3), (4, .int v4), (5, .int x15), (6, .int x22)] rfl ?_
      exact f_X1_teamOf_69_ok hO a0 hk5 v1 v2 v3 v4 x15 x22 p21
    · refine x_iload 0 dX1_teamOf_59 rfl (n := 61) rfl ?_
      refine x_bipush (-2) dX1_teamOf_61 rfl (n := 63) rfl ?_
      refine x_icmp_ne dX1_teamOf_63 (t := 69) (by decide) (n := 66) rfl (fun _ => ?_) (fun _ => ?_)
      · refine x_sub [2, 3, 4, 5, 6, 1, 0] [(0, .ref a0), (1, .int v1), (2, .int v2), (3, .int v3), (4, .int v4), (5, .int x15), (6, .int x22)] rfl ?_
        exact f_X1_teamOf_69_ok hO a0 hk5 v1 v2 v3 v4 x15 x22 p21
      · refine x_bipush (-2) dX1_teamOf_66 rfl (n := 68) rfl ?_
        exact x_ireturn dX1_teamOf_68
theorem f_X1_teamOf_5_lp {G : xG} (hO : xOK G) (a0 : Nat)  (n : Nat) (v1 : Int32) (v2 : Int32) (v3 : Int32) (v4 : Int32) (p0 : PH) : X G "ForestLegs" "teamOf" cX1_teamOf 7 (Option.some Jvm.ClassFile.FieldType.int) 8 5 [(0, .ref a0), (1, .int v1), (2, .int v2), (3, .int v3), (4, .int v4)] [] p0 (lp (f_X1_teamOf_5F a0) n (v1, v2, v3, v4, p0)) :=
  lp_ok (W := fun p K => X G "ForestLegs" "teamOf" cX1_teamOf 7 (Option.some Jvm.ClassFile.FieldType.int) 8 5 [(0, .ref a0), (1, .int p.1), (2, .int p.2.1), (3, .int p.2.2.1), (4, .int p.2.2.2.1)] [] p.2.2.2.2 K) (fun _ => x_no) (fun k hk => fun (v1, v2, v3, v4, p0) => f_X1_teamOf_5F_ok hO a0 (fun v1 v2 v3 v4 p0 => hk (v1, v2, v3, v4, p0)) v1 v2 v3 v4 p0) n (v1, v2, v3, v4, p0)
theorem f_X1_teamOf_ok {G : xG} (hO : xOK G) (p0 : PH) (a0 : Nat) (a1 : Int32) (a2 : Int32) : CT G 8 yX1_teamOf cX1_teamOf 7 (Option.some Jvm.ClassFile.FieldType.int) [.ref a0, .int a1, .int a2] p0 (f_X1_teamOf p0 a0 a1 a2) := by
  refine CT_of hO (by decide +kernel) (by decide +kernel) (Nat.le_of_ble_eq_true rfl) ?_
  show X G "ForestLegs" "teamOf" cX1_teamOf 7 (Option.some Jvm.ClassFile.FieldType.int) 8 0 [(0, .ref a0), (1, .int a1), (2, .int a2)] [] p0 (f_X1_teamOf p0 a0 a1 a2)
  refine x_cl1 (fun e0 => ?_)
  refine x_iconst 0 dX1_teamOf_0 rfl (n := 1) rfl ?_
  refine x_istore_n [(3, .int 0), (0, .ref a0), (1, .int a1), (2, .int a2)] dX1_teamOf_1 rfl (by decide) rfl (n := 2) rfl ?_
  refine x_iconst 0 dX1_teamOf_2 rfl (n := 3) rfl ?_
  refine x_istore [(4, .int 0), (3, .int 0), (0, .ref a0), (1, .int a1), (2, .int a2)] dX1_teamOf_3 (by decide) rfl (n := 5) rfl ?_
  refine x_sub [2, 3, 4, 1, 0] [(0, .ref a0), (1, .int a1), (2, .int a2), (3, .int 0), (4, .int 0)] rfl ?_
  exact f_X1_teamOf_5_lp hO a0 FU a1 a2 0 0 p0
abbrev cX1_team : ByteArray := prog_1_method_50_code
def yX1_team : MethodName := ⟨RX1, "team", "(II)I"⟩
def dkwX1_team_1 : List UInt8 := [182, 1, 45, 182, 0, 83, 172]
abbrev dktX1_team_1 : List UInt8 := dkwX1_team_1 ++ []
def dkwX1_team_0 : List UInt8 := [42, 27, 28, 182, 1, 31, 62, 29, 158, 0, 11, 42, 29, 182, 0, 40, 167, 0, 13, 42, 42, 27, 28]
abbrev dktX1_team_0 : List UInt8 := dkwX1_team_0 ++ dktX1_team_1
theorem dksX1_team_0 : cX1_team.data.toList.drop 0 = dktX1_team_0 := by decide +kernel
theorem dksX1_team_1 : cX1_team.data.toList.drop 23 = dktX1_team_1 := dk_seg dksX1_team_0 23 rfl rfl
theorem dX1_team_0 : decode cX1_team 0 = .ok (.aload_n 0, 1) := dk_42 (dk_at dksX1_team_0 0 rfl rfl)
theorem dX1_team_1 : decode cX1_team 1 = .ok (.iload_n 1, 1) := dk_27 (dk_at dksX1_team_0 1 rfl rfl)
theorem dX1_team_2 : decode cX1_team 2 = .ok (.iload_n 2, 1) := dk_28 (dk_at dksX1_team_0 2 rfl rfl)
theorem dX1_team_3 : decode cX1_team 3 = .ok (.invokevirtual 287, 3) := dk_182 1 31 (dk_at dksX1_team_0 3 rfl rfl)
theorem dX1_team_6 : decode cX1_team 6 = .ok (.istore_n 3, 1) := dk_62 (dk_at dksX1_team_0 6 rfl rfl)
theorem dX1_team_7 : decode cX1_team 7 = .ok (.iload_n 3, 1) := dk_29 (dk_at dksX1_team_0 7 rfl rfl)
theorem dX1_team_8 : decode cX1_team 8 = .ok (.ifCond .le 11, 3) := dk_158 0 11 (dk_at dksX1_team_0 8 rfl rfl)
theorem dX1_team_11 : decode cX1_team 11 = .ok (.aload_n 0, 1) := dk_42 (dk_at dksX1_team_0 11 rfl rfl)
theorem dX1_team_12 : decode cX1_team 12 = .ok (.iload_n 3, 1) := dk_29 (dk_at dksX1_team_0 12 rfl rfl)
theorem dX1_team_13 : decode cX1_team 13 = .ok (.invokevirtual 40, 3) := dk_182 0 40 (dk_at dksX1_team_0 13 rfl rfl)
theorem dX1_team_16 : decode cX1_team 16 = .ok (.goto 13, 3) := dk_167 0 13 (dk_at dksX1_team_0 16 rfl rfl)
theorem dX1_team_19 : decode cX1_team 19 = .ok (.aload_n 0, 1) := dk_42 (dk_at dksX1_team_0 19 rfl rfl)
theorem dX1_team_20 : decode cX1_team 20 = .ok (.aload_n 0, 1) := dk_42 (dk_at dksX1_team_0 20 rfl rfl)
theorem dX1_team_21 : decode cX1_team 21 = .ok (.iload_n 1, 1) := dk_27 (dk_at dksX1_team_0 21 rfl rfl)
theorem dX1_team_22 : decode cX1_team 22 = .ok (.iload_n 2, 1) := dk_28 (dk_at dksX1_team_0 22 rfl rfl)
theorem dX1_team_23 : decode cX1_team 23 = .ok (.invokevirtual 301, 3) := dk_182 1 45 (dk_at dksX1_team_1 0 rfl rfl)
theorem dX1_team_26 : decode cX1_team 26 = .ok (.invokevirtual 83, 3) := dk_182 0 83 (dk_at dksX1_team_1 3 rfl rfl)
theorem dX1_team_29 : decode cX1_team 29 = .ok (.ireturn, 1) := dk_172 (dk_at dksX1_team_1 6 rfl rfl)
theorem md_X1_team : xMd yX1_team cX1_team 4 (Option.some Jvm.ClassFile.FieldType.int) 2 := ⟨q2363, q123, by decide, by decide +kernel, by decide +kernel, by decide +kernel⟩
def f_X1_team (p0 : PH) (a0 : Nat) (a1 : Int32) (a2 : Int32) : Option (xO × PH) :=
  (xcl1 p0 a0 0 (xcI (f_X1_whyNot p0 a0 a1 a2) fun x2 p1 =>
  (if x2 ≤ 0 then
  (xcI (f_X1_teamOf p1 a0 a1 a2) fun x4 p3 =>
  (xcI (f_X1_fine p3 a0 x4) fun x6 p5 =>
  (rI x6 p5))) else
  (xcI (f_X1_refused p1 a0 x2) fun x8 p7 =>
  (rI x8 p7)))))
theorem rc_X1_team {p0 : PH} {a0 : Nat} {a1 : Int32} {a2 : Int32} : ∀ z, f_X1_team p0 a0 a1 a2 = some z → xco p0 a0 = some 0 := fun z h => xcl1_some h
theorem f_X1_team_ok {G : xG} (hO : xOK G) (p0 : PH) (a0 : Nat) (a1 : Int32) (a2 : Int32) : CT G 9 yX1_team cX1_team 4 (Option.some Jvm.ClassFile.FieldType.int) [.ref a0, .int a1, .int a2] p0 (f_X1_team p0 a0 a1 a2) := by
  refine CT_of hO (by decide +kernel) (by decide +kernel) (Nat.le_of_ble_eq_true rfl) ?_
  show X G "ForestLegs" "team" cX1_team 4 (Option.some Jvm.ClassFile.FieldType.int) 9 0 [(0, .ref a0), (1, .int a1), (2, .int a2)] [] p0 (f_X1_team p0 a0 a1 a2)
  refine x_cl1 (fun e0 => ?_)
  refine x_aload_nr 0 dX1_team_0 rfl rfl (n := 1) rfl ?_
  refine x_iload_n 1 dX1_team_1 rfl rfl (n := 2) rfl ?_
  refine x_iload_n 2 dX1_team_2 rfl rfl (n := 3) rfl ?_
  refine x_callV_I [.int a1, .int a2] [] (f_X1_whyNot_ok hO p0 a0 a1 a2) rc_X1_whyNot md_X1_whyNot rfl q2334 q2336 qs49 dX1_team_3 rfl rfl (by decide) (Nat.le_of_ble_eq_true rfl) (n := 6) rfl (fun x2 p1 => ?_)
  refine x_istore_n [(3, .int x2), (0, .ref a0), (1, .int a1), (2, .int a2)] dX1_team_6 rfl (by decide) rfl (n := 7) rfl ?_
  refine x_iload_n 0 dX1_team_7 rfl rfl (n := 8) rfl ?_
  refine x_if_le dX1_team_8 (t := 19) (by decide) (n := 11) rfl (fun _ => ?_) (fun _ => ?_)
  · refine x_aload_nr 1 dX1_team_19 rfl rfl (n := 20) rfl ?_
    refine x_aload_nr 1 dX1_team_20 rfl rfl (n := 21) rfl ?_
    refine x_iload_n 2 dX1_team_21 rfl rfl (n := 22) rfl ?_
    refine x_iload_n 3 dX1_team_22 rfl rfl (n := 23) rfl ?_
    refine x_callV_I [.int a1, .int a2] [.ref a0] (f_X1_teamOf_ok hO p1 a0 a1 a2) rc_X1_teamOf md_X1_teamOf rfl q2364 q2366 qs51 dX1_team_23 rfl rfl (by decide) (Nat.le_of_ble_eq_true rfl) (n := 26) rfl (fun x4 p3 => ?_)
    refine x_callV_I [.int x4] [] (f_X1_fine_ok hO p3 a0 x4) rc_X1_fine md_X1_fine rfl q1480 q1482 qs26 dX1_team_26 rfl rfl (by decide) (Nat.le_of_ble_eq_true rfl) (n := 29) rfl (fun x6 p5 => ?_)
    exact x_ireturn dX1_team_29
  · refine x_aload_nr 1 dX1_team_11 rfl rfl (n := 12) rfl ?_
    refine x_iload_n 0 dX1_team_12 rfl rfl (n := 13) rfl ?_
    refine x_callV_I [.int x2] [] (f_X1_refused_ok hO p1 a0 x2) rc_X1_refused md_X1_refused rfl q250 q252 qs0 dX1_team_13 rfl rfl (by decide) (Nat.le_of_ble_eq_true rfl) (n := 16) rfl (fun x8 p7 => ?_)
    refine x_goto dX1_team_16 (n := 29) (by decide) ?_
    exact x_ireturn dX1_team_29
abbrev cX1_mate : ByteArray := prog_1_method_51_code
def yX1_mate : MethodName := ⟨RX1, "mate", "(I)I"⟩
def dkwX1_mate_3 : List UInt8 := [27, 28, 182, 1, 45, 162, 0, 5, 29, 61, 132, 3, 1, 167, 255, 191, 42, 28, 182, 0, 83, 172]
abbrev dktX1_mate_3 : List UInt8 := dkwX1_mate_3 ++ []
def dkwX1_mate_2 : List UInt8 := [182, 1, 45, 16, 254, 160, 0, 6, 167, 0, 26, 28, 16, 254, 159, 0, 18, 42, 27, 29, 182, 1, 45, 42]
abbrev dktX1_mate_2 : List UInt8 := dkwX1_mate_2 ++ dktX1_mate_3
def dkwX1_mate_1 : List UInt8 := [180, 0, 71, 185, 0, 77, 1, 0, 162, 0, 55, 42, 27, 29, 182, 1, 31, 157, 0, 40, 42, 27, 29]
abbrev dktX1_mate_1 : List UInt8 := dkwX1_mate_1 ++ dktX1_mate_2
def dkwX1_mate_0 : List UInt8 := [42, 27, 182, 0, 100, 154, 0, 9, 42, 4, 182, 0, 40, 172, 16, 254, 61, 3, 62, 29, 42, 180, 0, 56]
abbrev dktX1_mate_0 : List UInt8 := dkwX1_mate_0 ++ dktX1_mate_1
theorem dksX1_mate_0 : cX1_mate.data.toList.drop 0 = dktX1_mate_0 := by decide +kernel
theorem dksX1_mate_1 : cX1_mate.data.toList.drop 24 = dktX1_mate_1 := dk_seg dksX1_mate_0 24 rfl rfl
theorem dksX1_mate_2 : cX1_mate.data.toList.drop 47 = dktX1_mate_2 := dk_seg dksX1_mate_1 23 rfl rfl
theorem dksX1_mate_3 : cX1_mate.data.toList.drop 71 = dktX1_mate_3 := dk_seg dksX1_mate_2 24 rfl rfl
theorem dX1_mate_0 : decode cX1_mate 0 = .ok (.aload_n 0, 1) := dk_42 (dk_at dksX1_mate_0 0 rfl rfl)
theorem dX1_mate_1 : decode cX1_mate 1 = .ok (.iload_n 1, 1) := dk_27 (dk_at dksX1_mate_0 1 rfl rfl)
theorem dX1_mate_2 : decode cX1_mate 2 = .ok (.invokevirtual 100, 3) := dk_182 0 100 (dk_at dksX1_mate_0 2 rfl rfl)
theorem dX1_mate_5 : decode cX1_mate 5 = .ok (.ifCond .ne 9, 3) := dk_154 0 9 (dk_at dksX1_mate_0 5 rfl rfl)
theorem dX1_mate_8 : decode cX1_mate 8 = .ok (.aload_n 0, 1) := dk_42 (dk_at dksX1_mate_0 8 rfl rfl)
theorem dX1_mate_9 : decode cX1_mate 9 = .ok (.iconst 1, 1) := dk_4 (dk_at dksX1_mate_0 9 rfl rfl)
theorem dX1_mate_10 : decode cX1_mate 10 = .ok (.invokevirtual 40, 3) := dk_182 0 40 (dk_at dksX1_mate_0 10 rfl rfl)
theorem dX1_mate_13 : decode cX1_mate 13 = .ok (.ireturn, 1) := dk_172 (dk_at dksX1_mate_0 13 rfl rfl)
theorem dX1_mate_14 : decode cX1_mate 14 = .ok (.bipush (-2), 2) := dk_16 254 (dk_at dksX1_mate_0 14 rfl rfl)
theorem dX1_mate_16 : decode cX1_mate 16 = .ok (.istore_n 2, 1) := dk_61 (dk_at dksX1_mate_0 16 rfl rfl)
theorem dX1_mate_17 : decode cX1_mate 17 = .ok (.iconst 0, 1) := dk_3 (dk_at dksX1_mate_0 17 rfl rfl)
theorem dX1_mate_18 : decode cX1_mate 18 = .ok (.istore_n 3, 1) := dk_62 (dk_at dksX1_mate_0 18 rfl rfl)
theorem dX1_mate_19 : decode cX1_mate 19 = .ok (.iload_n 3, 1) := dk_29 (dk_at dksX1_mate_0 19 rfl rfl)
theorem dX1_mate_20 : decode cX1_mate 20 = .ok (.aload_n 0, 1) := dk_42 (dk_at dksX1_mate_0 20 rfl rfl)
theorem dX1_mate_21 : decode cX1_mate 21 = .ok (.getfield 56, 3) := dk_180 0 56 (dk_at dksX1_mate_0 21 rfl rfl)
theorem dX1_mate_24 : decode cX1_mate 24 = .ok (.getfield 71, 3) := dk_180 0 71 (dk_at dksX1_mate_1 0 rfl rfl)
theorem dX1_mate_27 : decode cX1_mate 27 = .ok (.invokeinterface 77 1, 5) := by decide +kernel
theorem dX1_mate_32 : decode cX1_mate 32 = .ok (.if_icmp .ge 55, 3) := dk_162 0 55 (dk_at dksX1_mate_1 8 rfl rfl)
theorem dX1_mate_35 : decode cX1_mate 35 = .ok (.aload_n 0, 1) := dk_42 (dk_at dksX1_mate_1 11 rfl rfl)
theorem dX1_mate_36 : decode cX1_mate 36 = .ok (.iload_n 1, 1) := dk_27 (dk_at dksX1_mate_1 12 rfl rfl)
theorem dX1_mate_37 : decode cX1_mate 37 = .ok (.iload_n 3, 1) := dk_29 (dk_at dksX1_mate_1 13 rfl rfl)
theorem dX1_mate_38 : decode cX1_mate 38 = .ok (.invokevirtual 287, 3) := dk_182 1 31 (dk_at dksX1_mate_1 14 rfl rfl)
theorem dX1_mate_41 : decode cX1_mate 41 = .ok (.ifCond .gt 40, 3) := dk_157 0 40 (dk_at dksX1_mate_1 17 rfl rfl)
theorem dX1_mate_44 : decode cX1_mate 44 = .ok (.aload_n 0, 1) := dk_42 (dk_at dksX1_mate_1 20 rfl rfl)
theorem dX1_mate_45 : decode cX1_mate 45 = .ok (.iload_n 1, 1) := dk_27 (dk_at dksX1_mate_1 21 rfl rfl)
theorem dX1_mate_46 : decode cX1_mate 46 = .ok (.iload_n 3, 1) := dk_29 (dk_at dksX1_mate_1 22 rfl rfl)
theorem dX1_mate_47 : decode cX1_mate 47 = .ok (.invokevirtual 301, 3) := dk_182 1 45 (dk_at dksX1_mate_2 0 rfl rfl)
theorem dX1_mate_50 : decode cX1_mate 50 = .ok (.bipush (-2), 2) := dk_16 254 (dk_at dksX1_mate_2 3 rfl rfl)
theorem dX1_mate_52 : decode cX1_mate 52 = .ok (.if_icmp .ne 6, 3) := dk_160 0 6 (dk_at dksX1_mate_2 5 rfl rfl)
theorem dX1_mate_55 : decode cX1_mate 55 = .ok (.goto 26, 3) := dk_167 0 26 (dk_at dksX1_mate_2 8 rfl rfl)
theorem dX1_mate_58 : decode cX1_mate 58 = .ok (.iload_n 2, 1) := dk_28 (dk_at dksX1_mate_2 11 rfl rfl)
theorem dX1_mate_59 : decode cX1_mate 59 = .ok (.bipush (-2), 2) := dk_16 254 (dk_at dksX1_mate_2 12 rfl rfl)
theorem dX1_mate_61 : decode cX1_mate 61 = .ok (.if_icmp .eq 18, 3) := dk_159 0 18 (dk_at dksX1_mate_2 14 rfl rfl)
theorem dX1_mate_64 : decode cX1_mate 64 = .ok (.aload_n 0, 1) := dk_42 (dk_at dksX1_mate_2 17 rfl rfl)
theorem dX1_mate_65 : decode cX1_mate 65 = .ok (.iload_n 1, 1) := dk_27 (dk_at dksX1_mate_2 18 rfl rfl)
theorem dX1_mate_66 : decode cX1_mate 66 = .ok (.iload_n 3, 1) := dk_29 (dk_at dksX1_mate_2 19 rfl rfl)
theorem dX1_mate_67 : decode cX1_mate 67 = .ok (.invokevirtual 301, 3) := dk_182 1 45 (dk_at dksX1_mate_2 20 rfl rfl)
theorem dX1_mate_70 : decode cX1_mate 70 = .ok (.aload_n 0, 1) := dk_42 (dk_at dksX1_mate_2 23 rfl rfl)
theorem dX1_mate_71 : decode cX1_mate 71 = .ok (.iload_n 1, 1) := dk_27 (dk_at dksX1_mate_3 0 rfl rfl)
theorem dX1_mate_72 : decode cX1_mate 72 = .ok (.iload_n 2, 1) := dk_28 (dk_at dksX1_mate_3 1 rfl rfl)
theorem dX1_mate_73 : decode cX1_mate 73 = .ok (.invokevirtual 301, 3) := dk_182 1 45 (dk_at dksX1_mate_3 2 rfl rfl)
theorem dX1_mate_76 : decode cX1_mate 76 = .ok (.if_icmp .ge 5, 3) := dk_162 0 5 (dk_at dksX1_mate_3 5 rfl rfl)
theorem dX1_mate_79 : decode cX1_mate 79 = .ok (.iload_n 3, 1) := dk_29 (dk_at dksX1_mate_3 8 rfl rfl)
theorem dX1_mate_80 : decode cX1_mate 80 = .ok (.istore_n 2, 1) := dk_61 (dk_at dksX1_mate_3 9 rfl rfl)
theorem dX1_mate_81 : decode cX1_mate 81 = .ok (.iinc 3 1, 3) := dk_132 3 1 (dk_at dksX1_mate_3 10 rfl rfl)
theorem dX1_mate_84 : decode cX1_mate 84 = .ok (.goto (-65), 3) := dk_167 255 191 (dk_at dksX1_mate_3 13 rfl rfl)
theorem dX1_mate_87 : decode cX1_mate 87 = .ok (.aload_n 0, 1) := dk_42 (dk_at dksX1_mate_3 16 rfl rfl)
theorem dX1_mate_88 : decode cX1_mate 88 = .ok (.iload_n 2, 1) := dk_28 (dk_at dksX1_mate_3 17 rfl rfl)
theorem dX1_mate_89 : decode cX1_mate 89 = .ok (.invokevirtual 83, 3) := dk_182 0 83 (dk_at dksX1_mate_3 18 rfl rfl)
theorem dX1_mate_92 : decode cX1_mate 92 = .ok (.ireturn, 1) := dk_172 (dk_at dksX1_mate_3 21 rfl rfl)
theorem md_X1_mate : xMd yX1_mate cX1_mate 4 (Option.some Jvm.ClassFile.FieldType.int) 1 := ⟨q2372, q123, by decide, by decide +kernel, by decide +kernel, by decide +kernel⟩
def f_X1_mate_81 (a0 : Nat) (k19 : Int32 × Int32 × Int32 × PH → Option (xO × PH)) (v1 : Int32) (v2 : Int32) (v3 : Int32) (p0 : PH) : Option (xO × PH) :=
  (bnd (v3 + 1) fun x13 =>
  (k19 (v1, v2, x13, p0)))
def f_X1_mate_79 (a0 : Nat) (k19 : Int32 × Int32 × Int32 × PH → Option (xO × PH)) (v1 : Int32) (v3 : Int32) (p0 : PH) : Option (xO × PH) :=
  (f_X1_mate_81 a0 k19 v1 v3 v3 p0)
def f_X1_mate_19F (a0 : Nat)  (k19 : Int32 × Int32 × Int32 × PH → Option (xO × PH)) (p : Int32 × Int32 × Int32 × PH) : Option (xO × PH) := match p with
  | (v1, v2, v3, p0) => (xgR p0 a0 0 5 fun x3 =>
  (xnul x3 none fun b4 =>
  (xgR p0 b4 3 1 fun x5 =>
  (xnul x5 none fun b6 =>
  (xcI (f_J3_size p0 b6 ) fun x8 p7 =>
  (if x8 ≤ v3 then
  (xcI (f_X1_fine p7 a0 v2) fun x10 p9 =>
  (rI x10 p9)) else
  (xcI (f_X1_whyNot p7 a0 v1 v3) fun x12 p11 =>
  (if 0 < x12 then
  (f_X1_mate_81 a0 k19 v1 v2 v3 p11) else
  (xcI (f_X1_teamOf p11 a0 v1 v3) fun x15 p14 =>
  (if x15 = (-2) then
  (f_X1_mate_81 a0 k19 v1 v2 v3 p14) else
  (if v2 = (-2) then
  (f_X1_mate_79 a0 k19 v1 v3 p14) else
  (xcI (f_X1_teamOf p14 a0 v1 v3) fun x17 p16 =>
  (xcI (f_X1_teamOf p16 a0 v1 v2) fun x19 p18 =>
  (if x19 ≤ x17 then
  (f_X1_mate_81 a0 k19 v1 v2 v3 p18) else
  (f_X1_mate_79 a0 k19 v1 v3 p18)))))))))))))))
def f_X1_mate (p0 : PH) (a0 : Nat) (a1 : Int32) : Option (xO × PH) :=
  (xcl1 p0 a0 0 (xcI (f_X1_isRunner p0 a0 a1) fun x2 p1 =>
  (if x2 = 0 then
  (xcI (f_X1_refused p1 a0 1) fun x21 p20 =>
  (rI x21 p20)) else
  (lp (f_X1_mate_19F a0) FU (a1, (-2), 0, p1)))))
theorem rc_X1_mate {p0 : PH} {a0 : Nat} {a1 : Int32} : ∀ z, f_X1_mate p0 a0 a1 = some z → xco p0 a0 = some 0 := fun z h => xcl1_some h
theorem f_X1_mate_81_ok {G : xG} (hO : xOK G) (a0 : Nat) {k19 : Int32 × Int32 × Int32 × PH → Option (xO × PH)} (hk19 : ∀ (v1 : Int32) (v2 : Int32) (v3 : Int32) (p0 : PH), X G "ForestLegs" "mate" cX1_mate 4 (Option.some Jvm.ClassFile.FieldType.int) 9 19 [(0, .ref a0), (1, .int v1), (2, .int v2), (3, .int v3)] [] p0 (k19 (v1, v2, v3, p0))) (v1 : Int32) (v2 : Int32) (v3 : Int32) (p0 : PH) : X G "ForestLegs" "mate" cX1_mate 4 (Option.some Jvm.ClassFile.FieldType.int) 9 81 [(0, .ref a0), (1, .int v1), (2, .int v2), (3, .int v3)] [] p0 (f_X1_mate_81 a0 k19 v1 v2 v3 p0) := by
  unfold f_X1_mate_81
  refine x_iincB 3 (fun x13 => [(3, .int x13), (0, .ref a0), (1, .int v1), (2, .int v2)]) dX1_mate_81 rfl rfl (by decide) (fun _ => rfl) (n := 84) rfl (fun x13 => ?_)
  refine x_goto dX1_mate_84 (n := 19) (by decide) ?_
  refine x_sub [1, 2, 3, 0] [(0, .ref a0), (1, .int v1), (2, .int v2), (3, .int x13)] rfl ?_
  exact hk19 v1 v2 x13 p0
theorem f_X1_mate_79_ok {G : xG} (hO : xOK G) (a0 : Nat) {k19 : Int32 × Int32 × Int32 × PH → Option (xO × PH)} (hk19 : ∀ (v1 : Int32) (v2 : Int32) (v3 : Int32) (p0 : PH), X G "ForestLegs" "mate" cX1_mate 4 (Option.some Jvm.ClassFile.FieldType.int) 9 19 [(0, .ref a0), (1, .int v1), (2, .int v2), (3, .int v3)] [] p0 (k19 (v1, v2, v3, p0))) (v1 : Int32) (v3 : Int32) (p0 : PH) : X G "ForestLegs" "mate" cX1_mate 4 (Option.some Jvm.ClassFile.FieldType.int) 9 79 [(0, .ref a0), (1, .int v1), (3, .int v3)] [] p0 (f_X1_mate_79 a0 k19 v1 v3 p0) := by
  unfold f_X1_mate_79
  refine x_iload_n 2 dX1_mate_79 rfl rfl (n := 80) rfl ?_
  refine x_istore_n [(2, .int v3), (0, .ref a0), (1, .int v1), (3, .int v3)] dX1_mate_80 rfl (by decide) rfl (n := 81) rfl ?_
  refine x_sub [1, 2, 0, 3] [(0, .ref a0), (1, .int v1), (2, .int v3), (3, .int v3)] rfl ?_
  exact f_X1_mate_81_ok hO a0 hk19 v1 v3 v3 p0
theorem f_X1_mate_19F_ok {G : xG} (hO : xOK G) (a0 : Nat)  {k19 : Int32 × Int32 × Int32 × PH → Option (xO × PH)} (hk19 : ∀ (v1 : Int32) (v2 : Int32) (v3 : Int32) (p0 : PH), X G "ForestLegs" "mate" cX1_mate 4 (Option.some Jvm.ClassFile.FieldType.int) 9 19 [(0, .ref a0), (1, .int v1), (2, .int v2), (3, .int v3)] [] p0 (k19 (v1, v2, v3, p0))) (v1 : Int32) (v2 : Int32) (v3 : Int32) (p0 : PH) : X G "ForestLegs" "mate" cX1_mate 4 (Option.some Jvm.ClassFile.FieldType.int) 9 19 [(0, .ref a0), (1, .int v1), (2, .int v2), (3, .int v3)] [] p0 (f_X1_mate_19F a0 k19 (v1, v2, v3, p0)) := by
  unfold f_X1_mate_19F
  refine x_iload_n 3 dX1_mate_19 rfl rfl (n := 20) rfl ?_
  refine x_aload_nr 0 dX1_mate_20 rfl rfl (n := 21) rfl ?_
  refine x_getR fl_X1_56 dX1_mate_21 (n := 24) rfl (fun x3 => ?_)
  refine x_sm (fun b4 e => ?_)
  subst e
  refine x_getR fl_X1_71 dX1_mate_24 (n := 27) rfl (fun x5 => ?_)
  refine x_sm (fun b6 e => ?_)
  subst e
  refine x_callF_I [] [.int v3] (f_J3_size_ok hO p0 b6 ) rc_J3_size md_J3_size rfl q1479 fc_java_util_ArrayList_java_util_List_size_0_I dX1_mate_27 rfl rfl (by decide) (Nat.le_of_ble_eq_true rfl) (n := 32) rfl (fun x8 p7 => ?_)
  refine x_icmp_ge dX1_mate_32 (t := 87) (by decide) (n := 35) rfl (fun _ => ?_) (fun _ => ?_)
  · refine x_aload_nr 0 dX1_mate_87 rfl rfl (n := 88) rfl ?_
    refine x_iload_n 2 dX1_mate_88 rfl rfl (n := 89) rfl ?_
    refine x_callV_I [.int v2] [] (f_X1_fine_ok hO p7 a0 v2) rc_X1_fine md_X1_fine rfl q1480 q1482 qs26 dX1_mate_89 rfl rfl (by decide) (Nat.le_of_ble_eq_true rfl) (n := 92) rfl (fun x10 p9 => ?_)
    exact x_ireturn dX1_mate_92
  · refine x_aload_nr 0 dX1_mate_35 rfl rfl (n := 36) rfl ?_
    refine x_iload_n 1 dX1_mate_36 rfl rfl (n := 37) rfl ?_
    refine x_iload_n 3 dX1_mate_37 rfl rfl (n := 38) rfl ?_
    refine x_callV_I [.int v1, .int v3] [] (f_X1_whyNot_ok hO p7 a0 v1 v3) rc_X1_whyNot md_X1_whyNot rfl q2334 q2336 qs49 dX1_mate_38 rfl rfl (by decide) (Nat.le_of_ble_eq_true rfl) (n := 41) rfl (fun x12 p11 => ?_)
    refine x_if_gt dX1_mate_41 (t := 81) (by decide) (n := 44) rfl (fun _ => ?_) (fun _ => ?_)
    · exact f_X1_mate_81_ok hO a0 hk19 v1 v2 v3 p11
    · refine x_aload_nr 0 dX1_mate_44 rfl rfl (n := 45) rfl ?_
      refine x_iload_n 1 dX1_mate_45 rfl rfl (n := 46) rfl ?_
      refine x_iload_n 3 dX1_mate_46 rfl rfl (n := 47) rfl ?_
      refine x_callV_I [.int v1, .int v3] [] (f_X1_teamOf_ok hO p11 a0 v1 v3) rc_X1_teamOf md_X1_teamOf rfl q2364 q2366 qs51 dX1_mate_47 rfl rfl (by decide) (Nat.le_of_ble_eq_true rfl) (n := 50) rfl (fun x15 p14 => ?_)
      refine x_bipush (-2) dX1_mate_50 rfl (n := 52) rfl ?_
      refine x_icmp_ne dX1_mate_52 (t := 58) (by decide) (n := 55) rfl (fun _ => ?_) (fun _ => ?_)
      · refine x_iload_n 2 dX1_mate_58 rfl rfl (n := 59) rfl ?_
        refine x_bipush (-2) dX1_mate_59 rfl (n := 61) rfl ?_
        refine x_icmp_eq dX1_mate_61 (t := 79) (by decide) (n := 64) rfl (fun _ => ?_) (fun _ => ?_)
        · refine x_sub [0, 1, 3] [(0, .ref a0), (1, .int v1), (3, .int v3)] rfl ?_
          exact f_X1_mate_79_ok hO a0 hk19 v1 v3 p14
        · refine x_aload_nr 0 dX1_mate_64 rfl rfl (n := 65) rfl ?_
          refine x_iload_n 1 dX1_mate_65 rfl rfl (n := 66) rfl ?_
          refine x_iload_n 3 dX1_mate_66 rfl rfl (n := 67) rfl ?_
          refine x_callV_I [.int v1, .int v3] [] (f_X1_teamOf_ok hO p14 a0 v1 v3) rc_X1_teamOf md_X1_teamOf rfl q2364 q2366 qs51 dX1_mate_67 rfl rfl (by decide) (Nat.le_of_ble_eq_true rfl) (n := 70) rfl (fun x17 p16 => ?_)
          refine x_aload_nr 0 dX1_mate_70 rfl rfl (n := 71) rfl ?_
          refine x_iload_n 1 dX1_mate_71 rfl rfl (n := 72) rfl ?_
          refine x_iload_n 2 dX1_mate_72 rfl rfl (n := 73) rfl ?_
          refine x_callV_I [.int v1, .int v2] [.int x17] (f_X1_teamOf_ok hO p16 a0 v1 v2) rc_X1_teamOf md_X1_teamOf rfl q2364 q2366 qs51 dX1_mate_73 rfl rfl (by decide) (Nat.le_of_ble_eq_true rfl) (n := 76) rfl (fun x19 p18 => ?_)
          refine x_icmp_ge dX1_mate_76 (t := 81) (by decide) (n := 79) rfl (fun _ => ?_) (fun _ => ?_)
          · exact f_X1_mate_81_ok hO a0 hk19 v1 v2 v3 p18
          · refine x_sub [0, 1, 3] [(0, .ref a0), (1, .int v1), (3, .int v3)] rfl ?_
            exact f_X1_mate_79_ok hO a0 hk19 v1 v3 p18
      · refine x_goto dX1_mate_55 (n := 81) (by decide) ?_
        exact f_X1_mate_81_ok hO a0 hk19 v1 v2 v3 p14
theorem f_X1_mate_19_lp {G : xG} (hO : xOK G) (a0 : Nat)  (n : Nat) (v1 : Int32) (v2 : Int32) (v3 : Int32) (p0 : PH) : X G "ForestLegs" "mate" cX1_mate 4 (Option.some Jvm.ClassFile.FieldType.int) 9 19 [(0, .ref a0), (1, .int v1), (2, .int v2), (3, .int v3)] [] p0 (lp (f_X1_mate_19F a0) n (v1, v2, v3, p0)) :=
  lp_ok (W := fun p K => X G "ForestLegs" "mate" cX1_mate 4 (Option.some Jvm.ClassFile.FieldType.int) 9 19 [(0, .ref a0), (1, .int p.1), (2, .int p.2.1), (3, .int p.2.2.1)] [] p.2.2.2 K) (fun _ => x_no) (fun k hk => fun (v1, v2, v3, p0) => f_X1_mate_19F_ok hO a0 (fun v1 v2 v3 p0 => hk (v1, v2, v3, p0)) v1 v2 v3 p0) n (v1, v2, v3, p0)
theorem f_X1_mate_ok {G : xG} (hO : xOK G) (p0 : PH) (a0 : Nat) (a1 : Int32) : CT G 9 yX1_mate cX1_mate 4 (Option.some Jvm.ClassFile.FieldType.int) [.ref a0, .int a1] p0 (f_X1_mate p0 a0 a1) := by
  refine CT_of hO (by decide +kernel) (by decide +kernel) (Nat.le_of_ble_eq_true rfl) ?_
  show X G "ForestLegs" "mate" cX1_mate 4 (Option.some Jvm.ClassFile.FieldType.int) 9 0 [(0, .ref a0), (1, .int a1)] [] p0 (f_X1_mate p0 a0 a1)
  refine x_cl1 (fun e0 => ?_)
  refine x_aload_nr 0 dX1_mate_0 rfl rfl (n := 1) rfl ?_
  refine x_iload_n 1 dX1_mate_1 rfl rfl (n := 2) rfl ?_
  refine x_callV_I [.int a1] [] (f_X1_isRunner_ok hO p0 a0 a1) rc_X1_isRunner md_X1_isRunner rfl q1780 q1782 qs41 dX1_mate_2 rfl rfl (by decide) (Nat.le_of_ble_eq_true rfl) (n := 5) rfl (fun x2 p1 => ?_)
  refine x_if_ne dX1_mate_5 (t := 14) (by decide) (n := 8) rfl (fun _ => ?_) (fun _ => ?_)
  · refine x_bipush (-2) dX1_mate_14 rfl (n := 16) rfl ?_
    refine x_istore_n [(2, .int (-2)), (0, .ref a0), (1, .int a1)] dX1_mate_16 rfl (by decide) rfl (n := 17) rfl ?_
    refine x_iconst 0 dX1_mate_17 rfl (n := 18) rfl ?_
    refine x_istore_n [(3, .int 0), (2, .int (-2)), (0, .ref a0), (1, .int a1)] dX1_mate_18 rfl (by decide) rfl (n := 19) rfl ?_
    refine x_sub [2, 3, 1, 0] [(0, .ref a0), (1, .int a1), (2, .int (-2)), (3, .int 0)] rfl ?_
    exact f_X1_mate_19_lp hO a0 FU a1 (-2) 0 p1
  · refine x_aload_nr 0 dX1_mate_8 rfl rfl (n := 9) rfl ?_
    refine x_iconst 1 dX1_mate_9 rfl (n := 10) rfl ?_
    refine x_callV_I [.int 1] [] (f_X1_refused_ok hO p1 a0 1) rc_X1_refused md_X1_refused rfl q250 q252 qs0 dX1_mate_10 rfl rfl (by decide) (Nat.le_of_ble_eq_true rfl) (n := 13) rfl (fun x21 p20 => ?_)
    exact x_ireturn dX1_mate_13
abbrev cX1_passes : ByteArray := prog_1_method_52_code
def yX1_passes : MethodName := ⟨RX1, "passes", "(II)I"⟩
def dkwX1_passes_7 : List UInt8 := [42, 21, 6, 182, 0, 83, 172]
abbrev dktX1_passes_7 : List UInt8 := dkwX1_passes_7 ++ []
def dkwX1_passes_6 : List UInt8 := [25, 5, 21, 7, 182, 1, 37, 162, 0, 7, 4, 167, 0, 4, 3, 96, 54, 6, 132, 7, 1, 167, 255, 139]
abbrev dktX1_passes_6 : List UInt8 := dkwX1_passes_6 ++ dktX1_passes_7
def dkwX1_passes_5 : List UInt8 := [4, 100, 182, 1, 37, 25, 5, 21, 7, 4, 100, 182, 1, 37, 164, 0, 24, 25, 4, 21, 7, 182, 1, 37]
abbrev dktX1_passes_5 : List UInt8 := dkwX1_passes_5 ++ dktX1_passes_6
def dkwX1_passes_4 : List UInt8 := [159, 0, 66, 25, 5, 21, 7, 182, 1, 37, 16, 254, 160, 0, 6, 167, 0, 51, 21, 6, 25, 4, 21, 7]
abbrev dktX1_passes_4 : List UInt8 := dkwX1_passes_4 ++ dktX1_passes_5
def dkwX1_passes_3 : List UInt8 := [25, 4, 21, 7, 182, 1, 37, 16, 254, 159, 0, 80, 25, 5, 21, 7, 4, 100, 182, 1, 37, 16, 254]
abbrev dktX1_passes_3 : List UInt8 := dkwX1_passes_3 ++ dktX1_passes_4
def dkwX1_passes_2 : List UInt8 := [25, 4, 180, 0, 193, 190, 163, 0, 112, 25, 4, 21, 7, 4, 100, 182, 1, 37, 16, 254, 159, 0, 92]
abbrev dktX1_passes_2 : List UInt8 := dkwX1_passes_2 ++ dktX1_passes_3
def dkwX1_passes_1 : List UInt8 := [182, 0, 189, 58, 4, 42, 180, 0, 56, 28, 182, 0, 189, 58, 5, 3, 54, 6, 4, 54, 7, 21, 7]
abbrev dktX1_passes_1 : List UInt8 := dkwX1_passes_1 ++ dktX1_passes_2
def dkwX1_passes_0 : List UInt8 := [42, 27, 28, 182, 1, 31, 62, 29, 158, 0, 9, 42, 29, 182, 0, 40, 172, 42, 180, 0, 56, 27]
abbrev dktX1_passes_0 : List UInt8 := dkwX1_passes_0 ++ dktX1_passes_1
theorem dksX1_passes_0 : cX1_passes.data.toList.drop 0 = dktX1_passes_0 := by decide +kernel
theorem dksX1_passes_1 : cX1_passes.data.toList.drop 22 = dktX1_passes_1 := dk_seg dksX1_passes_0 22 rfl rfl
theorem dksX1_passes_2 : cX1_passes.data.toList.drop 45 = dktX1_passes_2 := dk_seg dksX1_passes_1 23 rfl rfl
theorem dksX1_passes_3 : cX1_passes.data.toList.drop 68 = dktX1_passes_3 := dk_seg dksX1_passes_2 23 rfl rfl
theorem dksX1_passes_4 : cX1_passes.data.toList.drop 91 = dktX1_passes_4 := dk_seg dksX1_passes_3 23 rfl rfl
theorem dksX1_passes_5 : cX1_passes.data.toList.drop 115 = dktX1_passes_5 := dk_seg dksX1_passes_4 24 rfl rfl
theorem dksX1_passes_6 : cX1_passes.data.toList.drop 139 = dktX1_passes_6 := dk_seg dksX1_passes_5 24 rfl rfl
theorem dksX1_passes_7 : cX1_passes.data.toList.drop 163 = dktX1_passes_7 := dk_seg dksX1_passes_6 24 rfl rfl
theorem dX1_passes_0 : decode cX1_passes 0 = .ok (.aload_n 0, 1) := dk_42 (dk_at dksX1_passes_0 0 rfl rfl)
theorem dX1_passes_1 : decode cX1_passes 1 = .ok (.iload_n 1, 1) := dk_27 (dk_at dksX1_passes_0 1 rfl rfl)
theorem dX1_passes_2 : decode cX1_passes 2 = .ok (.iload_n 2, 1) := dk_28 (dk_at dksX1_passes_0 2 rfl rfl)
theorem dX1_passes_3 : decode cX1_passes 3 = .ok (.invokevirtual 287, 3) := dk_182 1 31 (dk_at dksX1_passes_0 3 rfl rfl)
theorem dX1_passes_6 : decode cX1_passes 6 = .ok (.istore_n 3, 1) := dk_62 (dk_at dksX1_passes_0 6 rfl rfl)
theorem dX1_passes_7 : decode cX1_passes 7 = .ok (.iload_n 3, 1) := dk_29 (dk_at dksX1_passes_0 7 rfl rfl)
theorem dX1_passes_8 : decode cX1_passes 8 = .ok (.ifCond .le 9, 3) := dk_158 0 9 (dk_at dksX1_passes_0 8 rfl rfl)
theorem dX1_passes_11 : decode cX1_passes 11 = .ok (.aload_n 0, 1) := dk_42 (dk_at dksX1_passes_0 11 rfl rfl)
theorem dX1_passes_12 : decode cX1_passes 12 = .ok (.iload_n 3, 1) := dk_29 (dk_at dksX1_passes_0 12 rfl rfl)
theorem dX1_passes_13 : decode cX1_passes 13 = .ok (.invokevirtual 40, 3) := dk_182 0 40 (dk_at dksX1_passes_0 13 rfl rfl)
theorem dX1_passes_16 : decode cX1_passes 16 = .ok (.ireturn, 1) := dk_172 (dk_at dksX1_passes_0 16 rfl rfl)
theorem dX1_passes_17 : decode cX1_passes 17 = .ok (.aload_n 0, 1) := dk_42 (dk_at dksX1_passes_0 17 rfl rfl)
theorem dX1_passes_18 : decode cX1_passes 18 = .ok (.getfield 56, 3) := dk_180 0 56 (dk_at dksX1_passes_0 18 rfl rfl)
theorem dX1_passes_21 : decode cX1_passes 21 = .ok (.iload_n 1, 1) := dk_27 (dk_at dksX1_passes_0 21 rfl rfl)
theorem dX1_passes_22 : decode cX1_passes 22 = .ok (.invokevirtual 189, 3) := dk_182 0 189 (dk_at dksX1_passes_1 0 rfl rfl)
theorem dX1_passes_25 : decode cX1_passes 25 = .ok (.astore 4, 2) := dk_58 4 (dk_at dksX1_passes_1 3 rfl rfl)
theorem dX1_passes_27 : decode cX1_passes 27 = .ok (.aload_n 0, 1) := dk_42 (dk_at dksX1_passes_1 5 rfl rfl)
theorem dX1_passes_28 : decode cX1_passes 28 = .ok (.getfield 56, 3) := dk_180 0 56 (dk_at dksX1_passes_1 6 rfl rfl)
theorem dX1_passes_31 : decode cX1_passes 31 = .ok (.iload_n 2, 1) := dk_28 (dk_at dksX1_passes_1 9 rfl rfl)
theorem dX1_passes_32 : decode cX1_passes 32 = .ok (.invokevirtual 189, 3) := dk_182 0 189 (dk_at dksX1_passes_1 10 rfl rfl)
theorem dX1_passes_35 : decode cX1_passes 35 = .ok (.astore 5, 2) := dk_58 5 (dk_at dksX1_passes_1 13 rfl rfl)
theorem dX1_passes_37 : decode cX1_passes 37 = .ok (.iconst 0, 1) := dk_3 (dk_at dksX1_passes_1 15 rfl rfl)
theorem dX1_passes_38 : decode cX1_passes 38 = .ok (.istore 6, 2) := dk_54 6 (dk_at dksX1_passes_1 16 rfl rfl)
theorem dX1_passes_40 : decode cX1_passes 40 = .ok (.iconst 1, 1) := dk_4 (dk_at dksX1_passes_1 18 rfl rfl)
theorem dX1_passes_41 : decode cX1_passes 41 = .ok (.istore 7, 2) := dk_54 7 (dk_at dksX1_passes_1 19 rfl rfl)
theorem dX1_passes_43 : decode cX1_passes 43 = .ok (.iload 7, 2) := dk_21 7 (dk_at dksX1_passes_1 21 rfl rfl)
theorem dX1_passes_45 : decode cX1_passes 45 = .ok (.aload 4, 2) := dk_25 4 (dk_at dksX1_passes_2 0 rfl rfl)
theorem dX1_passes_47 : decode cX1_passes 47 = .ok (.getfield 193, 3) := dk_180 0 193 (dk_at dksX1_passes_2 2 rfl rfl)
theorem dX1_passes_50 : decode cX1_passes 50 = .ok (.arraylength, 1) := dk_190 (dk_at dksX1_passes_2 5 rfl rfl)
theorem dX1_passes_51 : decode cX1_passes 51 = .ok (.if_icmp .gt 112, 3) := dk_163 0 112 (dk_at dksX1_passes_2 6 rfl rfl)
theorem dX1_passes_54 : decode cX1_passes 54 = .ok (.aload 4, 2) := dk_25 4 (dk_at dksX1_passes_2 9 rfl rfl)
theorem dX1_passes_56 : decode cX1_passes 56 = .ok (.iload 7, 2) := dk_21 7 (dk_at dksX1_passes_2 11 rfl rfl)
theorem dX1_passes_58 : decode cX1_passes 58 = .ok (.iconst 1, 1) := dk_4 (dk_at dksX1_passes_2 13 rfl rfl)
theorem dX1_passes_59 : decode cX1_passes 59 = .ok (.isub, 1) := dk_100 (dk_at dksX1_passes_2 14 rfl rfl)
theorem dX1_passes_60 : decode cX1_passes 60 = .ok (.invokevirtual 293, 3) := dk_182 1 37 (dk_at dksX1_passes_2 15 rfl rfl)
theorem dX1_passes_63 : decode cX1_passes 63 = .ok (.bipush (-2), 2) := dk_16 254 (dk_at dksX1_passes_2 18 rfl rfl)
theorem dX1_passes_65 : decode cX1_passes 65 = .ok (.if_icmp .eq 92, 3) := dk_159 0 92 (dk_at dksX1_passes_2 20 rfl rfl)
theorem dX1_passes_68 : decode cX1_passes 68 = .ok (.aload 4, 2) := dk_25 4 (dk_at dksX1_passes_3 0 rfl rfl)
theorem dX1_passes_70 : decode cX1_passes 70 = .ok (.iload 7, 2) := dk_21 7 (dk_at dksX1_passes_3 2 rfl rfl)
theorem dX1_passes_72 : decode cX1_passes 72 = .ok (.invokevirtual 293, 3) := dk_182 1 37 (dk_at dksX1_passes_3 4 rfl rfl)
theorem dX1_passes_75 : decode cX1_passes 75 = .ok (.bipush (-2), 2) := dk_16 254 (dk_at dksX1_passes_3 7 rfl rfl)
theorem dX1_passes_77 : decode cX1_passes 77 = .ok (.if_icmp .eq 80, 3) := dk_159 0 80 (dk_at dksX1_passes_3 9 rfl rfl)
theorem dX1_passes_80 : decode cX1_passes 80 = .ok (.aload 5, 2) := dk_25 5 (dk_at dksX1_passes_3 12 rfl rfl)
theorem dX1_passes_82 : decode cX1_passes 82 = .ok (.iload 7, 2) := dk_21 7 (dk_at dksX1_passes_3 14 rfl rfl)
theorem dX1_passes_84 : decode cX1_passes 84 = .ok (.iconst 1, 1) := dk_4 (dk_at dksX1_passes_3 16 rfl rfl)
theorem dX1_passes_85 : decode cX1_passes 85 = .ok (.isub, 1) := dk_100 (dk_at dksX1_passes_3 17 rfl rfl)
theorem dX1_passes_86 : decode cX1_passes 86 = .ok (.invokevirtual 293, 3) := dk_182 1 37 (dk_at dksX1_passes_3 18 rfl rfl)
theorem dX1_passes_89 : decode cX1_passes 89 = .ok (.bipush (-2), 2) := dk_16 254 (dk_at dksX1_passes_3 21 rfl rfl)
theorem dX1_passes_91 : decode cX1_passes 91 = .ok (.if_icmp .eq 66, 3) := dk_159 0 66 (dk_at dksX1_passes_4 0 rfl rfl)
theorem dX1_passes_94 : decode cX1_passes 94 = .ok (.aload 5, 2) := dk_25 5 (dk_at dksX1_passes_4 3 rfl rfl)
theorem dX1_passes_96 : decode cX1_passes 96 = .ok (.iload 7, 2) := dk_21 7 (dk_at dksX1_passes_4 5 rfl rfl)
theorem dX1_passes_98 : decode cX1_passes 98 = .ok (.invokevirtual 293, 3) := dk_182 1 37 (dk_at dksX1_passes_4 7 rfl rfl)
theorem dX1_passes_101 : decode cX1_passes 101 = .ok (.bipush (-2), 2) := dk_16 254 (dk_at dksX1_passes_4 10 rfl rfl)
theorem dX1_passes_103 : decode cX1_passes 103 = .ok (.if_icmp .ne 6, 3) := dk_160 0 6 (dk_at dksX1_passes_4 12 rfl rfl)
theorem dX1_passes_106 : decode cX1_passes 106 = .ok (.goto 51, 3) := dk_167 0 51 (dk_at dksX1_passes_4 15 rfl rfl)
theorem dX1_passes_109 : decode cX1_passes 109 = .ok (.iload 6, 2) := dk_21 6 (dk_at dksX1_passes_4 18 rfl rfl)
theorem dX1_passes_111 : decode cX1_passes 111 = .ok (.aload 4, 2) := dk_25 4 (dk_at dksX1_passes_4 20 rfl rfl)
theorem dX1_passes_113 : decode cX1_passes 113 = .ok (.iload 7, 2) := dk_21 7 (dk_at dksX1_passes_4 22 rfl rfl)
theorem dX1_passes_115 : decode cX1_passes 115 = .ok (.iconst 1, 1) := dk_4 (dk_at dksX1_passes_5 0 rfl rfl)
theorem dX1_passes_116 : decode cX1_passes 116 = .ok (.isub, 1) := dk_100 (dk_at dksX1_passes_5 1 rfl rfl)
theorem dX1_passes_117 : decode cX1_passes 117 = .ok (.invokevirtual 293, 3) := dk_182 1 37 (dk_at dksX1_passes_5 2 rfl rfl)
theorem dX1_passes_120 : decode cX1_passes 120 = .ok (.aload 5, 2) := dk_25 5 (dk_at dksX1_passes_5 5 rfl rfl)
theorem dX1_passes_122 : decode cX1_passes 122 = .ok (.iload 7, 2) := dk_21 7 (dk_at dksX1_passes_5 7 rfl rfl)
theorem dX1_passes_124 : decode cX1_passes 124 = .ok (.iconst 1, 1) := dk_4 (dk_at dksX1_passes_5 9 rfl rfl)
theorem dX1_passes_125 : decode cX1_passes 125 = .ok (.isub, 1) := dk_100 (dk_at dksX1_passes_5 10 rfl rfl)
theorem dX1_passes_126 : decode cX1_passes 126 = .ok (.invokevirtual 293, 3) := dk_182 1 37 (dk_at dksX1_passes_5 11 rfl rfl)
theorem dX1_passes_129 : decode cX1_passes 129 = .ok (.if_icmp .le 24, 3) := dk_164 0 24 (dk_at dksX1_passes_5 14 rfl rfl)
theorem dX1_passes_132 : decode cX1_passes 132 = .ok (.aload 4, 2) := dk_25 4 (dk_at dksX1_passes_5 17 rfl rfl)
theorem dX1_passes_134 : decode cX1_passes 134 = .ok (.iload 7, 2) := dk_21 7 (dk_at dksX1_passes_5 19 rfl rfl)
theorem dX1_passes_136 : decode cX1_passes 136 = .ok (.invokevirtual 293, 3) := dk_182 1 37 (dk_at dksX1_passes_5 21 rfl rfl)
theorem dX1_passes_139 : decode cX1_passes 139 = .ok (.aload 5, 2) := dk_25 5 (dk_at dksX1_passes_6 0 rfl rfl)
theorem dX1_passes_141 : decode cX1_passes 141 = .ok (.iload 7, 2) := dk_21 7 (dk_at dksX1_passes_6 2 rfl rfl)
theorem dX1_passes_143 : decode cX1_passes 143 = .ok (.invokevirtual 293, 3) := dk_182 1 37 (dk_at dksX1_passes_6 4 rfl rfl)
theorem dX1_passes_146 : decode cX1_passes 146 = .ok (.if_icmp .ge 7, 3) := dk_162 0 7 (dk_at dksX1_passes_6 7 rfl rfl)
theorem dX1_passes_149 : decode cX1_passes 149 = .ok (.iconst 1, 1) := dk_4 (dk_at dksX1_passes_6 10 rfl rfl)
theorem dX1_passes_150 : decode cX1_passes 150 = .ok (.goto 4, 3) := dk_167 0 4 (dk_at dksX1_passes_6 11 rfl rfl)
theorem dX1_passes_153 : decode cX1_passes 153 = .ok (.iconst 0, 1) := dk_3 (dk_at dksX1_passes_6 14 rfl rfl)
theorem dX1_passes_154 : decode cX1_passes 154 = .ok (.iadd, 1) := dk_96 (dk_at dksX1_passes_6 15 rfl rfl)
theorem dX1_passes_155 : decode cX1_passes 155 = .ok (.istore 6, 2) := dk_54 6 (dk_at dksX1_passes_6 16 rfl rfl)
theorem dX1_passes_157 : decode cX1_passes 157 = .ok (.iinc 7 1, 3) := dk_132 7 1 (dk_at dksX1_passes_6 18 rfl rfl)
theorem dX1_passes_160 : decode cX1_passes 160 = .ok (.goto (-117), 3) := dk_167 255 139 (dk_at dksX1_passes_6 21 rfl rfl)
theorem dX1_passes_163 : decode cX1_passes 163 = .ok (.aload_n 0, 1) := dk_42 (dk_at dksX1_passes_7 0 rfl rfl)
theorem dX1_passes_164 : decode cX1_passes 164 = .ok (.iload 6, 2) := dk_21 6 (dk_at dksX1_passes_7 1 rfl rfl)
theorem dX1_passes_166 : decode cX1_passes 166 = .ok (.invokevirtual 83, 3) := dk_182 0 83 (dk_at dksX1_passes_7 3 rfl rfl)
theorem dX1_passes_169 : decode cX1_passes 169 = .ok (.ireturn, 1) := dk_172 (dk_at dksX1_passes_7 6 rfl rfl)
theorem md_X1_passes : xMd yX1_passes cX1_passes 8 (Option.some Jvm.ClassFile.FieldType.int) 2 := ⟨q2376, q123, by decide, by decide +kernel, by decide +kernel, by decide +kernel⟩
def f_X1_passes_157 (a0 : Nat) (k43 : Option Nat × Option Nat × Int32 × Int32 × PH → Option (xO × PH)) (v4 : Option Nat) (v5 : Option Nat) (v6 : Int32) (v7 : Int32) (p0 : PH) : Option (xO × PH) :=
  (bnd (v7 + 1) fun x19 =>
  (k43 (v4, v5, v6, x19, p0)))
def f_X1_passes_154 (a0 : Nat) (k43 : Option Nat × Option Nat × Int32 × Int32 × PH → Option (xO × PH)) (v4 : Option Nat) (v5 : Option Nat) (v7 : Int32) (w0 : Int32) (w1 : Int32) (p0 : PH) : Option (xO × PH) :=
  (bnd (w0 + w1) fun x31 =>
  (f_X1_passes_157 a0 k43 v4 v5 x31 v7 p0))
def f_X1_passes_153 (a0 : Nat) (k43 : Option Nat × Option Nat × Int32 × Int32 × PH → Option (xO × PH)) (v4 : Option Nat) (v5 : Option Nat) (v7 : Int32) (w0 : Int32) (p0 : PH) : Option (xO × PH) :=
  (f_X1_passes_154 a0 k43 v4 v5 v7 w0 0 p0)
def f_X1_passes_43F (a0 : Nat)  (k43 : Option Nat × Option Nat × Int32 × Int32 × PH → Option (xO × PH)) (p : Option Nat × Option Nat × Int32 × Int32 × PH) : Option (xO × PH) := match p with
  | (v4, v5, v6, v7, p0) => (xnul v4 none fun b11 =>
  (xgR p0 b11 8 2 fun x12 =>
  (xnul x12 none fun b13 =>
  (xlen p0 b13 fun x14 =>
  (if x14 < v7 then
  (xcI (f_X1_fine p0 a0 v6) fun x16 p15 =>
  (rI x16 p15)) else
  (xcI (f_X9_time p0 b11 (v7 - 1)) fun x18 p17 =>
  (if x18 = (-2) then
  (f_X1_passes_157 a0 k43 ((some b11)) v5 v6 v7 p17) else
  (xcI (f_X9_time p17 b11 v7) fun x21 p20 =>
  (if x21 = (-2) then
  (f_X1_passes_157 a0 k43 ((some b11)) v5 v6 v7 p20) else
  (xnul v5 none fun b22 =>
  (xcI (f_X9_time p20 b22 (v7 - 1)) fun x24 p23 =>
  (if x24 = (-2) then
  (f_X1_passes_157 a0 k43 ((some b11)) ((some b22)) v6 v7 p23) else
  (xcI (f_X9_time p23 b22 v7) fun x26 p25 =>
  (if x26 = (-2) then
  (f_X1_passes_157 a0 k43 ((some b11)) ((some b22)) v6 v7 p25) else
  (xcI (f_X9_time p25 b11 (v7 - 1)) fun x28 p27 =>
  (xcI (f_X9_time p27 b22 (v7 - 1)) fun x30 p29 =>
  (if x28 ≤ x30 then
  (f_X1_passes_153 a0 k43 ((some b11)) ((some b22)) v7 v6 p29) else
  (xcI (f_X9_time p29 b11 v7) fun x33 p32 =>
  (xcI (f_X9_time p32 b22 v7) fun x35 p34 =>
  (if x35 ≤ x33 then
  (f_X1_passes_153 a0 k43 ((some b11)) ((some b22)) v7 v6 p34) else
  (f_X1_passes_154 a0 k43 ((some b11)) ((some b22)) v7 v6 1 p34)))))))))))))))))))))
def f_X1_passes (p0 : PH) (a0 : Nat) (a1 : Int32) (a2 : Int32) : Option (xO × PH) :=
  (xcl1 p0 a0 0 (xcI (f_X1_whyNot p0 a0 a1 a2) fun x2 p1 =>
  (if x2 ≤ 0 then
  (xgR p1 a0 0 5 fun x3 =>
  (xnul x3 none fun b4 =>
  (xcR (f_X4_match p1 b4 a1) fun x6 p5 =>
  (xgR p5 a0 0 5 fun x7 =>
  (xnul x7 none fun b8 =>
  (xcR (f_X4_match p5 b8 a2) fun x10 p9 =>
  (lp (f_X1_passes_43F a0) FU (x6, x10, 0, 1, p9)))))))) else
  (xcI (f_X1_refused p1 a0 x2) fun x37 p36 =>
  (rI x37 p36)))))
theorem rc_X1_passes {p0 : PH} {a0 : Nat} {a1 : Int32} {a2 : Int32} : ∀ z, f_X1_passes p0 a0 a1 a2 = some z → xco p0 a0 = some 0 := fun z h => xcl1_some h
theorem f_X1_passes_157_ok {G : xG} (hO : xOK G) (a0 : Nat) {k43 : Option Nat × Option Nat × Int32 × Int32 × PH → Option (xO × PH)} (hk43 : ∀ (v4 : Option Nat) (v5 : Option Nat) (v6 : Int32) (v7 : Int32) (p0 : PH), X G "ForestLegs" "passes" cX1_passes 8 (Option.some Jvm.ClassFile.FieldType.int) 8 43 [(0, .ref a0), (4, va_rf v4), (5, va_rf v5), (6, .int v6), (7, .int v7)] [] p0 (k43 (v4, v5, v6, v7, p0))) (v4 : Option Nat) (v5 : Option Nat) (v6 : Int32) (v7 : Int32) (p0 : PH) : X G "ForestLegs" "passes" cX1_passes 8 (Option.some Jvm.ClassFile.FieldType.int) 8 157 [(0, .ref a0), (4, va_rf v4), (5, va_rf v5), (6, .int v6), (7, .int v7)] [] p0 (f_X1_passes_157 a0 k43 v4 v5 v6 v7 p0) := by
  unfold f_X1_passes_157
  refine x_iincB 4 (fun x19 => [(7, .int x19), (0, .ref a0), (4, va_rf v4), (5, va_rf v5), (6, .int v6)]) dX1_passes_157 rfl rfl (by decide) (fun _ => rfl) (n := 160) rfl (fun x19 => ?_)
  refine x_goto dX1_passes_160 (n := 43) (by decide) ?_
  refine x_sub [1, 2, 3, 4, 0] [(0, .ref a0), (4, va_rf v4), (5, va_rf v5), (6, .int v6), (7, .int x19)] rfl ?_
  exact hk43 v4 v5 v6 x19 p0
theorem f_X1_passes_154_ok {G : xG} (hO : xOK G) (a0 : Nat) {k43 : Option Nat × Option Nat × Int32 × Int32 × PH → Option (xO × PH)} (hk43 : ∀ (v4 : Option Nat) (v5 : Option Nat) (v6 : Int32) (v7 : Int32) (p0 : PH), X G "ForestLegs" "passes" cX1_passes 8 (Option.some Jvm.ClassFile.FieldType.int) 8 43 [(0, .ref a0), (4, va_rf v4), (5, va_rf v5), (6, .int v6), (7, .int v7)] [] p0 (k43 (v4, v5, v6, v7, p0))) (v4 : Option Nat) (v5 : Option Nat) (v7 : Int32) (w0 : Int32) (w1 : Int32) (p0 : PH) : X G "ForestLegs" "passes" cX1_passes 8 (Option.some Jvm.ClassFile.FieldType.int) 8 154 [(0, .ref a0), (4, va_rf v4), (5, va_rf v5), (7, .int v7)] [.int w1, .int w0] p0 (f_X1_passes_154 a0 k43 v4 v5 v7 w0 w1 p0) := by
  unfold f_X1_passes_154
  refine x_iadd dX1_passes_154 (n := 155) rfl ?_
  refine x_nm (fun x31 => ?_)
  refine x_istore [(6, .int x31), (0, .ref a0), (4, va_rf v4), (5, va_rf v5), (7, .int v7)] dX1_passes_155 (by decide) (by simp only [xst, List.filter_cons, List.filter_nil, xcat] <;> rfl) (n := 157) rfl ?_
  refine x_sub [1, 2, 3, 0, 4] [(0, .ref a0), (4, va_rf v4), (5, va_rf v5), (6, .int x31), (7, .int v7)] rfl ?_
  exact f_X1_passes_157_ok hO a0 hk43 v4 v5 x31 v7 p0
theorem f_X1_passes_153_ok {G : xG} (hO : xOK G) (a0 : Nat) {k43 : Option Nat × Option Nat × Int32 × Int32 × PH → Option (xO × PH)} (hk43 : ∀ (v4 : Option Nat) (v5 : Option Nat) (v6 : Int32) (v7 : Int32) (p0 : PH), X G "ForestLegs" "passes" cX1_passes 8 (Option.some Jvm.ClassFile.FieldType.int) 8 43 [(0, .ref a0), (4, va_rf v4), (5, va_rf v5), (6, .int v6), (7, .int v7)] [] p0 (k43 (v4, v5, v6, v7, p0))) (v4 : Option Nat) (v5 : Option Nat) (v7 : Int32) (w0 : Int32) (p0 : PH) : X G "ForestLegs" "passes" cX1_passes 8 (Option.some Jvm.ClassFile.FieldType.int) 8 153 [(0, .ref a0), (4, va_rf v4), (5, va_rf v5), (7, .int v7)] [.int w0] p0 (f_X1_passes_153 a0 k43 v4 v5 v7 w0 p0) := by
  unfold f_X1_passes_153
  refine x_iconst 0 dX1_passes_153 rfl (n := 154) rfl ?_
  exact f_X1_passes_154_ok hO a0 hk43 v4 v5 v7 w0 0 p0
theorem f_X1_passes_43F_ok {G : xG} (hO : xOK G) (a0 : Nat)  {k43 : Option Nat × Option Nat × Int32 × Int32 × PH → Option (xO × PH)} (hk43 : ∀ (v4 : Option Nat) (v5 : Option Nat) (v6 : Int32) (v7 : Int32) (p0 : PH), X G "ForestLegs" "passes" cX1_passes 8 (Option.some Jvm.ClassFile.FieldType.int) 8 43 [(0, .ref a0), (4, va_rf v4), (5, va_rf v5), (6, .int v6), (7, .int v7)] [] p0 (k43 (v4, v5, v6, v7, p0))) (v4 : Option Nat) (v5 : Option Nat) (v6 : Int32) (v7 : Int32) (p0 : PH) : X G "ForestLegs" "passes" cX1_passes 8 (Option.some Jvm.ClassFile.FieldType.int) 8 43 [(0, .ref a0), (4, va_rf v4), (5, va_rf v5), (6, .int v6), (7, .int v7)] [] p0 (f_X1_passes_43F a0 k43 (v4, v5, v6, v7, p0)) := by
  unfold f_X1_passes_43F
  refine x_iload 4 dX1_passes_43 rfl (n := 45) rfl ?_
  refine x_aload 1 dX1_passes_45 rfl (n := 47) rfl ?_
  refine x_sm (fun b11 e => ?_)
  subst e
  refine x_getR fl_X1_193 dX1_passes_47 (n := 50) rfl (fun x12 => ?_)
  refine x_sm (fun b13 e => ?_)
  subst e
  refine x_alen dX1_passes_50 (n := 51) rfl (fun x14 => ?_)
  refine x_icmp_gt dX1_passes_51 (t := 163) (by decide) (n := 54) rfl (fun _ => ?_) (fun _ => ?_)
  · refine x_aload_nr 0 dX1_passes_163 rfl rfl (n := 164) rfl ?_
    refine x_iload 3 dX1_passes_164 rfl (n := 166) rfl ?_
    refine x_callV_I [.int v6] [] (f_X1_fine_ok hO p0 a0 v6) rc_X1_fine md_X1_fine rfl q1480 q1482 qs26 dX1_passes_166 rfl rfl (by decide) (Nat.le_of_ble_eq_true rfl) (n := 169) rfl (fun x16 p15 => ?_)
    exact x_ireturn dX1_passes_169
  · refine x_aloadr 1 dX1_passes_54 rfl (n := 56) rfl ?_
    refine x_iload 4 dX1_passes_56 rfl (n := 58) rfl ?_
    refine x_iconst 1 dX1_passes_58 rfl (n := 59) rfl ?_
    refine x_isub dX1_passes_59 (n := 60) rfl ?_
    refine x_callV_I [.int (v7 - 1)] [] (f_X9_time_ok hO p0 b11 (v7 - 1)) rc_X9_time md_X9_time rfl q2354 q1751 q1752 dX1_passes_60 rfl rfl (by decide) (Nat.le_of_ble_eq_true rfl) (n := 63) rfl (fun x18 p17 => ?_)
    refine x_bipush (-2) dX1_passes_63 rfl (n := 65) rfl ?_
    refine x_icmp_eq dX1_passes_65 (t := 157) (by decide) (n := 68) rfl (fun _ => ?_) (fun _ => ?_)
    · exact f_X1_passes_157_ok hO a0 hk43 ((some b11)) v5 v6 v7 p17
    · refine x_aloadr 1 dX1_passes_68 rfl (n := 70) rfl ?_
      refine x_iload 4 dX1_passes_70 rfl (n := 72) rfl ?_
      refine x_callV_I [.int v7] [] (f_X9_time_ok hO p17 b11 v7) rc_X9_time md_X9_time rfl q2354 q1751 q1752 dX1_passes_72 rfl rfl (by decide) (Nat.le_of_ble_eq_true rfl) (n := 75) rfl (fun x21 p20 => ?_)
      refine x_bipush (-2) dX1_passes_75 rfl (n := 77) rfl ?_
      refine x_icmp_eq dX1_passes_77 (t := 157) (by decide) (n := 80) rfl (fun _ => ?_) (fun _ => ?_)
      · exact f_X1_passes_157_ok hO a0 hk43 ((some b11)) v5 v6 v7 p20
      · refine x_aload 2 dX1_passes_80 rfl (n := 82) rfl ?_
        refine x_iload 4 dX1_passes_82 rfl (n := 84) rfl ?_
        refine x_iconst 1 dX1_passes_84 rfl (n := 85) rfl ?_
        refine x_isub dX1_passes_85 (n := 86) rfl ?_
        refine x_sm (fun b22 e => ?_)
        subst e
        refine x_callV_I [.int (v7 - 1)] [] (f_X9_time_ok hO p20 b22 (v7 - 1)) rc_X9_time md_X9_time rfl q2354 q1751 q1752 dX1_passes_86 rfl rfl (by decide) (Nat.le_of_ble_eq_true rfl) (n := 89) rfl (fun x24 p23 => ?_)
        refine x_bipush (-2) dX1_passes_89 rfl (n := 91) rfl ?_
        refine x_icmp_eq dX1_passes_91 (t := 157) (by decide) (n := 94) rfl (fun _ => ?_) (fun _ => ?_)
        · exact f_X1_passes_157_ok hO a0 hk43 ((some b11)) ((some b22)) v6 v7 p23
        · refine x_aloadr 2 dX1_passes_94 rfl (n := 96) rfl ?_
          refine x_iload 4 dX1_passes_96 rfl (n := 98) rfl ?_
          refine x_callV_I [.int v7] [] (f_X9_time_ok hO p23 b22 v7) rc_X9_time md_X9_time rfl q2354 q1751 q1752 dX1_passes_98 rfl rfl (by decide) (Nat.le_of_ble_eq_true rfl) (n := 101) rfl (fun x26 p25 => ?_)
          refine x_bipush (-2) dX1_passes_101 rfl (n := 103) rfl ?_
          refine x_icmp_ne dX1_passes_103 (t := 109) (by decide) (n := 106) rfl (fun _ => ?_) (fun _ => ?_)
          · refine x_iload 3 dX1_passes_109 rfl (n := 111) rfl ?_
            refine x_aloadr 1 dX1_passes_111 rfl (n := 113) rfl ?_
            refine x_iload 4 dX1_passes_113 rfl (n := 115) rfl ?_
            refine x_iconst 1 dX1_passes_115 rfl (n := 116) rfl ?_
            refine x_isub dX1_passes_116 (n := 117) rfl ?_
            refine x_callV_I [.int (v7 - 1)] [.int v6] (f_X9_time_ok hO p25 b11 (v7 - 1)) rc_X9_time md_X9_time rfl q2354 q1751 q1752 dX1_passes_117 rfl rfl (by decide) (Nat.le_of_ble_eq_true rfl) (n := 120) rfl (fun x28 p27 => ?_)
            refine x_aloadr 2 dX1_passes_120 rfl (n := 122) rfl ?_
            refine x_iload 4 dX1_passes_122 rfl (n := 124) rfl ?_
            refine x_iconst 1 dX1_passes_124 rfl (n := 125) rfl ?_
            refine x_isub dX1_passes_125 (n := 126) rfl ?_
            refine x_callV_I [.int (v7 - 1)] [.int x28, .int v6] (f_X9_time_ok hO p27 b22 (v7 - 1)) rc_X9_time md_X9_time rfl q2354 q1751 q1752 dX1_passes_126 rfl rfl (by decide) (Nat.le_of_ble_eq_true rfl) (n := 129) rfl (fun x30 p29 => ?_)
            refine x_icmp_le dX1_passes_129 (t := 153) (by decide) (n := 132) rfl (fun _ => ?_) (fun _ => ?_)
            · refine x_sub [0, 1, 2, 4] [(0, .ref a0), (4, .ref b11), (5, .ref b22), (7, .int v7)] rfl ?_
              exact f_X1_passes_153_ok hO a0 hk43 ((some b11)) ((some b22)) v7 v6 p29
            · refine x_aloadr 1 dX1_passes_132 rfl (n := 134) rfl ?_
              refine x_iload 4 dX1_passes_134 rfl (n := 136) rfl ?_
              refine x_callV_I [.int v7] [.int v6] (f_X9_time_ok hO p29 b11 v7) rc_X9_time md_X9_time rfl q2354 q1751 q1752 dX1_passes_136 rfl rfl (by decide) (Nat.le_of_ble_eq_true rfl) (n := 139) rfl (fun x33 p32 => ?_)
              refine x_aloadr 2 dX1_passes_139 rfl (n := 141) rfl ?_
              refine x_iload 4 dX1_passes_141 rfl (n := 143) rfl ?_
              refine x_callV_I [.int v7] [.int x33, .int v6] (f_X9_time_ok hO p32 b22 v7) rc_X9_time md_X9_time rfl q2354 q1751 q1752 dX1_passes_143 rfl rfl (by decide) (Nat.le_of_ble_eq_true rfl) (n := 146) rfl (fun x35 p34 => ?_)
              refine x_icmp_ge dX1_passes_146 (t := 153) (by decide) (n := 149) rfl (fun _ => ?_) (fun _ => ?_)
              · refine x_sub [0, 1, 2, 4] [(0, .ref a0), (4, .ref b11), (5, .ref b22), (7, .int v7)] rfl ?_
                exact f_X1_passes_153_ok hO a0 hk43 ((some b11)) ((some b22)) v7 v6 p34
              · refine x_iconst 1 dX1_passes_149 rfl (n := 150) rfl ?_
                refine x_goto dX1_passes_150 (n := 154) (by decide) ?_
                refine x_sub [0, 1, 2, 4] [(0, .ref a0), (4, .ref b11), (5, .ref b22), (7, .int v7)] rfl ?_
                exact f_X1_passes_154_ok hO a0 hk43 ((some b11)) ((some b22)) v7 v6 1 p34
          · refine x_goto dX1_passes_106 (n := 157) (by decide) ?_
            exact f_X1_passes_157_ok hO a0 hk43 ((some b11)) ((some b22)) v6 v7 p25
theorem f_X1_passes_43_lp {G : xG} (hO : xOK G) (a0 : Nat)  (n : Nat) (v4 : Option Nat) (v5 : Option Nat) (v6 : Int32) (v7 : Int32) (p0 : PH) : X G "ForestLegs" "passes" cX1_passes 8 (Option.some Jvm.ClassFile.FieldType.int) 8 43 [(0, .ref a0), (4, va_rf v4), (5, va_rf v5), (6, .int v6), (7, .int v7)] [] p0 (lp (f_X1_passes_43F a0) n (v4, v5, v6, v7, p0)) :=
  lp_ok (W := fun p K => X G "ForestLegs" "passes" cX1_passes 8 (Option.some Jvm.ClassFile.FieldType.int) 8 43 [(0, .ref a0), (4, va_rf p.1), (5, va_rf p.2.1), (6, .int p.2.2.1), (7, .int p.2.2.2.1)] [] p.2.2.2.2 K) (fun _ => x_no) (fun k hk => fun (v4, v5, v6, v7, p0) => f_X1_passes_43F_ok hO a0 (fun v4 v5 v6 v7 p0 => hk (v4, v5, v6, v7, p0)) v4 v5 v6 v7 p0) n (v4, v5, v6, v7, p0)
theorem f_X1_passes_ok {G : xG} (hO : xOK G) (p0 : PH) (a0 : Nat) (a1 : Int32) (a2 : Int32) : CT G 8 yX1_passes cX1_passes 8 (Option.some Jvm.ClassFile.FieldType.int) [.ref a0, .int a1, .int a2] p0 (f_X1_passes p0 a0 a1 a2) := by
  refine CT_of hO (by decide +kernel) (by decide +kernel) (Nat.le_of_ble_eq_true rfl) ?_
  show X G "ForestLegs" "passes" cX1_passes 8 (Option.some Jvm.ClassFile.FieldType.int) 8 0 [(0, .ref a0), (1, .int a1), (2, .int a2)] [] p0 (f_X1_passes p0 a0 a1 a2)
  refine x_cl1 (fun e0 => ?_)
  refine x_aload_nr 0 dX1_passes_0 rfl rfl (n := 1) rfl ?_
  refine x_iload_n 1 dX1_passes_1 rfl rfl (n := 2) rfl ?_
  refine x_iload_n 2 dX1_passes_2 rfl rfl (n := 3) rfl ?_
  refine x_callV_I [.int a1, .int a2] [] (f_X1_whyNot_ok hO p0 a0 a1 a2) rc_X1_whyNot md_X1_whyNot rfl q2334 q2336 qs49 dX1_passes_3 rfl rfl (by decide) (Nat.le_of_ble_eq_true rfl) (n := 6) rfl (fun x2 p1 => ?_)
  refine x_istore_n [(3, .int x2), (0, .ref a0), (1, .int a1), (2, .int a2)] dX1_passes_6 rfl (by decide) rfl (n := 7) rfl ?_
  refine x_iload_n 0 dX1_passes_7 rfl rfl (n := 8) rfl ?_
  refine x_if_le dX1_passes_8 (t := 17) (by decide) (n := 11) rfl (fun _ => ?_) (fun _ => ?_)
  · refine x_aload_nr 1 dX1_passes_17 rfl rfl (n := 18) rfl ?_
    refine x_getR fl_X1_56 dX1_passes_18 (n := 21) rfl (fun x3 => ?_)
    refine x_iload_n 2 dX1_passes_21 rfl rfl (n := 22) rfl ?_
    refine x_sm (fun b4 e => ?_)
    subst e
    refine x_callV_R [.int a1] [] (f_X4_match_ok hO p1 b4 a1) rc_X4_match md_X4_match rfl q1784 q1504 q1505 dX1_passes_22 rfl rfl (by decide) (Nat.le_of_ble_eq_true rfl) (n := 25) rfl (fun x6 p5 => ?_)
    refine x_astore [(4, va_rf x6), (3, .int x2), (0, .ref a0), (1, .int a1), (2, .int a2)] dX1_passes_25 (by decide) rfl (n := 27) rfl ?_
    refine x_aload_nr 2 dX1_passes_27 rfl rfl (n := 28) rfl ?_
    refine x_getR fl_X1_56 dX1_passes_28 (n := 31) rfl (fun x7 => ?_)
    refine x_iload_n 4 dX1_passes_31 rfl rfl (n := 32) rfl ?_
    refine x_sm (fun b8 e => ?_)
    subst e
    refine x_callV_R [.int a2] [] (f_X4_match_ok hO p5 b8 a2) rc_X4_match md_X4_match rfl q1784 q1504 q1505 dX1_passes_32 rfl rfl (by decide) (Nat.le_of_ble_eq_true rfl) (n := 35) rfl (fun x10 p9 => ?_)
    refine x_astore [(5, va_rf x10), (4, va_rf x6), (3, .int x2), (0, .ref a0), (1, .int a1), (2, .int a2)] dX1_passes_35 (by decide) (by simp only [xst, List.filter_cons, List.filter_nil, xcat] <;> rfl) (n := 37) rfl ?_
    refine x_iconst 0 dX1_passes_37 rfl (n := 38) rfl ?_
    refine x_istore [(6, .int 0), (5, va_rf x10), (4, va_rf x6), (3, .int x2), (0, .ref a0), (1, .int a1), (2, .int a2)] dX1_passes_38 (by decide) (by simp only [xst, List.filter_cons, List.filter_nil, xcat] <;> rfl) (n := 40) rfl ?_
    refine x_iconst 1 dX1_passes_40 rfl (n := 41) rfl ?_
    refine x_istore [(7, .int 1), (6, .int 0), (5, va_rf x10), (4, va_rf x6), (3, .int x2), (0, .ref a0), (1, .int a1), (2, .int a2)] dX1_passes_41 (by decide) rfl (n := 43) rfl ?_
    refine x_sub [5, 3, 2, 1, 0] [(0, .ref a0), (4, va_rf x6), (5, va_rf x10), (6, .int 0), (7, .int 1)] rfl ?_
    exact f_X1_passes_43_lp hO a0 FU x6 x10 0 1 p9
  · refine x_aload_nr 1 dX1_passes_11 rfl rfl (n := 12) rfl ?_
    refine x_iload_n 0 dX1_passes_12 rfl rfl (n := 13) rfl ?_
    refine x_callV_I [.int x2] [] (f_X1_refused_ok hO p1 a0 x2) rc_X1_refused md_X1_refused rfl q250 q252 qs0 dX1_passes_13 rfl rfl (by decide) (Nat.le_of_ble_eq_true rfl) (n := 16) rfl (fun x37 p36 => ?_)
    exact x_ireturn dX1_passes_16
