set_option maxRecDepth 100000
set_option maxHeartbeats 4000000
abbrev cX2_leads : ByteArray := prog_14_method_69_code
def yX2_leads : MethodName := ⟨RX2, "leads", "(II)I"⟩
def dkwX2_leads_1 : List UInt8 := [182, 0, 227, 172]
abbrev dktX2_leads_1 : List UInt8 := dkwX2_leads_1 ++ []
def dkwX2_leads_0 : List UInt8 := [42, 42, 27, 28, 182, 0, 190, 184, 0, 234, 182, 0, 161, 153, 0, 7, 2, 167, 0, 10, 42, 27, 28, 3]
abbrev dktX2_leads_0 : List UInt8 := dkwX2_leads_0 ++ dktX2_leads_1
theorem dksX2_leads_0 : cX2_leads.data.toList.drop 0 = dktX2_leads_0 := by decide +kernel
theorem dksX2_leads_1 : cX2_leads.data.toList.drop 24 = dktX2_leads_1 := dk_seg dksX2_leads_0 24 rfl rfl
theorem dX2_leads_0 : decode cX2_leads 0 = .ok (.aload_n 0, 1) := dk_42 (dk_at dksX2_leads_0 0 rfl rfl)
theorem dX2_leads_1 : decode cX2_leads 1 = .ok (.aload_n 0, 1) := dk_42 (dk_at dksX2_leads_0 1 rfl rfl)
theorem dX2_leads_2 : decode cX2_leads 2 = .ok (.iload_n 1, 1) := dk_27 (dk_at dksX2_leads_0 2 rfl rfl)
theorem dX2_leads_3 : decode cX2_leads 3 = .ok (.iload_n 2, 1) := dk_28 (dk_at dksX2_leads_0 3 rfl rfl)
theorem dX2_leads_4 : decode cX2_leads 4 = .ok (.invokevirtual 190, 3) := dk_182 0 190 (dk_at dksX2_leads_0 4 rfl rfl)
theorem dX2_leads_7 : decode cX2_leads 7 = .ok (.invokestatic 234, 3) := dk_184 0 234 (dk_at dksX2_leads_0 7 rfl rfl)
theorem dX2_leads_10 : decode cX2_leads 10 = .ok (.invokevirtual 161, 3) := dk_182 0 161 (dk_at dksX2_leads_0 10 rfl rfl)
theorem dX2_leads_13 : decode cX2_leads 13 = .ok (.ifCond .eq 7, 3) := dk_153 0 7 (dk_at dksX2_leads_0 13 rfl rfl)
theorem dX2_leads_16 : decode cX2_leads 16 = .ok (.iconst (-1), 1) := dk_2 (dk_at dksX2_leads_0 16 rfl rfl)
theorem dX2_leads_17 : decode cX2_leads 17 = .ok (.goto 10, 3) := dk_167 0 10 (dk_at dksX2_leads_0 17 rfl rfl)
theorem dX2_leads_20 : decode cX2_leads 20 = .ok (.aload_n 0, 1) := dk_42 (dk_at dksX2_leads_0 20 rfl rfl)
theorem dX2_leads_21 : decode cX2_leads 21 = .ok (.iload_n 1, 1) := dk_27 (dk_at dksX2_leads_0 21 rfl rfl)
theorem dX2_leads_22 : decode cX2_leads 22 = .ok (.iload_n 2, 1) := dk_28 (dk_at dksX2_leads_0 22 rfl rfl)
theorem dX2_leads_23 : decode cX2_leads 23 = .ok (.iconst 0, 1) := dk_3 (dk_at dksX2_leads_0 23 rfl rfl)
theorem dX2_leads_24 : decode cX2_leads 24 = .ok (.invokevirtual 227, 3) := dk_182 0 227 (dk_at dksX2_leads_1 0 rfl rfl)
theorem dX2_leads_27 : decode cX2_leads 27 = .ok (.ireturn, 1) := dk_172 (dk_at dksX2_leads_1 3 rfl rfl)
theorem md_X2_leads : xMd yX2_leads cX2_leads 3 (Option.some Jvm.ClassFile.FieldType.int) 2 := ⟨q3282, q126, by decide, by decide +kernel, by decide +kernel, by decide +kernel⟩
def T_leads (s0 : TS) (a1 : Int32) (a2 : Int32) : Option (xO × TS) :=
  (xcI (T_isPoint s0 a1 a2) fun x2 s1 =>
  (xcI (T_unless_2 s1 x2) fun x4 s3 =>
  (xcI (T_isRefused s3 x4) fun x6 s5 =>
  (if x6 = 0 then
  (xcI (T_bestRunner s5 a1 a2 0) fun x8 s7 =>
  (rI x8 s7)) else
  (rI (-1) s5)))))
theorem T_leads_ok {G : xG} {E : TE} (hO : xOK G) (hE : tok E) (s0 : TS) (a1 : Int32) (a2 : Int32) : CTT G E 6 yX2_leads cX2_leads 3 (Option.some Jvm.ClassFile.FieldType.int) [.ref E.2.1, .int a1, .int a2] s0 (T_leads s0 a1 a2) := by
  refine CT_of hO (by decide +kernel) (by decide +kernel) (Nat.le_of_ble_eq_true rfl) ?_
  show XT G E "ForestLegsModel" "leads" cX2_leads 3 (Option.some Jvm.ClassFile.FieldType.int) 6 0 [(0, .ref E.2.1), (1, .int a1), (2, .int a2)] [] s0 (T_leads s0 a1 a2)
  refine x_aload_nr 0 dX2_leads_0 rfl rfl (n := 1) rfl ?_
  refine x_aload_nr 0 dX2_leads_1 rfl rfl (n := 2) rfl ?_
  refine x_iload_n 1 dX2_leads_2 rfl rfl (n := 3) rfl ?_
  refine x_iload_n 2 dX2_leads_3 rfl rfl (n := 4) rfl ?_
  refine tw_callV_I [.int a1, .int a2] [.ref E.2.1] (T_isPoint_ok hO hE s0 a1 a2) md_X2_isPoint q3251 q3253 qs103 dX2_leads_4 rfl rfl (by decide) (Nat.le_of_ble_eq_true rfl) (n := 7) rfl (fun x2 s1 => ?_)
  refine tw_callS_I [.int x2] [.ref E.2.1] (T_unless_2_ok hO hE s1 x2) md_X2_unless_2 q3121 q3122 dX2_leads_7 rfl rfl (by decide) (Nat.le_of_ble_eq_true rfl) (n := 10) rfl (fun x4 s3 => ?_)
  refine tw_callV_I [.int x4] [] (T_isRefused_ok hO hE s3 x4) md_X2_isRefused q3022 q3024 qs63 dX2_leads_10 rfl rfl (by decide) (Nat.le_of_ble_eq_true rfl) (n := 13) rfl (fun x6 s5 => ?_)
  refine tw_if_eq dX2_leads_13 (t := 20) (by decide) (n := 16) rfl ?_ ?_
  · refine x_aload_nr 0 dX2_leads_20 rfl rfl (n := 21) rfl ?_
    refine x_iload_n 1 dX2_leads_21 rfl rfl (n := 22) rfl ?_
    refine x_iload_n 2 dX2_leads_22 rfl rfl (n := 23) rfl ?_
    refine x_iconst 0 dX2_leads_23 rfl (n := 24) rfl ?_
    refine tw_callV_I [.int a1, .int a2, .int 0] [] (T_bestRunner_ok hO hE s5 a1 a2 0) md_X2_bestRunner q3175 q3177 qs91 dX2_leads_24 rfl rfl (by decide) (Nat.le_of_ble_eq_true rfl) (n := 27) rfl (fun x8 s7 => ?_)
    exact tw_ireturn dX2_leads_27
  · refine x_iconst (-1) dX2_leads_16 rfl (n := 17) rfl ?_
    refine x_goto dX2_leads_17 (n := 27) (by decide) ?_
    exact tw_ireturn dX2_leads_27
abbrev cX2_changes : ByteArray := prog_14_method_70_code
def yX2_changes : MethodName := ⟨RX2, "changes", "(I)I"⟩
def dkwX2_changes_3 : List UInt8 := [21, 5, 159, 0, 7, 4, 167, 0, 4, 3, 96, 61, 132, 3, 1, 167, 255, 192, 28, 172]
abbrev dktX2_changes_3 : List UInt8 := dkwX2_changes_3 ++ []
def dkwX2_changes_2 : List UInt8 := [3, 182, 0, 227, 54, 5, 28, 21, 4, 16, 254, 159, 0, 21, 21, 5, 16, 254, 159, 0, 14, 21, 4]
abbrev dktX2_changes_2 : List UInt8 := dkwX2_changes_2 ++ dktX2_changes_3
def dkwX2_changes_1 : List UInt8 := [180, 0, 17, 7, 27, 96, 46, 163, 0, 58, 42, 27, 29, 4, 100, 3, 182, 0, 227, 54, 4, 42, 27, 29]
abbrev dktX2_changes_1 : List UInt8 := dkwX2_changes_1 ++ dktX2_changes_2
def dkwX2_changes_0 : List UInt8 := [42, 42, 27, 182, 0, 184, 184, 0, 234, 182, 0, 161, 153, 0, 5, 2, 172, 3, 61, 4, 62, 29, 42]
abbrev dktX2_changes_0 : List UInt8 := dkwX2_changes_0 ++ dktX2_changes_1
theorem dksX2_changes_0 : cX2_changes.data.toList.drop 0 = dktX2_changes_0 := by decide +kernel
theorem dksX2_changes_1 : cX2_changes.data.toList.drop 23 = dktX2_changes_1 := dk_seg dksX2_changes_0 23 rfl rfl
theorem dksX2_changes_2 : cX2_changes.data.toList.drop 47 = dktX2_changes_2 := dk_seg dksX2_changes_1 24 rfl rfl
theorem dksX2_changes_3 : cX2_changes.data.toList.drop 70 = dktX2_changes_3 := dk_seg dksX2_changes_2 23 rfl rfl
theorem dX2_changes_0 : decode cX2_changes 0 = .ok (.aload_n 0, 1) := dk_42 (dk_at dksX2_changes_0 0 rfl rfl)
theorem dX2_changes_1 : decode cX2_changes 1 = .ok (.aload_n 0, 1) := dk_42 (dk_at dksX2_changes_0 1 rfl rfl)
theorem dX2_changes_2 : decode cX2_changes 2 = .ok (.iload_n 1, 1) := dk_27 (dk_at dksX2_changes_0 2 rfl rfl)
theorem dX2_changes_3 : decode cX2_changes 3 = .ok (.invokevirtual 184, 3) := dk_182 0 184 (dk_at dksX2_changes_0 3 rfl rfl)
theorem dX2_changes_6 : decode cX2_changes 6 = .ok (.invokestatic 234, 3) := dk_184 0 234 (dk_at dksX2_changes_0 6 rfl rfl)
theorem dX2_changes_9 : decode cX2_changes 9 = .ok (.invokevirtual 161, 3) := dk_182 0 161 (dk_at dksX2_changes_0 9 rfl rfl)
theorem dX2_changes_12 : decode cX2_changes 12 = .ok (.ifCond .eq 5, 3) := dk_153 0 5 (dk_at dksX2_changes_0 12 rfl rfl)
theorem dX2_changes_15 : decode cX2_changes 15 = .ok (.iconst (-1), 1) := dk_2 (dk_at dksX2_changes_0 15 rfl rfl)
theorem dX2_changes_16 : decode cX2_changes 16 = .ok (.ireturn, 1) := dk_172 (dk_at dksX2_changes_0 16 rfl rfl)
theorem dX2_changes_17 : decode cX2_changes 17 = .ok (.iconst 0, 1) := dk_3 (dk_at dksX2_changes_0 17 rfl rfl)
theorem dX2_changes_18 : decode cX2_changes 18 = .ok (.istore_n 2, 1) := dk_61 (dk_at dksX2_changes_0 18 rfl rfl)
theorem dX2_changes_19 : decode cX2_changes 19 = .ok (.iconst 1, 1) := dk_4 (dk_at dksX2_changes_0 19 rfl rfl)
theorem dX2_changes_20 : decode cX2_changes 20 = .ok (.istore_n 3, 1) := dk_62 (dk_at dksX2_changes_0 20 rfl rfl)
theorem dX2_changes_21 : decode cX2_changes 21 = .ok (.iload_n 3, 1) := dk_29 (dk_at dksX2_changes_0 21 rfl rfl)
theorem dX2_changes_22 : decode cX2_changes 22 = .ok (.aload_n 0, 1) := dk_42 (dk_at dksX2_changes_0 22 rfl rfl)
theorem dX2_changes_23 : decode cX2_changes 23 = .ok (.getfield 17, 3) := dk_180 0 17 (dk_at dksX2_changes_1 0 rfl rfl)
theorem dX2_changes_26 : decode cX2_changes 26 = .ok (.iconst 4, 1) := dk_7 (dk_at dksX2_changes_1 3 rfl rfl)
theorem dX2_changes_27 : decode cX2_changes 27 = .ok (.iload_n 1, 1) := dk_27 (dk_at dksX2_changes_1 4 rfl rfl)
theorem dX2_changes_28 : decode cX2_changes 28 = .ok (.iadd, 1) := dk_96 (dk_at dksX2_changes_1 5 rfl rfl)
theorem dX2_changes_29 : decode cX2_changes 29 = .ok (.iaload, 1) := dk_46 (dk_at dksX2_changes_1 6 rfl rfl)
theorem dX2_changes_30 : decode cX2_changes 30 = .ok (.if_icmp .gt 58, 3) := dk_163 0 58 (dk_at dksX2_changes_1 7 rfl rfl)
theorem dX2_changes_33 : decode cX2_changes 33 = .ok (.aload_n 0, 1) := dk_42 (dk_at dksX2_changes_1 10 rfl rfl)
theorem dX2_changes_34 : decode cX2_changes 34 = .ok (.iload_n 1, 1) := dk_27 (dk_at dksX2_changes_1 11 rfl rfl)
theorem dX2_changes_35 : decode cX2_changes 35 = .ok (.iload_n 3, 1) := dk_29 (dk_at dksX2_changes_1 12 rfl rfl)
theorem dX2_changes_36 : decode cX2_changes 36 = .ok (.iconst 1, 1) := dk_4 (dk_at dksX2_changes_1 13 rfl rfl)
theorem dX2_changes_37 : decode cX2_changes 37 = .ok (.isub, 1) := dk_100 (dk_at dksX2_changes_1 14 rfl rfl)
theorem dX2_changes_38 : decode cX2_changes 38 = .ok (.iconst 0, 1) := dk_3 (dk_at dksX2_changes_1 15 rfl rfl)
theorem dX2_changes_39 : decode cX2_changes 39 = .ok (.invokevirtual 227, 3) := dk_182 0 227 (dk_at dksX2_changes_1 16 rfl rfl)
theorem dX2_changes_42 : decode cX2_changes 42 = .ok (.istore 4, 2) := dk_54 4 (dk_at dksX2_changes_1 19 rfl rfl)
theorem dX2_changes_44 : decode cX2_changes 44 = .ok (.aload_n 0, 1) := dk_42 (dk_at dksX2_changes_1 21 rfl rfl)
theorem dX2_changes_45 : decode cX2_changes 45 = .ok (.iload_n 1, 1) := dk_27 (dk_at dksX2_changes_1 22 rfl rfl)
theorem dX2_changes_46 : decode cX2_changes 46 = .ok (.iload_n 3, 1) := dk_29 (dk_at dksX2_changes_1 23 rfl rfl)
theorem dX2_changes_47 : decode cX2_changes 47 = .ok (.iconst 0, 1) := dk_3 (dk_at dksX2_changes_2 0 rfl rfl)
theorem dX2_changes_48 : decode cX2_changes 48 = .ok (.invokevirtual 227, 3) := dk_182 0 227 (dk_at dksX2_changes_2 1 rfl rfl)
theorem dX2_changes_51 : decode cX2_changes 51 = .ok (.istore 5, 2) := dk_54 5 (dk_at dksX2_changes_2 4 rfl rfl)
theorem dX2_changes_53 : decode cX2_changes 53 = .ok (.iload_n 2, 1) := dk_28 (dk_at dksX2_changes_2 6 rfl rfl)
theorem dX2_changes_54 : decode cX2_changes 54 = .ok (.iload 4, 2) := dk_21 4 (dk_at dksX2_changes_2 7 rfl rfl)
theorem dX2_changes_56 : decode cX2_changes 56 = .ok (.bipush (-2), 2) := dk_16 254 (dk_at dksX2_changes_2 9 rfl rfl)
theorem dX2_changes_58 : decode cX2_changes 58 = .ok (.if_icmp .eq 21, 3) := dk_159 0 21 (dk_at dksX2_changes_2 11 rfl rfl)
theorem dX2_changes_61 : decode cX2_changes 61 = .ok (.iload 5, 2) := dk_21 5 (dk_at dksX2_changes_2 14 rfl rfl)
theorem dX2_changes_63 : decode cX2_changes 63 = .ok (.bipush (-2), 2) := dk_16 254 (dk_at dksX2_changes_2 16 rfl rfl)
theorem dX2_changes_65 : decode cX2_changes 65 = .ok (.if_icmp .eq 14, 3) := dk_159 0 14 (dk_at dksX2_changes_2 18 rfl rfl)
theorem dX2_changes_68 : decode cX2_changes 68 = .ok (.iload 4, 2) := dk_21 4 (dk_at dksX2_changes_2 21 rfl rfl)
theorem dX2_changes_70 : decode cX2_changes 70 = .ok (.iload 5, 2) := dk_21 5 (dk_at dksX2_changes_3 0 rfl rfl)
theorem dX2_changes_72 : decode cX2_changes 72 = .ok (.if_icmp .eq 7, 3) := dk_159 0 7 (dk_at dksX2_changes_3 2 rfl rfl)
theorem dX2_changes_75 : decode cX2_changes 75 = .ok (.iconst 1, 1) := dk_4 (dk_at dksX2_changes_3 5 rfl rfl)
theorem dX2_changes_76 : decode cX2_changes 76 = .ok (.goto 4, 3) := dk_167 0 4 (dk_at dksX2_changes_3 6 rfl rfl)
theorem dX2_changes_79 : decode cX2_changes 79 = .ok (.iconst 0, 1) := dk_3 (dk_at dksX2_changes_3 9 rfl rfl)
theorem dX2_changes_80 : decode cX2_changes 80 = .ok (.iadd, 1) := dk_96 (dk_at dksX2_changes_3 10 rfl rfl)
theorem dX2_changes_81 : decode cX2_changes 81 = .ok (.istore_n 2, 1) := dk_61 (dk_at dksX2_changes_3 11 rfl rfl)
theorem dX2_changes_82 : decode cX2_changes 82 = .ok (.iinc 3 1, 3) := dk_132 3 1 (dk_at dksX2_changes_3 12 rfl rfl)
theorem dX2_changes_85 : decode cX2_changes 85 = .ok (.goto (-64), 3) := dk_167 255 192 (dk_at dksX2_changes_3 15 rfl rfl)
theorem dX2_changes_88 : decode cX2_changes 88 = .ok (.iload_n 2, 1) := dk_28 (dk_at dksX2_changes_3 18 rfl rfl)
theorem dX2_changes_89 : decode cX2_changes 89 = .ok (.ireturn, 1) := dk_172 (dk_at dksX2_changes_3 19 rfl rfl)
theorem md_X2_changes : xMd yX2_changes cX2_changes 6 (Option.some Jvm.ClassFile.FieldType.int) 1 := ⟨q3286, q126, by decide, by decide +kernel, by decide +kernel, by decide +kernel⟩
def T_changes_80  (k21 : Int32 × Int32 × Int32 × TS → Option (xO × TS)) (v1 : Int32) (v3 : Int32) (w0 : Int32) (w1 : Int32) (s0 : TS) : Option (xO × TS) :=
  (bnd (w0 + w1) fun x12 =>
  (bnd (v3 + 1) fun x13 =>
  (k21 (v1, x12, x13, s0))))
def T_changes_79  (k21 : Int32 × Int32 × Int32 × TS → Option (xO × TS)) (v1 : Int32) (v3 : Int32) (w0 : Int32) (s0 : TS) : Option (xO × TS) :=
  (T_changes_80 k21 v1 v3 w0 0 s0)
def T_changes_21F   (k21 : Int32 × Int32 × Int32 × TS → Option (xO × TS)) (p : Int32 × Int32 × Int32 × TS) : Option (xO × TS) := match p with
  | (v1, v2, v3, s0) => (tald s0 7 (4 + v1) fun x7 =>
  (if x7 < v3 then
  (rI v2 s0) else
  (xcI (T_bestRunner s0 v1 (v3 - 1) 0) fun x9 s8 =>
  (xcI (T_bestRunner s8 v1 v3 0) fun x11 s10 =>
  (if x9 = (-2) then
  (T_changes_79 k21 v1 v3 v2 s10) else
  (if x11 = (-2) then
  (T_changes_79 k21 v1 v3 v2 s10) else
  (if x9 = x11 then
  (T_changes_79 k21 v1 v3 v2 s10) else
  (T_changes_80 k21 v1 v3 v2 1 s10))))))))
def T_changes (s0 : TS) (a1 : Int32) : Option (xO × TS) :=
  (xcI (T_isCourse s0 a1) fun x2 s1 =>
  (xcI (T_unless_2 s1 x2) fun x4 s3 =>
  (xcI (T_isRefused s3 x4) fun x6 s5 =>
  (if x6 = 0 then
  (lp (T_changes_21F) FU (a1, 0, 1, s5)) else
  (rI (-1) s5)))))
theorem T_changes_80_ok {G : xG} {E : TE} (hO : xOK G) (hE : tok E)  {k21 : Int32 × Int32 × Int32 × TS → Option (xO × TS)} (hk21 : ∀ (v1 : Int32) (v2 : Int32) (v3 : Int32) (s0 : TS), XT G E "ForestLegsModel" "changes" cX2_changes 6 (Option.some Jvm.ClassFile.FieldType.int) 6 21 [(0, .ref E.2.1), (1, .int v1), (2, .int v2), (3, .int v3)] [] s0 (k21 (v1, v2, v3, s0))) (v1 : Int32) (v3 : Int32) (w0 : Int32) (w1 : Int32) (s0 : TS) : XT G E "ForestLegsModel" "changes" cX2_changes 6 (Option.some Jvm.ClassFile.FieldType.int) 6 80 [(0, .ref E.2.1), (1, .int v1), (3, .int v3)] [.int w1, .int w0] s0 (T_changes_80 k21 v1 v3 w0 w1 s0) := by
  unfold T_changes_80
  refine x_iadd dX2_changes_80 (n := 81) rfl ?_
  refine tw_nm (fun x12 => ?_)
  refine x_istore_n [(2, .int x12), (0, .ref E.2.1), (1, .int v1), (3, .int v3)] dX2_changes_81 rfl (by decide) rfl (n := 82) rfl ?_
  refine tw_iinc 3 (fun x13 => [(3, .int x13), (2, .int x12), (0, .ref E.2.1), (1, .int v1)]) dX2_changes_82 rfl rfl (by decide) (fun _ => rfl) (n := 85) rfl (fun x13 => ?_)
  refine x_goto dX2_changes_85 (n := 21) (by decide) ?_
  refine x_sub [2, 3, 1, 0] [(0, .ref E.2.1), (1, .int v1), (2, .int x12), (3, .int x13)] rfl ?_
  exact hk21 v1 x12 x13 s0
theorem T_changes_79_ok {G : xG} {E : TE} (hO : xOK G) (hE : tok E)  {k21 : Int32 × Int32 × Int32 × TS → Option (xO × TS)} (hk21 : ∀ (v1 : Int32) (v2 : Int32) (v3 : Int32) (s0 : TS), XT G E "ForestLegsModel" "changes" cX2_changes 6 (Option.some Jvm.ClassFile.FieldType.int) 6 21 [(0, .ref E.2.1), (1, .int v1), (2, .int v2), (3, .int v3)] [] s0 (k21 (v1, v2, v3, s0))) (v1 : Int32) (v3 : Int32) (w0 : Int32) (s0 : TS) : XT G E "ForestLegsModel" "changes" cX2_changes 6 (Option.some Jvm.ClassFile.FieldType.int) 6 79 [(0, .ref E.2.1), (1, .int v1), (3, .int v3)] [.int w0] s0 (T_changes_79 k21 v1 v3 w0 s0) := by
  unfold T_changes_79
  refine x_iconst 0 dX2_changes_79 rfl (n := 80) rfl ?_
  exact T_changes_80_ok hO hE hk21 v1 v3 w0 0 s0
theorem T_changes_21F_ok {G : xG} {E : TE} (hO : xOK G) (hE : tok E)   {k21 : Int32 × Int32 × Int32 × TS → Option (xO × TS)} (hk21 : ∀ (v1 : Int32) (v2 : Int32) (v3 : Int32) (s0 : TS), XT G E "ForestLegsModel" "changes" cX2_changes 6 (Option.some Jvm.ClassFile.FieldType.int) 6 21 [(0, .ref E.2.1), (1, .int v1), (2, .int v2), (3, .int v3)] [] s0 (k21 (v1, v2, v3, s0))) (v1 : Int32) (v2 : Int32) (v3 : Int32) (s0 : TS) : XT G E "ForestLegsModel" "changes" cX2_changes 6 (Option.some Jvm.ClassFile.FieldType.int) 6 21 [(0, .ref E.2.1), (1, .int v1), (2, .int v2), (3, .int v3)] [] s0 (T_changes_21F k21 (v1, v2, v3, s0)) := by
  unfold T_changes_21F
  refine x_iload_n 3 dX2_changes_21 rfl rfl (n := 22) rfl ?_
  refine x_aload_nr 0 dX2_changes_22 rfl rfl (n := 23) rfl ?_
  refine tw_getA fl_X2_17 rfl (by decide) dX2_changes_23 (n := 26) rfl ?_
  refine x_iconst 4 dX2_changes_26 rfl (n := 27) rfl ?_
  refine x_iload_n 1 dX2_changes_27 rfl rfl (n := 28) rfl ?_
  refine x_iadd dX2_changes_28 (n := 29) rfl ?_
  refine tw_iald hE (by decide) dX2_changes_29 (n := 30) rfl (fun x7 => ?_)
  refine tw_icmp_gt dX2_changes_30 (t := 88) (by decide) (n := 33) rfl ?_ ?_
  · refine x_iload_n 2 dX2_changes_88 rfl rfl (n := 89) rfl ?_
    exact tw_ireturn dX2_changes_89
  · refine x_aload_nr 0 dX2_changes_33 rfl rfl (n := 34) rfl ?_
    refine x_iload_n 1 dX2_changes_34 rfl rfl (n := 35) rfl ?_
    refine x_iload_n 3 dX2_changes_35 rfl rfl (n := 36) rfl ?_
    refine x_iconst 1 dX2_changes_36 rfl (n := 37) rfl ?_
    refine x_isub dX2_changes_37 (n := 38) rfl ?_
    refine x_iconst 0 dX2_changes_38 rfl (n := 39) rfl ?_
    refine tw_callV_I [.int v1, .int (v3 - 1), .int 0] [] (T_bestRunner_ok hO hE s0 v1 (v3 - 1) 0) md_X2_bestRunner q3175 q3177 qs91 dX2_changes_39 rfl rfl (by decide) (Nat.le_of_ble_eq_true rfl) (n := 42) rfl (fun x9 s8 => ?_)
    refine x_istore [(4, .int x9), (0, .ref E.2.1), (1, .int v1), (2, .int v2), (3, .int v3)] dX2_changes_42 (by decide) rfl (n := 44) rfl ?_
    refine x_aload_nr 1 dX2_changes_44 rfl rfl (n := 45) rfl ?_
    refine x_iload_n 2 dX2_changes_45 rfl rfl (n := 46) rfl ?_
    refine x_iload_n 4 dX2_changes_46 rfl rfl (n := 47) rfl ?_
    refine x_iconst 0 dX2_changes_47 rfl (n := 48) rfl ?_
    refine tw_callV_I [.int v1, .int v3, .int 0] [] (T_bestRunner_ok hO hE s8 v1 v3 0) md_X2_bestRunner q3175 q3177 qs91 dX2_changes_48 rfl rfl (by decide) (Nat.le_of_ble_eq_true rfl) (n := 51) rfl (fun x11 s10 => ?_)
    refine x_istore [(5, .int x11), (4, .int x9), (0, .ref E.2.1), (1, .int v1), (2, .int v2), (3, .int v3)] dX2_changes_51 (by decide) rfl (n := 53) rfl ?_
    refine x_iload_n 4 dX2_changes_53 rfl rfl (n := 54) rfl ?_
    refine x_iload 1 dX2_changes_54 rfl (n := 56) rfl ?_
    refine x_bipush (-2) dX2_changes_56 rfl (n := 58) rfl ?_
    refine tw_icmp_eq dX2_changes_58 (t := 79) (by decide) (n := 61) rfl ?_ ?_
    · refine x_sub [2, 3, 5] [(0, .ref E.2.1), (1, .int v1), (3, .int v3)] rfl ?_
      exact T_changes_79_ok hO hE hk21 v1 v3 v2 s10
    · refine x_iload 0 dX2_changes_61 rfl (n := 63) rfl ?_
      refine x_bipush (-2) dX2_changes_63 rfl (n := 65) rfl ?_
      refine tw_icmp_eq dX2_changes_65 (t := 79) (by decide) (n := 68) rfl ?_ ?_
      · refine x_sub [2, 3, 5] [(0, .ref E.2.1), (1, .int v1), (3, .int v3)] rfl ?_
        exact T_changes_79_ok hO hE hk21 v1 v3 v2 s10
      · refine x_iload 1 dX2_changes_68 rfl (n := 70) rfl ?_
        refine x_iload 0 dX2_changes_70 rfl (n := 72) rfl ?_
        refine tw_icmp_eq dX2_changes_72 (t := 79) (by decide) (n := 75) rfl ?_ ?_
        · refine x_sub [2, 3, 5] [(0, .ref E.2.1), (1, .int v1), (3, .int v3)] rfl ?_
          exact T_changes_79_ok hO hE hk21 v1 v3 v2 s10
        · refine x_iconst 1 dX2_changes_75 rfl (n := 76) rfl ?_
          refine x_goto dX2_changes_76 (n := 80) (by decide) ?_
          refine x_sub [2, 3, 5] [(0, .ref E.2.1), (1, .int v1), (3, .int v3)] rfl ?_
          exact T_changes_80_ok hO hE hk21 v1 v3 v2 1 s10
theorem T_changes_21_lp {G : xG} {E : TE} (hO : xOK G) (hE : tok E)   (n : Nat) (v1 : Int32) (v2 : Int32) (v3 : Int32) (s0 : TS) : XT G E "ForestLegsModel" "changes" cX2_changes 6 (Option.some Jvm.ClassFile.FieldType.int) 6 21 [(0, .ref E.2.1), (1, .int v1), (2, .int v2), (3, .int v3)] [] s0 (lp (T_changes_21F) n (v1, v2, v3, s0)) :=
  lp_ok (W := fun p K => XT G E "ForestLegsModel" "changes" cX2_changes 6 (Option.some Jvm.ClassFile.FieldType.int) 6 21 [(0, .ref E.2.1), (1, .int p.1), (2, .int p.2.1), (3, .int p.2.2.1)] [] p.2.2.2 K) (fun _ => tw_no) (fun k hk => fun (v1, v2, v3, s0) => T_changes_21F_ok hO hE (fun v1 v2 v3 s0 => hk (v1, v2, v3, s0)) v1 v2 v3 s0) n (v1, v2, v3, s0)
theorem T_changes_ok {G : xG} {E : TE} (hO : xOK G) (hE : tok E) (s0 : TS) (a1 : Int32) : CTT G E 6 yX2_changes cX2_changes 6 (Option.some Jvm.ClassFile.FieldType.int) [.ref E.2.1, .int a1] s0 (T_changes s0 a1) := by
  refine CT_of hO (by decide +kernel) (by decide +kernel) (Nat.le_of_ble_eq_true rfl) ?_
  show XT G E "ForestLegsModel" "changes" cX2_changes 6 (Option.some Jvm.ClassFile.FieldType.int) 6 0 [(0, .ref E.2.1), (1, .int a1)] [] s0 (T_changes s0 a1)
  refine x_aload_nr 0 dX2_changes_0 rfl rfl (n := 1) rfl ?_
  refine x_aload_nr 0 dX2_changes_1 rfl rfl (n := 2) rfl ?_
  refine x_iload_n 1 dX2_changes_2 rfl rfl (n := 3) rfl ?_
  refine tw_callV_I [.int a1] [.ref E.2.1] (T_isCourse_ok hO hE s0 a1) md_X2_isCourse q3159 q3161 qs87 dX2_changes_3 rfl rfl (by decide) (Nat.le_of_ble_eq_true rfl) (n := 6) rfl (fun x2 s1 => ?_)
  refine tw_callS_I [.int x2] [.ref E.2.1] (T_unless_2_ok hO hE s1 x2) md_X2_unless_2 q3121 q3122 dX2_changes_6 rfl rfl (by decide) (Nat.le_of_ble_eq_true rfl) (n := 9) rfl (fun x4 s3 => ?_)
  refine tw_callV_I [.int x4] [] (T_isRefused_ok hO hE s3 x4) md_X2_isRefused q3022 q3024 qs63 dX2_changes_9 rfl rfl (by decide) (Nat.le_of_ble_eq_true rfl) (n := 12) rfl (fun x6 s5 => ?_)
  refine tw_if_eq dX2_changes_12 (t := 17) (by decide) (n := 15) rfl ?_ ?_
  · refine x_iconst 0 dX2_changes_17 rfl (n := 18) rfl ?_
    refine x_istore_n [(2, .int 0), (0, .ref E.2.1), (1, .int a1)] dX2_changes_18 rfl (by decide) rfl (n := 19) rfl ?_
    refine x_iconst 1 dX2_changes_19 rfl (n := 20) rfl ?_
    refine x_istore_n [(3, .int 1), (2, .int 0), (0, .ref E.2.1), (1, .int a1)] dX2_changes_20 rfl (by decide) rfl (n := 21) rfl ?_
    refine x_sub [2, 3, 1, 0] [(0, .ref E.2.1), (1, .int a1), (2, .int 0), (3, .int 1)] rfl ?_
    exact T_changes_21_lp hO hE FU a1 0 1 s5
  · refine x_iconst (-1) dX2_changes_15 rfl (n := 16) rfl ?_
    exact tw_ireturn dX2_changes_16
abbrev cX2_ranked : ByteArray := prog_14_method_71_code
def yX2_ranked : MethodName := ⟨RX2, "ranked", "(II)I"⟩
def dkwX2_ranked_7 : List UInt8 := [21, 4, 28, 160, 0, 5, 29, 172, 132, 3, 1, 167, 255, 112, 16, 254, 172]
abbrev dktX2_ranked_7 : List UInt8 := dkwX2_ranked_7 ++ []
def dkwX2_ranked_6 : List UInt8 := [160, 0, 13, 21, 5, 29, 162, 0, 7, 4, 167, 0, 4, 3, 96, 54, 4, 132, 5, 1, 167, 255, 163]
abbrev dktX2_ranked_6 : List UInt8 := dkwX2_ranked_6 ++ dktX2_ranked_7
def dkwX2_ranked_5 : List UInt8 := [21, 5, 182, 0, 218, 42, 29, 182, 0, 218, 161, 0, 23, 42, 21, 5, 182, 0, 218, 42, 29, 182, 0, 218]
abbrev dktX2_ranked_5 : List UInt8 := dkwX2_ranked_5 ++ dktX2_ranked_6
def dkwX2_ranked_4 : List UInt8 := [21, 5, 182, 0, 215, 153, 0, 7, 4, 167, 0, 4, 3, 54, 6, 21, 4, 21, 6, 153, 0, 41, 42]
abbrev dktX2_ranked_4 : List UInt8 := dkwX2_ranked_4 ++ dktX2_ranked_5
def dkwX2_ranked_3 : List UInt8 := [180, 0, 17, 4, 46, 162, 0, 88, 42, 180, 0, 17, 16, 37, 21, 5, 96, 46, 27, 160, 0, 16, 42]
abbrev dktX2_ranked_3 : List UInt8 := dkwX2_ranked_3 ++ dktX2_ranked_4
def dkwX2_ranked_2 : List UInt8 := [96, 46, 27, 160, 0, 121, 42, 29, 182, 0, 215, 153, 0, 113, 3, 54, 4, 3, 54, 5, 21, 5, 42]
abbrev dktX2_ranked_2 : List UInt8 := dkwX2_ranked_2 ++ dktX2_ranked_3
def dkwX2_ranked_1 : List UInt8 := [153, 0, 5, 2, 172, 3, 62, 29, 42, 180, 0, 17, 4, 46, 162, 0, 140, 42, 180, 0, 17, 16, 37, 29]
abbrev dktX2_ranked_1 : List UInt8 := dkwX2_ranked_1 ++ dktX2_ranked_2
def dkwX2_ranked_0 : List UInt8 := [42, 42, 27, 182, 0, 184, 153, 0, 11, 28, 155, 0, 7, 4, 167, 0, 4, 3, 184, 0, 234, 182, 0, 161]
abbrev dktX2_ranked_0 : List UInt8 := dkwX2_ranked_0 ++ dktX2_ranked_1
theorem dksX2_ranked_0 : cX2_ranked.data.toList.drop 0 = dktX2_ranked_0 := by decide +kernel
theorem dksX2_ranked_1 : cX2_ranked.data.toList.drop 24 = dktX2_ranked_1 := dk_seg dksX2_ranked_0 24 rfl rfl
theorem dksX2_ranked_2 : cX2_ranked.data.toList.drop 48 = dktX2_ranked_2 := dk_seg dksX2_ranked_1 24 rfl rfl
theorem dksX2_ranked_3 : cX2_ranked.data.toList.drop 71 = dktX2_ranked_3 := dk_seg dksX2_ranked_2 23 rfl rfl
theorem dksX2_ranked_4 : cX2_ranked.data.toList.drop 94 = dktX2_ranked_4 := dk_seg dksX2_ranked_3 23 rfl rfl
theorem dksX2_ranked_5 : cX2_ranked.data.toList.drop 117 = dktX2_ranked_5 := dk_seg dksX2_ranked_4 23 rfl rfl
theorem dksX2_ranked_6 : cX2_ranked.data.toList.drop 141 = dktX2_ranked_6 := dk_seg dksX2_ranked_5 24 rfl rfl
theorem dksX2_ranked_7 : cX2_ranked.data.toList.drop 164 = dktX2_ranked_7 := dk_seg dksX2_ranked_6 23 rfl rfl
theorem dX2_ranked_0 : decode cX2_ranked 0 = .ok (.aload_n 0, 1) := dk_42 (dk_at dksX2_ranked_0 0 rfl rfl)
theorem dX2_ranked_1 : decode cX2_ranked 1 = .ok (.aload_n 0, 1) := dk_42 (dk_at dksX2_ranked_0 1 rfl rfl)
theorem dX2_ranked_2 : decode cX2_ranked 2 = .ok (.iload_n 1, 1) := dk_27 (dk_at dksX2_ranked_0 2 rfl rfl)
theorem dX2_ranked_3 : decode cX2_ranked 3 = .ok (.invokevirtual 184, 3) := dk_182 0 184 (dk_at dksX2_ranked_0 3 rfl rfl)
theorem dX2_ranked_6 : decode cX2_ranked 6 = .ok (.ifCond .eq 11, 3) := dk_153 0 11 (dk_at dksX2_ranked_0 6 rfl rfl)
theorem dX2_ranked_9 : decode cX2_ranked 9 = .ok (.iload_n 2, 1) := dk_28 (dk_at dksX2_ranked_0 9 rfl rfl)
theorem dX2_ranked_10 : decode cX2_ranked 10 = .ok (.ifCond .lt 7, 3) := dk_155 0 7 (dk_at dksX2_ranked_0 10 rfl rfl)
theorem dX2_ranked_13 : decode cX2_ranked 13 = .ok (.iconst 1, 1) := dk_4 (dk_at dksX2_ranked_0 13 rfl rfl)
theorem dX2_ranked_14 : decode cX2_ranked 14 = .ok (.goto 4, 3) := dk_167 0 4 (dk_at dksX2_ranked_0 14 rfl rfl)
theorem dX2_ranked_17 : decode cX2_ranked 17 = .ok (.iconst 0, 1) := dk_3 (dk_at dksX2_ranked_0 17 rfl rfl)
theorem dX2_ranked_18 : decode cX2_ranked 18 = .ok (.invokestatic 234, 3) := dk_184 0 234 (dk_at dksX2_ranked_0 18 rfl rfl)
theorem dX2_ranked_21 : decode cX2_ranked 21 = .ok (.invokevirtual 161, 3) := dk_182 0 161 (dk_at dksX2_ranked_0 21 rfl rfl)
theorem dX2_ranked_24 : decode cX2_ranked 24 = .ok (.ifCond .eq 5, 3) := dk_153 0 5 (dk_at dksX2_ranked_1 0 rfl rfl)
theorem dX2_ranked_27 : decode cX2_ranked 27 = .ok (.iconst (-1), 1) := dk_2 (dk_at dksX2_ranked_1 3 rfl rfl)
theorem dX2_ranked_28 : decode cX2_ranked 28 = .ok (.ireturn, 1) := dk_172 (dk_at dksX2_ranked_1 4 rfl rfl)
theorem dX2_ranked_29 : decode cX2_ranked 29 = .ok (.iconst 0, 1) := dk_3 (dk_at dksX2_ranked_1 5 rfl rfl)
theorem dX2_ranked_30 : decode cX2_ranked 30 = .ok (.istore_n 3, 1) := dk_62 (dk_at dksX2_ranked_1 6 rfl rfl)
theorem dX2_ranked_31 : decode cX2_ranked 31 = .ok (.iload_n 3, 1) := dk_29 (dk_at dksX2_ranked_1 7 rfl rfl)
theorem dX2_ranked_32 : decode cX2_ranked 32 = .ok (.aload_n 0, 1) := dk_42 (dk_at dksX2_ranked_1 8 rfl rfl)
theorem dX2_ranked_33 : decode cX2_ranked 33 = .ok (.getfield 17, 3) := dk_180 0 17 (dk_at dksX2_ranked_1 9 rfl rfl)
theorem dX2_ranked_36 : decode cX2_ranked 36 = .ok (.iconst 1, 1) := dk_4 (dk_at dksX2_ranked_1 12 rfl rfl)
theorem dX2_ranked_37 : decode cX2_ranked 37 = .ok (.iaload, 1) := dk_46 (dk_at dksX2_ranked_1 13 rfl rfl)
theorem dX2_ranked_38 : decode cX2_ranked 38 = .ok (.if_icmp .ge 140, 3) := dk_162 0 140 (dk_at dksX2_ranked_1 14 rfl rfl)
theorem dX2_ranked_41 : decode cX2_ranked 41 = .ok (.aload_n 0, 1) := dk_42 (dk_at dksX2_ranked_1 17 rfl rfl)
theorem dX2_ranked_42 : decode cX2_ranked 42 = .ok (.getfield 17, 3) := dk_180 0 17 (dk_at dksX2_ranked_1 18 rfl rfl)
theorem dX2_ranked_45 : decode cX2_ranked 45 = .ok (.bipush 37, 2) := dk_16 37 (dk_at dksX2_ranked_1 21 rfl rfl)
theorem dX2_ranked_47 : decode cX2_ranked 47 = .ok (.iload_n 3, 1) := dk_29 (dk_at dksX2_ranked_1 23 rfl rfl)
theorem dX2_ranked_48 : decode cX2_ranked 48 = .ok (.iadd, 1) := dk_96 (dk_at dksX2_ranked_2 0 rfl rfl)
theorem dX2_ranked_49 : decode cX2_ranked 49 = .ok (.iaload, 1) := dk_46 (dk_at dksX2_ranked_2 1 rfl rfl)
theorem dX2_ranked_50 : decode cX2_ranked 50 = .ok (.iload_n 1, 1) := dk_27 (dk_at dksX2_ranked_2 2 rfl rfl)
theorem dX2_ranked_51 : decode cX2_ranked 51 = .ok (.if_icmp .ne 121, 3) := dk_160 0 121 (dk_at dksX2_ranked_2 3 rfl rfl)
theorem dX2_ranked_54 : decode cX2_ranked 54 = .ok (.aload_n 0, 1) := dk_42 (dk_at dksX2_ranked_2 6 rfl rfl)
theorem dX2_ranked_55 : decode cX2_ranked 55 = .ok (.iload_n 3, 1) := dk_29 (dk_at dksX2_ranked_2 7 rfl rfl)
theorem dX2_ranked_56 : decode cX2_ranked 56 = .ok (.invokevirtual 215, 3) := dk_182 0 215 (dk_at dksX2_ranked_2 8 rfl rfl)
theorem dX2_ranked_59 : decode cX2_ranked 59 = .ok (.ifCond .eq 113, 3) := dk_153 0 113 (dk_at dksX2_ranked_2 11 rfl rfl)
theorem dX2_ranked_62 : decode cX2_ranked 62 = .ok (.iconst 0, 1) := dk_3 (dk_at dksX2_ranked_2 14 rfl rfl)
theorem dX2_ranked_63 : decode cX2_ranked 63 = .ok (.istore 4, 2) := dk_54 4 (dk_at dksX2_ranked_2 15 rfl rfl)
theorem dX2_ranked_65 : decode cX2_ranked 65 = .ok (.iconst 0, 1) := dk_3 (dk_at dksX2_ranked_2 17 rfl rfl)
theorem dX2_ranked_66 : decode cX2_ranked 66 = .ok (.istore 5, 2) := dk_54 5 (dk_at dksX2_ranked_2 18 rfl rfl)
theorem dX2_ranked_68 : decode cX2_ranked 68 = .ok (.iload 5, 2) := dk_21 5 (dk_at dksX2_ranked_2 20 rfl rfl)
theorem dX2_ranked_70 : decode cX2_ranked 70 = .ok (.aload_n 0, 1) := dk_42 (dk_at dksX2_ranked_2 22 rfl rfl)
theorem dX2_ranked_71 : decode cX2_ranked 71 = .ok (.getfield 17, 3) := dk_180 0 17 (dk_at dksX2_ranked_3 0 rfl rfl)
theorem dX2_ranked_74 : decode cX2_ranked 74 = .ok (.iconst 1, 1) := dk_4 (dk_at dksX2_ranked_3 3 rfl rfl)
theorem dX2_ranked_75 : decode cX2_ranked 75 = .ok (.iaload, 1) := dk_46 (dk_at dksX2_ranked_3 4 rfl rfl)
theorem dX2_ranked_76 : decode cX2_ranked 76 = .ok (.if_icmp .ge 88, 3) := dk_162 0 88 (dk_at dksX2_ranked_3 5 rfl rfl)
theorem dX2_ranked_79 : decode cX2_ranked 79 = .ok (.aload_n 0, 1) := dk_42 (dk_at dksX2_ranked_3 8 rfl rfl)
theorem dX2_ranked_80 : decode cX2_ranked 80 = .ok (.getfield 17, 3) := dk_180 0 17 (dk_at dksX2_ranked_3 9 rfl rfl)
theorem dX2_ranked_83 : decode cX2_ranked 83 = .ok (.bipush 37, 2) := dk_16 37 (dk_at dksX2_ranked_3 12 rfl rfl)
theorem dX2_ranked_85 : decode cX2_ranked 85 = .ok (.iload 5, 2) := dk_21 5 (dk_at dksX2_ranked_3 14 rfl rfl)
theorem dX2_ranked_87 : decode cX2_ranked 87 = .ok (.iadd, 1) := dk_96 (dk_at dksX2_ranked_3 16 rfl rfl)
theorem dX2_ranked_88 : decode cX2_ranked 88 = .ok (.iaload, 1) := dk_46 (dk_at dksX2_ranked_3 17 rfl rfl)
theorem dX2_ranked_89 : decode cX2_ranked 89 = .ok (.iload_n 1, 1) := dk_27 (dk_at dksX2_ranked_3 18 rfl rfl)
theorem dX2_ranked_90 : decode cX2_ranked 90 = .ok (.if_icmp .ne 16, 3) := dk_160 0 16 (dk_at dksX2_ranked_3 19 rfl rfl)
theorem dX2_ranked_93 : decode cX2_ranked 93 = .ok (.aload_n 0, 1) := dk_42 (dk_at dksX2_ranked_3 22 rfl rfl)
theorem dX2_ranked_94 : decode cX2_ranked 94 = .ok (.iload 5, 2) := dk_21 5 (dk_at dksX2_ranked_4 0 rfl rfl)
theorem dX2_ranked_96 : decode cX2_ranked 96 = .ok (.invokevirtual 215, 3) := dk_182 0 215 (dk_at dksX2_ranked_4 2 rfl rfl)
theorem dX2_ranked_99 : decode cX2_ranked 99 = .ok (.ifCond .eq 7, 3) := dk_153 0 7 (dk_at dksX2_ranked_4 5 rfl rfl)
theorem dX2_ranked_102 : decode cX2_ranked 102 = .ok (.iconst 1, 1) := dk_4 (dk_at dksX2_ranked_4 8 rfl rfl)
theorem dX2_ranked_103 : decode cX2_ranked 103 = .ok (.goto 4, 3) := dk_167 0 4 (dk_at dksX2_ranked_4 9 rfl rfl)
theorem dX2_ranked_106 : decode cX2_ranked 106 = .ok (.iconst 0, 1) := dk_3 (dk_at dksX2_ranked_4 12 rfl rfl)
theorem dX2_ranked_107 : decode cX2_ranked 107 = .ok (.istore 6, 2) := dk_54 6 (dk_at dksX2_ranked_4 13 rfl rfl)
theorem dX2_ranked_109 : decode cX2_ranked 109 = .ok (.iload 4, 2) := dk_21 4 (dk_at dksX2_ranked_4 15 rfl rfl)
theorem dX2_ranked_111 : decode cX2_ranked 111 = .ok (.iload 6, 2) := dk_21 6 (dk_at dksX2_ranked_4 17 rfl rfl)
theorem dX2_ranked_113 : decode cX2_ranked 113 = .ok (.ifCond .eq 41, 3) := dk_153 0 41 (dk_at dksX2_ranked_4 19 rfl rfl)
theorem dX2_ranked_116 : decode cX2_ranked 116 = .ok (.aload_n 0, 1) := dk_42 (dk_at dksX2_ranked_4 22 rfl rfl)
theorem dX2_ranked_117 : decode cX2_ranked 117 = .ok (.iload 5, 2) := dk_21 5 (dk_at dksX2_ranked_5 0 rfl rfl)
theorem dX2_ranked_119 : decode cX2_ranked 119 = .ok (.invokevirtual 218, 3) := dk_182 0 218 (dk_at dksX2_ranked_5 2 rfl rfl)
theorem dX2_ranked_122 : decode cX2_ranked 122 = .ok (.aload_n 0, 1) := dk_42 (dk_at dksX2_ranked_5 5 rfl rfl)
theorem dX2_ranked_123 : decode cX2_ranked 123 = .ok (.iload_n 3, 1) := dk_29 (dk_at dksX2_ranked_5 6 rfl rfl)
theorem dX2_ranked_124 : decode cX2_ranked 124 = .ok (.invokevirtual 218, 3) := dk_182 0 218 (dk_at dksX2_ranked_5 7 rfl rfl)
theorem dX2_ranked_127 : decode cX2_ranked 127 = .ok (.if_icmp .lt 23, 3) := dk_161 0 23 (dk_at dksX2_ranked_5 10 rfl rfl)
theorem dX2_ranked_130 : decode cX2_ranked 130 = .ok (.aload_n 0, 1) := dk_42 (dk_at dksX2_ranked_5 13 rfl rfl)
theorem dX2_ranked_131 : decode cX2_ranked 131 = .ok (.iload 5, 2) := dk_21 5 (dk_at dksX2_ranked_5 14 rfl rfl)
theorem dX2_ranked_133 : decode cX2_ranked 133 = .ok (.invokevirtual 218, 3) := dk_182 0 218 (dk_at dksX2_ranked_5 16 rfl rfl)
theorem dX2_ranked_136 : decode cX2_ranked 136 = .ok (.aload_n 0, 1) := dk_42 (dk_at dksX2_ranked_5 19 rfl rfl)
theorem dX2_ranked_137 : decode cX2_ranked 137 = .ok (.iload_n 3, 1) := dk_29 (dk_at dksX2_ranked_5 20 rfl rfl)
theorem dX2_ranked_138 : decode cX2_ranked 138 = .ok (.invokevirtual 218, 3) := dk_182 0 218 (dk_at dksX2_ranked_5 21 rfl rfl)
theorem dX2_ranked_141 : decode cX2_ranked 141 = .ok (.if_icmp .ne 13, 3) := dk_160 0 13 (dk_at dksX2_ranked_6 0 rfl rfl)
theorem dX2_ranked_144 : decode cX2_ranked 144 = .ok (.iload 5, 2) := dk_21 5 (dk_at dksX2_ranked_6 3 rfl rfl)
theorem dX2_ranked_146 : decode cX2_ranked 146 = .ok (.iload_n 3, 1) := dk_29 (dk_at dksX2_ranked_6 5 rfl rfl)
theorem dX2_ranked_147 : decode cX2_ranked 147 = .ok (.if_icmp .ge 7, 3) := dk_162 0 7 (dk_at dksX2_ranked_6 6 rfl rfl)
theorem dX2_ranked_150 : decode cX2_ranked 150 = .ok (.iconst 1, 1) := dk_4 (dk_at dksX2_ranked_6 9 rfl rfl)
theorem dX2_ranked_151 : decode cX2_ranked 151 = .ok (.goto 4, 3) := dk_167 0 4 (dk_at dksX2_ranked_6 10 rfl rfl)
theorem dX2_ranked_154 : decode cX2_ranked 154 = .ok (.iconst 0, 1) := dk_3 (dk_at dksX2_ranked_6 13 rfl rfl)
theorem dX2_ranked_155 : decode cX2_ranked 155 = .ok (.iadd, 1) := dk_96 (dk_at dksX2_ranked_6 14 rfl rfl)
theorem dX2_ranked_156 : decode cX2_ranked 156 = .ok (.istore 4, 2) := dk_54 4 (dk_at dksX2_ranked_6 15 rfl rfl)
theorem dX2_ranked_158 : decode cX2_ranked 158 = .ok (.iinc 5 1, 3) := dk_132 5 1 (dk_at dksX2_ranked_6 17 rfl rfl)
theorem dX2_ranked_161 : decode cX2_ranked 161 = .ok (.goto (-93), 3) := dk_167 255 163 (dk_at dksX2_ranked_6 20 rfl rfl)
theorem dX2_ranked_164 : decode cX2_ranked 164 = .ok (.iload 4, 2) := dk_21 4 (dk_at dksX2_ranked_7 0 rfl rfl)
theorem dX2_ranked_166 : decode cX2_ranked 166 = .ok (.iload_n 2, 1) := dk_28 (dk_at dksX2_ranked_7 2 rfl rfl)
theorem dX2_ranked_167 : decode cX2_ranked 167 = .ok (.if_icmp .ne 5, 3) := dk_160 0 5 (dk_at dksX2_ranked_7 3 rfl rfl)
theorem dX2_ranked_170 : decode cX2_ranked 170 = .ok (.iload_n 3, 1) := dk_29 (dk_at dksX2_ranked_7 6 rfl rfl)
theorem dX2_ranked_171 : decode cX2_ranked 171 = .ok (.ireturn, 1) := dk_172 (dk_at dksX2_ranked_7 7 rfl rfl)
theorem dX2_ranked_172 : decode cX2_ranked 172 = .ok (.iinc 3 1, 3) := dk_132 3 1 (dk_at dksX2_ranked_7 8 rfl rfl)
theorem dX2_ranked_175 : decode cX2_ranked 175 = .ok (.goto (-144), 3) := dk_167 255 112 (dk_at dksX2_ranked_7 11 rfl rfl)
theorem dX2_ranked_178 : decode cX2_ranked 178 = .ok (.bipush (-2), 2) := dk_16 254 (dk_at dksX2_ranked_7 14 rfl rfl)
theorem dX2_ranked_180 : decode cX2_ranked 180 = .ok (.ireturn, 1) := dk_172 (dk_at dksX2_ranked_7 16 rfl rfl)
theorem md_X2_ranked : xMd yX2_ranked cX2_ranked 7 (Option.some Jvm.ClassFile.FieldType.int) 2 := ⟨q3290, q126, by decide, by decide +kernel, by decide +kernel, by decide +kernel⟩
def T_ranked_172  (k31 : Int32 × Int32 × Int32 × TS → Option (xO × TS)) (v1 : Int32) (v2 : Int32) (v3 : Int32) (s0 : TS) : Option (xO × TS) :=
  (bnd (v3 + 1) fun x9 =>
  (k31 (v1, v2, x9, s0)))
def T_ranked_155  (k68 : Int32 × Int32 × Int32 × Int32 × Int32 × TS → Option (xO × TS)) (v1 : Int32) (v2 : Int32) (v3 : Int32) (v5 : Int32) (w0 : Int32) (w1 : Int32) (s0 : TS) : Option (xO × TS) :=
  (bnd (w0 + w1) fun x14 =>
  (bnd (v5 + 1) fun x15 =>
  (k68 (v1, v2, v3, x14, x15, s0))))
def T_ranked_154  (k68 : Int32 × Int32 × Int32 × Int32 × Int32 × TS → Option (xO × TS)) (v1 : Int32) (v2 : Int32) (v3 : Int32) (v5 : Int32) (w0 : Int32) (s0 : TS) : Option (xO × TS) :=
  (T_ranked_155 k68 v1 v2 v3 v5 w0 0 s0)
def T_ranked_150  (k68 : Int32 × Int32 × Int32 × Int32 × Int32 × TS → Option (xO × TS)) (v1 : Int32) (v2 : Int32) (v3 : Int32) (v5 : Int32) (w0 : Int32) (s0 : TS) : Option (xO × TS) :=
  (T_ranked_155 k68 v1 v2 v3 v5 w0 1 s0)
def T_ranked_107  (k68 : Int32 × Int32 × Int32 × Int32 × Int32 × TS → Option (xO × TS)) (v1 : Int32) (v2 : Int32) (v3 : Int32) (v4 : Int32) (v5 : Int32) (w0 : Int32) (s0 : TS) : Option (xO × TS) :=
  (if w0 = 0 then
  (T_ranked_154 k68 v1 v2 v3 v5 v4 s0) else
  (xcI (T_totalOf s0 v5) fun x17 s16 =>
  (xcI (T_totalOf s16 v3) fun x19 s18 =>
  (if x17 < x19 then
  (T_ranked_150 k68 v1 v2 v3 v5 v4 s18) else
  (xcI (T_totalOf s18 v5) fun x21 s20 =>
  (xcI (T_totalOf s20 v3) fun x23 s22 =>
  (if x21 = x23 then
  (if v3 ≤ v5 then
  (T_ranked_154 k68 v1 v2 v3 v5 v4 s22) else
  (T_ranked_150 k68 v1 v2 v3 v5 v4 s22)) else
  (T_ranked_154 k68 v1 v2 v3 v5 v4 s22))))))))
def T_ranked_106  (k68 : Int32 × Int32 × Int32 × Int32 × Int32 × TS → Option (xO × TS)) (v1 : Int32) (v2 : Int32) (v3 : Int32) (v4 : Int32) (v5 : Int32) (s0 : TS) : Option (xO × TS) :=
  (T_ranked_107 k68 v1 v2 v3 v4 v5 0 s0)
def T_ranked_68F  (k31 : Int32 × Int32 × Int32 × TS → Option (xO × TS)) (k68 : Int32 × Int32 × Int32 × Int32 × Int32 × TS → Option (xO × TS)) (p : Int32 × Int32 × Int32 × Int32 × Int32 × TS) : Option (xO × TS) := match p with
  | (v1, v2, v3, v4, v5, s0) => (tald s0 7 1 fun x12 =>
  (if x12 ≤ v5 then
  (if v4 = v2 then
  (rI v3 s0) else
  (T_ranked_172 k31 v1 v2 v3 s0)) else
  (tald s0 7 (37 + v5) fun x13 =>
  (if x13 = v1 then
  (xcI (T_isValid s0 v5) fun x25 s24 =>
  (if x25 = 0 then
  (T_ranked_106 k68 v1 v2 v3 v4 v5 s24) else
  (T_ranked_107 k68 v1 v2 v3 v4 v5 1 s24))) else
  (T_ranked_106 k68 v1 v2 v3 v4 v5 s0)))))
def T_ranked_31F   (k31 : Int32 × Int32 × Int32 × TS → Option (xO × TS)) (p : Int32 × Int32 × Int32 × TS) : Option (xO × TS) := match p with
  | (v1, v2, v3, s0) => (tald s0 7 1 fun x7 =>
  (if x7 ≤ v3 then
  (rI (-2) s0) else
  (tald s0 7 (37 + v3) fun x8 =>
  (if x8 = v1 then
  (xcI (T_isValid s0 v3) fun x11 s10 =>
  (if x11 = 0 then
  (T_ranked_172 k31 v1 v2 v3 s10) else
  (lp (T_ranked_68F k31) FU (v1, v2, v3, 0, 0, s10)))) else
  (T_ranked_172 k31 v1 v2 v3 s0)))))
def T_ranked_18   (v1 : Int32) (v2 : Int32) (w1 : Int32) (s0 : TS) : Option (xO × TS) :=
  (xcI (T_unless_2 s0 w1) fun x4 s3 =>
  (xcI (T_isRefused s3 x4) fun x6 s5 =>
  (if x6 = 0 then
  (lp (T_ranked_31F) FU (v1, v2, 0, s5)) else
  (rI (-1) s5))))
def T_ranked_17   (v1 : Int32) (v2 : Int32) (s0 : TS) : Option (xO × TS) :=
  (T_ranked_18 v1 v2 0 s0)
def T_ranked (s0 : TS) (a1 : Int32) (a2 : Int32) : Option (xO × TS) :=
  (xcI (T_isCourse s0 a1) fun x2 s1 =>
  (if x2 = 0 then
  (T_ranked_17 a1 a2 s1) else
  (if a2 < 0 then
  (T_ranked_17 a1 a2 s1) else
  (T_ranked_18 a1 a2 1 s1))))
theorem T_ranked_172_ok {G : xG} {E : TE} (hO : xOK G) (hE : tok E)  {k31 : Int32 × Int32 × Int32 × TS → Option (xO × TS)} (hk31 : ∀ (v1 : Int32) (v2 : Int32) (v3 : Int32) (s0 : TS), XT G E "ForestLegsModel" "ranked" cX2_ranked 7 (Option.some Jvm.ClassFile.FieldType.int) 4 31 [(0, .ref E.2.1), (1, .int v1), (2, .int v2), (3, .int v3)] [] s0 (k31 (v1, v2, v3, s0))) (v1 : Int32) (v2 : Int32) (v3 : Int32) (s0 : TS) : XT G E "ForestLegsModel" "ranked" cX2_ranked 7 (Option.some Jvm.ClassFile.FieldType.int) 4 172 [(0, .ref E.2.1), (1, .int v1), (2, .int v2), (3, .int v3)] [] s0 (T_ranked_172 k31 v1 v2 v3 s0) := by
  unfold T_ranked_172
  refine tw_iinc 3 (fun x9 => [(3, .int x9), (0, .ref E.2.1), (1, .int v1), (2, .int v2)]) dX2_ranked_172 rfl rfl (by decide) (fun _ => rfl) (n := 175) rfl (fun x9 => ?_)
  refine x_goto dX2_ranked_175 (n := 31) (by decide) ?_
  refine x_sub [1, 2, 3, 0] [(0, .ref E.2.1), (1, .int v1), (2, .int v2), (3, .int x9)] rfl ?_
  exact hk31 v1 v2 x9 s0
theorem T_ranked_155_ok {G : xG} {E : TE} (hO : xOK G) (hE : tok E)  {k68 : Int32 × Int32 × Int32 × Int32 × Int32 × TS → Option (xO × TS)} (hk68 : ∀ (v1 : Int32) (v2 : Int32) (v3 : Int32) (v4 : Int32) (v5 : Int32) (s0 : TS), XT G E "ForestLegsModel" "ranked" cX2_ranked 7 (Option.some Jvm.ClassFile.FieldType.int) 4 68 [(0, .ref E.2.1), (1, .int v1), (2, .int v2), (3, .int v3), (4, .int v4), (5, .int v5)] [] s0 (k68 (v1, v2, v3, v4, v5, s0))) (v1 : Int32) (v2 : Int32) (v3 : Int32) (v5 : Int32) (w0 : Int32) (w1 : Int32) (s0 : TS) : XT G E "ForestLegsModel" "ranked" cX2_ranked 7 (Option.some Jvm.ClassFile.FieldType.int) 4 155 [(0, .ref E.2.1), (1, .int v1), (2, .int v2), (3, .int v3), (5, .int v5)] [.int w1, .int w0] s0 (T_ranked_155 k68 v1 v2 v3 v5 w0 w1 s0) := by
  unfold T_ranked_155
  refine x_iadd dX2_ranked_155 (n := 156) rfl ?_
  refine tw_nm (fun x14 => ?_)
  refine x_istore [(4, .int x14), (0, .ref E.2.1), (1, .int v1), (2, .int v2), (3, .int v3), (5, .int v5)] dX2_ranked_156 (by decide) rfl (n := 158) rfl ?_
  refine tw_iinc 5 (fun x15 => [(5, .int x15), (4, .int x14), (0, .ref E.2.1), (1, .int v1), (2, .int v2), (3, .int v3)]) dX2_ranked_158 rfl rfl (by decide) (fun _ => rfl) (n := 161) rfl (fun x15 => ?_)
  refine x_goto dX2_ranked_161 (n := 68) (by decide) ?_
  refine x_sub [2, 3, 4, 5, 1, 0] [(0, .ref E.2.1), (1, .int v1), (2, .int v2), (3, .int v3), (4, .int x14), (5, .int x15)] rfl ?_
  exact hk68 v1 v2 v3 x14 x15 s0
theorem T_ranked_154_ok {G : xG} {E : TE} (hO : xOK G) (hE : tok E)  {k68 : Int32 × Int32 × Int32 × Int32 × Int32 × TS → Option (xO × TS)} (hk68 : ∀ (v1 : Int32) (v2 : Int32) (v3 : Int32) (v4 : Int32) (v5 : Int32) (s0 : TS), XT G E "ForestLegsModel" "ranked" cX2_ranked 7 (Option.some Jvm.ClassFile.FieldType.int) 4 68 [(0, .ref E.2.1), (1, .int v1), (2, .int v2), (3, .int v3), (4, .int v4), (5, .int v5)] [] s0 (k68 (v1, v2, v3, v4, v5, s0))) (v1 : Int32) (v2 : Int32) (v3 : Int32) (v5 : Int32) (w0 : Int32) (s0 : TS) : XT G E "ForestLegsModel" "ranked" cX2_ranked 7 (Option.some Jvm.ClassFile.FieldType.int) 4 154 [(0, .ref E.2.1), (1, .int v1), (2, .int v2), (3, .int v3), (5, .int v5)] [.int w0] s0 (T_ranked_154 k68 v1 v2 v3 v5 w0 s0) := by
  unfold T_ranked_154
  refine x_iconst 0 dX2_ranked_154 rfl (n := 155) rfl ?_
  exact T_ranked_155_ok hO hE hk68 v1 v2 v3 v5 w0 0 s0
theorem T_ranked_150_ok {G : xG} {E : TE} (hO : xOK G) (hE : tok E)  {k68 : Int32 × Int32 × Int32 × Int32 × Int32 × TS → Option (xO × TS)} (hk68 : ∀ (v1 : Int32) (v2 : Int32) (v3 : Int32) (v4 : Int32) (v5 : Int32) (s0 : TS), XT G E "ForestLegsModel" "ranked" cX2_ranked 7 (Option.some Jvm.ClassFile.FieldType.int) 4 68 [(0, .ref E.2.1), (1, .int v1), (2, .int v2), (3, .int v3), (4, .int v4), (5, .int v5)] [] s0 (k68 (v1, v2, v3, v4, v5, s0))) (v1 : Int32) (v2 : Int32) (v3 : Int32) (v5 : Int32) (w0 : Int32) (s0 : TS) : XT G E "ForestLegsModel" "ranked" cX2_ranked 7 (Option.some Jvm.ClassFile.FieldType.int) 4 150 [(0, .ref E.2.1), (1, .int v1), (2, .int v2), (3, .int v3), (5, .int v5)] [.int w0] s0 (T_ranked_150 k68 v1 v2 v3 v5 w0 s0) := by
  unfold T_ranked_150
  refine x_iconst 1 dX2_ranked_150 rfl (n := 151) rfl ?_
  refine x_goto dX2_ranked_151 (n := 155) (by decide) ?_
  exact T_ranked_155_ok hO hE hk68 v1 v2 v3 v5 w0 1 s0
theorem T_ranked_107_ok {G : xG} {E : TE} (hO : xOK G) (hE : tok E)  {k68 : Int32 × Int32 × Int32 × Int32 × Int32 × TS → Option (xO × TS)} (hk68 : ∀ (v1 : Int32) (v2 : Int32) (v3 : Int32) (v4 : Int32) (v5 : Int32) (s0 : TS), XT G E "ForestLegsModel" "ranked" cX2_ranked 7 (Option.some Jvm.ClassFile.FieldType.int) 4 68 [(0, .ref E.2.1), (1, .int v1), (2, .int v2), (3, .int v3), (4, .int v4), (5, .int v5)] [] s0 (k68 (v1, v2, v3, v4, v5, s0))) (v1 : Int32) (v2 : Int32) (v3 : Int32) (v4 : Int32) (v5 : Int32) (w0 : Int32) (s0 : TS) : XT G E "ForestLegsModel" "ranked" cX2_ranked 7 (Option.some Jvm.ClassFile.FieldType.int) 4 107 [(0, .ref E.2.1), (1, .int v1), (2, .int v2), (3, .int v3), (4, .int v4), (5, .int v5)] [.int w0] s0 (T_ranked_107 k68 v1 v2 v3 v4 v5 w0 s0) := by
  unfold T_ranked_107
  refine x_istore [(6, .int w0), (0, .ref E.2.1), (1, .int v1), (2, .int v2), (3, .int v3), (4, .int v4), (5, .int v5)] dX2_ranked_107 (by decide) rfl (n := 109) rfl ?_
  refine x_iload 5 dX2_ranked_109 rfl (n := 111) rfl ?_
  refine x_iload 0 dX2_ranked_111 rfl (n := 113) rfl ?_
  refine tw_if_eq dX2_ranked_113 (t := 154) (by decide) (n := 116) rfl ?_ ?_
  · refine x_sub [1, 2, 3, 4, 6] [(0, .ref E.2.1), (1, .int v1), (2, .int v2), (3, .int v3), (5, .int v5)] rfl ?_
    exact T_ranked_154_ok hO hE hk68 v1 v2 v3 v5 v4 s0
  · refine x_aload_nr 1 dX2_ranked_116 rfl rfl (n := 117) rfl ?_
    refine x_iload 6 dX2_ranked_117 rfl (n := 119) rfl ?_
    refine tw_callV_I [.int v5] [.int v4] (T_totalOf_ok hO hE s0 v5) md_X2_totalOf q3199 q3201 qs97 dX2_ranked_119 rfl rfl (by decide) (Nat.le_of_ble_eq_true rfl) (n := 122) rfl (fun x17 s16 => ?_)
    refine x_aload_nr 1 dX2_ranked_122 rfl rfl (n := 123) rfl ?_
    refine x_iload_n 4 dX2_ranked_123 rfl rfl (n := 124) rfl ?_
    refine tw_callV_I [.int v3] [.int x17, .int v4] (T_totalOf_ok hO hE s16 v3) md_X2_totalOf q3199 q3201 qs97 dX2_ranked_124 rfl rfl (by decide) (Nat.le_of_ble_eq_true rfl) (n := 127) rfl (fun x19 s18 => ?_)
    refine tw_icmp_lt dX2_ranked_127 (t := 150) (by decide) (n := 130) rfl ?_ ?_
    · refine x_sub [1, 2, 3, 4, 6] [(0, .ref E.2.1), (1, .int v1), (2, .int v2), (3, .int v3), (5, .int v5)] rfl ?_
      exact T_ranked_150_ok hO hE hk68 v1 v2 v3 v5 v4 s18
    · refine x_aload_nr 1 dX2_ranked_130 rfl rfl (n := 131) rfl ?_
      refine x_iload 6 dX2_ranked_131 rfl (n := 133) rfl ?_
      refine tw_callV_I [.int v5] [.int v4] (T_totalOf_ok hO hE s18 v5) md_X2_totalOf q3199 q3201 qs97 dX2_ranked_133 rfl rfl (by decide) (Nat.le_of_ble_eq_true rfl) (n := 136) rfl (fun x21 s20 => ?_)
      refine x_aload_nr 1 dX2_ranked_136 rfl rfl (n := 137) rfl ?_
      refine x_iload_n 4 dX2_ranked_137 rfl rfl (n := 138) rfl ?_
      refine tw_callV_I [.int v3] [.int x21, .int v4] (T_totalOf_ok hO hE s20 v3) md_X2_totalOf q3199 q3201 qs97 dX2_ranked_138 rfl rfl (by decide) (Nat.le_of_ble_eq_true rfl) (n := 141) rfl (fun x23 s22 => ?_)
      refine tw_icmp_ne dX2_ranked_141 (t := 154) (by decide) (n := 144) rfl ?_ ?_
      · refine x_sub [1, 2, 3, 4, 6] [(0, .ref E.2.1), (1, .int v1), (2, .int v2), (3, .int v3), (5, .int v5)] rfl ?_
        exact T_ranked_154_ok hO hE hk68 v1 v2 v3 v5 v4 s22
      · refine x_iload 6 dX2_ranked_144 rfl (n := 146) rfl ?_
        refine x_iload_n 4 dX2_ranked_146 rfl rfl (n := 147) rfl ?_
        refine tw_icmp_ge dX2_ranked_147 (t := 154) (by decide) (n := 150) rfl ?_ ?_
        · refine x_sub [1, 2, 3, 4, 6] [(0, .ref E.2.1), (1, .int v1), (2, .int v2), (3, .int v3), (5, .int v5)] rfl ?_
          exact T_ranked_154_ok hO hE hk68 v1 v2 v3 v5 v4 s22
        · refine x_sub [1, 2, 3, 4, 6] [(0, .ref E.2.1), (1, .int v1), (2, .int v2), (3, .int v3), (5, .int v5)] rfl ?_
          exact T_ranked_150_ok hO hE hk68 v1 v2 v3 v5 v4 s22
theorem T_ranked_106_ok {G : xG} {E : TE} (hO : xOK G) (hE : tok E)  {k68 : Int32 × Int32 × Int32 × Int32 × Int32 × TS → Option (xO × TS)} (hk68 : ∀ (v1 : Int32) (v2 : Int32) (v3 : Int32) (v4 : Int32) (v5 : Int32) (s0 : TS), XT G E "ForestLegsModel" "ranked" cX2_ranked 7 (Option.some Jvm.ClassFile.FieldType.int) 4 68 [(0, .ref E.2.1), (1, .int v1), (2, .int v2), (3, .int v3), (4, .int v4), (5, .int v5)] [] s0 (k68 (v1, v2, v3, v4, v5, s0))) (v1 : Int32) (v2 : Int32) (v3 : Int32) (v4 : Int32) (v5 : Int32) (s0 : TS) : XT G E "ForestLegsModel" "ranked" cX2_ranked 7 (Option.some Jvm.ClassFile.FieldType.int) 4 106 [(0, .ref E.2.1), (1, .int v1), (2, .int v2), (3, .int v3), (4, .int v4), (5, .int v5)] [] s0 (T_ranked_106 k68 v1 v2 v3 v4 v5 s0) := by
  unfold T_ranked_106
  refine x_iconst 0 dX2_ranked_106 rfl (n := 107) rfl ?_
  exact T_ranked_107_ok hO hE hk68 v1 v2 v3 v4 v5 0 s0
theorem T_ranked_68F_ok {G : xG} {E : TE} (hO : xOK G) (hE : tok E)  {k31 : Int32 × Int32 × Int32 × TS → Option (xO × TS)} (hk31 : ∀ (v1 : Int32) (v2 : Int32) (v3 : Int32) (s0 : TS), XT G E "ForestLegsModel" "ranked" cX2_ranked 7 (Option.some Jvm.ClassFile.FieldType.int) 4 31 [(0, .ref E.2.1), (1, .int v1), (2, .int v2), (3, .int v3)] [] s0 (k31 (v1, v2, v3, s0))) {k68 : Int32 × Int32 × Int32 × Int32 × Int32 × TS → Option (xO × TS)} (hk68 : ∀ (v1 : Int32) (v2 : Int32) (v3 : Int32) (v4 : Int32) (v5 : Int32) (s0 : TS), XT G E "ForestLegsModel" "ranked" cX2_ranked 7 (Option.some Jvm.ClassFile.FieldType.int) 4 68 [(0, .ref E.2.1), (1, .int v1), (2, .int v2), (3, .int v3), (4, .int v4), (5, .int v5)] [] s0 (k68 (v1, v2, v3, v4, v5, s0))) (v1 : Int32) (v2 : Int32) (v3 : Int32) (v4 : Int32) (v5 : Int32) (s0 : TS) : XT G E "ForestLegsModel" "ranked" cX2_ranked 7 (Option.some Jvm.ClassFile.FieldType.int) 4 68 [(0, .ref E.2.1), (1, .int v1), (2, .int v2), (3, .int v3), (4, .int v4), (5, .int v5)] [] s0 (T_ranked_68F k31 k68 (v1, v2, v3, v4, v5, s0)) := by
  unfold T_ranked_68F
  refine x_iload 5 dX2_ranked_68 rfl (n := 70) rfl ?_
  refine x_aload_nr 0 dX2_ranked_70 rfl rfl (n := 71) rfl ?_
  refine tw_getA fl_X2_17 rfl (by decide) dX2_ranked_71 (n := 74) rfl ?_
  refine x_iconst 1 dX2_ranked_74 rfl (n := 75) rfl ?_
  refine tw_iald hE (by decide) dX2_ranked_75 (n := 76) rfl (fun x12 => ?_)
  refine tw_icmp_ge dX2_ranked_76 (t := 164) (by decide) (n := 79) rfl ?_ ?_
  · refine x_iload 4 dX2_ranked_164 rfl (n := 166) rfl ?_
    refine x_iload_n 2 dX2_ranked_166 rfl rfl (n := 167) rfl ?_
    refine tw_icmp_ne dX2_ranked_167 (t := 172) (by decide) (n := 170) rfl ?_ ?_
    · refine x_sub [0, 1, 2, 3] [(0, .ref E.2.1), (1, .int v1), (2, .int v2), (3, .int v3)] rfl ?_
      exact T_ranked_172_ok hO hE hk31 v1 v2 v3 s0
    · refine x_iload_n 3 dX2_ranked_170 rfl rfl (n := 171) rfl ?_
      exact tw_ireturn dX2_ranked_171
  · refine x_aload_nr 0 dX2_ranked_79 rfl rfl (n := 80) rfl ?_
    refine tw_getA fl_X2_17 rfl (by decide) dX2_ranked_80 (n := 83) rfl ?_
    refine x_bipush 37 dX2_ranked_83 rfl (n := 85) rfl ?_
    refine x_iload 5 dX2_ranked_85 rfl (n := 87) rfl ?_
    refine x_iadd dX2_ranked_87 (n := 88) rfl ?_
    refine tw_iald hE (by decide) dX2_ranked_88 (n := 89) rfl (fun x13 => ?_)
    refine x_iload_n 1 dX2_ranked_89 rfl rfl (n := 90) rfl ?_
    refine tw_icmp_ne dX2_ranked_90 (t := 106) (by decide) (n := 93) rfl ?_ ?_
    · exact T_ranked_106_ok hO hE hk68 v1 v2 v3 v4 v5 s0
    · refine x_aload_nr 0 dX2_ranked_93 rfl rfl (n := 94) rfl ?_
      refine x_iload 5 dX2_ranked_94 rfl (n := 96) rfl ?_
      refine tw_callV_I [.int v5] [] (T_isValid_ok hO hE s0 v5) md_X2_isValid q3132 q3134 qs82 dX2_ranked_96 rfl rfl (by decide) (Nat.le_of_ble_eq_true rfl) (n := 99) rfl (fun x25 s24 => ?_)
      refine tw_if_eq dX2_ranked_99 (t := 106) (by decide) (n := 102) rfl ?_ ?_
      · exact T_ranked_106_ok hO hE hk68 v1 v2 v3 v4 v5 s24
      · refine x_iconst 1 dX2_ranked_102 rfl (n := 103) rfl ?_
        refine x_goto dX2_ranked_103 (n := 107) (by decide) ?_
        exact T_ranked_107_ok hO hE hk68 v1 v2 v3 v4 v5 1 s24
theorem T_ranked_68_lp {G : xG} {E : TE} (hO : xOK G) (hE : tok E)  {k31 : Int32 × Int32 × Int32 × TS → Option (xO × TS)} (hk31 : ∀ (v1 : Int32) (v2 : Int32) (v3 : Int32) (s0 : TS), XT G E "ForestLegsModel" "ranked" cX2_ranked 7 (Option.some Jvm.ClassFile.FieldType.int) 4 31 [(0, .ref E.2.1), (1, .int v1), (2, .int v2), (3, .int v3)] [] s0 (k31 (v1, v2, v3, s0))) (n : Nat) (v1 : Int32) (v2 : Int32) (v3 : Int32) (v4 : Int32) (v5 : Int32) (s0 : TS) : XT G E "ForestLegsModel" "ranked" cX2_ranked 7 (Option.some Jvm.ClassFile.FieldType.int) 4 68 [(0, .ref E.2.1), (1, .int v1), (2, .int v2), (3, .int v3), (4, .int v4), (5, .int v5)] [] s0 (lp (T_ranked_68F k31) n (v1, v2, v3, v4, v5, s0)) :=
  lp_ok (W := fun p K => XT G E "ForestLegsModel" "ranked" cX2_ranked 7 (Option.some Jvm.ClassFile.FieldType.int) 4 68 [(0, .ref E.2.1), (1, .int p.1), (2, .int p.2.1), (3, .int p.2.2.1), (4, .int p.2.2.2.1), (5, .int p.2.2.2.2.1)] [] p.2.2.2.2.2 K) (fun _ => tw_no) (fun k hk => fun (v1, v2, v3, v4, v5, s0) => T_ranked_68F_ok hO hE hk31 (fun v1 v2 v3 v4 v5 s0 => hk (v1, v2, v3, v4, v5, s0)) v1 v2 v3 v4 v5 s0) n (v1, v2, v3, v4, v5, s0)
theorem T_ranked_31F_ok {G : xG} {E : TE} (hO : xOK G) (hE : tok E)   {k31 : Int32 × Int32 × Int32 × TS → Option (xO × TS)} (hk31 : ∀ (v1 : Int32) (v2 : Int32) (v3 : Int32) (s0 : TS), XT G E "ForestLegsModel" "ranked" cX2_ranked 7 (Option.some Jvm.ClassFile.FieldType.int) 4 31 [(0, .ref E.2.1), (1, .int v1), (2, .int v2), (3, .int v3)] [] s0 (k31 (v1, v2, v3, s0))) (v1 : Int32) (v2 : Int32) (v3 : Int32) (s0 : TS) : XT G E "ForestLegsModel" "ranked" cX2_ranked 7 (Option.some Jvm.ClassFile.FieldType.int) 4 31 [(0, .ref E.2.1), (1, .int v1), (2, .int v2), (3, .int v3)] [] s0 (T_ranked_31F k31 (v1, v2, v3, s0)) := by
  unfold T_ranked_31F
  refine x_iload_n 3 dX2_ranked_31 rfl rfl (n := 32) rfl ?_
  refine x_aload_nr 0 dX2_ranked_32 rfl rfl (n := 33) rfl ?_
  refine tw_getA fl_X2_17 rfl (by decide) dX2_ranked_33 (n := 36) rfl ?_
  refine x_iconst 1 dX2_ranked_36 rfl (n := 37) rfl ?_
  refine tw_iald hE (by decide) dX2_ranked_37 (n := 38) rfl (fun x7 => ?_)
  refine tw_icmp_ge dX2_ranked_38 (t := 178) (by decide) (n := 41) rfl ?_ ?_
  · refine x_bipush (-2) dX2_ranked_178 rfl (n := 180) rfl ?_
    exact tw_ireturn dX2_ranked_180
  · refine x_aload_nr 0 dX2_ranked_41 rfl rfl (n := 42) rfl ?_
    refine tw_getA fl_X2_17 rfl (by decide) dX2_ranked_42 (n := 45) rfl ?_
    refine x_bipush 37 dX2_ranked_45 rfl (n := 47) rfl ?_
    refine x_iload_n 3 dX2_ranked_47 rfl rfl (n := 48) rfl ?_
    refine x_iadd dX2_ranked_48 (n := 49) rfl ?_
    refine tw_iald hE (by decide) dX2_ranked_49 (n := 50) rfl (fun x8 => ?_)
    refine x_iload_n 1 dX2_ranked_50 rfl rfl (n := 51) rfl ?_
    refine tw_icmp_ne dX2_ranked_51 (t := 172) (by decide) (n := 54) rfl ?_ ?_
    · exact T_ranked_172_ok hO hE hk31 v1 v2 v3 s0
    · refine x_aload_nr 0 dX2_ranked_54 rfl rfl (n := 55) rfl ?_
      refine x_iload_n 3 dX2_ranked_55 rfl rfl (n := 56) rfl ?_
      refine tw_callV_I [.int v3] [] (T_isValid_ok hO hE s0 v3) md_X2_isValid q3132 q3134 qs82 dX2_ranked_56 rfl rfl (by decide) (Nat.le_of_ble_eq_true rfl) (n := 59) rfl (fun x11 s10 => ?_)
      refine tw_if_eq dX2_ranked_59 (t := 172) (by decide) (n := 62) rfl ?_ ?_
      · exact T_ranked_172_ok hO hE hk31 v1 v2 v3 s10
      · refine x_iconst 0 dX2_ranked_62 rfl (n := 63) rfl ?_
        refine x_istore [(4, .int 0), (0, .ref E.2.1), (1, .int v1), (2, .int v2), (3, .int v3)] dX2_ranked_63 (by decide) rfl (n := 65) rfl ?_
        refine x_iconst 0 dX2_ranked_65 rfl (n := 66) rfl ?_
        refine x_istore [(5, .int 0), (4, .int 0), (0, .ref E.2.1), (1, .int v1), (2, .int v2), (3, .int v3)] dX2_ranked_66 (by decide) rfl (n := 68) rfl ?_
        refine x_sub [2, 3, 4, 5, 1, 0] [(0, .ref E.2.1), (1, .int v1), (2, .int v2), (3, .int v3), (4, .int 0), (5, .int 0)] rfl ?_
        exact T_ranked_68_lp hO hE hk31 FU v1 v2 v3 0 0 s10
theorem T_ranked_31_lp {G : xG} {E : TE} (hO : xOK G) (hE : tok E)   (n : Nat) (v1 : Int32) (v2 : Int32) (v3 : Int32) (s0 : TS) : XT G E "ForestLegsModel" "ranked" cX2_ranked 7 (Option.some Jvm.ClassFile.FieldType.int) 4 31 [(0, .ref E.2.1), (1, .int v1), (2, .int v2), (3, .int v3)] [] s0 (lp (T_ranked_31F) n (v1, v2, v3, s0)) :=
  lp_ok (W := fun p K => XT G E "ForestLegsModel" "ranked" cX2_ranked 7 (Option.some Jvm.ClassFile.FieldType.int) 4 31 [(0, .ref E.2.1), (1, .int p.1), (2, .int p.2.1), (3, .int p.2.2.1)] [] p.2.2.2 K) (fun _ => tw_no) (fun k hk => fun (v1, v2, v3, s0) => T_ranked_31F_ok hO hE (fun v1 v2 v3 s0 => hk (v1, v2, v3, s0)) v1 v2 v3 s0) n (v1, v2, v3, s0)
theorem T_ranked_18_ok {G : xG} {E : TE} (hO : xOK G) (hE : tok E)   (v1 : Int32) (v2 : Int32) (w1 : Int32) (s0 : TS) : XT G E "ForestLegsModel" "ranked" cX2_ranked 7 (Option.some Jvm.ClassFile.FieldType.int) 4 18 [(0, .ref E.2.1), (1, .int v1), (2, .int v2)] [.int w1, .ref E.2.1] s0 (T_ranked_18 v1 v2 w1 s0) := by
  unfold T_ranked_18
  refine tw_callS_I [.int w1] [.ref E.2.1] (T_unless_2_ok hO hE s0 w1) md_X2_unless_2 q3121 q3122 dX2_ranked_18 rfl rfl (by decide) (Nat.le_of_ble_eq_true rfl) (n := 21) rfl (fun x4 s3 => ?_)
  refine tw_callV_I [.int x4] [] (T_isRefused_ok hO hE s3 x4) md_X2_isRefused q3022 q3024 qs63 dX2_ranked_21 rfl rfl (by decide) (Nat.le_of_ble_eq_true rfl) (n := 24) rfl (fun x6 s5 => ?_)
  refine tw_if_eq dX2_ranked_24 (t := 29) (by decide) (n := 27) rfl ?_ ?_
  · refine x_iconst 0 dX2_ranked_29 rfl (n := 30) rfl ?_
    refine x_istore_n [(3, .int 0), (0, .ref E.2.1), (1, .int v1), (2, .int v2)] dX2_ranked_30 rfl (by decide) rfl (n := 31) rfl ?_
    refine x_sub [1, 2, 3, 0] [(0, .ref E.2.1), (1, .int v1), (2, .int v2), (3, .int 0)] rfl ?_
    exact T_ranked_31_lp hO hE FU v1 v2 0 s5
  · refine x_iconst (-1) dX2_ranked_27 rfl (n := 28) rfl ?_
    exact tw_ireturn dX2_ranked_28
theorem T_ranked_17_ok {G : xG} {E : TE} (hO : xOK G) (hE : tok E)   (v1 : Int32) (v2 : Int32) (s0 : TS) : XT G E "ForestLegsModel" "ranked" cX2_ranked 7 (Option.some Jvm.ClassFile.FieldType.int) 4 17 [(0, .ref E.2.1), (1, .int v1), (2, .int v2)] [.ref E.2.1] s0 (T_ranked_17 v1 v2 s0) := by
  unfold T_ranked_17
  refine x_iconst 0 dX2_ranked_17 rfl (n := 18) rfl ?_
  exact T_ranked_18_ok hO hE v1 v2 0 s0
theorem T_ranked_ok {G : xG} {E : TE} (hO : xOK G) (hE : tok E) (s0 : TS) (a1 : Int32) (a2 : Int32) : CTT G E 4 yX2_ranked cX2_ranked 7 (Option.some Jvm.ClassFile.FieldType.int) [.ref E.2.1, .int a1, .int a2] s0 (T_ranked s0 a1 a2) := by
  refine CT_of hO (by decide +kernel) (by decide +kernel) (Nat.le_of_ble_eq_true rfl) ?_
  show XT G E "ForestLegsModel" "ranked" cX2_ranked 7 (Option.some Jvm.ClassFile.FieldType.int) 4 0 [(0, .ref E.2.1), (1, .int a1), (2, .int a2)] [] s0 (T_ranked s0 a1 a2)
  refine x_aload_nr 0 dX2_ranked_0 rfl rfl (n := 1) rfl ?_
  refine x_aload_nr 0 dX2_ranked_1 rfl rfl (n := 2) rfl ?_
  refine x_iload_n 1 dX2_ranked_2 rfl rfl (n := 3) rfl ?_
  refine tw_callV_I [.int a1] [.ref E.2.1] (T_isCourse_ok hO hE s0 a1) md_X2_isCourse q3159 q3161 qs87 dX2_ranked_3 rfl rfl (by decide) (Nat.le_of_ble_eq_true rfl) (n := 6) rfl (fun x2 s1 => ?_)
  refine tw_if_eq dX2_ranked_6 (t := 17) (by decide) (n := 9) rfl ?_ ?_
  · exact T_ranked_17_ok hO hE a1 a2 s1
  · refine x_iload_n 2 dX2_ranked_9 rfl rfl (n := 10) rfl ?_
    refine tw_if_lt dX2_ranked_10 (t := 17) (by decide) (n := 13) rfl ?_ ?_
    · exact T_ranked_17_ok hO hE a1 a2 s1
    · refine x_iconst 1 dX2_ranked_13 rfl (n := 14) rfl ?_
      refine x_goto dX2_ranked_14 (n := 18) (by decide) ?_
      exact T_ranked_18_ok hO hE a1 a2 1 s1
abbrev cX2_lostOn : ByteArray := prog_14_method_75_code
def yX2_lostOn : MethodName := ⟨RX2, "lostOn", "(II)I"⟩
def dkwX2_lostOn_1 : List UInt8 := [16, 37, 27, 96, 46, 28, 182, 0, 231, 100, 172]
abbrev dktX2_lostOn_1 : List UInt8 := dkwX2_lostOn_1 ++ []
def dkwX2_lostOn_0 : List UInt8 := [42, 27, 28, 182, 0, 221, 62, 29, 16, 254, 160, 0, 8, 16, 254, 167, 0, 19, 29, 42, 42, 180, 0, 17]
abbrev dktX2_lostOn_0 : List UInt8 := dkwX2_lostOn_0 ++ dktX2_lostOn_1
theorem dksX2_lostOn_0 : cX2_lostOn.data.toList.drop 0 = dktX2_lostOn_0 := by decide +kernel
theorem dksX2_lostOn_1 : cX2_lostOn.data.toList.drop 24 = dktX2_lostOn_1 := dk_seg dksX2_lostOn_0 24 rfl rfl
theorem dX2_lostOn_0 : decode cX2_lostOn 0 = .ok (.aload_n 0, 1) := dk_42 (dk_at dksX2_lostOn_0 0 rfl rfl)
theorem dX2_lostOn_1 : decode cX2_lostOn 1 = .ok (.iload_n 1, 1) := dk_27 (dk_at dksX2_lostOn_0 1 rfl rfl)
theorem dX2_lostOn_2 : decode cX2_lostOn 2 = .ok (.iload_n 2, 1) := dk_28 (dk_at dksX2_lostOn_0 2 rfl rfl)
theorem dX2_lostOn_3 : decode cX2_lostOn 3 = .ok (.invokevirtual 221, 3) := dk_182 0 221 (dk_at dksX2_lostOn_0 3 rfl rfl)
theorem dX2_lostOn_6 : decode cX2_lostOn 6 = .ok (.istore_n 3, 1) := dk_62 (dk_at dksX2_lostOn_0 6 rfl rfl)
theorem dX2_lostOn_7 : decode cX2_lostOn 7 = .ok (.iload_n 3, 1) := dk_29 (dk_at dksX2_lostOn_0 7 rfl rfl)
theorem dX2_lostOn_8 : decode cX2_lostOn 8 = .ok (.bipush (-2), 2) := dk_16 254 (dk_at dksX2_lostOn_0 8 rfl rfl)
theorem dX2_lostOn_10 : decode cX2_lostOn 10 = .ok (.if_icmp .ne 8, 3) := dk_160 0 8 (dk_at dksX2_lostOn_0 10 rfl rfl)
theorem dX2_lostOn_13 : decode cX2_lostOn 13 = .ok (.bipush (-2), 2) := dk_16 254 (dk_at dksX2_lostOn_0 13 rfl rfl)
theorem dX2_lostOn_15 : decode cX2_lostOn 15 = .ok (.goto 19, 3) := dk_167 0 19 (dk_at dksX2_lostOn_0 15 rfl rfl)
theorem dX2_lostOn_18 : decode cX2_lostOn 18 = .ok (.iload_n 3, 1) := dk_29 (dk_at dksX2_lostOn_0 18 rfl rfl)
theorem dX2_lostOn_19 : decode cX2_lostOn 19 = .ok (.aload_n 0, 1) := dk_42 (dk_at dksX2_lostOn_0 19 rfl rfl)
theorem dX2_lostOn_20 : decode cX2_lostOn 20 = .ok (.aload_n 0, 1) := dk_42 (dk_at dksX2_lostOn_0 20 rfl rfl)
theorem dX2_lostOn_21 : decode cX2_lostOn 21 = .ok (.getfield 17, 3) := dk_180 0 17 (dk_at dksX2_lostOn_0 21 rfl rfl)
theorem dX2_lostOn_24 : decode cX2_lostOn 24 = .ok (.bipush 37, 2) := dk_16 37 (dk_at dksX2_lostOn_1 0 rfl rfl)
theorem dX2_lostOn_26 : decode cX2_lostOn 26 = .ok (.iload_n 1, 1) := dk_27 (dk_at dksX2_lostOn_1 2 rfl rfl)
theorem dX2_lostOn_27 : decode cX2_lostOn 27 = .ok (.iadd, 1) := dk_96 (dk_at dksX2_lostOn_1 3 rfl rfl)
theorem dX2_lostOn_28 : decode cX2_lostOn 28 = .ok (.iaload, 1) := dk_46 (dk_at dksX2_lostOn_1 4 rfl rfl)
theorem dX2_lostOn_29 : decode cX2_lostOn 29 = .ok (.iload_n 2, 1) := dk_28 (dk_at dksX2_lostOn_1 5 rfl rfl)
theorem dX2_lostOn_30 : decode cX2_lostOn 30 = .ok (.invokevirtual 231, 3) := dk_182 0 231 (dk_at dksX2_lostOn_1 6 rfl rfl)
theorem dX2_lostOn_33 : decode cX2_lostOn 33 = .ok (.isub, 1) := dk_100 (dk_at dksX2_lostOn_1 9 rfl rfl)
theorem dX2_lostOn_34 : decode cX2_lostOn 34 = .ok (.ireturn, 1) := dk_172 (dk_at dksX2_lostOn_1 10 rfl rfl)
theorem md_X2_lostOn : xMd yX2_lostOn cX2_lostOn 4 (Option.some Jvm.ClassFile.FieldType.int) 2 := ⟨q3302, q126, by decide, by decide +kernel, by decide +kernel, by decide +kernel⟩
def T_lostOn (s0 : TS) (a1 : Int32) (a2 : Int32) : Option (xO × TS) :=
  (xcI (T_legOf s0 a1 a2) fun x2 s1 =>
  (if x2 = (-2) then
  (rI (-2) s1) else
  (tald s1 7 (37 + a1) fun x3 =>
  (xcI (T_bestLeg s1 x3 a2) fun x5 s4 =>
  (rI (x2 - x5) s4)))))
theorem T_lostOn_ok {G : xG} {E : TE} (hO : xOK G) (hE : tok E) (s0 : TS) (a1 : Int32) (a2 : Int32) : CTT G E 7 yX2_lostOn cX2_lostOn 4 (Option.some Jvm.ClassFile.FieldType.int) [.ref E.2.1, .int a1, .int a2] s0 (T_lostOn s0 a1 a2) := by
  refine CT_of hO (by decide +kernel) (by decide +kernel) (Nat.le_of_ble_eq_true rfl) ?_
  show XT G E "ForestLegsModel" "lostOn" cX2_lostOn 4 (Option.some Jvm.ClassFile.FieldType.int) 7 0 [(0, .ref E.2.1), (1, .int a1), (2, .int a2)] [] s0 (T_lostOn s0 a1 a2)
  refine x_aload_nr 0 dX2_lostOn_0 rfl rfl (n := 1) rfl ?_
  refine x_iload_n 1 dX2_lostOn_1 rfl rfl (n := 2) rfl ?_
  refine x_iload_n 2 dX2_lostOn_2 rfl rfl (n := 3) rfl ?_
  refine tw_callV_I [.int a1, .int a2] [] (T_legOf_ok hO hE s0 a1 a2) md_X2_legOf q3179 q3181 qs92 dX2_lostOn_3 rfl rfl (by decide) (Nat.le_of_ble_eq_true rfl) (n := 6) rfl (fun x2 s1 => ?_)
  refine x_istore_n [(3, .int x2), (0, .ref E.2.1), (1, .int a1), (2, .int a2)] dX2_lostOn_6 rfl (by decide) rfl (n := 7) rfl ?_
  refine x_iload_n 0 dX2_lostOn_7 rfl rfl (n := 8) rfl ?_
  refine x_bipush (-2) dX2_lostOn_8 rfl (n := 10) rfl ?_
  refine tw_icmp_ne dX2_lostOn_10 (t := 18) (by decide) (n := 13) rfl ?_ ?_
  · refine x_iload_n 0 dX2_lostOn_18 rfl rfl (n := 19) rfl ?_
    refine x_aload_nr 1 dX2_lostOn_19 rfl rfl (n := 20) rfl ?_
    refine x_aload_nr 1 dX2_lostOn_20 rfl rfl (n := 21) rfl ?_
    refine tw_getA fl_X2_17 rfl (by decide) dX2_lostOn_21 (n := 24) rfl ?_
    refine x_bipush 37 dX2_lostOn_24 rfl (n := 26) rfl ?_
    refine x_iload_n 2 dX2_lostOn_26 rfl rfl (n := 27) rfl ?_
    refine x_iadd dX2_lostOn_27 (n := 28) rfl ?_
    refine tw_iald hE (by decide) dX2_lostOn_28 (n := 29) rfl (fun x3 => ?_)
    refine x_iload_n 3 dX2_lostOn_29 rfl rfl (n := 30) rfl ?_
    refine tw_callV_I [.int x3, .int a2] [.int x2] (T_bestLeg_ok hO hE s1 x3 a2) md_X2_bestLeg q3171 q3173 qs90 dX2_lostOn_30 rfl rfl (by decide) (Nat.le_of_ble_eq_true rfl) (n := 33) rfl (fun x5 s4 => ?_)
    refine x_isub dX2_lostOn_33 (n := 34) rfl ?_
    exact tw_ireturn dX2_lostOn_34
  · refine x_bipush (-2) dX2_lostOn_13 rfl (n := 15) rfl ?_
    refine x_goto dX2_lostOn_15 (n := 34) (by decide) ?_
    exact tw_ireturn dX2_lostOn_34
abbrev cX2_lostByAll : ByteArray := prog_14_method_72_code
def yX2_lostByAll : MethodName := ⟨RX2, "lostByAll", "(II)I"⟩
def dkwX2_lostByAll_3 : List UInt8 := [62, 132, 4, 1, 167, 255, 187, 29, 172]
abbrev dktX2_lostByAll_3 : List UInt8 := dkwX2_lostByAll_3 ++ []
def dkwX2_lostByAll_2 : List UInt8 := [16, 254, 160, 0, 7, 29, 167, 0, 18, 29, 16, 254, 160, 0, 8, 21, 5, 167, 0, 7, 29, 21, 5, 96]
abbrev dktX2_lostByAll_2 : List UInt8 := dkwX2_lostByAll_2 ++ dktX2_lostByAll_3
def dkwX2_lostByAll_1 : List UInt8 := [21, 4, 96, 46, 27, 160, 0, 13, 42, 21, 4, 28, 182, 1, 26, 167, 0, 5, 16, 254, 54, 5, 21, 5]
abbrev dktX2_lostByAll_1 : List UInt8 := dkwX2_lostByAll_1 ++ dktX2_lostByAll_2
def dkwX2_lostByAll_0 : List UInt8 := [16, 254, 62, 3, 54, 4, 21, 4, 42, 180, 0, 17, 4, 46, 162, 0, 64, 42, 180, 0, 17, 16, 37]
abbrev dktX2_lostByAll_0 : List UInt8 := dkwX2_lostByAll_0 ++ dktX2_lostByAll_1
theorem dksX2_lostByAll_0 : cX2_lostByAll.data.toList.drop 0 = dktX2_lostByAll_0 := by decide +kernel
theorem dksX2_lostByAll_1 : cX2_lostByAll.data.toList.drop 23 = dktX2_lostByAll_1 := dk_seg dksX2_lostByAll_0 23 rfl rfl
theorem dksX2_lostByAll_2 : cX2_lostByAll.data.toList.drop 47 = dktX2_lostByAll_2 := dk_seg dksX2_lostByAll_1 24 rfl rfl
theorem dksX2_lostByAll_3 : cX2_lostByAll.data.toList.drop 71 = dktX2_lostByAll_3 := dk_seg dksX2_lostByAll_2 24 rfl rfl
theorem dX2_lostByAll_0 : decode cX2_lostByAll 0 = .ok (.bipush (-2), 2) := dk_16 254 (dk_at dksX2_lostByAll_0 0 rfl rfl)
theorem dX2_lostByAll_2 : decode cX2_lostByAll 2 = .ok (.istore_n 3, 1) := dk_62 (dk_at dksX2_lostByAll_0 2 rfl rfl)
theorem dX2_lostByAll_3 : decode cX2_lostByAll 3 = .ok (.iconst 0, 1) := dk_3 (dk_at dksX2_lostByAll_0 3 rfl rfl)
theorem dX2_lostByAll_4 : decode cX2_lostByAll 4 = .ok (.istore 4, 2) := dk_54 4 (dk_at dksX2_lostByAll_0 4 rfl rfl)
theorem dX2_lostByAll_6 : decode cX2_lostByAll 6 = .ok (.iload 4, 2) := dk_21 4 (dk_at dksX2_lostByAll_0 6 rfl rfl)
theorem dX2_lostByAll_8 : decode cX2_lostByAll 8 = .ok (.aload_n 0, 1) := dk_42 (dk_at dksX2_lostByAll_0 8 rfl rfl)
theorem dX2_lostByAll_9 : decode cX2_lostByAll 9 = .ok (.getfield 17, 3) := dk_180 0 17 (dk_at dksX2_lostByAll_0 9 rfl rfl)
theorem dX2_lostByAll_12 : decode cX2_lostByAll 12 = .ok (.iconst 1, 1) := dk_4 (dk_at dksX2_lostByAll_0 12 rfl rfl)
theorem dX2_lostByAll_13 : decode cX2_lostByAll 13 = .ok (.iaload, 1) := dk_46 (dk_at dksX2_lostByAll_0 13 rfl rfl)
theorem dX2_lostByAll_14 : decode cX2_lostByAll 14 = .ok (.if_icmp .ge 64, 3) := dk_162 0 64 (dk_at dksX2_lostByAll_0 14 rfl rfl)
theorem dX2_lostByAll_17 : decode cX2_lostByAll 17 = .ok (.aload_n 0, 1) := dk_42 (dk_at dksX2_lostByAll_0 17 rfl rfl)
theorem dX2_lostByAll_18 : decode cX2_lostByAll 18 = .ok (.getfield 17, 3) := dk_180 0 17 (dk_at dksX2_lostByAll_0 18 rfl rfl)
theorem dX2_lostByAll_21 : decode cX2_lostByAll 21 = .ok (.bipush 37, 2) := dk_16 37 (dk_at dksX2_lostByAll_0 21 rfl rfl)
theorem dX2_lostByAll_23 : decode cX2_lostByAll 23 = .ok (.iload 4, 2) := dk_21 4 (dk_at dksX2_lostByAll_1 0 rfl rfl)
theorem dX2_lostByAll_25 : decode cX2_lostByAll 25 = .ok (.iadd, 1) := dk_96 (dk_at dksX2_lostByAll_1 2 rfl rfl)
theorem dX2_lostByAll_26 : decode cX2_lostByAll 26 = .ok (.iaload, 1) := dk_46 (dk_at dksX2_lostByAll_1 3 rfl rfl)
theorem dX2_lostByAll_27 : decode cX2_lostByAll 27 = .ok (.iload_n 1, 1) := dk_27 (dk_at dksX2_lostByAll_1 4 rfl rfl)
theorem dX2_lostByAll_28 : decode cX2_lostByAll 28 = .ok (.if_icmp .ne 13, 3) := dk_160 0 13 (dk_at dksX2_lostByAll_1 5 rfl rfl)
theorem dX2_lostByAll_31 : decode cX2_lostByAll 31 = .ok (.aload_n 0, 1) := dk_42 (dk_at dksX2_lostByAll_1 8 rfl rfl)
theorem dX2_lostByAll_32 : decode cX2_lostByAll 32 = .ok (.iload 4, 2) := dk_21 4 (dk_at dksX2_lostByAll_1 9 rfl rfl)
theorem dX2_lostByAll_34 : decode cX2_lostByAll 34 = .ok (.iload_n 2, 1) := dk_28 (dk_at dksX2_lostByAll_1 11 rfl rfl)
theorem dX2_lostByAll_35 : decode cX2_lostByAll 35 = .ok (.invokevirtual 282, 3) := dk_182 1 26 (dk_at dksX2_lostByAll_1 12 rfl rfl)
theorem dX2_lostByAll_38 : decode cX2_lostByAll 38 = .ok (.goto 5, 3) := dk_167 0 5 (dk_at dksX2_lostByAll_1 15 rfl rfl)
theorem dX2_lostByAll_41 : decode cX2_lostByAll 41 = .ok (.bipush (-2), 2) := dk_16 254 (dk_at dksX2_lostByAll_1 18 rfl rfl)
theorem dX2_lostByAll_43 : decode cX2_lostByAll 43 = .ok (.istore 5, 2) := dk_54 5 (dk_at dksX2_lostByAll_1 20 rfl rfl)
theorem dX2_lostByAll_45 : decode cX2_lostByAll 45 = .ok (.iload 5, 2) := dk_21 5 (dk_at dksX2_lostByAll_1 22 rfl rfl)
theorem dX2_lostByAll_47 : decode cX2_lostByAll 47 = .ok (.bipush (-2), 2) := dk_16 254 (dk_at dksX2_lostByAll_2 0 rfl rfl)
theorem dX2_lostByAll_49 : decode cX2_lostByAll 49 = .ok (.if_icmp .ne 7, 3) := dk_160 0 7 (dk_at dksX2_lostByAll_2 2 rfl rfl)
theorem dX2_lostByAll_52 : decode cX2_lostByAll 52 = .ok (.iload_n 3, 1) := dk_29 (dk_at dksX2_lostByAll_2 5 rfl rfl)
theorem dX2_lostByAll_53 : decode cX2_lostByAll 53 = .ok (.goto 18, 3) := dk_167 0 18 (dk_at dksX2_lostByAll_2 6 rfl rfl)
theorem dX2_lostByAll_56 : decode cX2_lostByAll 56 = .ok (.iload_n 3, 1) := dk_29 (dk_at dksX2_lostByAll_2 9 rfl rfl)
theorem dX2_lostByAll_57 : decode cX2_lostByAll 57 = .ok (.bipush (-2), 2) := dk_16 254 (dk_at dksX2_lostByAll_2 10 rfl rfl)
theorem dX2_lostByAll_59 : decode cX2_lostByAll 59 = .ok (.if_icmp .ne 8, 3) := dk_160 0 8 (dk_at dksX2_lostByAll_2 12 rfl rfl)
theorem dX2_lostByAll_62 : decode cX2_lostByAll 62 = .ok (.iload 5, 2) := dk_21 5 (dk_at dksX2_lostByAll_2 15 rfl rfl)
theorem dX2_lostByAll_64 : decode cX2_lostByAll 64 = .ok (.goto 7, 3) := dk_167 0 7 (dk_at dksX2_lostByAll_2 17 rfl rfl)
theorem dX2_lostByAll_67 : decode cX2_lostByAll 67 = .ok (.iload_n 3, 1) := dk_29 (dk_at dksX2_lostByAll_2 20 rfl rfl)
theorem dX2_lostByAll_68 : decode cX2_lostByAll 68 = .ok (.iload 5, 2) := dk_21 5 (dk_at dksX2_lostByAll_2 21 rfl rfl)
theorem dX2_lostByAll_70 : decode cX2_lostByAll 70 = .ok (.iadd, 1) := dk_96 (dk_at dksX2_lostByAll_2 23 rfl rfl)
theorem dX2_lostByAll_71 : decode cX2_lostByAll 71 = .ok (.istore_n 3, 1) := dk_62 (dk_at dksX2_lostByAll_3 0 rfl rfl)
theorem dX2_lostByAll_72 : decode cX2_lostByAll 72 = .ok (.iinc 4 1, 3) := dk_132 4 1 (dk_at dksX2_lostByAll_3 1 rfl rfl)
theorem dX2_lostByAll_75 : decode cX2_lostByAll 75 = .ok (.goto (-69), 3) := dk_167 255 187 (dk_at dksX2_lostByAll_3 4 rfl rfl)
theorem dX2_lostByAll_78 : decode cX2_lostByAll 78 = .ok (.iload_n 3, 1) := dk_29 (dk_at dksX2_lostByAll_3 7 rfl rfl)
theorem dX2_lostByAll_79 : decode cX2_lostByAll 79 = .ok (.ireturn, 1) := dk_172 (dk_at dksX2_lostByAll_3 8 rfl rfl)
theorem md_X2_lostByAll : xMd yX2_lostByAll cX2_lostByAll 6 (Option.some Jvm.ClassFile.FieldType.int) 2 := ⟨q3298, q126, by decide, by decide +kernel, by decide +kernel, by decide +kernel⟩
def T_lostByAll_71  (k6 : Int32 × Int32 × Int32 × Int32 × TS → Option (xO × TS)) (v1 : Int32) (v2 : Int32) (v4 : Int32) (w0 : Int32) (s0 : TS) : Option (xO × TS) :=
  (bnd (v4 + 1) fun x3 =>
  (k6 (v1, v2, w0, x3, s0)))
def T_lostByAll_43  (k6 : Int32 × Int32 × Int32 × Int32 × TS → Option (xO × TS)) (v1 : Int32) (v2 : Int32) (v3 : Int32) (v4 : Int32) (w0 : Int32) (s0 : TS) : Option (xO × TS) :=
  (if w0 = (-2) then
  (T_lostByAll_71 k6 v1 v2 v4 v3 s0) else
  (if v3 = (-2) then
  (T_lostByAll_71 k6 v1 v2 v4 w0 s0) else
  (T_lostByAll_71 k6 v1 v2 v4 (v3 + w0) s0)))
def T_lostByAll_6F   (k6 : Int32 × Int32 × Int32 × Int32 × TS → Option (xO × TS)) (p : Int32 × Int32 × Int32 × Int32 × TS) : Option (xO × TS) := match p with
  | (v1, v2, v3, v4, s0) => (tald s0 7 1 fun x1 =>
  (if x1 ≤ v4 then
  (rI v3 s0) else
  (tald s0 7 (37 + v4) fun x2 =>
  (if x2 = v1 then
  (xcI (T_lostOn s0 v4 v2) fun x5 s4 =>
  (T_lostByAll_43 k6 v1 v2 v3 v4 x5 s4)) else
  (T_lostByAll_43 k6 v1 v2 v3 v4 (-2) s0)))))
def T_lostByAll (s0 : TS) (a1 : Int32) (a2 : Int32) : Option (xO × TS) :=
  (lp (T_lostByAll_6F) FU (a1, a2, (-2), 0, s0))
theorem T_lostByAll_71_ok {G : xG} {E : TE} (hO : xOK G) (hE : tok E)  {k6 : Int32 × Int32 × Int32 × Int32 × TS → Option (xO × TS)} (hk6 : ∀ (v1 : Int32) (v2 : Int32) (v3 : Int32) (v4 : Int32) (s0 : TS), XT G E "ForestLegsModel" "lostByAll" cX2_lostByAll 6 (Option.some Jvm.ClassFile.FieldType.int) 8 6 [(0, .ref E.2.1), (1, .int v1), (2, .int v2), (3, .int v3), (4, .int v4)] [] s0 (k6 (v1, v2, v3, v4, s0))) (v1 : Int32) (v2 : Int32) (v4 : Int32) (w0 : Int32) (s0 : TS) : XT G E "ForestLegsModel" "lostByAll" cX2_lostByAll 6 (Option.some Jvm.ClassFile.FieldType.int) 8 71 [(0, .ref E.2.1), (1, .int v1), (2, .int v2), (4, .int v4)] [.int w0] s0 (T_lostByAll_71 k6 v1 v2 v4 w0 s0) := by
  unfold T_lostByAll_71
  refine x_istore_n [(3, .int w0), (0, .ref E.2.1), (1, .int v1), (2, .int v2), (4, .int v4)] dX2_lostByAll_71 rfl (by decide) rfl (n := 72) rfl ?_
  refine tw_iinc 4 (fun x3 => [(4, .int x3), (3, .int w0), (0, .ref E.2.1), (1, .int v1), (2, .int v2)]) dX2_lostByAll_72 rfl rfl (by decide) (fun _ => rfl) (n := 75) rfl (fun x3 => ?_)
  refine x_goto dX2_lostByAll_75 (n := 6) (by decide) ?_
  refine x_sub [2, 3, 4, 1, 0] [(0, .ref E.2.1), (1, .int v1), (2, .int v2), (3, .int w0), (4, .int x3)] rfl ?_
  exact hk6 v1 v2 w0 x3 s0
theorem T_lostByAll_43_ok {G : xG} {E : TE} (hO : xOK G) (hE : tok E)  {k6 : Int32 × Int32 × Int32 × Int32 × TS → Option (xO × TS)} (hk6 : ∀ (v1 : Int32) (v2 : Int32) (v3 : Int32) (v4 : Int32) (s0 : TS), XT G E "ForestLegsModel" "lostByAll" cX2_lostByAll 6 (Option.some Jvm.ClassFile.FieldType.int) 8 6 [(0, .ref E.2.1), (1, .int v1), (2, .int v2), (3, .int v3), (4, .int v4)] [] s0 (k6 (v1, v2, v3, v4, s0))) (v1 : Int32) (v2 : Int32) (v3 : Int32) (v4 : Int32) (w0 : Int32) (s0 : TS) : XT G E "ForestLegsModel" "lostByAll" cX2_lostByAll 6 (Option.some Jvm.ClassFile.FieldType.int) 8 43 [(0, .ref E.2.1), (1, .int v1), (2, .int v2), (3, .int v3), (4, .int v4)] [.int w0] s0 (T_lostByAll_43 k6 v1 v2 v3 v4 w0 s0) := by
  unfold T_lostByAll_43
  refine x_istore [(5, .int w0), (0, .ref E.2.1), (1, .int v1), (2, .int v2), (3, .int v3), (4, .int v4)] dX2_lostByAll_43 (by decide) rfl (n := 45) rfl ?_
  refine x_iload 0 dX2_lostByAll_45 rfl (n := 47) rfl ?_
  refine x_bipush (-2) dX2_lostByAll_47 rfl (n := 49) rfl ?_
  refine tw_icmp_ne dX2_lostByAll_49 (t := 56) (by decide) (n := 52) rfl ?_ ?_
  · refine x_iload_n 4 dX2_lostByAll_56 rfl rfl (n := 57) rfl ?_
    refine x_bipush (-2) dX2_lostByAll_57 rfl (n := 59) rfl ?_
    refine tw_icmp_ne dX2_lostByAll_59 (t := 67) (by decide) (n := 62) rfl ?_ ?_
    · refine x_iload_n 4 dX2_lostByAll_67 rfl rfl (n := 68) rfl ?_
      refine x_iload 0 dX2_lostByAll_68 rfl (n := 70) rfl ?_
      refine x_iadd dX2_lostByAll_70 (n := 71) rfl ?_
      refine x_sub [1, 2, 3, 5] [(0, .ref E.2.1), (1, .int v1), (2, .int v2), (4, .int v4)] rfl ?_
      exact T_lostByAll_71_ok hO hE hk6 v1 v2 v4 (v3 + w0) s0
    · refine x_iload 0 dX2_lostByAll_62 rfl (n := 64) rfl ?_
      refine x_goto dX2_lostByAll_64 (n := 71) (by decide) ?_
      refine x_sub [1, 2, 3, 5] [(0, .ref E.2.1), (1, .int v1), (2, .int v2), (4, .int v4)] rfl ?_
      exact T_lostByAll_71_ok hO hE hk6 v1 v2 v4 w0 s0
  · refine x_iload_n 4 dX2_lostByAll_52 rfl rfl (n := 53) rfl ?_
    refine x_goto dX2_lostByAll_53 (n := 71) (by decide) ?_
    refine x_sub [1, 2, 3, 5] [(0, .ref E.2.1), (1, .int v1), (2, .int v2), (4, .int v4)] rfl ?_
    exact T_lostByAll_71_ok hO hE hk6 v1 v2 v4 v3 s0
theorem T_lostByAll_6F_ok {G : xG} {E : TE} (hO : xOK G) (hE : tok E)   {k6 : Int32 × Int32 × Int32 × Int32 × TS → Option (xO × TS)} (hk6 : ∀ (v1 : Int32) (v2 : Int32) (v3 : Int32) (v4 : Int32) (s0 : TS), XT G E "ForestLegsModel" "lostByAll" cX2_lostByAll 6 (Option.some Jvm.ClassFile.FieldType.int) 8 6 [(0, .ref E.2.1), (1, .int v1), (2, .int v2), (3, .int v3), (4, .int v4)] [] s0 (k6 (v1, v2, v3, v4, s0))) (v1 : Int32) (v2 : Int32) (v3 : Int32) (v4 : Int32) (s0 : TS) : XT G E "ForestLegsModel" "lostByAll" cX2_lostByAll 6 (Option.some Jvm.ClassFile.FieldType.int) 8 6 [(0, .ref E.2.1), (1, .int v1), (2, .int v2), (3, .int v3), (4, .int v4)] [] s0 (T_lostByAll_6F k6 (v1, v2, v3, v4, s0)) := by
  unfold T_lostByAll_6F
  refine x_iload 4 dX2_lostByAll_6 rfl (n := 8) rfl ?_
  refine x_aload_nr 0 dX2_lostByAll_8 rfl rfl (n := 9) rfl ?_
  refine tw_getA fl_X2_17 rfl (by decide) dX2_lostByAll_9 (n := 12) rfl ?_
  refine x_iconst 1 dX2_lostByAll_12 rfl (n := 13) rfl ?_
  refine tw_iald hE (by decide) dX2_lostByAll_13 (n := 14) rfl (fun x1 => ?_)
  refine tw_icmp_ge dX2_lostByAll_14 (t := 78) (by decide) (n := 17) rfl ?_ ?_
  · refine x_iload_n 3 dX2_lostByAll_78 rfl rfl (n := 79) rfl ?_
    exact tw_ireturn dX2_lostByAll_79
  · refine x_aload_nr 0 dX2_lostByAll_17 rfl rfl (n := 18) rfl ?_
    refine tw_getA fl_X2_17 rfl (by decide) dX2_lostByAll_18 (n := 21) rfl ?_
    refine x_bipush 37 dX2_lostByAll_21 rfl (n := 23) rfl ?_
    refine x_iload 4 dX2_lostByAll_23 rfl (n := 25) rfl ?_
    refine x_iadd dX2_lostByAll_25 (n := 26) rfl ?_
    refine tw_iald hE (by decide) dX2_lostByAll_26 (n := 27) rfl (fun x2 => ?_)
    refine x_iload_n 1 dX2_lostByAll_27 rfl rfl (n := 28) rfl ?_
    refine tw_icmp_ne dX2_lostByAll_28 (t := 41) (by decide) (n := 31) rfl ?_ ?_
    · refine x_bipush (-2) dX2_lostByAll_41 rfl (n := 43) rfl ?_
      exact T_lostByAll_43_ok hO hE hk6 v1 v2 v3 v4 (-2) s0
    · refine x_aload_nr 0 dX2_lostByAll_31 rfl rfl (n := 32) rfl ?_
      refine x_iload 4 dX2_lostByAll_32 rfl (n := 34) rfl ?_
      refine x_iload_n 2 dX2_lostByAll_34 rfl rfl (n := 35) rfl ?_
      refine tw_callV_I [.int v4, .int v2] [] (T_lostOn_ok hO hE s0 v4 v2) md_X2_lostOn q3299 q3301 qs109 dX2_lostByAll_35 rfl rfl (by decide) (Nat.le_of_ble_eq_true rfl) (n := 38) rfl (fun x5 s4 => ?_)
      refine x_goto dX2_lostByAll_38 (n := 43) (by decide) ?_
      exact T_lostByAll_43_ok hO hE hk6 v1 v2 v3 v4 x5 s4
theorem T_lostByAll_6_lp {G : xG} {E : TE} (hO : xOK G) (hE : tok E)   (n : Nat) (v1 : Int32) (v2 : Int32) (v3 : Int32) (v4 : Int32) (s0 : TS) : XT G E "ForestLegsModel" "lostByAll" cX2_lostByAll 6 (Option.some Jvm.ClassFile.FieldType.int) 8 6 [(0, .ref E.2.1), (1, .int v1), (2, .int v2), (3, .int v3), (4, .int v4)] [] s0 (lp (T_lostByAll_6F) n (v1, v2, v3, v4, s0)) :=
  lp_ok (W := fun p K => XT G E "ForestLegsModel" "lostByAll" cX2_lostByAll 6 (Option.some Jvm.ClassFile.FieldType.int) 8 6 [(0, .ref E.2.1), (1, .int p.1), (2, .int p.2.1), (3, .int p.2.2.1), (4, .int p.2.2.2.1)] [] p.2.2.2.2 K) (fun _ => tw_no) (fun k hk => fun (v1, v2, v3, v4, s0) => T_lostByAll_6F_ok hO hE (fun v1 v2 v3 v4 s0 => hk (v1, v2, v3, v4, s0)) v1 v2 v3 v4 s0) n (v1, v2, v3, v4, s0)
theorem T_lostByAll_ok {G : xG} {E : TE} (hO : xOK G) (hE : tok E) (s0 : TS) (a1 : Int32) (a2 : Int32) : CTT G E 8 yX2_lostByAll cX2_lostByAll 6 (Option.some Jvm.ClassFile.FieldType.int) [.ref E.2.1, .int a1, .int a2] s0 (T_lostByAll s0 a1 a2) := by
  refine CT_of hO (by decide +kernel) (by decide +kernel) (Nat.le_of_ble_eq_true rfl) ?_
  show XT G E "ForestLegsModel" "lostByAll" cX2_lostByAll 6 (Option.some Jvm.ClassFile.FieldType.int) 8 0 [(0, .ref E.2.1), (1, .int a1), (2, .int a2)] [] s0 (T_lostByAll s0 a1 a2)
  refine x_bipush (-2) dX2_lostByAll_0 rfl (n := 2) rfl ?_
  refine x_istore_n [(3, .int (-2)), (0, .ref E.2.1), (1, .int a1), (2, .int a2)] dX2_lostByAll_2 rfl (by decide) rfl (n := 3) rfl ?_
  refine x_iconst 0 dX2_lostByAll_3 rfl (n := 4) rfl ?_
  refine x_istore [(4, .int 0), (3, .int (-2)), (0, .ref E.2.1), (1, .int a1), (2, .int a2)] dX2_lostByAll_4 (by decide) rfl (n := 6) rfl ?_
  refine x_sub [2, 3, 4, 1, 0] [(0, .ref E.2.1), (1, .int a1), (2, .int a2), (3, .int (-2)), (4, .int 0)] rfl ?_
  exact T_lostByAll_6_lp hO hE FU a1 a2 (-2) 0 s0
abbrev cX2_hardest : ByteArray := prog_14_method_73_code
def yX2_hardest : MethodName := ⟨RX2, "hardest", "(II)I"⟩
def dkwX2_hardest_4 : List UInt8 := [132, 5, 1, 167, 255, 204, 28, 154, 0, 7, 29, 167, 0, 5, 21, 4, 172]
abbrev dktX2_hardest_4 : List UInt8 := dkwX2_hardest_4 ++ []
def dkwX2_hardest_3 : List UInt8 := [159, 0, 23, 29, 16, 254, 159, 0, 10, 21, 6, 21, 4, 164, 0, 10, 21, 5, 62, 21, 6, 54, 4]
abbrev dktX2_hardest_3 : List UInt8 := dkwX2_hardest_3 ++ dktX2_hardest_4
def dkwX2_hardest_2 : List UInt8 := [180, 0, 17, 7, 27, 96, 46, 163, 0, 45, 42, 27, 21, 5, 182, 1, 29, 54, 6, 21, 6, 16, 254]
abbrev dktX2_hardest_2 : List UInt8 := dkwX2_hardest_2 ++ dktX2_hardest_3
def dkwX2_hardest_1 : List UInt8 := [184, 0, 234, 182, 0, 161, 153, 0, 5, 2, 172, 16, 254, 62, 16, 254, 54, 4, 3, 54, 5, 21, 5, 42]
abbrev dktX2_hardest_1 : List UInt8 := dkwX2_hardest_1 ++ dktX2_hardest_2
def dkwX2_hardest_0 : List UInt8 := [42, 42, 27, 182, 0, 184, 153, 0, 16, 28, 3, 4, 184, 0, 79, 153, 0, 7, 4, 167, 0, 4, 3]
abbrev dktX2_hardest_0 : List UInt8 := dkwX2_hardest_0 ++ dktX2_hardest_1
theorem dksX2_hardest_0 : cX2_hardest.data.toList.drop 0 = dktX2_hardest_0 := by decide +kernel
theorem dksX2_hardest_1 : cX2_hardest.data.toList.drop 23 = dktX2_hardest_1 := dk_seg dksX2_hardest_0 23 rfl rfl
theorem dksX2_hardest_2 : cX2_hardest.data.toList.drop 47 = dktX2_hardest_2 := dk_seg dksX2_hardest_1 24 rfl rfl
theorem dksX2_hardest_3 : cX2_hardest.data.toList.drop 70 = dktX2_hardest_3 := dk_seg dksX2_hardest_2 23 rfl rfl
theorem dksX2_hardest_4 : cX2_hardest.data.toList.drop 93 = dktX2_hardest_4 := dk_seg dksX2_hardest_3 23 rfl rfl
theorem dX2_hardest_0 : decode cX2_hardest 0 = .ok (.aload_n 0, 1) := dk_42 (dk_at dksX2_hardest_0 0 rfl rfl)
theorem dX2_hardest_1 : decode cX2_hardest 1 = .ok (.aload_n 0, 1) := dk_42 (dk_at dksX2_hardest_0 1 rfl rfl)
theorem dX2_hardest_2 : decode cX2_hardest 2 = .ok (.iload_n 1, 1) := dk_27 (dk_at dksX2_hardest_0 2 rfl rfl)
theorem dX2_hardest_3 : decode cX2_hardest 3 = .ok (.invokevirtual 184, 3) := dk_182 0 184 (dk_at dksX2_hardest_0 3 rfl rfl)
theorem dX2_hardest_6 : decode cX2_hardest 6 = .ok (.ifCond .eq 16, 3) := dk_153 0 16 (dk_at dksX2_hardest_0 6 rfl rfl)
theorem dX2_hardest_9 : decode cX2_hardest 9 = .ok (.iload_n 2, 1) := dk_28 (dk_at dksX2_hardest_0 9 rfl rfl)
theorem dX2_hardest_10 : decode cX2_hardest 10 = .ok (.iconst 0, 1) := dk_3 (dk_at dksX2_hardest_0 10 rfl rfl)
theorem dX2_hardest_11 : decode cX2_hardest 11 = .ok (.iconst 1, 1) := dk_4 (dk_at dksX2_hardest_0 11 rfl rfl)
theorem dX2_hardest_12 : decode cX2_hardest 12 = .ok (.invokestatic 79, 3) := dk_184 0 79 (dk_at dksX2_hardest_0 12 rfl rfl)
theorem dX2_hardest_15 : decode cX2_hardest 15 = .ok (.ifCond .eq 7, 3) := dk_153 0 7 (dk_at dksX2_hardest_0 15 rfl rfl)
theorem dX2_hardest_18 : decode cX2_hardest 18 = .ok (.iconst 1, 1) := dk_4 (dk_at dksX2_hardest_0 18 rfl rfl)
theorem dX2_hardest_19 : decode cX2_hardest 19 = .ok (.goto 4, 3) := dk_167 0 4 (dk_at dksX2_hardest_0 19 rfl rfl)
theorem dX2_hardest_22 : decode cX2_hardest 22 = .ok (.iconst 0, 1) := dk_3 (dk_at dksX2_hardest_0 22 rfl rfl)
theorem dX2_hardest_23 : decode cX2_hardest 23 = .ok (.invokestatic 234, 3) := dk_184 0 234 (dk_at dksX2_hardest_1 0 rfl rfl)
theorem dX2_hardest_26 : decode cX2_hardest 26 = .ok (.invokevirtual 161, 3) := dk_182 0 161 (dk_at dksX2_hardest_1 3 rfl rfl)
theorem dX2_hardest_29 : decode cX2_hardest 29 = .ok (.ifCond .eq 5, 3) := dk_153 0 5 (dk_at dksX2_hardest_1 6 rfl rfl)
theorem dX2_hardest_32 : decode cX2_hardest 32 = .ok (.iconst (-1), 1) := dk_2 (dk_at dksX2_hardest_1 9 rfl rfl)
theorem dX2_hardest_33 : decode cX2_hardest 33 = .ok (.ireturn, 1) := dk_172 (dk_at dksX2_hardest_1 10 rfl rfl)
theorem dX2_hardest_34 : decode cX2_hardest 34 = .ok (.bipush (-2), 2) := dk_16 254 (dk_at dksX2_hardest_1 11 rfl rfl)
theorem dX2_hardest_36 : decode cX2_hardest 36 = .ok (.istore_n 3, 1) := dk_62 (dk_at dksX2_hardest_1 13 rfl rfl)
theorem dX2_hardest_37 : decode cX2_hardest 37 = .ok (.bipush (-2), 2) := dk_16 254 (dk_at dksX2_hardest_1 14 rfl rfl)
theorem dX2_hardest_39 : decode cX2_hardest 39 = .ok (.istore 4, 2) := dk_54 4 (dk_at dksX2_hardest_1 16 rfl rfl)
theorem dX2_hardest_41 : decode cX2_hardest 41 = .ok (.iconst 0, 1) := dk_3 (dk_at dksX2_hardest_1 18 rfl rfl)
theorem dX2_hardest_42 : decode cX2_hardest 42 = .ok (.istore 5, 2) := dk_54 5 (dk_at dksX2_hardest_1 19 rfl rfl)
theorem dX2_hardest_44 : decode cX2_hardest 44 = .ok (.iload 5, 2) := dk_21 5 (dk_at dksX2_hardest_1 21 rfl rfl)
theorem dX2_hardest_46 : decode cX2_hardest 46 = .ok (.aload_n 0, 1) := dk_42 (dk_at dksX2_hardest_1 23 rfl rfl)
theorem dX2_hardest_47 : decode cX2_hardest 47 = .ok (.getfield 17, 3) := dk_180 0 17 (dk_at dksX2_hardest_2 0 rfl rfl)
theorem dX2_hardest_50 : decode cX2_hardest 50 = .ok (.iconst 4, 1) := dk_7 (dk_at dksX2_hardest_2 3 rfl rfl)
theorem dX2_hardest_51 : decode cX2_hardest 51 = .ok (.iload_n 1, 1) := dk_27 (dk_at dksX2_hardest_2 4 rfl rfl)
theorem dX2_hardest_52 : decode cX2_hardest 52 = .ok (.iadd, 1) := dk_96 (dk_at dksX2_hardest_2 5 rfl rfl)
theorem dX2_hardest_53 : decode cX2_hardest 53 = .ok (.iaload, 1) := dk_46 (dk_at dksX2_hardest_2 6 rfl rfl)
theorem dX2_hardest_54 : decode cX2_hardest 54 = .ok (.if_icmp .gt 45, 3) := dk_163 0 45 (dk_at dksX2_hardest_2 7 rfl rfl)
theorem dX2_hardest_57 : decode cX2_hardest 57 = .ok (.aload_n 0, 1) := dk_42 (dk_at dksX2_hardest_2 10 rfl rfl)
theorem dX2_hardest_58 : decode cX2_hardest 58 = .ok (.iload_n 1, 1) := dk_27 (dk_at dksX2_hardest_2 11 rfl rfl)
theorem dX2_hardest_59 : decode cX2_hardest 59 = .ok (.iload 5, 2) := dk_21 5 (dk_at dksX2_hardest_2 12 rfl rfl)
theorem dX2_hardest_61 : decode cX2_hardest 61 = .ok (.invokevirtual 285, 3) := dk_182 1 29 (dk_at dksX2_hardest_2 14 rfl rfl)
theorem dX2_hardest_64 : decode cX2_hardest 64 = .ok (.istore 6, 2) := dk_54 6 (dk_at dksX2_hardest_2 17 rfl rfl)
theorem dX2_hardest_66 : decode cX2_hardest 66 = .ok (.iload 6, 2) := dk_21 6 (dk_at dksX2_hardest_2 19 rfl rfl)
theorem dX2_hardest_68 : decode cX2_hardest 68 = .ok (.bipush (-2), 2) := dk_16 254 (dk_at dksX2_hardest_2 21 rfl rfl)
theorem dX2_hardest_70 : decode cX2_hardest 70 = .ok (.if_icmp .eq 23, 3) := dk_159 0 23 (dk_at dksX2_hardest_3 0 rfl rfl)
theorem dX2_hardest_73 : decode cX2_hardest 73 = .ok (.iload_n 3, 1) := dk_29 (dk_at dksX2_hardest_3 3 rfl rfl)
theorem dX2_hardest_74 : decode cX2_hardest 74 = .ok (.bipush (-2), 2) := dk_16 254 (dk_at dksX2_hardest_3 4 rfl rfl)
theorem dX2_hardest_76 : decode cX2_hardest 76 = .ok (.if_icmp .eq 10, 3) := dk_159 0 10 (dk_at dksX2_hardest_3 6 rfl rfl)
theorem dX2_hardest_79 : decode cX2_hardest 79 = .ok (.iload 6, 2) := dk_21 6 (dk_at dksX2_hardest_3 9 rfl rfl)
theorem dX2_hardest_81 : decode cX2_hardest 81 = .ok (.iload 4, 2) := dk_21 4 (dk_at dksX2_hardest_3 11 rfl rfl)
theorem dX2_hardest_83 : decode cX2_hardest 83 = .ok (.if_icmp .le 10, 3) := dk_164 0 10 (dk_at dksX2_hardest_3 13 rfl rfl)
theorem dX2_hardest_86 : decode cX2_hardest 86 = .ok (.iload 5, 2) := dk_21 5 (dk_at dksX2_hardest_3 16 rfl rfl)
theorem dX2_hardest_88 : decode cX2_hardest 88 = .ok (.istore_n 3, 1) := dk_62 (dk_at dksX2_hardest_3 18 rfl rfl)
theorem dX2_hardest_89 : decode cX2_hardest 89 = .ok (.iload 6, 2) := dk_21 6 (dk_at dksX2_hardest_3 19 rfl rfl)
theorem dX2_hardest_91 : decode cX2_hardest 91 = .ok (.istore 4, 2) := dk_54 4 (dk_at dksX2_hardest_3 21 rfl rfl)
theorem dX2_hardest_93 : decode cX2_hardest 93 = .ok (.iinc 5 1, 3) := dk_132 5 1 (dk_at dksX2_hardest_4 0 rfl rfl)
theorem dX2_hardest_96 : decode cX2_hardest 96 = .ok (.goto (-52), 3) := dk_167 255 204 (dk_at dksX2_hardest_4 3 rfl rfl)
theorem dX2_hardest_99 : decode cX2_hardest 99 = .ok (.iload_n 2, 1) := dk_28 (dk_at dksX2_hardest_4 6 rfl rfl)
theorem dX2_hardest_100 : decode cX2_hardest 100 = .ok (.ifCond .ne 7, 3) := dk_154 0 7 (dk_at dksX2_hardest_4 7 rfl rfl)
theorem dX2_hardest_103 : decode cX2_hardest 103 = .ok (.iload_n 3, 1) := dk_29 (dk_at dksX2_hardest_4 10 rfl rfl)
theorem dX2_hardest_104 : decode cX2_hardest 104 = .ok (.goto 5, 3) := dk_167 0 5 (dk_at dksX2_hardest_4 11 rfl rfl)
theorem dX2_hardest_107 : decode cX2_hardest 107 = .ok (.iload 4, 2) := dk_21 4 (dk_at dksX2_hardest_4 14 rfl rfl)
theorem dX2_hardest_109 : decode cX2_hardest 109 = .ok (.ireturn, 1) := dk_172 (dk_at dksX2_hardest_4 16 rfl rfl)
theorem md_X2_hardest : xMd yX2_hardest cX2_hardest 7 (Option.some Jvm.ClassFile.FieldType.int) 2 := ⟨q3294, q126, by decide, by decide +kernel, by decide +kernel, by decide +kernel⟩
def T_hardest_93  (k44 : Int32 × Int32 × Int32 × Int32 × Int32 × TS → Option (xO × TS)) (v1 : Int32) (v2 : Int32) (v3 : Int32) (v4 : Int32) (v5 : Int32) (s0 : TS) : Option (xO × TS) :=
  (bnd (v5 + 1) fun x10 =>
  (k44 (v1, v2, v3, v4, x10, s0)))
def T_hardest_86  (k44 : Int32 × Int32 × Int32 × Int32 × Int32 × TS → Option (xO × TS)) (v1 : Int32) (v2 : Int32) (v5 : Int32) (v6 : Int32) (s0 : TS) : Option (xO × TS) :=
  (T_hardest_93 k44 v1 v2 v5 v6 v5 s0)
def T_hardest_44F   (k44 : Int32 × Int32 × Int32 × Int32 × Int32 × TS → Option (xO × TS)) (p : Int32 × Int32 × Int32 × Int32 × Int32 × TS) : Option (xO × TS) := match p with
  | (v1, v2, v3, v4, v5, s0) => (tald s0 7 (4 + v1) fun x7 =>
  (if x7 < v5 then
  (if v2 = 0 then
  (rI v3 s0) else
  (rI v4 s0)) else
  (xcI (T_lostByAll s0 v1 v5) fun x9 s8 =>
  (if x9 = (-2) then
  (T_hardest_93 k44 v1 v2 v3 v4 v5 s8) else
  (if v3 = (-2) then
  (T_hardest_86 k44 v1 v2 v5 x9 s8) else
  (if x9 ≤ v4 then
  (T_hardest_93 k44 v1 v2 v3 v4 v5 s8) else
  (T_hardest_86 k44 v1 v2 v5 x9 s8)))))))
def T_hardest_23   (v1 : Int32) (v2 : Int32) (w1 : Int32) (s0 : TS) : Option (xO × TS) :=
  (xcI (T_unless_2 s0 w1) fun x4 s3 =>
  (xcI (T_isRefused s3 x4) fun x6 s5 =>
  (if x6 = 0 then
  (lp (T_hardest_44F) FU (v1, v2, (-2), (-2), 0, s5)) else
  (rI (-1) s5))))
def T_hardest_22   (v1 : Int32) (v2 : Int32) (s0 : TS) : Option (xO × TS) :=
  (T_hardest_23 v1 v2 0 s0)
def T_hardest (s0 : TS) (a1 : Int32) (a2 : Int32) : Option (xO × TS) :=
  (xcI (T_isCourse s0 a1) fun x2 s1 =>
  (if x2 = 0 then
  (T_hardest_22 a1 a2 s1) else
  (xcI (T_in s1 a2 0 1) fun x12 s11 =>
  (if x12 = 0 then
  (T_hardest_22 a1 a2 s11) else
  (T_hardest_23 a1 a2 1 s11)))))
theorem T_hardest_93_ok {G : xG} {E : TE} (hO : xOK G) (hE : tok E)  {k44 : Int32 × Int32 × Int32 × Int32 × Int32 × TS → Option (xO × TS)} (hk44 : ∀ (v1 : Int32) (v2 : Int32) (v3 : Int32) (v4 : Int32) (v5 : Int32) (s0 : TS), XT G E "ForestLegsModel" "hardest" cX2_hardest 7 (Option.some Jvm.ClassFile.FieldType.int) 9 44 [(0, .ref E.2.1), (1, .int v1), (2, .int v2), (3, .int v3), (4, .int v4), (5, .int v5)] [] s0 (k44 (v1, v2, v3, v4, v5, s0))) (v1 : Int32) (v2 : Int32) (v3 : Int32) (v4 : Int32) (v5 : Int32) (s0 : TS) : XT G E "ForestLegsModel" "hardest" cX2_hardest 7 (Option.some Jvm.ClassFile.FieldType.int) 9 93 [(0, .ref E.2.1), (1, .int v1), (2, .int v2), (3, .int v3), (4, .int v4), (5, .int v5)] [] s0 (T_hardest_93 k44 v1 v2 v3 v4 v5 s0) := by
  unfold T_hardest_93
  refine tw_iinc 5 (fun x10 => [(5, .int x10), (0, .ref E.2.1), (1, .int v1), (2, .int v2), (3, .int v3), (4, .int v4)]) dX2_hardest_93 rfl rfl (by decide) (fun _ => rfl) (n := 96) rfl (fun x10 => ?_)
  refine x_goto dX2_hardest_96 (n := 44) (by decide) ?_
  refine x_sub [1, 2, 3, 4, 5, 0] [(0, .ref E.2.1), (1, .int v1), (2, .int v2), (3, .int v3), (4, .int v4), (5, .int x10)] rfl ?_
  exact hk44 v1 v2 v3 v4 x10 s0
theorem T_hardest_86_ok {G : xG} {E : TE} (hO : xOK G) (hE : tok E)  {k44 : Int32 × Int32 × Int32 × Int32 × Int32 × TS → Option (xO × TS)} (hk44 : ∀ (v1 : Int32) (v2 : Int32) (v3 : Int32) (v4 : Int32) (v5 : Int32) (s0 : TS), XT G E "ForestLegsModel" "hardest" cX2_hardest 7 (Option.some Jvm.ClassFile.FieldType.int) 9 44 [(0, .ref E.2.1), (1, .int v1), (2, .int v2), (3, .int v3), (4, .int v4), (5, .int v5)] [] s0 (k44 (v1, v2, v3, v4, v5, s0))) (v1 : Int32) (v2 : Int32) (v5 : Int32) (v6 : Int32) (s0 : TS) : XT G E "ForestLegsModel" "hardest" cX2_hardest 7 (Option.some Jvm.ClassFile.FieldType.int) 9 86 [(0, .ref E.2.1), (1, .int v1), (2, .int v2), (5, .int v5), (6, .int v6)] [] s0 (T_hardest_86 k44 v1 v2 v5 v6 s0) := by
  unfold T_hardest_86
  refine x_iload 3 dX2_hardest_86 rfl (n := 88) rfl ?_
  refine x_istore_n [(3, .int v5), (0, .ref E.2.1), (1, .int v1), (2, .int v2), (5, .int v5), (6, .int v6)] dX2_hardest_88 rfl (by decide) rfl (n := 89) rfl ?_
  refine x_iload 5 dX2_hardest_89 rfl (n := 91) rfl ?_
  refine x_istore [(4, .int v6), (3, .int v5), (0, .ref E.2.1), (1, .int v1), (2, .int v2), (5, .int v5), (6, .int v6)] dX2_hardest_91 (by decide) rfl (n := 93) rfl ?_
  refine x_sub [2, 3, 4, 1, 0, 5] [(0, .ref E.2.1), (1, .int v1), (2, .int v2), (3, .int v5), (4, .int v6), (5, .int v5)] rfl ?_
  exact T_hardest_93_ok hO hE hk44 v1 v2 v5 v6 v5 s0
theorem T_hardest_44F_ok {G : xG} {E : TE} (hO : xOK G) (hE : tok E)   {k44 : Int32 × Int32 × Int32 × Int32 × Int32 × TS → Option (xO × TS)} (hk44 : ∀ (v1 : Int32) (v2 : Int32) (v3 : Int32) (v4 : Int32) (v5 : Int32) (s0 : TS), XT G E "ForestLegsModel" "hardest" cX2_hardest 7 (Option.some Jvm.ClassFile.FieldType.int) 9 44 [(0, .ref E.2.1), (1, .int v1), (2, .int v2), (3, .int v3), (4, .int v4), (5, .int v5)] [] s0 (k44 (v1, v2, v3, v4, v5, s0))) (v1 : Int32) (v2 : Int32) (v3 : Int32) (v4 : Int32) (v5 : Int32) (s0 : TS) : XT G E "ForestLegsModel" "hardest" cX2_hardest 7 (Option.some Jvm.ClassFile.FieldType.int) 9 44 [(0, .ref E.2.1), (1, .int v1), (2, .int v2), (3, .int v3), (4, .int v4), (5, .int v5)] [] s0 (T_hardest_44F k44 (v1, v2, v3, v4, v5, s0)) := by
  unfold T_hardest_44F
  refine x_iload 5 dX2_hardest_44 rfl (n := 46) rfl ?_
  refine x_aload_nr 0 dX2_hardest_46 rfl rfl (n := 47) rfl ?_
  refine tw_getA fl_X2_17 rfl (by decide) dX2_hardest_47 (n := 50) rfl ?_
  refine x_iconst 4 dX2_hardest_50 rfl (n := 51) rfl ?_
  refine x_iload_n 1 dX2_hardest_51 rfl rfl (n := 52) rfl ?_
  refine x_iadd dX2_hardest_52 (n := 53) rfl ?_
  refine tw_iald hE (by decide) dX2_hardest_53 (n := 54) rfl (fun x7 => ?_)
  refine tw_icmp_gt dX2_hardest_54 (t := 99) (by decide) (n := 57) rfl ?_ ?_
  · refine x_iload_n 2 dX2_hardest_99 rfl rfl (n := 100) rfl ?_
    refine tw_if_ne dX2_hardest_100 (t := 107) (by decide) (n := 103) rfl ?_ ?_
    · refine x_iload 4 dX2_hardest_107 rfl (n := 109) rfl ?_
      exact tw_ireturn dX2_hardest_109
    · refine x_iload_n 3 dX2_hardest_103 rfl rfl (n := 104) rfl ?_
      refine x_goto dX2_hardest_104 (n := 109) (by decide) ?_
      exact tw_ireturn dX2_hardest_109
  · refine x_aload_nr 0 dX2_hardest_57 rfl rfl (n := 58) rfl ?_
    refine x_iload_n 1 dX2_hardest_58 rfl rfl (n := 59) rfl ?_
    refine x_iload 5 dX2_hardest_59 rfl (n := 61) rfl ?_
    refine tw_callV_I [.int v1, .int v5] [] (T_lostByAll_ok hO hE s0 v1 v5) md_X2_lostByAll q3295 q3297 qs108 dX2_hardest_61 rfl rfl (by decide) (Nat.le_of_ble_eq_true rfl) (n := 64) rfl (fun x9 s8 => ?_)
    refine x_istore [(6, .int x9), (0, .ref E.2.1), (1, .int v1), (2, .int v2), (3, .int v3), (4, .int v4), (5, .int v5)] dX2_hardest_64 (by decide) rfl (n := 66) rfl ?_
    refine x_iload 0 dX2_hardest_66 rfl (n := 68) rfl ?_
    refine x_bipush (-2) dX2_hardest_68 rfl (n := 70) rfl ?_
    refine tw_icmp_eq dX2_hardest_70 (t := 93) (by decide) (n := 73) rfl ?_ ?_
    · refine x_sub [1, 2, 3, 4, 5, 6] [(0, .ref E.2.1), (1, .int v1), (2, .int v2), (3, .int v3), (4, .int v4), (5, .int v5)] rfl ?_
      exact T_hardest_93_ok hO hE hk44 v1 v2 v3 v4 v5 s8
    · refine x_iload_n 4 dX2_hardest_73 rfl rfl (n := 74) rfl ?_
      refine x_bipush (-2) dX2_hardest_74 rfl (n := 76) rfl ?_
      refine tw_icmp_eq dX2_hardest_76 (t := 86) (by decide) (n := 79) rfl ?_ ?_
      · refine x_sub [1, 2, 3, 6, 0] [(0, .ref E.2.1), (1, .int v1), (2, .int v2), (5, .int v5), (6, .int x9)] rfl ?_
        exact T_hardest_86_ok hO hE hk44 v1 v2 v5 x9 s8
      · refine x_iload 0 dX2_hardest_79 rfl (n := 81) rfl ?_
        refine x_iload 5 dX2_hardest_81 rfl (n := 83) rfl ?_
        refine tw_icmp_le dX2_hardest_83 (t := 93) (by decide) (n := 86) rfl ?_ ?_
        · refine x_sub [1, 2, 3, 4, 5, 6] [(0, .ref E.2.1), (1, .int v1), (2, .int v2), (3, .int v3), (4, .int v4), (5, .int v5)] rfl ?_
          exact T_hardest_93_ok hO hE hk44 v1 v2 v3 v4 v5 s8
        · refine x_sub [1, 2, 3, 6, 0] [(0, .ref E.2.1), (1, .int v1), (2, .int v2), (5, .int v5), (6, .int x9)] rfl ?_
          exact T_hardest_86_ok hO hE hk44 v1 v2 v5 x9 s8
theorem T_hardest_44_lp {G : xG} {E : TE} (hO : xOK G) (hE : tok E)   (n : Nat) (v1 : Int32) (v2 : Int32) (v3 : Int32) (v4 : Int32) (v5 : Int32) (s0 : TS) : XT G E "ForestLegsModel" "hardest" cX2_hardest 7 (Option.some Jvm.ClassFile.FieldType.int) 9 44 [(0, .ref E.2.1), (1, .int v1), (2, .int v2), (3, .int v3), (4, .int v4), (5, .int v5)] [] s0 (lp (T_hardest_44F) n (v1, v2, v3, v4, v5, s0)) :=
  lp_ok (W := fun p K => XT G E "ForestLegsModel" "hardest" cX2_hardest 7 (Option.some Jvm.ClassFile.FieldType.int) 9 44 [(0, .ref E.2.1), (1, .int p.1), (2, .int p.2.1), (3, .int p.2.2.1), (4, .int p.2.2.2.1), (5, .int p.2.2.2.2.1)] [] p.2.2.2.2.2 K) (fun _ => tw_no) (fun k hk => fun (v1, v2, v3, v4, v5, s0) => T_hardest_44F_ok hO hE (fun v1 v2 v3 v4 v5 s0 => hk (v1, v2, v3, v4, v5, s0)) v1 v2 v3 v4 v5 s0) n (v1, v2, v3, v4, v5, s0)
theorem T_hardest_23_ok {G : xG} {E : TE} (hO : xOK G) (hE : tok E)   (v1 : Int32) (v2 : Int32) (w1 : Int32) (s0 : TS) : XT G E "ForestLegsModel" "hardest" cX2_hardest 7 (Option.some Jvm.ClassFile.FieldType.int) 9 23 [(0, .ref E.2.1), (1, .int v1), (2, .int v2)] [.int w1, .ref E.2.1] s0 (T_hardest_23 v1 v2 w1 s0) := by
  unfold T_hardest_23
  refine tw_callS_I [.int w1] [.ref E.2.1] (T_unless_2_ok hO hE s0 w1) md_X2_unless_2 q3121 q3122 dX2_hardest_23 rfl rfl (by decide) (Nat.le_of_ble_eq_true rfl) (n := 26) rfl (fun x4 s3 => ?_)
  refine tw_callV_I [.int x4] [] (T_isRefused_ok hO hE s3 x4) md_X2_isRefused q3022 q3024 qs63 dX2_hardest_26 rfl rfl (by decide) (Nat.le_of_ble_eq_true rfl) (n := 29) rfl (fun x6 s5 => ?_)
  refine tw_if_eq dX2_hardest_29 (t := 34) (by decide) (n := 32) rfl ?_ ?_
  · refine x_bipush (-2) dX2_hardest_34 rfl (n := 36) rfl ?_
    refine x_istore_n [(3, .int (-2)), (0, .ref E.2.1), (1, .int v1), (2, .int v2)] dX2_hardest_36 rfl (by decide) rfl (n := 37) rfl ?_
    refine x_bipush (-2) dX2_hardest_37 rfl (n := 39) rfl ?_
    refine x_istore [(4, .int (-2)), (3, .int (-2)), (0, .ref E.2.1), (1, .int v1), (2, .int v2)] dX2_hardest_39 (by decide) rfl (n := 41) rfl ?_
    refine x_iconst 0 dX2_hardest_41 rfl (n := 42) rfl ?_
    refine x_istore [(5, .int 0), (4, .int (-2)), (3, .int (-2)), (0, .ref E.2.1), (1, .int v1), (2, .int v2)] dX2_hardest_42 (by decide) rfl (n := 44) rfl ?_
    refine x_sub [3, 4, 5, 2, 1, 0] [(0, .ref E.2.1), (1, .int v1), (2, .int v2), (3, .int (-2)), (4, .int (-2)), (5, .int 0)] rfl ?_
    exact T_hardest_44_lp hO hE FU v1 v2 (-2) (-2) 0 s5
  · refine x_iconst (-1) dX2_hardest_32 rfl (n := 33) rfl ?_
    exact tw_ireturn dX2_hardest_33
theorem T_hardest_22_ok {G : xG} {E : TE} (hO : xOK G) (hE : tok E)   (v1 : Int32) (v2 : Int32) (s0 : TS) : XT G E "ForestLegsModel" "hardest" cX2_hardest 7 (Option.some Jvm.ClassFile.FieldType.int) 9 22 [(0, .ref E.2.1), (1, .int v1), (2, .int v2)] [.ref E.2.1] s0 (T_hardest_22 v1 v2 s0) := by
  unfold T_hardest_22
  refine x_iconst 0 dX2_hardest_22 rfl (n := 23) rfl ?_
  exact T_hardest_23_ok hO hE v1 v2 0 s0
theorem T_hardest_ok {G : xG} {E : TE} (hO : xOK G) (hE : tok E) (s0 : TS) (a1 : Int32) (a2 : Int32) : CTT G E 9 yX2_hardest cX2_hardest 7 (Option.some Jvm.ClassFile.FieldType.int) [.ref E.2.1, .int a1, .int a2] s0 (T_hardest s0 a1 a2) := by
  refine CT_of hO (by decide +kernel) (by decide +kernel) (Nat.le_of_ble_eq_true rfl) ?_
  show XT G E "ForestLegsModel" "hardest" cX2_hardest 7 (Option.some Jvm.ClassFile.FieldType.int) 9 0 [(0, .ref E.2.1), (1, .int a1), (2, .int a2)] [] s0 (T_hardest s0 a1 a2)
  refine x_aload_nr 0 dX2_hardest_0 rfl rfl (n := 1) rfl ?_
  refine x_aload_nr 0 dX2_hardest_1 rfl rfl (n := 2) rfl ?_
  refine x_iload_n 1 dX2_hardest_2 rfl rfl (n := 3) rfl ?_
  refine tw_callV_I [.int a1] [.ref E.2.1] (T_isCourse_ok hO hE s0 a1) md_X2_isCourse q3159 q3161 qs87 dX2_hardest_3 rfl rfl (by decide) (Nat.le_of_ble_eq_true rfl) (n := 6) rfl (fun x2 s1 => ?_)
  refine tw_if_eq dX2_hardest_6 (t := 22) (by decide) (n := 9) rfl ?_ ?_
  · exact T_hardest_22_ok hO hE a1 a2 s1
  · refine x_iload_n 2 dX2_hardest_9 rfl rfl (n := 10) rfl ?_
    refine x_iconst 0 dX2_hardest_10 rfl (n := 11) rfl ?_
    refine x_iconst 1 dX2_hardest_11 rfl (n := 12) rfl ?_
    refine tw_callS_I [.int a2, .int 0, .int 1] [.ref E.2.1] (T_in_ok hO hE s1 a2 0 1) md_X2_in q3016 q3017 dX2_hardest_12 rfl rfl (by decide) (Nat.le_of_ble_eq_true rfl) (n := 15) rfl (fun x12 s11 => ?_)
    refine tw_if_eq dX2_hardest_15 (t := 22) (by decide) (n := 18) rfl ?_ ?_
    · exact T_hardest_22_ok hO hE a1 a2 s11
    · refine x_iconst 1 dX2_hardest_18 rfl (n := 19) rfl ?_
      refine x_goto dX2_hardest_19 (n := 23) (by decide) ?_
      exact T_hardest_23_ok hO hE a1 a2 1 s11
abbrev cX2_without : ByteArray := prog_14_method_74_code
def yX2_without : MethodName := ⟨RX2, "without", "(III)I"⟩
def dkwX2_without_5 : List UInt8 := [132, 6, 1, 167, 255, 181, 29, 154, 0, 8, 21, 4, 167, 0, 5, 21, 5, 172]
abbrev dktX2_without_5 : List UInt8 := dkwX2_without_5 ++ []
def dkwX2_without_4 : List UInt8 := [21, 4, 16, 254, 159, 0, 10, 21, 7, 21, 5, 162, 0, 11, 21, 6, 54, 4, 21, 7, 54, 5]
abbrev dktX2_without_4 : List UInt8 := dkwX2_without_4 ++ dktX2_without_5
def dkwX2_without_3 : List UInt8 := [21, 6, 182, 0, 215, 153, 0, 41, 42, 21, 6, 182, 0, 218, 42, 21, 6, 28, 182, 0, 221, 100, 54, 7]
abbrev dktX2_without_3 : List UInt8 := dkwX2_without_3 ++ dktX2_without_4
def dkwX2_without_2 : List UInt8 := [42, 180, 0, 17, 4, 46, 162, 0, 70, 42, 180, 0, 17, 16, 37, 21, 6, 96, 46, 27, 160, 0, 50, 42]
abbrev dktX2_without_2 : List UInt8 := dkwX2_without_2 ++ dktX2_without_3
def dkwX2_without_1 : List UInt8 := [184, 0, 234, 182, 0, 161, 153, 0, 5, 2, 172, 16, 254, 54, 4, 16, 254, 54, 5, 3, 54, 6, 21, 6]
abbrev dktX2_without_1 : List UInt8 := dkwX2_without_1 ++ dktX2_without_2
def dkwX2_without_0 : List UInt8 := [42, 42, 27, 28, 182, 0, 190, 153, 0, 16, 29, 3, 4, 184, 0, 79, 153, 0, 7, 4, 167, 0, 4, 3]
abbrev dktX2_without_0 : List UInt8 := dkwX2_without_0 ++ dktX2_without_1
theorem dksX2_without_0 : cX2_without.data.toList.drop 0 = dktX2_without_0 := by decide +kernel
theorem dksX2_without_1 : cX2_without.data.toList.drop 24 = dktX2_without_1 := dk_seg dksX2_without_0 24 rfl rfl
theorem dksX2_without_2 : cX2_without.data.toList.drop 48 = dktX2_without_2 := dk_seg dksX2_without_1 24 rfl rfl
theorem dksX2_without_3 : cX2_without.data.toList.drop 72 = dktX2_without_3 := dk_seg dksX2_without_2 24 rfl rfl
theorem dksX2_without_4 : cX2_without.data.toList.drop 96 = dktX2_without_4 := dk_seg dksX2_without_3 24 rfl rfl
theorem dksX2_without_5 : cX2_without.data.toList.drop 118 = dktX2_without_5 := dk_seg dksX2_without_4 22 rfl rfl
theorem dX2_without_0 : decode cX2_without 0 = .ok (.aload_n 0, 1) := dk_42 (dk_at dksX2_without_0 0 rfl rfl)
theorem dX2_without_1 : decode cX2_without 1 = .ok (.aload_n 0, 1) := dk_42 (dk_at dksX2_without_0 1 rfl rfl)
theorem dX2_without_2 : decode cX2_without 2 = .ok (.iload_n 1, 1) := dk_27 (dk_at dksX2_without_0 2 rfl rfl)
theorem dX2_without_3 : decode cX2_without 3 = .ok (.iload_n 2, 1) := dk_28 (dk_at dksX2_without_0 3 rfl rfl)
theorem dX2_without_4 : decode cX2_without 4 = .ok (.invokevirtual 190, 3) := dk_182 0 190 (dk_at dksX2_without_0 4 rfl rfl)
theorem dX2_without_7 : decode cX2_without 7 = .ok (.ifCond .eq 16, 3) := dk_153 0 16 (dk_at dksX2_without_0 7 rfl rfl)
theorem dX2_without_10 : decode cX2_without 10 = .ok (.iload_n 3, 1) := dk_29 (dk_at dksX2_without_0 10 rfl rfl)
theorem dX2_without_11 : decode cX2_without 11 = .ok (.iconst 0, 1) := dk_3 (dk_at dksX2_without_0 11 rfl rfl)
theorem dX2_without_12 : decode cX2_without 12 = .ok (.iconst 1, 1) := dk_4 (dk_at dksX2_without_0 12 rfl rfl)
theorem dX2_without_13 : decode cX2_without 13 = .ok (.invokestatic 79, 3) := dk_184 0 79 (dk_at dksX2_without_0 13 rfl rfl)
theorem dX2_without_16 : decode cX2_without 16 = .ok (.ifCond .eq 7, 3) := dk_153 0 7 (dk_at dksX2_without_0 16 rfl rfl)
theorem dX2_without_19 : decode cX2_without 19 = .ok (.iconst 1, 1) := dk_4 (dk_at dksX2_without_0 19 rfl rfl)
theorem dX2_without_20 : decode cX2_without 20 = .ok (.goto 4, 3) := dk_167 0 4 (dk_at dksX2_without_0 20 rfl rfl)
theorem dX2_without_23 : decode cX2_without 23 = .ok (.iconst 0, 1) := dk_3 (dk_at dksX2_without_0 23 rfl rfl)
theorem dX2_without_24 : decode cX2_without 24 = .ok (.invokestatic 234, 3) := dk_184 0 234 (dk_at dksX2_without_1 0 rfl rfl)
theorem dX2_without_27 : decode cX2_without 27 = .ok (.invokevirtual 161, 3) := dk_182 0 161 (dk_at dksX2_without_1 3 rfl rfl)
theorem dX2_without_30 : decode cX2_without 30 = .ok (.ifCond .eq 5, 3) := dk_153 0 5 (dk_at dksX2_without_1 6 rfl rfl)
theorem dX2_without_33 : decode cX2_without 33 = .ok (.iconst (-1), 1) := dk_2 (dk_at dksX2_without_1 9 rfl rfl)
theorem dX2_without_34 : decode cX2_without 34 = .ok (.ireturn, 1) := dk_172 (dk_at dksX2_without_1 10 rfl rfl)
theorem dX2_without_35 : decode cX2_without 35 = .ok (.bipush (-2), 2) := dk_16 254 (dk_at dksX2_without_1 11 rfl rfl)
theorem dX2_without_37 : decode cX2_without 37 = .ok (.istore 4, 2) := dk_54 4 (dk_at dksX2_without_1 13 rfl rfl)
theorem dX2_without_39 : decode cX2_without 39 = .ok (.bipush (-2), 2) := dk_16 254 (dk_at dksX2_without_1 15 rfl rfl)
theorem dX2_without_41 : decode cX2_without 41 = .ok (.istore 5, 2) := dk_54 5 (dk_at dksX2_without_1 17 rfl rfl)
theorem dX2_without_43 : decode cX2_without 43 = .ok (.iconst 0, 1) := dk_3 (dk_at dksX2_without_1 19 rfl rfl)
theorem dX2_without_44 : decode cX2_without 44 = .ok (.istore 6, 2) := dk_54 6 (dk_at dksX2_without_1 20 rfl rfl)
theorem dX2_without_46 : decode cX2_without 46 = .ok (.iload 6, 2) := dk_21 6 (dk_at dksX2_without_1 22 rfl rfl)
theorem dX2_without_48 : decode cX2_without 48 = .ok (.aload_n 0, 1) := dk_42 (dk_at dksX2_without_2 0 rfl rfl)
theorem dX2_without_49 : decode cX2_without 49 = .ok (.getfield 17, 3) := dk_180 0 17 (dk_at dksX2_without_2 1 rfl rfl)
theorem dX2_without_52 : decode cX2_without 52 = .ok (.iconst 1, 1) := dk_4 (dk_at dksX2_without_2 4 rfl rfl)
theorem dX2_without_53 : decode cX2_without 53 = .ok (.iaload, 1) := dk_46 (dk_at dksX2_without_2 5 rfl rfl)
theorem dX2_without_54 : decode cX2_without 54 = .ok (.if_icmp .ge 70, 3) := dk_162 0 70 (dk_at dksX2_without_2 6 rfl rfl)
theorem dX2_without_57 : decode cX2_without 57 = .ok (.aload_n 0, 1) := dk_42 (dk_at dksX2_without_2 9 rfl rfl)
theorem dX2_without_58 : decode cX2_without 58 = .ok (.getfield 17, 3) := dk_180 0 17 (dk_at dksX2_without_2 10 rfl rfl)
theorem dX2_without_61 : decode cX2_without 61 = .ok (.bipush 37, 2) := dk_16 37 (dk_at dksX2_without_2 13 rfl rfl)
theorem dX2_without_63 : decode cX2_without 63 = .ok (.iload 6, 2) := dk_21 6 (dk_at dksX2_without_2 15 rfl rfl)
theorem dX2_without_65 : decode cX2_without 65 = .ok (.iadd, 1) := dk_96 (dk_at dksX2_without_2 17 rfl rfl)
theorem dX2_without_66 : decode cX2_without 66 = .ok (.iaload, 1) := dk_46 (dk_at dksX2_without_2 18 rfl rfl)
theorem dX2_without_67 : decode cX2_without 67 = .ok (.iload_n 1, 1) := dk_27 (dk_at dksX2_without_2 19 rfl rfl)
theorem dX2_without_68 : decode cX2_without 68 = .ok (.if_icmp .ne 50, 3) := dk_160 0 50 (dk_at dksX2_without_2 20 rfl rfl)
theorem dX2_without_71 : decode cX2_without 71 = .ok (.aload_n 0, 1) := dk_42 (dk_at dksX2_without_2 23 rfl rfl)
theorem dX2_without_72 : decode cX2_without 72 = .ok (.iload 6, 2) := dk_21 6 (dk_at dksX2_without_3 0 rfl rfl)
theorem dX2_without_74 : decode cX2_without 74 = .ok (.invokevirtual 215, 3) := dk_182 0 215 (dk_at dksX2_without_3 2 rfl rfl)
theorem dX2_without_77 : decode cX2_without 77 = .ok (.ifCond .eq 41, 3) := dk_153 0 41 (dk_at dksX2_without_3 5 rfl rfl)
theorem dX2_without_80 : decode cX2_without 80 = .ok (.aload_n 0, 1) := dk_42 (dk_at dksX2_without_3 8 rfl rfl)
theorem dX2_without_81 : decode cX2_without 81 = .ok (.iload 6, 2) := dk_21 6 (dk_at dksX2_without_3 9 rfl rfl)
theorem dX2_without_83 : decode cX2_without 83 = .ok (.invokevirtual 218, 3) := dk_182 0 218 (dk_at dksX2_without_3 11 rfl rfl)
theorem dX2_without_86 : decode cX2_without 86 = .ok (.aload_n 0, 1) := dk_42 (dk_at dksX2_without_3 14 rfl rfl)
theorem dX2_without_87 : decode cX2_without 87 = .ok (.iload 6, 2) := dk_21 6 (dk_at dksX2_without_3 15 rfl rfl)
theorem dX2_without_89 : decode cX2_without 89 = .ok (.iload_n 2, 1) := dk_28 (dk_at dksX2_without_3 17 rfl rfl)
theorem dX2_without_90 : decode cX2_without 90 = .ok (.invokevirtual 221, 3) := dk_182 0 221 (dk_at dksX2_without_3 18 rfl rfl)
theorem dX2_without_93 : decode cX2_without 93 = .ok (.isub, 1) := dk_100 (dk_at dksX2_without_3 21 rfl rfl)
theorem dX2_without_94 : decode cX2_without 94 = .ok (.istore 7, 2) := dk_54 7 (dk_at dksX2_without_3 22 rfl rfl)
theorem dX2_without_96 : decode cX2_without 96 = .ok (.iload 4, 2) := dk_21 4 (dk_at dksX2_without_4 0 rfl rfl)
theorem dX2_without_98 : decode cX2_without 98 = .ok (.bipush (-2), 2) := dk_16 254 (dk_at dksX2_without_4 2 rfl rfl)
theorem dX2_without_100 : decode cX2_without 100 = .ok (.if_icmp .eq 10, 3) := dk_159 0 10 (dk_at dksX2_without_4 4 rfl rfl)
theorem dX2_without_103 : decode cX2_without 103 = .ok (.iload 7, 2) := dk_21 7 (dk_at dksX2_without_4 7 rfl rfl)
theorem dX2_without_105 : decode cX2_without 105 = .ok (.iload 5, 2) := dk_21 5 (dk_at dksX2_without_4 9 rfl rfl)
theorem dX2_without_107 : decode cX2_without 107 = .ok (.if_icmp .ge 11, 3) := dk_162 0 11 (dk_at dksX2_without_4 11 rfl rfl)
theorem dX2_without_110 : decode cX2_without 110 = .ok (.iload 6, 2) := dk_21 6 (dk_at dksX2_without_4 14 rfl rfl)
theorem dX2_without_112 : decode cX2_without 112 = .ok (.istore 4, 2) := dk_54 4 (dk_at dksX2_without_4 16 rfl rfl)
theorem dX2_without_114 : decode cX2_without 114 = .ok (.iload 7, 2) := dk_21 7 (dk_at dksX2_without_4 18 rfl rfl)
theorem dX2_without_116 : decode cX2_without 116 = .ok (.istore 5, 2) := dk_54 5 (dk_at dksX2_without_4 20 rfl rfl)
theorem dX2_without_118 : decode cX2_without 118 = .ok (.iinc 6 1, 3) := dk_132 6 1 (dk_at dksX2_without_5 0 rfl rfl)
theorem dX2_without_121 : decode cX2_without 121 = .ok (.goto (-75), 3) := dk_167 255 181 (dk_at dksX2_without_5 3 rfl rfl)
theorem dX2_without_124 : decode cX2_without 124 = .ok (.iload_n 3, 1) := dk_29 (dk_at dksX2_without_5 6 rfl rfl)
theorem dX2_without_125 : decode cX2_without 125 = .ok (.ifCond .ne 8, 3) := dk_154 0 8 (dk_at dksX2_without_5 7 rfl rfl)
theorem dX2_without_128 : decode cX2_without 128 = .ok (.iload 4, 2) := dk_21 4 (dk_at dksX2_without_5 10 rfl rfl)
theorem dX2_without_130 : decode cX2_without 130 = .ok (.goto 5, 3) := dk_167 0 5 (dk_at dksX2_without_5 12 rfl rfl)
theorem dX2_without_133 : decode cX2_without 133 = .ok (.iload 5, 2) := dk_21 5 (dk_at dksX2_without_5 15 rfl rfl)
theorem dX2_without_135 : decode cX2_without 135 = .ok (.ireturn, 1) := dk_172 (dk_at dksX2_without_5 17 rfl rfl)
theorem md_X2_without : xMd yX2_without cX2_without 8 (Option.some Jvm.ClassFile.FieldType.int) 3 := ⟨q3306, q126, by decide, by decide +kernel, by decide +kernel, by decide +kernel⟩
def T_without_118  (k46 : Int32 × Int32 × Int32 × Int32 × Int32 × Int32 × TS → Option (xO × TS)) (v1 : Int32) (v2 : Int32) (v3 : Int32) (v4 : Int32) (v5 : Int32) (v6 : Int32) (s0 : TS) : Option (xO × TS) :=
  (bnd (v6 + 1) fun x9 =>
  (k46 (v1, v2, v3, v4, v5, x9, s0)))
def T_without_110  (k46 : Int32 × Int32 × Int32 × Int32 × Int32 × Int32 × TS → Option (xO × TS)) (v1 : Int32) (v2 : Int32) (v3 : Int32) (v6 : Int32) (v7 : Int32) (s0 : TS) : Option (xO × TS) :=
  (T_without_118 k46 v1 v2 v3 v6 v7 v6 s0)
def T_without_46F   (k46 : Int32 × Int32 × Int32 × Int32 × Int32 × Int32 × TS → Option (xO × TS)) (p : Int32 × Int32 × Int32 × Int32 × Int32 × Int32 × TS) : Option (xO × TS) := match p with
  | (v1, v2, v3, v4, v5, v6, s0) => (tald s0 7 1 fun x7 =>
  (if x7 ≤ v6 then
  (if v3 = 0 then
  (rI v4 s0) else
  (rI v5 s0)) else
  (tald s0 7 (37 + v6) fun x8 =>
  (if x8 = v1 then
  (xcI (T_isValid s0 v6) fun x11 s10 =>
  (if x11 = 0 then
  (T_without_118 k46 v1 v2 v3 v4 v5 v6 s10) else
  (xcI (T_totalOf s10 v6) fun x13 s12 =>
  (xcI (T_legOf s12 v6 v2) fun x15 s14 =>
  (bnd (x13 - x15) fun x16 =>
  (if v4 = (-2) then
  (T_without_110 k46 v1 v2 v3 v6 x16 s14) else
  (if v5 ≤ x16 then
  (T_without_118 k46 v1 v2 v3 v4 v5 v6 s14) else
  (T_without_110 k46 v1 v2 v3 v6 x16 s14)))))))) else
  (T_without_118 k46 v1 v2 v3 v4 v5 v6 s0)))))
def T_without_24   (v1 : Int32) (v2 : Int32) (v3 : Int32) (w1 : Int32) (s0 : TS) : Option (xO × TS) :=
  (xcI (T_unless_2 s0 w1) fun x4 s3 =>
  (xcI (T_isRefused s3 x4) fun x6 s5 =>
  (if x6 = 0 then
  (lp (T_without_46F) FU (v1, v2, v3, (-2), (-2), 0, s5)) else
  (rI (-1) s5))))
def T_without_23   (v1 : Int32) (v2 : Int32) (v3 : Int32) (s0 : TS) : Option (xO × TS) :=
  (T_without_24 v1 v2 v3 0 s0)
def T_without (s0 : TS) (a1 : Int32) (a2 : Int32) (a3 : Int32) : Option (xO × TS) :=
  (xcI (T_isPoint s0 a1 a2) fun x2 s1 =>
  (if x2 = 0 then
  (T_without_23 a1 a2 a3 s1) else
  (xcI (T_in s1 a3 0 1) fun x18 s17 =>
  (if x18 = 0 then
  (T_without_23 a1 a2 a3 s17) else
  (T_without_24 a1 a2 a3 1 s17)))))
theorem T_without_118_ok {G : xG} {E : TE} (hO : xOK G) (hE : tok E)  {k46 : Int32 × Int32 × Int32 × Int32 × Int32 × Int32 × TS → Option (xO × TS)} (hk46 : ∀ (v1 : Int32) (v2 : Int32) (v3 : Int32) (v4 : Int32) (v5 : Int32) (v6 : Int32) (s0 : TS), XT G E "ForestLegsModel" "without" cX2_without 8 (Option.some Jvm.ClassFile.FieldType.int) 5 46 [(0, .ref E.2.1), (1, .int v1), (2, .int v2), (3, .int v3), (4, .int v4), (5, .int v5), (6, .int v6)] [] s0 (k46 (v1, v2, v3, v4, v5, v6, s0))) (v1 : Int32) (v2 : Int32) (v3 : Int32) (v4 : Int32) (v5 : Int32) (v6 : Int32) (s0 : TS) : XT G E "ForestLegsModel" "without" cX2_without 8 (Option.some Jvm.ClassFile.FieldType.int) 5 118 [(0, .ref E.2.1), (1, .int v1), (2, .int v2), (3, .int v3), (4, .int v4), (5, .int v5), (6, .int v6)] [] s0 (T_without_118 k46 v1 v2 v3 v4 v5 v6 s0) := by
  unfold T_without_118
  refine tw_iinc 6 (fun x9 => [(6, .int x9), (0, .ref E.2.1), (1, .int v1), (2, .int v2), (3, .int v3), (4, .int v4), (5, .int v5)]) dX2_without_118 rfl rfl (by decide) (fun _ => rfl) (n := 121) rfl (fun x9 => ?_)
  refine x_goto dX2_without_121 (n := 46) (by decide) ?_
  refine x_sub [1, 2, 3, 4, 5, 6, 0] [(0, .ref E.2.1), (1, .int v1), (2, .int v2), (3, .int v3), (4, .int v4), (5, .int v5), (6, .int x9)] rfl ?_
  exact hk46 v1 v2 v3 v4 v5 x9 s0
theorem T_without_110_ok {G : xG} {E : TE} (hO : xOK G) (hE : tok E)  {k46 : Int32 × Int32 × Int32 × Int32 × Int32 × Int32 × TS → Option (xO × TS)} (hk46 : ∀ (v1 : Int32) (v2 : Int32) (v3 : Int32) (v4 : Int32) (v5 : Int32) (v6 : Int32) (s0 : TS), XT G E "ForestLegsModel" "without" cX2_without 8 (Option.some Jvm.ClassFile.FieldType.int) 5 46 [(0, .ref E.2.1), (1, .int v1), (2, .int v2), (3, .int v3), (4, .int v4), (5, .int v5), (6, .int v6)] [] s0 (k46 (v1, v2, v3, v4, v5, v6, s0))) (v1 : Int32) (v2 : Int32) (v3 : Int32) (v6 : Int32) (v7 : Int32) (s0 : TS) : XT G E "ForestLegsModel" "without" cX2_without 8 (Option.some Jvm.ClassFile.FieldType.int) 5 110 [(0, .ref E.2.1), (1, .int v1), (2, .int v2), (3, .int v3), (6, .int v6), (7, .int v7)] [] s0 (T_without_110 k46 v1 v2 v3 v6 v7 s0) := by
  unfold T_without_110
  refine x_iload 4 dX2_without_110 rfl (n := 112) rfl ?_
  refine x_istore [(4, .int v6), (0, .ref E.2.1), (1, .int v1), (2, .int v2), (3, .int v3), (6, .int v6), (7, .int v7)] dX2_without_112 (by decide) rfl (n := 114) rfl ?_
  refine x_iload 6 dX2_without_114 rfl (n := 116) rfl ?_
  refine x_istore [(5, .int v7), (4, .int v6), (0, .ref E.2.1), (1, .int v1), (2, .int v2), (3, .int v3), (6, .int v6), (7, .int v7)] dX2_without_116 (by decide) rfl (n := 118) rfl ?_
  refine x_sub [2, 3, 4, 5, 1, 0, 6] [(0, .ref E.2.1), (1, .int v1), (2, .int v2), (3, .int v3), (4, .int v6), (5, .int v7), (6, .int v6)] rfl ?_
  exact T_without_118_ok hO hE hk46 v1 v2 v3 v6 v7 v6 s0
theorem T_without_46F_ok {G : xG} {E : TE} (hO : xOK G) (hE : tok E)   {k46 : Int32 × Int32 × Int32 × Int32 × Int32 × Int32 × TS → Option (xO × TS)} (hk46 : ∀ (v1 : Int32) (v2 : Int32) (v3 : Int32) (v4 : Int32) (v5 : Int32) (v6 : Int32) (s0 : TS), XT G E "ForestLegsModel" "without" cX2_without 8 (Option.some Jvm.ClassFile.FieldType.int) 5 46 [(0, .ref E.2.1), (1, .int v1), (2, .int v2), (3, .int v3), (4, .int v4), (5, .int v5), (6, .int v6)] [] s0 (k46 (v1, v2, v3, v4, v5, v6, s0))) (v1 : Int32) (v2 : Int32) (v3 : Int32) (v4 : Int32) (v5 : Int32) (v6 : Int32) (s0 : TS) : XT G E "ForestLegsModel" "without" cX2_without 8 (Option.some Jvm.ClassFile.FieldType.int) 5 46 [(0, .ref E.2.1), (1, .int v1), (2, .int v2), (3, .int v3), (4, .int v4), (5, .int v5), (6, .int v6)] [] s0 (T_without_46F k46 (v1, v2, v3, v4, v5, v6, s0)) := by
  unfold T_without_46F
  refine x_iload 6 dX2_without_46 rfl (n := 48) rfl ?_
  refine x_aload_nr 0 dX2_without_48 rfl rfl (n := 49) rfl ?_
  refine tw_getA fl_X2_17 rfl (by decide) dX2_without_49 (n := 52) rfl ?_
  refine x_iconst 1 dX2_without_52 rfl (n := 53) rfl ?_
  refine tw_iald hE (by decide) dX2_without_53 (n := 54) rfl (fun x7 => ?_)
  refine tw_icmp_ge dX2_without_54 (t := 124) (by decide) (n := 57) rfl ?_ ?_
  · refine x_iload_n 3 dX2_without_124 rfl rfl (n := 125) rfl ?_
    refine tw_if_ne dX2_without_125 (t := 133) (by decide) (n := 128) rfl ?_ ?_
    · refine x_iload 5 dX2_without_133 rfl (n := 135) rfl ?_
      exact tw_ireturn dX2_without_135
    · refine x_iload 4 dX2_without_128 rfl (n := 130) rfl ?_
      refine x_goto dX2_without_130 (n := 135) (by decide) ?_
      exact tw_ireturn dX2_without_135
  · refine x_aload_nr 0 dX2_without_57 rfl rfl (n := 58) rfl ?_
    refine tw_getA fl_X2_17 rfl (by decide) dX2_without_58 (n := 61) rfl ?_
    refine x_bipush 37 dX2_without_61 rfl (n := 63) rfl ?_
    refine x_iload 6 dX2_without_63 rfl (n := 65) rfl ?_
    refine x_iadd dX2_without_65 (n := 66) rfl ?_
    refine tw_iald hE (by decide) dX2_without_66 (n := 67) rfl (fun x8 => ?_)
    refine x_iload_n 1 dX2_without_67 rfl rfl (n := 68) rfl ?_
    refine tw_icmp_ne dX2_without_68 (t := 118) (by decide) (n := 71) rfl ?_ ?_
    · exact T_without_118_ok hO hE hk46 v1 v2 v3 v4 v5 v6 s0
    · refine x_aload_nr 0 dX2_without_71 rfl rfl (n := 72) rfl ?_
      refine x_iload 6 dX2_without_72 rfl (n := 74) rfl ?_
      refine tw_callV_I [.int v6] [] (T_isValid_ok hO hE s0 v6) md_X2_isValid q3132 q3134 qs82 dX2_without_74 rfl rfl (by decide) (Nat.le_of_ble_eq_true rfl) (n := 77) rfl (fun x11 s10 => ?_)
      refine tw_if_eq dX2_without_77 (t := 118) (by decide) (n := 80) rfl ?_ ?_
      · exact T_without_118_ok hO hE hk46 v1 v2 v3 v4 v5 v6 s10
      · refine x_aload_nr 0 dX2_without_80 rfl rfl (n := 81) rfl ?_
        refine x_iload 6 dX2_without_81 rfl (n := 83) rfl ?_
        refine tw_callV_I [.int v6] [] (T_totalOf_ok hO hE s10 v6) md_X2_totalOf q3199 q3201 qs97 dX2_without_83 rfl rfl (by decide) (Nat.le_of_ble_eq_true rfl) (n := 86) rfl (fun x13 s12 => ?_)
        refine x_aload_nr 0 dX2_without_86 rfl rfl (n := 87) rfl ?_
        refine x_iload 6 dX2_without_87 rfl (n := 89) rfl ?_
        refine x_iload_n 2 dX2_without_89 rfl rfl (n := 90) rfl ?_
        refine tw_callV_I [.int v6, .int v2] [.int x13] (T_legOf_ok hO hE s12 v6 v2) md_X2_legOf q3179 q3181 qs92 dX2_without_90 rfl rfl (by decide) (Nat.le_of_ble_eq_true rfl) (n := 93) rfl (fun x15 s14 => ?_)
        refine x_isub dX2_without_93 (n := 94) rfl ?_
        refine tw_nm (fun x16 => ?_)
        refine x_istore [(7, .int x16), (0, .ref E.2.1), (1, .int v1), (2, .int v2), (3, .int v3), (4, .int v4), (5, .int v5), (6, .int v6)] dX2_without_94 (by decide) rfl (n := 96) rfl ?_
        refine x_iload 5 dX2_without_96 rfl (n := 98) rfl ?_
        refine x_bipush (-2) dX2_without_98 rfl (n := 100) rfl ?_
        refine tw_icmp_eq dX2_without_100 (t := 110) (by decide) (n := 103) rfl ?_ ?_
        · refine x_sub [1, 2, 3, 4, 7, 0] [(0, .ref E.2.1), (1, .int v1), (2, .int v2), (3, .int v3), (6, .int v6), (7, .int x16)] rfl ?_
          exact T_without_110_ok hO hE hk46 v1 v2 v3 v6 x16 s14
        · refine x_iload 0 dX2_without_103 rfl (n := 105) rfl ?_
          refine x_iload 6 dX2_without_105 rfl (n := 107) rfl ?_
          refine tw_icmp_ge dX2_without_107 (t := 118) (by decide) (n := 110) rfl ?_ ?_
          · refine x_sub [1, 2, 3, 4, 5, 6, 7] [(0, .ref E.2.1), (1, .int v1), (2, .int v2), (3, .int v3), (4, .int v4), (5, .int v5), (6, .int v6)] rfl ?_
            exact T_without_118_ok hO hE hk46 v1 v2 v3 v4 v5 v6 s14
          · refine x_sub [1, 2, 3, 4, 7, 0] [(0, .ref E.2.1), (1, .int v1), (2, .int v2), (3, .int v3), (6, .int v6), (7, .int x16)] rfl ?_
            exact T_without_110_ok hO hE hk46 v1 v2 v3 v6 x16 s14
theorem T_without_46_lp {G : xG} {E : TE} (hO : xOK G) (hE : tok E)   (n : Nat) (v1 : Int32) (v2 : Int32) (v3 : Int32) (v4 : Int32) (v5 : Int32) (v6 : Int32) (s0 : TS) : XT G E "ForestLegsModel" "without" cX2_without 8 (Option.some Jvm.ClassFile.FieldType.int) 5 46 [(0, .ref E.2.1), (1, .int v1), (2, .int v2), (3, .int v3), (4, .int v4), (5, .int v5), (6, .int v6)] [] s0 (lp (T_without_46F) n (v1, v2, v3, v4, v5, v6, s0)) :=
  lp_ok (W := fun p K => XT G E "ForestLegsModel" "without" cX2_without 8 (Option.some Jvm.ClassFile.FieldType.int) 5 46 [(0, .ref E.2.1), (1, .int p.1), (2, .int p.2.1), (3, .int p.2.2.1), (4, .int p.2.2.2.1), (5, .int p.2.2.2.2.1), (6, .int p.2.2.2.2.2.1)] [] p.2.2.2.2.2.2 K) (fun _ => tw_no) (fun k hk => fun (v1, v2, v3, v4, v5, v6, s0) => T_without_46F_ok hO hE (fun v1 v2 v3 v4 v5 v6 s0 => hk (v1, v2, v3, v4, v5, v6, s0)) v1 v2 v3 v4 v5 v6 s0) n (v1, v2, v3, v4, v5, v6, s0)
theorem T_without_24_ok {G : xG} {E : TE} (hO : xOK G) (hE : tok E)   (v1 : Int32) (v2 : Int32) (v3 : Int32) (w1 : Int32) (s0 : TS) : XT G E "ForestLegsModel" "without" cX2_without 8 (Option.some Jvm.ClassFile.FieldType.int) 5 24 [(0, .ref E.2.1), (1, .int v1), (2, .int v2), (3, .int v3)] [.int w1, .ref E.2.1] s0 (T_without_24 v1 v2 v3 w1 s0) := by
  unfold T_without_24
  refine tw_callS_I [.int w1] [.ref E.2.1] (T_unless_2_ok hO hE s0 w1) md_X2_unless_2 q3121 q3122 dX2_without_24 rfl rfl (by decide) (Nat.le_of_ble_eq_true rfl) (n := 27) rfl (fun x4 s3 => ?_)
  refine tw_callV_I [.int x4] [] (T_isRefused_ok hO hE s3 x4) md_X2_isRefused q3022 q3024 qs63 dX2_without_27 rfl rfl (by decide) (Nat.le_of_ble_eq_true rfl) (n := 30) rfl (fun x6 s5 => ?_)
  refine tw_if_eq dX2_without_30 (t := 35) (by decide) (n := 33) rfl ?_ ?_
  · refine x_bipush (-2) dX2_without_35 rfl (n := 37) rfl ?_
    refine x_istore [(4, .int (-2)), (0, .ref E.2.1), (1, .int v1), (2, .int v2), (3, .int v3)] dX2_without_37 (by decide) rfl (n := 39) rfl ?_
    refine x_bipush (-2) dX2_without_39 rfl (n := 41) rfl ?_
    refine x_istore [(5, .int (-2)), (4, .int (-2)), (0, .ref E.2.1), (1, .int v1), (2, .int v2), (3, .int v3)] dX2_without_41 (by decide) rfl (n := 43) rfl ?_
    refine x_iconst 0 dX2_without_43 rfl (n := 44) rfl ?_
    refine x_istore [(6, .int 0), (5, .int (-2)), (4, .int (-2)), (0, .ref E.2.1), (1, .int v1), (2, .int v2), (3, .int v3)] dX2_without_44 (by decide) rfl (n := 46) rfl ?_
    refine x_sub [3, 4, 5, 6, 2, 1, 0] [(0, .ref E.2.1), (1, .int v1), (2, .int v2), (3, .int v3), (4, .int (-2)), (5, .int (-2)), (6, .int 0)] rfl ?_
    exact T_without_46_lp hO hE FU v1 v2 v3 (-2) (-2) 0 s5
  · refine x_iconst (-1) dX2_without_33 rfl (n := 34) rfl ?_
    exact tw_ireturn dX2_without_34
theorem T_without_23_ok {G : xG} {E : TE} (hO : xOK G) (hE : tok E)   (v1 : Int32) (v2 : Int32) (v3 : Int32) (s0 : TS) : XT G E "ForestLegsModel" "without" cX2_without 8 (Option.some Jvm.ClassFile.FieldType.int) 5 23 [(0, .ref E.2.1), (1, .int v1), (2, .int v2), (3, .int v3)] [.ref E.2.1] s0 (T_without_23 v1 v2 v3 s0) := by
  unfold T_without_23
  refine x_iconst 0 dX2_without_23 rfl (n := 24) rfl ?_
  exact T_without_24_ok hO hE v1 v2 v3 0 s0
theorem T_without_ok {G : xG} {E : TE} (hO : xOK G) (hE : tok E) (s0 : TS) (a1 : Int32) (a2 : Int32) (a3 : Int32) : CTT G E 5 yX2_without cX2_without 8 (Option.some Jvm.ClassFile.FieldType.int) [.ref E.2.1, .int a1, .int a2, .int a3] s0 (T_without s0 a1 a2 a3) := by
  refine CT_of hO (by decide +kernel) (by decide +kernel) (Nat.le_of_ble_eq_true rfl) ?_
  show XT G E "ForestLegsModel" "without" cX2_without 8 (Option.some Jvm.ClassFile.FieldType.int) 5 0 [(0, .ref E.2.1), (1, .int a1), (2, .int a2), (3, .int a3)] [] s0 (T_without s0 a1 a2 a3)
  refine x_aload_nr 0 dX2_without_0 rfl rfl (n := 1) rfl ?_
  refine x_aload_nr 0 dX2_without_1 rfl rfl (n := 2) rfl ?_
  refine x_iload_n 1 dX2_without_2 rfl rfl (n := 3) rfl ?_
  refine x_iload_n 2 dX2_without_3 rfl rfl (n := 4) rfl ?_
  refine tw_callV_I [.int a1, .int a2] [.ref E.2.1] (T_isPoint_ok hO hE s0 a1 a2) md_X2_isPoint q3251 q3253 qs103 dX2_without_4 rfl rfl (by decide) (Nat.le_of_ble_eq_true rfl) (n := 7) rfl (fun x2 s1 => ?_)
  refine tw_if_eq dX2_without_7 (t := 23) (by decide) (n := 10) rfl ?_ ?_
  · exact T_without_23_ok hO hE a1 a2 a3 s1
  · refine x_iload_n 3 dX2_without_10 rfl rfl (n := 11) rfl ?_
    refine x_iconst 0 dX2_without_11 rfl (n := 12) rfl ?_
    refine x_iconst 1 dX2_without_12 rfl (n := 13) rfl ?_
    refine tw_callS_I [.int a3, .int 0, .int 1] [.ref E.2.1] (T_in_ok hO hE s1 a3 0 1) md_X2_in q3016 q3017 dX2_without_13 rfl rfl (by decide) (Nat.le_of_ble_eq_true rfl) (n := 16) rfl (fun x18 s17 => ?_)
    refine tw_if_eq dX2_without_16 (t := 23) (by decide) (n := 19) rfl ?_ ?_
    · exact T_without_23_ok hO hE a1 a2 a3 s17
    · refine x_iconst 1 dX2_without_19 rfl (n := 20) rfl ?_
      refine x_goto dX2_without_20 (n := 24) (by decide) ?_
      exact T_without_24_ok hO hE a1 a2 a3 1 s17
abbrev cX2_lost : ByteArray := prog_14_method_76_code
def yX2_lost : MethodName := ⟨RX2, "lost", "(I)I"⟩
def dkwX2_lost_3 : List UInt8 := [28, 172]
abbrev dktX2_lost_3 : List UInt8 := dkwX2_lost_3 ++ []
def dkwX2_lost_2 : List UInt8 := [54, 4, 28, 21, 4, 16, 254, 160, 0, 7, 3, 167, 0, 5, 21, 4, 96, 61, 132, 3, 1, 167, 255, 209]
abbrev dktX2_lost_2 : List UInt8 := dkwX2_lost_2 ++ dktX2_lost_3
def dkwX2_lost_1 : List UInt8 := [180, 0, 17, 7, 42, 180, 0, 17, 16, 37, 27, 96, 46, 96, 46, 163, 0, 33, 42, 27, 29, 182, 1, 26]
abbrev dktX2_lost_1 : List UInt8 := dkwX2_lost_1 ++ dktX2_lost_2
def dkwX2_lost_0 : List UInt8 := [42, 42, 27, 182, 0, 187, 184, 0, 234, 182, 0, 161, 153, 0, 5, 2, 172, 3, 61, 3, 62, 29, 42]
abbrev dktX2_lost_0 : List UInt8 := dkwX2_lost_0 ++ dktX2_lost_1
theorem dksX2_lost_0 : cX2_lost.data.toList.drop 0 = dktX2_lost_0 := by decide +kernel
theorem dksX2_lost_1 : cX2_lost.data.toList.drop 23 = dktX2_lost_1 := dk_seg dksX2_lost_0 23 rfl rfl
theorem dksX2_lost_2 : cX2_lost.data.toList.drop 47 = dktX2_lost_2 := dk_seg dksX2_lost_1 24 rfl rfl
theorem dksX2_lost_3 : cX2_lost.data.toList.drop 71 = dktX2_lost_3 := dk_seg dksX2_lost_2 24 rfl rfl
theorem dX2_lost_0 : decode cX2_lost 0 = .ok (.aload_n 0, 1) := dk_42 (dk_at dksX2_lost_0 0 rfl rfl)
theorem dX2_lost_1 : decode cX2_lost 1 = .ok (.aload_n 0, 1) := dk_42 (dk_at dksX2_lost_0 1 rfl rfl)
theorem dX2_lost_2 : decode cX2_lost 2 = .ok (.iload_n 1, 1) := dk_27 (dk_at dksX2_lost_0 2 rfl rfl)
theorem dX2_lost_3 : decode cX2_lost 3 = .ok (.invokevirtual 187, 3) := dk_182 0 187 (dk_at dksX2_lost_0 3 rfl rfl)
theorem dX2_lost_6 : decode cX2_lost 6 = .ok (.invokestatic 234, 3) := dk_184 0 234 (dk_at dksX2_lost_0 6 rfl rfl)
theorem dX2_lost_9 : decode cX2_lost 9 = .ok (.invokevirtual 161, 3) := dk_182 0 161 (dk_at dksX2_lost_0 9 rfl rfl)
theorem dX2_lost_12 : decode cX2_lost 12 = .ok (.ifCond .eq 5, 3) := dk_153 0 5 (dk_at dksX2_lost_0 12 rfl rfl)
theorem dX2_lost_15 : decode cX2_lost 15 = .ok (.iconst (-1), 1) := dk_2 (dk_at dksX2_lost_0 15 rfl rfl)
theorem dX2_lost_16 : decode cX2_lost 16 = .ok (.ireturn, 1) := dk_172 (dk_at dksX2_lost_0 16 rfl rfl)
theorem dX2_lost_17 : decode cX2_lost 17 = .ok (.iconst 0, 1) := dk_3 (dk_at dksX2_lost_0 17 rfl rfl)
theorem dX2_lost_18 : decode cX2_lost 18 = .ok (.istore_n 2, 1) := dk_61 (dk_at dksX2_lost_0 18 rfl rfl)
theorem dX2_lost_19 : decode cX2_lost 19 = .ok (.iconst 0, 1) := dk_3 (dk_at dksX2_lost_0 19 rfl rfl)
theorem dX2_lost_20 : decode cX2_lost 20 = .ok (.istore_n 3, 1) := dk_62 (dk_at dksX2_lost_0 20 rfl rfl)
theorem dX2_lost_21 : decode cX2_lost 21 = .ok (.iload_n 3, 1) := dk_29 (dk_at dksX2_lost_0 21 rfl rfl)
theorem dX2_lost_22 : decode cX2_lost 22 = .ok (.aload_n 0, 1) := dk_42 (dk_at dksX2_lost_0 22 rfl rfl)
theorem dX2_lost_23 : decode cX2_lost 23 = .ok (.getfield 17, 3) := dk_180 0 17 (dk_at dksX2_lost_1 0 rfl rfl)
theorem dX2_lost_26 : decode cX2_lost 26 = .ok (.iconst 4, 1) := dk_7 (dk_at dksX2_lost_1 3 rfl rfl)
theorem dX2_lost_27 : decode cX2_lost 27 = .ok (.aload_n 0, 1) := dk_42 (dk_at dksX2_lost_1 4 rfl rfl)
theorem dX2_lost_28 : decode cX2_lost 28 = .ok (.getfield 17, 3) := dk_180 0 17 (dk_at dksX2_lost_1 5 rfl rfl)
theorem dX2_lost_31 : decode cX2_lost 31 = .ok (.bipush 37, 2) := dk_16 37 (dk_at dksX2_lost_1 8 rfl rfl)
theorem dX2_lost_33 : decode cX2_lost 33 = .ok (.iload_n 1, 1) := dk_27 (dk_at dksX2_lost_1 10 rfl rfl)
theorem dX2_lost_34 : decode cX2_lost 34 = .ok (.iadd, 1) := dk_96 (dk_at dksX2_lost_1 11 rfl rfl)
theorem dX2_lost_35 : decode cX2_lost 35 = .ok (.iaload, 1) := dk_46 (dk_at dksX2_lost_1 12 rfl rfl)
theorem dX2_lost_36 : decode cX2_lost 36 = .ok (.iadd, 1) := dk_96 (dk_at dksX2_lost_1 13 rfl rfl)
theorem dX2_lost_37 : decode cX2_lost 37 = .ok (.iaload, 1) := dk_46 (dk_at dksX2_lost_1 14 rfl rfl)
theorem dX2_lost_38 : decode cX2_lost 38 = .ok (.if_icmp .gt 33, 3) := dk_163 0 33 (dk_at dksX2_lost_1 15 rfl rfl)
theorem dX2_lost_41 : decode cX2_lost 41 = .ok (.aload_n 0, 1) := dk_42 (dk_at dksX2_lost_1 18 rfl rfl)
theorem dX2_lost_42 : decode cX2_lost 42 = .ok (.iload_n 1, 1) := dk_27 (dk_at dksX2_lost_1 19 rfl rfl)
theorem dX2_lost_43 : decode cX2_lost 43 = .ok (.iload_n 3, 1) := dk_29 (dk_at dksX2_lost_1 20 rfl rfl)
theorem dX2_lost_44 : decode cX2_lost 44 = .ok (.invokevirtual 282, 3) := dk_182 1 26 (dk_at dksX2_lost_1 21 rfl rfl)
theorem dX2_lost_47 : decode cX2_lost 47 = .ok (.istore 4, 2) := dk_54 4 (dk_at dksX2_lost_2 0 rfl rfl)
theorem dX2_lost_49 : decode cX2_lost 49 = .ok (.iload_n 2, 1) := dk_28 (dk_at dksX2_lost_2 2 rfl rfl)
theorem dX2_lost_50 : decode cX2_lost 50 = .ok (.iload 4, 2) := dk_21 4 (dk_at dksX2_lost_2 3 rfl rfl)
theorem dX2_lost_52 : decode cX2_lost 52 = .ok (.bipush (-2), 2) := dk_16 254 (dk_at dksX2_lost_2 5 rfl rfl)
theorem dX2_lost_54 : decode cX2_lost 54 = .ok (.if_icmp .ne 7, 3) := dk_160 0 7 (dk_at dksX2_lost_2 7 rfl rfl)
theorem dX2_lost_57 : decode cX2_lost 57 = .ok (.iconst 0, 1) := dk_3 (dk_at dksX2_lost_2 10 rfl rfl)
theorem dX2_lost_58 : decode cX2_lost 58 = .ok (.goto 5, 3) := dk_167 0 5 (dk_at dksX2_lost_2 11 rfl rfl)
theorem dX2_lost_61 : decode cX2_lost 61 = .ok (.iload 4, 2) := dk_21 4 (dk_at dksX2_lost_2 14 rfl rfl)
theorem dX2_lost_63 : decode cX2_lost 63 = .ok (.iadd, 1) := dk_96 (dk_at dksX2_lost_2 16 rfl rfl)
theorem dX2_lost_64 : decode cX2_lost 64 = .ok (.istore_n 2, 1) := dk_61 (dk_at dksX2_lost_2 17 rfl rfl)
theorem dX2_lost_65 : decode cX2_lost 65 = .ok (.iinc 3 1, 3) := dk_132 3 1 (dk_at dksX2_lost_2 18 rfl rfl)
theorem dX2_lost_68 : decode cX2_lost 68 = .ok (.goto (-47), 3) := dk_167 255 209 (dk_at dksX2_lost_2 21 rfl rfl)
theorem dX2_lost_71 : decode cX2_lost 71 = .ok (.iload_n 2, 1) := dk_28 (dk_at dksX2_lost_3 0 rfl rfl)
theorem dX2_lost_72 : decode cX2_lost 72 = .ok (.ireturn, 1) := dk_172 (dk_at dksX2_lost_3 1 rfl rfl)
theorem md_X2_lost : xMd yX2_lost cX2_lost 5 (Option.some Jvm.ClassFile.FieldType.int) 1 := ⟨q3310, q126, by decide, by decide +kernel, by decide +kernel, by decide +kernel⟩
def T_lost_63  (k21 : Int32 × Int32 × Int32 × TS → Option (xO × TS)) (v1 : Int32) (v3 : Int32) (w0 : Int32) (w1 : Int32) (s0 : TS) : Option (xO × TS) :=
  (bnd (w0 + w1) fun x11 =>
  (bnd (v3 + 1) fun x12 =>
  (k21 (v1, x11, x12, s0))))
def T_lost_21F   (k21 : Int32 × Int32 × Int32 × TS → Option (xO × TS)) (p : Int32 × Int32 × Int32 × TS) : Option (xO × TS) := match p with
  | (v1, v2, v3, s0) => (tald s0 7 (37 + v1) fun x7 =>
  (tald s0 7 (4 + x7) fun x8 =>
  (if x8 < v3 then
  (rI v2 s0) else
  (xcI (T_lostOn s0 v1 v3) fun x10 s9 =>
  (if x10 = (-2) then
  (T_lost_63 k21 v1 v3 v2 0 s9) else
  (T_lost_63 k21 v1 v3 v2 x10 s9))))))
def T_lost (s0 : TS) (a1 : Int32) : Option (xO × TS) :=
  (xcI (T_isRunner s0 a1) fun x2 s1 =>
  (xcI (T_unless_2 s1 x2) fun x4 s3 =>
  (xcI (T_isRefused s3 x4) fun x6 s5 =>
  (if x6 = 0 then
  (lp (T_lost_21F) FU (a1, 0, 0, s5)) else
  (rI (-1) s5)))))
theorem T_lost_63_ok {G : xG} {E : TE} (hO : xOK G) (hE : tok E)  {k21 : Int32 × Int32 × Int32 × TS → Option (xO × TS)} (hk21 : ∀ (v1 : Int32) (v2 : Int32) (v3 : Int32) (s0 : TS), XT G E "ForestLegsModel" "lost" cX2_lost 5 (Option.some Jvm.ClassFile.FieldType.int) 8 21 [(0, .ref E.2.1), (1, .int v1), (2, .int v2), (3, .int v3)] [] s0 (k21 (v1, v2, v3, s0))) (v1 : Int32) (v3 : Int32) (w0 : Int32) (w1 : Int32) (s0 : TS) : XT G E "ForestLegsModel" "lost" cX2_lost 5 (Option.some Jvm.ClassFile.FieldType.int) 8 63 [(0, .ref E.2.1), (1, .int v1), (3, .int v3)] [.int w1, .int w0] s0 (T_lost_63 k21 v1 v3 w0 w1 s0) := by
  unfold T_lost_63
  refine x_iadd dX2_lost_63 (n := 64) rfl ?_
  refine tw_nm (fun x11 => ?_)
  refine x_istore_n [(2, .int x11), (0, .ref E.2.1), (1, .int v1), (3, .int v3)] dX2_lost_64 rfl (by decide) rfl (n := 65) rfl ?_
  refine tw_iinc 3 (fun x12 => [(3, .int x12), (2, .int x11), (0, .ref E.2.1), (1, .int v1)]) dX2_lost_65 rfl rfl (by decide) (fun _ => rfl) (n := 68) rfl (fun x12 => ?_)
  refine x_goto dX2_lost_68 (n := 21) (by decide) ?_
  refine x_sub [2, 3, 1, 0] [(0, .ref E.2.1), (1, .int v1), (2, .int x11), (3, .int x12)] rfl ?_
  exact hk21 v1 x11 x12 s0
theorem T_lost_21F_ok {G : xG} {E : TE} (hO : xOK G) (hE : tok E)   {k21 : Int32 × Int32 × Int32 × TS → Option (xO × TS)} (hk21 : ∀ (v1 : Int32) (v2 : Int32) (v3 : Int32) (s0 : TS), XT G E "ForestLegsModel" "lost" cX2_lost 5 (Option.some Jvm.ClassFile.FieldType.int) 8 21 [(0, .ref E.2.1), (1, .int v1), (2, .int v2), (3, .int v3)] [] s0 (k21 (v1, v2, v3, s0))) (v1 : Int32) (v2 : Int32) (v3 : Int32) (s0 : TS) : XT G E "ForestLegsModel" "lost" cX2_lost 5 (Option.some Jvm.ClassFile.FieldType.int) 8 21 [(0, .ref E.2.1), (1, .int v1), (2, .int v2), (3, .int v3)] [] s0 (T_lost_21F k21 (v1, v2, v3, s0)) := by
  unfold T_lost_21F
  refine x_iload_n 3 dX2_lost_21 rfl rfl (n := 22) rfl ?_
  refine x_aload_nr 0 dX2_lost_22 rfl rfl (n := 23) rfl ?_
  refine tw_getA fl_X2_17 rfl (by decide) dX2_lost_23 (n := 26) rfl ?_
  refine x_iconst 4 dX2_lost_26 rfl (n := 27) rfl ?_
  refine x_aload_nr 0 dX2_lost_27 rfl rfl (n := 28) rfl ?_
  refine tw_getA fl_X2_17 rfl (by decide) dX2_lost_28 (n := 31) rfl ?_
  refine x_bipush 37 dX2_lost_31 rfl (n := 33) rfl ?_
  refine x_iload_n 1 dX2_lost_33 rfl rfl (n := 34) rfl ?_
  refine x_iadd dX2_lost_34 (n := 35) rfl ?_
  refine tw_iald hE (by decide) dX2_lost_35 (n := 36) rfl (fun x7 => ?_)
  refine x_iadd dX2_lost_36 (n := 37) rfl ?_
  refine tw_iald hE (by decide) dX2_lost_37 (n := 38) rfl (fun x8 => ?_)
  refine tw_icmp_gt dX2_lost_38 (t := 71) (by decide) (n := 41) rfl ?_ ?_
  · refine x_iload_n 2 dX2_lost_71 rfl rfl (n := 72) rfl ?_
    exact tw_ireturn dX2_lost_72
  · refine x_aload_nr 0 dX2_lost_41 rfl rfl (n := 42) rfl ?_
    refine x_iload_n 1 dX2_lost_42 rfl rfl (n := 43) rfl ?_
    refine x_iload_n 3 dX2_lost_43 rfl rfl (n := 44) rfl ?_
    refine tw_callV_I [.int v1, .int v3] [] (T_lostOn_ok hO hE s0 v1 v3) md_X2_lostOn q3299 q3301 qs109 dX2_lost_44 rfl rfl (by decide) (Nat.le_of_ble_eq_true rfl) (n := 47) rfl (fun x10 s9 => ?_)
    refine x_istore [(4, .int x10), (0, .ref E.2.1), (1, .int v1), (2, .int v2), (3, .int v3)] dX2_lost_47 (by decide) rfl (n := 49) rfl ?_
    refine x_iload_n 3 dX2_lost_49 rfl rfl (n := 50) rfl ?_
    refine x_iload 0 dX2_lost_50 rfl (n := 52) rfl ?_
    refine x_bipush (-2) dX2_lost_52 rfl (n := 54) rfl ?_
    refine tw_icmp_ne dX2_lost_54 (t := 61) (by decide) (n := 57) rfl ?_ ?_
    · refine x_iload 0 dX2_lost_61 rfl (n := 63) rfl ?_
      refine x_sub [1, 2, 4] [(0, .ref E.2.1), (1, .int v1), (3, .int v3)] rfl ?_
      exact T_lost_63_ok hO hE hk21 v1 v3 v2 x10 s9
    · refine x_iconst 0 dX2_lost_57 rfl (n := 58) rfl ?_
      refine x_goto dX2_lost_58 (n := 63) (by decide) ?_
      refine x_sub [1, 2, 4] [(0, .ref E.2.1), (1, .int v1), (3, .int v3)] rfl ?_
      exact T_lost_63_ok hO hE hk21 v1 v3 v2 0 s9
theorem T_lost_21_lp {G : xG} {E : TE} (hO : xOK G) (hE : tok E)   (n : Nat) (v1 : Int32) (v2 : Int32) (v3 : Int32) (s0 : TS) : XT G E "ForestLegsModel" "lost" cX2_lost 5 (Option.some Jvm.ClassFile.FieldType.int) 8 21 [(0, .ref E.2.1), (1, .int v1), (2, .int v2), (3, .int v3)] [] s0 (lp (T_lost_21F) n (v1, v2, v3, s0)) :=
  lp_ok (W := fun p K => XT G E "ForestLegsModel" "lost" cX2_lost 5 (Option.some Jvm.ClassFile.FieldType.int) 8 21 [(0, .ref E.2.1), (1, .int p.1), (2, .int p.2.1), (3, .int p.2.2.1)] [] p.2.2.2 K) (fun _ => tw_no) (fun k hk => fun (v1, v2, v3, s0) => T_lost_21F_ok hO hE (fun v1 v2 v3 s0 => hk (v1, v2, v3, s0)) v1 v2 v3 s0) n (v1, v2, v3, s0)
theorem T_lost_ok {G : xG} {E : TE} (hO : xOK G) (hE : tok E) (s0 : TS) (a1 : Int32) : CTT G E 8 yX2_lost cX2_lost 5 (Option.some Jvm.ClassFile.FieldType.int) [.ref E.2.1, .int a1] s0 (T_lost s0 a1) := by
  refine CT_of hO (by decide +kernel) (by decide +kernel) (Nat.le_of_ble_eq_true rfl) ?_
  show XT G E "ForestLegsModel" "lost" cX2_lost 5 (Option.some Jvm.ClassFile.FieldType.int) 8 0 [(0, .ref E.2.1), (1, .int a1)] [] s0 (T_lost s0 a1)
  refine x_aload_nr 0 dX2_lost_0 rfl rfl (n := 1) rfl ?_
  refine x_aload_nr 0 dX2_lost_1 rfl rfl (n := 2) rfl ?_
  refine x_iload_n 1 dX2_lost_2 rfl rfl (n := 3) rfl ?_
  refine tw_callV_I [.int a1] [.ref E.2.1] (T_isRunner_ok hO hE s0 a1) md_X2_isRunner q3215 q3217 qs99 dX2_lost_3 rfl rfl (by decide) (Nat.le_of_ble_eq_true rfl) (n := 6) rfl (fun x2 s1 => ?_)
  refine tw_callS_I [.int x2] [.ref E.2.1] (T_unless_2_ok hO hE s1 x2) md_X2_unless_2 q3121 q3122 dX2_lost_6 rfl rfl (by decide) (Nat.le_of_ble_eq_true rfl) (n := 9) rfl (fun x4 s3 => ?_)
  refine tw_callV_I [.int x4] [] (T_isRefused_ok hO hE s3 x4) md_X2_isRefused q3022 q3024 qs63 dX2_lost_9 rfl rfl (by decide) (Nat.le_of_ble_eq_true rfl) (n := 12) rfl (fun x6 s5 => ?_)
  refine tw_if_eq dX2_lost_12 (t := 17) (by decide) (n := 15) rfl ?_ ?_
  · refine x_iconst 0 dX2_lost_17 rfl (n := 18) rfl ?_
    refine x_istore_n [(2, .int 0), (0, .ref E.2.1), (1, .int a1)] dX2_lost_18 rfl (by decide) rfl (n := 19) rfl ?_
    refine x_iconst 0 dX2_lost_19 rfl (n := 20) rfl ?_
    refine x_istore_n [(3, .int 0), (2, .int 0), (0, .ref E.2.1), (1, .int a1)] dX2_lost_20 rfl (by decide) rfl (n := 21) rfl ?_
    refine x_sub [2, 3, 1, 0] [(0, .ref E.2.1), (1, .int a1), (2, .int 0), (3, .int 0)] rfl ?_
    exact T_lost_21_lp hO hE FU a1 0 0 s5
  · refine x_iconst (-1) dX2_lost_15 rfl (n := 16) rfl ?_
    exact tw_ireturn dX2_lost_16
abbrev cX2_worst : ByteArray := prog_14_method_77_code
def yX2_worst : MethodName := ⟨RX2, "worst", "(I)I"⟩
def dkwX2_worst_3 : List UInt8 := [164, 0, 9, 21, 4, 61, 21, 5, 62, 132, 4, 1, 167, 255, 198, 28, 172]
abbrev dktX2_worst_3 : List UInt8 := dkwX2_worst_3 ++ []
def dkwX2_worst_2 : List UInt8 := [27, 21, 4, 182, 1, 26, 54, 5, 21, 5, 16, 254, 159, 0, 21, 28, 16, 254, 159, 0, 9, 21, 5, 29]
abbrev dktX2_worst_2 : List UInt8 := dkwX2_worst_2 ++ dktX2_worst_3
def dkwX2_worst_1 : List UInt8 := [54, 4, 21, 4, 42, 180, 0, 17, 7, 42, 180, 0, 17, 16, 37, 27, 96, 46, 96, 46, 163, 0, 43, 42]
abbrev dktX2_worst_1 : List UInt8 := dkwX2_worst_1 ++ dktX2_worst_2
def dkwX2_worst_0 : List UInt8 := [42, 42, 27, 182, 0, 187, 184, 0, 234, 182, 0, 161, 153, 0, 5, 2, 172, 16, 254, 61, 3, 62, 3]
abbrev dktX2_worst_0 : List UInt8 := dkwX2_worst_0 ++ dktX2_worst_1
theorem dksX2_worst_0 : cX2_worst.data.toList.drop 0 = dktX2_worst_0 := by decide +kernel
theorem dksX2_worst_1 : cX2_worst.data.toList.drop 23 = dktX2_worst_1 := dk_seg dksX2_worst_0 23 rfl rfl
theorem dksX2_worst_2 : cX2_worst.data.toList.drop 47 = dktX2_worst_2 := dk_seg dksX2_worst_1 24 rfl rfl
theorem dksX2_worst_3 : cX2_worst.data.toList.drop 71 = dktX2_worst_3 := dk_seg dksX2_worst_2 24 rfl rfl
theorem dX2_worst_0 : decode cX2_worst 0 = .ok (.aload_n 0, 1) := dk_42 (dk_at dksX2_worst_0 0 rfl rfl)
theorem dX2_worst_1 : decode cX2_worst 1 = .ok (.aload_n 0, 1) := dk_42 (dk_at dksX2_worst_0 1 rfl rfl)
theorem dX2_worst_2 : decode cX2_worst 2 = .ok (.iload_n 1, 1) := dk_27 (dk_at dksX2_worst_0 2 rfl rfl)
theorem dX2_worst_3 : decode cX2_worst 3 = .ok (.invokevirtual 187, 3) := dk_182 0 187 (dk_at dksX2_worst_0 3 rfl rfl)
theorem dX2_worst_6 : decode cX2_worst 6 = .ok (.invokestatic 234, 3) := dk_184 0 234 (dk_at dksX2_worst_0 6 rfl rfl)
theorem dX2_worst_9 : decode cX2_worst 9 = .ok (.invokevirtual 161, 3) := dk_182 0 161 (dk_at dksX2_worst_0 9 rfl rfl)
theorem dX2_worst_12 : decode cX2_worst 12 = .ok (.ifCond .eq 5, 3) := dk_153 0 5 (dk_at dksX2_worst_0 12 rfl rfl)
theorem dX2_worst_15 : decode cX2_worst 15 = .ok (.iconst (-1), 1) := dk_2 (dk_at dksX2_worst_0 15 rfl rfl)
theorem dX2_worst_16 : decode cX2_worst 16 = .ok (.ireturn, 1) := dk_172 (dk_at dksX2_worst_0 16 rfl rfl)
theorem dX2_worst_17 : decode cX2_worst 17 = .ok (.bipush (-2), 2) := dk_16 254 (dk_at dksX2_worst_0 17 rfl rfl)
theorem dX2_worst_19 : decode cX2_worst 19 = .ok (.istore_n 2, 1) := dk_61 (dk_at dksX2_worst_0 19 rfl rfl)
theorem dX2_worst_20 : decode cX2_worst 20 = .ok (.iconst 0, 1) := dk_3 (dk_at dksX2_worst_0 20 rfl rfl)
theorem dX2_worst_21 : decode cX2_worst 21 = .ok (.istore_n 3, 1) := dk_62 (dk_at dksX2_worst_0 21 rfl rfl)
theorem dX2_worst_22 : decode cX2_worst 22 = .ok (.iconst 0, 1) := dk_3 (dk_at dksX2_worst_0 22 rfl rfl)
theorem dX2_worst_23 : decode cX2_worst 23 = .ok (.istore 4, 2) := dk_54 4 (dk_at dksX2_worst_1 0 rfl rfl)
theorem dX2_worst_25 : decode cX2_worst 25 = .ok (.iload 4, 2) := dk_21 4 (dk_at dksX2_worst_1 2 rfl rfl)
theorem dX2_worst_27 : decode cX2_worst 27 = .ok (.aload_n 0, 1) := dk_42 (dk_at dksX2_worst_1 4 rfl rfl)
theorem dX2_worst_28 : decode cX2_worst 28 = .ok (.getfield 17, 3) := dk_180 0 17 (dk_at dksX2_worst_1 5 rfl rfl)
theorem dX2_worst_31 : decode cX2_worst 31 = .ok (.iconst 4, 1) := dk_7 (dk_at dksX2_worst_1 8 rfl rfl)
theorem dX2_worst_32 : decode cX2_worst 32 = .ok (.aload_n 0, 1) := dk_42 (dk_at dksX2_worst_1 9 rfl rfl)
theorem dX2_worst_33 : decode cX2_worst 33 = .ok (.getfield 17, 3) := dk_180 0 17 (dk_at dksX2_worst_1 10 rfl rfl)
theorem dX2_worst_36 : decode cX2_worst 36 = .ok (.bipush 37, 2) := dk_16 37 (dk_at dksX2_worst_1 13 rfl rfl)
theorem dX2_worst_38 : decode cX2_worst 38 = .ok (.iload_n 1, 1) := dk_27 (dk_at dksX2_worst_1 15 rfl rfl)
theorem dX2_worst_39 : decode cX2_worst 39 = .ok (.iadd, 1) := dk_96 (dk_at dksX2_worst_1 16 rfl rfl)
theorem dX2_worst_40 : decode cX2_worst 40 = .ok (.iaload, 1) := dk_46 (dk_at dksX2_worst_1 17 rfl rfl)
theorem dX2_worst_41 : decode cX2_worst 41 = .ok (.iadd, 1) := dk_96 (dk_at dksX2_worst_1 18 rfl rfl)
theorem dX2_worst_42 : decode cX2_worst 42 = .ok (.iaload, 1) := dk_46 (dk_at dksX2_worst_1 19 rfl rfl)
theorem dX2_worst_43 : decode cX2_worst 43 = .ok (.if_icmp .gt 43, 3) := dk_163 0 43 (dk_at dksX2_worst_1 20 rfl rfl)
theorem dX2_worst_46 : decode cX2_worst 46 = .ok (.aload_n 0, 1) := dk_42 (dk_at dksX2_worst_1 23 rfl rfl)
theorem dX2_worst_47 : decode cX2_worst 47 = .ok (.iload_n 1, 1) := dk_27 (dk_at dksX2_worst_2 0 rfl rfl)
theorem dX2_worst_48 : decode cX2_worst 48 = .ok (.iload 4, 2) := dk_21 4 (dk_at dksX2_worst_2 1 rfl rfl)
theorem dX2_worst_50 : decode cX2_worst 50 = .ok (.invokevirtual 282, 3) := dk_182 1 26 (dk_at dksX2_worst_2 3 rfl rfl)
theorem dX2_worst_53 : decode cX2_worst 53 = .ok (.istore 5, 2) := dk_54 5 (dk_at dksX2_worst_2 6 rfl rfl)
theorem dX2_worst_55 : decode cX2_worst 55 = .ok (.iload 5, 2) := dk_21 5 (dk_at dksX2_worst_2 8 rfl rfl)
theorem dX2_worst_57 : decode cX2_worst 57 = .ok (.bipush (-2), 2) := dk_16 254 (dk_at dksX2_worst_2 10 rfl rfl)
theorem dX2_worst_59 : decode cX2_worst 59 = .ok (.if_icmp .eq 21, 3) := dk_159 0 21 (dk_at dksX2_worst_2 12 rfl rfl)
theorem dX2_worst_62 : decode cX2_worst 62 = .ok (.iload_n 2, 1) := dk_28 (dk_at dksX2_worst_2 15 rfl rfl)
theorem dX2_worst_63 : decode cX2_worst 63 = .ok (.bipush (-2), 2) := dk_16 254 (dk_at dksX2_worst_2 16 rfl rfl)
theorem dX2_worst_65 : decode cX2_worst 65 = .ok (.if_icmp .eq 9, 3) := dk_159 0 9 (dk_at dksX2_worst_2 18 rfl rfl)
theorem dX2_worst_68 : decode cX2_worst 68 = .ok (.iload 5, 2) := dk_21 5 (dk_at dksX2_worst_2 21 rfl rfl)
theorem dX2_worst_70 : decode cX2_worst 70 = .ok (.iload_n 3, 1) := dk_29 (dk_at dksX2_worst_2 23 rfl rfl)
theorem dX2_worst_71 : decode cX2_worst 71 = .ok (.if_icmp .le 9, 3) := dk_164 0 9 (dk_at dksX2_worst_3 0 rfl rfl)
theorem dX2_worst_74 : decode cX2_worst 74 = .ok (.iload 4, 2) := dk_21 4 (dk_at dksX2_worst_3 3 rfl rfl)
theorem dX2_worst_76 : decode cX2_worst 76 = .ok (.istore_n 2, 1) := dk_61 (dk_at dksX2_worst_3 5 rfl rfl)
theorem dX2_worst_77 : decode cX2_worst 77 = .ok (.iload 5, 2) := dk_21 5 (dk_at dksX2_worst_3 6 rfl rfl)
theorem dX2_worst_79 : decode cX2_worst 79 = .ok (.istore_n 3, 1) := dk_62 (dk_at dksX2_worst_3 8 rfl rfl)
theorem dX2_worst_80 : decode cX2_worst 80 = .ok (.iinc 4 1, 3) := dk_132 4 1 (dk_at dksX2_worst_3 9 rfl rfl)
theorem dX2_worst_83 : decode cX2_worst 83 = .ok (.goto (-58), 3) := dk_167 255 198 (dk_at dksX2_worst_3 12 rfl rfl)
theorem dX2_worst_86 : decode cX2_worst 86 = .ok (.iload_n 2, 1) := dk_28 (dk_at dksX2_worst_3 15 rfl rfl)
theorem dX2_worst_87 : decode cX2_worst 87 = .ok (.ireturn, 1) := dk_172 (dk_at dksX2_worst_3 16 rfl rfl)
theorem md_X2_worst : xMd yX2_worst cX2_worst 6 (Option.some Jvm.ClassFile.FieldType.int) 1 := ⟨q3314, q126, by decide, by decide +kernel, by decide +kernel, by decide +kernel⟩
def T_worst_80  (k25 : Int32 × Int32 × Int32 × Int32 × TS → Option (xO × TS)) (v1 : Int32) (v2 : Int32) (v3 : Int32) (v4 : Int32) (s0 : TS) : Option (xO × TS) :=
  (bnd (v4 + 1) fun x11 =>
  (k25 (v1, v2, v3, x11, s0)))
def T_worst_74  (k25 : Int32 × Int32 × Int32 × Int32 × TS → Option (xO × TS)) (v1 : Int32) (v4 : Int32) (v5 : Int32) (s0 : TS) : Option (xO × TS) :=
  (T_worst_80 k25 v1 v4 v5 v4 s0)
def T_worst_25F   (k25 : Int32 × Int32 × Int32 × Int32 × TS → Option (xO × TS)) (p : Int32 × Int32 × Int32 × Int32 × TS) : Option (xO × TS) := match p with
  | (v1, v2, v3, v4, s0) => (tald s0 7 (37 + v1) fun x7 =>
  (tald s0 7 (4 + x7) fun x8 =>
  (if x8 < v4 then
  (rI v2 s0) else
  (xcI (T_lostOn s0 v1 v4) fun x10 s9 =>
  (if x10 = (-2) then
  (T_worst_80 k25 v1 v2 v3 v4 s9) else
  (if v2 = (-2) then
  (T_worst_74 k25 v1 v4 x10 s9) else
  (if x10 ≤ v3 then
  (T_worst_80 k25 v1 v2 v3 v4 s9) else
  (T_worst_74 k25 v1 v4 x10 s9))))))))
def T_worst (s0 : TS) (a1 : Int32) : Option (xO × TS) :=
  (xcI (T_isRunner s0 a1) fun x2 s1 =>
  (xcI (T_unless_2 s1 x2) fun x4 s3 =>
  (xcI (T_isRefused s3 x4) fun x6 s5 =>
  (if x6 = 0 then
  (lp (T_worst_25F) FU (a1, (-2), 0, 0, s5)) else
  (rI (-1) s5)))))
theorem T_worst_80_ok {G : xG} {E : TE} (hO : xOK G) (hE : tok E)  {k25 : Int32 × Int32 × Int32 × Int32 × TS → Option (xO × TS)} (hk25 : ∀ (v1 : Int32) (v2 : Int32) (v3 : Int32) (v4 : Int32) (s0 : TS), XT G E "ForestLegsModel" "worst" cX2_worst 6 (Option.some Jvm.ClassFile.FieldType.int) 8 25 [(0, .ref E.2.1), (1, .int v1), (2, .int v2), (3, .int v3), (4, .int v4)] [] s0 (k25 (v1, v2, v3, v4, s0))) (v1 : Int32) (v2 : Int32) (v3 : Int32) (v4 : Int32) (s0 : TS) : XT G E "ForestLegsModel" "worst" cX2_worst 6 (Option.some Jvm.ClassFile.FieldType.int) 8 80 [(0, .ref E.2.1), (1, .int v1), (2, .int v2), (3, .int v3), (4, .int v4)] [] s0 (T_worst_80 k25 v1 v2 v3 v4 s0) := by
  unfold T_worst_80
  refine tw_iinc 4 (fun x11 => [(4, .int x11), (0, .ref E.2.1), (1, .int v1), (2, .int v2), (3, .int v3)]) dX2_worst_80 rfl rfl (by decide) (fun _ => rfl) (n := 83) rfl (fun x11 => ?_)
  refine x_goto dX2_worst_83 (n := 25) (by decide) ?_
  refine x_sub [1, 2, 3, 4, 0] [(0, .ref E.2.1), (1, .int v1), (2, .int v2), (3, .int v3), (4, .int x11)] rfl ?_
  exact hk25 v1 v2 v3 x11 s0
theorem T_worst_74_ok {G : xG} {E : TE} (hO : xOK G) (hE : tok E)  {k25 : Int32 × Int32 × Int32 × Int32 × TS → Option (xO × TS)} (hk25 : ∀ (v1 : Int32) (v2 : Int32) (v3 : Int32) (v4 : Int32) (s0 : TS), XT G E "ForestLegsModel" "worst" cX2_worst 6 (Option.some Jvm.ClassFile.FieldType.int) 8 25 [(0, .ref E.2.1), (1, .int v1), (2, .int v2), (3, .int v3), (4, .int v4)] [] s0 (k25 (v1, v2, v3, v4, s0))) (v1 : Int32) (v4 : Int32) (v5 : Int32) (s0 : TS) : XT G E "ForestLegsModel" "worst" cX2_worst 6 (Option.some Jvm.ClassFile.FieldType.int) 8 74 [(0, .ref E.2.1), (1, .int v1), (4, .int v4), (5, .int v5)] [] s0 (T_worst_74 k25 v1 v4 v5 s0) := by
  unfold T_worst_74
  refine x_iload 2 dX2_worst_74 rfl (n := 76) rfl ?_
  refine x_istore_n [(2, .int v4), (0, .ref E.2.1), (1, .int v1), (4, .int v4), (5, .int v5)] dX2_worst_76 rfl (by decide) rfl (n := 77) rfl ?_
  refine x_iload 4 dX2_worst_77 rfl (n := 79) rfl ?_
  refine x_istore_n [(3, .int v5), (2, .int v4), (0, .ref E.2.1), (1, .int v1), (4, .int v4), (5, .int v5)] dX2_worst_79 rfl (by decide) rfl (n := 80) rfl ?_
  refine x_sub [2, 3, 1, 0, 4] [(0, .ref E.2.1), (1, .int v1), (2, .int v4), (3, .int v5), (4, .int v4)] rfl ?_
  exact T_worst_80_ok hO hE hk25 v1 v4 v5 v4 s0
theorem T_worst_25F_ok {G : xG} {E : TE} (hO : xOK G) (hE : tok E)   {k25 : Int32 × Int32 × Int32 × Int32 × TS → Option (xO × TS)} (hk25 : ∀ (v1 : Int32) (v2 : Int32) (v3 : Int32) (v4 : Int32) (s0 : TS), XT G E "ForestLegsModel" "worst" cX2_worst 6 (Option.some Jvm.ClassFile.FieldType.int) 8 25 [(0, .ref E.2.1), (1, .int v1), (2, .int v2), (3, .int v3), (4, .int v4)] [] s0 (k25 (v1, v2, v3, v4, s0))) (v1 : Int32) (v2 : Int32) (v3 : Int32) (v4 : Int32) (s0 : TS) : XT G E "ForestLegsModel" "worst" cX2_worst 6 (Option.some Jvm.ClassFile.FieldType.int) 8 25 [(0, .ref E.2.1), (1, .int v1), (2, .int v2), (3, .int v3), (4, .int v4)] [] s0 (T_worst_25F k25 (v1, v2, v3, v4, s0)) := by
  unfold T_worst_25F
  refine x_iload 4 dX2_worst_25 rfl (n := 27) rfl ?_
  refine x_aload_nr 0 dX2_worst_27 rfl rfl (n := 28) rfl ?_
  refine tw_getA fl_X2_17 rfl (by decide) dX2_worst_28 (n := 31) rfl ?_
  refine x_iconst 4 dX2_worst_31 rfl (n := 32) rfl ?_
  refine x_aload_nr 0 dX2_worst_32 rfl rfl (n := 33) rfl ?_
  refine tw_getA fl_X2_17 rfl (by decide) dX2_worst_33 (n := 36) rfl ?_
  refine x_bipush 37 dX2_worst_36 rfl (n := 38) rfl ?_
  refine x_iload_n 1 dX2_worst_38 rfl rfl (n := 39) rfl ?_
  refine x_iadd dX2_worst_39 (n := 40) rfl ?_
  refine tw_iald hE (by decide) dX2_worst_40 (n := 41) rfl (fun x7 => ?_)
  refine x_iadd dX2_worst_41 (n := 42) rfl ?_
  refine tw_iald hE (by decide) dX2_worst_42 (n := 43) rfl (fun x8 => ?_)
  refine tw_icmp_gt dX2_worst_43 (t := 86) (by decide) (n := 46) rfl ?_ ?_
  · refine x_iload_n 2 dX2_worst_86 rfl rfl (n := 87) rfl ?_
    exact tw_ireturn dX2_worst_87
  · refine x_aload_nr 0 dX2_worst_46 rfl rfl (n := 47) rfl ?_
    refine x_iload_n 1 dX2_worst_47 rfl rfl (n := 48) rfl ?_
    refine x_iload 4 dX2_worst_48 rfl (n := 50) rfl ?_
    refine tw_callV_I [.int v1, .int v4] [] (T_lostOn_ok hO hE s0 v1 v4) md_X2_lostOn q3299 q3301 qs109 dX2_worst_50 rfl rfl (by decide) (Nat.le_of_ble_eq_true rfl) (n := 53) rfl (fun x10 s9 => ?_)
    refine x_istore [(5, .int x10), (0, .ref E.2.1), (1, .int v1), (2, .int v2), (3, .int v3), (4, .int v4)] dX2_worst_53 (by decide) rfl (n := 55) rfl ?_
    refine x_iload 0 dX2_worst_55 rfl (n := 57) rfl ?_
    refine x_bipush (-2) dX2_worst_57 rfl (n := 59) rfl ?_
    refine tw_icmp_eq dX2_worst_59 (t := 80) (by decide) (n := 62) rfl ?_ ?_
    · refine x_sub [1, 2, 3, 4, 5] [(0, .ref E.2.1), (1, .int v1), (2, .int v2), (3, .int v3), (4, .int v4)] rfl ?_
      exact T_worst_80_ok hO hE hk25 v1 v2 v3 v4 s9
    · refine x_iload_n 3 dX2_worst_62 rfl rfl (n := 63) rfl ?_
      refine x_bipush (-2) dX2_worst_63 rfl (n := 65) rfl ?_
      refine tw_icmp_eq dX2_worst_65 (t := 74) (by decide) (n := 68) rfl ?_ ?_
      · refine x_sub [1, 2, 5, 0] [(0, .ref E.2.1), (1, .int v1), (4, .int v4), (5, .int x10)] rfl ?_
        exact T_worst_74_ok hO hE hk25 v1 v4 x10 s9
      · refine x_iload 0 dX2_worst_68 rfl (n := 70) rfl ?_
        refine x_iload_n 4 dX2_worst_70 rfl rfl (n := 71) rfl ?_
        refine tw_icmp_le dX2_worst_71 (t := 80) (by decide) (n := 74) rfl ?_ ?_
        · refine x_sub [1, 2, 3, 4, 5] [(0, .ref E.2.1), (1, .int v1), (2, .int v2), (3, .int v3), (4, .int v4)] rfl ?_
          exact T_worst_80_ok hO hE hk25 v1 v2 v3 v4 s9
        · refine x_sub [1, 2, 5, 0] [(0, .ref E.2.1), (1, .int v1), (4, .int v4), (5, .int x10)] rfl ?_
          exact T_worst_74_ok hO hE hk25 v1 v4 x10 s9
theorem T_worst_25_lp {G : xG} {E : TE} (hO : xOK G) (hE : tok E)   (n : Nat) (v1 : Int32) (v2 : Int32) (v3 : Int32) (v4 : Int32) (s0 : TS) : XT G E "ForestLegsModel" "worst" cX2_worst 6 (Option.some Jvm.ClassFile.FieldType.int) 8 25 [(0, .ref E.2.1), (1, .int v1), (2, .int v2), (3, .int v3), (4, .int v4)] [] s0 (lp (T_worst_25F) n (v1, v2, v3, v4, s0)) :=
  lp_ok (W := fun p K => XT G E "ForestLegsModel" "worst" cX2_worst 6 (Option.some Jvm.ClassFile.FieldType.int) 8 25 [(0, .ref E.2.1), (1, .int p.1), (2, .int p.2.1), (3, .int p.2.2.1), (4, .int p.2.2.2.1)] [] p.2.2.2.2 K) (fun _ => tw_no) (fun k hk => fun (v1, v2, v3, v4, s0) => T_worst_25F_ok hO hE (fun v1 v2 v3 v4 s0 => hk (v1, v2, v3, v4, s0)) v1 v2 v3 v4 s0) n (v1, v2, v3, v4, s0)
theorem T_worst_ok {G : xG} {E : TE} (hO : xOK G) (hE : tok E) (s0 : TS) (a1 : Int32) : CTT G E 8 yX2_worst cX2_worst 6 (Option.some Jvm.ClassFile.FieldType.int) [.ref E.2.1, .int a1] s0 (T_worst s0 a1) := by
  refine CT_of hO (by decide +kernel) (by decide +kernel) (Nat.le_of_ble_eq_true rfl) ?_
  show XT G E "ForestLegsModel" "worst" cX2_worst 6 (Option.some Jvm.ClassFile.FieldType.int) 8 0 [(0, .ref E.2.1), (1, .int a1)] [] s0 (T_worst s0 a1)
  refine x_aload_nr 0 dX2_worst_0 rfl rfl (n := 1) rfl ?_
  refine x_aload_nr 0 dX2_worst_1 rfl rfl (n := 2) rfl ?_
  refine x_iload_n 1 dX2_worst_2 rfl rfl (n := 3) rfl ?_
  refine tw_callV_I [.int a1] [.ref E.2.1] (T_isRunner_ok hO hE s0 a1) md_X2_isRunner q3215 q3217 qs99 dX2_worst_3 rfl rfl (by decide) (Nat.le_of_ble_eq_true rfl) (n := 6) rfl (fun x2 s1 => ?_)
  refine tw_callS_I [.int x2] [.ref E.2.1] (T_unless_2_ok hO hE s1 x2) md_X2_unless_2 q3121 q3122 dX2_worst_6 rfl rfl (by decide) (Nat.le_of_ble_eq_true rfl) (n := 9) rfl (fun x4 s3 => ?_)
  refine tw_callV_I [.int x4] [] (T_isRefused_ok hO hE s3 x4) md_X2_isRefused q3022 q3024 qs63 dX2_worst_9 rfl rfl (by decide) (Nat.le_of_ble_eq_true rfl) (n := 12) rfl (fun x6 s5 => ?_)
  refine tw_if_eq dX2_worst_12 (t := 17) (by decide) (n := 15) rfl ?_ ?_
  · refine x_bipush (-2) dX2_worst_17 rfl (n := 19) rfl ?_
    refine x_istore_n [(2, .int (-2)), (0, .ref E.2.1), (1, .int a1)] dX2_worst_19 rfl (by decide) rfl (n := 20) rfl ?_
    refine x_iconst 0 dX2_worst_20 rfl (n := 21) rfl ?_
    refine x_istore_n [(3, .int 0), (2, .int (-2)), (0, .ref E.2.1), (1, .int a1)] dX2_worst_21 rfl (by decide) rfl (n := 22) rfl ?_
    refine x_iconst 0 dX2_worst_22 rfl (n := 23) rfl ?_
    refine x_istore [(4, .int 0), (3, .int 0), (2, .int (-2)), (0, .ref E.2.1), (1, .int a1)] dX2_worst_23 (by decide) rfl (n := 25) rfl ?_
    refine x_sub [3, 4, 2, 1, 0] [(0, .ref E.2.1), (1, .int a1), (2, .int (-2)), (3, .int 0), (4, .int 0)] rfl ?_
    exact T_worst_25_lp hO hE FU a1 (-2) 0 0 s5
  · refine x_iconst (-1) dX2_worst_15 rfl (n := 16) rfl ?_
    exact tw_ireturn dX2_worst_16
abbrev cX2_divisor : ByteArray := prog_14_method_78_code
def yX2_divisor : MethodName := ⟨RX2, "divisor", "(II)I"⟩
def dkwX2_divisor_0 : List UInt8 := [26, 61, 27, 62, 29, 153, 0, 16, 28, 29, 112, 54, 4, 29, 61, 21, 4, 62, 167, 255, 242, 28, 172]
abbrev dktX2_divisor_0 : List UInt8 := dkwX2_divisor_0 ++ []
theorem dksX2_divisor_0 : cX2_divisor.data.toList.drop 0 = dktX2_divisor_0 := by decide +kernel
theorem dX2_divisor_0 : decode cX2_divisor 0 = .ok (.iload_n 0, 1) := dk_26 (dk_at dksX2_divisor_0 0 rfl rfl)
theorem dX2_divisor_1 : decode cX2_divisor 1 = .ok (.istore_n 2, 1) := dk_61 (dk_at dksX2_divisor_0 1 rfl rfl)
theorem dX2_divisor_2 : decode cX2_divisor 2 = .ok (.iload_n 1, 1) := dk_27 (dk_at dksX2_divisor_0 2 rfl rfl)
theorem dX2_divisor_3 : decode cX2_divisor 3 = .ok (.istore_n 3, 1) := dk_62 (dk_at dksX2_divisor_0 3 rfl rfl)
theorem dX2_divisor_4 : decode cX2_divisor 4 = .ok (.iload_n 3, 1) := dk_29 (dk_at dksX2_divisor_0 4 rfl rfl)
theorem dX2_divisor_5 : decode cX2_divisor 5 = .ok (.ifCond .eq 16, 3) := dk_153 0 16 (dk_at dksX2_divisor_0 5 rfl rfl)
theorem dX2_divisor_8 : decode cX2_divisor 8 = .ok (.iload_n 2, 1) := dk_28 (dk_at dksX2_divisor_0 8 rfl rfl)
theorem dX2_divisor_9 : decode cX2_divisor 9 = .ok (.iload_n 3, 1) := dk_29 (dk_at dksX2_divisor_0 9 rfl rfl)
theorem dX2_divisor_10 : decode cX2_divisor 10 = .ok (.irem, 1) := dk_112 (dk_at dksX2_divisor_0 10 rfl rfl)
theorem dX2_divisor_11 : decode cX2_divisor 11 = .ok (.istore 4, 2) := dk_54 4 (dk_at dksX2_divisor_0 11 rfl rfl)
theorem dX2_divisor_13 : decode cX2_divisor 13 = .ok (.iload_n 3, 1) := dk_29 (dk_at dksX2_divisor_0 13 rfl rfl)
theorem dX2_divisor_14 : decode cX2_divisor 14 = .ok (.istore_n 2, 1) := dk_61 (dk_at dksX2_divisor_0 14 rfl rfl)
theorem dX2_divisor_15 : decode cX2_divisor 15 = .ok (.iload 4, 2) := dk_21 4 (dk_at dksX2_divisor_0 15 rfl rfl)
theorem dX2_divisor_17 : decode cX2_divisor 17 = .ok (.istore_n 3, 1) := dk_62 (dk_at dksX2_divisor_0 17 rfl rfl)
theorem dX2_divisor_18 : decode cX2_divisor 18 = .ok (.goto (-14), 3) := dk_167 255 242 (dk_at dksX2_divisor_0 18 rfl rfl)
theorem dX2_divisor_21 : decode cX2_divisor 21 = .ok (.iload_n 2, 1) := dk_28 (dk_at dksX2_divisor_0 21 rfl rfl)
theorem dX2_divisor_22 : decode cX2_divisor 22 = .ok (.ireturn, 1) := dk_172 (dk_at dksX2_divisor_0 22 rfl rfl)
theorem md_X2_divisor : xMd yX2_divisor cX2_divisor 5 (Option.some Jvm.ClassFile.FieldType.int) 2 := ⟨q3321, q126, by decide, by decide +kernel, by decide +kernel, by decide +kernel⟩
def T_divisor_4F   (k4 : Int32 × Int32 × TS → Option (xO × TS)) (p : Int32 × Int32 × TS) : Option (xO × TS) := match p with
  | (v2, v3, s0) => (if v3 = 0 then
  (rI v2 s0) else
  (if v3 = 0 then none else
  (bnd (v2 - v2 / v3 * v3) fun x1 =>
  (k4 (v3, x1, s0)))))
def T_divisor (s0 : TS) (a0 : Int32) (a1 : Int32) : Option (xO × TS) :=
  (lp (T_divisor_4F) FU (a0, a1, s0))
theorem T_divisor_4F_ok {G : xG} {E : TE} (hO : xOK G) (hE : tok E)   {k4 : Int32 × Int32 × TS → Option (xO × TS)} (hk4 : ∀ (v2 : Int32) (v3 : Int32) (s0 : TS), XT G E "ForestLegsModel" "divisor" cX2_divisor 5 (Option.some Jvm.ClassFile.FieldType.int) 0 4 [(2, .int v2), (3, .int v3)] [] s0 (k4 (v2, v3, s0))) (v2 : Int32) (v3 : Int32) (s0 : TS) : XT G E "ForestLegsModel" "divisor" cX2_divisor 5 (Option.some Jvm.ClassFile.FieldType.int) 0 4 [(2, .int v2), (3, .int v3)] [] s0 (T_divisor_4F k4 (v2, v3, s0)) := by
  unfold T_divisor_4F
  refine x_iload_n 1 dX2_divisor_4 rfl rfl (n := 5) rfl ?_
  refine tw_if_eq dX2_divisor_5 (t := 21) (by decide) (n := 8) rfl ?_ ?_
  · refine x_iload_n 0 dX2_divisor_21 rfl rfl (n := 22) rfl ?_
    exact tw_ireturn dX2_divisor_22
  · refine x_iload_n 0 dX2_divisor_8 rfl rfl (n := 9) rfl ?_
    refine x_iload_n 1 dX2_divisor_9 rfl rfl (n := 10) rfl ?_
    refine tw_irem dX2_divisor_10 (n := 11) rfl ?_
    refine tw_nm (fun x1 => ?_)
    refine x_istore [(4, .int x1), (2, .int v2), (3, .int v3)] dX2_divisor_11 (by decide) rfl (n := 13) rfl ?_
    refine x_iload_n 2 dX2_divisor_13 rfl rfl (n := 14) rfl ?_
    refine x_istore_n [(2, .int v3), (4, .int x1), (3, .int v3)] dX2_divisor_14 rfl (by decide) rfl (n := 15) rfl ?_
    refine x_iload 1 dX2_divisor_15 rfl (n := 17) rfl ?_
    refine x_istore_n [(3, .int x1), (2, .int v3), (4, .int x1)] dX2_divisor_17 rfl (by decide) rfl (n := 18) rfl ?_
    refine x_goto dX2_divisor_18 (n := 4) (by decide) ?_
    refine x_sub [1, 0] [(2, .int v3), (3, .int x1)] rfl ?_
    exact hk4 v3 x1 s0
theorem T_divisor_4_lp {G : xG} {E : TE} (hO : xOK G) (hE : tok E)   (n : Nat) (v2 : Int32) (v3 : Int32) (s0 : TS) : XT G E "ForestLegsModel" "divisor" cX2_divisor 5 (Option.some Jvm.ClassFile.FieldType.int) 0 4 [(2, .int v2), (3, .int v3)] [] s0 (lp (T_divisor_4F) n (v2, v3, s0)) :=
  lp_ok (W := fun p K => XT G E "ForestLegsModel" "divisor" cX2_divisor 5 (Option.some Jvm.ClassFile.FieldType.int) 0 4 [(2, .int p.1), (3, .int p.2.1)] [] p.2.2 K) (fun _ => tw_no) (fun k hk => fun (v2, v3, s0) => T_divisor_4F_ok hO hE (fun v2 v3 s0 => hk (v2, v3, s0)) v2 v3 s0) n (v2, v3, s0)
theorem T_divisor_ok {G : xG} {E : TE} (hO : xOK G) (hE : tok E) (s0 : TS) (a0 : Int32) (a1 : Int32) : CTT G E 0 yX2_divisor cX2_divisor 5 (Option.some Jvm.ClassFile.FieldType.int) [.int a0, .int a1] s0 (T_divisor s0 a0 a1) := by
  refine CT_of hO (by decide +kernel) (by decide +kernel) (Nat.le_of_ble_eq_true rfl) ?_
  show XT G E "ForestLegsModel" "divisor" cX2_divisor 5 (Option.some Jvm.ClassFile.FieldType.int) 0 0 [(0, .int a0), (1, .int a1)] [] s0 (T_divisor s0 a0 a1)
  refine x_iload_n 0 dX2_divisor_0 rfl rfl (n := 1) rfl ?_
  refine x_istore_n [(2, .int a0), (0, .int a0), (1, .int a1)] dX2_divisor_1 rfl (by decide) rfl (n := 2) rfl ?_
  refine x_iload_n 2 dX2_divisor_2 rfl rfl (n := 3) rfl ?_
  refine x_istore_n [(3, .int a1), (2, .int a0), (0, .int a0), (1, .int a1)] dX2_divisor_3 rfl (by decide) rfl (n := 4) rfl ?_
  refine x_sub [1, 0] [(2, .int a0), (3, .int a1)] rfl ?_
  exact T_divisor_4_lp hO hE FU a0 a1 s0
abbrev cX2_pace : ByteArray := prog_14_method_79_code
def yX2_pace : MethodName := ⟨RX2, "pace", "(II)I"⟩
def dkwX2_pace_3 : List UInt8 := [42, 180, 1, 14, 42, 180, 1, 14, 42, 180, 1, 11, 184, 1, 32, 108, 172]
abbrev dktX2_pace_3 : List UInt8 := dkwX2_pace_3 ++ []
def dkwX2_pace_2 : List UInt8 := [167, 0, 5, 16, 6, 182, 0, 161, 153, 0, 5, 2, 172, 28, 154, 0, 10, 42, 180, 1, 11, 167, 0, 7]
abbrev dktX2_pace_2 : List UInt8 := dkwX2_pace_2 ++ dktX2_pace_3
def dkwX2_pace_1 : List UInt8 := [184, 0, 234, 62, 42, 29, 153, 0, 7, 29, 167, 0, 17, 42, 27, 182, 1, 17, 153, 0, 7, 3]
abbrev dktX2_pace_1 : List UInt8 := dkwX2_pace_1 ++ dktX2_pace_2
def dkwX2_pace_0 : List UInt8 := [42, 27, 182, 0, 187, 153, 0, 16, 28, 3, 4, 184, 0, 79, 153, 0, 7, 4, 167, 0, 4, 3]
abbrev dktX2_pace_0 : List UInt8 := dkwX2_pace_0 ++ dktX2_pace_1
theorem dksX2_pace_0 : cX2_pace.data.toList.drop 0 = dktX2_pace_0 := by decide +kernel
theorem dksX2_pace_1 : cX2_pace.data.toList.drop 22 = dktX2_pace_1 := dk_seg dksX2_pace_0 22 rfl rfl
theorem dksX2_pace_2 : cX2_pace.data.toList.drop 44 = dktX2_pace_2 := dk_seg dksX2_pace_1 22 rfl rfl
theorem dksX2_pace_3 : cX2_pace.data.toList.drop 68 = dktX2_pace_3 := dk_seg dksX2_pace_2 24 rfl rfl
theorem dX2_pace_0 : decode cX2_pace 0 = .ok (.aload_n 0, 1) := dk_42 (dk_at dksX2_pace_0 0 rfl rfl)
theorem dX2_pace_1 : decode cX2_pace 1 = .ok (.iload_n 1, 1) := dk_27 (dk_at dksX2_pace_0 1 rfl rfl)
theorem dX2_pace_2 : decode cX2_pace 2 = .ok (.invokevirtual 187, 3) := dk_182 0 187 (dk_at dksX2_pace_0 2 rfl rfl)
theorem dX2_pace_5 : decode cX2_pace 5 = .ok (.ifCond .eq 16, 3) := dk_153 0 16 (dk_at dksX2_pace_0 5 rfl rfl)
theorem dX2_pace_8 : decode cX2_pace 8 = .ok (.iload_n 2, 1) := dk_28 (dk_at dksX2_pace_0 8 rfl rfl)
theorem dX2_pace_9 : decode cX2_pace 9 = .ok (.iconst 0, 1) := dk_3 (dk_at dksX2_pace_0 9 rfl rfl)
theorem dX2_pace_10 : decode cX2_pace 10 = .ok (.iconst 1, 1) := dk_4 (dk_at dksX2_pace_0 10 rfl rfl)
theorem dX2_pace_11 : decode cX2_pace 11 = .ok (.invokestatic 79, 3) := dk_184 0 79 (dk_at dksX2_pace_0 11 rfl rfl)
theorem dX2_pace_14 : decode cX2_pace 14 = .ok (.ifCond .eq 7, 3) := dk_153 0 7 (dk_at dksX2_pace_0 14 rfl rfl)
theorem dX2_pace_17 : decode cX2_pace 17 = .ok (.iconst 1, 1) := dk_4 (dk_at dksX2_pace_0 17 rfl rfl)
theorem dX2_pace_18 : decode cX2_pace 18 = .ok (.goto 4, 3) := dk_167 0 4 (dk_at dksX2_pace_0 18 rfl rfl)
theorem dX2_pace_21 : decode cX2_pace 21 = .ok (.iconst 0, 1) := dk_3 (dk_at dksX2_pace_0 21 rfl rfl)
theorem dX2_pace_22 : decode cX2_pace 22 = .ok (.invokestatic 234, 3) := dk_184 0 234 (dk_at dksX2_pace_1 0 rfl rfl)
theorem dX2_pace_25 : decode cX2_pace 25 = .ok (.istore_n 3, 1) := dk_62 (dk_at dksX2_pace_1 3 rfl rfl)
theorem dX2_pace_26 : decode cX2_pace 26 = .ok (.aload_n 0, 1) := dk_42 (dk_at dksX2_pace_1 4 rfl rfl)
theorem dX2_pace_27 : decode cX2_pace 27 = .ok (.iload_n 3, 1) := dk_29 (dk_at dksX2_pace_1 5 rfl rfl)
theorem dX2_pace_28 : decode cX2_pace 28 = .ok (.ifCond .eq 7, 3) := dk_153 0 7 (dk_at dksX2_pace_1 6 rfl rfl)
theorem dX2_pace_31 : decode cX2_pace 31 = .ok (.iload_n 3, 1) := dk_29 (dk_at dksX2_pace_1 9 rfl rfl)
theorem dX2_pace_32 : decode cX2_pace 32 = .ok (.goto 17, 3) := dk_167 0 17 (dk_at dksX2_pace_1 10 rfl rfl)
theorem dX2_pace_35 : decode cX2_pace 35 = .ok (.aload_n 0, 1) := dk_42 (dk_at dksX2_pace_1 13 rfl rfl)
theorem dX2_pace_36 : decode cX2_pace 36 = .ok (.iload_n 1, 1) := dk_27 (dk_at dksX2_pace_1 14 rfl rfl)
theorem dX2_pace_37 : decode cX2_pace 37 = .ok (.invokevirtual 273, 3) := dk_182 1 17 (dk_at dksX2_pace_1 15 rfl rfl)
theorem dX2_pace_40 : decode cX2_pace 40 = .ok (.ifCond .eq 7, 3) := dk_153 0 7 (dk_at dksX2_pace_1 18 rfl rfl)
theorem dX2_pace_43 : decode cX2_pace 43 = .ok (.iconst 0, 1) := dk_3 (dk_at dksX2_pace_1 21 rfl rfl)
theorem dX2_pace_44 : decode cX2_pace 44 = .ok (.goto 5, 3) := dk_167 0 5 (dk_at dksX2_pace_2 0 rfl rfl)
theorem dX2_pace_47 : decode cX2_pace 47 = .ok (.bipush 6, 2) := dk_16 6 (dk_at dksX2_pace_2 3 rfl rfl)
theorem dX2_pace_49 : decode cX2_pace 49 = .ok (.invokevirtual 161, 3) := dk_182 0 161 (dk_at dksX2_pace_2 5 rfl rfl)
theorem dX2_pace_52 : decode cX2_pace 52 = .ok (.ifCond .eq 5, 3) := dk_153 0 5 (dk_at dksX2_pace_2 8 rfl rfl)
theorem dX2_pace_55 : decode cX2_pace 55 = .ok (.iconst (-1), 1) := dk_2 (dk_at dksX2_pace_2 11 rfl rfl)
theorem dX2_pace_56 : decode cX2_pace 56 = .ok (.ireturn, 1) := dk_172 (dk_at dksX2_pace_2 12 rfl rfl)
theorem dX2_pace_57 : decode cX2_pace 57 = .ok (.iload_n 2, 1) := dk_28 (dk_at dksX2_pace_2 13 rfl rfl)
theorem dX2_pace_58 : decode cX2_pace 58 = .ok (.ifCond .ne 10, 3) := dk_154 0 10 (dk_at dksX2_pace_2 14 rfl rfl)
theorem dX2_pace_61 : decode cX2_pace 61 = .ok (.aload_n 0, 1) := dk_42 (dk_at dksX2_pace_2 17 rfl rfl)
theorem dX2_pace_62 : decode cX2_pace 62 = .ok (.getfield 267, 3) := dk_180 1 11 (dk_at dksX2_pace_2 18 rfl rfl)
theorem dX2_pace_65 : decode cX2_pace 65 = .ok (.goto 7, 3) := dk_167 0 7 (dk_at dksX2_pace_2 21 rfl rfl)
theorem dX2_pace_68 : decode cX2_pace 68 = .ok (.aload_n 0, 1) := dk_42 (dk_at dksX2_pace_3 0 rfl rfl)
theorem dX2_pace_69 : decode cX2_pace 69 = .ok (.getfield 270, 3) := dk_180 1 14 (dk_at dksX2_pace_3 1 rfl rfl)
theorem dX2_pace_72 : decode cX2_pace 72 = .ok (.aload_n 0, 1) := dk_42 (dk_at dksX2_pace_3 4 rfl rfl)
theorem dX2_pace_73 : decode cX2_pace 73 = .ok (.getfield 270, 3) := dk_180 1 14 (dk_at dksX2_pace_3 5 rfl rfl)
theorem dX2_pace_76 : decode cX2_pace 76 = .ok (.aload_n 0, 1) := dk_42 (dk_at dksX2_pace_3 8 rfl rfl)
theorem dX2_pace_77 : decode cX2_pace 77 = .ok (.getfield 267, 3) := dk_180 1 11 (dk_at dksX2_pace_3 9 rfl rfl)
theorem dX2_pace_80 : decode cX2_pace 80 = .ok (.invokestatic 288, 3) := dk_184 1 32 (dk_at dksX2_pace_3 12 rfl rfl)
theorem dX2_pace_83 : decode cX2_pace 83 = .ok (.idiv, 1) := dk_108 (dk_at dksX2_pace_3 15 rfl rfl)
theorem dX2_pace_84 : decode cX2_pace 84 = .ok (.ireturn, 1) := dk_172 (dk_at dksX2_pace_3 16 rfl rfl)
theorem md_X2_pace : xMd yX2_pace cX2_pace 4 (Option.some Jvm.ClassFile.FieldType.int) 2 := ⟨q3318, q126, by decide, by decide +kernel, by decide +kernel, by decide +kernel⟩
def T_pace_72   (w0 : Int32) (s0 : TS) : Option (xO × TS) :=
  (xcI (T_divisor s0 (s0.1 24) (s0.1 23)) fun x10 s9 =>
  (if x10 = 0 then none else
  (rI (w0 / x10) s9)))
def T_pace_49   (v2 : Int32) (w1 : Int32) (s0 : TS) : Option (xO × TS) :=
  (xcI (T_isRefused s0 w1) fun x8 s7 =>
  (if x8 = 0 then
  (if v2 = 0 then
  (T_pace_72 (s7.1 23) s7) else
  (T_pace_72 (s7.1 24) s7)) else
  (rI (-1) s7)))
def T_pace_22   (v1 : Int32) (v2 : Int32) (w0 : Int32) (s0 : TS) : Option (xO × TS) :=
  (xcI (T_unless_2 s0 w0) fun x4 s3 =>
  (if x4 = 0 then
  (xcI (T_paces s3 v1) fun x6 s5 =>
  (if x6 = 0 then
  (T_pace_49 v2 6 s5) else
  (T_pace_49 v2 0 s5))) else
  (T_pace_49 v2 x4 s3)))
def T_pace_21   (v1 : Int32) (v2 : Int32) (s0 : TS) : Option (xO × TS) :=
  (T_pace_22 v1 v2 0 s0)
def T_pace (s0 : TS) (a1 : Int32) (a2 : Int32) : Option (xO × TS) :=
  (xcI (T_isRunner s0 a1) fun x2 s1 =>
  (if x2 = 0 then
  (T_pace_21 a1 a2 s1) else
  (xcI (T_in s1 a2 0 1) fun x12 s11 =>
  (if x12 = 0 then
  (T_pace_21 a1 a2 s11) else
  (T_pace_22 a1 a2 1 s11)))))
theorem T_pace_72_ok {G : xG} {E : TE} (hO : xOK G) (hE : tok E)   (w0 : Int32) (s0 : TS) : XT G E "ForestLegsModel" "pace" cX2_pace 4 (Option.some Jvm.ClassFile.FieldType.int) 8 72 [(0, .ref E.2.1)] [.int w0] s0 (T_pace_72 w0 s0) := by
  unfold T_pace_72
  refine x_aload_nr 0 dX2_pace_72 rfl rfl (n := 73) rfl ?_
  refine tw_getI fl_X2_270 rfl (by decide) dX2_pace_73 (n := 76) rfl ?_
  refine x_aload_nr 0 dX2_pace_76 rfl rfl (n := 77) rfl ?_
  refine tw_getI fl_X2_267 rfl (by decide) dX2_pace_77 (n := 80) rfl ?_
  refine tw_callS_I [.int (s0.1 24), .int (s0.1 23)] [.int w0] (T_divisor_ok hO hE s0 (s0.1 24) (s0.1 23)) md_X2_divisor q3319 q3320 dX2_pace_80 rfl rfl (by decide) (Nat.le_of_ble_eq_true rfl) (n := 83) rfl (fun x10 s9 => ?_)
  refine tw_idiv dX2_pace_83 (n := 84) rfl ?_
  exact tw_ireturn dX2_pace_84
theorem T_pace_49_ok {G : xG} {E : TE} (hO : xOK G) (hE : tok E)   (v2 : Int32) (w1 : Int32) (s0 : TS) : XT G E "ForestLegsModel" "pace" cX2_pace 4 (Option.some Jvm.ClassFile.FieldType.int) 8 49 [(0, .ref E.2.1), (2, .int v2)] [.int w1, .ref E.2.1] s0 (T_pace_49 v2 w1 s0) := by
  unfold T_pace_49
  refine tw_callV_I [.int w1] [] (T_isRefused_ok hO hE s0 w1) md_X2_isRefused q3022 q3024 qs63 dX2_pace_49 rfl rfl (by decide) (Nat.le_of_ble_eq_true rfl) (n := 52) rfl (fun x8 s7 => ?_)
  refine tw_if_eq dX2_pace_52 (t := 57) (by decide) (n := 55) rfl ?_ ?_
  · refine x_iload_n 1 dX2_pace_57 rfl rfl (n := 58) rfl ?_
    refine tw_if_ne dX2_pace_58 (t := 68) (by decide) (n := 61) rfl ?_ ?_
    · refine x_aload_nr 0 dX2_pace_68 rfl rfl (n := 69) rfl ?_
      refine tw_getI fl_X2_270 rfl (by decide) dX2_pace_69 (n := 72) rfl ?_
      refine x_sub [0] [(0, .ref E.2.1)] rfl ?_
      exact T_pace_72_ok hO hE (s7.1 24) s7
    · refine x_aload_nr 0 dX2_pace_61 rfl rfl (n := 62) rfl ?_
      refine tw_getI fl_X2_267 rfl (by decide) dX2_pace_62 (n := 65) rfl ?_
      refine x_goto dX2_pace_65 (n := 72) (by decide) ?_
      refine x_sub [0] [(0, .ref E.2.1)] rfl ?_
      exact T_pace_72_ok hO hE (s7.1 23) s7
  · refine x_iconst (-1) dX2_pace_55 rfl (n := 56) rfl ?_
    exact tw_ireturn dX2_pace_56
theorem T_pace_22_ok {G : xG} {E : TE} (hO : xOK G) (hE : tok E)   (v1 : Int32) (v2 : Int32) (w0 : Int32) (s0 : TS) : XT G E "ForestLegsModel" "pace" cX2_pace 4 (Option.some Jvm.ClassFile.FieldType.int) 8 22 [(0, .ref E.2.1), (1, .int v1), (2, .int v2)] [.int w0] s0 (T_pace_22 v1 v2 w0 s0) := by
  unfold T_pace_22
  refine tw_callS_I [.int w0] [] (T_unless_2_ok hO hE s0 w0) md_X2_unless_2 q3121 q3122 dX2_pace_22 rfl rfl (by decide) (Nat.le_of_ble_eq_true rfl) (n := 25) rfl (fun x4 s3 => ?_)
  refine x_istore_n [(3, .int x4), (0, .ref E.2.1), (1, .int v1), (2, .int v2)] dX2_pace_25 rfl (by decide) rfl (n := 26) rfl ?_
  refine x_aload_nr 1 dX2_pace_26 rfl rfl (n := 27) rfl ?_
  refine x_iload_n 0 dX2_pace_27 rfl rfl (n := 28) rfl ?_
  refine tw_if_eq dX2_pace_28 (t := 35) (by decide) (n := 31) rfl ?_ ?_
  · refine x_aload_nr 1 dX2_pace_35 rfl rfl (n := 36) rfl ?_
    refine x_iload_n 2 dX2_pace_36 rfl rfl (n := 37) rfl ?_
    refine tw_callV_I [.int v1] [.ref E.2.1] (T_paces_ok hO hE s3 v1) md_X2_paces q3267 q3269 qs106 dX2_pace_37 rfl rfl (by decide) (Nat.le_of_ble_eq_true rfl) (n := 40) rfl (fun x6 s5 => ?_)
    refine tw_if_eq dX2_pace_40 (t := 47) (by decide) (n := 43) rfl ?_ ?_
    · refine x_bipush 6 dX2_pace_47 rfl (n := 49) rfl ?_
      refine x_sub [1, 3] [(0, .ref E.2.1), (2, .int v2)] rfl ?_
      exact T_pace_49_ok hO hE v2 6 s5
    · refine x_iconst 0 dX2_pace_43 rfl (n := 44) rfl ?_
      refine x_goto dX2_pace_44 (n := 49) (by decide) ?_
      refine x_sub [1, 3] [(0, .ref E.2.1), (2, .int v2)] rfl ?_
      exact T_pace_49_ok hO hE v2 0 s5
  · refine x_iload_n 0 dX2_pace_31 rfl rfl (n := 32) rfl ?_
    refine x_goto dX2_pace_32 (n := 49) (by decide) ?_
    refine x_sub [1, 3] [(0, .ref E.2.1), (2, .int v2)] rfl ?_
    exact T_pace_49_ok hO hE v2 x4 s3
theorem T_pace_21_ok {G : xG} {E : TE} (hO : xOK G) (hE : tok E)   (v1 : Int32) (v2 : Int32) (s0 : TS) : XT G E "ForestLegsModel" "pace" cX2_pace 4 (Option.some Jvm.ClassFile.FieldType.int) 8 21 [(0, .ref E.2.1), (1, .int v1), (2, .int v2)] [] s0 (T_pace_21 v1 v2 s0) := by
  unfold T_pace_21
  refine x_iconst 0 dX2_pace_21 rfl (n := 22) rfl ?_
  exact T_pace_22_ok hO hE v1 v2 0 s0
theorem T_pace_ok {G : xG} {E : TE} (hO : xOK G) (hE : tok E) (s0 : TS) (a1 : Int32) (a2 : Int32) : CTT G E 8 yX2_pace cX2_pace 4 (Option.some Jvm.ClassFile.FieldType.int) [.ref E.2.1, .int a1, .int a2] s0 (T_pace s0 a1 a2) := by
  refine CT_of hO (by decide +kernel) (by decide +kernel) (Nat.le_of_ble_eq_true rfl) ?_
  show XT G E "ForestLegsModel" "pace" cX2_pace 4 (Option.some Jvm.ClassFile.FieldType.int) 8 0 [(0, .ref E.2.1), (1, .int a1), (2, .int a2)] [] s0 (T_pace s0 a1 a2)
  refine x_aload_nr 0 dX2_pace_0 rfl rfl (n := 1) rfl ?_
  refine x_iload_n 1 dX2_pace_1 rfl rfl (n := 2) rfl ?_
  refine tw_callV_I [.int a1] [] (T_isRunner_ok hO hE s0 a1) md_X2_isRunner q3215 q3217 qs99 dX2_pace_2 rfl rfl (by decide) (Nat.le_of_ble_eq_true rfl) (n := 5) rfl (fun x2 s1 => ?_)
  refine tw_if_eq dX2_pace_5 (t := 21) (by decide) (n := 8) rfl ?_ ?_
  · exact T_pace_21_ok hO hE a1 a2 s1
  · refine x_iload_n 2 dX2_pace_8 rfl rfl (n := 9) rfl ?_
    refine x_iconst 0 dX2_pace_9 rfl (n := 10) rfl ?_
    refine x_iconst 1 dX2_pace_10 rfl (n := 11) rfl ?_
    refine tw_callS_I [.int a2, .int 0, .int 1] [] (T_in_ok hO hE s1 a2 0 1) md_X2_in q3016 q3017 dX2_pace_11 rfl rfl (by decide) (Nat.le_of_ble_eq_true rfl) (n := 14) rfl (fun x12 s11 => ?_)
    refine tw_if_eq dX2_pace_14 (t := 21) (by decide) (n := 17) rfl ?_ ?_
    · exact T_pace_21_ok hO hE a1 a2 s11
    · refine x_iconst 1 dX2_pace_17 rfl (n := 18) rfl ?_
      refine x_goto dX2_pace_18 (n := 22) (by decide) ?_
      exact T_pace_22_ok hO hE a1 a2 1 s11
abbrev cX2_mistakes : ByteArray := prog_14_method_80_code
def yX2_mistakes : MethodName := ⟨RX2, "mistakes", "(I)I"⟩
def dkwX2_mistakes_2 : List UInt8 := [182, 1, 23, 158, 0, 9, 4, 29, 120, 167, 0, 4, 3, 128, 61, 132, 3, 1, 167, 255, 214, 28, 172]
abbrev dktX2_mistakes_2 : List UInt8 := dkwX2_mistakes_2 ++ []
def dkwX2_mistakes_1 : List UInt8 := [180, 0, 17, 7, 42, 180, 0, 17, 16, 37, 27, 96, 46, 96, 46, 163, 0, 28, 28, 42, 27, 29]
abbrev dktX2_mistakes_1 : List UInt8 := dkwX2_mistakes_1 ++ dktX2_mistakes_2
def dkwX2_mistakes_0 : List UInt8 := [42, 42, 27, 182, 0, 187, 184, 0, 234, 182, 0, 161, 153, 0, 5, 2, 172, 3, 61, 3, 62, 29, 42]
abbrev dktX2_mistakes_0 : List UInt8 := dkwX2_mistakes_0 ++ dktX2_mistakes_1
theorem dksX2_mistakes_0 : cX2_mistakes.data.toList.drop 0 = dktX2_mistakes_0 := by decide +kernel
theorem dksX2_mistakes_1 : cX2_mistakes.data.toList.drop 23 = dktX2_mistakes_1 := dk_seg dksX2_mistakes_0 23 rfl rfl
theorem dksX2_mistakes_2 : cX2_mistakes.data.toList.drop 45 = dktX2_mistakes_2 := dk_seg dksX2_mistakes_1 22 rfl rfl
theorem dX2_mistakes_0 : decode cX2_mistakes 0 = .ok (.aload_n 0, 1) := dk_42 (dk_at dksX2_mistakes_0 0 rfl rfl)
theorem dX2_mistakes_1 : decode cX2_mistakes 1 = .ok (.aload_n 0, 1) := dk_42 (dk_at dksX2_mistakes_0 1 rfl rfl)
theorem dX2_mistakes_2 : decode cX2_mistakes 2 = .ok (.iload_n 1, 1) := dk_27 (dk_at dksX2_mistakes_0 2 rfl rfl)
theorem dX2_mistakes_3 : decode cX2_mistakes 3 = .ok (.invokevirtual 187, 3) := dk_182 0 187 (dk_at dksX2_mistakes_0 3 rfl rfl)
theorem dX2_mistakes_6 : decode cX2_mistakes 6 = .ok (.invokestatic 234, 3) := dk_184 0 234 (dk_at dksX2_mistakes_0 6 rfl rfl)
theorem dX2_mistakes_9 : decode cX2_mistakes 9 = .ok (.invokevirtual 161, 3) := dk_182 0 161 (dk_at dksX2_mistakes_0 9 rfl rfl)
theorem dX2_mistakes_12 : decode cX2_mistakes 12 = .ok (.ifCond .eq 5, 3) := dk_153 0 5 (dk_at dksX2_mistakes_0 12 rfl rfl)
theorem dX2_mistakes_15 : decode cX2_mistakes 15 = .ok (.iconst (-1), 1) := dk_2 (dk_at dksX2_mistakes_0 15 rfl rfl)
theorem dX2_mistakes_16 : decode cX2_mistakes 16 = .ok (.ireturn, 1) := dk_172 (dk_at dksX2_mistakes_0 16 rfl rfl)
theorem dX2_mistakes_17 : decode cX2_mistakes 17 = .ok (.iconst 0, 1) := dk_3 (dk_at dksX2_mistakes_0 17 rfl rfl)
theorem dX2_mistakes_18 : decode cX2_mistakes 18 = .ok (.istore_n 2, 1) := dk_61 (dk_at dksX2_mistakes_0 18 rfl rfl)
theorem dX2_mistakes_19 : decode cX2_mistakes 19 = .ok (.iconst 0, 1) := dk_3 (dk_at dksX2_mistakes_0 19 rfl rfl)
theorem dX2_mistakes_20 : decode cX2_mistakes 20 = .ok (.istore_n 3, 1) := dk_62 (dk_at dksX2_mistakes_0 20 rfl rfl)
theorem dX2_mistakes_21 : decode cX2_mistakes 21 = .ok (.iload_n 3, 1) := dk_29 (dk_at dksX2_mistakes_0 21 rfl rfl)
theorem dX2_mistakes_22 : decode cX2_mistakes 22 = .ok (.aload_n 0, 1) := dk_42 (dk_at dksX2_mistakes_0 22 rfl rfl)
theorem dX2_mistakes_23 : decode cX2_mistakes 23 = .ok (.getfield 17, 3) := dk_180 0 17 (dk_at dksX2_mistakes_1 0 rfl rfl)
theorem dX2_mistakes_26 : decode cX2_mistakes 26 = .ok (.iconst 4, 1) := dk_7 (dk_at dksX2_mistakes_1 3 rfl rfl)
theorem dX2_mistakes_27 : decode cX2_mistakes 27 = .ok (.aload_n 0, 1) := dk_42 (dk_at dksX2_mistakes_1 4 rfl rfl)
theorem dX2_mistakes_28 : decode cX2_mistakes 28 = .ok (.getfield 17, 3) := dk_180 0 17 (dk_at dksX2_mistakes_1 5 rfl rfl)
theorem dX2_mistakes_31 : decode cX2_mistakes 31 = .ok (.bipush 37, 2) := dk_16 37 (dk_at dksX2_mistakes_1 8 rfl rfl)
theorem dX2_mistakes_33 : decode cX2_mistakes 33 = .ok (.iload_n 1, 1) := dk_27 (dk_at dksX2_mistakes_1 10 rfl rfl)
theorem dX2_mistakes_34 : decode cX2_mistakes 34 = .ok (.iadd, 1) := dk_96 (dk_at dksX2_mistakes_1 11 rfl rfl)
theorem dX2_mistakes_35 : decode cX2_mistakes 35 = .ok (.iaload, 1) := dk_46 (dk_at dksX2_mistakes_1 12 rfl rfl)
theorem dX2_mistakes_36 : decode cX2_mistakes 36 = .ok (.iadd, 1) := dk_96 (dk_at dksX2_mistakes_1 13 rfl rfl)
theorem dX2_mistakes_37 : decode cX2_mistakes 37 = .ok (.iaload, 1) := dk_46 (dk_at dksX2_mistakes_1 14 rfl rfl)
theorem dX2_mistakes_38 : decode cX2_mistakes 38 = .ok (.if_icmp .gt 28, 3) := dk_163 0 28 (dk_at dksX2_mistakes_1 15 rfl rfl)
theorem dX2_mistakes_41 : decode cX2_mistakes 41 = .ok (.iload_n 2, 1) := dk_28 (dk_at dksX2_mistakes_1 18 rfl rfl)
theorem dX2_mistakes_42 : decode cX2_mistakes 42 = .ok (.aload_n 0, 1) := dk_42 (dk_at dksX2_mistakes_1 19 rfl rfl)
theorem dX2_mistakes_43 : decode cX2_mistakes 43 = .ok (.iload_n 1, 1) := dk_27 (dk_at dksX2_mistakes_1 20 rfl rfl)
theorem dX2_mistakes_44 : decode cX2_mistakes 44 = .ok (.iload_n 3, 1) := dk_29 (dk_at dksX2_mistakes_1 21 rfl rfl)
theorem dX2_mistakes_45 : decode cX2_mistakes 45 = .ok (.invokevirtual 279, 3) := dk_182 1 23 (dk_at dksX2_mistakes_2 0 rfl rfl)
theorem dX2_mistakes_48 : decode cX2_mistakes 48 = .ok (.ifCond .le 9, 3) := dk_158 0 9 (dk_at dksX2_mistakes_2 3 rfl rfl)
theorem dX2_mistakes_51 : decode cX2_mistakes 51 = .ok (.iconst 1, 1) := dk_4 (dk_at dksX2_mistakes_2 6 rfl rfl)
theorem dX2_mistakes_52 : decode cX2_mistakes 52 = .ok (.iload_n 3, 1) := dk_29 (dk_at dksX2_mistakes_2 7 rfl rfl)
theorem dX2_mistakes_53 : decode cX2_mistakes 53 = .ok (.ishl, 1) := dk_120 (dk_at dksX2_mistakes_2 8 rfl rfl)
theorem dX2_mistakes_54 : decode cX2_mistakes 54 = .ok (.goto 4, 3) := dk_167 0 4 (dk_at dksX2_mistakes_2 9 rfl rfl)
theorem dX2_mistakes_57 : decode cX2_mistakes 57 = .ok (.iconst 0, 1) := dk_3 (dk_at dksX2_mistakes_2 12 rfl rfl)
theorem dX2_mistakes_58 : decode cX2_mistakes 58 = .ok (.ior, 1) := dk_128 (dk_at dksX2_mistakes_2 13 rfl rfl)
theorem dX2_mistakes_59 : decode cX2_mistakes 59 = .ok (.istore_n 2, 1) := dk_61 (dk_at dksX2_mistakes_2 14 rfl rfl)
theorem dX2_mistakes_60 : decode cX2_mistakes 60 = .ok (.iinc 3 1, 3) := dk_132 3 1 (dk_at dksX2_mistakes_2 15 rfl rfl)
theorem dX2_mistakes_63 : decode cX2_mistakes 63 = .ok (.goto (-42), 3) := dk_167 255 214 (dk_at dksX2_mistakes_2 18 rfl rfl)
theorem dX2_mistakes_66 : decode cX2_mistakes 66 = .ok (.iload_n 2, 1) := dk_28 (dk_at dksX2_mistakes_2 21 rfl rfl)
theorem dX2_mistakes_67 : decode cX2_mistakes 67 = .ok (.ireturn, 1) := dk_172 (dk_at dksX2_mistakes_2 22 rfl rfl)
theorem md_X2_mistakes : xMd yX2_mistakes cX2_mistakes 4 (Option.some Jvm.ClassFile.FieldType.int) 1 := ⟨q3325, q126, by decide, by decide +kernel, by decide +kernel, by decide +kernel⟩
def T_mistakes_58  (k21 : Int32 × Int32 × Int32 × TS → Option (xO × TS)) (v1 : Int32) (v3 : Int32) (w0 : Int32) (w1 : Int32) (s0 : TS) : Option (xO × TS) :=
  (bnd (w0 ||| w1) fun x11 =>
  (bnd (v3 + 1) fun x12 =>
  (k21 (v1, x11, x12, s0))))
def T_mistakes_21F   (k21 : Int32 × Int32 × Int32 × TS → Option (xO × TS)) (p : Int32 × Int32 × Int32 × TS) : Option (xO × TS) := match p with
  | (v1, v2, v3, s0) => (tald s0 7 (37 + v1) fun x7 =>
  (tald s0 7 (4 + x7) fun x8 =>
  (if x8 < v3 then
  (rI v2 s0) else
  (xcI (T_mistakeOf s0 v1 v3) fun x10 s9 =>
  (if x10 ≤ 0 then
  (T_mistakes_58 k21 v1 v3 v2 0 s9) else
  (T_mistakes_58 k21 v1 v3 v2 (1 <<< (v3 &&& 31)) s9))))))
def T_mistakes (s0 : TS) (a1 : Int32) : Option (xO × TS) :=
  (xcI (T_isRunner s0 a1) fun x2 s1 =>
  (xcI (T_unless_2 s1 x2) fun x4 s3 =>
  (xcI (T_isRefused s3 x4) fun x6 s5 =>
  (if x6 = 0 then
  (lp (T_mistakes_21F) FU (a1, 0, 0, s5)) else
  (rI (-1) s5)))))
theorem T_mistakes_58_ok {G : xG} {E : TE} (hO : xOK G) (hE : tok E)  {k21 : Int32 × Int32 × Int32 × TS → Option (xO × TS)} (hk21 : ∀ (v1 : Int32) (v2 : Int32) (v3 : Int32) (s0 : TS), XT G E "ForestLegsModel" "mistakes" cX2_mistakes 4 (Option.some Jvm.ClassFile.FieldType.int) 9 21 [(0, .ref E.2.1), (1, .int v1), (2, .int v2), (3, .int v3)] [] s0 (k21 (v1, v2, v3, s0))) (v1 : Int32) (v3 : Int32) (w0 : Int32) (w1 : Int32) (s0 : TS) : XT G E "ForestLegsModel" "mistakes" cX2_mistakes 4 (Option.some Jvm.ClassFile.FieldType.int) 9 58 [(0, .ref E.2.1), (1, .int v1), (3, .int v3)] [.int w1, .int w0] s0 (T_mistakes_58 k21 v1 v3 w0 w1 s0) := by
  unfold T_mistakes_58
  refine x_ior dX2_mistakes_58 (n := 59) rfl ?_
  refine tw_nm (fun x11 => ?_)
  refine x_istore_n [(2, .int x11), (0, .ref E.2.1), (1, .int v1), (3, .int v3)] dX2_mistakes_59 rfl (by decide) rfl (n := 60) rfl ?_
  refine tw_iinc 3 (fun x12 => [(3, .int x12), (2, .int x11), (0, .ref E.2.1), (1, .int v1)]) dX2_mistakes_60 rfl rfl (by decide) (fun _ => rfl) (n := 63) rfl (fun x12 => ?_)
  refine x_goto dX2_mistakes_63 (n := 21) (by decide) ?_
  refine x_sub [2, 3, 1, 0] [(0, .ref E.2.1), (1, .int v1), (2, .int x11), (3, .int x12)] rfl ?_
  exact hk21 v1 x11 x12 s0
theorem T_mistakes_21F_ok {G : xG} {E : TE} (hO : xOK G) (hE : tok E)   {k21 : Int32 × Int32 × Int32 × TS → Option (xO × TS)} (hk21 : ∀ (v1 : Int32) (v2 : Int32) (v3 : Int32) (s0 : TS), XT G E "ForestLegsModel" "mistakes" cX2_mistakes 4 (Option.some Jvm.ClassFile.FieldType.int) 9 21 [(0, .ref E.2.1), (1, .int v1), (2, .int v2), (3, .int v3)] [] s0 (k21 (v1, v2, v3, s0))) (v1 : Int32) (v2 : Int32) (v3 : Int32) (s0 : TS) : XT G E "ForestLegsModel" "mistakes" cX2_mistakes 4 (Option.some Jvm.ClassFile.FieldType.int) 9 21 [(0, .ref E.2.1), (1, .int v1), (2, .int v2), (3, .int v3)] [] s0 (T_mistakes_21F k21 (v1, v2, v3, s0)) := by
  unfold T_mistakes_21F
  refine x_iload_n 3 dX2_mistakes_21 rfl rfl (n := 22) rfl ?_
  refine x_aload_nr 0 dX2_mistakes_22 rfl rfl (n := 23) rfl ?_
  refine tw_getA fl_X2_17 rfl (by decide) dX2_mistakes_23 (n := 26) rfl ?_
  refine x_iconst 4 dX2_mistakes_26 rfl (n := 27) rfl ?_
  refine x_aload_nr 0 dX2_mistakes_27 rfl rfl (n := 28) rfl ?_
  refine tw_getA fl_X2_17 rfl (by decide) dX2_mistakes_28 (n := 31) rfl ?_
  refine x_bipush 37 dX2_mistakes_31 rfl (n := 33) rfl ?_
  refine x_iload_n 1 dX2_mistakes_33 rfl rfl (n := 34) rfl ?_
  refine x_iadd dX2_mistakes_34 (n := 35) rfl ?_
  refine tw_iald hE (by decide) dX2_mistakes_35 (n := 36) rfl (fun x7 => ?_)
  refine x_iadd dX2_mistakes_36 (n := 37) rfl ?_
  refine tw_iald hE (by decide) dX2_mistakes_37 (n := 38) rfl (fun x8 => ?_)
  refine tw_icmp_gt dX2_mistakes_38 (t := 66) (by decide) (n := 41) rfl ?_ ?_
  · refine x_iload_n 2 dX2_mistakes_66 rfl rfl (n := 67) rfl ?_
    exact tw_ireturn dX2_mistakes_67
  · refine x_iload_n 2 dX2_mistakes_41 rfl rfl (n := 42) rfl ?_
    refine x_aload_nr 0 dX2_mistakes_42 rfl rfl (n := 43) rfl ?_
    refine x_iload_n 1 dX2_mistakes_43 rfl rfl (n := 44) rfl ?_
    refine x_iload_n 3 dX2_mistakes_44 rfl rfl (n := 45) rfl ?_
    refine tw_callV_I [.int v1, .int v3] [.int v2] (T_mistakeOf_ok hO hE s0 v1 v3) md_X2_mistakeOf q3263 q3265 qs105 dX2_mistakes_45 rfl rfl (by decide) (Nat.le_of_ble_eq_true rfl) (n := 48) rfl (fun x10 s9 => ?_)
    refine tw_if_le dX2_mistakes_48 (t := 57) (by decide) (n := 51) rfl ?_ ?_
    · refine x_iconst 0 dX2_mistakes_57 rfl (n := 58) rfl ?_
      refine x_sub [0, 1, 3] [(0, .ref E.2.1), (1, .int v1), (3, .int v3)] rfl ?_
      exact T_mistakes_58_ok hO hE hk21 v1 v3 v2 0 s9
    · refine x_iconst 1 dX2_mistakes_51 rfl (n := 52) rfl ?_
      refine x_iload_n 3 dX2_mistakes_52 rfl rfl (n := 53) rfl ?_
      refine x_ishl dX2_mistakes_53 (n := 54) rfl ?_
      refine x_goto dX2_mistakes_54 (n := 58) (by decide) ?_
      refine x_sub [0, 1, 3] [(0, .ref E.2.1), (1, .int v1), (3, .int v3)] rfl ?_
      exact T_mistakes_58_ok hO hE hk21 v1 v3 v2 (1 <<< (v3 &&& 31)) s9
theorem T_mistakes_21_lp {G : xG} {E : TE} (hO : xOK G) (hE : tok E)   (n : Nat) (v1 : Int32) (v2 : Int32) (v3 : Int32) (s0 : TS) : XT G E "ForestLegsModel" "mistakes" cX2_mistakes 4 (Option.some Jvm.ClassFile.FieldType.int) 9 21 [(0, .ref E.2.1), (1, .int v1), (2, .int v2), (3, .int v3)] [] s0 (lp (T_mistakes_21F) n (v1, v2, v3, s0)) :=
  lp_ok (W := fun p K => XT G E "ForestLegsModel" "mistakes" cX2_mistakes 4 (Option.some Jvm.ClassFile.FieldType.int) 9 21 [(0, .ref E.2.1), (1, .int p.1), (2, .int p.2.1), (3, .int p.2.2.1)] [] p.2.2.2 K) (fun _ => tw_no) (fun k hk => fun (v1, v2, v3, s0) => T_mistakes_21F_ok hO hE (fun v1 v2 v3 s0 => hk (v1, v2, v3, s0)) v1 v2 v3 s0) n (v1, v2, v3, s0)
theorem T_mistakes_ok {G : xG} {E : TE} (hO : xOK G) (hE : tok E) (s0 : TS) (a1 : Int32) : CTT G E 9 yX2_mistakes cX2_mistakes 4 (Option.some Jvm.ClassFile.FieldType.int) [.ref E.2.1, .int a1] s0 (T_mistakes s0 a1) := by
  refine CT_of hO (by decide +kernel) (by decide +kernel) (Nat.le_of_ble_eq_true rfl) ?_
  show XT G E "ForestLegsModel" "mistakes" cX2_mistakes 4 (Option.some Jvm.ClassFile.FieldType.int) 9 0 [(0, .ref E.2.1), (1, .int a1)] [] s0 (T_mistakes s0 a1)
  refine x_aload_nr 0 dX2_mistakes_0 rfl rfl (n := 1) rfl ?_
  refine x_aload_nr 0 dX2_mistakes_1 rfl rfl (n := 2) rfl ?_
  refine x_iload_n 1 dX2_mistakes_2 rfl rfl (n := 3) rfl ?_
  refine tw_callV_I [.int a1] [.ref E.2.1] (T_isRunner_ok hO hE s0 a1) md_X2_isRunner q3215 q3217 qs99 dX2_mistakes_3 rfl rfl (by decide) (Nat.le_of_ble_eq_true rfl) (n := 6) rfl (fun x2 s1 => ?_)
  refine tw_callS_I [.int x2] [.ref E.2.1] (T_unless_2_ok hO hE s1 x2) md_X2_unless_2 q3121 q3122 dX2_mistakes_6 rfl rfl (by decide) (Nat.le_of_ble_eq_true rfl) (n := 9) rfl (fun x4 s3 => ?_)
  refine tw_callV_I [.int x4] [] (T_isRefused_ok hO hE s3 x4) md_X2_isRefused q3022 q3024 qs63 dX2_mistakes_9 rfl rfl (by decide) (Nat.le_of_ble_eq_true rfl) (n := 12) rfl (fun x6 s5 => ?_)
  refine tw_if_eq dX2_mistakes_12 (t := 17) (by decide) (n := 15) rfl ?_ ?_
  · refine x_iconst 0 dX2_mistakes_17 rfl (n := 18) rfl ?_
    refine x_istore_n [(2, .int 0), (0, .ref E.2.1), (1, .int a1)] dX2_mistakes_18 rfl (by decide) rfl (n := 19) rfl ?_
    refine x_iconst 0 dX2_mistakes_19 rfl (n := 20) rfl ?_
    refine x_istore_n [(3, .int 0), (2, .int 0), (0, .ref E.2.1), (1, .int a1)] dX2_mistakes_20 rfl (by decide) rfl (n := 21) rfl ?_
    refine x_sub [2, 3, 1, 0] [(0, .ref E.2.1), (1, .int a1), (2, .int 0), (3, .int 0)] rfl ?_
    exact T_mistakes_21_lp hO hE FU a1 0 0 s5
  · refine x_iconst (-1) dX2_mistakes_15 rfl (n := 16) rfl ?_
    exact tw_ireturn dX2_mistakes_16
abbrev cX2_cleanOf : ByteArray := prog_14_method_81_code
def yX2_cleanOf : MethodName := ⟨RX2, "cleanOf", "(I)I"⟩
def dkwX2_cleanOf_2 : List UInt8 := [100, 61, 132, 3, 1, 167, 255, 211, 28, 172]
abbrev dktX2_cleanOf_2 : List UInt8 := dkwX2_cleanOf_2 ++ []
def dkwX2_cleanOf_1 : List UInt8 := [46, 163, 0, 31, 42, 27, 29, 182, 1, 23, 54, 4, 28, 21, 4, 158, 0, 8, 21, 4, 167, 0, 4, 3]
abbrev dktX2_cleanOf_1 : List UInt8 := dkwX2_cleanOf_1 ++ dktX2_cleanOf_2
def dkwX2_cleanOf_0 : List UInt8 := [42, 27, 182, 0, 218, 61, 3, 62, 29, 42, 180, 0, 17, 7, 42, 180, 0, 17, 16, 37, 27, 96, 46, 96]
abbrev dktX2_cleanOf_0 : List UInt8 := dkwX2_cleanOf_0 ++ dktX2_cleanOf_1
theorem dksX2_cleanOf_0 : cX2_cleanOf.data.toList.drop 0 = dktX2_cleanOf_0 := by decide +kernel
theorem dksX2_cleanOf_1 : cX2_cleanOf.data.toList.drop 24 = dktX2_cleanOf_1 := dk_seg dksX2_cleanOf_0 24 rfl rfl
theorem dksX2_cleanOf_2 : cX2_cleanOf.data.toList.drop 48 = dktX2_cleanOf_2 := dk_seg dksX2_cleanOf_1 24 rfl rfl
theorem dX2_cleanOf_0 : decode cX2_cleanOf 0 = .ok (.aload_n 0, 1) := dk_42 (dk_at dksX2_cleanOf_0 0 rfl rfl)
theorem dX2_cleanOf_1 : decode cX2_cleanOf 1 = .ok (.iload_n 1, 1) := dk_27 (dk_at dksX2_cleanOf_0 1 rfl rfl)
theorem dX2_cleanOf_2 : decode cX2_cleanOf 2 = .ok (.invokevirtual 218, 3) := dk_182 0 218 (dk_at dksX2_cleanOf_0 2 rfl rfl)
theorem dX2_cleanOf_5 : decode cX2_cleanOf 5 = .ok (.istore_n 2, 1) := dk_61 (dk_at dksX2_cleanOf_0 5 rfl rfl)
theorem dX2_cleanOf_6 : decode cX2_cleanOf 6 = .ok (.iconst 0, 1) := dk_3 (dk_at dksX2_cleanOf_0 6 rfl rfl)
theorem dX2_cleanOf_7 : decode cX2_cleanOf 7 = .ok (.istore_n 3, 1) := dk_62 (dk_at dksX2_cleanOf_0 7 rfl rfl)
theorem dX2_cleanOf_8 : decode cX2_cleanOf 8 = .ok (.iload_n 3, 1) := dk_29 (dk_at dksX2_cleanOf_0 8 rfl rfl)
theorem dX2_cleanOf_9 : decode cX2_cleanOf 9 = .ok (.aload_n 0, 1) := dk_42 (dk_at dksX2_cleanOf_0 9 rfl rfl)
theorem dX2_cleanOf_10 : decode cX2_cleanOf 10 = .ok (.getfield 17, 3) := dk_180 0 17 (dk_at dksX2_cleanOf_0 10 rfl rfl)
theorem dX2_cleanOf_13 : decode cX2_cleanOf 13 = .ok (.iconst 4, 1) := dk_7 (dk_at dksX2_cleanOf_0 13 rfl rfl)
theorem dX2_cleanOf_14 : decode cX2_cleanOf 14 = .ok (.aload_n 0, 1) := dk_42 (dk_at dksX2_cleanOf_0 14 rfl rfl)
theorem dX2_cleanOf_15 : decode cX2_cleanOf 15 = .ok (.getfield 17, 3) := dk_180 0 17 (dk_at dksX2_cleanOf_0 15 rfl rfl)
theorem dX2_cleanOf_18 : decode cX2_cleanOf 18 = .ok (.bipush 37, 2) := dk_16 37 (dk_at dksX2_cleanOf_0 18 rfl rfl)
theorem dX2_cleanOf_20 : decode cX2_cleanOf 20 = .ok (.iload_n 1, 1) := dk_27 (dk_at dksX2_cleanOf_0 20 rfl rfl)
theorem dX2_cleanOf_21 : decode cX2_cleanOf 21 = .ok (.iadd, 1) := dk_96 (dk_at dksX2_cleanOf_0 21 rfl rfl)
theorem dX2_cleanOf_22 : decode cX2_cleanOf 22 = .ok (.iaload, 1) := dk_46 (dk_at dksX2_cleanOf_0 22 rfl rfl)
theorem dX2_cleanOf_23 : decode cX2_cleanOf 23 = .ok (.iadd, 1) := dk_96 (dk_at dksX2_cleanOf_0 23 rfl rfl)
theorem dX2_cleanOf_24 : decode cX2_cleanOf 24 = .ok (.iaload, 1) := dk_46 (dk_at dksX2_cleanOf_1 0 rfl rfl)
theorem dX2_cleanOf_25 : decode cX2_cleanOf 25 = .ok (.if_icmp .gt 31, 3) := dk_163 0 31 (dk_at dksX2_cleanOf_1 1 rfl rfl)
theorem dX2_cleanOf_28 : decode cX2_cleanOf 28 = .ok (.aload_n 0, 1) := dk_42 (dk_at dksX2_cleanOf_1 4 rfl rfl)
theorem dX2_cleanOf_29 : decode cX2_cleanOf 29 = .ok (.iload_n 1, 1) := dk_27 (dk_at dksX2_cleanOf_1 5 rfl rfl)
theorem dX2_cleanOf_30 : decode cX2_cleanOf 30 = .ok (.iload_n 3, 1) := dk_29 (dk_at dksX2_cleanOf_1 6 rfl rfl)
theorem dX2_cleanOf_31 : decode cX2_cleanOf 31 = .ok (.invokevirtual 279, 3) := dk_182 1 23 (dk_at dksX2_cleanOf_1 7 rfl rfl)
theorem dX2_cleanOf_34 : decode cX2_cleanOf 34 = .ok (.istore 4, 2) := dk_54 4 (dk_at dksX2_cleanOf_1 10 rfl rfl)
theorem dX2_cleanOf_36 : decode cX2_cleanOf 36 = .ok (.iload_n 2, 1) := dk_28 (dk_at dksX2_cleanOf_1 12 rfl rfl)
theorem dX2_cleanOf_37 : decode cX2_cleanOf 37 = .ok (.iload 4, 2) := dk_21 4 (dk_at dksX2_cleanOf_1 13 rfl rfl)
theorem dX2_cleanOf_39 : decode cX2_cleanOf 39 = .ok (.ifCond .le 8, 3) := dk_158 0 8 (dk_at dksX2_cleanOf_1 15 rfl rfl)
theorem dX2_cleanOf_42 : decode cX2_cleanOf 42 = .ok (.iload 4, 2) := dk_21 4 (dk_at dksX2_cleanOf_1 18 rfl rfl)
theorem dX2_cleanOf_44 : decode cX2_cleanOf 44 = .ok (.goto 4, 3) := dk_167 0 4 (dk_at dksX2_cleanOf_1 20 rfl rfl)
theorem dX2_cleanOf_47 : decode cX2_cleanOf 47 = .ok (.iconst 0, 1) := dk_3 (dk_at dksX2_cleanOf_1 23 rfl rfl)
theorem dX2_cleanOf_48 : decode cX2_cleanOf 48 = .ok (.isub, 1) := dk_100 (dk_at dksX2_cleanOf_2 0 rfl rfl)
theorem dX2_cleanOf_49 : decode cX2_cleanOf 49 = .ok (.istore_n 2, 1) := dk_61 (dk_at dksX2_cleanOf_2 1 rfl rfl)
theorem dX2_cleanOf_50 : decode cX2_cleanOf 50 = .ok (.iinc 3 1, 3) := dk_132 3 1 (dk_at dksX2_cleanOf_2 2 rfl rfl)
theorem dX2_cleanOf_53 : decode cX2_cleanOf 53 = .ok (.goto (-45), 3) := dk_167 255 211 (dk_at dksX2_cleanOf_2 5 rfl rfl)
theorem dX2_cleanOf_56 : decode cX2_cleanOf 56 = .ok (.iload_n 2, 1) := dk_28 (dk_at dksX2_cleanOf_2 8 rfl rfl)
theorem dX2_cleanOf_57 : decode cX2_cleanOf 57 = .ok (.ireturn, 1) := dk_172 (dk_at dksX2_cleanOf_2 9 rfl rfl)
theorem md_X2_cleanOf : xMd yX2_cleanOf cX2_cleanOf 5 (Option.some Jvm.ClassFile.FieldType.int) 1 := ⟨q3333, q126, by decide, by decide +kernel, by decide +kernel, by decide +kernel⟩
def T_cleanOf_48  (k8 : Int32 × Int32 × Int32 × TS → Option (xO × TS)) (v1 : Int32) (v3 : Int32) (w0 : Int32) (w1 : Int32) (s0 : TS) : Option (xO × TS) :=
  (bnd (w0 - w1) fun x7 =>
  (bnd (v3 + 1) fun x8 =>
  (k8 (v1, x7, x8, s0))))
def T_cleanOf_8F   (k8 : Int32 × Int32 × Int32 × TS → Option (xO × TS)) (p : Int32 × Int32 × Int32 × TS) : Option (xO × TS) := match p with
  | (v1, v2, v3, s0) => (tald s0 7 (37 + v1) fun x3 =>
  (tald s0 7 (4 + x3) fun x4 =>
  (if x4 < v3 then
  (rI v2 s0) else
  (xcI (T_mistakeOf s0 v1 v3) fun x6 s5 =>
  (if x6 ≤ 0 then
  (T_cleanOf_48 k8 v1 v3 v2 0 s5) else
  (T_cleanOf_48 k8 v1 v3 v2 x6 s5))))))
def T_cleanOf (s0 : TS) (a1 : Int32) : Option (xO × TS) :=
  (xcI (T_totalOf s0 a1) fun x2 s1 =>
  (lp (T_cleanOf_8F) FU (a1, x2, 0, s1)))
theorem T_cleanOf_48_ok {G : xG} {E : TE} (hO : xOK G) (hE : tok E)  {k8 : Int32 × Int32 × Int32 × TS → Option (xO × TS)} (hk8 : ∀ (v1 : Int32) (v2 : Int32) (v3 : Int32) (s0 : TS), XT G E "ForestLegsModel" "cleanOf" cX2_cleanOf 5 (Option.some Jvm.ClassFile.FieldType.int) 9 8 [(0, .ref E.2.1), (1, .int v1), (2, .int v2), (3, .int v3)] [] s0 (k8 (v1, v2, v3, s0))) (v1 : Int32) (v3 : Int32) (w0 : Int32) (w1 : Int32) (s0 : TS) : XT G E "ForestLegsModel" "cleanOf" cX2_cleanOf 5 (Option.some Jvm.ClassFile.FieldType.int) 9 48 [(0, .ref E.2.1), (1, .int v1), (3, .int v3)] [.int w1, .int w0] s0 (T_cleanOf_48 k8 v1 v3 w0 w1 s0) := by
  unfold T_cleanOf_48
  refine x_isub dX2_cleanOf_48 (n := 49) rfl ?_
  refine tw_nm (fun x7 => ?_)
  refine x_istore_n [(2, .int x7), (0, .ref E.2.1), (1, .int v1), (3, .int v3)] dX2_cleanOf_49 rfl (by decide) rfl (n := 50) rfl ?_
  refine tw_iinc 3 (fun x8 => [(3, .int x8), (2, .int x7), (0, .ref E.2.1), (1, .int v1)]) dX2_cleanOf_50 rfl rfl (by decide) (fun _ => rfl) (n := 53) rfl (fun x8 => ?_)
  refine x_goto dX2_cleanOf_53 (n := 8) (by decide) ?_
  refine x_sub [2, 3, 1, 0] [(0, .ref E.2.1), (1, .int v1), (2, .int x7), (3, .int x8)] rfl ?_
  exact hk8 v1 x7 x8 s0
theorem T_cleanOf_8F_ok {G : xG} {E : TE} (hO : xOK G) (hE : tok E)   {k8 : Int32 × Int32 × Int32 × TS → Option (xO × TS)} (hk8 : ∀ (v1 : Int32) (v2 : Int32) (v3 : Int32) (s0 : TS), XT G E "ForestLegsModel" "cleanOf" cX2_cleanOf 5 (Option.some Jvm.ClassFile.FieldType.int) 9 8 [(0, .ref E.2.1), (1, .int v1), (2, .int v2), (3, .int v3)] [] s0 (k8 (v1, v2, v3, s0))) (v1 : Int32) (v2 : Int32) (v3 : Int32) (s0 : TS) : XT G E "ForestLegsModel" "cleanOf" cX2_cleanOf 5 (Option.some Jvm.ClassFile.FieldType.int) 9 8 [(0, .ref E.2.1), (1, .int v1), (2, .int v2), (3, .int v3)] [] s0 (T_cleanOf_8F k8 (v1, v2, v3, s0)) := by
  unfold T_cleanOf_8F
  refine x_iload_n 3 dX2_cleanOf_8 rfl rfl (n := 9) rfl ?_
  refine x_aload_nr 0 dX2_cleanOf_9 rfl rfl (n := 10) rfl ?_
  refine tw_getA fl_X2_17 rfl (by decide) dX2_cleanOf_10 (n := 13) rfl ?_
  refine x_iconst 4 dX2_cleanOf_13 rfl (n := 14) rfl ?_
  refine x_aload_nr 0 dX2_cleanOf_14 rfl rfl (n := 15) rfl ?_
  refine tw_getA fl_X2_17 rfl (by decide) dX2_cleanOf_15 (n := 18) rfl ?_
  refine x_bipush 37 dX2_cleanOf_18 rfl (n := 20) rfl ?_
  refine x_iload_n 1 dX2_cleanOf_20 rfl rfl (n := 21) rfl ?_
  refine x_iadd dX2_cleanOf_21 (n := 22) rfl ?_
  refine tw_iald hE (by decide) dX2_cleanOf_22 (n := 23) rfl (fun x3 => ?_)
  refine x_iadd dX2_cleanOf_23 (n := 24) rfl ?_
  refine tw_iald hE (by decide) dX2_cleanOf_24 (n := 25) rfl (fun x4 => ?_)
  refine tw_icmp_gt dX2_cleanOf_25 (t := 56) (by decide) (n := 28) rfl ?_ ?_
  · refine x_iload_n 2 dX2_cleanOf_56 rfl rfl (n := 57) rfl ?_
    exact tw_ireturn dX2_cleanOf_57
  · refine x_aload_nr 0 dX2_cleanOf_28 rfl rfl (n := 29) rfl ?_
    refine x_iload_n 1 dX2_cleanOf_29 rfl rfl (n := 30) rfl ?_
    refine x_iload_n 3 dX2_cleanOf_30 rfl rfl (n := 31) rfl ?_
    refine tw_callV_I [.int v1, .int v3] [] (T_mistakeOf_ok hO hE s0 v1 v3) md_X2_mistakeOf q3263 q3265 qs105 dX2_cleanOf_31 rfl rfl (by decide) (Nat.le_of_ble_eq_true rfl) (n := 34) rfl (fun x6 s5 => ?_)
    refine x_istore [(4, .int x6), (0, .ref E.2.1), (1, .int v1), (2, .int v2), (3, .int v3)] dX2_cleanOf_34 (by decide) rfl (n := 36) rfl ?_
    refine x_iload_n 3 dX2_cleanOf_36 rfl rfl (n := 37) rfl ?_
    refine x_iload 0 dX2_cleanOf_37 rfl (n := 39) rfl ?_
    refine tw_if_le dX2_cleanOf_39 (t := 47) (by decide) (n := 42) rfl ?_ ?_
    · refine x_iconst 0 dX2_cleanOf_47 rfl (n := 48) rfl ?_
      refine x_sub [1, 2, 4] [(0, .ref E.2.1), (1, .int v1), (3, .int v3)] rfl ?_
      exact T_cleanOf_48_ok hO hE hk8 v1 v3 v2 0 s5
    · refine x_iload 0 dX2_cleanOf_42 rfl (n := 44) rfl ?_
      refine x_goto dX2_cleanOf_44 (n := 48) (by decide) ?_
      refine x_sub [1, 2, 4] [(0, .ref E.2.1), (1, .int v1), (3, .int v3)] rfl ?_
      exact T_cleanOf_48_ok hO hE hk8 v1 v3 v2 x6 s5
theorem T_cleanOf_8_lp {G : xG} {E : TE} (hO : xOK G) (hE : tok E)   (n : Nat) (v1 : Int32) (v2 : Int32) (v3 : Int32) (s0 : TS) : XT G E "ForestLegsModel" "cleanOf" cX2_cleanOf 5 (Option.some Jvm.ClassFile.FieldType.int) 9 8 [(0, .ref E.2.1), (1, .int v1), (2, .int v2), (3, .int v3)] [] s0 (lp (T_cleanOf_8F) n (v1, v2, v3, s0)) :=
  lp_ok (W := fun p K => XT G E "ForestLegsModel" "cleanOf" cX2_cleanOf 5 (Option.some Jvm.ClassFile.FieldType.int) 9 8 [(0, .ref E.2.1), (1, .int p.1), (2, .int p.2.1), (3, .int p.2.2.1)] [] p.2.2.2 K) (fun _ => tw_no) (fun k hk => fun (v1, v2, v3, s0) => T_cleanOf_8F_ok hO hE (fun v1 v2 v3 s0 => hk (v1, v2, v3, s0)) v1 v2 v3 s0) n (v1, v2, v3, s0)
theorem T_cleanOf_ok {G : xG} {E : TE} (hO : xOK G) (hE : tok E) (s0 : TS) (a1 : Int32) : CTT G E 9 yX2_cleanOf cX2_cleanOf 5 (Option.some Jvm.ClassFile.FieldType.int) [.ref E.2.1, .int a1] s0 (T_cleanOf s0 a1) := by
  refine CT_of hO (by decide +kernel) (by decide +kernel) (Nat.le_of_ble_eq_true rfl) ?_
  show XT G E "ForestLegsModel" "cleanOf" cX2_cleanOf 5 (Option.some Jvm.ClassFile.FieldType.int) 9 0 [(0, .ref E.2.1), (1, .int a1)] [] s0 (T_cleanOf s0 a1)
  refine x_aload_nr 0 dX2_cleanOf_0 rfl rfl (n := 1) rfl ?_
  refine x_iload_n 1 dX2_cleanOf_1 rfl rfl (n := 2) rfl ?_
  refine tw_callV_I [.int a1] [] (T_totalOf_ok hO hE s0 a1) md_X2_totalOf q3199 q3201 qs97 dX2_cleanOf_2 rfl rfl (by decide) (Nat.le_of_ble_eq_true rfl) (n := 5) rfl (fun x2 s1 => ?_)
  refine x_istore_n [(2, .int x2), (0, .ref E.2.1), (1, .int a1)] dX2_cleanOf_5 rfl (by decide) rfl (n := 6) rfl ?_
  refine x_iconst 0 dX2_cleanOf_6 rfl (n := 7) rfl ?_
  refine x_istore_n [(3, .int 0), (2, .int x2), (0, .ref E.2.1), (1, .int a1)] dX2_cleanOf_7 rfl (by decide) rfl (n := 8) rfl ?_
  refine x_sub [2, 3, 1, 0] [(0, .ref E.2.1), (1, .int a1), (2, .int x2), (3, .int 0)] rfl ?_
  exact T_cleanOf_8_lp hO hE FU a1 x2 0 s1
abbrev cX2_clean : ByteArray := prog_14_method_82_code
def yX2_clean : MethodName := ⟨RX2, "clean", "(I)I"⟩
def dkwX2_clean_1 : List UInt8 := [172]
abbrev dktX2_clean_1 : List UInt8 := dkwX2_clean_1 ++ []
def dkwX2_clean_0 : List UInt8 := [42, 42, 27, 182, 0, 187, 184, 0, 234, 182, 0, 161, 153, 0, 7, 2, 167, 0, 8, 42, 27, 182, 1, 35]
abbrev dktX2_clean_0 : List UInt8 := dkwX2_clean_0 ++ dktX2_clean_1
theorem dksX2_clean_0 : cX2_clean.data.toList.drop 0 = dktX2_clean_0 := by decide +kernel
theorem dksX2_clean_1 : cX2_clean.data.toList.drop 24 = dktX2_clean_1 := dk_seg dksX2_clean_0 24 rfl rfl
theorem dX2_clean_0 : decode cX2_clean 0 = .ok (.aload_n 0, 1) := dk_42 (dk_at dksX2_clean_0 0 rfl rfl)
theorem dX2_clean_1 : decode cX2_clean 1 = .ok (.aload_n 0, 1) := dk_42 (dk_at dksX2_clean_0 1 rfl rfl)
theorem dX2_clean_2 : decode cX2_clean 2 = .ok (.iload_n 1, 1) := dk_27 (dk_at dksX2_clean_0 2 rfl rfl)
theorem dX2_clean_3 : decode cX2_clean 3 = .ok (.invokevirtual 187, 3) := dk_182 0 187 (dk_at dksX2_clean_0 3 rfl rfl)
theorem dX2_clean_6 : decode cX2_clean 6 = .ok (.invokestatic 234, 3) := dk_184 0 234 (dk_at dksX2_clean_0 6 rfl rfl)
theorem dX2_clean_9 : decode cX2_clean 9 = .ok (.invokevirtual 161, 3) := dk_182 0 161 (dk_at dksX2_clean_0 9 rfl rfl)
theorem dX2_clean_12 : decode cX2_clean 12 = .ok (.ifCond .eq 7, 3) := dk_153 0 7 (dk_at dksX2_clean_0 12 rfl rfl)
theorem dX2_clean_15 : decode cX2_clean 15 = .ok (.iconst (-1), 1) := dk_2 (dk_at dksX2_clean_0 15 rfl rfl)
theorem dX2_clean_16 : decode cX2_clean 16 = .ok (.goto 8, 3) := dk_167 0 8 (dk_at dksX2_clean_0 16 rfl rfl)
theorem dX2_clean_19 : decode cX2_clean 19 = .ok (.aload_n 0, 1) := dk_42 (dk_at dksX2_clean_0 19 rfl rfl)
theorem dX2_clean_20 : decode cX2_clean 20 = .ok (.iload_n 1, 1) := dk_27 (dk_at dksX2_clean_0 20 rfl rfl)
theorem dX2_clean_21 : decode cX2_clean 21 = .ok (.invokevirtual 291, 3) := dk_182 1 35 (dk_at dksX2_clean_0 21 rfl rfl)
theorem dX2_clean_24 : decode cX2_clean 24 = .ok (.ireturn, 1) := dk_172 (dk_at dksX2_clean_1 0 rfl rfl)
theorem md_X2_clean : xMd yX2_clean cX2_clean 2 (Option.some Jvm.ClassFile.FieldType.int) 1 := ⟨q3329, q126, by decide, by decide +kernel, by decide +kernel, by decide +kernel⟩
def T_clean (s0 : TS) (a1 : Int32) : Option (xO × TS) :=
  (xcI (T_isRunner s0 a1) fun x2 s1 =>
  (xcI (T_unless_2 s1 x2) fun x4 s3 =>
  (xcI (T_isRefused s3 x4) fun x6 s5 =>
  (if x6 = 0 then
  (xcI (T_cleanOf s5 a1) fun x8 s7 =>
  (rI x8 s7)) else
  (rI (-1) s5)))))
theorem T_clean_ok {G : xG} {E : TE} (hO : xOK G) (hE : tok E) (s0 : TS) (a1 : Int32) : CTT G E 10 yX2_clean cX2_clean 2 (Option.some Jvm.ClassFile.FieldType.int) [.ref E.2.1, .int a1] s0 (T_clean s0 a1) := by
  refine CT_of hO (by decide +kernel) (by decide +kernel) (Nat.le_of_ble_eq_true rfl) ?_
  show XT G E "ForestLegsModel" "clean" cX2_clean 2 (Option.some Jvm.ClassFile.FieldType.int) 10 0 [(0, .ref E.2.1), (1, .int a1)] [] s0 (T_clean s0 a1)
  refine x_aload_nr 0 dX2_clean_0 rfl rfl (n := 1) rfl ?_
  refine x_aload_nr 0 dX2_clean_1 rfl rfl (n := 2) rfl ?_
  refine x_iload_n 1 dX2_clean_2 rfl rfl (n := 3) rfl ?_
  refine tw_callV_I [.int a1] [.ref E.2.1] (T_isRunner_ok hO hE s0 a1) md_X2_isRunner q3215 q3217 qs99 dX2_clean_3 rfl rfl (by decide) (Nat.le_of_ble_eq_true rfl) (n := 6) rfl (fun x2 s1 => ?_)
  refine tw_callS_I [.int x2] [.ref E.2.1] (T_unless_2_ok hO hE s1 x2) md_X2_unless_2 q3121 q3122 dX2_clean_6 rfl rfl (by decide) (Nat.le_of_ble_eq_true rfl) (n := 9) rfl (fun x4 s3 => ?_)
  refine tw_callV_I [.int x4] [] (T_isRefused_ok hO hE s3 x4) md_X2_isRefused q3022 q3024 qs63 dX2_clean_9 rfl rfl (by decide) (Nat.le_of_ble_eq_true rfl) (n := 12) rfl (fun x6 s5 => ?_)
  refine tw_if_eq dX2_clean_12 (t := 19) (by decide) (n := 15) rfl ?_ ?_
  · refine x_aload_nr 0 dX2_clean_19 rfl rfl (n := 20) rfl ?_
    refine x_iload_n 1 dX2_clean_20 rfl rfl (n := 21) rfl ?_
    refine tw_callV_I [.int a1] [] (T_cleanOf_ok hO hE s5 a1) md_X2_cleanOf q3330 q3332 qs110 dX2_clean_21 rfl rfl (by decide) (Nat.le_of_ble_eq_true rfl) (n := 24) rfl (fun x8 s7 => ?_)
    exact tw_ireturn dX2_clean_24
  · refine x_iconst (-1) dX2_clean_15 rfl (n := 16) rfl ?_
    refine x_goto dX2_clean_16 (n := 24) (by decide) ?_
    exact tw_ireturn dX2_clean_24
abbrev cX2_cleanPlace : ByteArray := prog_14_method_83_code
def yX2_cleanPlace : MethodName := ⟨RX2, "cleanPlace", "(II)I"⟩
def dkwX2_cleanPlace_6 : List UInt8 := [162, 0, 7, 4, 167, 0, 4, 3, 96, 54, 4, 132, 5, 1, 167, 255, 160, 21, 4, 172]
abbrev dktX2_cleanPlace_6 : List UInt8 := dkwX2_cleanPlace_6 ++ []
def dkwX2_cleanPlace_5 : List UInt8 := [153, 0, 30, 28, 154, 0, 12, 42, 21, 5, 182, 0, 218, 167, 0, 9, 42, 21, 5, 182, 1, 35, 29]
abbrev dktX2_cleanPlace_5 : List UInt8 := dkwX2_cleanPlace_5 ++ dktX2_cleanPlace_6
def dkwX2_cleanPlace_4 : List UInt8 := [160, 0, 16, 42, 21, 5, 182, 0, 215, 153, 0, 7, 4, 167, 0, 4, 3, 54, 6, 21, 4, 21, 6]
abbrev dktX2_cleanPlace_4 : List UInt8 := dkwX2_cleanPlace_4 ++ dktX2_cleanPlace_5
def dkwX2_cleanPlace_3 : List UInt8 := [159, 0, 38, 42, 180, 0, 17, 16, 37, 21, 5, 96, 46, 42, 180, 0, 17, 16, 37, 27, 96, 46]
abbrev dktX2_cleanPlace_3 : List UInt8 := dkwX2_cleanPlace_3 ++ dktX2_cleanPlace_4
def dkwX2_cleanPlace_2 : List UInt8 := [182, 1, 35, 62, 4, 54, 4, 3, 54, 5, 21, 5, 42, 180, 0, 17, 4, 46, 162, 0, 91, 21, 5, 27]
abbrev dktX2_cleanPlace_2 : List UInt8 := dkwX2_cleanPlace_2 ++ dktX2_cleanPlace_3
def dkwX2_cleanPlace_1 : List UInt8 := [184, 0, 234, 182, 0, 161, 153, 0, 5, 2, 172, 42, 27, 182, 0, 215, 154, 0, 6, 16, 254, 172, 42, 27]
abbrev dktX2_cleanPlace_1 : List UInt8 := dkwX2_cleanPlace_1 ++ dktX2_cleanPlace_2
def dkwX2_cleanPlace_0 : List UInt8 := [42, 42, 27, 182, 0, 187, 153, 0, 16, 28, 3, 4, 184, 0, 79, 153, 0, 7, 4, 167, 0, 4, 3]
abbrev dktX2_cleanPlace_0 : List UInt8 := dkwX2_cleanPlace_0 ++ dktX2_cleanPlace_1
theorem dksX2_cleanPlace_0 : cX2_cleanPlace.data.toList.drop 0 = dktX2_cleanPlace_0 := by decide +kernel
theorem dksX2_cleanPlace_1 : cX2_cleanPlace.data.toList.drop 23 = dktX2_cleanPlace_1 := dk_seg dksX2_cleanPlace_0 23 rfl rfl
theorem dksX2_cleanPlace_2 : cX2_cleanPlace.data.toList.drop 47 = dktX2_cleanPlace_2 := dk_seg dksX2_cleanPlace_1 24 rfl rfl
theorem dksX2_cleanPlace_3 : cX2_cleanPlace.data.toList.drop 71 = dktX2_cleanPlace_3 := dk_seg dksX2_cleanPlace_2 24 rfl rfl
theorem dksX2_cleanPlace_4 : cX2_cleanPlace.data.toList.drop 93 = dktX2_cleanPlace_4 := dk_seg dksX2_cleanPlace_3 22 rfl rfl
theorem dksX2_cleanPlace_5 : cX2_cleanPlace.data.toList.drop 116 = dktX2_cleanPlace_5 := dk_seg dksX2_cleanPlace_4 23 rfl rfl
theorem dksX2_cleanPlace_6 : cX2_cleanPlace.data.toList.drop 139 = dktX2_cleanPlace_6 := dk_seg dksX2_cleanPlace_5 23 rfl rfl
theorem dX2_cleanPlace_0 : decode cX2_cleanPlace 0 = .ok (.aload_n 0, 1) := dk_42 (dk_at dksX2_cleanPlace_0 0 rfl rfl)
theorem dX2_cleanPlace_1 : decode cX2_cleanPlace 1 = .ok (.aload_n 0, 1) := dk_42 (dk_at dksX2_cleanPlace_0 1 rfl rfl)
theorem dX2_cleanPlace_2 : decode cX2_cleanPlace 2 = .ok (.iload_n 1, 1) := dk_27 (dk_at dksX2_cleanPlace_0 2 rfl rfl)
theorem dX2_cleanPlace_3 : decode cX2_cleanPlace 3 = .ok (.invokevirtual 187, 3) := dk_182 0 187 (dk_at dksX2_cleanPlace_0 3 rfl rfl)
theorem dX2_cleanPlace_6 : decode cX2_cleanPlace 6 = .ok (.ifCond .eq 16, 3) := dk_153 0 16 (dk_at dksX2_cleanPlace_0 6 rfl rfl)
theorem dX2_cleanPlace_9 : decode cX2_cleanPlace 9 = .ok (.iload_n 2, 1) := dk_28 (dk_at dksX2_cleanPlace_0 9 rfl rfl)
theorem dX2_cleanPlace_10 : decode cX2_cleanPlace 10 = .ok (.iconst 0, 1) := dk_3 (dk_at dksX2_cleanPlace_0 10 rfl rfl)
theorem dX2_cleanPlace_11 : decode cX2_cleanPlace 11 = .ok (.iconst 1, 1) := dk_4 (dk_at dksX2_cleanPlace_0 11 rfl rfl)
theorem dX2_cleanPlace_12 : decode cX2_cleanPlace 12 = .ok (.invokestatic 79, 3) := dk_184 0 79 (dk_at dksX2_cleanPlace_0 12 rfl rfl)
theorem dX2_cleanPlace_15 : decode cX2_cleanPlace 15 = .ok (.ifCond .eq 7, 3) := dk_153 0 7 (dk_at dksX2_cleanPlace_0 15 rfl rfl)
theorem dX2_cleanPlace_18 : decode cX2_cleanPlace 18 = .ok (.iconst 1, 1) := dk_4 (dk_at dksX2_cleanPlace_0 18 rfl rfl)
theorem dX2_cleanPlace_19 : decode cX2_cleanPlace 19 = .ok (.goto 4, 3) := dk_167 0 4 (dk_at dksX2_cleanPlace_0 19 rfl rfl)
theorem dX2_cleanPlace_22 : decode cX2_cleanPlace 22 = .ok (.iconst 0, 1) := dk_3 (dk_at dksX2_cleanPlace_0 22 rfl rfl)
theorem dX2_cleanPlace_23 : decode cX2_cleanPlace 23 = .ok (.invokestatic 234, 3) := dk_184 0 234 (dk_at dksX2_cleanPlace_1 0 rfl rfl)
theorem dX2_cleanPlace_26 : decode cX2_cleanPlace 26 = .ok (.invokevirtual 161, 3) := dk_182 0 161 (dk_at dksX2_cleanPlace_1 3 rfl rfl)
theorem dX2_cleanPlace_29 : decode cX2_cleanPlace 29 = .ok (.ifCond .eq 5, 3) := dk_153 0 5 (dk_at dksX2_cleanPlace_1 6 rfl rfl)
theorem dX2_cleanPlace_32 : decode cX2_cleanPlace 32 = .ok (.iconst (-1), 1) := dk_2 (dk_at dksX2_cleanPlace_1 9 rfl rfl)
theorem dX2_cleanPlace_33 : decode cX2_cleanPlace 33 = .ok (.ireturn, 1) := dk_172 (dk_at dksX2_cleanPlace_1 10 rfl rfl)
theorem dX2_cleanPlace_34 : decode cX2_cleanPlace 34 = .ok (.aload_n 0, 1) := dk_42 (dk_at dksX2_cleanPlace_1 11 rfl rfl)
theorem dX2_cleanPlace_35 : decode cX2_cleanPlace 35 = .ok (.iload_n 1, 1) := dk_27 (dk_at dksX2_cleanPlace_1 12 rfl rfl)
theorem dX2_cleanPlace_36 : decode cX2_cleanPlace 36 = .ok (.invokevirtual 215, 3) := dk_182 0 215 (dk_at dksX2_cleanPlace_1 13 rfl rfl)
theorem dX2_cleanPlace_39 : decode cX2_cleanPlace 39 = .ok (.ifCond .ne 6, 3) := dk_154 0 6 (dk_at dksX2_cleanPlace_1 16 rfl rfl)
theorem dX2_cleanPlace_42 : decode cX2_cleanPlace 42 = .ok (.bipush (-2), 2) := dk_16 254 (dk_at dksX2_cleanPlace_1 19 rfl rfl)
theorem dX2_cleanPlace_44 : decode cX2_cleanPlace 44 = .ok (.ireturn, 1) := dk_172 (dk_at dksX2_cleanPlace_1 21 rfl rfl)
theorem dX2_cleanPlace_45 : decode cX2_cleanPlace 45 = .ok (.aload_n 0, 1) := dk_42 (dk_at dksX2_cleanPlace_1 22 rfl rfl)
theorem dX2_cleanPlace_46 : decode cX2_cleanPlace 46 = .ok (.iload_n 1, 1) := dk_27 (dk_at dksX2_cleanPlace_1 23 rfl rfl)
theorem dX2_cleanPlace_47 : decode cX2_cleanPlace 47 = .ok (.invokevirtual 291, 3) := dk_182 1 35 (dk_at dksX2_cleanPlace_2 0 rfl rfl)
theorem dX2_cleanPlace_50 : decode cX2_cleanPlace 50 = .ok (.istore_n 3, 1) := dk_62 (dk_at dksX2_cleanPlace_2 3 rfl rfl)
theorem dX2_cleanPlace_51 : decode cX2_cleanPlace 51 = .ok (.iconst 1, 1) := dk_4 (dk_at dksX2_cleanPlace_2 4 rfl rfl)
theorem dX2_cleanPlace_52 : decode cX2_cleanPlace 52 = .ok (.istore 4, 2) := dk_54 4 (dk_at dksX2_cleanPlace_2 5 rfl rfl)
theorem dX2_cleanPlace_54 : decode cX2_cleanPlace 54 = .ok (.iconst 0, 1) := dk_3 (dk_at dksX2_cleanPlace_2 7 rfl rfl)
theorem dX2_cleanPlace_55 : decode cX2_cleanPlace 55 = .ok (.istore 5, 2) := dk_54 5 (dk_at dksX2_cleanPlace_2 8 rfl rfl)
theorem dX2_cleanPlace_57 : decode cX2_cleanPlace 57 = .ok (.iload 5, 2) := dk_21 5 (dk_at dksX2_cleanPlace_2 10 rfl rfl)
theorem dX2_cleanPlace_59 : decode cX2_cleanPlace 59 = .ok (.aload_n 0, 1) := dk_42 (dk_at dksX2_cleanPlace_2 12 rfl rfl)
theorem dX2_cleanPlace_60 : decode cX2_cleanPlace 60 = .ok (.getfield 17, 3) := dk_180 0 17 (dk_at dksX2_cleanPlace_2 13 rfl rfl)
theorem dX2_cleanPlace_63 : decode cX2_cleanPlace 63 = .ok (.iconst 1, 1) := dk_4 (dk_at dksX2_cleanPlace_2 16 rfl rfl)
theorem dX2_cleanPlace_64 : decode cX2_cleanPlace 64 = .ok (.iaload, 1) := dk_46 (dk_at dksX2_cleanPlace_2 17 rfl rfl)
theorem dX2_cleanPlace_65 : decode cX2_cleanPlace 65 = .ok (.if_icmp .ge 91, 3) := dk_162 0 91 (dk_at dksX2_cleanPlace_2 18 rfl rfl)
theorem dX2_cleanPlace_68 : decode cX2_cleanPlace 68 = .ok (.iload 5, 2) := dk_21 5 (dk_at dksX2_cleanPlace_2 21 rfl rfl)
theorem dX2_cleanPlace_70 : decode cX2_cleanPlace 70 = .ok (.iload_n 1, 1) := dk_27 (dk_at dksX2_cleanPlace_2 23 rfl rfl)
theorem dX2_cleanPlace_71 : decode cX2_cleanPlace 71 = .ok (.if_icmp .eq 38, 3) := dk_159 0 38 (dk_at dksX2_cleanPlace_3 0 rfl rfl)
theorem dX2_cleanPlace_74 : decode cX2_cleanPlace 74 = .ok (.aload_n 0, 1) := dk_42 (dk_at dksX2_cleanPlace_3 3 rfl rfl)
theorem dX2_cleanPlace_75 : decode cX2_cleanPlace 75 = .ok (.getfield 17, 3) := dk_180 0 17 (dk_at dksX2_cleanPlace_3 4 rfl rfl)
theorem dX2_cleanPlace_78 : decode cX2_cleanPlace 78 = .ok (.bipush 37, 2) := dk_16 37 (dk_at dksX2_cleanPlace_3 7 rfl rfl)
theorem dX2_cleanPlace_80 : decode cX2_cleanPlace 80 = .ok (.iload 5, 2) := dk_21 5 (dk_at dksX2_cleanPlace_3 9 rfl rfl)
theorem dX2_cleanPlace_82 : decode cX2_cleanPlace 82 = .ok (.iadd, 1) := dk_96 (dk_at dksX2_cleanPlace_3 11 rfl rfl)
theorem dX2_cleanPlace_83 : decode cX2_cleanPlace 83 = .ok (.iaload, 1) := dk_46 (dk_at dksX2_cleanPlace_3 12 rfl rfl)
theorem dX2_cleanPlace_84 : decode cX2_cleanPlace 84 = .ok (.aload_n 0, 1) := dk_42 (dk_at dksX2_cleanPlace_3 13 rfl rfl)
theorem dX2_cleanPlace_85 : decode cX2_cleanPlace 85 = .ok (.getfield 17, 3) := dk_180 0 17 (dk_at dksX2_cleanPlace_3 14 rfl rfl)
theorem dX2_cleanPlace_88 : decode cX2_cleanPlace 88 = .ok (.bipush 37, 2) := dk_16 37 (dk_at dksX2_cleanPlace_3 17 rfl rfl)
theorem dX2_cleanPlace_90 : decode cX2_cleanPlace 90 = .ok (.iload_n 1, 1) := dk_27 (dk_at dksX2_cleanPlace_3 19 rfl rfl)
theorem dX2_cleanPlace_91 : decode cX2_cleanPlace 91 = .ok (.iadd, 1) := dk_96 (dk_at dksX2_cleanPlace_3 20 rfl rfl)
theorem dX2_cleanPlace_92 : decode cX2_cleanPlace 92 = .ok (.iaload, 1) := dk_46 (dk_at dksX2_cleanPlace_3 21 rfl rfl)
theorem dX2_cleanPlace_93 : decode cX2_cleanPlace 93 = .ok (.if_icmp .ne 16, 3) := dk_160 0 16 (dk_at dksX2_cleanPlace_4 0 rfl rfl)
theorem dX2_cleanPlace_96 : decode cX2_cleanPlace 96 = .ok (.aload_n 0, 1) := dk_42 (dk_at dksX2_cleanPlace_4 3 rfl rfl)
theorem dX2_cleanPlace_97 : decode cX2_cleanPlace 97 = .ok (.iload 5, 2) := dk_21 5 (dk_at dksX2_cleanPlace_4 4 rfl rfl)
theorem dX2_cleanPlace_99 : decode cX2_cleanPlace 99 = .ok (.invokevirtual 215, 3) := dk_182 0 215 (dk_at dksX2_cleanPlace_4 6 rfl rfl)
theorem dX2_cleanPlace_102 : decode cX2_cleanPlace 102 = .ok (.ifCond .eq 7, 3) := dk_153 0 7 (dk_at dksX2_cleanPlace_4 9 rfl rfl)
theorem dX2_cleanPlace_105 : decode cX2_cleanPlace 105 = .ok (.iconst 1, 1) := dk_4 (dk_at dksX2_cleanPlace_4 12 rfl rfl)
theorem dX2_cleanPlace_106 : decode cX2_cleanPlace 106 = .ok (.goto 4, 3) := dk_167 0 4 (dk_at dksX2_cleanPlace_4 13 rfl rfl)
theorem dX2_cleanPlace_109 : decode cX2_cleanPlace 109 = .ok (.iconst 0, 1) := dk_3 (dk_at dksX2_cleanPlace_4 16 rfl rfl)
theorem dX2_cleanPlace_110 : decode cX2_cleanPlace 110 = .ok (.istore 6, 2) := dk_54 6 (dk_at dksX2_cleanPlace_4 17 rfl rfl)
theorem dX2_cleanPlace_112 : decode cX2_cleanPlace 112 = .ok (.iload 4, 2) := dk_21 4 (dk_at dksX2_cleanPlace_4 19 rfl rfl)
theorem dX2_cleanPlace_114 : decode cX2_cleanPlace 114 = .ok (.iload 6, 2) := dk_21 6 (dk_at dksX2_cleanPlace_4 21 rfl rfl)
theorem dX2_cleanPlace_116 : decode cX2_cleanPlace 116 = .ok (.ifCond .eq 30, 3) := dk_153 0 30 (dk_at dksX2_cleanPlace_5 0 rfl rfl)
theorem dX2_cleanPlace_119 : decode cX2_cleanPlace 119 = .ok (.iload_n 2, 1) := dk_28 (dk_at dksX2_cleanPlace_5 3 rfl rfl)
theorem dX2_cleanPlace_120 : decode cX2_cleanPlace 120 = .ok (.ifCond .ne 12, 3) := dk_154 0 12 (dk_at dksX2_cleanPlace_5 4 rfl rfl)
theorem dX2_cleanPlace_123 : decode cX2_cleanPlace 123 = .ok (.aload_n 0, 1) := dk_42 (dk_at dksX2_cleanPlace_5 7 rfl rfl)
theorem dX2_cleanPlace_124 : decode cX2_cleanPlace 124 = .ok (.iload 5, 2) := dk_21 5 (dk_at dksX2_cleanPlace_5 8 rfl rfl)
theorem dX2_cleanPlace_126 : decode cX2_cleanPlace 126 = .ok (.invokevirtual 218, 3) := dk_182 0 218 (dk_at dksX2_cleanPlace_5 10 rfl rfl)
theorem dX2_cleanPlace_129 : decode cX2_cleanPlace 129 = .ok (.goto 9, 3) := dk_167 0 9 (dk_at dksX2_cleanPlace_5 13 rfl rfl)
theorem dX2_cleanPlace_132 : decode cX2_cleanPlace 132 = .ok (.aload_n 0, 1) := dk_42 (dk_at dksX2_cleanPlace_5 16 rfl rfl)
theorem dX2_cleanPlace_133 : decode cX2_cleanPlace 133 = .ok (.iload 5, 2) := dk_21 5 (dk_at dksX2_cleanPlace_5 17 rfl rfl)
theorem dX2_cleanPlace_135 : decode cX2_cleanPlace 135 = .ok (.invokevirtual 291, 3) := dk_182 1 35 (dk_at dksX2_cleanPlace_5 19 rfl rfl)
theorem dX2_cleanPlace_138 : decode cX2_cleanPlace 138 = .ok (.iload_n 3, 1) := dk_29 (dk_at dksX2_cleanPlace_5 22 rfl rfl)
theorem dX2_cleanPlace_139 : decode cX2_cleanPlace 139 = .ok (.if_icmp .ge 7, 3) := dk_162 0 7 (dk_at dksX2_cleanPlace_6 0 rfl rfl)
theorem dX2_cleanPlace_142 : decode cX2_cleanPlace 142 = .ok (.iconst 1, 1) := dk_4 (dk_at dksX2_cleanPlace_6 3 rfl rfl)
theorem dX2_cleanPlace_143 : decode cX2_cleanPlace 143 = .ok (.goto 4, 3) := dk_167 0 4 (dk_at dksX2_cleanPlace_6 4 rfl rfl)
theorem dX2_cleanPlace_146 : decode cX2_cleanPlace 146 = .ok (.iconst 0, 1) := dk_3 (dk_at dksX2_cleanPlace_6 7 rfl rfl)
theorem dX2_cleanPlace_147 : decode cX2_cleanPlace 147 = .ok (.iadd, 1) := dk_96 (dk_at dksX2_cleanPlace_6 8 rfl rfl)
theorem dX2_cleanPlace_148 : decode cX2_cleanPlace 148 = .ok (.istore 4, 2) := dk_54 4 (dk_at dksX2_cleanPlace_6 9 rfl rfl)
theorem dX2_cleanPlace_150 : decode cX2_cleanPlace 150 = .ok (.iinc 5 1, 3) := dk_132 5 1 (dk_at dksX2_cleanPlace_6 11 rfl rfl)
theorem dX2_cleanPlace_153 : decode cX2_cleanPlace 153 = .ok (.goto (-96), 3) := dk_167 255 160 (dk_at dksX2_cleanPlace_6 14 rfl rfl)
theorem dX2_cleanPlace_156 : decode cX2_cleanPlace 156 = .ok (.iload 4, 2) := dk_21 4 (dk_at dksX2_cleanPlace_6 17 rfl rfl)
theorem dX2_cleanPlace_158 : decode cX2_cleanPlace 158 = .ok (.ireturn, 1) := dk_172 (dk_at dksX2_cleanPlace_6 19 rfl rfl)
theorem md_X2_cleanPlace : xMd yX2_cleanPlace cX2_cleanPlace 7 (Option.some Jvm.ClassFile.FieldType.int) 2 := ⟨q3337, q126, by decide, by decide +kernel, by decide +kernel, by decide +kernel⟩
def T_cleanPlace_147  (k57 : Int32 × Int32 × Int32 × Int32 × Int32 × TS → Option (xO × TS)) (v1 : Int32) (v2 : Int32) (v3 : Int32) (v5 : Int32) (w0 : Int32) (w1 : Int32) (s0 : TS) : Option (xO × TS) :=
  (bnd (w0 + w1) fun x12 =>
  (bnd (v5 + 1) fun x13 =>
  (k57 (v1, v2, v3, x12, x13, s0))))
def T_cleanPlace_146  (k57 : Int32 × Int32 × Int32 × Int32 × Int32 × TS → Option (xO × TS)) (v1 : Int32) (v2 : Int32) (v3 : Int32) (v5 : Int32) (w0 : Int32) (s0 : TS) : Option (xO × TS) :=
  (T_cleanPlace_147 k57 v1 v2 v3 v5 w0 0 s0)
def T_cleanPlace_138  (k57 : Int32 × Int32 × Int32 × Int32 × Int32 × TS → Option (xO × TS)) (v1 : Int32) (v2 : Int32) (v3 : Int32) (v5 : Int32) (w0 : Int32) (w1 : Int32) (s0 : TS) : Option (xO × TS) :=
  (if v3 ≤ w1 then
  (T_cleanPlace_146 k57 v1 v2 v3 v5 w0 s0) else
  (T_cleanPlace_147 k57 v1 v2 v3 v5 w0 1 s0))
def T_cleanPlace_110  (k57 : Int32 × Int32 × Int32 × Int32 × Int32 × TS → Option (xO × TS)) (v1 : Int32) (v2 : Int32) (v3 : Int32) (v4 : Int32) (v5 : Int32) (w0 : Int32) (s0 : TS) : Option (xO × TS) :=
  (if w0 = 0 then
  (T_cleanPlace_146 k57 v1 v2 v3 v5 v4 s0) else
  (if v2 = 0 then
  (xcI (T_totalOf s0 v5) fun x17 s16 =>
  (T_cleanPlace_138 k57 v1 v2 v3 v5 v4 x17 s16)) else
  (xcI (T_cleanOf s0 v5) fun x15 s14 =>
  (T_cleanPlace_138 k57 v1 v2 v3 v5 v4 x15 s14))))
def T_cleanPlace_109  (k57 : Int32 × Int32 × Int32 × Int32 × Int32 × TS → Option (xO × TS)) (v1 : Int32) (v2 : Int32) (v3 : Int32) (v4 : Int32) (v5 : Int32) (s0 : TS) : Option (xO × TS) :=
  (T_cleanPlace_110 k57 v1 v2 v3 v4 v5 0 s0)
def T_cleanPlace_57F   (k57 : Int32 × Int32 × Int32 × Int32 × Int32 × TS → Option (xO × TS)) (p : Int32 × Int32 × Int32 × Int32 × Int32 × TS) : Option (xO × TS) := match p with
  | (v1, v2, v3, v4, v5, s0) => (tald s0 7 1 fun x11 =>
  (if x11 ≤ v5 then
  (rI v4 s0) else
  (if v5 = v1 then
  (T_cleanPlace_109 k57 v1 v2 v3 v4 v5 s0) else
  (tald s0 7 (37 + v5) fun x18 =>
  (tald s0 7 (37 + v1) fun x19 =>
  (if x18 = x19 then
  (xcI (T_isValid s0 v5) fun x21 s20 =>
  (if x21 = 0 then
  (T_cleanPlace_109 k57 v1 v2 v3 v4 v5 s20) else
  (T_cleanPlace_110 k57 v1 v2 v3 v4 v5 1 s20))) else
  (T_cleanPlace_109 k57 v1 v2 v3 v4 v5 s0)))))))
def T_cleanPlace_23   (v1 : Int32) (v2 : Int32) (w1 : Int32) (s0 : TS) : Option (xO × TS) :=
  (xcI (T_unless_2 s0 w1) fun x4 s3 =>
  (xcI (T_isRefused s3 x4) fun x6 s5 =>
  (if x6 = 0 then
  (xcI (T_isValid s5 v1) fun x8 s7 =>
  (if x8 = 0 then
  (rI (-2) s7) else
  (xcI (T_cleanOf s7 v1) fun x10 s9 =>
  (lp (T_cleanPlace_57F) FU (v1, v2, x10, 1, 0, s9))))) else
  (rI (-1) s5))))
def T_cleanPlace_22   (v1 : Int32) (v2 : Int32) (s0 : TS) : Option (xO × TS) :=
  (T_cleanPlace_23 v1 v2 0 s0)
def T_cleanPlace (s0 : TS) (a1 : Int32) (a2 : Int32) : Option (xO × TS) :=
  (xcI (T_isRunner s0 a1) fun x2 s1 =>
  (if x2 = 0 then
  (T_cleanPlace_22 a1 a2 s1) else
  (xcI (T_in s1 a2 0 1) fun x23 s22 =>
  (if x23 = 0 then
  (T_cleanPlace_22 a1 a2 s22) else
  (T_cleanPlace_23 a1 a2 1 s22)))))
theorem T_cleanPlace_147_ok {G : xG} {E : TE} (hO : xOK G) (hE : tok E)  {k57 : Int32 × Int32 × Int32 × Int32 × Int32 × TS → Option (xO × TS)} (hk57 : ∀ (v1 : Int32) (v2 : Int32) (v3 : Int32) (v4 : Int32) (v5 : Int32) (s0 : TS), XT G E "ForestLegsModel" "cleanPlace" cX2_cleanPlace 7 (Option.some Jvm.ClassFile.FieldType.int) 10 57 [(0, .ref E.2.1), (1, .int v1), (2, .int v2), (3, .int v3), (4, .int v4), (5, .int v5)] [] s0 (k57 (v1, v2, v3, v4, v5, s0))) (v1 : Int32) (v2 : Int32) (v3 : Int32) (v5 : Int32) (w0 : Int32) (w1 : Int32) (s0 : TS) : XT G E "ForestLegsModel" "cleanPlace" cX2_cleanPlace 7 (Option.some Jvm.ClassFile.FieldType.int) 10 147 [(0, .ref E.2.1), (1, .int v1), (2, .int v2), (3, .int v3), (5, .int v5)] [.int w1, .int w0] s0 (T_cleanPlace_147 k57 v1 v2 v3 v5 w0 w1 s0) := by
  unfold T_cleanPlace_147
  refine x_iadd dX2_cleanPlace_147 (n := 148) rfl ?_
  refine tw_nm (fun x12 => ?_)
  refine x_istore [(4, .int x12), (0, .ref E.2.1), (1, .int v1), (2, .int v2), (3, .int v3), (5, .int v5)] dX2_cleanPlace_148 (by decide) rfl (n := 150) rfl ?_
  refine tw_iinc 5 (fun x13 => [(5, .int x13), (4, .int x12), (0, .ref E.2.1), (1, .int v1), (2, .int v2), (3, .int v3)]) dX2_cleanPlace_150 rfl rfl (by decide) (fun _ => rfl) (n := 153) rfl (fun x13 => ?_)
  refine x_goto dX2_cleanPlace_153 (n := 57) (by decide) ?_
  refine x_sub [2, 3, 4, 5, 1, 0] [(0, .ref E.2.1), (1, .int v1), (2, .int v2), (3, .int v3), (4, .int x12), (5, .int x13)] rfl ?_
  exact hk57 v1 v2 v3 x12 x13 s0
theorem T_cleanPlace_146_ok {G : xG} {E : TE} (hO : xOK G) (hE : tok E)  {k57 : Int32 × Int32 × Int32 × Int32 × Int32 × TS → Option (xO × TS)} (hk57 : ∀ (v1 : Int32) (v2 : Int32) (v3 : Int32) (v4 : Int32) (v5 : Int32) (s0 : TS), XT G E "ForestLegsModel" "cleanPlace" cX2_cleanPlace 7 (Option.some Jvm.ClassFile.FieldType.int) 10 57 [(0, .ref E.2.1), (1, .int v1), (2, .int v2), (3, .int v3), (4, .int v4), (5, .int v5)] [] s0 (k57 (v1, v2, v3, v4, v5, s0))) (v1 : Int32) (v2 : Int32) (v3 : Int32) (v5 : Int32) (w0 : Int32) (s0 : TS) : XT G E "ForestLegsModel" "cleanPlace" cX2_cleanPlace 7 (Option.some Jvm.ClassFile.FieldType.int) 10 146 [(0, .ref E.2.1), (1, .int v1), (2, .int v2), (3, .int v3), (5, .int v5)] [.int w0] s0 (T_cleanPlace_146 k57 v1 v2 v3 v5 w0 s0) := by
  unfold T_cleanPlace_146
  refine x_iconst 0 dX2_cleanPlace_146 rfl (n := 147) rfl ?_
  exact T_cleanPlace_147_ok hO hE hk57 v1 v2 v3 v5 w0 0 s0
theorem T_cleanPlace_138_ok {G : xG} {E : TE} (hO : xOK G) (hE : tok E)  {k57 : Int32 × Int32 × Int32 × Int32 × Int32 × TS → Option (xO × TS)} (hk57 : ∀ (v1 : Int32) (v2 : Int32) (v3 : Int32) (v4 : Int32) (v5 : Int32) (s0 : TS), XT G E "ForestLegsModel" "cleanPlace" cX2_cleanPlace 7 (Option.some Jvm.ClassFile.FieldType.int) 10 57 [(0, .ref E.2.1), (1, .int v1), (2, .int v2), (3, .int v3), (4, .int v4), (5, .int v5)] [] s0 (k57 (v1, v2, v3, v4, v5, s0))) (v1 : Int32) (v2 : Int32) (v3 : Int32) (v5 : Int32) (w0 : Int32) (w1 : Int32) (s0 : TS) : XT G E "ForestLegsModel" "cleanPlace" cX2_cleanPlace 7 (Option.some Jvm.ClassFile.FieldType.int) 10 138 [(0, .ref E.2.1), (1, .int v1), (2, .int v2), (3, .int v3), (5, .int v5)] [.int w1, .int w0] s0 (T_cleanPlace_138 k57 v1 v2 v3 v5 w0 w1 s0) := by
  unfold T_cleanPlace_138
  refine x_iload_n 3 dX2_cleanPlace_138 rfl rfl (n := 139) rfl ?_
  refine tw_icmp_ge dX2_cleanPlace_139 (t := 146) (by decide) (n := 142) rfl ?_ ?_
  · exact T_cleanPlace_146_ok hO hE hk57 v1 v2 v3 v5 w0 s0
  · refine x_iconst 1 dX2_cleanPlace_142 rfl (n := 143) rfl ?_
    refine x_goto dX2_cleanPlace_143 (n := 147) (by decide) ?_
    exact T_cleanPlace_147_ok hO hE hk57 v1 v2 v3 v5 w0 1 s0
theorem T_cleanPlace_110_ok {G : xG} {E : TE} (hO : xOK G) (hE : tok E)  {k57 : Int32 × Int32 × Int32 × Int32 × Int32 × TS → Option (xO × TS)} (hk57 : ∀ (v1 : Int32) (v2 : Int32) (v3 : Int32) (v4 : Int32) (v5 : Int32) (s0 : TS), XT G E "ForestLegsModel" "cleanPlace" cX2_cleanPlace 7 (Option.some Jvm.ClassFile.FieldType.int) 10 57 [(0, .ref E.2.1), (1, .int v1), (2, .int v2), (3, .int v3), (4, .int v4), (5, .int v5)] [] s0 (k57 (v1, v2, v3, v4, v5, s0))) (v1 : Int32) (v2 : Int32) (v3 : Int32) (v4 : Int32) (v5 : Int32) (w0 : Int32) (s0 : TS) : XT G E "ForestLegsModel" "cleanPlace" cX2_cleanPlace 7 (Option.some Jvm.ClassFile.FieldType.int) 10 110 [(0, .ref E.2.1), (1, .int v1), (2, .int v2), (3, .int v3), (4, .int v4), (5, .int v5)] [.int w0] s0 (T_cleanPlace_110 k57 v1 v2 v3 v4 v5 w0 s0) := by
  unfold T_cleanPlace_110
  refine x_istore [(6, .int w0), (0, .ref E.2.1), (1, .int v1), (2, .int v2), (3, .int v3), (4, .int v4), (5, .int v5)] dX2_cleanPlace_110 (by decide) rfl (n := 112) rfl ?_
  refine x_iload 5 dX2_cleanPlace_112 rfl (n := 114) rfl ?_
  refine x_iload 0 dX2_cleanPlace_114 rfl (n := 116) rfl ?_
  refine tw_if_eq dX2_cleanPlace_116 (t := 146) (by decide) (n := 119) rfl ?_ ?_
  · refine x_sub [1, 2, 3, 4, 6] [(0, .ref E.2.1), (1, .int v1), (2, .int v2), (3, .int v3), (5, .int v5)] rfl ?_
    exact T_cleanPlace_146_ok hO hE hk57 v1 v2 v3 v5 v4 s0
  · refine x_iload_n 3 dX2_cleanPlace_119 rfl rfl (n := 120) rfl ?_
    refine tw_if_ne dX2_cleanPlace_120 (t := 132) (by decide) (n := 123) rfl ?_ ?_
    · refine x_aload_nr 1 dX2_cleanPlace_132 rfl rfl (n := 133) rfl ?_
      refine x_iload 6 dX2_cleanPlace_133 rfl (n := 135) rfl ?_
      refine tw_callV_I [.int v5] [.int v4] (T_cleanOf_ok hO hE s0 v5) md_X2_cleanOf q3330 q3332 qs110 dX2_cleanPlace_135 rfl rfl (by decide) (Nat.le_of_ble_eq_true rfl) (n := 138) rfl (fun x15 s14 => ?_)
      refine x_sub [1, 2, 3, 4, 6] [(0, .ref E.2.1), (1, .int v1), (2, .int v2), (3, .int v3), (5, .int v5)] rfl ?_
      exact T_cleanPlace_138_ok hO hE hk57 v1 v2 v3 v5 v4 x15 s14
    · refine x_aload_nr 1 dX2_cleanPlace_123 rfl rfl (n := 124) rfl ?_
      refine x_iload 6 dX2_cleanPlace_124 rfl (n := 126) rfl ?_
      refine tw_callV_I [.int v5] [.int v4] (T_totalOf_ok hO hE s0 v5) md_X2_totalOf q3199 q3201 qs97 dX2_cleanPlace_126 rfl rfl (by decide) (Nat.le_of_ble_eq_true rfl) (n := 129) rfl (fun x17 s16 => ?_)
      refine x_goto dX2_cleanPlace_129 (n := 138) (by decide) ?_
      refine x_sub [1, 2, 3, 4, 6] [(0, .ref E.2.1), (1, .int v1), (2, .int v2), (3, .int v3), (5, .int v5)] rfl ?_
      exact T_cleanPlace_138_ok hO hE hk57 v1 v2 v3 v5 v4 x17 s16
theorem T_cleanPlace_109_ok {G : xG} {E : TE} (hO : xOK G) (hE : tok E)  {k57 : Int32 × Int32 × Int32 × Int32 × Int32 × TS → Option (xO × TS)} (hk57 : ∀ (v1 : Int32) (v2 : Int32) (v3 : Int32) (v4 : Int32) (v5 : Int32) (s0 : TS), XT G E "ForestLegsModel" "cleanPlace" cX2_cleanPlace 7 (Option.some Jvm.ClassFile.FieldType.int) 10 57 [(0, .ref E.2.1), (1, .int v1), (2, .int v2), (3, .int v3), (4, .int v4), (5, .int v5)] [] s0 (k57 (v1, v2, v3, v4, v5, s0))) (v1 : Int32) (v2 : Int32) (v3 : Int32) (v4 : Int32) (v5 : Int32) (s0 : TS) : XT G E "ForestLegsModel" "cleanPlace" cX2_cleanPlace 7 (Option.some Jvm.ClassFile.FieldType.int) 10 109 [(0, .ref E.2.1), (1, .int v1), (2, .int v2), (3, .int v3), (4, .int v4), (5, .int v5)] [] s0 (T_cleanPlace_109 k57 v1 v2 v3 v4 v5 s0) := by
  unfold T_cleanPlace_109
  refine x_iconst 0 dX2_cleanPlace_109 rfl (n := 110) rfl ?_
  exact T_cleanPlace_110_ok hO hE hk57 v1 v2 v3 v4 v5 0 s0
theorem T_cleanPlace_57F_ok {G : xG} {E : TE} (hO : xOK G) (hE : tok E)   {k57 : Int32 × Int32 × Int32 × Int32 × Int32 × TS → Option (xO × TS)} (hk57 : ∀ (v1 : Int32) (v2 : Int32) (v3 : Int32) (v4 : Int32) (v5 : Int32) (s0 : TS), XT G E "ForestLegsModel" "cleanPlace" cX2_cleanPlace 7 (Option.some Jvm.ClassFile.FieldType.int) 10 57 [(0, .ref E.2.1), (1, .int v1), (2, .int v2), (3, .int v3), (4, .int v4), (5, .int v5)] [] s0 (k57 (v1, v2, v3, v4, v5, s0))) (v1 : Int32) (v2 : Int32) (v3 : Int32) (v4 : Int32) (v5 : Int32) (s0 : TS) : XT G E "ForestLegsModel" "cleanPlace" cX2_cleanPlace 7 (Option.some Jvm.ClassFile.FieldType.int) 10 57 [(0, .ref E.2.1), (1, .int v1), (2, .int v2), (3, .int v3), (4, .int v4), (5, .int v5)] [] s0 (T_cleanPlace_57F k57 (v1, v2, v3, v4, v5, s0)) := by
  unfold T_cleanPlace_57F
  refine x_iload 5 dX2_cleanPlace_57 rfl (n := 59) rfl ?_
  refine x_aload_nr 0 dX2_cleanPlace_59 rfl rfl (n := 60) rfl ?_
  refine tw_getA fl_X2_17 rfl (by decide) dX2_cleanPlace_60 (n := 63) rfl ?_
  refine x_iconst 1 dX2_cleanPlace_63 rfl (n := 64) rfl ?_
  refine tw_iald hE (by decide) dX2_cleanPlace_64 (n := 65) rfl (fun x11 => ?_)
  refine tw_icmp_ge dX2_cleanPlace_65 (t := 156) (by decide) (n := 68) rfl ?_ ?_
  · refine x_iload 4 dX2_cleanPlace_156 rfl (n := 158) rfl ?_
    exact tw_ireturn dX2_cleanPlace_158
  · refine x_iload 5 dX2_cleanPlace_68 rfl (n := 70) rfl ?_
    refine x_iload_n 1 dX2_cleanPlace_70 rfl rfl (n := 71) rfl ?_
    refine tw_icmp_eq dX2_cleanPlace_71 (t := 109) (by decide) (n := 74) rfl ?_ ?_
    · exact T_cleanPlace_109_ok hO hE hk57 v1 v2 v3 v4 v5 s0
    · refine x_aload_nr 0 dX2_cleanPlace_74 rfl rfl (n := 75) rfl ?_
      refine tw_getA fl_X2_17 rfl (by decide) dX2_cleanPlace_75 (n := 78) rfl ?_
      refine x_bipush 37 dX2_cleanPlace_78 rfl (n := 80) rfl ?_
      refine x_iload 5 dX2_cleanPlace_80 rfl (n := 82) rfl ?_
      refine x_iadd dX2_cleanPlace_82 (n := 83) rfl ?_
      refine tw_iald hE (by decide) dX2_cleanPlace_83 (n := 84) rfl (fun x18 => ?_)
      refine x_aload_nr 0 dX2_cleanPlace_84 rfl rfl (n := 85) rfl ?_
      refine tw_getA fl_X2_17 rfl (by decide) dX2_cleanPlace_85 (n := 88) rfl ?_
      refine x_bipush 37 dX2_cleanPlace_88 rfl (n := 90) rfl ?_
      refine x_iload_n 1 dX2_cleanPlace_90 rfl rfl (n := 91) rfl ?_
      refine x_iadd dX2_cleanPlace_91 (n := 92) rfl ?_
      refine tw_iald hE (by decide) dX2_cleanPlace_92 (n := 93) rfl (fun x19 => ?_)
      refine tw_icmp_ne dX2_cleanPlace_93 (t := 109) (by decide) (n := 96) rfl ?_ ?_
      · exact T_cleanPlace_109_ok hO hE hk57 v1 v2 v3 v4 v5 s0
      · refine x_aload_nr 0 dX2_cleanPlace_96 rfl rfl (n := 97) rfl ?_
        refine x_iload 5 dX2_cleanPlace_97 rfl (n := 99) rfl ?_
        refine tw_callV_I [.int v5] [] (T_isValid_ok hO hE s0 v5) md_X2_isValid q3132 q3134 qs82 dX2_cleanPlace_99 rfl rfl (by decide) (Nat.le_of_ble_eq_true rfl) (n := 102) rfl (fun x21 s20 => ?_)
        refine tw_if_eq dX2_cleanPlace_102 (t := 109) (by decide) (n := 105) rfl ?_ ?_
        · exact T_cleanPlace_109_ok hO hE hk57 v1 v2 v3 v4 v5 s20
        · refine x_iconst 1 dX2_cleanPlace_105 rfl (n := 106) rfl ?_
          refine x_goto dX2_cleanPlace_106 (n := 110) (by decide) ?_
          exact T_cleanPlace_110_ok hO hE hk57 v1 v2 v3 v4 v5 1 s20
theorem T_cleanPlace_57_lp {G : xG} {E : TE} (hO : xOK G) (hE : tok E)   (n : Nat) (v1 : Int32) (v2 : Int32) (v3 : Int32) (v4 : Int32) (v5 : Int32) (s0 : TS) : XT G E "ForestLegsModel" "cleanPlace" cX2_cleanPlace 7 (Option.some Jvm.ClassFile.FieldType.int) 10 57 [(0, .ref E.2.1), (1, .int v1), (2, .int v2), (3, .int v3), (4, .int v4), (5, .int v5)] [] s0 (lp (T_cleanPlace_57F) n (v1, v2, v3, v4, v5, s0)) :=
  lp_ok (W := fun p K => XT G E "ForestLegsModel" "cleanPlace" cX2_cleanPlace 7 (Option.some Jvm.ClassFile.FieldType.int) 10 57 [(0, .ref E.2.1), (1, .int p.1), (2, .int p.2.1), (3, .int p.2.2.1), (4, .int p.2.2.2.1), (5, .int p.2.2.2.2.1)] [] p.2.2.2.2.2 K) (fun _ => tw_no) (fun k hk => fun (v1, v2, v3, v4, v5, s0) => T_cleanPlace_57F_ok hO hE (fun v1 v2 v3 v4 v5 s0 => hk (v1, v2, v3, v4, v5, s0)) v1 v2 v3 v4 v5 s0) n (v1, v2, v3, v4, v5, s0)
theorem T_cleanPlace_23_ok {G : xG} {E : TE} (hO : xOK G) (hE : tok E)   (v1 : Int32) (v2 : Int32) (w1 : Int32) (s0 : TS) : XT G E "ForestLegsModel" "cleanPlace" cX2_cleanPlace 7 (Option.some Jvm.ClassFile.FieldType.int) 10 23 [(0, .ref E.2.1), (1, .int v1), (2, .int v2)] [.int w1, .ref E.2.1] s0 (T_cleanPlace_23 v1 v2 w1 s0) := by
  unfold T_cleanPlace_23
  refine tw_callS_I [.int w1] [.ref E.2.1] (T_unless_2_ok hO hE s0 w1) md_X2_unless_2 q3121 q3122 dX2_cleanPlace_23 rfl rfl (by decide) (Nat.le_of_ble_eq_true rfl) (n := 26) rfl (fun x4 s3 => ?_)
  refine tw_callV_I [.int x4] [] (T_isRefused_ok hO hE s3 x4) md_X2_isRefused q3022 q3024 qs63 dX2_cleanPlace_26 rfl rfl (by decide) (Nat.le_of_ble_eq_true rfl) (n := 29) rfl (fun x6 s5 => ?_)
  refine tw_if_eq dX2_cleanPlace_29 (t := 34) (by decide) (n := 32) rfl ?_ ?_
  · refine x_aload_nr 0 dX2_cleanPlace_34 rfl rfl (n := 35) rfl ?_
    refine x_iload_n 1 dX2_cleanPlace_35 rfl rfl (n := 36) rfl ?_
    refine tw_callV_I [.int v1] [] (T_isValid_ok hO hE s5 v1) md_X2_isValid q3132 q3134 qs82 dX2_cleanPlace_36 rfl rfl (by decide) (Nat.le_of_ble_eq_true rfl) (n := 39) rfl (fun x8 s7 => ?_)
    refine tw_if_ne dX2_cleanPlace_39 (t := 45) (by decide) (n := 42) rfl ?_ ?_
    · refine x_aload_nr 0 dX2_cleanPlace_45 rfl rfl (n := 46) rfl ?_
      refine x_iload_n 1 dX2_cleanPlace_46 rfl rfl (n := 47) rfl ?_
      refine tw_callV_I [.int v1] [] (T_cleanOf_ok hO hE s7 v1) md_X2_cleanOf q3330 q3332 qs110 dX2_cleanPlace_47 rfl rfl (by decide) (Nat.le_of_ble_eq_true rfl) (n := 50) rfl (fun x10 s9 => ?_)
      refine x_istore_n [(3, .int x10), (0, .ref E.2.1), (1, .int v1), (2, .int v2)] dX2_cleanPlace_50 rfl (by decide) rfl (n := 51) rfl ?_
      refine x_iconst 1 dX2_cleanPlace_51 rfl (n := 52) rfl ?_
      refine x_istore [(4, .int 1), (3, .int x10), (0, .ref E.2.1), (1, .int v1), (2, .int v2)] dX2_cleanPlace_52 (by decide) rfl (n := 54) rfl ?_
      refine x_iconst 0 dX2_cleanPlace_54 rfl (n := 55) rfl ?_
      refine x_istore [(5, .int 0), (4, .int 1), (3, .int x10), (0, .ref E.2.1), (1, .int v1), (2, .int v2)] dX2_cleanPlace_55 (by decide) rfl (n := 57) rfl ?_
      refine x_sub [3, 4, 5, 2, 1, 0] [(0, .ref E.2.1), (1, .int v1), (2, .int v2), (3, .int x10), (4, .int 1), (5, .int 0)] rfl ?_
      exact T_cleanPlace_57_lp hO hE FU v1 v2 x10 1 0 s9
    · refine x_bipush (-2) dX2_cleanPlace_42 rfl (n := 44) rfl ?_
      exact tw_ireturn dX2_cleanPlace_44
  · refine x_iconst (-1) dX2_cleanPlace_32 rfl (n := 33) rfl ?_
    exact tw_ireturn dX2_cleanPlace_33
theorem T_cleanPlace_22_ok {G : xG} {E : TE} (hO : xOK G) (hE : tok E)   (v1 : Int32) (v2 : Int32) (s0 : TS) : XT G E "ForestLegsModel" "cleanPlace" cX2_cleanPlace 7 (Option.some Jvm.ClassFile.FieldType.int) 10 22 [(0, .ref E.2.1), (1, .int v1), (2, .int v2)] [.ref E.2.1] s0 (T_cleanPlace_22 v1 v2 s0) := by
  unfold T_cleanPlace_22
  refine x_iconst 0 dX2_cleanPlace_22 rfl (n := 23) rfl ?_
  exact T_cleanPlace_23_ok hO hE v1 v2 0 s0
theorem T_cleanPlace_ok {G : xG} {E : TE} (hO : xOK G) (hE : tok E) (s0 : TS) (a1 : Int32) (a2 : Int32) : CTT G E 10 yX2_cleanPlace cX2_cleanPlace 7 (Option.some Jvm.ClassFile.FieldType.int) [.ref E.2.1, .int a1, .int a2] s0 (T_cleanPlace s0 a1 a2) := by
  refine CT_of hO (by decide +kernel) (by decide +kernel) (Nat.le_of_ble_eq_true rfl) ?_
  show XT G E "ForestLegsModel" "cleanPlace" cX2_cleanPlace 7 (Option.some Jvm.ClassFile.FieldType.int) 10 0 [(0, .ref E.2.1), (1, .int a1), (2, .int a2)] [] s0 (T_cleanPlace s0 a1 a2)
  refine x_aload_nr 0 dX2_cleanPlace_0 rfl rfl (n := 1) rfl ?_
  refine x_aload_nr 0 dX2_cleanPlace_1 rfl rfl (n := 2) rfl ?_
  refine x_iload_n 1 dX2_cleanPlace_2 rfl rfl (n := 3) rfl ?_
  refine tw_callV_I [.int a1] [.ref E.2.1] (T_isRunner_ok hO hE s0 a1) md_X2_isRunner q3215 q3217 qs99 dX2_cleanPlace_3 rfl rfl (by decide) (Nat.le_of_ble_eq_true rfl) (n := 6) rfl (fun x2 s1 => ?_)
  refine tw_if_eq dX2_cleanPlace_6 (t := 22) (by decide) (n := 9) rfl ?_ ?_
  · exact T_cleanPlace_22_ok hO hE a1 a2 s1
  · refine x_iload_n 2 dX2_cleanPlace_9 rfl rfl (n := 10) rfl ?_
    refine x_iconst 0 dX2_cleanPlace_10 rfl (n := 11) rfl ?_
    refine x_iconst 1 dX2_cleanPlace_11 rfl (n := 12) rfl ?_
    refine tw_callS_I [.int a2, .int 0, .int 1] [.ref E.2.1] (T_in_ok hO hE s1 a2 0 1) md_X2_in q3016 q3017 dX2_cleanPlace_12 rfl rfl (by decide) (Nat.le_of_ble_eq_true rfl) (n := 15) rfl (fun x23 s22 => ?_)
    refine tw_if_eq dX2_cleanPlace_15 (t := 22) (by decide) (n := 18) rfl ?_ ?_
    · exact T_cleanPlace_22_ok hO hE a1 a2 s22
    · refine x_iconst 1 dX2_cleanPlace_18 rfl (n := 19) rfl ?_
      refine x_goto dX2_cleanPlace_19 (n := 23) (by decide) ?_
      exact T_cleanPlace_23_ok hO hE a1 a2 1 s22
abbrev cX2_laysMet : ByteArray := prog_14_method_84_code
def yX2_laysMet : MethodName := ⟨RX2, "laysMet", "(I)V"⟩
def dkwX2_laysMet_7 : List UInt8 := [89, 180, 1, 38, 4, 96, 181, 1, 38, 132, 3, 1, 167, 255, 105, 132, 2, 1, 167, 255, 81, 177]
abbrev dktX2_laysMet_7 : List UInt8 := dkwX2_laysMet_7 ++ []
def dkwX2_laysMet_6 : List UInt8 := [132, 5, 255, 167, 255, 202, 42, 180, 0, 41, 21, 5, 21, 4, 79, 42, 180, 0, 44, 21, 5, 28, 79, 42]
abbrev dktX2_laysMet_6 : List UInt8 := dkwX2_laysMet_6 ++ dktX2_laysMet_7
def dkwX2_laysMet_5 : List UInt8 := [21, 5, 4, 100, 46, 79, 42, 180, 0, 44, 21, 5, 42, 180, 0, 44, 21, 5, 4, 100, 46, 79]
abbrev dktX2_laysMet_5 : List UInt8 := dkwX2_laysMet_5 ++ dktX2_laysMet_6
def dkwX2_laysMet_4 : List UInt8 := [42, 180, 0, 41, 21, 5, 4, 100, 46, 21, 4, 164, 0, 41, 42, 180, 0, 41, 21, 5, 42, 180, 0, 41]
abbrev dktX2_laysMet_4 : List UInt8 := dkwX2_laysMet_4 ++ dktX2_laysMet_5
def dkwX2_laysMet_3 : List UInt8 := [42, 28, 42, 180, 0, 32, 29, 46, 182, 0, 209, 54, 4, 42, 180, 1, 38, 54, 5, 21, 5, 158, 0, 55]
abbrev dktX2_laysMet_3 : List UInt8 := dkwX2_laysMet_3 ++ dktX2_laysMet_4
def dkwX2_laysMet_2 : List UInt8 := [180, 0, 32, 29, 46, 2, 159, 0, 121, 42, 28, 42, 180, 0, 32, 29, 46, 182, 0, 200, 27, 160, 0, 106]
abbrev dktX2_laysMet_2 : List UInt8 := dkwX2_laysMet_2 ++ dktX2_laysMet_3
def dkwX2_laysMet_1 : List UInt8 := [62, 29, 42, 180, 0, 17, 7, 42, 180, 0, 17, 16, 37, 28, 96, 46, 96, 46, 162, 0, 137, 42]
abbrev dktX2_laysMet_1 : List UInt8 := dkwX2_laysMet_1 ++ dktX2_laysMet_2
def dkwX2_laysMet_0 : List UInt8 := [42, 3, 181, 1, 38, 3, 61, 28, 42, 180, 0, 17, 4, 46, 162, 0, 171, 42, 28, 182, 0, 206, 87, 3]
abbrev dktX2_laysMet_0 : List UInt8 := dkwX2_laysMet_0 ++ dktX2_laysMet_1
theorem dksX2_laysMet_0 : cX2_laysMet.data.toList.drop 0 = dktX2_laysMet_0 := by decide +kernel
theorem dksX2_laysMet_1 : cX2_laysMet.data.toList.drop 24 = dktX2_laysMet_1 := dk_seg dksX2_laysMet_0 24 rfl rfl
theorem dksX2_laysMet_2 : cX2_laysMet.data.toList.drop 46 = dktX2_laysMet_2 := dk_seg dksX2_laysMet_1 22 rfl rfl
theorem dksX2_laysMet_3 : cX2_laysMet.data.toList.drop 70 = dktX2_laysMet_3 := dk_seg dksX2_laysMet_2 24 rfl rfl
theorem dksX2_laysMet_4 : cX2_laysMet.data.toList.drop 94 = dktX2_laysMet_4 := dk_seg dksX2_laysMet_3 24 rfl rfl
theorem dksX2_laysMet_5 : cX2_laysMet.data.toList.drop 118 = dktX2_laysMet_5 := dk_seg dksX2_laysMet_4 24 rfl rfl
theorem dksX2_laysMet_6 : cX2_laysMet.data.toList.drop 140 = dktX2_laysMet_6 := dk_seg dksX2_laysMet_5 22 rfl rfl
theorem dksX2_laysMet_7 : cX2_laysMet.data.toList.drop 164 = dktX2_laysMet_7 := dk_seg dksX2_laysMet_6 24 rfl rfl
theorem dX2_laysMet_0 : decode cX2_laysMet 0 = .ok (.aload_n 0, 1) := dk_42 (dk_at dksX2_laysMet_0 0 rfl rfl)
theorem dX2_laysMet_1 : decode cX2_laysMet 1 = .ok (.iconst 0, 1) := dk_3 (dk_at dksX2_laysMet_0 1 rfl rfl)
theorem dX2_laysMet_2 : decode cX2_laysMet 2 = .ok (.putfield 294, 3) := dk_181 1 38 (dk_at dksX2_laysMet_0 2 rfl rfl)
theorem dX2_laysMet_5 : decode cX2_laysMet 5 = .ok (.iconst 0, 1) := dk_3 (dk_at dksX2_laysMet_0 5 rfl rfl)
theorem dX2_laysMet_6 : decode cX2_laysMet 6 = .ok (.istore_n 2, 1) := dk_61 (dk_at dksX2_laysMet_0 6 rfl rfl)
theorem dX2_laysMet_7 : decode cX2_laysMet 7 = .ok (.iload_n 2, 1) := dk_28 (dk_at dksX2_laysMet_0 7 rfl rfl)
theorem dX2_laysMet_8 : decode cX2_laysMet 8 = .ok (.aload_n 0, 1) := dk_42 (dk_at dksX2_laysMet_0 8 rfl rfl)
theorem dX2_laysMet_9 : decode cX2_laysMet 9 = .ok (.getfield 17, 3) := dk_180 0 17 (dk_at dksX2_laysMet_0 9 rfl rfl)
theorem dX2_laysMet_12 : decode cX2_laysMet 12 = .ok (.iconst 1, 1) := dk_4 (dk_at dksX2_laysMet_0 12 rfl rfl)
theorem dX2_laysMet_13 : decode cX2_laysMet 13 = .ok (.iaload, 1) := dk_46 (dk_at dksX2_laysMet_0 13 rfl rfl)
theorem dX2_laysMet_14 : decode cX2_laysMet 14 = .ok (.if_icmp .ge 171, 3) := dk_162 0 171 (dk_at dksX2_laysMet_0 14 rfl rfl)
theorem dX2_laysMet_17 : decode cX2_laysMet 17 = .ok (.aload_n 0, 1) := dk_42 (dk_at dksX2_laysMet_0 17 rfl rfl)
theorem dX2_laysMet_18 : decode cX2_laysMet 18 = .ok (.iload_n 2, 1) := dk_28 (dk_at dksX2_laysMet_0 18 rfl rfl)
theorem dX2_laysMet_19 : decode cX2_laysMet 19 = .ok (.invokevirtual 206, 3) := dk_182 0 206 (dk_at dksX2_laysMet_0 19 rfl rfl)
theorem dX2_laysMet_22 : decode cX2_laysMet 22 = .ok (.pop, 1) := dk_87 (dk_at dksX2_laysMet_0 22 rfl rfl)
theorem dX2_laysMet_23 : decode cX2_laysMet 23 = .ok (.iconst 0, 1) := dk_3 (dk_at dksX2_laysMet_0 23 rfl rfl)
theorem dX2_laysMet_24 : decode cX2_laysMet 24 = .ok (.istore_n 3, 1) := dk_62 (dk_at dksX2_laysMet_1 0 rfl rfl)
theorem dX2_laysMet_25 : decode cX2_laysMet 25 = .ok (.iload_n 3, 1) := dk_29 (dk_at dksX2_laysMet_1 1 rfl rfl)
theorem dX2_laysMet_26 : decode cX2_laysMet 26 = .ok (.aload_n 0, 1) := dk_42 (dk_at dksX2_laysMet_1 2 rfl rfl)
theorem dX2_laysMet_27 : decode cX2_laysMet 27 = .ok (.getfield 17, 3) := dk_180 0 17 (dk_at dksX2_laysMet_1 3 rfl rfl)
theorem dX2_laysMet_30 : decode cX2_laysMet 30 = .ok (.iconst 4, 1) := dk_7 (dk_at dksX2_laysMet_1 6 rfl rfl)
theorem dX2_laysMet_31 : decode cX2_laysMet 31 = .ok (.aload_n 0, 1) := dk_42 (dk_at dksX2_laysMet_1 7 rfl rfl)
theorem dX2_laysMet_32 : decode cX2_laysMet 32 = .ok (.getfield 17, 3) := dk_180 0 17 (dk_at dksX2_laysMet_1 8 rfl rfl)
theorem dX2_laysMet_35 : decode cX2_laysMet 35 = .ok (.bipush 37, 2) := dk_16 37 (dk_at dksX2_laysMet_1 11 rfl rfl)
theorem dX2_laysMet_37 : decode cX2_laysMet 37 = .ok (.iload_n 2, 1) := dk_28 (dk_at dksX2_laysMet_1 13 rfl rfl)
theorem dX2_laysMet_38 : decode cX2_laysMet 38 = .ok (.iadd, 1) := dk_96 (dk_at dksX2_laysMet_1 14 rfl rfl)
theorem dX2_laysMet_39 : decode cX2_laysMet 39 = .ok (.iaload, 1) := dk_46 (dk_at dksX2_laysMet_1 15 rfl rfl)
theorem dX2_laysMet_40 : decode cX2_laysMet 40 = .ok (.iadd, 1) := dk_96 (dk_at dksX2_laysMet_1 16 rfl rfl)
theorem dX2_laysMet_41 : decode cX2_laysMet 41 = .ok (.iaload, 1) := dk_46 (dk_at dksX2_laysMet_1 17 rfl rfl)
theorem dX2_laysMet_42 : decode cX2_laysMet 42 = .ok (.if_icmp .ge 137, 3) := dk_162 0 137 (dk_at dksX2_laysMet_1 18 rfl rfl)
theorem dX2_laysMet_45 : decode cX2_laysMet 45 = .ok (.aload_n 0, 1) := dk_42 (dk_at dksX2_laysMet_1 21 rfl rfl)
theorem dX2_laysMet_46 : decode cX2_laysMet 46 = .ok (.getfield 32, 3) := dk_180 0 32 (dk_at dksX2_laysMet_2 0 rfl rfl)
theorem dX2_laysMet_49 : decode cX2_laysMet 49 = .ok (.iload_n 3, 1) := dk_29 (dk_at dksX2_laysMet_2 3 rfl rfl)
theorem dX2_laysMet_50 : decode cX2_laysMet 50 = .ok (.iaload, 1) := dk_46 (dk_at dksX2_laysMet_2 4 rfl rfl)
theorem dX2_laysMet_51 : decode cX2_laysMet 51 = .ok (.iconst (-1), 1) := dk_2 (dk_at dksX2_laysMet_2 5 rfl rfl)
theorem dX2_laysMet_52 : decode cX2_laysMet 52 = .ok (.if_icmp .eq 121, 3) := dk_159 0 121 (dk_at dksX2_laysMet_2 6 rfl rfl)
theorem dX2_laysMet_55 : decode cX2_laysMet 55 = .ok (.aload_n 0, 1) := dk_42 (dk_at dksX2_laysMet_2 9 rfl rfl)
theorem dX2_laysMet_56 : decode cX2_laysMet 56 = .ok (.iload_n 2, 1) := dk_28 (dk_at dksX2_laysMet_2 10 rfl rfl)
theorem dX2_laysMet_57 : decode cX2_laysMet 57 = .ok (.aload_n 0, 1) := dk_42 (dk_at dksX2_laysMet_2 11 rfl rfl)
theorem dX2_laysMet_58 : decode cX2_laysMet 58 = .ok (.getfield 32, 3) := dk_180 0 32 (dk_at dksX2_laysMet_2 12 rfl rfl)
theorem dX2_laysMet_61 : decode cX2_laysMet 61 = .ok (.iload_n 3, 1) := dk_29 (dk_at dksX2_laysMet_2 15 rfl rfl)
theorem dX2_laysMet_62 : decode cX2_laysMet 62 = .ok (.iaload, 1) := dk_46 (dk_at dksX2_laysMet_2 16 rfl rfl)
theorem dX2_laysMet_63 : decode cX2_laysMet 63 = .ok (.invokevirtual 200, 3) := dk_182 0 200 (dk_at dksX2_laysMet_2 17 rfl rfl)
theorem dX2_laysMet_66 : decode cX2_laysMet 66 = .ok (.iload_n 1, 1) := dk_27 (dk_at dksX2_laysMet_2 20 rfl rfl)
theorem dX2_laysMet_67 : decode cX2_laysMet 67 = .ok (.if_icmp .ne 106, 3) := dk_160 0 106 (dk_at dksX2_laysMet_2 21 rfl rfl)
theorem dX2_laysMet_70 : decode cX2_laysMet 70 = .ok (.aload_n 0, 1) := dk_42 (dk_at dksX2_laysMet_3 0 rfl rfl)
theorem dX2_laysMet_71 : decode cX2_laysMet 71 = .ok (.iload_n 2, 1) := dk_28 (dk_at dksX2_laysMet_3 1 rfl rfl)
theorem dX2_laysMet_72 : decode cX2_laysMet 72 = .ok (.aload_n 0, 1) := dk_42 (dk_at dksX2_laysMet_3 2 rfl rfl)
theorem dX2_laysMet_73 : decode cX2_laysMet 73 = .ok (.getfield 32, 3) := dk_180 0 32 (dk_at dksX2_laysMet_3 3 rfl rfl)
theorem dX2_laysMet_76 : decode cX2_laysMet 76 = .ok (.iload_n 3, 1) := dk_29 (dk_at dksX2_laysMet_3 6 rfl rfl)
theorem dX2_laysMet_77 : decode cX2_laysMet 77 = .ok (.iaload, 1) := dk_46 (dk_at dksX2_laysMet_3 7 rfl rfl)
theorem dX2_laysMet_78 : decode cX2_laysMet 78 = .ok (.invokevirtual 209, 3) := dk_182 0 209 (dk_at dksX2_laysMet_3 8 rfl rfl)
theorem dX2_laysMet_81 : decode cX2_laysMet 81 = .ok (.istore 4, 2) := dk_54 4 (dk_at dksX2_laysMet_3 11 rfl rfl)
theorem dX2_laysMet_83 : decode cX2_laysMet 83 = .ok (.aload_n 0, 1) := dk_42 (dk_at dksX2_laysMet_3 13 rfl rfl)
theorem dX2_laysMet_84 : decode cX2_laysMet 84 = .ok (.getfield 294, 3) := dk_180 1 38 (dk_at dksX2_laysMet_3 14 rfl rfl)
theorem dX2_laysMet_87 : decode cX2_laysMet 87 = .ok (.istore 5, 2) := dk_54 5 (dk_at dksX2_laysMet_3 17 rfl rfl)
theorem dX2_laysMet_89 : decode cX2_laysMet 89 = .ok (.iload 5, 2) := dk_21 5 (dk_at dksX2_laysMet_3 19 rfl rfl)
theorem dX2_laysMet_91 : decode cX2_laysMet 91 = .ok (.ifCond .le 55, 3) := dk_158 0 55 (dk_at dksX2_laysMet_3 21 rfl rfl)
theorem dX2_laysMet_94 : decode cX2_laysMet 94 = .ok (.aload_n 0, 1) := dk_42 (dk_at dksX2_laysMet_4 0 rfl rfl)
theorem dX2_laysMet_95 : decode cX2_laysMet 95 = .ok (.getfield 41, 3) := dk_180 0 41 (dk_at dksX2_laysMet_4 1 rfl rfl)
theorem dX2_laysMet_98 : decode cX2_laysMet 98 = .ok (.iload 5, 2) := dk_21 5 (dk_at dksX2_laysMet_4 4 rfl rfl)
theorem dX2_laysMet_100 : decode cX2_laysMet 100 = .ok (.iconst 1, 1) := dk_4 (dk_at dksX2_laysMet_4 6 rfl rfl)
theorem dX2_laysMet_101 : decode cX2_laysMet 101 = .ok (.isub, 1) := dk_100 (dk_at dksX2_laysMet_4 7 rfl rfl)
theorem dX2_laysMet_102 : decode cX2_laysMet 102 = .ok (.iaload, 1) := dk_46 (dk_at dksX2_laysMet_4 8 rfl rfl)
theorem dX2_laysMet_103 : decode cX2_laysMet 103 = .ok (.iload 4, 2) := dk_21 4 (dk_at dksX2_laysMet_4 9 rfl rfl)
theorem dX2_laysMet_105 : decode cX2_laysMet 105 = .ok (.if_icmp .le 41, 3) := dk_164 0 41 (dk_at dksX2_laysMet_4 11 rfl rfl)
theorem dX2_laysMet_108 : decode cX2_laysMet 108 = .ok (.aload_n 0, 1) := dk_42 (dk_at dksX2_laysMet_4 14 rfl rfl)
theorem dX2_laysMet_109 : decode cX2_laysMet 109 = .ok (.getfield 41, 3) := dk_180 0 41 (dk_at dksX2_laysMet_4 15 rfl rfl)
theorem dX2_laysMet_112 : decode cX2_laysMet 112 = .ok (.iload 5, 2) := dk_21 5 (dk_at dksX2_laysMet_4 18 rfl rfl)
theorem dX2_laysMet_114 : decode cX2_laysMet 114 = .ok (.aload_n 0, 1) := dk_42 (dk_at dksX2_laysMet_4 20 rfl rfl)
theorem dX2_laysMet_115 : decode cX2_laysMet 115 = .ok (.getfield 41, 3) := dk_180 0 41 (dk_at dksX2_laysMet_4 21 rfl rfl)
theorem dX2_laysMet_118 : decode cX2_laysMet 118 = .ok (.iload 5, 2) := dk_21 5 (dk_at dksX2_laysMet_5 0 rfl rfl)
theorem dX2_laysMet_120 : decode cX2_laysMet 120 = .ok (.iconst 1, 1) := dk_4 (dk_at dksX2_laysMet_5 2 rfl rfl)
theorem dX2_laysMet_121 : decode cX2_laysMet 121 = .ok (.isub, 1) := dk_100 (dk_at dksX2_laysMet_5 3 rfl rfl)
theorem dX2_laysMet_122 : decode cX2_laysMet 122 = .ok (.iaload, 1) := dk_46 (dk_at dksX2_laysMet_5 4 rfl rfl)
theorem dX2_laysMet_123 : decode cX2_laysMet 123 = .ok (.iastore, 1) := dk_79 (dk_at dksX2_laysMet_5 5 rfl rfl)
theorem dX2_laysMet_124 : decode cX2_laysMet 124 = .ok (.aload_n 0, 1) := dk_42 (dk_at dksX2_laysMet_5 6 rfl rfl)
theorem dX2_laysMet_125 : decode cX2_laysMet 125 = .ok (.getfield 44, 3) := dk_180 0 44 (dk_at dksX2_laysMet_5 7 rfl rfl)
theorem dX2_laysMet_128 : decode cX2_laysMet 128 = .ok (.iload 5, 2) := dk_21 5 (dk_at dksX2_laysMet_5 10 rfl rfl)
theorem dX2_laysMet_130 : decode cX2_laysMet 130 = .ok (.aload_n 0, 1) := dk_42 (dk_at dksX2_laysMet_5 12 rfl rfl)
theorem dX2_laysMet_131 : decode cX2_laysMet 131 = .ok (.getfield 44, 3) := dk_180 0 44 (dk_at dksX2_laysMet_5 13 rfl rfl)
theorem dX2_laysMet_134 : decode cX2_laysMet 134 = .ok (.iload 5, 2) := dk_21 5 (dk_at dksX2_laysMet_5 16 rfl rfl)
theorem dX2_laysMet_136 : decode cX2_laysMet 136 = .ok (.iconst 1, 1) := dk_4 (dk_at dksX2_laysMet_5 18 rfl rfl)
theorem dX2_laysMet_137 : decode cX2_laysMet 137 = .ok (.isub, 1) := dk_100 (dk_at dksX2_laysMet_5 19 rfl rfl)
theorem dX2_laysMet_138 : decode cX2_laysMet 138 = .ok (.iaload, 1) := dk_46 (dk_at dksX2_laysMet_5 20 rfl rfl)
theorem dX2_laysMet_139 : decode cX2_laysMet 139 = .ok (.iastore, 1) := dk_79 (dk_at dksX2_laysMet_5 21 rfl rfl)
theorem dX2_laysMet_140 : decode cX2_laysMet 140 = .ok (.iinc 5 (-1), 3) := dk_132 5 255 (dk_at dksX2_laysMet_6 0 rfl rfl)
theorem dX2_laysMet_143 : decode cX2_laysMet 143 = .ok (.goto (-54), 3) := dk_167 255 202 (dk_at dksX2_laysMet_6 3 rfl rfl)
theorem dX2_laysMet_146 : decode cX2_laysMet 146 = .ok (.aload_n 0, 1) := dk_42 (dk_at dksX2_laysMet_6 6 rfl rfl)
theorem dX2_laysMet_147 : decode cX2_laysMet 147 = .ok (.getfield 41, 3) := dk_180 0 41 (dk_at dksX2_laysMet_6 7 rfl rfl)
theorem dX2_laysMet_150 : decode cX2_laysMet 150 = .ok (.iload 5, 2) := dk_21 5 (dk_at dksX2_laysMet_6 10 rfl rfl)
theorem dX2_laysMet_152 : decode cX2_laysMet 152 = .ok (.iload 4, 2) := dk_21 4 (dk_at dksX2_laysMet_6 12 rfl rfl)
theorem dX2_laysMet_154 : decode cX2_laysMet 154 = .ok (.iastore, 1) := dk_79 (dk_at dksX2_laysMet_6 14 rfl rfl)
theorem dX2_laysMet_155 : decode cX2_laysMet 155 = .ok (.aload_n 0, 1) := dk_42 (dk_at dksX2_laysMet_6 15 rfl rfl)
theorem dX2_laysMet_156 : decode cX2_laysMet 156 = .ok (.getfield 44, 3) := dk_180 0 44 (dk_at dksX2_laysMet_6 16 rfl rfl)
theorem dX2_laysMet_159 : decode cX2_laysMet 159 = .ok (.iload 5, 2) := dk_21 5 (dk_at dksX2_laysMet_6 19 rfl rfl)
theorem dX2_laysMet_161 : decode cX2_laysMet 161 = .ok (.iload_n 2, 1) := dk_28 (dk_at dksX2_laysMet_6 21 rfl rfl)
theorem dX2_laysMet_162 : decode cX2_laysMet 162 = .ok (.iastore, 1) := dk_79 (dk_at dksX2_laysMet_6 22 rfl rfl)
theorem dX2_laysMet_163 : decode cX2_laysMet 163 = .ok (.aload_n 0, 1) := dk_42 (dk_at dksX2_laysMet_6 23 rfl rfl)
theorem dX2_laysMet_164 : decode cX2_laysMet 164 = .ok (.dup, 1) := dk_89 (dk_at dksX2_laysMet_7 0 rfl rfl)
theorem dX2_laysMet_165 : decode cX2_laysMet 165 = .ok (.getfield 294, 3) := dk_180 1 38 (dk_at dksX2_laysMet_7 1 rfl rfl)
theorem dX2_laysMet_168 : decode cX2_laysMet 168 = .ok (.iconst 1, 1) := dk_4 (dk_at dksX2_laysMet_7 4 rfl rfl)
theorem dX2_laysMet_169 : decode cX2_laysMet 169 = .ok (.iadd, 1) := dk_96 (dk_at dksX2_laysMet_7 5 rfl rfl)
theorem dX2_laysMet_170 : decode cX2_laysMet 170 = .ok (.putfield 294, 3) := dk_181 1 38 (dk_at dksX2_laysMet_7 6 rfl rfl)
theorem dX2_laysMet_173 : decode cX2_laysMet 173 = .ok (.iinc 3 1, 3) := dk_132 3 1 (dk_at dksX2_laysMet_7 9 rfl rfl)
theorem dX2_laysMet_176 : decode cX2_laysMet 176 = .ok (.goto (-151), 3) := dk_167 255 105 (dk_at dksX2_laysMet_7 12 rfl rfl)
theorem dX2_laysMet_179 : decode cX2_laysMet 179 = .ok (.iinc 2 1, 3) := dk_132 2 1 (dk_at dksX2_laysMet_7 15 rfl rfl)
theorem dX2_laysMet_182 : decode cX2_laysMet 182 = .ok (.goto (-175), 3) := dk_167 255 81 (dk_at dksX2_laysMet_7 18 rfl rfl)
theorem dX2_laysMet_185 : decode cX2_laysMet 185 = .ok (.return_, 1) := dk_177 (dk_at dksX2_laysMet_7 21 rfl rfl)
theorem md_X2_laysMet : xMd yX2_laysMet cX2_laysMet 6 (Option.none : Option Jvm.ClassFile.FieldType) 1 := ⟨q3345, q126, by decide, by decide +kernel, by decide +kernel, by decide +kernel⟩
def T_laysMet_173  (k25 : Int32 × Int32 × Int32 × TS → Option (xO × TS)) (v1 : Int32) (v2 : Int32) (v3 : Int32) (s0 : TS) : Option (xO × TS) :=
  (bnd (v3 + 1) fun x9 =>
  (k25 (v1, v2, x9, s0)))
def T_laysMet_146  (k25 : Int32 × Int32 × Int32 × TS → Option (xO × TS)) (v1 : Int32) (v2 : Int32) (v3 : Int32) (v4 : Int32) (v5 : Int32) (s0 : TS) : Option (xO × TS) :=
  (tast s0 25 v5 v4 fun s17 =>
  (tast s17 26 v5 v2 fun s18 =>
  (bnd (tI s18 27 ((s18.1 27) + 1)) fun s19 =>
  (T_laysMet_173 k25 v1 v2 v3 s19))))
def T_laysMet_89F  (k25 : Int32 × Int32 × Int32 × TS → Option (xO × TS)) (k89 : Int32 × Int32 × Int32 × Int32 × Int32 × TS → Option (xO × TS)) (p : Int32 × Int32 × Int32 × Int32 × Int32 × TS) : Option (xO × TS) := match p with
  | (v1, v2, v3, v4, v5, s0) => (if v5 ≤ 0 then
  (T_laysMet_146 k25 v1 v2 v3 v4 v5 s0) else
  (tald s0 25 (v5 - 1) fun x20 =>
  (if x20 ≤ v4 then
  (T_laysMet_146 k25 v1 v2 v3 v4 v5 s0) else
  (tald s0 25 (v5 - 1) fun x21 =>
  (tast s0 25 v5 x21 fun s22 =>
  (tald s22 26 (v5 - 1) fun x23 =>
  (tast s22 26 v5 x23 fun s24 =>
  (bnd (v5 + (-1)) fun x25 =>
  (k89 (v1, v2, v3, v4, x25, s24))))))))))
def T_laysMet_25F  (k7 : Int32 × Int32 × TS → Option (xO × TS)) (k25 : Int32 × Int32 × Int32 × TS → Option (xO × TS)) (p : Int32 × Int32 × Int32 × TS) : Option (xO × TS) := match p with
  | (v1, v2, v3, s0) => (tald s0 7 (37 + v2) fun x5 =>
  (tald s0 7 (4 + x5) fun x6 =>
  (if x6 ≤ v3 then
  (bnd (v2 + 1) fun x7 =>
  (k7 (v1, x7, s0))) else
  (tald s0 20 v3 fun x8 =>
  (if x8 = (-1) then
  (T_laysMet_173 k25 v1 v2 v3 s0) else
  (tald s0 20 v3 fun x10 =>
  (xcI (T_punchCode s0 v2 x10) fun x12 s11 =>
  (if x12 = v1 then
  (tald s11 20 v3 fun x13 =>
  (xcI (T_punchTime s11 v2 x13) fun x15 s14 =>
  (bnd (s14.1 27) fun x16 =>
  (lp (T_laysMet_89F k25) FU (v1, v2, v3, x15, x16, s14))))) else
  (T_laysMet_173 k25 v1 v2 v3 s11)))))))))
def T_laysMet_7F   (k7 : Int32 × Int32 × TS → Option (xO × TS)) (p : Int32 × Int32 × TS) : Option (xO × TS) := match p with
  | (v1, v2, s0) => (tald s0 7 1 fun x2 =>
  (if x2 ≤ v2 then
  (rV s0) else
  (xcI (T_missedBy s0 v2) fun x4 s3 =>
  (lp (T_laysMet_25F k7) FU (v1, v2, 0, s3)))))
def T_laysMet (s0 : TS) (a1 : Int32) : Option (xO × TS) :=
  (bnd (tI s0 27 0) fun s1 =>
  (lp (T_laysMet_7F) FU (a1, 0, s1)))
theorem T_laysMet_173_ok {G : xG} {E : TE} (hO : xOK G) (hE : tok E)  {k25 : Int32 × Int32 × Int32 × TS → Option (xO × TS)} (hk25 : ∀ (v1 : Int32) (v2 : Int32) (v3 : Int32) (s0 : TS), XT G E "ForestLegsModel" "laysMet" cX2_laysMet 6 (Option.none : Option Jvm.ClassFile.FieldType) 3 25 [(0, .ref E.2.1), (1, .int v1), (2, .int v2), (3, .int v3)] [] s0 (k25 (v1, v2, v3, s0))) (v1 : Int32) (v2 : Int32) (v3 : Int32) (s0 : TS) : XT G E "ForestLegsModel" "laysMet" cX2_laysMet 6 (Option.none : Option Jvm.ClassFile.FieldType) 3 173 [(0, .ref E.2.1), (1, .int v1), (2, .int v2), (3, .int v3)] [] s0 (T_laysMet_173 k25 v1 v2 v3 s0) := by
  unfold T_laysMet_173
  refine tw_iinc 3 (fun x9 => [(3, .int x9), (0, .ref E.2.1), (1, .int v1), (2, .int v2)]) dX2_laysMet_173 rfl rfl (by decide) (fun _ => rfl) (n := 176) rfl (fun x9 => ?_)
  refine x_goto dX2_laysMet_176 (n := 25) (by decide) ?_
  refine x_sub [1, 2, 3, 0] [(0, .ref E.2.1), (1, .int v1), (2, .int v2), (3, .int x9)] rfl ?_
  exact hk25 v1 v2 x9 s0
theorem T_laysMet_146_ok {G : xG} {E : TE} (hO : xOK G) (hE : tok E)  {k25 : Int32 × Int32 × Int32 × TS → Option (xO × TS)} (hk25 : ∀ (v1 : Int32) (v2 : Int32) (v3 : Int32) (s0 : TS), XT G E "ForestLegsModel" "laysMet" cX2_laysMet 6 (Option.none : Option Jvm.ClassFile.FieldType) 3 25 [(0, .ref E.2.1), (1, .int v1), (2, .int v2), (3, .int v3)] [] s0 (k25 (v1, v2, v3, s0))) (v1 : Int32) (v2 : Int32) (v3 : Int32) (v4 : Int32) (v5 : Int32) (s0 : TS) : XT G E "ForestLegsModel" "laysMet" cX2_laysMet 6 (Option.none : Option Jvm.ClassFile.FieldType) 3 146 [(0, .ref E.2.1), (1, .int v1), (2, .int v2), (3, .int v3), (4, .int v4), (5, .int v5)] [] s0 (T_laysMet_146 k25 v1 v2 v3 v4 v5 s0) := by
  unfold T_laysMet_146
  refine x_aload_nr 0 dX2_laysMet_146 rfl rfl (n := 147) rfl ?_
  refine tw_getA fl_X2_41 rfl (by decide) dX2_laysMet_147 (n := 150) rfl ?_
  refine x_iload 5 dX2_laysMet_150 rfl (n := 152) rfl ?_
  refine x_iload 4 dX2_laysMet_152 rfl (n := 154) rfl ?_
  refine tw_iast hE (by decide) dX2_laysMet_154 (n := 155) rfl (fun s17 => ?_)
  refine x_aload_nr 0 dX2_laysMet_155 rfl rfl (n := 156) rfl ?_
  refine tw_getA fl_X2_44 rfl (by decide) dX2_laysMet_156 (n := 159) rfl ?_
  refine x_iload 5 dX2_laysMet_159 rfl (n := 161) rfl ?_
  refine x_iload_n 2 dX2_laysMet_161 rfl rfl (n := 162) rfl ?_
  refine tw_iast hE (by decide) dX2_laysMet_162 (n := 163) rfl (fun s18 => ?_)
  refine x_aload_nr 0 dX2_laysMet_163 rfl rfl (n := 164) rfl ?_
  refine x_dup dX2_laysMet_164 rfl (n := 165) rfl ?_
  refine tw_getI fl_X2_294 rfl (by decide) dX2_laysMet_165 (n := 168) rfl ?_
  refine x_iconst 1 dX2_laysMet_168 rfl (n := 169) rfl ?_
  refine x_iadd dX2_laysMet_169 (n := 170) rfl ?_
  refine tw_put (pl_X2_294 _ _ ⟨rfl, rfl⟩) rfl (by decide) dX2_laysMet_170 (n := 173) rfl (fun s19 => ?_)
  refine x_sub [0, 1, 2, 3] [(0, .ref E.2.1), (1, .int v1), (2, .int v2), (3, .int v3)] rfl ?_
  exact T_laysMet_173_ok hO hE hk25 v1 v2 v3 s19
theorem T_laysMet_89F_ok {G : xG} {E : TE} (hO : xOK G) (hE : tok E)  {k25 : Int32 × Int32 × Int32 × TS → Option (xO × TS)} (hk25 : ∀ (v1 : Int32) (v2 : Int32) (v3 : Int32) (s0 : TS), XT G E "ForestLegsModel" "laysMet" cX2_laysMet 6 (Option.none : Option Jvm.ClassFile.FieldType) 3 25 [(0, .ref E.2.1), (1, .int v1), (2, .int v2), (3, .int v3)] [] s0 (k25 (v1, v2, v3, s0))) {k89 : Int32 × Int32 × Int32 × Int32 × Int32 × TS → Option (xO × TS)} (hk89 : ∀ (v1 : Int32) (v2 : Int32) (v3 : Int32) (v4 : Int32) (v5 : Int32) (s0 : TS), XT G E "ForestLegsModel" "laysMet" cX2_laysMet 6 (Option.none : Option Jvm.ClassFile.FieldType) 3 89 [(0, .ref E.2.1), (1, .int v1), (2, .int v2), (3, .int v3), (4, .int v4), (5, .int v5)] [] s0 (k89 (v1, v2, v3, v4, v5, s0))) (v1 : Int32) (v2 : Int32) (v3 : Int32) (v4 : Int32) (v5 : Int32) (s0 : TS) : XT G E "ForestLegsModel" "laysMet" cX2_laysMet 6 (Option.none : Option Jvm.ClassFile.FieldType) 3 89 [(0, .ref E.2.1), (1, .int v1), (2, .int v2), (3, .int v3), (4, .int v4), (5, .int v5)] [] s0 (T_laysMet_89F k25 k89 (v1, v2, v3, v4, v5, s0)) := by
  unfold T_laysMet_89F
  refine x_iload 5 dX2_laysMet_89 rfl (n := 91) rfl ?_
  refine tw_if_le dX2_laysMet_91 (t := 146) (by decide) (n := 94) rfl ?_ ?_
  · exact T_laysMet_146_ok hO hE hk25 v1 v2 v3 v4 v5 s0
  · refine x_aload_nr 0 dX2_laysMet_94 rfl rfl (n := 95) rfl ?_
    refine tw_getA fl_X2_41 rfl (by decide) dX2_laysMet_95 (n := 98) rfl ?_
    refine x_iload 5 dX2_laysMet_98 rfl (n := 100) rfl ?_
    refine x_iconst 1 dX2_laysMet_100 rfl (n := 101) rfl ?_
    refine x_isub dX2_laysMet_101 (n := 102) rfl ?_
    refine tw_iald hE (by decide) dX2_laysMet_102 (n := 103) rfl (fun x20 => ?_)
    refine x_iload 4 dX2_laysMet_103 rfl (n := 105) rfl ?_
    refine tw_icmp_le dX2_laysMet_105 (t := 146) (by decide) (n := 108) rfl ?_ ?_
    · exact T_laysMet_146_ok hO hE hk25 v1 v2 v3 v4 v5 s0
    · refine x_aload_nr 0 dX2_laysMet_108 rfl rfl (n := 109) rfl ?_
      refine tw_getA fl_X2_41 rfl (by decide) dX2_laysMet_109 (n := 112) rfl ?_
      refine x_iload 5 dX2_laysMet_112 rfl (n := 114) rfl ?_
      refine x_aload_nr 0 dX2_laysMet_114 rfl rfl (n := 115) rfl ?_
      refine tw_getA fl_X2_41 rfl (by decide) dX2_laysMet_115 (n := 118) rfl ?_
      refine x_iload 5 dX2_laysMet_118 rfl (n := 120) rfl ?_
      refine x_iconst 1 dX2_laysMet_120 rfl (n := 121) rfl ?_
      refine x_isub dX2_laysMet_121 (n := 122) rfl ?_
      refine tw_iald hE (by decide) dX2_laysMet_122 (n := 123) rfl (fun x21 => ?_)
      refine tw_iast hE (by decide) dX2_laysMet_123 (n := 124) rfl (fun s22 => ?_)
      refine x_aload_nr 0 dX2_laysMet_124 rfl rfl (n := 125) rfl ?_
      refine tw_getA fl_X2_44 rfl (by decide) dX2_laysMet_125 (n := 128) rfl ?_
      refine x_iload 5 dX2_laysMet_128 rfl (n := 130) rfl ?_
      refine x_aload_nr 0 dX2_laysMet_130 rfl rfl (n := 131) rfl ?_
      refine tw_getA fl_X2_44 rfl (by decide) dX2_laysMet_131 (n := 134) rfl ?_
      refine x_iload 5 dX2_laysMet_134 rfl (n := 136) rfl ?_
      refine x_iconst 1 dX2_laysMet_136 rfl (n := 137) rfl ?_
      refine x_isub dX2_laysMet_137 (n := 138) rfl ?_
      refine tw_iald hE (by decide) dX2_laysMet_138 (n := 139) rfl (fun x23 => ?_)
      refine tw_iast hE (by decide) dX2_laysMet_139 (n := 140) rfl (fun s24 => ?_)
      refine tw_iinc 5 (fun x25 => [(5, .int x25), (0, .ref E.2.1), (1, .int v1), (2, .int v2), (3, .int v3), (4, .int v4)]) dX2_laysMet_140 rfl rfl (by decide) (fun _ => rfl) (n := 143) rfl (fun x25 => ?_)
      refine x_goto dX2_laysMet_143 (n := 89) (by decide) ?_
      refine x_sub [1, 2, 3, 4, 5, 0] [(0, .ref E.2.1), (1, .int v1), (2, .int v2), (3, .int v3), (4, .int v4), (5, .int x25)] rfl ?_
      exact hk89 v1 v2 v3 v4 x25 s24
theorem T_laysMet_89_lp {G : xG} {E : TE} (hO : xOK G) (hE : tok E)  {k25 : Int32 × Int32 × Int32 × TS → Option (xO × TS)} (hk25 : ∀ (v1 : Int32) (v2 : Int32) (v3 : Int32) (s0 : TS), XT G E "ForestLegsModel" "laysMet" cX2_laysMet 6 (Option.none : Option Jvm.ClassFile.FieldType) 3 25 [(0, .ref E.2.1), (1, .int v1), (2, .int v2), (3, .int v3)] [] s0 (k25 (v1, v2, v3, s0))) (n : Nat) (v1 : Int32) (v2 : Int32) (v3 : Int32) (v4 : Int32) (v5 : Int32) (s0 : TS) : XT G E "ForestLegsModel" "laysMet" cX2_laysMet 6 (Option.none : Option Jvm.ClassFile.FieldType) 3 89 [(0, .ref E.2.1), (1, .int v1), (2, .int v2), (3, .int v3), (4, .int v4), (5, .int v5)] [] s0 (lp (T_laysMet_89F k25) n (v1, v2, v3, v4, v5, s0)) :=
  lp_ok (W := fun p K => XT G E "ForestLegsModel" "laysMet" cX2_laysMet 6 (Option.none : Option Jvm.ClassFile.FieldType) 3 89 [(0, .ref E.2.1), (1, .int p.1), (2, .int p.2.1), (3, .int p.2.2.1), (4, .int p.2.2.2.1), (5, .int p.2.2.2.2.1)] [] p.2.2.2.2.2 K) (fun _ => tw_no) (fun k hk => fun (v1, v2, v3, v4, v5, s0) => T_laysMet_89F_ok hO hE hk25 (fun v1 v2 v3 v4 v5 s0 => hk (v1, v2, v3, v4, v5, s0)) v1 v2 v3 v4 v5 s0) n (v1, v2, v3, v4, v5, s0)
theorem T_laysMet_25F_ok {G : xG} {E : TE} (hO : xOK G) (hE : tok E)  {k7 : Int32 × Int32 × TS → Option (xO × TS)} (hk7 : ∀ (v1 : Int32) (v2 : Int32) (s0 : TS), XT G E "ForestLegsModel" "laysMet" cX2_laysMet 6 (Option.none : Option Jvm.ClassFile.FieldType) 3 7 [(0, .ref E.2.1), (1, .int v1), (2, .int v2)] [] s0 (k7 (v1, v2, s0))) {k25 : Int32 × Int32 × Int32 × TS → Option (xO × TS)} (hk25 : ∀ (v1 : Int32) (v2 : Int32) (v3 : Int32) (s0 : TS), XT G E "ForestLegsModel" "laysMet" cX2_laysMet 6 (Option.none : Option Jvm.ClassFile.FieldType) 3 25 [(0, .ref E.2.1), (1, .int v1), (2, .int v2), (3, .int v3)] [] s0 (k25 (v1, v2, v3, s0))) (v1 : Int32) (v2 : Int32) (v3 : Int32) (s0 : TS) : XT G E "ForestLegsModel" "laysMet" cX2_laysMet 6 (Option.none : Option Jvm.ClassFile.FieldType) 3 25 [(0, .ref E.2.1), (1, .int v1), (2, .int v2), (3, .int v3)] [] s0 (T_laysMet_25F k7 k25 (v1, v2, v3, s0)) := by
  unfold T_laysMet_25F
  refine x_iload_n 3 dX2_laysMet_25 rfl rfl (n := 26) rfl ?_
  refine x_aload_nr 0 dX2_laysMet_26 rfl rfl (n := 27) rfl ?_
  refine tw_getA fl_X2_17 rfl (by decide) dX2_laysMet_27 (n := 30) rfl ?_
  refine x_iconst 4 dX2_laysMet_30 rfl (n := 31) rfl ?_
  refine x_aload_nr 0 dX2_laysMet_31 rfl rfl (n := 32) rfl ?_
  refine tw_getA fl_X2_17 rfl (by decide) dX2_laysMet_32 (n := 35) rfl ?_
  refine x_bipush 37 dX2_laysMet_35 rfl (n := 37) rfl ?_
  refine x_iload_n 2 dX2_laysMet_37 rfl rfl (n := 38) rfl ?_
  refine x_iadd dX2_laysMet_38 (n := 39) rfl ?_
  refine tw_iald hE (by decide) dX2_laysMet_39 (n := 40) rfl (fun x5 => ?_)
  refine x_iadd dX2_laysMet_40 (n := 41) rfl ?_
  refine tw_iald hE (by decide) dX2_laysMet_41 (n := 42) rfl (fun x6 => ?_)
  refine tw_icmp_ge dX2_laysMet_42 (t := 179) (by decide) (n := 45) rfl ?_ ?_
  · refine tw_iinc 2 (fun x7 => [(2, .int x7), (0, .ref E.2.1), (1, .int v1), (3, .int v3)]) dX2_laysMet_179 rfl rfl (by decide) (fun _ => rfl) (n := 182) rfl (fun x7 => ?_)
    refine x_goto dX2_laysMet_182 (n := 7) (by decide) ?_
    refine x_sub [1, 2, 0] [(0, .ref E.2.1), (1, .int v1), (2, .int x7)] rfl ?_
    exact hk7 v1 x7 s0
  · refine x_aload_nr 0 dX2_laysMet_45 rfl rfl (n := 46) rfl ?_
    refine tw_getA fl_X2_32 rfl (by decide) dX2_laysMet_46 (n := 49) rfl ?_
    refine x_iload_n 3 dX2_laysMet_49 rfl rfl (n := 50) rfl ?_
    refine tw_iald hE (by decide) dX2_laysMet_50 (n := 51) rfl (fun x8 => ?_)
    refine x_iconst (-1) dX2_laysMet_51 rfl (n := 52) rfl ?_
    refine tw_icmp_eq dX2_laysMet_52 (t := 173) (by decide) (n := 55) rfl ?_ ?_
    · exact T_laysMet_173_ok hO hE hk25 v1 v2 v3 s0
    · refine x_aload_nr 0 dX2_laysMet_55 rfl rfl (n := 56) rfl ?_
      refine x_iload_n 2 dX2_laysMet_56 rfl rfl (n := 57) rfl ?_
      refine x_aload_nr 0 dX2_laysMet_57 rfl rfl (n := 58) rfl ?_
      refine tw_getA fl_X2_32 rfl (by decide) dX2_laysMet_58 (n := 61) rfl ?_
      refine x_iload_n 3 dX2_laysMet_61 rfl rfl (n := 62) rfl ?_
      refine tw_iald hE (by decide) dX2_laysMet_62 (n := 63) rfl (fun x10 => ?_)
      refine tw_callV_I [.int v2, .int x10] [] (T_punchCode_ok hO hE s0 v2 x10) md_X2_punchCode q3151 q3153 qs86 dX2_laysMet_63 rfl rfl (by decide) (Nat.le_of_ble_eq_true rfl) (n := 66) rfl (fun x12 s11 => ?_)
      refine x_iload_n 1 dX2_laysMet_66 rfl rfl (n := 67) rfl ?_
      refine tw_icmp_ne dX2_laysMet_67 (t := 173) (by decide) (n := 70) rfl ?_ ?_
      · exact T_laysMet_173_ok hO hE hk25 v1 v2 v3 s11
      · refine x_aload_nr 0 dX2_laysMet_70 rfl rfl (n := 71) rfl ?_
        refine x_iload_n 2 dX2_laysMet_71 rfl rfl (n := 72) rfl ?_
        refine x_aload_nr 0 dX2_laysMet_72 rfl rfl (n := 73) rfl ?_
        refine tw_getA fl_X2_32 rfl (by decide) dX2_laysMet_73 (n := 76) rfl ?_
        refine x_iload_n 3 dX2_laysMet_76 rfl rfl (n := 77) rfl ?_
        refine tw_iald hE (by decide) dX2_laysMet_77 (n := 78) rfl (fun x13 => ?_)
        refine tw_callV_I [.int v2, .int x13] [] (T_punchTime_ok hO hE s11 v2 x13) md_X2_punchTime q3187 q3189 qs94 dX2_laysMet_78 rfl rfl (by decide) (Nat.le_of_ble_eq_true rfl) (n := 81) rfl (fun x15 s14 => ?_)
        refine x_istore [(4, .int x15), (0, .ref E.2.1), (1, .int v1), (2, .int v2), (3, .int v3)] dX2_laysMet_81 (by decide) rfl (n := 83) rfl ?_
        refine x_aload_nr 1 dX2_laysMet_83 rfl rfl (n := 84) rfl ?_
        refine tw_getI fl_X2_294 rfl (by decide) dX2_laysMet_84 (n := 87) rfl ?_
        refine tw_nm (fun x16 => ?_)
        refine x_istore [(5, .int x16), (4, .int x15), (0, .ref E.2.1), (1, .int v1), (2, .int v2), (3, .int v3)] dX2_laysMet_87 (by decide) rfl (n := 89) rfl ?_
        refine x_sub [2, 3, 4, 5, 1, 0] [(0, .ref E.2.1), (1, .int v1), (2, .int v2), (3, .int v3), (4, .int x15), (5, .int x16)] rfl ?_
        exact T_laysMet_89_lp hO hE hk25 FU v1 v2 v3 x15 x16 s14
theorem T_laysMet_25_lp {G : xG} {E : TE} (hO : xOK G) (hE : tok E)  {k7 : Int32 × Int32 × TS → Option (xO × TS)} (hk7 : ∀ (v1 : Int32) (v2 : Int32) (s0 : TS), XT G E "ForestLegsModel" "laysMet" cX2_laysMet 6 (Option.none : Option Jvm.ClassFile.FieldType) 3 7 [(0, .ref E.2.1), (1, .int v1), (2, .int v2)] [] s0 (k7 (v1, v2, s0))) (n : Nat) (v1 : Int32) (v2 : Int32) (v3 : Int32) (s0 : TS) : XT G E "ForestLegsModel" "laysMet" cX2_laysMet 6 (Option.none : Option Jvm.ClassFile.FieldType) 3 25 [(0, .ref E.2.1), (1, .int v1), (2, .int v2), (3, .int v3)] [] s0 (lp (T_laysMet_25F k7) n (v1, v2, v3, s0)) :=
  lp_ok (W := fun p K => XT G E "ForestLegsModel" "laysMet" cX2_laysMet 6 (Option.none : Option Jvm.ClassFile.FieldType) 3 25 [(0, .ref E.2.1), (1, .int p.1), (2, .int p.2.1), (3, .int p.2.2.1)] [] p.2.2.2 K) (fun _ => tw_no) (fun k hk => fun (v1, v2, v3, s0) => T_laysMet_25F_ok hO hE hk7 (fun v1 v2 v3 s0 => hk (v1, v2, v3, s0)) v1 v2 v3 s0) n (v1, v2, v3, s0)
theorem T_laysMet_7F_ok {G : xG} {E : TE} (hO : xOK G) (hE : tok E)   {k7 : Int32 × Int32 × TS → Option (xO × TS)} (hk7 : ∀ (v1 : Int32) (v2 : Int32) (s0 : TS), XT G E "ForestLegsModel" "laysMet" cX2_laysMet 6 (Option.none : Option Jvm.ClassFile.FieldType) 3 7 [(0, .ref E.2.1), (1, .int v1), (2, .int v2)] [] s0 (k7 (v1, v2, s0))) (v1 : Int32) (v2 : Int32) (s0 : TS) : XT G E "ForestLegsModel" "laysMet" cX2_laysMet 6 (Option.none : Option Jvm.ClassFile.FieldType) 3 7 [(0, .ref E.2.1), (1, .int v1), (2, .int v2)] [] s0 (T_laysMet_7F k7 (v1, v2, s0)) := by
  unfold T_laysMet_7F
  refine x_iload_n 2 dX2_laysMet_7 rfl rfl (n := 8) rfl ?_
  refine x_aload_nr 0 dX2_laysMet_8 rfl rfl (n := 9) rfl ?_
  refine tw_getA fl_X2_17 rfl (by decide) dX2_laysMet_9 (n := 12) rfl ?_
  refine x_iconst 1 dX2_laysMet_12 rfl (n := 13) rfl ?_
  refine tw_iald hE (by decide) dX2_laysMet_13 (n := 14) rfl (fun x2 => ?_)
  refine tw_icmp_ge dX2_laysMet_14 (t := 185) (by decide) (n := 17) rfl ?_ ?_
  · exact tw_return dX2_laysMet_185
  · refine x_aload_nr 0 dX2_laysMet_17 rfl rfl (n := 18) rfl ?_
    refine x_iload_n 2 dX2_laysMet_18 rfl rfl (n := 19) rfl ?_
    refine tw_callV_I [.int v2] [] (T_missedBy_ok hO hE s0 v2) md_X2_missedBy q3136 q3138 qs83 dX2_laysMet_19 rfl rfl (by decide) (Nat.le_of_ble_eq_true rfl) (n := 22) rfl (fun x4 s3 => ?_)
    refine x_pop dX2_laysMet_22 rfl (n := 23) rfl ?_
    refine x_iconst 0 dX2_laysMet_23 rfl (n := 24) rfl ?_
    refine x_istore_n [(3, .int 0), (0, .ref E.2.1), (1, .int v1), (2, .int v2)] dX2_laysMet_24 rfl (by decide) rfl (n := 25) rfl ?_
    refine x_sub [1, 2, 3, 0] [(0, .ref E.2.1), (1, .int v1), (2, .int v2), (3, .int 0)] rfl ?_
    exact T_laysMet_25_lp hO hE hk7 FU v1 v2 0 s3
theorem T_laysMet_7_lp {G : xG} {E : TE} (hO : xOK G) (hE : tok E)   (n : Nat) (v1 : Int32) (v2 : Int32) (s0 : TS) : XT G E "ForestLegsModel" "laysMet" cX2_laysMet 6 (Option.none : Option Jvm.ClassFile.FieldType) 3 7 [(0, .ref E.2.1), (1, .int v1), (2, .int v2)] [] s0 (lp (T_laysMet_7F) n (v1, v2, s0)) :=
  lp_ok (W := fun p K => XT G E "ForestLegsModel" "laysMet" cX2_laysMet 6 (Option.none : Option Jvm.ClassFile.FieldType) 3 7 [(0, .ref E.2.1), (1, .int p.1), (2, .int p.2.1)] [] p.2.2 K) (fun _ => tw_no) (fun k hk => fun (v1, v2, s0) => T_laysMet_7F_ok hO hE (fun v1 v2 s0 => hk (v1, v2, s0)) v1 v2 s0) n (v1, v2, s0)
theorem T_laysMet_ok {G : xG} {E : TE} (hO : xOK G) (hE : tok E) (s0 : TS) (a1 : Int32) : CTT G E 3 yX2_laysMet cX2_laysMet 6 (Option.none : Option Jvm.ClassFile.FieldType) [.ref E.2.1, .int a1] s0 (T_laysMet s0 a1) := by
  refine CT_of hO (by decide +kernel) (by decide +kernel) (Nat.le_of_ble_eq_true rfl) ?_
  show XT G E "ForestLegsModel" "laysMet" cX2_laysMet 6 (Option.none : Option Jvm.ClassFile.FieldType) 3 0 [(0, .ref E.2.1), (1, .int a1)] [] s0 (T_laysMet s0 a1)
  refine x_aload_nr 0 dX2_laysMet_0 rfl rfl (n := 1) rfl ?_
  refine x_iconst 0 dX2_laysMet_1 rfl (n := 2) rfl ?_
  refine tw_put (pl_X2_294 _ _ ⟨rfl, rfl⟩) rfl (by decide) dX2_laysMet_2 (n := 5) rfl (fun s1 => ?_)
  refine x_iconst 0 dX2_laysMet_5 rfl (n := 6) rfl ?_
  refine x_istore_n [(2, .int 0), (0, .ref E.2.1), (1, .int a1)] dX2_laysMet_6 rfl (by decide) rfl (n := 7) rfl ?_
  refine x_sub [1, 2, 0] [(0, .ref E.2.1), (1, .int a1), (2, .int 0)] rfl ?_
  exact T_laysMet_7_lp hO hE FU a1 0 s1
abbrev cX2_findsPack : ByteArray := prog_14_method_85_code
def yX2_findsPack : MethodName := ⟨RX2, "findsPack", "(I)Z"⟩
def dkwX2_findsPack_3 : List UInt8 := [29, 181, 1, 41, 42, 21, 4, 181, 1, 44, 4, 172, 132, 2, 255, 21, 4, 62, 167, 255, 171, 3, 172]
abbrev dktX2_findsPack_3 : List UInt8 := dkwX2_findsPack_3 ++ []
def dkwX2_findsPack_2 : List UInt8 := [5, 46, 163, 0, 9, 132, 4, 1, 167, 255, 218, 21, 4, 29, 100, 4, 164, 0, 23, 28, 154, 0, 16, 42]
abbrev dktX2_findsPack_2 : List UInt8 := dkwX2_findsPack_2 ++ dktX2_findsPack_3
def dkwX2_findsPack_1 : List UInt8 := [162, 0, 35, 42, 180, 0, 41, 21, 4, 46, 42, 180, 0, 41, 21, 4, 4, 100, 46, 100, 42, 180, 0, 17]
abbrev dktX2_findsPack_1 : List UInt8 := dkwX2_findsPack_1 ++ dktX2_findsPack_2
def dkwX2_findsPack_0 : List UInt8 := [27, 61, 3, 62, 29, 42, 180, 1, 38, 162, 0, 83, 29, 4, 96, 54, 4, 21, 4, 42, 180, 1, 38]
abbrev dktX2_findsPack_0 : List UInt8 := dkwX2_findsPack_0 ++ dktX2_findsPack_1
theorem dksX2_findsPack_0 : cX2_findsPack.data.toList.drop 0 = dktX2_findsPack_0 := by decide +kernel
theorem dksX2_findsPack_1 : cX2_findsPack.data.toList.drop 23 = dktX2_findsPack_1 := dk_seg dksX2_findsPack_0 23 rfl rfl
theorem dksX2_findsPack_2 : cX2_findsPack.data.toList.drop 47 = dktX2_findsPack_2 := dk_seg dksX2_findsPack_1 24 rfl rfl
theorem dksX2_findsPack_3 : cX2_findsPack.data.toList.drop 71 = dktX2_findsPack_3 := dk_seg dksX2_findsPack_2 24 rfl rfl
theorem dX2_findsPack_0 : decode cX2_findsPack 0 = .ok (.iload_n 1, 1) := dk_27 (dk_at dksX2_findsPack_0 0 rfl rfl)
theorem dX2_findsPack_1 : decode cX2_findsPack 1 = .ok (.istore_n 2, 1) := dk_61 (dk_at dksX2_findsPack_0 1 rfl rfl)
theorem dX2_findsPack_2 : decode cX2_findsPack 2 = .ok (.iconst 0, 1) := dk_3 (dk_at dksX2_findsPack_0 2 rfl rfl)
theorem dX2_findsPack_3 : decode cX2_findsPack 3 = .ok (.istore_n 3, 1) := dk_62 (dk_at dksX2_findsPack_0 3 rfl rfl)
theorem dX2_findsPack_4 : decode cX2_findsPack 4 = .ok (.iload_n 3, 1) := dk_29 (dk_at dksX2_findsPack_0 4 rfl rfl)
theorem dX2_findsPack_5 : decode cX2_findsPack 5 = .ok (.aload_n 0, 1) := dk_42 (dk_at dksX2_findsPack_0 5 rfl rfl)
theorem dX2_findsPack_6 : decode cX2_findsPack 6 = .ok (.getfield 294, 3) := dk_180 1 38 (dk_at dksX2_findsPack_0 6 rfl rfl)
theorem dX2_findsPack_9 : decode cX2_findsPack 9 = .ok (.if_icmp .ge 83, 3) := dk_162 0 83 (dk_at dksX2_findsPack_0 9 rfl rfl)
theorem dX2_findsPack_12 : decode cX2_findsPack 12 = .ok (.iload_n 3, 1) := dk_29 (dk_at dksX2_findsPack_0 12 rfl rfl)
theorem dX2_findsPack_13 : decode cX2_findsPack 13 = .ok (.iconst 1, 1) := dk_4 (dk_at dksX2_findsPack_0 13 rfl rfl)
theorem dX2_findsPack_14 : decode cX2_findsPack 14 = .ok (.iadd, 1) := dk_96 (dk_at dksX2_findsPack_0 14 rfl rfl)
theorem dX2_findsPack_15 : decode cX2_findsPack 15 = .ok (.istore 4, 2) := dk_54 4 (dk_at dksX2_findsPack_0 15 rfl rfl)
theorem dX2_findsPack_17 : decode cX2_findsPack 17 = .ok (.iload 4, 2) := dk_21 4 (dk_at dksX2_findsPack_0 17 rfl rfl)
theorem dX2_findsPack_19 : decode cX2_findsPack 19 = .ok (.aload_n 0, 1) := dk_42 (dk_at dksX2_findsPack_0 19 rfl rfl)
theorem dX2_findsPack_20 : decode cX2_findsPack 20 = .ok (.getfield 294, 3) := dk_180 1 38 (dk_at dksX2_findsPack_0 20 rfl rfl)
theorem dX2_findsPack_23 : decode cX2_findsPack 23 = .ok (.if_icmp .ge 35, 3) := dk_162 0 35 (dk_at dksX2_findsPack_1 0 rfl rfl)
theorem dX2_findsPack_26 : decode cX2_findsPack 26 = .ok (.aload_n 0, 1) := dk_42 (dk_at dksX2_findsPack_1 3 rfl rfl)
theorem dX2_findsPack_27 : decode cX2_findsPack 27 = .ok (.getfield 41, 3) := dk_180 0 41 (dk_at dksX2_findsPack_1 4 rfl rfl)
theorem dX2_findsPack_30 : decode cX2_findsPack 30 = .ok (.iload 4, 2) := dk_21 4 (dk_at dksX2_findsPack_1 7 rfl rfl)
theorem dX2_findsPack_32 : decode cX2_findsPack 32 = .ok (.iaload, 1) := dk_46 (dk_at dksX2_findsPack_1 9 rfl rfl)
theorem dX2_findsPack_33 : decode cX2_findsPack 33 = .ok (.aload_n 0, 1) := dk_42 (dk_at dksX2_findsPack_1 10 rfl rfl)
theorem dX2_findsPack_34 : decode cX2_findsPack 34 = .ok (.getfield 41, 3) := dk_180 0 41 (dk_at dksX2_findsPack_1 11 rfl rfl)
theorem dX2_findsPack_37 : decode cX2_findsPack 37 = .ok (.iload 4, 2) := dk_21 4 (dk_at dksX2_findsPack_1 14 rfl rfl)
theorem dX2_findsPack_39 : decode cX2_findsPack 39 = .ok (.iconst 1, 1) := dk_4 (dk_at dksX2_findsPack_1 16 rfl rfl)
theorem dX2_findsPack_40 : decode cX2_findsPack 40 = .ok (.isub, 1) := dk_100 (dk_at dksX2_findsPack_1 17 rfl rfl)
theorem dX2_findsPack_41 : decode cX2_findsPack 41 = .ok (.iaload, 1) := dk_46 (dk_at dksX2_findsPack_1 18 rfl rfl)
theorem dX2_findsPack_42 : decode cX2_findsPack 42 = .ok (.isub, 1) := dk_100 (dk_at dksX2_findsPack_1 19 rfl rfl)
theorem dX2_findsPack_43 : decode cX2_findsPack 43 = .ok (.aload_n 0, 1) := dk_42 (dk_at dksX2_findsPack_1 20 rfl rfl)
theorem dX2_findsPack_44 : decode cX2_findsPack 44 = .ok (.getfield 17, 3) := dk_180 0 17 (dk_at dksX2_findsPack_1 21 rfl rfl)
theorem dX2_findsPack_47 : decode cX2_findsPack 47 = .ok (.iconst 2, 1) := dk_5 (dk_at dksX2_findsPack_2 0 rfl rfl)
theorem dX2_findsPack_48 : decode cX2_findsPack 48 = .ok (.iaload, 1) := dk_46 (dk_at dksX2_findsPack_2 1 rfl rfl)
theorem dX2_findsPack_49 : decode cX2_findsPack 49 = .ok (.if_icmp .gt 9, 3) := dk_163 0 9 (dk_at dksX2_findsPack_2 2 rfl rfl)
theorem dX2_findsPack_52 : decode cX2_findsPack 52 = .ok (.iinc 4 1, 3) := dk_132 4 1 (dk_at dksX2_findsPack_2 5 rfl rfl)
theorem dX2_findsPack_55 : decode cX2_findsPack 55 = .ok (.goto (-38), 3) := dk_167 255 218 (dk_at dksX2_findsPack_2 8 rfl rfl)
theorem dX2_findsPack_58 : decode cX2_findsPack 58 = .ok (.iload 4, 2) := dk_21 4 (dk_at dksX2_findsPack_2 11 rfl rfl)
theorem dX2_findsPack_60 : decode cX2_findsPack 60 = .ok (.iload_n 3, 1) := dk_29 (dk_at dksX2_findsPack_2 13 rfl rfl)
theorem dX2_findsPack_61 : decode cX2_findsPack 61 = .ok (.isub, 1) := dk_100 (dk_at dksX2_findsPack_2 14 rfl rfl)
theorem dX2_findsPack_62 : decode cX2_findsPack 62 = .ok (.iconst 1, 1) := dk_4 (dk_at dksX2_findsPack_2 15 rfl rfl)
theorem dX2_findsPack_63 : decode cX2_findsPack 63 = .ok (.if_icmp .le 23, 3) := dk_164 0 23 (dk_at dksX2_findsPack_2 16 rfl rfl)
theorem dX2_findsPack_66 : decode cX2_findsPack 66 = .ok (.iload_n 2, 1) := dk_28 (dk_at dksX2_findsPack_2 19 rfl rfl)
theorem dX2_findsPack_67 : decode cX2_findsPack 67 = .ok (.ifCond .ne 16, 3) := dk_154 0 16 (dk_at dksX2_findsPack_2 20 rfl rfl)
theorem dX2_findsPack_70 : decode cX2_findsPack 70 = .ok (.aload_n 0, 1) := dk_42 (dk_at dksX2_findsPack_2 23 rfl rfl)
theorem dX2_findsPack_71 : decode cX2_findsPack 71 = .ok (.iload_n 3, 1) := dk_29 (dk_at dksX2_findsPack_3 0 rfl rfl)
theorem dX2_findsPack_72 : decode cX2_findsPack 72 = .ok (.putfield 297, 3) := dk_181 1 41 (dk_at dksX2_findsPack_3 1 rfl rfl)
theorem dX2_findsPack_75 : decode cX2_findsPack 75 = .ok (.aload_n 0, 1) := dk_42 (dk_at dksX2_findsPack_3 4 rfl rfl)
theorem dX2_findsPack_76 : decode cX2_findsPack 76 = .ok (.iload 4, 2) := dk_21 4 (dk_at dksX2_findsPack_3 5 rfl rfl)
theorem dX2_findsPack_78 : decode cX2_findsPack 78 = .ok (.putfield 300, 3) := dk_181 1 44 (dk_at dksX2_findsPack_3 7 rfl rfl)
theorem dX2_findsPack_81 : decode cX2_findsPack 81 = .ok (.iconst 1, 1) := dk_4 (dk_at dksX2_findsPack_3 10 rfl rfl)
theorem dX2_findsPack_82 : decode cX2_findsPack 82 = .ok (.ireturn, 1) := dk_172 (dk_at dksX2_findsPack_3 11 rfl rfl)
theorem dX2_findsPack_83 : decode cX2_findsPack 83 = .ok (.iinc 2 (-1), 3) := dk_132 2 255 (dk_at dksX2_findsPack_3 12 rfl rfl)
theorem dX2_findsPack_86 : decode cX2_findsPack 86 = .ok (.iload 4, 2) := dk_21 4 (dk_at dksX2_findsPack_3 15 rfl rfl)
theorem dX2_findsPack_88 : decode cX2_findsPack 88 = .ok (.istore_n 3, 1) := dk_62 (dk_at dksX2_findsPack_3 17 rfl rfl)
theorem dX2_findsPack_89 : decode cX2_findsPack 89 = .ok (.goto (-85), 3) := dk_167 255 171 (dk_at dksX2_findsPack_3 18 rfl rfl)
theorem dX2_findsPack_92 : decode cX2_findsPack 92 = .ok (.iconst 0, 1) := dk_3 (dk_at dksX2_findsPack_3 21 rfl rfl)
theorem dX2_findsPack_93 : decode cX2_findsPack 93 = .ok (.ireturn, 1) := dk_172 (dk_at dksX2_findsPack_3 22 rfl rfl)
theorem md_X2_findsPack : xMd yX2_findsPack cX2_findsPack 5 (Option.some Jvm.ClassFile.FieldType.boolean) 1 := ⟨q3349, q126, by decide, by decide +kernel, by decide +kernel, by decide +kernel⟩
def T_findsPack_86  (k4 : Int32 × Int32 × TS → Option (xO × TS)) (v2 : Int32) (v4 : Int32) (s0 : TS) : Option (xO × TS) :=
  (k4 (v2, v4, s0))
def T_findsPack_58  (k4 : Int32 × Int32 × TS → Option (xO × TS)) (v2 : Int32) (v3 : Int32) (v4 : Int32) (s0 : TS) : Option (xO × TS) :=
  (if (v4 - v3) ≤ 1 then
  (T_findsPack_86 k4 v2 v4 s0) else
  (if v2 = 0 then
  (bnd (tI s0 28 v3) fun s3 =>
  (bnd (tI s3 29 v4) fun s4 =>
  (if vp_nar .boolean 1 = 1 then rI 1 s4 else none))) else
  (bnd (v2 + (-1)) fun x2 =>
  (T_findsPack_86 k4 x2 v4 s0))))
def T_findsPack_17F  (k4 : Int32 × Int32 × TS → Option (xO × TS)) (k17 : Int32 × Int32 × Int32 × TS → Option (xO × TS)) (p : Int32 × Int32 × Int32 × TS) : Option (xO × TS) := match p with
  | (v2, v3, v4, s0) => (if (s0.1 27) ≤ v4 then
  (T_findsPack_58 k4 v2 v3 v4 s0) else
  (tald s0 25 v4 fun x5 =>
  (tald s0 25 (v4 - 1) fun x6 =>
  (tald s0 7 2 fun x7 =>
  (if x7 < (x5 - x6) then
  (T_findsPack_58 k4 v2 v3 v4 s0) else
  (bnd (v4 + 1) fun x8 =>
  (k17 (v2, v3, x8, s0))))))))
def T_findsPack_4F   (k4 : Int32 × Int32 × TS → Option (xO × TS)) (p : Int32 × Int32 × TS) : Option (xO × TS) := match p with
  | (v2, v3, s0) => (if (s0.1 27) ≤ v3 then
  (if vp_nar .boolean 0 = 0 then rI 0 s0 else none) else
  (bnd (v3 + 1) fun x1 =>
  (lp (T_findsPack_17F k4) FU (v2, v3, x1, s0))))
def T_findsPack (s0 : TS) (a1 : Int32) : Option (xO × TS) :=
  (lp (T_findsPack_4F) FU (a1, 0, s0))
theorem T_findsPack_86_ok {G : xG} {E : TE} (hO : xOK G) (hE : tok E)  {k4 : Int32 × Int32 × TS → Option (xO × TS)} (hk4 : ∀ (v2 : Int32) (v3 : Int32) (s0 : TS), XT G E "ForestLegsModel" "findsPack" cX2_findsPack 5 (Option.some Jvm.ClassFile.FieldType.boolean) 0 4 [(0, .ref E.2.1), (2, .int v2), (3, .int v3)] [] s0 (k4 (v2, v3, s0))) (v2 : Int32) (v4 : Int32) (s0 : TS) : XT G E "ForestLegsModel" "findsPack" cX2_findsPack 5 (Option.some Jvm.ClassFile.FieldType.boolean) 0 86 [(0, .ref E.2.1), (2, .int v2), (4, .int v4)] [] s0 (T_findsPack_86 k4 v2 v4 s0) := by
  unfold T_findsPack_86
  refine x_iload 2 dX2_findsPack_86 rfl (n := 88) rfl ?_
  refine x_istore_n [(3, .int v4), (0, .ref E.2.1), (2, .int v2), (4, .int v4)] dX2_findsPack_88 rfl (by decide) rfl (n := 89) rfl ?_
  refine x_goto dX2_findsPack_89 (n := 4) (by decide) ?_
  refine x_sub [1, 2, 0] [(0, .ref E.2.1), (2, .int v2), (3, .int v4)] rfl ?_
  exact hk4 v2 v4 s0
theorem T_findsPack_58_ok {G : xG} {E : TE} (hO : xOK G) (hE : tok E)  {k4 : Int32 × Int32 × TS → Option (xO × TS)} (hk4 : ∀ (v2 : Int32) (v3 : Int32) (s0 : TS), XT G E "ForestLegsModel" "findsPack" cX2_findsPack 5 (Option.some Jvm.ClassFile.FieldType.boolean) 0 4 [(0, .ref E.2.1), (2, .int v2), (3, .int v3)] [] s0 (k4 (v2, v3, s0))) (v2 : Int32) (v3 : Int32) (v4 : Int32) (s0 : TS) : XT G E "ForestLegsModel" "findsPack" cX2_findsPack 5 (Option.some Jvm.ClassFile.FieldType.boolean) 0 58 [(0, .ref E.2.1), (2, .int v2), (3, .int v3), (4, .int v4)] [] s0 (T_findsPack_58 k4 v2 v3 v4 s0) := by
  unfold T_findsPack_58
  refine x_iload 3 dX2_findsPack_58 rfl (n := 60) rfl ?_
  refine x_iload_n 2 dX2_findsPack_60 rfl rfl (n := 61) rfl ?_
  refine x_isub dX2_findsPack_61 (n := 62) rfl ?_
  refine x_iconst 1 dX2_findsPack_62 rfl (n := 63) rfl ?_
  refine tw_icmp_le dX2_findsPack_63 (t := 86) (by decide) (n := 66) rfl ?_ ?_
  · refine x_sub [0, 1, 3] [(0, .ref E.2.1), (2, .int v2), (4, .int v4)] rfl ?_
    exact T_findsPack_86_ok hO hE hk4 v2 v4 s0
  · refine x_iload_n 1 dX2_findsPack_66 rfl rfl (n := 67) rfl ?_
    refine tw_if_ne dX2_findsPack_67 (t := 83) (by decide) (n := 70) rfl ?_ ?_
    · refine tw_iinc 1 (fun x2 => [(2, .int x2), (0, .ref E.2.1), (3, .int v3), (4, .int v4)]) dX2_findsPack_83 rfl rfl (by decide) (fun _ => rfl) (n := 86) rfl (fun x2 => ?_)
      refine x_sub [1, 0, 3] [(0, .ref E.2.1), (2, .int x2), (4, .int v4)] rfl ?_
      exact T_findsPack_86_ok hO hE hk4 x2 v4 s0
    · refine x_aload_nr 0 dX2_findsPack_70 rfl rfl (n := 71) rfl ?_
      refine x_iload_n 2 dX2_findsPack_71 rfl rfl (n := 72) rfl ?_
      refine tw_put (pl_X2_297 _ _ ⟨rfl, rfl⟩) rfl (by decide) dX2_findsPack_72 (n := 75) rfl (fun s3 => ?_)
      refine x_aload_nr 0 dX2_findsPack_75 rfl rfl (n := 76) rfl ?_
      refine x_iload 3 dX2_findsPack_76 rfl (n := 78) rfl ?_
      refine tw_put (pl_X2_300 _ _ ⟨rfl, rfl⟩) rfl (by decide) dX2_findsPack_78 (n := 81) rfl (fun s4 => ?_)
      refine x_iconst 1 dX2_findsPack_81 rfl (n := 82) rfl ?_
      exact tw_zreturn rfl dX2_findsPack_82
theorem T_findsPack_17F_ok {G : xG} {E : TE} (hO : xOK G) (hE : tok E)  {k4 : Int32 × Int32 × TS → Option (xO × TS)} (hk4 : ∀ (v2 : Int32) (v3 : Int32) (s0 : TS), XT G E "ForestLegsModel" "findsPack" cX2_findsPack 5 (Option.some Jvm.ClassFile.FieldType.boolean) 0 4 [(0, .ref E.2.1), (2, .int v2), (3, .int v3)] [] s0 (k4 (v2, v3, s0))) {k17 : Int32 × Int32 × Int32 × TS → Option (xO × TS)} (hk17 : ∀ (v2 : Int32) (v3 : Int32) (v4 : Int32) (s0 : TS), XT G E "ForestLegsModel" "findsPack" cX2_findsPack 5 (Option.some Jvm.ClassFile.FieldType.boolean) 0 17 [(0, .ref E.2.1), (2, .int v2), (3, .int v3), (4, .int v4)] [] s0 (k17 (v2, v3, v4, s0))) (v2 : Int32) (v3 : Int32) (v4 : Int32) (s0 : TS) : XT G E "ForestLegsModel" "findsPack" cX2_findsPack 5 (Option.some Jvm.ClassFile.FieldType.boolean) 0 17 [(0, .ref E.2.1), (2, .int v2), (3, .int v3), (4, .int v4)] [] s0 (T_findsPack_17F k4 k17 (v2, v3, v4, s0)) := by
  unfold T_findsPack_17F
  refine x_iload 3 dX2_findsPack_17 rfl (n := 19) rfl ?_
  refine x_aload_nr 0 dX2_findsPack_19 rfl rfl (n := 20) rfl ?_
  refine tw_getI fl_X2_294 rfl (by decide) dX2_findsPack_20 (n := 23) rfl ?_
  refine tw_icmp_ge dX2_findsPack_23 (t := 58) (by decide) (n := 26) rfl ?_ ?_
  · exact T_findsPack_58_ok hO hE hk4 v2 v3 v4 s0
  · refine x_aload_nr 0 dX2_findsPack_26 rfl rfl (n := 27) rfl ?_
    refine tw_getA fl_X2_41 rfl (by decide) dX2_findsPack_27 (n := 30) rfl ?_
    refine x_iload 3 dX2_findsPack_30 rfl (n := 32) rfl ?_
    refine tw_iald hE (by decide) dX2_findsPack_32 (n := 33) rfl (fun x5 => ?_)
    refine x_aload_nr 0 dX2_findsPack_33 rfl rfl (n := 34) rfl ?_
    refine tw_getA fl_X2_41 rfl (by decide) dX2_findsPack_34 (n := 37) rfl ?_
    refine x_iload 3 dX2_findsPack_37 rfl (n := 39) rfl ?_
    refine x_iconst 1 dX2_findsPack_39 rfl (n := 40) rfl ?_
    refine x_isub dX2_findsPack_40 (n := 41) rfl ?_
    refine tw_iald hE (by decide) dX2_findsPack_41 (n := 42) rfl (fun x6 => ?_)
    refine x_isub dX2_findsPack_42 (n := 43) rfl ?_
    refine x_aload_nr 0 dX2_findsPack_43 rfl rfl (n := 44) rfl ?_
    refine tw_getA fl_X2_17 rfl (by decide) dX2_findsPack_44 (n := 47) rfl ?_
    refine x_iconst 2 dX2_findsPack_47 rfl (n := 48) rfl ?_
    refine tw_iald hE (by decide) dX2_findsPack_48 (n := 49) rfl (fun x7 => ?_)
    refine tw_icmp_gt dX2_findsPack_49 (t := 58) (by decide) (n := 52) rfl ?_ ?_
    · exact T_findsPack_58_ok hO hE hk4 v2 v3 v4 s0
    · refine tw_iinc 3 (fun x8 => [(4, .int x8), (0, .ref E.2.1), (2, .int v2), (3, .int v3)]) dX2_findsPack_52 rfl rfl (by decide) (fun _ => rfl) (n := 55) rfl (fun x8 => ?_)
      refine x_goto dX2_findsPack_55 (n := 17) (by decide) ?_
      refine x_sub [1, 2, 3, 0] [(0, .ref E.2.1), (2, .int v2), (3, .int v3), (4, .int x8)] rfl ?_
      exact hk17 v2 v3 x8 s0
theorem T_findsPack_17_lp {G : xG} {E : TE} (hO : xOK G) (hE : tok E)  {k4 : Int32 × Int32 × TS → Option (xO × TS)} (hk4 : ∀ (v2 : Int32) (v3 : Int32) (s0 : TS), XT G E "ForestLegsModel" "findsPack" cX2_findsPack 5 (Option.some Jvm.ClassFile.FieldType.boolean) 0 4 [(0, .ref E.2.1), (2, .int v2), (3, .int v3)] [] s0 (k4 (v2, v3, s0))) (n : Nat) (v2 : Int32) (v3 : Int32) (v4 : Int32) (s0 : TS) : XT G E "ForestLegsModel" "findsPack" cX2_findsPack 5 (Option.some Jvm.ClassFile.FieldType.boolean) 0 17 [(0, .ref E.2.1), (2, .int v2), (3, .int v3), (4, .int v4)] [] s0 (lp (T_findsPack_17F k4) n (v2, v3, v4, s0)) :=
  lp_ok (W := fun p K => XT G E "ForestLegsModel" "findsPack" cX2_findsPack 5 (Option.some Jvm.ClassFile.FieldType.boolean) 0 17 [(0, .ref E.2.1), (2, .int p.1), (3, .int p.2.1), (4, .int p.2.2.1)] [] p.2.2.2 K) (fun _ => tw_no) (fun k hk => fun (v2, v3, v4, s0) => T_findsPack_17F_ok hO hE hk4 (fun v2 v3 v4 s0 => hk (v2, v3, v4, s0)) v2 v3 v4 s0) n (v2, v3, v4, s0)
theorem T_findsPack_4F_ok {G : xG} {E : TE} (hO : xOK G) (hE : tok E)   {k4 : Int32 × Int32 × TS → Option (xO × TS)} (hk4 : ∀ (v2 : Int32) (v3 : Int32) (s0 : TS), XT G E "ForestLegsModel" "findsPack" cX2_findsPack 5 (Option.some Jvm.ClassFile.FieldType.boolean) 0 4 [(0, .ref E.2.1), (2, .int v2), (3, .int v3)] [] s0 (k4 (v2, v3, s0))) (v2 : Int32) (v3 : Int32) (s0 : TS) : XT G E "ForestLegsModel" "findsPack" cX2_findsPack 5 (Option.some Jvm.ClassFile.FieldType.boolean) 0 4 [(0, .ref E.2.1), (2, .int v2), (3, .int v3)] [] s0 (T_findsPack_4F k4 (v2, v3, s0)) := by
  unfold T_findsPack_4F
  refine x_iload_n 2 dX2_findsPack_4 rfl rfl (n := 5) rfl ?_
  refine x_aload_nr 0 dX2_findsPack_5 rfl rfl (n := 6) rfl ?_
  refine tw_getI fl_X2_294 rfl (by decide) dX2_findsPack_6 (n := 9) rfl ?_
  refine tw_icmp_ge dX2_findsPack_9 (t := 92) (by decide) (n := 12) rfl ?_ ?_
  · refine x_iconst 0 dX2_findsPack_92 rfl (n := 93) rfl ?_
    exact tw_zreturn rfl dX2_findsPack_93
  · refine x_iload_n 2 dX2_findsPack_12 rfl rfl (n := 13) rfl ?_
    refine x_iconst 1 dX2_findsPack_13 rfl (n := 14) rfl ?_
    refine x_iadd dX2_findsPack_14 (n := 15) rfl ?_
    refine tw_nm (fun x1 => ?_)
    refine x_istore [(4, .int x1), (0, .ref E.2.1), (2, .int v2), (3, .int v3)] dX2_findsPack_15 (by decide) rfl (n := 17) rfl ?_
    refine x_sub [1, 2, 3, 0] [(0, .ref E.2.1), (2, .int v2), (3, .int v3), (4, .int x1)] rfl ?_
    exact T_findsPack_17_lp hO hE hk4 FU v2 v3 x1 s0
theorem T_findsPack_4_lp {G : xG} {E : TE} (hO : xOK G) (hE : tok E)   (n : Nat) (v2 : Int32) (v3 : Int32) (s0 : TS) : XT G E "ForestLegsModel" "findsPack" cX2_findsPack 5 (Option.some Jvm.ClassFile.FieldType.boolean) 0 4 [(0, .ref E.2.1), (2, .int v2), (3, .int v3)] [] s0 (lp (T_findsPack_4F) n (v2, v3, s0)) :=
  lp_ok (W := fun p K => XT G E "ForestLegsModel" "findsPack" cX2_findsPack 5 (Option.some Jvm.ClassFile.FieldType.boolean) 0 4 [(0, .ref E.2.1), (2, .int p.1), (3, .int p.2.1)] [] p.2.2 K) (fun _ => tw_no) (fun k hk => fun (v2, v3, s0) => T_findsPack_4F_ok hO hE (fun v2 v3 s0 => hk (v2, v3, s0)) v2 v3 s0) n (v2, v3, s0)
theorem T_findsPack_ok {G : xG} {E : TE} (hO : xOK G) (hE : tok E) (s0 : TS) (a1 : Int32) : CTT G E 0 yX2_findsPack cX2_findsPack 5 (Option.some Jvm.ClassFile.FieldType.boolean) [.ref E.2.1, .int a1] s0 (T_findsPack s0 a1) := by
  refine CT_of hO (by decide +kernel) (by decide +kernel) (Nat.le_of_ble_eq_true rfl) ?_
  show XT G E "ForestLegsModel" "findsPack" cX2_findsPack 5 (Option.some Jvm.ClassFile.FieldType.boolean) 0 0 [(0, .ref E.2.1), (1, .int a1)] [] s0 (T_findsPack s0 a1)
  refine x_iload_n 1 dX2_findsPack_0 rfl rfl (n := 1) rfl ?_
  refine x_istore_n [(2, .int a1), (0, .ref E.2.1), (1, .int a1)] dX2_findsPack_1 rfl (by decide) rfl (n := 2) rfl ?_
  refine x_iconst 0 dX2_findsPack_2 rfl (n := 3) rfl ?_
  refine x_istore_n [(3, .int 0), (2, .int a1), (0, .ref E.2.1), (1, .int a1)] dX2_findsPack_3 rfl (by decide) rfl (n := 4) rfl ?_
  refine x_sub [2, 1, 0] [(0, .ref E.2.1), (2, .int a1), (3, .int 0)] rfl ?_
  exact T_findsPack_4_lp hO hE FU a1 0 s0
abbrev cX2_packs : ByteArray := prog_14_method_86_code
def yX2_packs : MethodName := ⟨RX2, "packs", "(I)I"⟩
def dkwX2_packs_1 : List UInt8 := [27, 182, 1, 47, 3, 61, 42, 28, 182, 1, 50, 153, 0, 9, 132, 2, 1, 167, 255, 245, 28, 172]
abbrev dktX2_packs_1 : List UInt8 := dkwX2_packs_1 ++ []
def dkwX2_packs_0 : List UInt8 := [42, 42, 180, 0, 173, 27, 4, 16, 99, 184, 0, 79, 184, 0, 157, 182, 0, 161, 153, 0, 5, 2, 172, 42]
abbrev dktX2_packs_0 : List UInt8 := dkwX2_packs_0 ++ dktX2_packs_1
theorem dksX2_packs_0 : cX2_packs.data.toList.drop 0 = dktX2_packs_0 := by decide +kernel
theorem dksX2_packs_1 : cX2_packs.data.toList.drop 24 = dktX2_packs_1 := dk_seg dksX2_packs_0 24 rfl rfl
theorem dX2_packs_0 : decode cX2_packs 0 = .ok (.aload_n 0, 1) := dk_42 (dk_at dksX2_packs_0 0 rfl rfl)
theorem dX2_packs_1 : decode cX2_packs 1 = .ok (.aload_n 0, 1) := dk_42 (dk_at dksX2_packs_0 1 rfl rfl)
theorem dX2_packs_2 : decode cX2_packs 2 = .ok (.getfield 173, 3) := dk_180 0 173 (dk_at dksX2_packs_0 2 rfl rfl)
theorem dX2_packs_5 : decode cX2_packs 5 = .ok (.iload_n 1, 1) := dk_27 (dk_at dksX2_packs_0 5 rfl rfl)
theorem dX2_packs_6 : decode cX2_packs 6 = .ok (.iconst 1, 1) := dk_4 (dk_at dksX2_packs_0 6 rfl rfl)
theorem dX2_packs_7 : decode cX2_packs 7 = .ok (.bipush 99, 2) := dk_16 99 (dk_at dksX2_packs_0 7 rfl rfl)
theorem dX2_packs_9 : decode cX2_packs 9 = .ok (.invokestatic 79, 3) := dk_184 0 79 (dk_at dksX2_packs_0 9 rfl rfl)
theorem dX2_packs_12 : decode cX2_packs 12 = .ok (.invokestatic 157, 3) := dk_184 0 157 (dk_at dksX2_packs_0 12 rfl rfl)
theorem dX2_packs_15 : decode cX2_packs 15 = .ok (.invokevirtual 161, 3) := dk_182 0 161 (dk_at dksX2_packs_0 15 rfl rfl)
theorem dX2_packs_18 : decode cX2_packs 18 = .ok (.ifCond .eq 5, 3) := dk_153 0 5 (dk_at dksX2_packs_0 18 rfl rfl)
theorem dX2_packs_21 : decode cX2_packs 21 = .ok (.iconst (-1), 1) := dk_2 (dk_at dksX2_packs_0 21 rfl rfl)
theorem dX2_packs_22 : decode cX2_packs 22 = .ok (.ireturn, 1) := dk_172 (dk_at dksX2_packs_0 22 rfl rfl)
theorem dX2_packs_23 : decode cX2_packs 23 = .ok (.aload_n 0, 1) := dk_42 (dk_at dksX2_packs_0 23 rfl rfl)
theorem dX2_packs_24 : decode cX2_packs 24 = .ok (.iload_n 1, 1) := dk_27 (dk_at dksX2_packs_1 0 rfl rfl)
theorem dX2_packs_25 : decode cX2_packs 25 = .ok (.invokevirtual 303, 3) := dk_182 1 47 (dk_at dksX2_packs_1 1 rfl rfl)
theorem dX2_packs_28 : decode cX2_packs 28 = .ok (.iconst 0, 1) := dk_3 (dk_at dksX2_packs_1 4 rfl rfl)
theorem dX2_packs_29 : decode cX2_packs 29 = .ok (.istore_n 2, 1) := dk_61 (dk_at dksX2_packs_1 5 rfl rfl)
theorem dX2_packs_30 : decode cX2_packs 30 = .ok (.aload_n 0, 1) := dk_42 (dk_at dksX2_packs_1 6 rfl rfl)
theorem dX2_packs_31 : decode cX2_packs 31 = .ok (.iload_n 2, 1) := dk_28 (dk_at dksX2_packs_1 7 rfl rfl)
theorem dX2_packs_32 : decode cX2_packs 32 = .ok (.invokevirtual 306, 3) := dk_182 1 50 (dk_at dksX2_packs_1 8 rfl rfl)
theorem dX2_packs_35 : decode cX2_packs 35 = .ok (.ifCond .eq 9, 3) := dk_153 0 9 (dk_at dksX2_packs_1 11 rfl rfl)
theorem dX2_packs_38 : decode cX2_packs 38 = .ok (.iinc 2 1, 3) := dk_132 2 1 (dk_at dksX2_packs_1 14 rfl rfl)
theorem dX2_packs_41 : decode cX2_packs 41 = .ok (.goto (-11), 3) := dk_167 255 245 (dk_at dksX2_packs_1 17 rfl rfl)
theorem dX2_packs_44 : decode cX2_packs 44 = .ok (.iload_n 2, 1) := dk_28 (dk_at dksX2_packs_1 20 rfl rfl)
theorem dX2_packs_45 : decode cX2_packs 45 = .ok (.ireturn, 1) := dk_172 (dk_at dksX2_packs_1 21 rfl rfl)
theorem md_X2_packs : xMd yX2_packs cX2_packs 3 (Option.some Jvm.ClassFile.FieldType.int) 1 := ⟨q3341, q126, by decide, by decide +kernel, by decide +kernel, by decide +kernel⟩
def T_packs_30F   (k30 : Int32 × TS → Option (xO × TS)) (p : Int32 × TS) : Option (xO × TS) := match p with
  | (v2, s0) => (xcI (T_findsPack s0 v2) fun x9 s8 =>
  (if x9 = 0 then
  (rI v2 s8) else
  (bnd (v2 + 1) fun x10 =>
  (k30 (x10, s8)))))
def T_packs (s0 : TS) (a1 : Int32) : Option (xO × TS) :=
  (xcI (T_in s0 a1 1 99) fun x2 s1 =>
  (xcI (T_unless s1 (s0.1 6) x2) fun x4 s3 =>
  (xcI (T_isRefused s3 x4) fun x6 s5 =>
  (if x6 = 0 then
  (xcV (T_laysMet s5 a1) fun s7 =>
  (lp (T_packs_30F) FU (0, s7))) else
  (rI (-1) s5)))))
theorem T_packs_30F_ok {G : xG} {E : TE} (hO : xOK G) (hE : tok E)   {k30 : Int32 × TS → Option (xO × TS)} (hk30 : ∀ (v2 : Int32) (s0 : TS), XT G E "ForestLegsModel" "packs" cX2_packs 3 (Option.some Jvm.ClassFile.FieldType.int) 4 30 [(0, .ref E.2.1), (2, .int v2)] [] s0 (k30 (v2, s0))) (v2 : Int32) (s0 : TS) : XT G E "ForestLegsModel" "packs" cX2_packs 3 (Option.some Jvm.ClassFile.FieldType.int) 4 30 [(0, .ref E.2.1), (2, .int v2)] [] s0 (T_packs_30F k30 (v2, s0)) := by
  unfold T_packs_30F
  refine x_aload_nr 0 dX2_packs_30 rfl rfl (n := 31) rfl ?_
  refine x_iload_n 1 dX2_packs_31 rfl rfl (n := 32) rfl ?_
  refine tw_callV_I [.int v2] [] (T_findsPack_ok hO hE s0 v2) md_X2_findsPack q3346 q3348 qs112 dX2_packs_32 rfl rfl (by decide) (Nat.le_of_ble_eq_true rfl) (n := 35) rfl (fun x9 s8 => ?_)
  refine tw_if_eq dX2_packs_35 (t := 44) (by decide) (n := 38) rfl ?_ ?_
  · refine x_iload_n 1 dX2_packs_44 rfl rfl (n := 45) rfl ?_
    exact tw_ireturn dX2_packs_45
  · refine tw_iinc 1 (fun x10 => [(2, .int x10), (0, .ref E.2.1)]) dX2_packs_38 rfl rfl (by decide) (fun _ => rfl) (n := 41) rfl (fun x10 => ?_)
    refine x_goto dX2_packs_41 (n := 30) (by decide) ?_
    refine x_sub [1, 0] [(0, .ref E.2.1), (2, .int x10)] rfl ?_
    exact hk30 x10 s8
theorem T_packs_30_lp {G : xG} {E : TE} (hO : xOK G) (hE : tok E)   (n : Nat) (v2 : Int32) (s0 : TS) : XT G E "ForestLegsModel" "packs" cX2_packs 3 (Option.some Jvm.ClassFile.FieldType.int) 4 30 [(0, .ref E.2.1), (2, .int v2)] [] s0 (lp (T_packs_30F) n (v2, s0)) :=
  lp_ok (W := fun p K => XT G E "ForestLegsModel" "packs" cX2_packs 3 (Option.some Jvm.ClassFile.FieldType.int) 4 30 [(0, .ref E.2.1), (2, .int p.1)] [] p.2 K) (fun _ => tw_no) (fun k hk => fun (v2, s0) => T_packs_30F_ok hO hE (fun v2 s0 => hk (v2, s0)) v2 s0) n (v2, s0)
theorem T_packs_ok {G : xG} {E : TE} (hO : xOK G) (hE : tok E) (s0 : TS) (a1 : Int32) : CTT G E 4 yX2_packs cX2_packs 3 (Option.some Jvm.ClassFile.FieldType.int) [.ref E.2.1, .int a1] s0 (T_packs s0 a1) := by
  refine CT_of hO (by decide +kernel) (by decide +kernel) (Nat.le_of_ble_eq_true rfl) ?_
  show XT G E "ForestLegsModel" "packs" cX2_packs 3 (Option.some Jvm.ClassFile.FieldType.int) 4 0 [(0, .ref E.2.1), (1, .int a1)] [] s0 (T_packs s0 a1)
  refine x_aload_nr 0 dX2_packs_0 rfl rfl (n := 1) rfl ?_
  refine x_aload_nr 0 dX2_packs_1 rfl rfl (n := 2) rfl ?_
  refine tw_getI fl_X2_173 rfl (by decide) dX2_packs_2 (n := 5) rfl ?_
  refine x_iload_n 1 dX2_packs_5 rfl rfl (n := 6) rfl ?_
  refine x_iconst 1 dX2_packs_6 rfl (n := 7) rfl ?_
  refine x_bipush 99 dX2_packs_7 rfl (n := 9) rfl ?_
  refine tw_callS_I [.int a1, .int 1, .int 99] [.int (s0.1 6), .ref E.2.1] (T_in_ok hO hE s0 a1 1 99) md_X2_in q3016 q3017 dX2_packs_9 rfl rfl (by decide) (Nat.le_of_ble_eq_true rfl) (n := 12) rfl (fun x2 s1 => ?_)
  refine tw_callS_I [.int (s0.1 6), .int x2] [.ref E.2.1] (T_unless_ok hO hE s1 (s0.1 6) x2) md_X2_unless q3019 q3020 dX2_packs_12 rfl rfl (by decide) (Nat.le_of_ble_eq_true rfl) (n := 15) rfl (fun x4 s3 => ?_)
  refine tw_callV_I [.int x4] [] (T_isRefused_ok hO hE s3 x4) md_X2_isRefused q3022 q3024 qs63 dX2_packs_15 rfl rfl (by decide) (Nat.le_of_ble_eq_true rfl) (n := 18) rfl (fun x6 s5 => ?_)
  refine tw_if_eq dX2_packs_18 (t := 23) (by decide) (n := 21) rfl ?_ ?_
  · refine x_aload_nr 0 dX2_packs_23 rfl rfl (n := 24) rfl ?_
    refine x_iload_n 1 dX2_packs_24 rfl rfl (n := 25) rfl ?_
    refine tw_callV_V [.int a1] [] (T_laysMet_ok hO hE s5 a1) md_X2_laysMet q3342 q3344 qs111 dX2_packs_25 rfl rfl (by decide) (Nat.le_of_ble_eq_true rfl) (n := 28) rfl (fun s7 => ?_)
    refine x_iconst 0 dX2_packs_28 rfl (n := 29) rfl ?_
    refine x_istore_n [(2, .int 0), (0, .ref E.2.1), (1, .int a1)] dX2_packs_29 rfl (by decide) rfl (n := 30) rfl ?_
    refine x_sub [1, 0] [(0, .ref E.2.1), (2, .int 0)] rfl ?_
    exact T_packs_30_lp hO hE FU 0 s7
  · refine x_iconst (-1) dX2_packs_21 rfl (n := 22) rfl ?_
    exact tw_ireturn dX2_packs_22
abbrev cX2_pack : ByteArray := prog_14_method_87_code
def yX2_pack : MethodName := ⟨RX2, "pack", "(III)I"⟩
def dkwX2_pack_6 : List UInt8 := [54, 4, 132, 5, 1, 167, 255, 230, 21, 4, 172]
abbrev dktX2_pack_6 : List UInt8 := dkwX2_pack_6 ++ []
def dkwX2_pack_5 : List UInt8 := [54, 5, 21, 5, 42, 180, 1, 44, 162, 0, 23, 21, 4, 4, 42, 180, 0, 44, 21, 5, 46, 120, 128]
abbrev dktX2_pack_5 : List UInt8 := dkwX2_pack_5 ++ dktX2_pack_6
def dkwX2_pack_4 : List UInt8 := [46, 167, 0, 14, 42, 180, 0, 41, 42, 180, 1, 44, 4, 100, 46, 172, 3, 54, 4, 42, 180, 1, 41]
abbrev dktX2_pack_4 : List UInt8 := dkwX2_pack_4 ++ dktX2_pack_5
def dkwX2_pack_3 : List UInt8 := [180, 1, 44, 42, 180, 1, 41, 100, 167, 0, 31, 29, 5, 160, 0, 15, 42, 180, 0, 41, 42, 180, 1, 41]
abbrev dktX2_pack_3 : List UInt8 := dkwX2_pack_3 ++ dktX2_pack_4
def dkwX2_pack_2 : List UInt8 := [182, 1, 47, 42, 28, 182, 1, 50, 154, 0, 6, 16, 254, 172, 29, 4, 159, 0, 48, 29, 154, 0, 15, 42]
abbrev dktX2_pack_2 : List UInt8 := dkwX2_pack_2 ++ dktX2_pack_3
def dkwX2_pack_1 : List UInt8 := [167, 0, 4, 3, 27, 4, 16, 99, 184, 0, 79, 184, 0, 157, 182, 0, 161, 153, 0, 5, 2, 172, 42, 27]
abbrev dktX2_pack_1 : List UInt8 := dkwX2_pack_1 ++ dktX2_pack_2
def dkwX2_pack_0 : List UInt8 := [42, 42, 180, 0, 173, 153, 0, 20, 28, 155, 0, 16, 29, 3, 6, 184, 0, 79, 153, 0, 7, 4]
abbrev dktX2_pack_0 : List UInt8 := dkwX2_pack_0 ++ dktX2_pack_1
theorem dksX2_pack_0 : cX2_pack.data.toList.drop 0 = dktX2_pack_0 := by decide +kernel
theorem dksX2_pack_1 : cX2_pack.data.toList.drop 22 = dktX2_pack_1 := dk_seg dksX2_pack_0 22 rfl rfl
theorem dksX2_pack_2 : cX2_pack.data.toList.drop 46 = dktX2_pack_2 := dk_seg dksX2_pack_1 24 rfl rfl
theorem dksX2_pack_3 : cX2_pack.data.toList.drop 70 = dktX2_pack_3 := dk_seg dksX2_pack_2 24 rfl rfl
theorem dksX2_pack_4 : cX2_pack.data.toList.drop 94 = dktX2_pack_4 := dk_seg dksX2_pack_3 24 rfl rfl
theorem dksX2_pack_5 : cX2_pack.data.toList.drop 117 = dktX2_pack_5 := dk_seg dksX2_pack_4 23 rfl rfl
theorem dksX2_pack_6 : cX2_pack.data.toList.drop 140 = dktX2_pack_6 := dk_seg dksX2_pack_5 23 rfl rfl
theorem dX2_pack_0 : decode cX2_pack 0 = .ok (.aload_n 0, 1) := dk_42 (dk_at dksX2_pack_0 0 rfl rfl)
theorem dX2_pack_1 : decode cX2_pack 1 = .ok (.aload_n 0, 1) := dk_42 (dk_at dksX2_pack_0 1 rfl rfl)
theorem dX2_pack_2 : decode cX2_pack 2 = .ok (.getfield 173, 3) := dk_180 0 173 (dk_at dksX2_pack_0 2 rfl rfl)
theorem dX2_pack_5 : decode cX2_pack 5 = .ok (.ifCond .eq 20, 3) := dk_153 0 20 (dk_at dksX2_pack_0 5 rfl rfl)
theorem dX2_pack_8 : decode cX2_pack 8 = .ok (.iload_n 2, 1) := dk_28 (dk_at dksX2_pack_0 8 rfl rfl)
theorem dX2_pack_9 : decode cX2_pack 9 = .ok (.ifCond .lt 16, 3) := dk_155 0 16 (dk_at dksX2_pack_0 9 rfl rfl)
theorem dX2_pack_12 : decode cX2_pack 12 = .ok (.iload_n 3, 1) := dk_29 (dk_at dksX2_pack_0 12 rfl rfl)
theorem dX2_pack_13 : decode cX2_pack 13 = .ok (.iconst 0, 1) := dk_3 (dk_at dksX2_pack_0 13 rfl rfl)
theorem dX2_pack_14 : decode cX2_pack 14 = .ok (.iconst 3, 1) := dk_6 (dk_at dksX2_pack_0 14 rfl rfl)
theorem dX2_pack_15 : decode cX2_pack 15 = .ok (.invokestatic 79, 3) := dk_184 0 79 (dk_at dksX2_pack_0 15 rfl rfl)
theorem dX2_pack_18 : decode cX2_pack 18 = .ok (.ifCond .eq 7, 3) := dk_153 0 7 (dk_at dksX2_pack_0 18 rfl rfl)
theorem dX2_pack_21 : decode cX2_pack 21 = .ok (.iconst 1, 1) := dk_4 (dk_at dksX2_pack_0 21 rfl rfl)
theorem dX2_pack_22 : decode cX2_pack 22 = .ok (.goto 4, 3) := dk_167 0 4 (dk_at dksX2_pack_1 0 rfl rfl)
theorem dX2_pack_25 : decode cX2_pack 25 = .ok (.iconst 0, 1) := dk_3 (dk_at dksX2_pack_1 3 rfl rfl)
theorem dX2_pack_26 : decode cX2_pack 26 = .ok (.iload_n 1, 1) := dk_27 (dk_at dksX2_pack_1 4 rfl rfl)
theorem dX2_pack_27 : decode cX2_pack 27 = .ok (.iconst 1, 1) := dk_4 (dk_at dksX2_pack_1 5 rfl rfl)
theorem dX2_pack_28 : decode cX2_pack 28 = .ok (.bipush 99, 2) := dk_16 99 (dk_at dksX2_pack_1 6 rfl rfl)
theorem dX2_pack_30 : decode cX2_pack 30 = .ok (.invokestatic 79, 3) := dk_184 0 79 (dk_at dksX2_pack_1 8 rfl rfl)
theorem dX2_pack_33 : decode cX2_pack 33 = .ok (.invokestatic 157, 3) := dk_184 0 157 (dk_at dksX2_pack_1 11 rfl rfl)
theorem dX2_pack_36 : decode cX2_pack 36 = .ok (.invokevirtual 161, 3) := dk_182 0 161 (dk_at dksX2_pack_1 14 rfl rfl)
theorem dX2_pack_39 : decode cX2_pack 39 = .ok (.ifCond .eq 5, 3) := dk_153 0 5 (dk_at dksX2_pack_1 17 rfl rfl)
theorem dX2_pack_42 : decode cX2_pack 42 = .ok (.iconst (-1), 1) := dk_2 (dk_at dksX2_pack_1 20 rfl rfl)
theorem dX2_pack_43 : decode cX2_pack 43 = .ok (.ireturn, 1) := dk_172 (dk_at dksX2_pack_1 21 rfl rfl)
theorem dX2_pack_44 : decode cX2_pack 44 = .ok (.aload_n 0, 1) := dk_42 (dk_at dksX2_pack_1 22 rfl rfl)
theorem dX2_pack_45 : decode cX2_pack 45 = .ok (.iload_n 1, 1) := dk_27 (dk_at dksX2_pack_1 23 rfl rfl)
theorem dX2_pack_46 : decode cX2_pack 46 = .ok (.invokevirtual 303, 3) := dk_182 1 47 (dk_at dksX2_pack_2 0 rfl rfl)
theorem dX2_pack_49 : decode cX2_pack 49 = .ok (.aload_n 0, 1) := dk_42 (dk_at dksX2_pack_2 3 rfl rfl)
theorem dX2_pack_50 : decode cX2_pack 50 = .ok (.iload_n 2, 1) := dk_28 (dk_at dksX2_pack_2 4 rfl rfl)
theorem dX2_pack_51 : decode cX2_pack 51 = .ok (.invokevirtual 306, 3) := dk_182 1 50 (dk_at dksX2_pack_2 5 rfl rfl)
theorem dX2_pack_54 : decode cX2_pack 54 = .ok (.ifCond .ne 6, 3) := dk_154 0 6 (dk_at dksX2_pack_2 8 rfl rfl)
theorem dX2_pack_57 : decode cX2_pack 57 = .ok (.bipush (-2), 2) := dk_16 254 (dk_at dksX2_pack_2 11 rfl rfl)
theorem dX2_pack_59 : decode cX2_pack 59 = .ok (.ireturn, 1) := dk_172 (dk_at dksX2_pack_2 13 rfl rfl)
theorem dX2_pack_60 : decode cX2_pack 60 = .ok (.iload_n 3, 1) := dk_29 (dk_at dksX2_pack_2 14 rfl rfl)
theorem dX2_pack_61 : decode cX2_pack 61 = .ok (.iconst 1, 1) := dk_4 (dk_at dksX2_pack_2 15 rfl rfl)
theorem dX2_pack_62 : decode cX2_pack 62 = .ok (.if_icmp .eq 48, 3) := dk_159 0 48 (dk_at dksX2_pack_2 16 rfl rfl)
theorem dX2_pack_65 : decode cX2_pack 65 = .ok (.iload_n 3, 1) := dk_29 (dk_at dksX2_pack_2 19 rfl rfl)
theorem dX2_pack_66 : decode cX2_pack 66 = .ok (.ifCond .ne 15, 3) := dk_154 0 15 (dk_at dksX2_pack_2 20 rfl rfl)
theorem dX2_pack_69 : decode cX2_pack 69 = .ok (.aload_n 0, 1) := dk_42 (dk_at dksX2_pack_2 23 rfl rfl)
theorem dX2_pack_70 : decode cX2_pack 70 = .ok (.getfield 300, 3) := dk_180 1 44 (dk_at dksX2_pack_3 0 rfl rfl)
theorem dX2_pack_73 : decode cX2_pack 73 = .ok (.aload_n 0, 1) := dk_42 (dk_at dksX2_pack_3 3 rfl rfl)
theorem dX2_pack_74 : decode cX2_pack 74 = .ok (.getfield 297, 3) := dk_180 1 41 (dk_at dksX2_pack_3 4 rfl rfl)
theorem dX2_pack_77 : decode cX2_pack 77 = .ok (.isub, 1) := dk_100 (dk_at dksX2_pack_3 7 rfl rfl)
theorem dX2_pack_78 : decode cX2_pack 78 = .ok (.goto 31, 3) := dk_167 0 31 (dk_at dksX2_pack_3 8 rfl rfl)
theorem dX2_pack_81 : decode cX2_pack 81 = .ok (.iload_n 3, 1) := dk_29 (dk_at dksX2_pack_3 11 rfl rfl)
theorem dX2_pack_82 : decode cX2_pack 82 = .ok (.iconst 2, 1) := dk_5 (dk_at dksX2_pack_3 12 rfl rfl)
theorem dX2_pack_83 : decode cX2_pack 83 = .ok (.if_icmp .ne 15, 3) := dk_160 0 15 (dk_at dksX2_pack_3 13 rfl rfl)
theorem dX2_pack_86 : decode cX2_pack 86 = .ok (.aload_n 0, 1) := dk_42 (dk_at dksX2_pack_3 16 rfl rfl)
theorem dX2_pack_87 : decode cX2_pack 87 = .ok (.getfield 41, 3) := dk_180 0 41 (dk_at dksX2_pack_3 17 rfl rfl)
theorem dX2_pack_90 : decode cX2_pack 90 = .ok (.aload_n 0, 1) := dk_42 (dk_at dksX2_pack_3 20 rfl rfl)
theorem dX2_pack_91 : decode cX2_pack 91 = .ok (.getfield 297, 3) := dk_180 1 41 (dk_at dksX2_pack_3 21 rfl rfl)
theorem dX2_pack_94 : decode cX2_pack 94 = .ok (.iaload, 1) := dk_46 (dk_at dksX2_pack_4 0 rfl rfl)
theorem dX2_pack_95 : decode cX2_pack 95 = .ok (.goto 14, 3) := dk_167 0 14 (dk_at dksX2_pack_4 1 rfl rfl)
theorem dX2_pack_98 : decode cX2_pack 98 = .ok (.aload_n 0, 1) := dk_42 (dk_at dksX2_pack_4 4 rfl rfl)
theorem dX2_pack_99 : decode cX2_pack 99 = .ok (.getfield 41, 3) := dk_180 0 41 (dk_at dksX2_pack_4 5 rfl rfl)
theorem dX2_pack_102 : decode cX2_pack 102 = .ok (.aload_n 0, 1) := dk_42 (dk_at dksX2_pack_4 8 rfl rfl)
theorem dX2_pack_103 : decode cX2_pack 103 = .ok (.getfield 300, 3) := dk_180 1 44 (dk_at dksX2_pack_4 9 rfl rfl)
theorem dX2_pack_106 : decode cX2_pack 106 = .ok (.iconst 1, 1) := dk_4 (dk_at dksX2_pack_4 12 rfl rfl)
theorem dX2_pack_107 : decode cX2_pack 107 = .ok (.isub, 1) := dk_100 (dk_at dksX2_pack_4 13 rfl rfl)
theorem dX2_pack_108 : decode cX2_pack 108 = .ok (.iaload, 1) := dk_46 (dk_at dksX2_pack_4 14 rfl rfl)
theorem dX2_pack_109 : decode cX2_pack 109 = .ok (.ireturn, 1) := dk_172 (dk_at dksX2_pack_4 15 rfl rfl)
theorem dX2_pack_110 : decode cX2_pack 110 = .ok (.iconst 0, 1) := dk_3 (dk_at dksX2_pack_4 16 rfl rfl)
theorem dX2_pack_111 : decode cX2_pack 111 = .ok (.istore 4, 2) := dk_54 4 (dk_at dksX2_pack_4 17 rfl rfl)
theorem dX2_pack_113 : decode cX2_pack 113 = .ok (.aload_n 0, 1) := dk_42 (dk_at dksX2_pack_4 19 rfl rfl)
theorem dX2_pack_114 : decode cX2_pack 114 = .ok (.getfield 297, 3) := dk_180 1 41 (dk_at dksX2_pack_4 20 rfl rfl)
theorem dX2_pack_117 : decode cX2_pack 117 = .ok (.istore 5, 2) := dk_54 5 (dk_at dksX2_pack_5 0 rfl rfl)
theorem dX2_pack_119 : decode cX2_pack 119 = .ok (.iload 5, 2) := dk_21 5 (dk_at dksX2_pack_5 2 rfl rfl)
theorem dX2_pack_121 : decode cX2_pack 121 = .ok (.aload_n 0, 1) := dk_42 (dk_at dksX2_pack_5 4 rfl rfl)
theorem dX2_pack_122 : decode cX2_pack 122 = .ok (.getfield 300, 3) := dk_180 1 44 (dk_at dksX2_pack_5 5 rfl rfl)
theorem dX2_pack_125 : decode cX2_pack 125 = .ok (.if_icmp .ge 23, 3) := dk_162 0 23 (dk_at dksX2_pack_5 8 rfl rfl)
theorem dX2_pack_128 : decode cX2_pack 128 = .ok (.iload 4, 2) := dk_21 4 (dk_at dksX2_pack_5 11 rfl rfl)
theorem dX2_pack_130 : decode cX2_pack 130 = .ok (.iconst 1, 1) := dk_4 (dk_at dksX2_pack_5 13 rfl rfl)
theorem dX2_pack_131 : decode cX2_pack 131 = .ok (.aload_n 0, 1) := dk_42 (dk_at dksX2_pack_5 14 rfl rfl)
theorem dX2_pack_132 : decode cX2_pack 132 = .ok (.getfield 44, 3) := dk_180 0 44 (dk_at dksX2_pack_5 15 rfl rfl)
theorem dX2_pack_135 : decode cX2_pack 135 = .ok (.iload 5, 2) := dk_21 5 (dk_at dksX2_pack_5 18 rfl rfl)
theorem dX2_pack_137 : decode cX2_pack 137 = .ok (.iaload, 1) := dk_46 (dk_at dksX2_pack_5 20 rfl rfl)
theorem dX2_pack_138 : decode cX2_pack 138 = .ok (.ishl, 1) := dk_120 (dk_at dksX2_pack_5 21 rfl rfl)
theorem dX2_pack_139 : decode cX2_pack 139 = .ok (.ior, 1) := dk_128 (dk_at dksX2_pack_5 22 rfl rfl)
theorem dX2_pack_140 : decode cX2_pack 140 = .ok (.istore 4, 2) := dk_54 4 (dk_at dksX2_pack_6 0 rfl rfl)
theorem dX2_pack_142 : decode cX2_pack 142 = .ok (.iinc 5 1, 3) := dk_132 5 1 (dk_at dksX2_pack_6 2 rfl rfl)
theorem dX2_pack_145 : decode cX2_pack 145 = .ok (.goto (-26), 3) := dk_167 255 230 (dk_at dksX2_pack_6 5 rfl rfl)
theorem dX2_pack_148 : decode cX2_pack 148 = .ok (.iload 4, 2) := dk_21 4 (dk_at dksX2_pack_6 8 rfl rfl)
theorem dX2_pack_150 : decode cX2_pack 150 = .ok (.ireturn, 1) := dk_172 (dk_at dksX2_pack_6 10 rfl rfl)
theorem md_X2_pack : xMd yX2_pack cX2_pack 6 (Option.some Jvm.ClassFile.FieldType.int) 3 := ⟨q3353, q126, by decide, by decide +kernel, by decide +kernel, by decide +kernel⟩
def T_pack_119F   (k119 : Int32 × Int32 × TS → Option (xO × TS)) (p : Int32 × Int32 × TS) : Option (xO × TS) := match p with
  | (v4, v5, s0) => (if (s0.1 29) ≤ v5 then
  (rI v4 s0) else
  (tald s0 26 v5 fun x11 =>
  (bnd (v4 ||| (1 <<< (x11 &&& 31))) fun x12 =>
  (bnd (v5 + 1) fun x13 =>
  (k119 (x12, x13, s0))))))
def T_pack_26   (v1 : Int32) (v2 : Int32) (v3 : Int32) (w1 : Int32) (s0 : TS) : Option (xO × TS) :=
  (xcI (T_in s0 v1 1 99) fun x2 s1 =>
  (xcI (T_unless s1 w1 x2) fun x4 s3 =>
  (xcI (T_isRefused s3 x4) fun x6 s5 =>
  (if x6 = 0 then
  (xcV (T_laysMet s5 v1) fun s7 =>
  (xcI (T_findsPack s7 v2) fun x9 s8 =>
  (if x9 = 0 then
  (rI (-2) s8) else
  (if v3 = 1 then
  (bnd (s8.1 28) fun x10 =>
  (lp (T_pack_119F) FU (0, x10, s8))) else
  (if v3 = 0 then
  (rI ((s8.1 29) - (s8.1 28)) s8) else
  (if v3 = 2 then
  (tald s8 25 (s8.1 28) fun x15 =>
  (rI x15 s8)) else
  (tald s8 25 ((s8.1 29) - 1) fun x14 =>
  (rI x14 s8)))))))) else
  (rI (-1) s5)))))
def T_pack_25   (v1 : Int32) (v2 : Int32) (v3 : Int32) (s0 : TS) : Option (xO × TS) :=
  (T_pack_26 v1 v2 v3 0 s0)
def T_pack (s0 : TS) (a1 : Int32) (a2 : Int32) (a3 : Int32) : Option (xO × TS) :=
  (if (s0.1 6) = 0 then
  (T_pack_25 a1 a2 a3 s0) else
  (if a2 < 0 then
  (T_pack_25 a1 a2 a3 s0) else
  (xcI (T_in s0 a3 0 3) fun x17 s16 =>
  (if x17 = 0 then
  (T_pack_25 a1 a2 a3 s16) else
  (T_pack_26 a1 a2 a3 1 s16)))))
theorem T_pack_119F_ok {G : xG} {E : TE} (hO : xOK G) (hE : tok E)   {k119 : Int32 × Int32 × TS → Option (xO × TS)} (hk119 : ∀ (v4 : Int32) (v5 : Int32) (s0 : TS), XT G E "ForestLegsModel" "pack" cX2_pack 6 (Option.some Jvm.ClassFile.FieldType.int) 4 119 [(0, .ref E.2.1), (4, .int v4), (5, .int v5)] [] s0 (k119 (v4, v5, s0))) (v4 : Int32) (v5 : Int32) (s0 : TS) : XT G E "ForestLegsModel" "pack" cX2_pack 6 (Option.some Jvm.ClassFile.FieldType.int) 4 119 [(0, .ref E.2.1), (4, .int v4), (5, .int v5)] [] s0 (T_pack_119F k119 (v4, v5, s0)) := by
  unfold T_pack_119F
  refine x_iload 2 dX2_pack_119 rfl (n := 121) rfl ?_
  refine x_aload_nr 0 dX2_pack_121 rfl rfl (n := 122) rfl ?_
  refine tw_getI fl_X2_300 rfl (by decide) dX2_pack_122 (n := 125) rfl ?_
  refine tw_icmp_ge dX2_pack_125 (t := 148) (by decide) (n := 128) rfl ?_ ?_
  · refine x_iload 1 dX2_pack_148 rfl (n := 150) rfl ?_
    exact tw_ireturn dX2_pack_150
  · refine x_iload 1 dX2_pack_128 rfl (n := 130) rfl ?_
    refine x_iconst 1 dX2_pack_130 rfl (n := 131) rfl ?_
    refine x_aload_nr 0 dX2_pack_131 rfl rfl (n := 132) rfl ?_
    refine tw_getA fl_X2_44 rfl (by decide) dX2_pack_132 (n := 135) rfl ?_
    refine x_iload 2 dX2_pack_135 rfl (n := 137) rfl ?_
    refine tw_iald hE (by decide) dX2_pack_137 (n := 138) rfl (fun x11 => ?_)
    refine x_ishl dX2_pack_138 (n := 139) rfl ?_
    refine x_ior dX2_pack_139 (n := 140) rfl ?_
    refine tw_nm (fun x12 => ?_)
    refine x_istore [(4, .int x12), (0, .ref E.2.1), (5, .int v5)] dX2_pack_140 (by decide) rfl (n := 142) rfl ?_
    refine tw_iinc 2 (fun x13 => [(5, .int x13), (4, .int x12), (0, .ref E.2.1)]) dX2_pack_142 rfl rfl (by decide) (fun _ => rfl) (n := 145) rfl (fun x13 => ?_)
    refine x_goto dX2_pack_145 (n := 119) (by decide) ?_
    refine x_sub [2, 1, 0] [(0, .ref E.2.1), (4, .int x12), (5, .int x13)] rfl ?_
    exact hk119 x12 x13 s0
theorem T_pack_119_lp {G : xG} {E : TE} (hO : xOK G) (hE : tok E)   (n : Nat) (v4 : Int32) (v5 : Int32) (s0 : TS) : XT G E "ForestLegsModel" "pack" cX2_pack 6 (Option.some Jvm.ClassFile.FieldType.int) 4 119 [(0, .ref E.2.1), (4, .int v4), (5, .int v5)] [] s0 (lp (T_pack_119F) n (v4, v5, s0)) :=
  lp_ok (W := fun p K => XT G E "ForestLegsModel" "pack" cX2_pack 6 (Option.some Jvm.ClassFile.FieldType.int) 4 119 [(0, .ref E.2.1), (4, .int p.1), (5, .int p.2.1)] [] p.2.2 K) (fun _ => tw_no) (fun k hk => fun (v4, v5, s0) => T_pack_119F_ok hO hE (fun v4 v5 s0 => hk (v4, v5, s0)) v4 v5 s0) n (v4, v5, s0)
theorem T_pack_26_ok {G : xG} {E : TE} (hO : xOK G) (hE : tok E)   (v1 : Int32) (v2 : Int32) (v3 : Int32) (w1 : Int32) (s0 : TS) : XT G E "ForestLegsModel" "pack" cX2_pack 6 (Option.some Jvm.ClassFile.FieldType.int) 4 26 [(0, .ref E.2.1), (1, .int v1), (2, .int v2), (3, .int v3)] [.int w1, .ref E.2.1] s0 (T_pack_26 v1 v2 v3 w1 s0) := by
  unfold T_pack_26
  refine x_iload_n 1 dX2_pack_26 rfl rfl (n := 27) rfl ?_
  refine x_iconst 1 dX2_pack_27 rfl (n := 28) rfl ?_
  refine x_bipush 99 dX2_pack_28 rfl (n := 30) rfl ?_
  refine tw_callS_I [.int v1, .int 1, .int 99] [.int w1, .ref E.2.1] (T_in_ok hO hE s0 v1 1 99) md_X2_in q3016 q3017 dX2_pack_30 rfl rfl (by decide) (Nat.le_of_ble_eq_true rfl) (n := 33) rfl (fun x2 s1 => ?_)
  refine tw_callS_I [.int w1, .int x2] [.ref E.2.1] (T_unless_ok hO hE s1 w1 x2) md_X2_unless q3019 q3020 dX2_pack_33 rfl rfl (by decide) (Nat.le_of_ble_eq_true rfl) (n := 36) rfl (fun x4 s3 => ?_)
  refine tw_callV_I [.int x4] [] (T_isRefused_ok hO hE s3 x4) md_X2_isRefused q3022 q3024 qs63 dX2_pack_36 rfl rfl (by decide) (Nat.le_of_ble_eq_true rfl) (n := 39) rfl (fun x6 s5 => ?_)
  refine tw_if_eq dX2_pack_39 (t := 44) (by decide) (n := 42) rfl ?_ ?_
  · refine x_aload_nr 0 dX2_pack_44 rfl rfl (n := 45) rfl ?_
    refine x_iload_n 1 dX2_pack_45 rfl rfl (n := 46) rfl ?_
    refine tw_callV_V [.int v1] [] (T_laysMet_ok hO hE s5 v1) md_X2_laysMet q3342 q3344 qs111 dX2_pack_46 rfl rfl (by decide) (Nat.le_of_ble_eq_true rfl) (n := 49) rfl (fun s7 => ?_)
    refine x_aload_nr 0 dX2_pack_49 rfl rfl (n := 50) rfl ?_
    refine x_iload_n 2 dX2_pack_50 rfl rfl (n := 51) rfl ?_
    refine tw_callV_I [.int v2] [] (T_findsPack_ok hO hE s7 v2) md_X2_findsPack q3346 q3348 qs112 dX2_pack_51 rfl rfl (by decide) (Nat.le_of_ble_eq_true rfl) (n := 54) rfl (fun x9 s8 => ?_)
    refine tw_if_ne dX2_pack_54 (t := 60) (by decide) (n := 57) rfl ?_ ?_
    · refine x_iload_n 3 dX2_pack_60 rfl rfl (n := 61) rfl ?_
      refine x_iconst 1 dX2_pack_61 rfl (n := 62) rfl ?_
      refine tw_icmp_eq dX2_pack_62 (t := 110) (by decide) (n := 65) rfl ?_ ?_
      · refine x_iconst 0 dX2_pack_110 rfl (n := 111) rfl ?_
        refine x_istore [(4, .int 0), (0, .ref E.2.1), (1, .int v1), (2, .int v2), (3, .int v3)] dX2_pack_111 (by decide) rfl (n := 113) rfl ?_
        refine x_aload_nr 1 dX2_pack_113 rfl rfl (n := 114) rfl ?_
        refine tw_getI fl_X2_297 rfl (by decide) dX2_pack_114 (n := 117) rfl ?_
        refine tw_nm (fun x10 => ?_)
        refine x_istore [(5, .int x10), (4, .int 0), (0, .ref E.2.1), (1, .int v1), (2, .int v2), (3, .int v3)] dX2_pack_117 (by decide) rfl (n := 119) rfl ?_
        refine x_sub [2, 1, 0] [(0, .ref E.2.1), (4, .int 0), (5, .int x10)] rfl ?_
        exact T_pack_119_lp hO hE FU 0 x10 s8
      · refine x_iload_n 3 dX2_pack_65 rfl rfl (n := 66) rfl ?_
        refine tw_if_ne dX2_pack_66 (t := 81) (by decide) (n := 69) rfl ?_ ?_
        · refine x_iload_n 3 dX2_pack_81 rfl rfl (n := 82) rfl ?_
          refine x_iconst 2 dX2_pack_82 rfl (n := 83) rfl ?_
          refine tw_icmp_ne dX2_pack_83 (t := 98) (by decide) (n := 86) rfl ?_ ?_
          · refine x_aload_nr 0 dX2_pack_98 rfl rfl (n := 99) rfl ?_
            refine tw_getA fl_X2_41 rfl (by decide) dX2_pack_99 (n := 102) rfl ?_
            refine x_aload_nr 0 dX2_pack_102 rfl rfl (n := 103) rfl ?_
            refine tw_getI fl_X2_300 rfl (by decide) dX2_pack_103 (n := 106) rfl ?_
            refine x_iconst 1 dX2_pack_106 rfl (n := 107) rfl ?_
            refine x_isub dX2_pack_107 (n := 108) rfl ?_
            refine tw_iald hE (by decide) dX2_pack_108 (n := 109) rfl (fun x14 => ?_)
            exact tw_ireturn dX2_pack_109
          · refine x_aload_nr 0 dX2_pack_86 rfl rfl (n := 87) rfl ?_
            refine tw_getA fl_X2_41 rfl (by decide) dX2_pack_87 (n := 90) rfl ?_
            refine x_aload_nr 0 dX2_pack_90 rfl rfl (n := 91) rfl ?_
            refine tw_getI fl_X2_297 rfl (by decide) dX2_pack_91 (n := 94) rfl ?_
            refine tw_iald hE (by decide) dX2_pack_94 (n := 95) rfl (fun x15 => ?_)
            refine x_goto dX2_pack_95 (n := 109) (by decide) ?_
            exact tw_ireturn dX2_pack_109
        · refine x_aload_nr 0 dX2_pack_69 rfl rfl (n := 70) rfl ?_
          refine tw_getI fl_X2_300 rfl (by decide) dX2_pack_70 (n := 73) rfl ?_
          refine x_aload_nr 0 dX2_pack_73 rfl rfl (n := 74) rfl ?_
          refine tw_getI fl_X2_297 rfl (by decide) dX2_pack_74 (n := 77) rfl ?_
          refine x_isub dX2_pack_77 (n := 78) rfl ?_
          refine x_goto dX2_pack_78 (n := 109) (by decide) ?_
          exact tw_ireturn dX2_pack_109
    · refine x_bipush (-2) dX2_pack_57 rfl (n := 59) rfl ?_
      exact tw_ireturn dX2_pack_59
  · refine x_iconst (-1) dX2_pack_42 rfl (n := 43) rfl ?_
    exact tw_ireturn dX2_pack_43
theorem T_pack_25_ok {G : xG} {E : TE} (hO : xOK G) (hE : tok E)   (v1 : Int32) (v2 : Int32) (v3 : Int32) (s0 : TS) : XT G E "ForestLegsModel" "pack" cX2_pack 6 (Option.some Jvm.ClassFile.FieldType.int) 4 25 [(0, .ref E.2.1), (1, .int v1), (2, .int v2), (3, .int v3)] [.ref E.2.1] s0 (T_pack_25 v1 v2 v3 s0) := by
  unfold T_pack_25
  refine x_iconst 0 dX2_pack_25 rfl (n := 26) rfl ?_
  exact T_pack_26_ok hO hE v1 v2 v3 0 s0
theorem T_pack_ok {G : xG} {E : TE} (hO : xOK G) (hE : tok E) (s0 : TS) (a1 : Int32) (a2 : Int32) (a3 : Int32) : CTT G E 4 yX2_pack cX2_pack 6 (Option.some Jvm.ClassFile.FieldType.int) [.ref E.2.1, .int a1, .int a2, .int a3] s0 (T_pack s0 a1 a2 a3) := by
  refine CT_of hO (by decide +kernel) (by decide +kernel) (Nat.le_of_ble_eq_true rfl) ?_
  show XT G E "ForestLegsModel" "pack" cX2_pack 6 (Option.some Jvm.ClassFile.FieldType.int) 4 0 [(0, .ref E.2.1), (1, .int a1), (2, .int a2), (3, .int a3)] [] s0 (T_pack s0 a1 a2 a3)
  refine x_aload_nr 0 dX2_pack_0 rfl rfl (n := 1) rfl ?_
  refine x_aload_nr 0 dX2_pack_1 rfl rfl (n := 2) rfl ?_
  refine tw_getI fl_X2_173 rfl (by decide) dX2_pack_2 (n := 5) rfl ?_
  refine tw_if_eq dX2_pack_5 (t := 25) (by decide) (n := 8) rfl ?_ ?_
  · exact T_pack_25_ok hO hE a1 a2 a3 s0
  · refine x_iload_n 2 dX2_pack_8 rfl rfl (n := 9) rfl ?_
    refine tw_if_lt dX2_pack_9 (t := 25) (by decide) (n := 12) rfl ?_ ?_
    · exact T_pack_25_ok hO hE a1 a2 a3 s0
    · refine x_iload_n 3 dX2_pack_12 rfl rfl (n := 13) rfl ?_
      refine x_iconst 0 dX2_pack_13 rfl (n := 14) rfl ?_
      refine x_iconst 3 dX2_pack_14 rfl (n := 15) rfl ?_
      refine tw_callS_I [.int a3, .int 0, .int 3] [.ref E.2.1] (T_in_ok hO hE s0 a3 0 3) md_X2_in q3016 q3017 dX2_pack_15 rfl rfl (by decide) (Nat.le_of_ble_eq_true rfl) (n := 18) rfl (fun x17 s16 => ?_)
      refine tw_if_eq dX2_pack_18 (t := 25) (by decide) (n := 21) rfl ?_ ?_
      · exact T_pack_25_ok hO hE a1 a2 a3 s16
      · refine x_iconst 1 dX2_pack_21 rfl (n := 22) rfl ?_
        refine x_goto dX2_pack_22 (n := 26) (by decide) ?_
        exact T_pack_26_ok hO hE a1 a2 a3 1 s16
abbrev cX2_togetherOf : ByteArray := prog_14_method_88_code
def yX2_togetherOf : MethodName := ⟨RX2, "togetherOf", "(II)I"⟩
def dkwX2_togetherOf_4 : List UInt8 := [167, 255, 167, 29, 172]
abbrev dktX2_togetherOf_4 : List UInt8 := dkwX2_togetherOf_4 ++ []
def dkwX2_togetherOf_3 : List UInt8 := [180, 0, 17, 5, 46, 184, 0, 79, 153, 0, 10, 4, 21, 4, 120, 167, 0, 4, 3, 128, 62, 132, 4, 1]
abbrev dktX2_togetherOf_3 : List UInt8 := dkwX2_togetherOf_3 ++ dktX2_togetherOf_4
def dkwX2_togetherOf_2 : List UInt8 := [2, 159, 0, 40, 21, 6, 2, 159, 0, 34, 21, 5, 21, 6, 100, 42, 180, 0, 17, 5, 46, 116, 42]
abbrev dktX2_togetherOf_2 : List UInt8 := dkwX2_togetherOf_2 ++ dktX2_togetherOf_3
def dkwX2_togetherOf_1 : List UInt8 := [163, 0, 74, 42, 27, 21, 4, 182, 0, 212, 54, 5, 42, 28, 21, 4, 182, 0, 212, 54, 6, 29, 21, 5]
abbrev dktX2_togetherOf_1 : List UInt8 := dkwX2_togetherOf_1 ++ dktX2_togetherOf_2
def dkwX2_togetherOf_0 : List UInt8 := [3, 62, 3, 54, 4, 21, 4, 42, 180, 0, 17, 7, 42, 180, 0, 17, 16, 37, 27, 96, 46, 96, 46]
abbrev dktX2_togetherOf_0 : List UInt8 := dkwX2_togetherOf_0 ++ dktX2_togetherOf_1
theorem dksX2_togetherOf_0 : cX2_togetherOf.data.toList.drop 0 = dktX2_togetherOf_0 := by decide +kernel
theorem dksX2_togetherOf_1 : cX2_togetherOf.data.toList.drop 23 = dktX2_togetherOf_1 := dk_seg dksX2_togetherOf_0 23 rfl rfl
theorem dksX2_togetherOf_2 : cX2_togetherOf.data.toList.drop 47 = dktX2_togetherOf_2 := dk_seg dksX2_togetherOf_1 24 rfl rfl
theorem dksX2_togetherOf_3 : cX2_togetherOf.data.toList.drop 70 = dktX2_togetherOf_3 := dk_seg dksX2_togetherOf_2 23 rfl rfl
theorem dksX2_togetherOf_4 : cX2_togetherOf.data.toList.drop 94 = dktX2_togetherOf_4 := dk_seg dksX2_togetherOf_3 24 rfl rfl
theorem dX2_togetherOf_0 : decode cX2_togetherOf 0 = .ok (.iconst 0, 1) := dk_3 (dk_at dksX2_togetherOf_0 0 rfl rfl)
theorem dX2_togetherOf_1 : decode cX2_togetherOf 1 = .ok (.istore_n 3, 1) := dk_62 (dk_at dksX2_togetherOf_0 1 rfl rfl)
theorem dX2_togetherOf_2 : decode cX2_togetherOf 2 = .ok (.iconst 0, 1) := dk_3 (dk_at dksX2_togetherOf_0 2 rfl rfl)
theorem dX2_togetherOf_3 : decode cX2_togetherOf 3 = .ok (.istore 4, 2) := dk_54 4 (dk_at dksX2_togetherOf_0 3 rfl rfl)
theorem dX2_togetherOf_5 : decode cX2_togetherOf 5 = .ok (.iload 4, 2) := dk_21 4 (dk_at dksX2_togetherOf_0 5 rfl rfl)
theorem dX2_togetherOf_7 : decode cX2_togetherOf 7 = .ok (.aload_n 0, 1) := dk_42 (dk_at dksX2_togetherOf_0 7 rfl rfl)
theorem dX2_togetherOf_8 : decode cX2_togetherOf 8 = .ok (.getfield 17, 3) := dk_180 0 17 (dk_at dksX2_togetherOf_0 8 rfl rfl)
theorem dX2_togetherOf_11 : decode cX2_togetherOf 11 = .ok (.iconst 4, 1) := dk_7 (dk_at dksX2_togetherOf_0 11 rfl rfl)
theorem dX2_togetherOf_12 : decode cX2_togetherOf 12 = .ok (.aload_n 0, 1) := dk_42 (dk_at dksX2_togetherOf_0 12 rfl rfl)
theorem dX2_togetherOf_13 : decode cX2_togetherOf 13 = .ok (.getfield 17, 3) := dk_180 0 17 (dk_at dksX2_togetherOf_0 13 rfl rfl)
theorem dX2_togetherOf_16 : decode cX2_togetherOf 16 = .ok (.bipush 37, 2) := dk_16 37 (dk_at dksX2_togetherOf_0 16 rfl rfl)
theorem dX2_togetherOf_18 : decode cX2_togetherOf 18 = .ok (.iload_n 1, 1) := dk_27 (dk_at dksX2_togetherOf_0 18 rfl rfl)
theorem dX2_togetherOf_19 : decode cX2_togetherOf 19 = .ok (.iadd, 1) := dk_96 (dk_at dksX2_togetherOf_0 19 rfl rfl)
theorem dX2_togetherOf_20 : decode cX2_togetherOf 20 = .ok (.iaload, 1) := dk_46 (dk_at dksX2_togetherOf_0 20 rfl rfl)
theorem dX2_togetherOf_21 : decode cX2_togetherOf 21 = .ok (.iadd, 1) := dk_96 (dk_at dksX2_togetherOf_0 21 rfl rfl)
theorem dX2_togetherOf_22 : decode cX2_togetherOf 22 = .ok (.iaload, 1) := dk_46 (dk_at dksX2_togetherOf_0 22 rfl rfl)
theorem dX2_togetherOf_23 : decode cX2_togetherOf 23 = .ok (.if_icmp .gt 74, 3) := dk_163 0 74 (dk_at dksX2_togetherOf_1 0 rfl rfl)
theorem dX2_togetherOf_26 : decode cX2_togetherOf 26 = .ok (.aload_n 0, 1) := dk_42 (dk_at dksX2_togetherOf_1 3 rfl rfl)
theorem dX2_togetherOf_27 : decode cX2_togetherOf 27 = .ok (.iload_n 1, 1) := dk_27 (dk_at dksX2_togetherOf_1 4 rfl rfl)
theorem dX2_togetherOf_28 : decode cX2_togetherOf 28 = .ok (.iload 4, 2) := dk_21 4 (dk_at dksX2_togetherOf_1 5 rfl rfl)
theorem dX2_togetherOf_30 : decode cX2_togetherOf 30 = .ok (.invokevirtual 212, 3) := dk_182 0 212 (dk_at dksX2_togetherOf_1 7 rfl rfl)
theorem dX2_togetherOf_33 : decode cX2_togetherOf 33 = .ok (.istore 5, 2) := dk_54 5 (dk_at dksX2_togetherOf_1 10 rfl rfl)
theorem dX2_togetherOf_35 : decode cX2_togetherOf 35 = .ok (.aload_n 0, 1) := dk_42 (dk_at dksX2_togetherOf_1 12 rfl rfl)
theorem dX2_togetherOf_36 : decode cX2_togetherOf 36 = .ok (.iload_n 2, 1) := dk_28 (dk_at dksX2_togetherOf_1 13 rfl rfl)
theorem dX2_togetherOf_37 : decode cX2_togetherOf 37 = .ok (.iload 4, 2) := dk_21 4 (dk_at dksX2_togetherOf_1 14 rfl rfl)
theorem dX2_togetherOf_39 : decode cX2_togetherOf 39 = .ok (.invokevirtual 212, 3) := dk_182 0 212 (dk_at dksX2_togetherOf_1 16 rfl rfl)
theorem dX2_togetherOf_42 : decode cX2_togetherOf 42 = .ok (.istore 6, 2) := dk_54 6 (dk_at dksX2_togetherOf_1 19 rfl rfl)
theorem dX2_togetherOf_44 : decode cX2_togetherOf 44 = .ok (.iload_n 3, 1) := dk_29 (dk_at dksX2_togetherOf_1 21 rfl rfl)
theorem dX2_togetherOf_45 : decode cX2_togetherOf 45 = .ok (.iload 5, 2) := dk_21 5 (dk_at dksX2_togetherOf_1 22 rfl rfl)
theorem dX2_togetherOf_47 : decode cX2_togetherOf 47 = .ok (.iconst (-1), 1) := dk_2 (dk_at dksX2_togetherOf_2 0 rfl rfl)
theorem dX2_togetherOf_48 : decode cX2_togetherOf 48 = .ok (.if_icmp .eq 40, 3) := dk_159 0 40 (dk_at dksX2_togetherOf_2 1 rfl rfl)
theorem dX2_togetherOf_51 : decode cX2_togetherOf 51 = .ok (.iload 6, 2) := dk_21 6 (dk_at dksX2_togetherOf_2 4 rfl rfl)
theorem dX2_togetherOf_53 : decode cX2_togetherOf 53 = .ok (.iconst (-1), 1) := dk_2 (dk_at dksX2_togetherOf_2 6 rfl rfl)
theorem dX2_togetherOf_54 : decode cX2_togetherOf 54 = .ok (.if_icmp .eq 34, 3) := dk_159 0 34 (dk_at dksX2_togetherOf_2 7 rfl rfl)
theorem dX2_togetherOf_57 : decode cX2_togetherOf 57 = .ok (.iload 5, 2) := dk_21 5 (dk_at dksX2_togetherOf_2 10 rfl rfl)
theorem dX2_togetherOf_59 : decode cX2_togetherOf 59 = .ok (.iload 6, 2) := dk_21 6 (dk_at dksX2_togetherOf_2 12 rfl rfl)
theorem dX2_togetherOf_61 : decode cX2_togetherOf 61 = .ok (.isub, 1) := dk_100 (dk_at dksX2_togetherOf_2 14 rfl rfl)
theorem dX2_togetherOf_62 : decode cX2_togetherOf 62 = .ok (.aload_n 0, 1) := dk_42 (dk_at dksX2_togetherOf_2 15 rfl rfl)
theorem dX2_togetherOf_63 : decode cX2_togetherOf 63 = .ok (.getfield 17, 3) := dk_180 0 17 (dk_at dksX2_togetherOf_2 16 rfl rfl)
theorem dX2_togetherOf_66 : decode cX2_togetherOf 66 = .ok (.iconst 2, 1) := dk_5 (dk_at dksX2_togetherOf_2 19 rfl rfl)
theorem dX2_togetherOf_67 : decode cX2_togetherOf 67 = .ok (.iaload, 1) := dk_46 (dk_at dksX2_togetherOf_2 20 rfl rfl)
theorem dX2_togetherOf_68 : decode cX2_togetherOf 68 = .ok (.ineg, 1) := dk_116 (dk_at dksX2_togetherOf_2 21 rfl rfl)
theorem dX2_togetherOf_69 : decode cX2_togetherOf 69 = .ok (.aload_n 0, 1) := dk_42 (dk_at dksX2_togetherOf_2 22 rfl rfl)
theorem dX2_togetherOf_70 : decode cX2_togetherOf 70 = .ok (.getfield 17, 3) := dk_180 0 17 (dk_at dksX2_togetherOf_3 0 rfl rfl)
theorem dX2_togetherOf_73 : decode cX2_togetherOf 73 = .ok (.iconst 2, 1) := dk_5 (dk_at dksX2_togetherOf_3 3 rfl rfl)
theorem dX2_togetherOf_74 : decode cX2_togetherOf 74 = .ok (.iaload, 1) := dk_46 (dk_at dksX2_togetherOf_3 4 rfl rfl)
theorem dX2_togetherOf_75 : decode cX2_togetherOf 75 = .ok (.invokestatic 79, 3) := dk_184 0 79 (dk_at dksX2_togetherOf_3 5 rfl rfl)
theorem dX2_togetherOf_78 : decode cX2_togetherOf 78 = .ok (.ifCond .eq 10, 3) := dk_153 0 10 (dk_at dksX2_togetherOf_3 8 rfl rfl)
theorem dX2_togetherOf_81 : decode cX2_togetherOf 81 = .ok (.iconst 1, 1) := dk_4 (dk_at dksX2_togetherOf_3 11 rfl rfl)
theorem dX2_togetherOf_82 : decode cX2_togetherOf 82 = .ok (.iload 4, 2) := dk_21 4 (dk_at dksX2_togetherOf_3 12 rfl rfl)
theorem dX2_togetherOf_84 : decode cX2_togetherOf 84 = .ok (.ishl, 1) := dk_120 (dk_at dksX2_togetherOf_3 14 rfl rfl)
theorem dX2_togetherOf_85 : decode cX2_togetherOf 85 = .ok (.goto 4, 3) := dk_167 0 4 (dk_at dksX2_togetherOf_3 15 rfl rfl)
theorem dX2_togetherOf_88 : decode cX2_togetherOf 88 = .ok (.iconst 0, 1) := dk_3 (dk_at dksX2_togetherOf_3 18 rfl rfl)
theorem dX2_togetherOf_89 : decode cX2_togetherOf 89 = .ok (.ior, 1) := dk_128 (dk_at dksX2_togetherOf_3 19 rfl rfl)
theorem dX2_togetherOf_90 : decode cX2_togetherOf 90 = .ok (.istore_n 3, 1) := dk_62 (dk_at dksX2_togetherOf_3 20 rfl rfl)
theorem dX2_togetherOf_91 : decode cX2_togetherOf 91 = .ok (.iinc 4 1, 3) := dk_132 4 1 (dk_at dksX2_togetherOf_3 21 rfl rfl)
theorem dX2_togetherOf_94 : decode cX2_togetherOf 94 = .ok (.goto (-89), 3) := dk_167 255 167 (dk_at dksX2_togetherOf_4 0 rfl rfl)
theorem dX2_togetherOf_97 : decode cX2_togetherOf 97 = .ok (.iload_n 3, 1) := dk_29 (dk_at dksX2_togetherOf_4 3 rfl rfl)
theorem dX2_togetherOf_98 : decode cX2_togetherOf 98 = .ok (.ireturn, 1) := dk_172 (dk_at dksX2_togetherOf_4 4 rfl rfl)
theorem md_X2_togetherOf : xMd yX2_togetherOf cX2_togetherOf 7 (Option.some Jvm.ClassFile.FieldType.int) 2 := ⟨q3361, q126, by decide, by decide +kernel, by decide +kernel, by decide +kernel⟩
def T_togetherOf_89  (k5 : Int32 × Int32 × Int32 × Int32 × TS → Option (xO × TS)) (v1 : Int32) (v2 : Int32) (v4 : Int32) (w0 : Int32) (w1 : Int32) (s0 : TS) : Option (xO × TS) :=
  (bnd (w0 ||| w1) fun x7 =>
  (bnd (v4 + 1) fun x8 =>
  (k5 (v1, v2, x7, x8, s0))))
def T_togetherOf_88  (k5 : Int32 × Int32 × Int32 × Int32 × TS → Option (xO × TS)) (v1 : Int32) (v2 : Int32) (v4 : Int32) (w0 : Int32) (s0 : TS) : Option (xO × TS) :=
  (T_togetherOf_89 k5 v1 v2 v4 w0 0 s0)
def T_togetherOf_5F   (k5 : Int32 × Int32 × Int32 × Int32 × TS → Option (xO × TS)) (p : Int32 × Int32 × Int32 × Int32 × TS) : Option (xO × TS) := match p with
  | (v1, v2, v3, v4, s0) => (tald s0 7 (37 + v1) fun x1 =>
  (tald s0 7 (4 + x1) fun x2 =>
  (if x2 < v4 then
  (rI v3 s0) else
  (xcI (T_timeAt s0 v1 v4) fun x4 s3 =>
  (xcI (T_timeAt s3 v2 v4) fun x6 s5 =>
  (if x4 = (-1) then
  (T_togetherOf_88 k5 v1 v2 v4 v3 s5) else
  (if x6 = (-1) then
  (T_togetherOf_88 k5 v1 v2 v4 v3 s5) else
  (tald s5 7 2 fun x9 =>
  (tald s5 7 2 fun x10 =>
  (xcI (T_in s5 (x4 - x6) (-x9) x10) fun x12 s11 =>
  (if x12 = 0 then
  (T_togetherOf_88 k5 v1 v2 v4 v3 s11) else
  (T_togetherOf_89 k5 v1 v2 v4 v3 (1 <<< (v4 &&& 31)) s11))))))))))))
def T_togetherOf (s0 : TS) (a1 : Int32) (a2 : Int32) : Option (xO × TS) :=
  (lp (T_togetherOf_5F) FU (a1, a2, 0, 0, s0))
theorem T_togetherOf_89_ok {G : xG} {E : TE} (hO : xOK G) (hE : tok E)  {k5 : Int32 × Int32 × Int32 × Int32 × TS → Option (xO × TS)} (hk5 : ∀ (v1 : Int32) (v2 : Int32) (v3 : Int32) (v4 : Int32) (s0 : TS), XT G E "ForestLegsModel" "togetherOf" cX2_togetherOf 7 (Option.some Jvm.ClassFile.FieldType.int) 4 5 [(0, .ref E.2.1), (1, .int v1), (2, .int v2), (3, .int v3), (4, .int v4)] [] s0 (k5 (v1, v2, v3, v4, s0))) (v1 : Int32) (v2 : Int32) (v4 : Int32) (w0 : Int32) (w1 : Int32) (s0 : TS) : XT G E "ForestLegsModel" "togetherOf" cX2_togetherOf 7 (Option.some Jvm.ClassFile.FieldType.int) 4 89 [(0, .ref E.2.1), (1, .int v1), (2, .int v2), (4, .int v4)] [.int w1, .int w0] s0 (T_togetherOf_89 k5 v1 v2 v4 w0 w1 s0) := by
  unfold T_togetherOf_89
  refine x_ior dX2_togetherOf_89 (n := 90) rfl ?_
  refine tw_nm (fun x7 => ?_)
  refine x_istore_n [(3, .int x7), (0, .ref E.2.1), (1, .int v1), (2, .int v2), (4, .int v4)] dX2_togetherOf_90 rfl (by decide) rfl (n := 91) rfl ?_
  refine tw_iinc 4 (fun x8 => [(4, .int x8), (3, .int x7), (0, .ref E.2.1), (1, .int v1), (2, .int v2)]) dX2_togetherOf_91 rfl rfl (by decide) (fun _ => rfl) (n := 94) rfl (fun x8 => ?_)
  refine x_goto dX2_togetherOf_94 (n := 5) (by decide) ?_
  refine x_sub [2, 3, 4, 1, 0] [(0, .ref E.2.1), (1, .int v1), (2, .int v2), (3, .int x7), (4, .int x8)] rfl ?_
  exact hk5 v1 v2 x7 x8 s0
theorem T_togetherOf_88_ok {G : xG} {E : TE} (hO : xOK G) (hE : tok E)  {k5 : Int32 × Int32 × Int32 × Int32 × TS → Option (xO × TS)} (hk5 : ∀ (v1 : Int32) (v2 : Int32) (v3 : Int32) (v4 : Int32) (s0 : TS), XT G E "ForestLegsModel" "togetherOf" cX2_togetherOf 7 (Option.some Jvm.ClassFile.FieldType.int) 4 5 [(0, .ref E.2.1), (1, .int v1), (2, .int v2), (3, .int v3), (4, .int v4)] [] s0 (k5 (v1, v2, v3, v4, s0))) (v1 : Int32) (v2 : Int32) (v4 : Int32) (w0 : Int32) (s0 : TS) : XT G E "ForestLegsModel" "togetherOf" cX2_togetherOf 7 (Option.some Jvm.ClassFile.FieldType.int) 4 88 [(0, .ref E.2.1), (1, .int v1), (2, .int v2), (4, .int v4)] [.int w0] s0 (T_togetherOf_88 k5 v1 v2 v4 w0 s0) := by
  unfold T_togetherOf_88
  refine x_iconst 0 dX2_togetherOf_88 rfl (n := 89) rfl ?_
  exact T_togetherOf_89_ok hO hE hk5 v1 v2 v4 w0 0 s0
theorem T_togetherOf_5F_ok {G : xG} {E : TE} (hO : xOK G) (hE : tok E)   {k5 : Int32 × Int32 × Int32 × Int32 × TS → Option (xO × TS)} (hk5 : ∀ (v1 : Int32) (v2 : Int32) (v3 : Int32) (v4 : Int32) (s0 : TS), XT G E "ForestLegsModel" "togetherOf" cX2_togetherOf 7 (Option.some Jvm.ClassFile.FieldType.int) 4 5 [(0, .ref E.2.1), (1, .int v1), (2, .int v2), (3, .int v3), (4, .int v4)] [] s0 (k5 (v1, v2, v3, v4, s0))) (v1 : Int32) (v2 : Int32) (v3 : Int32) (v4 : Int32) (s0 : TS) : XT G E "ForestLegsModel" "togetherOf" cX2_togetherOf 7 (Option.some Jvm.ClassFile.FieldType.int) 4 5 [(0, .ref E.2.1), (1, .int v1), (2, .int v2), (3, .int v3), (4, .int v4)] [] s0 (T_togetherOf_5F k5 (v1, v2, v3, v4, s0)) := by
  unfold T_togetherOf_5F
  refine x_iload 4 dX2_togetherOf_5 rfl (n := 7) rfl ?_
  refine x_aload_nr 0 dX2_togetherOf_7 rfl rfl (n := 8) rfl ?_
  refine tw_getA fl_X2_17 rfl (by decide) dX2_togetherOf_8 (n := 11) rfl ?_
  refine x_iconst 4 dX2_togetherOf_11 rfl (n := 12) rfl ?_
  refine x_aload_nr 0 dX2_togetherOf_12 rfl rfl (n := 13) rfl ?_
  refine tw_getA fl_X2_17 rfl (by decide) dX2_togetherOf_13 (n := 16) rfl ?_
  refine x_bipush 37 dX2_togetherOf_16 rfl (n := 18) rfl ?_
  refine x_iload_n 1 dX2_togetherOf_18 rfl rfl (n := 19) rfl ?_
  refine x_iadd dX2_togetherOf_19 (n := 20) rfl ?_
  refine tw_iald hE (by decide) dX2_togetherOf_20 (n := 21) rfl (fun x1 => ?_)
  refine x_iadd dX2_togetherOf_21 (n := 22) rfl ?_
  refine tw_iald hE (by decide) dX2_togetherOf_22 (n := 23) rfl (fun x2 => ?_)
  refine tw_icmp_gt dX2_togetherOf_23 (t := 97) (by decide) (n := 26) rfl ?_ ?_
  · refine x_iload_n 3 dX2_togetherOf_97 rfl rfl (n := 98) rfl ?_
    exact tw_ireturn dX2_togetherOf_98
  · refine x_aload_nr 0 dX2_togetherOf_26 rfl rfl (n := 27) rfl ?_
    refine x_iload_n 1 dX2_togetherOf_27 rfl rfl (n := 28) rfl ?_
    refine x_iload 4 dX2_togetherOf_28 rfl (n := 30) rfl ?_
    refine tw_callV_I [.int v1, .int v4] [] (T_timeAt_ok hO hE s0 v1 v4) md_X2_timeAt q3183 q3185 qs93 dX2_togetherOf_30 rfl rfl (by decide) (Nat.le_of_ble_eq_true rfl) (n := 33) rfl (fun x4 s3 => ?_)
    refine x_istore [(5, .int x4), (0, .ref E.2.1), (1, .int v1), (2, .int v2), (3, .int v3), (4, .int v4)] dX2_togetherOf_33 (by decide) rfl (n := 35) rfl ?_
    refine x_aload_nr 1 dX2_togetherOf_35 rfl rfl (n := 36) rfl ?_
    refine x_iload_n 3 dX2_togetherOf_36 rfl rfl (n := 37) rfl ?_
    refine x_iload 5 dX2_togetherOf_37 rfl (n := 39) rfl ?_
    refine tw_callV_I [.int v2, .int v4] [] (T_timeAt_ok hO hE s3 v2 v4) md_X2_timeAt q3183 q3185 qs93 dX2_togetherOf_39 rfl rfl (by decide) (Nat.le_of_ble_eq_true rfl) (n := 42) rfl (fun x6 s5 => ?_)
    refine x_istore [(6, .int x6), (5, .int x4), (0, .ref E.2.1), (1, .int v1), (2, .int v2), (3, .int v3), (4, .int v4)] dX2_togetherOf_42 (by decide) rfl (n := 44) rfl ?_
    refine x_iload_n 5 dX2_togetherOf_44 rfl rfl (n := 45) rfl ?_
    refine x_iload 1 dX2_togetherOf_45 rfl (n := 47) rfl ?_
    refine x_iconst (-1) dX2_togetherOf_47 rfl (n := 48) rfl ?_
    refine tw_icmp_eq dX2_togetherOf_48 (t := 88) (by decide) (n := 51) rfl ?_ ?_
    · refine x_sub [2, 3, 4, 6] [(0, .ref E.2.1), (1, .int v1), (2, .int v2), (4, .int v4)] rfl ?_
      exact T_togetherOf_88_ok hO hE hk5 v1 v2 v4 v3 s5
    · refine x_iload 0 dX2_togetherOf_51 rfl (n := 53) rfl ?_
      refine x_iconst (-1) dX2_togetherOf_53 rfl (n := 54) rfl ?_
      refine tw_icmp_eq dX2_togetherOf_54 (t := 88) (by decide) (n := 57) rfl ?_ ?_
      · refine x_sub [2, 3, 4, 6] [(0, .ref E.2.1), (1, .int v1), (2, .int v2), (4, .int v4)] rfl ?_
        exact T_togetherOf_88_ok hO hE hk5 v1 v2 v4 v3 s5
      · refine x_iload 1 dX2_togetherOf_57 rfl (n := 59) rfl ?_
        refine x_iload 0 dX2_togetherOf_59 rfl (n := 61) rfl ?_
        refine x_isub dX2_togetherOf_61 (n := 62) rfl ?_
        refine x_aload_nr 2 dX2_togetherOf_62 rfl rfl (n := 63) rfl ?_
        refine tw_getA fl_X2_17 rfl (by decide) dX2_togetherOf_63 (n := 66) rfl ?_
        refine x_iconst 2 dX2_togetherOf_66 rfl (n := 67) rfl ?_
        refine tw_iald hE (by decide) dX2_togetherOf_67 (n := 68) rfl (fun x9 => ?_)
        refine x_ineg dX2_togetherOf_68 (n := 69) rfl ?_
        refine x_aload_nr 2 dX2_togetherOf_69 rfl rfl (n := 70) rfl ?_
        refine tw_getA fl_X2_17 rfl (by decide) dX2_togetherOf_70 (n := 73) rfl ?_
        refine x_iconst 2 dX2_togetherOf_73 rfl (n := 74) rfl ?_
        refine tw_iald hE (by decide) dX2_togetherOf_74 (n := 75) rfl (fun x10 => ?_)
        refine tw_callS_I [.int (x4 - x6), .int (-x9), .int x10] [.int v3] (T_in_ok hO hE s5 (x4 - x6) (-x9) x10) md_X2_in q3016 q3017 dX2_togetherOf_75 rfl rfl (by decide) (Nat.le_of_ble_eq_true rfl) (n := 78) rfl (fun x12 s11 => ?_)
        refine tw_if_eq dX2_togetherOf_78 (t := 88) (by decide) (n := 81) rfl ?_ ?_
        · refine x_sub [2, 3, 4, 6] [(0, .ref E.2.1), (1, .int v1), (2, .int v2), (4, .int v4)] rfl ?_
          exact T_togetherOf_88_ok hO hE hk5 v1 v2 v4 v3 s11
        · refine x_iconst 1 dX2_togetherOf_81 rfl (n := 82) rfl ?_
          refine x_iload 6 dX2_togetherOf_82 rfl (n := 84) rfl ?_
          refine x_ishl dX2_togetherOf_84 (n := 85) rfl ?_
          refine x_goto dX2_togetherOf_85 (n := 89) (by decide) ?_
          refine x_sub [2, 3, 4, 6] [(0, .ref E.2.1), (1, .int v1), (2, .int v2), (4, .int v4)] rfl ?_
          exact T_togetherOf_89_ok hO hE hk5 v1 v2 v4 v3 (1 <<< (v4 &&& 31)) s11
theorem T_togetherOf_5_lp {G : xG} {E : TE} (hO : xOK G) (hE : tok E)   (n : Nat) (v1 : Int32) (v2 : Int32) (v3 : Int32) (v4 : Int32) (s0 : TS) : XT G E "ForestLegsModel" "togetherOf" cX2_togetherOf 7 (Option.some Jvm.ClassFile.FieldType.int) 4 5 [(0, .ref E.2.1), (1, .int v1), (2, .int v2), (3, .int v3), (4, .int v4)] [] s0 (lp (T_togetherOf_5F) n (v1, v2, v3, v4, s0)) :=
  lp_ok (W := fun p K => XT G E "ForestLegsModel" "togetherOf" cX2_togetherOf 7 (Option.some Jvm.ClassFile.FieldType.int) 4 5 [(0, .ref E.2.1), (1, .int p.1), (2, .int p.2.1), (3, .int p.2.2.1), (4, .int p.2.2.2.1)] [] p.2.2.2.2 K) (fun _ => tw_no) (fun k hk => fun (v1, v2, v3, v4, s0) => T_togetherOf_5F_ok hO hE (fun v1 v2 v3 v4 s0 => hk (v1, v2, v3, v4, s0)) v1 v2 v3 v4 s0) n (v1, v2, v3, v4, s0)
theorem T_togetherOf_ok {G : xG} {E : TE} (hO : xOK G) (hE : tok E) (s0 : TS) (a1 : Int32) (a2 : Int32) : CTT G E 4 yX2_togetherOf cX2_togetherOf 7 (Option.some Jvm.ClassFile.FieldType.int) [.ref E.2.1, .int a1, .int a2] s0 (T_togetherOf s0 a1 a2) := by
  refine CT_of hO (by decide +kernel) (by decide +kernel) (Nat.le_of_ble_eq_true rfl) ?_
  show XT G E "ForestLegsModel" "togetherOf" cX2_togetherOf 7 (Option.some Jvm.ClassFile.FieldType.int) 4 0 [(0, .ref E.2.1), (1, .int a1), (2, .int a2)] [] s0 (T_togetherOf s0 a1 a2)
  refine x_iconst 0 dX2_togetherOf_0 rfl (n := 1) rfl ?_
  refine x_istore_n [(3, .int 0), (0, .ref E.2.1), (1, .int a1), (2, .int a2)] dX2_togetherOf_1 rfl (by decide) rfl (n := 2) rfl ?_
  refine x_iconst 0 dX2_togetherOf_2 rfl (n := 3) rfl ?_
  refine x_istore [(4, .int 0), (3, .int 0), (0, .ref E.2.1), (1, .int a1), (2, .int a2)] dX2_togetherOf_3 (by decide) rfl (n := 5) rfl ?_
  refine x_sub [2, 3, 4, 1, 0] [(0, .ref E.2.1), (1, .int a1), (2, .int a2), (3, .int 0), (4, .int 0)] rfl ?_
  exact T_togetherOf_5_lp hO hE FU a1 a2 0 0 s0
abbrev cX2_alone : ByteArray := prog_14_method_89_code
def yX2_alone : MethodName := ⟨RX2, "alone", "(I)I"⟩
def dkwX2_alone_5 : List UInt8 := [130, 126, 61, 132, 3, 1, 167, 255, 202, 28, 172]
abbrev dktX2_alone_5 : List UInt8 := dkwX2_alone_5 ++ []
def dkwX2_alone_4 : List UInt8 := [46, 42, 180, 0, 17, 16, 37, 27, 96, 46, 159, 0, 7, 28, 167, 0, 11, 42, 27, 29, 182, 1, 53, 2]
abbrev dktX2_alone_4 : List UInt8 := dkwX2_alone_4 ++ dktX2_alone_5
def dkwX2_alone_3 : List UInt8 := [29, 42, 180, 0, 17, 4, 46, 162, 0, 50, 28, 29, 27, 159, 0, 24, 42, 180, 0, 17, 16, 37, 29, 96]
abbrev dktX2_alone_3 : List UInt8 := dkwX2_alone_3 ++ dktX2_alone_4
def dkwX2_alone_2 : List UInt8 := [182, 0, 212, 2, 159, 0, 9, 4, 29, 120, 167, 0, 4, 3, 128, 61, 132, 3, 1, 167, 255, 213, 3, 62]
abbrev dktX2_alone_2 : List UInt8 := dkwX2_alone_2 ++ dktX2_alone_3
def dkwX2_alone_1 : List UInt8 := [180, 0, 17, 7, 42, 180, 0, 17, 16, 37, 27, 96, 46, 96, 46, 163, 0, 29, 28, 42, 27, 29]
abbrev dktX2_alone_1 : List UInt8 := dkwX2_alone_1 ++ dktX2_alone_2
def dkwX2_alone_0 : List UInt8 := [42, 42, 27, 182, 0, 187, 184, 0, 234, 182, 0, 161, 153, 0, 5, 2, 172, 3, 61, 3, 62, 29, 42]
abbrev dktX2_alone_0 : List UInt8 := dkwX2_alone_0 ++ dktX2_alone_1
theorem dksX2_alone_0 : cX2_alone.data.toList.drop 0 = dktX2_alone_0 := by decide +kernel
theorem dksX2_alone_1 : cX2_alone.data.toList.drop 23 = dktX2_alone_1 := dk_seg dksX2_alone_0 23 rfl rfl
theorem dksX2_alone_2 : cX2_alone.data.toList.drop 45 = dktX2_alone_2 := dk_seg dksX2_alone_1 22 rfl rfl
theorem dksX2_alone_3 : cX2_alone.data.toList.drop 69 = dktX2_alone_3 := dk_seg dksX2_alone_2 24 rfl rfl
theorem dksX2_alone_4 : cX2_alone.data.toList.drop 93 = dktX2_alone_4 := dk_seg dksX2_alone_3 24 rfl rfl
theorem dksX2_alone_5 : cX2_alone.data.toList.drop 117 = dktX2_alone_5 := dk_seg dksX2_alone_4 24 rfl rfl
theorem dX2_alone_0 : decode cX2_alone 0 = .ok (.aload_n 0, 1) := dk_42 (dk_at dksX2_alone_0 0 rfl rfl)
theorem dX2_alone_1 : decode cX2_alone 1 = .ok (.aload_n 0, 1) := dk_42 (dk_at dksX2_alone_0 1 rfl rfl)
theorem dX2_alone_2 : decode cX2_alone 2 = .ok (.iload_n 1, 1) := dk_27 (dk_at dksX2_alone_0 2 rfl rfl)
theorem dX2_alone_3 : decode cX2_alone 3 = .ok (.invokevirtual 187, 3) := dk_182 0 187 (dk_at dksX2_alone_0 3 rfl rfl)
theorem dX2_alone_6 : decode cX2_alone 6 = .ok (.invokestatic 234, 3) := dk_184 0 234 (dk_at dksX2_alone_0 6 rfl rfl)
theorem dX2_alone_9 : decode cX2_alone 9 = .ok (.invokevirtual 161, 3) := dk_182 0 161 (dk_at dksX2_alone_0 9 rfl rfl)
theorem dX2_alone_12 : decode cX2_alone 12 = .ok (.ifCond .eq 5, 3) := dk_153 0 5 (dk_at dksX2_alone_0 12 rfl rfl)
theorem dX2_alone_15 : decode cX2_alone 15 = .ok (.iconst (-1), 1) := dk_2 (dk_at dksX2_alone_0 15 rfl rfl)
theorem dX2_alone_16 : decode cX2_alone 16 = .ok (.ireturn, 1) := dk_172 (dk_at dksX2_alone_0 16 rfl rfl)
theorem dX2_alone_17 : decode cX2_alone 17 = .ok (.iconst 0, 1) := dk_3 (dk_at dksX2_alone_0 17 rfl rfl)
theorem dX2_alone_18 : decode cX2_alone 18 = .ok (.istore_n 2, 1) := dk_61 (dk_at dksX2_alone_0 18 rfl rfl)
theorem dX2_alone_19 : decode cX2_alone 19 = .ok (.iconst 0, 1) := dk_3 (dk_at dksX2_alone_0 19 rfl rfl)
theorem dX2_alone_20 : decode cX2_alone 20 = .ok (.istore_n 3, 1) := dk_62 (dk_at dksX2_alone_0 20 rfl rfl)
theorem dX2_alone_21 : decode cX2_alone 21 = .ok (.iload_n 3, 1) := dk_29 (dk_at dksX2_alone_0 21 rfl rfl)
theorem dX2_alone_22 : decode cX2_alone 22 = .ok (.aload_n 0, 1) := dk_42 (dk_at dksX2_alone_0 22 rfl rfl)
theorem dX2_alone_23 : decode cX2_alone 23 = .ok (.getfield 17, 3) := dk_180 0 17 (dk_at dksX2_alone_1 0 rfl rfl)
theorem dX2_alone_26 : decode cX2_alone 26 = .ok (.iconst 4, 1) := dk_7 (dk_at dksX2_alone_1 3 rfl rfl)
theorem dX2_alone_27 : decode cX2_alone 27 = .ok (.aload_n 0, 1) := dk_42 (dk_at dksX2_alone_1 4 rfl rfl)
theorem dX2_alone_28 : decode cX2_alone 28 = .ok (.getfield 17, 3) := dk_180 0 17 (dk_at dksX2_alone_1 5 rfl rfl)
theorem dX2_alone_31 : decode cX2_alone 31 = .ok (.bipush 37, 2) := dk_16 37 (dk_at dksX2_alone_1 8 rfl rfl)
theorem dX2_alone_33 : decode cX2_alone 33 = .ok (.iload_n 1, 1) := dk_27 (dk_at dksX2_alone_1 10 rfl rfl)
theorem dX2_alone_34 : decode cX2_alone 34 = .ok (.iadd, 1) := dk_96 (dk_at dksX2_alone_1 11 rfl rfl)
theorem dX2_alone_35 : decode cX2_alone 35 = .ok (.iaload, 1) := dk_46 (dk_at dksX2_alone_1 12 rfl rfl)
theorem dX2_alone_36 : decode cX2_alone 36 = .ok (.iadd, 1) := dk_96 (dk_at dksX2_alone_1 13 rfl rfl)
theorem dX2_alone_37 : decode cX2_alone 37 = .ok (.iaload, 1) := dk_46 (dk_at dksX2_alone_1 14 rfl rfl)
theorem dX2_alone_38 : decode cX2_alone 38 = .ok (.if_icmp .gt 29, 3) := dk_163 0 29 (dk_at dksX2_alone_1 15 rfl rfl)
theorem dX2_alone_41 : decode cX2_alone 41 = .ok (.iload_n 2, 1) := dk_28 (dk_at dksX2_alone_1 18 rfl rfl)
theorem dX2_alone_42 : decode cX2_alone 42 = .ok (.aload_n 0, 1) := dk_42 (dk_at dksX2_alone_1 19 rfl rfl)
theorem dX2_alone_43 : decode cX2_alone 43 = .ok (.iload_n 1, 1) := dk_27 (dk_at dksX2_alone_1 20 rfl rfl)
theorem dX2_alone_44 : decode cX2_alone 44 = .ok (.iload_n 3, 1) := dk_29 (dk_at dksX2_alone_1 21 rfl rfl)
theorem dX2_alone_45 : decode cX2_alone 45 = .ok (.invokevirtual 212, 3) := dk_182 0 212 (dk_at dksX2_alone_2 0 rfl rfl)
theorem dX2_alone_48 : decode cX2_alone 48 = .ok (.iconst (-1), 1) := dk_2 (dk_at dksX2_alone_2 3 rfl rfl)
theorem dX2_alone_49 : decode cX2_alone 49 = .ok (.if_icmp .eq 9, 3) := dk_159 0 9 (dk_at dksX2_alone_2 4 rfl rfl)
theorem dX2_alone_52 : decode cX2_alone 52 = .ok (.iconst 1, 1) := dk_4 (dk_at dksX2_alone_2 7 rfl rfl)
theorem dX2_alone_53 : decode cX2_alone 53 = .ok (.iload_n 3, 1) := dk_29 (dk_at dksX2_alone_2 8 rfl rfl)
theorem dX2_alone_54 : decode cX2_alone 54 = .ok (.ishl, 1) := dk_120 (dk_at dksX2_alone_2 9 rfl rfl)
theorem dX2_alone_55 : decode cX2_alone 55 = .ok (.goto 4, 3) := dk_167 0 4 (dk_at dksX2_alone_2 10 rfl rfl)
theorem dX2_alone_58 : decode cX2_alone 58 = .ok (.iconst 0, 1) := dk_3 (dk_at dksX2_alone_2 13 rfl rfl)
theorem dX2_alone_59 : decode cX2_alone 59 = .ok (.ior, 1) := dk_128 (dk_at dksX2_alone_2 14 rfl rfl)
theorem dX2_alone_60 : decode cX2_alone 60 = .ok (.istore_n 2, 1) := dk_61 (dk_at dksX2_alone_2 15 rfl rfl)
theorem dX2_alone_61 : decode cX2_alone 61 = .ok (.iinc 3 1, 3) := dk_132 3 1 (dk_at dksX2_alone_2 16 rfl rfl)
theorem dX2_alone_64 : decode cX2_alone 64 = .ok (.goto (-43), 3) := dk_167 255 213 (dk_at dksX2_alone_2 19 rfl rfl)
theorem dX2_alone_67 : decode cX2_alone 67 = .ok (.iconst 0, 1) := dk_3 (dk_at dksX2_alone_2 22 rfl rfl)
theorem dX2_alone_68 : decode cX2_alone 68 = .ok (.istore_n 3, 1) := dk_62 (dk_at dksX2_alone_2 23 rfl rfl)
theorem dX2_alone_69 : decode cX2_alone 69 = .ok (.iload_n 3, 1) := dk_29 (dk_at dksX2_alone_3 0 rfl rfl)
theorem dX2_alone_70 : decode cX2_alone 70 = .ok (.aload_n 0, 1) := dk_42 (dk_at dksX2_alone_3 1 rfl rfl)
theorem dX2_alone_71 : decode cX2_alone 71 = .ok (.getfield 17, 3) := dk_180 0 17 (dk_at dksX2_alone_3 2 rfl rfl)
theorem dX2_alone_74 : decode cX2_alone 74 = .ok (.iconst 1, 1) := dk_4 (dk_at dksX2_alone_3 5 rfl rfl)
theorem dX2_alone_75 : decode cX2_alone 75 = .ok (.iaload, 1) := dk_46 (dk_at dksX2_alone_3 6 rfl rfl)
theorem dX2_alone_76 : decode cX2_alone 76 = .ok (.if_icmp .ge 50, 3) := dk_162 0 50 (dk_at dksX2_alone_3 7 rfl rfl)
theorem dX2_alone_79 : decode cX2_alone 79 = .ok (.iload_n 2, 1) := dk_28 (dk_at dksX2_alone_3 10 rfl rfl)
theorem dX2_alone_80 : decode cX2_alone 80 = .ok (.iload_n 3, 1) := dk_29 (dk_at dksX2_alone_3 11 rfl rfl)
theorem dX2_alone_81 : decode cX2_alone 81 = .ok (.iload_n 1, 1) := dk_27 (dk_at dksX2_alone_3 12 rfl rfl)
theorem dX2_alone_82 : decode cX2_alone 82 = .ok (.if_icmp .eq 24, 3) := dk_159 0 24 (dk_at dksX2_alone_3 13 rfl rfl)
theorem dX2_alone_85 : decode cX2_alone 85 = .ok (.aload_n 0, 1) := dk_42 (dk_at dksX2_alone_3 16 rfl rfl)
theorem dX2_alone_86 : decode cX2_alone 86 = .ok (.getfield 17, 3) := dk_180 0 17 (dk_at dksX2_alone_3 17 rfl rfl)
theorem dX2_alone_89 : decode cX2_alone 89 = .ok (.bipush 37, 2) := dk_16 37 (dk_at dksX2_alone_3 20 rfl rfl)
theorem dX2_alone_91 : decode cX2_alone 91 = .ok (.iload_n 3, 1) := dk_29 (dk_at dksX2_alone_3 22 rfl rfl)
theorem dX2_alone_92 : decode cX2_alone 92 = .ok (.iadd, 1) := dk_96 (dk_at dksX2_alone_3 23 rfl rfl)
theorem dX2_alone_93 : decode cX2_alone 93 = .ok (.iaload, 1) := dk_46 (dk_at dksX2_alone_4 0 rfl rfl)
theorem dX2_alone_94 : decode cX2_alone 94 = .ok (.aload_n 0, 1) := dk_42 (dk_at dksX2_alone_4 1 rfl rfl)
theorem dX2_alone_95 : decode cX2_alone 95 = .ok (.getfield 17, 3) := dk_180 0 17 (dk_at dksX2_alone_4 2 rfl rfl)
theorem dX2_alone_98 : decode cX2_alone 98 = .ok (.bipush 37, 2) := dk_16 37 (dk_at dksX2_alone_4 5 rfl rfl)
theorem dX2_alone_100 : decode cX2_alone 100 = .ok (.iload_n 1, 1) := dk_27 (dk_at dksX2_alone_4 7 rfl rfl)
theorem dX2_alone_101 : decode cX2_alone 101 = .ok (.iadd, 1) := dk_96 (dk_at dksX2_alone_4 8 rfl rfl)
theorem dX2_alone_102 : decode cX2_alone 102 = .ok (.iaload, 1) := dk_46 (dk_at dksX2_alone_4 9 rfl rfl)
theorem dX2_alone_103 : decode cX2_alone 103 = .ok (.if_icmp .eq 7, 3) := dk_159 0 7 (dk_at dksX2_alone_4 10 rfl rfl)
theorem dX2_alone_106 : decode cX2_alone 106 = .ok (.iload_n 2, 1) := dk_28 (dk_at dksX2_alone_4 13 rfl rfl)
theorem dX2_alone_107 : decode cX2_alone 107 = .ok (.goto 11, 3) := dk_167 0 11 (dk_at dksX2_alone_4 14 rfl rfl)
theorem dX2_alone_110 : decode cX2_alone 110 = .ok (.aload_n 0, 1) := dk_42 (dk_at dksX2_alone_4 17 rfl rfl)
theorem dX2_alone_111 : decode cX2_alone 111 = .ok (.iload_n 1, 1) := dk_27 (dk_at dksX2_alone_4 18 rfl rfl)
theorem dX2_alone_112 : decode cX2_alone 112 = .ok (.iload_n 3, 1) := dk_29 (dk_at dksX2_alone_4 19 rfl rfl)
theorem dX2_alone_113 : decode cX2_alone 113 = .ok (.invokevirtual 309, 3) := dk_182 1 53 (dk_at dksX2_alone_4 20 rfl rfl)
theorem dX2_alone_116 : decode cX2_alone 116 = .ok (.iconst (-1), 1) := dk_2 (dk_at dksX2_alone_4 23 rfl rfl)
theorem dX2_alone_117 : decode cX2_alone 117 = .ok (.ixor, 1) := dk_130 (dk_at dksX2_alone_5 0 rfl rfl)
theorem dX2_alone_118 : decode cX2_alone 118 = .ok (.iand, 1) := dk_126 (dk_at dksX2_alone_5 1 rfl rfl)
theorem dX2_alone_119 : decode cX2_alone 119 = .ok (.istore_n 2, 1) := dk_61 (dk_at dksX2_alone_5 2 rfl rfl)
theorem dX2_alone_120 : decode cX2_alone 120 = .ok (.iinc 3 1, 3) := dk_132 3 1 (dk_at dksX2_alone_5 3 rfl rfl)
theorem dX2_alone_123 : decode cX2_alone 123 = .ok (.goto (-54), 3) := dk_167 255 202 (dk_at dksX2_alone_5 6 rfl rfl)
theorem dX2_alone_126 : decode cX2_alone 126 = .ok (.iload_n 2, 1) := dk_28 (dk_at dksX2_alone_5 9 rfl rfl)
theorem dX2_alone_127 : decode cX2_alone 127 = .ok (.ireturn, 1) := dk_172 (dk_at dksX2_alone_5 10 rfl rfl)
theorem md_X2_alone : xMd yX2_alone cX2_alone 4 (Option.some Jvm.ClassFile.FieldType.int) 1 := ⟨q3357, q126, by decide, by decide +kernel, by decide +kernel, by decide +kernel⟩
def T_alone_118  (k69 : Int32 × Int32 × Int32 × TS → Option (xO × TS)) (v1 : Int32) (v3 : Int32) (w0 : Int32) (w1 : Int32) (s0 : TS) : Option (xO × TS) :=
  (bnd (w0 &&& w1) fun x10 =>
  (bnd (v3 + 1) fun x11 =>
  (k69 (v1, x10, x11, s0))))
def T_alone_106  (k69 : Int32 × Int32 × Int32 × TS → Option (xO × TS)) (v1 : Int32) (v2 : Int32) (v3 : Int32) (w0 : Int32) (s0 : TS) : Option (xO × TS) :=
  (T_alone_118 k69 v1 v3 w0 v2 s0)
def T_alone_69F   (k69 : Int32 × Int32 × Int32 × TS → Option (xO × TS)) (p : Int32 × Int32 × Int32 × TS) : Option (xO × TS) := match p with
  | (v1, v2, v3, s0) => (tald s0 7 1 fun x9 =>
  (if x9 ≤ v3 then
  (rI v2 s0) else
  (if v3 = v1 then
  (T_alone_106 k69 v1 v2 v3 v2 s0) else
  (tald s0 7 (37 + v3) fun x12 =>
  (tald s0 7 (37 + v1) fun x13 =>
  (if x12 = x13 then
  (xcI (T_togetherOf s0 v1 v3) fun x15 s14 =>
  (T_alone_118 k69 v1 v3 v2 (x15 ^^^ (-1)) s14)) else
  (T_alone_106 k69 v1 v2 v3 v2 s0)))))))
def T_alone_59  (k21 : Int32 × Int32 × Int32 × TS → Option (xO × TS)) (v1 : Int32) (v3 : Int32) (w0 : Int32) (w1 : Int32) (s0 : TS) : Option (xO × TS) :=
  (bnd (w0 ||| w1) fun x18 =>
  (bnd (v3 + 1) fun x19 =>
  (k21 (v1, x18, x19, s0))))
def T_alone_21F   (k21 : Int32 × Int32 × Int32 × TS → Option (xO × TS)) (p : Int32 × Int32 × Int32 × TS) : Option (xO × TS) := match p with
  | (v1, v2, v3, s0) => (tald s0 7 (37 + v1) fun x7 =>
  (tald s0 7 (4 + x7) fun x8 =>
  (if x8 < v3 then
  (lp (T_alone_69F) FU (v1, v2, 0, s0)) else
  (xcI (T_timeAt s0 v1 v3) fun x17 s16 =>
  (if x17 = (-1) then
  (T_alone_59 k21 v1 v3 v2 0 s16) else
  (T_alone_59 k21 v1 v3 v2 (1 <<< (v3 &&& 31)) s16))))))
def T_alone (s0 : TS) (a1 : Int32) : Option (xO × TS) :=
  (xcI (T_isRunner s0 a1) fun x2 s1 =>
  (xcI (T_unless_2 s1 x2) fun x4 s3 =>
  (xcI (T_isRefused s3 x4) fun x6 s5 =>
  (if x6 = 0 then
  (lp (T_alone_21F) FU (a1, 0, 0, s5)) else
  (rI (-1) s5)))))
theorem T_alone_118_ok {G : xG} {E : TE} (hO : xOK G) (hE : tok E)  {k69 : Int32 × Int32 × Int32 × TS → Option (xO × TS)} (hk69 : ∀ (v1 : Int32) (v2 : Int32) (v3 : Int32) (s0 : TS), XT G E "ForestLegsModel" "alone" cX2_alone 4 (Option.some Jvm.ClassFile.FieldType.int) 5 69 [(0, .ref E.2.1), (1, .int v1), (2, .int v2), (3, .int v3)] [] s0 (k69 (v1, v2, v3, s0))) (v1 : Int32) (v3 : Int32) (w0 : Int32) (w1 : Int32) (s0 : TS) : XT G E "ForestLegsModel" "alone" cX2_alone 4 (Option.some Jvm.ClassFile.FieldType.int) 5 118 [(0, .ref E.2.1), (1, .int v1), (3, .int v3)] [.int w1, .int w0] s0 (T_alone_118 k69 v1 v3 w0 w1 s0) := by
  unfold T_alone_118
  refine x_iand dX2_alone_118 (n := 119) rfl ?_
  refine tw_nm (fun x10 => ?_)
  refine x_istore_n [(2, .int x10), (0, .ref E.2.1), (1, .int v1), (3, .int v3)] dX2_alone_119 rfl (by decide) rfl (n := 120) rfl ?_
  refine tw_iinc 3 (fun x11 => [(3, .int x11), (2, .int x10), (0, .ref E.2.1), (1, .int v1)]) dX2_alone_120 rfl rfl (by decide) (fun _ => rfl) (n := 123) rfl (fun x11 => ?_)
  refine x_goto dX2_alone_123 (n := 69) (by decide) ?_
  refine x_sub [2, 3, 1, 0] [(0, .ref E.2.1), (1, .int v1), (2, .int x10), (3, .int x11)] rfl ?_
  exact hk69 v1 x10 x11 s0
theorem T_alone_106_ok {G : xG} {E : TE} (hO : xOK G) (hE : tok E)  {k69 : Int32 × Int32 × Int32 × TS → Option (xO × TS)} (hk69 : ∀ (v1 : Int32) (v2 : Int32) (v3 : Int32) (s0 : TS), XT G E "ForestLegsModel" "alone" cX2_alone 4 (Option.some Jvm.ClassFile.FieldType.int) 5 69 [(0, .ref E.2.1), (1, .int v1), (2, .int v2), (3, .int v3)] [] s0 (k69 (v1, v2, v3, s0))) (v1 : Int32) (v2 : Int32) (v3 : Int32) (w0 : Int32) (s0 : TS) : XT G E "ForestLegsModel" "alone" cX2_alone 4 (Option.some Jvm.ClassFile.FieldType.int) 5 106 [(0, .ref E.2.1), (1, .int v1), (2, .int v2), (3, .int v3)] [.int w0] s0 (T_alone_106 k69 v1 v2 v3 w0 s0) := by
  unfold T_alone_106
  refine x_iload_n 2 dX2_alone_106 rfl rfl (n := 107) rfl ?_
  refine x_goto dX2_alone_107 (n := 118) (by decide) ?_
  refine x_sub [0, 1, 3] [(0, .ref E.2.1), (1, .int v1), (3, .int v3)] rfl ?_
  exact T_alone_118_ok hO hE hk69 v1 v3 w0 v2 s0
theorem T_alone_69F_ok {G : xG} {E : TE} (hO : xOK G) (hE : tok E)   {k69 : Int32 × Int32 × Int32 × TS → Option (xO × TS)} (hk69 : ∀ (v1 : Int32) (v2 : Int32) (v3 : Int32) (s0 : TS), XT G E "ForestLegsModel" "alone" cX2_alone 4 (Option.some Jvm.ClassFile.FieldType.int) 5 69 [(0, .ref E.2.1), (1, .int v1), (2, .int v2), (3, .int v3)] [] s0 (k69 (v1, v2, v3, s0))) (v1 : Int32) (v2 : Int32) (v3 : Int32) (s0 : TS) : XT G E "ForestLegsModel" "alone" cX2_alone 4 (Option.some Jvm.ClassFile.FieldType.int) 5 69 [(0, .ref E.2.1), (1, .int v1), (2, .int v2), (3, .int v3)] [] s0 (T_alone_69F k69 (v1, v2, v3, s0)) := by
  unfold T_alone_69F
  refine x_iload_n 3 dX2_alone_69 rfl rfl (n := 70) rfl ?_
  refine x_aload_nr 0 dX2_alone_70 rfl rfl (n := 71) rfl ?_
  refine tw_getA fl_X2_17 rfl (by decide) dX2_alone_71 (n := 74) rfl ?_
  refine x_iconst 1 dX2_alone_74 rfl (n := 75) rfl ?_
  refine tw_iald hE (by decide) dX2_alone_75 (n := 76) rfl (fun x9 => ?_)
  refine tw_icmp_ge dX2_alone_76 (t := 126) (by decide) (n := 79) rfl ?_ ?_
  · refine x_iload_n 2 dX2_alone_126 rfl rfl (n := 127) rfl ?_
    exact tw_ireturn dX2_alone_127
  · refine x_iload_n 2 dX2_alone_79 rfl rfl (n := 80) rfl ?_
    refine x_iload_n 3 dX2_alone_80 rfl rfl (n := 81) rfl ?_
    refine x_iload_n 1 dX2_alone_81 rfl rfl (n := 82) rfl ?_
    refine tw_icmp_eq dX2_alone_82 (t := 106) (by decide) (n := 85) rfl ?_ ?_
    · exact T_alone_106_ok hO hE hk69 v1 v2 v3 v2 s0
    · refine x_aload_nr 0 dX2_alone_85 rfl rfl (n := 86) rfl ?_
      refine tw_getA fl_X2_17 rfl (by decide) dX2_alone_86 (n := 89) rfl ?_
      refine x_bipush 37 dX2_alone_89 rfl (n := 91) rfl ?_
      refine x_iload_n 3 dX2_alone_91 rfl rfl (n := 92) rfl ?_
      refine x_iadd dX2_alone_92 (n := 93) rfl ?_
      refine tw_iald hE (by decide) dX2_alone_93 (n := 94) rfl (fun x12 => ?_)
      refine x_aload_nr 0 dX2_alone_94 rfl rfl (n := 95) rfl ?_
      refine tw_getA fl_X2_17 rfl (by decide) dX2_alone_95 (n := 98) rfl ?_
      refine x_bipush 37 dX2_alone_98 rfl (n := 100) rfl ?_
      refine x_iload_n 1 dX2_alone_100 rfl rfl (n := 101) rfl ?_
      refine x_iadd dX2_alone_101 (n := 102) rfl ?_
      refine tw_iald hE (by decide) dX2_alone_102 (n := 103) rfl (fun x13 => ?_)
      refine tw_icmp_eq dX2_alone_103 (t := 110) (by decide) (n := 106) rfl ?_ ?_
      · refine x_aload_nr 0 dX2_alone_110 rfl rfl (n := 111) rfl ?_
        refine x_iload_n 1 dX2_alone_111 rfl rfl (n := 112) rfl ?_
        refine x_iload_n 3 dX2_alone_112 rfl rfl (n := 113) rfl ?_
        refine tw_callV_I [.int v1, .int v3] [.int v2] (T_togetherOf_ok hO hE s0 v1 v3) md_X2_togetherOf q3358 q3360 qs113 dX2_alone_113 rfl rfl (by decide) (Nat.le_of_ble_eq_true rfl) (n := 116) rfl (fun x15 s14 => ?_)
        refine x_iconst (-1) dX2_alone_116 rfl (n := 117) rfl ?_
        refine x_ixor dX2_alone_117 (n := 118) rfl ?_
        refine x_sub [0, 1, 3] [(0, .ref E.2.1), (1, .int v1), (3, .int v3)] rfl ?_
        exact T_alone_118_ok hO hE hk69 v1 v3 v2 (x15 ^^^ (-1)) s14
      · exact T_alone_106_ok hO hE hk69 v1 v2 v3 v2 s0
theorem T_alone_69_lp {G : xG} {E : TE} (hO : xOK G) (hE : tok E)   (n : Nat) (v1 : Int32) (v2 : Int32) (v3 : Int32) (s0 : TS) : XT G E "ForestLegsModel" "alone" cX2_alone 4 (Option.some Jvm.ClassFile.FieldType.int) 5 69 [(0, .ref E.2.1), (1, .int v1), (2, .int v2), (3, .int v3)] [] s0 (lp (T_alone_69F) n (v1, v2, v3, s0)) :=
  lp_ok (W := fun p K => XT G E "ForestLegsModel" "alone" cX2_alone 4 (Option.some Jvm.ClassFile.FieldType.int) 5 69 [(0, .ref E.2.1), (1, .int p.1), (2, .int p.2.1), (3, .int p.2.2.1)] [] p.2.2.2 K) (fun _ => tw_no) (fun k hk => fun (v1, v2, v3, s0) => T_alone_69F_ok hO hE (fun v1 v2 v3 s0 => hk (v1, v2, v3, s0)) v1 v2 v3 s0) n (v1, v2, v3, s0)
theorem T_alone_59_ok {G : xG} {E : TE} (hO : xOK G) (hE : tok E)  {k21 : Int32 × Int32 × Int32 × TS → Option (xO × TS)} (hk21 : ∀ (v1 : Int32) (v2 : Int32) (v3 : Int32) (s0 : TS), XT G E "ForestLegsModel" "alone" cX2_alone 4 (Option.some Jvm.ClassFile.FieldType.int) 5 21 [(0, .ref E.2.1), (1, .int v1), (2, .int v2), (3, .int v3)] [] s0 (k21 (v1, v2, v3, s0))) (v1 : Int32) (v3 : Int32) (w0 : Int32) (w1 : Int32) (s0 : TS) : XT G E "ForestLegsModel" "alone" cX2_alone 4 (Option.some Jvm.ClassFile.FieldType.int) 5 59 [(0, .ref E.2.1), (1, .int v1), (3, .int v3)] [.int w1, .int w0] s0 (T_alone_59 k21 v1 v3 w0 w1 s0) := by
  unfold T_alone_59
  refine x_ior dX2_alone_59 (n := 60) rfl ?_
  refine tw_nm (fun x18 => ?_)
  refine x_istore_n [(2, .int x18), (0, .ref E.2.1), (1, .int v1), (3, .int v3)] dX2_alone_60 rfl (by decide) rfl (n := 61) rfl ?_
  refine tw_iinc 3 (fun x19 => [(3, .int x19), (2, .int x18), (0, .ref E.2.1), (1, .int v1)]) dX2_alone_61 rfl rfl (by decide) (fun _ => rfl) (n := 64) rfl (fun x19 => ?_)
  refine x_goto dX2_alone_64 (n := 21) (by decide) ?_
  refine x_sub [2, 3, 1, 0] [(0, .ref E.2.1), (1, .int v1), (2, .int x18), (3, .int x19)] rfl ?_
  exact hk21 v1 x18 x19 s0
theorem T_alone_21F_ok {G : xG} {E : TE} (hO : xOK G) (hE : tok E)   {k21 : Int32 × Int32 × Int32 × TS → Option (xO × TS)} (hk21 : ∀ (v1 : Int32) (v2 : Int32) (v3 : Int32) (s0 : TS), XT G E "ForestLegsModel" "alone" cX2_alone 4 (Option.some Jvm.ClassFile.FieldType.int) 5 21 [(0, .ref E.2.1), (1, .int v1), (2, .int v2), (3, .int v3)] [] s0 (k21 (v1, v2, v3, s0))) (v1 : Int32) (v2 : Int32) (v3 : Int32) (s0 : TS) : XT G E "ForestLegsModel" "alone" cX2_alone 4 (Option.some Jvm.ClassFile.FieldType.int) 5 21 [(0, .ref E.2.1), (1, .int v1), (2, .int v2), (3, .int v3)] [] s0 (T_alone_21F k21 (v1, v2, v3, s0)) := by
  unfold T_alone_21F
  refine x_iload_n 3 dX2_alone_21 rfl rfl (n := 22) rfl ?_
  refine x_aload_nr 0 dX2_alone_22 rfl rfl (n := 23) rfl ?_
  refine tw_getA fl_X2_17 rfl (by decide) dX2_alone_23 (n := 26) rfl ?_
  refine x_iconst 4 dX2_alone_26 rfl (n := 27) rfl ?_
  refine x_aload_nr 0 dX2_alone_27 rfl rfl (n := 28) rfl ?_
  refine tw_getA fl_X2_17 rfl (by decide) dX2_alone_28 (n := 31) rfl ?_
  refine x_bipush 37 dX2_alone_31 rfl (n := 33) rfl ?_
  refine x_iload_n 1 dX2_alone_33 rfl rfl (n := 34) rfl ?_
  refine x_iadd dX2_alone_34 (n := 35) rfl ?_
  refine tw_iald hE (by decide) dX2_alone_35 (n := 36) rfl (fun x7 => ?_)
  refine x_iadd dX2_alone_36 (n := 37) rfl ?_
  refine tw_iald hE (by decide) dX2_alone_37 (n := 38) rfl (fun x8 => ?_)
  refine tw_icmp_gt dX2_alone_38 (t := 67) (by decide) (n := 41) rfl ?_ ?_
  · refine x_iconst 0 dX2_alone_67 rfl (n := 68) rfl ?_
    refine x_istore_n [(3, .int 0), (0, .ref E.2.1), (1, .int v1), (2, .int v2)] dX2_alone_68 rfl (by decide) rfl (n := 69) rfl ?_
    refine x_sub [1, 2, 3, 0] [(0, .ref E.2.1), (1, .int v1), (2, .int v2), (3, .int 0)] rfl ?_
    exact T_alone_69_lp hO hE FU v1 v2 0 s0
  · refine x_iload_n 2 dX2_alone_41 rfl rfl (n := 42) rfl ?_
    refine x_aload_nr 0 dX2_alone_42 rfl rfl (n := 43) rfl ?_
    refine x_iload_n 1 dX2_alone_43 rfl rfl (n := 44) rfl ?_
    refine x_iload_n 3 dX2_alone_44 rfl rfl (n := 45) rfl ?_
    refine tw_callV_I [.int v1, .int v3] [.int v2] (T_timeAt_ok hO hE s0 v1 v3) md_X2_timeAt q3183 q3185 qs93 dX2_alone_45 rfl rfl (by decide) (Nat.le_of_ble_eq_true rfl) (n := 48) rfl (fun x17 s16 => ?_)
    refine x_iconst (-1) dX2_alone_48 rfl (n := 49) rfl ?_
    refine tw_icmp_eq dX2_alone_49 (t := 58) (by decide) (n := 52) rfl ?_ ?_
    · refine x_iconst 0 dX2_alone_58 rfl (n := 59) rfl ?_
      refine x_sub [0, 1, 3] [(0, .ref E.2.1), (1, .int v1), (3, .int v3)] rfl ?_
      exact T_alone_59_ok hO hE hk21 v1 v3 v2 0 s16
    · refine x_iconst 1 dX2_alone_52 rfl (n := 53) rfl ?_
      refine x_iload_n 3 dX2_alone_53 rfl rfl (n := 54) rfl ?_
      refine x_ishl dX2_alone_54 (n := 55) rfl ?_
      refine x_goto dX2_alone_55 (n := 59) (by decide) ?_
      refine x_sub [0, 1, 3] [(0, .ref E.2.1), (1, .int v1), (3, .int v3)] rfl ?_
      exact T_alone_59_ok hO hE hk21 v1 v3 v2 (1 <<< (v3 &&& 31)) s16
theorem T_alone_21_lp {G : xG} {E : TE} (hO : xOK G) (hE : tok E)   (n : Nat) (v1 : Int32) (v2 : Int32) (v3 : Int32) (s0 : TS) : XT G E "ForestLegsModel" "alone" cX2_alone 4 (Option.some Jvm.ClassFile.FieldType.int) 5 21 [(0, .ref E.2.1), (1, .int v1), (2, .int v2), (3, .int v3)] [] s0 (lp (T_alone_21F) n (v1, v2, v3, s0)) :=
  lp_ok (W := fun p K => XT G E "ForestLegsModel" "alone" cX2_alone 4 (Option.some Jvm.ClassFile.FieldType.int) 5 21 [(0, .ref E.2.1), (1, .int p.1), (2, .int p.2.1), (3, .int p.2.2.1)] [] p.2.2.2 K) (fun _ => tw_no) (fun k hk => fun (v1, v2, v3, s0) => T_alone_21F_ok hO hE (fun v1 v2 v3 s0 => hk (v1, v2, v3, s0)) v1 v2 v3 s0) n (v1, v2, v3, s0)
theorem T_alone_ok {G : xG} {E : TE} (hO : xOK G) (hE : tok E) (s0 : TS) (a1 : Int32) : CTT G E 5 yX2_alone cX2_alone 4 (Option.some Jvm.ClassFile.FieldType.int) [.ref E.2.1, .int a1] s0 (T_alone s0 a1) := by
  refine CT_of hO (by decide +kernel) (by decide +kernel) (Nat.le_of_ble_eq_true rfl) ?_
  show XT G E "ForestLegsModel" "alone" cX2_alone 4 (Option.some Jvm.ClassFile.FieldType.int) 5 0 [(0, .ref E.2.1), (1, .int a1)] [] s0 (T_alone s0 a1)
  refine x_aload_nr 0 dX2_alone_0 rfl rfl (n := 1) rfl ?_
  refine x_aload_nr 0 dX2_alone_1 rfl rfl (n := 2) rfl ?_
  refine x_iload_n 1 dX2_alone_2 rfl rfl (n := 3) rfl ?_
  refine tw_callV_I [.int a1] [.ref E.2.1] (T_isRunner_ok hO hE s0 a1) md_X2_isRunner q3215 q3217 qs99 dX2_alone_3 rfl rfl (by decide) (Nat.le_of_ble_eq_true rfl) (n := 6) rfl (fun x2 s1 => ?_)
  refine tw_callS_I [.int x2] [.ref E.2.1] (T_unless_2_ok hO hE s1 x2) md_X2_unless_2 q3121 q3122 dX2_alone_6 rfl rfl (by decide) (Nat.le_of_ble_eq_true rfl) (n := 9) rfl (fun x4 s3 => ?_)
  refine tw_callV_I [.int x4] [] (T_isRefused_ok hO hE s3 x4) md_X2_isRefused q3022 q3024 qs63 dX2_alone_9 rfl rfl (by decide) (Nat.le_of_ble_eq_true rfl) (n := 12) rfl (fun x6 s5 => ?_)
  refine tw_if_eq dX2_alone_12 (t := 17) (by decide) (n := 15) rfl ?_ ?_
  · refine x_iconst 0 dX2_alone_17 rfl (n := 18) rfl ?_
    refine x_istore_n [(2, .int 0), (0, .ref E.2.1), (1, .int a1)] dX2_alone_18 rfl (by decide) rfl (n := 19) rfl ?_
    refine x_iconst 0 dX2_alone_19 rfl (n := 20) rfl ?_
    refine x_istore_n [(3, .int 0), (2, .int 0), (0, .ref E.2.1), (1, .int a1)] dX2_alone_20 rfl (by decide) rfl (n := 21) rfl ?_
    refine x_sub [2, 3, 1, 0] [(0, .ref E.2.1), (1, .int a1), (2, .int 0), (3, .int 0)] rfl ?_
    exact T_alone_21_lp hO hE FU a1 0 0 s5
  · refine x_iconst (-1) dX2_alone_15 rfl (n := 16) rfl ?_
    exact tw_ireturn dX2_alone_16
abbrev cX2_whyNotTwo : ByteArray := prog_14_method_90_code
def yX2_whyNotTwo : MethodName := ⟨RX2, "whyNotTwo", "(IIZ)I"⟩
def dkwX2_whyNotTwo_2 : List UInt8 := [159, 0, 7, 8, 167, 0, 4, 3, 172]
abbrev dktX2_whyNotTwo_2 : List UInt8 := dkwX2_whyNotTwo_2 ++ []
def dkwX2_whyNotTwo_1 : List UInt8 := [27, 28, 159, 0, 24, 42, 180, 0, 17, 16, 37, 27, 96, 46, 42, 180, 0, 17, 16, 37, 28, 96, 46]
abbrev dktX2_whyNotTwo_1 : List UInt8 := dkwX2_whyNotTwo_1 ++ dktX2_whyNotTwo_2
def dkwX2_whyNotTwo_0 : List UInt8 := [29, 153, 0, 19, 42, 27, 182, 0, 187, 153, 0, 11, 42, 28, 182, 0, 187, 154, 0, 7, 4, 167, 0, 34]
abbrev dktX2_whyNotTwo_0 : List UInt8 := dkwX2_whyNotTwo_0 ++ dktX2_whyNotTwo_1
theorem dksX2_whyNotTwo_0 : cX2_whyNotTwo.data.toList.drop 0 = dktX2_whyNotTwo_0 := by decide +kernel
theorem dksX2_whyNotTwo_1 : cX2_whyNotTwo.data.toList.drop 24 = dktX2_whyNotTwo_1 := dk_seg dksX2_whyNotTwo_0 24 rfl rfl
theorem dksX2_whyNotTwo_2 : cX2_whyNotTwo.data.toList.drop 47 = dktX2_whyNotTwo_2 := dk_seg dksX2_whyNotTwo_1 23 rfl rfl
theorem dX2_whyNotTwo_0 : decode cX2_whyNotTwo 0 = .ok (.iload_n 3, 1) := dk_29 (dk_at dksX2_whyNotTwo_0 0 rfl rfl)
theorem dX2_whyNotTwo_1 : decode cX2_whyNotTwo 1 = .ok (.ifCond .eq 19, 3) := dk_153 0 19 (dk_at dksX2_whyNotTwo_0 1 rfl rfl)
theorem dX2_whyNotTwo_4 : decode cX2_whyNotTwo 4 = .ok (.aload_n 0, 1) := dk_42 (dk_at dksX2_whyNotTwo_0 4 rfl rfl)
theorem dX2_whyNotTwo_5 : decode cX2_whyNotTwo 5 = .ok (.iload_n 1, 1) := dk_27 (dk_at dksX2_whyNotTwo_0 5 rfl rfl)
theorem dX2_whyNotTwo_6 : decode cX2_whyNotTwo 6 = .ok (.invokevirtual 187, 3) := dk_182 0 187 (dk_at dksX2_whyNotTwo_0 6 rfl rfl)
theorem dX2_whyNotTwo_9 : decode cX2_whyNotTwo 9 = .ok (.ifCond .eq 11, 3) := dk_153 0 11 (dk_at dksX2_whyNotTwo_0 9 rfl rfl)
theorem dX2_whyNotTwo_12 : decode cX2_whyNotTwo 12 = .ok (.aload_n 0, 1) := dk_42 (dk_at dksX2_whyNotTwo_0 12 rfl rfl)
theorem dX2_whyNotTwo_13 : decode cX2_whyNotTwo 13 = .ok (.iload_n 2, 1) := dk_28 (dk_at dksX2_whyNotTwo_0 13 rfl rfl)
theorem dX2_whyNotTwo_14 : decode cX2_whyNotTwo 14 = .ok (.invokevirtual 187, 3) := dk_182 0 187 (dk_at dksX2_whyNotTwo_0 14 rfl rfl)
theorem dX2_whyNotTwo_17 : decode cX2_whyNotTwo 17 = .ok (.ifCond .ne 7, 3) := dk_154 0 7 (dk_at dksX2_whyNotTwo_0 17 rfl rfl)
theorem dX2_whyNotTwo_20 : decode cX2_whyNotTwo 20 = .ok (.iconst 1, 1) := dk_4 (dk_at dksX2_whyNotTwo_0 20 rfl rfl)
theorem dX2_whyNotTwo_21 : decode cX2_whyNotTwo 21 = .ok (.goto 34, 3) := dk_167 0 34 (dk_at dksX2_whyNotTwo_0 21 rfl rfl)
theorem dX2_whyNotTwo_24 : decode cX2_whyNotTwo 24 = .ok (.iload_n 1, 1) := dk_27 (dk_at dksX2_whyNotTwo_1 0 rfl rfl)
theorem dX2_whyNotTwo_25 : decode cX2_whyNotTwo 25 = .ok (.iload_n 2, 1) := dk_28 (dk_at dksX2_whyNotTwo_1 1 rfl rfl)
theorem dX2_whyNotTwo_26 : decode cX2_whyNotTwo 26 = .ok (.if_icmp .eq 24, 3) := dk_159 0 24 (dk_at dksX2_whyNotTwo_1 2 rfl rfl)
theorem dX2_whyNotTwo_29 : decode cX2_whyNotTwo 29 = .ok (.aload_n 0, 1) := dk_42 (dk_at dksX2_whyNotTwo_1 5 rfl rfl)
theorem dX2_whyNotTwo_30 : decode cX2_whyNotTwo 30 = .ok (.getfield 17, 3) := dk_180 0 17 (dk_at dksX2_whyNotTwo_1 6 rfl rfl)
theorem dX2_whyNotTwo_33 : decode cX2_whyNotTwo 33 = .ok (.bipush 37, 2) := dk_16 37 (dk_at dksX2_whyNotTwo_1 9 rfl rfl)
theorem dX2_whyNotTwo_35 : decode cX2_whyNotTwo 35 = .ok (.iload_n 1, 1) := dk_27 (dk_at dksX2_whyNotTwo_1 11 rfl rfl)
theorem dX2_whyNotTwo_36 : decode cX2_whyNotTwo 36 = .ok (.iadd, 1) := dk_96 (dk_at dksX2_whyNotTwo_1 12 rfl rfl)
theorem dX2_whyNotTwo_37 : decode cX2_whyNotTwo 37 = .ok (.iaload, 1) := dk_46 (dk_at dksX2_whyNotTwo_1 13 rfl rfl)
theorem dX2_whyNotTwo_38 : decode cX2_whyNotTwo 38 = .ok (.aload_n 0, 1) := dk_42 (dk_at dksX2_whyNotTwo_1 14 rfl rfl)
theorem dX2_whyNotTwo_39 : decode cX2_whyNotTwo 39 = .ok (.getfield 17, 3) := dk_180 0 17 (dk_at dksX2_whyNotTwo_1 15 rfl rfl)
theorem dX2_whyNotTwo_42 : decode cX2_whyNotTwo 42 = .ok (.bipush 37, 2) := dk_16 37 (dk_at dksX2_whyNotTwo_1 18 rfl rfl)
theorem dX2_whyNotTwo_44 : decode cX2_whyNotTwo 44 = .ok (.iload_n 2, 1) := dk_28 (dk_at dksX2_whyNotTwo_1 20 rfl rfl)
theorem dX2_whyNotTwo_45 : decode cX2_whyNotTwo 45 = .ok (.iadd, 1) := dk_96 (dk_at dksX2_whyNotTwo_1 21 rfl rfl)
theorem dX2_whyNotTwo_46 : decode cX2_whyNotTwo 46 = .ok (.iaload, 1) := dk_46 (dk_at dksX2_whyNotTwo_1 22 rfl rfl)
theorem dX2_whyNotTwo_47 : decode cX2_whyNotTwo 47 = .ok (.if_icmp .eq 7, 3) := dk_159 0 7 (dk_at dksX2_whyNotTwo_2 0 rfl rfl)
theorem dX2_whyNotTwo_50 : decode cX2_whyNotTwo 50 = .ok (.iconst 5, 1) := dk_8 (dk_at dksX2_whyNotTwo_2 3 rfl rfl)
theorem dX2_whyNotTwo_51 : decode cX2_whyNotTwo 51 = .ok (.goto 4, 3) := dk_167 0 4 (dk_at dksX2_whyNotTwo_2 4 rfl rfl)
theorem dX2_whyNotTwo_54 : decode cX2_whyNotTwo 54 = .ok (.iconst 0, 1) := dk_3 (dk_at dksX2_whyNotTwo_2 7 rfl rfl)
theorem dX2_whyNotTwo_55 : decode cX2_whyNotTwo 55 = .ok (.ireturn, 1) := dk_172 (dk_at dksX2_whyNotTwo_2 8 rfl rfl)
theorem md_X2_whyNotTwo : xMd yX2_whyNotTwo cX2_whyNotTwo 4 (Option.some Jvm.ClassFile.FieldType.int) 3 := ⟨q3369, q126, by decide, by decide +kernel, by decide +kernel, by decide +kernel⟩
def T_whyNotTwo (s0 : TS) (a1 : Int32) (a2 : Int32) (a3 : Int32) : Option (xO × TS) :=
  (if a3 = 0 then
  (rI 1 s0) else
  (xcI (T_isRunner s0 a1) fun x2 s1 =>
  (if x2 = 0 then
  (rI 1 s1) else
  (xcI (T_isRunner s1 a2) fun x4 s3 =>
  (if x4 = 0 then
  (rI 1 s3) else
  (if a1 = a2 then
  (rI 5 s3) else
  (tald s3 7 (37 + a1) fun x5 =>
  (tald s3 7 (37 + a2) fun x6 =>
  (if x5 = x6 then
  (rI 0 s3) else
  (rI 5 s3))))))))))
theorem T_whyNotTwo_ok {G : xG} {E : TE} (hO : xOK G) (hE : tok E) (s0 : TS) (a1 : Int32) (a2 : Int32) (a3 : Int32) : CTT G E 2 yX2_whyNotTwo cX2_whyNotTwo 4 (Option.some Jvm.ClassFile.FieldType.int) [.ref E.2.1, .int a1, .int a2, .int a3] s0 (T_whyNotTwo s0 a1 a2 a3) := by
  refine CT_of hO (by decide +kernel) (by decide +kernel) (Nat.le_of_ble_eq_true rfl) ?_
  show XT G E "ForestLegsModel" "whyNotTwo" cX2_whyNotTwo 4 (Option.some Jvm.ClassFile.FieldType.int) 2 0 [(0, .ref E.2.1), (1, .int a1), (2, .int a2), (3, .int a3)] [] s0 (T_whyNotTwo s0 a1 a2 a3)
  refine x_iload_n 3 dX2_whyNotTwo_0 rfl rfl (n := 1) rfl ?_
  refine tw_if_eq dX2_whyNotTwo_1 (t := 20) (by decide) (n := 4) rfl ?_ ?_
  · refine x_iconst 1 dX2_whyNotTwo_20 rfl (n := 21) rfl ?_
    refine x_goto dX2_whyNotTwo_21 (n := 55) (by decide) ?_
    exact tw_ireturn dX2_whyNotTwo_55
  · refine x_aload_nr 0 dX2_whyNotTwo_4 rfl rfl (n := 5) rfl ?_
    refine x_iload_n 1 dX2_whyNotTwo_5 rfl rfl (n := 6) rfl ?_
    refine tw_callV_I [.int a1] [] (T_isRunner_ok hO hE s0 a1) md_X2_isRunner q3215 q3217 qs99 dX2_whyNotTwo_6 rfl rfl (by decide) (Nat.le_of_ble_eq_true rfl) (n := 9) rfl (fun x2 s1 => ?_)
    refine tw_if_eq dX2_whyNotTwo_9 (t := 20) (by decide) (n := 12) rfl ?_ ?_
    · refine x_iconst 1 dX2_whyNotTwo_20 rfl (n := 21) rfl ?_
      refine x_goto dX2_whyNotTwo_21 (n := 55) (by decide) ?_
      exact tw_ireturn dX2_whyNotTwo_55
    · refine x_aload_nr 0 dX2_whyNotTwo_12 rfl rfl (n := 13) rfl ?_
      refine x_iload_n 2 dX2_whyNotTwo_13 rfl rfl (n := 14) rfl ?_
      refine tw_callV_I [.int a2] [] (T_isRunner_ok hO hE s1 a2) md_X2_isRunner q3215 q3217 qs99 dX2_whyNotTwo_14 rfl rfl (by decide) (Nat.le_of_ble_eq_true rfl) (n := 17) rfl (fun x4 s3 => ?_)
      refine tw_if_ne dX2_whyNotTwo_17 (t := 24) (by decide) (n := 20) rfl ?_ ?_
      · refine x_iload_n 1 dX2_whyNotTwo_24 rfl rfl (n := 25) rfl ?_
        refine x_iload_n 2 dX2_whyNotTwo_25 rfl rfl (n := 26) rfl ?_
        refine tw_icmp_eq dX2_whyNotTwo_26 (t := 50) (by decide) (n := 29) rfl ?_ ?_
        · refine x_iconst 5 dX2_whyNotTwo_50 rfl (n := 51) rfl ?_
          refine x_goto dX2_whyNotTwo_51 (n := 55) (by decide) ?_
          exact tw_ireturn dX2_whyNotTwo_55
        · refine x_aload_nr 0 dX2_whyNotTwo_29 rfl rfl (n := 30) rfl ?_
          refine tw_getA fl_X2_17 rfl (by decide) dX2_whyNotTwo_30 (n := 33) rfl ?_
          refine x_bipush 37 dX2_whyNotTwo_33 rfl (n := 35) rfl ?_
          refine x_iload_n 1 dX2_whyNotTwo_35 rfl rfl (n := 36) rfl ?_
          refine x_iadd dX2_whyNotTwo_36 (n := 37) rfl ?_
          refine tw_iald hE (by decide) dX2_whyNotTwo_37 (n := 38) rfl (fun x5 => ?_)
          refine x_aload_nr 0 dX2_whyNotTwo_38 rfl rfl (n := 39) rfl ?_
          refine tw_getA fl_X2_17 rfl (by decide) dX2_whyNotTwo_39 (n := 42) rfl ?_
          refine x_bipush 37 dX2_whyNotTwo_42 rfl (n := 44) rfl ?_
          refine x_iload_n 2 dX2_whyNotTwo_44 rfl rfl (n := 45) rfl ?_
          refine x_iadd dX2_whyNotTwo_45 (n := 46) rfl ?_
          refine tw_iald hE (by decide) dX2_whyNotTwo_46 (n := 47) rfl (fun x6 => ?_)
          refine tw_icmp_eq dX2_whyNotTwo_47 (t := 54) (by decide) (n := 50) rfl ?_ ?_
          · refine x_iconst 0 dX2_whyNotTwo_54 rfl (n := 55) rfl ?_
            exact tw_ireturn dX2_whyNotTwo_55
          · refine x_iconst 5 dX2_whyNotTwo_50 rfl (n := 51) rfl ?_
            refine x_goto dX2_whyNotTwo_51 (n := 55) (by decide) ?_
            exact tw_ireturn dX2_whyNotTwo_55
      · refine x_iconst 1 dX2_whyNotTwo_20 rfl (n := 21) rfl ?_
        refine x_goto dX2_whyNotTwo_21 (n := 55) (by decide) ?_
        exact tw_ireturn dX2_whyNotTwo_55
abbrev cX2_together : ByteArray := prog_14_method_91_code
def yX2_together : MethodName := ⟨RX2, "together", "(II)I"⟩
def dkwX2_together_1 : List UInt8 := [172]
abbrev dktX2_together_1 : List UInt8 := dkwX2_together_1 ++ []
def dkwX2_together_0 : List UInt8 := [42, 42, 27, 28, 4, 182, 1, 56, 182, 0, 161, 153, 0, 7, 2, 167, 0, 9, 42, 27, 28, 182, 1, 53]
abbrev dktX2_together_0 : List UInt8 := dkwX2_together_0 ++ dktX2_together_1
theorem dksX2_together_0 : cX2_together.data.toList.drop 0 = dktX2_together_0 := by decide +kernel
theorem dksX2_together_1 : cX2_together.data.toList.drop 24 = dktX2_together_1 := dk_seg dksX2_together_0 24 rfl rfl
theorem dX2_together_0 : decode cX2_together 0 = .ok (.aload_n 0, 1) := dk_42 (dk_at dksX2_together_0 0 rfl rfl)
theorem dX2_together_1 : decode cX2_together 1 = .ok (.aload_n 0, 1) := dk_42 (dk_at dksX2_together_0 1 rfl rfl)
theorem dX2_together_2 : decode cX2_together 2 = .ok (.iload_n 1, 1) := dk_27 (dk_at dksX2_together_0 2 rfl rfl)
theorem dX2_together_3 : decode cX2_together 3 = .ok (.iload_n 2, 1) := dk_28 (dk_at dksX2_together_0 3 rfl rfl)
theorem dX2_together_4 : decode cX2_together 4 = .ok (.iconst 1, 1) := dk_4 (dk_at dksX2_together_0 4 rfl rfl)
theorem dX2_together_5 : decode cX2_together 5 = .ok (.invokevirtual 312, 3) := dk_182 1 56 (dk_at dksX2_together_0 5 rfl rfl)
theorem dX2_together_8 : decode cX2_together 8 = .ok (.invokevirtual 161, 3) := dk_182 0 161 (dk_at dksX2_together_0 8 rfl rfl)
theorem dX2_together_11 : decode cX2_together 11 = .ok (.ifCond .eq 7, 3) := dk_153 0 7 (dk_at dksX2_together_0 11 rfl rfl)
theorem dX2_together_14 : decode cX2_together 14 = .ok (.iconst (-1), 1) := dk_2 (dk_at dksX2_together_0 14 rfl rfl)
theorem dX2_together_15 : decode cX2_together 15 = .ok (.goto 9, 3) := dk_167 0 9 (dk_at dksX2_together_0 15 rfl rfl)
theorem dX2_together_18 : decode cX2_together 18 = .ok (.aload_n 0, 1) := dk_42 (dk_at dksX2_together_0 18 rfl rfl)
theorem dX2_together_19 : decode cX2_together 19 = .ok (.iload_n 1, 1) := dk_27 (dk_at dksX2_together_0 19 rfl rfl)
theorem dX2_together_20 : decode cX2_together 20 = .ok (.iload_n 2, 1) := dk_28 (dk_at dksX2_together_0 20 rfl rfl)
theorem dX2_together_21 : decode cX2_together 21 = .ok (.invokevirtual 309, 3) := dk_182 1 53 (dk_at dksX2_together_0 21 rfl rfl)
theorem dX2_together_24 : decode cX2_together 24 = .ok (.ireturn, 1) := dk_172 (dk_at dksX2_together_1 0 rfl rfl)
theorem md_X2_together : xMd yX2_together cX2_together 3 (Option.some Jvm.ClassFile.FieldType.int) 2 := ⟨q3365, q126, by decide, by decide +kernel, by decide +kernel, by decide +kernel⟩
def T_together (s0 : TS) (a1 : Int32) (a2 : Int32) : Option (xO × TS) :=
  (xcI (T_whyNotTwo s0 a1 a2 1) fun x2 s1 =>
  (xcI (T_isRefused s1 x2) fun x4 s3 =>
  (if x4 = 0 then
  (xcI (T_togetherOf s3 a1 a2) fun x6 s5 =>
  (rI x6 s5)) else
  (rI (-1) s3))))
theorem T_together_ok {G : xG} {E : TE} (hO : xOK G) (hE : tok E) (s0 : TS) (a1 : Int32) (a2 : Int32) : CTT G E 5 yX2_together cX2_together 3 (Option.some Jvm.ClassFile.FieldType.int) [.ref E.2.1, .int a1, .int a2] s0 (T_together s0 a1 a2) := by
  refine CT_of hO (by decide +kernel) (by decide +kernel) (Nat.le_of_ble_eq_true rfl) ?_
  show XT G E "ForestLegsModel" "together" cX2_together 3 (Option.some Jvm.ClassFile.FieldType.int) 5 0 [(0, .ref E.2.1), (1, .int a1), (2, .int a2)] [] s0 (T_together s0 a1 a2)
  refine x_aload_nr 0 dX2_together_0 rfl rfl (n := 1) rfl ?_
  refine x_aload_nr 0 dX2_together_1 rfl rfl (n := 2) rfl ?_
  refine x_iload_n 1 dX2_together_2 rfl rfl (n := 3) rfl ?_
  refine x_iload_n 2 dX2_together_3 rfl rfl (n := 4) rfl ?_
  refine x_iconst 1 dX2_together_4 rfl (n := 5) rfl ?_
  refine tw_callV_I [.int a1, .int a2, .int 1] [.ref E.2.1] (T_whyNotTwo_ok hO hE s0 a1 a2 1) md_X2_whyNotTwo q3366 q3368 qs114 dX2_together_5 rfl rfl (by decide) (Nat.le_of_ble_eq_true rfl) (n := 8) rfl (fun x2 s1 => ?_)
  refine tw_callV_I [.int x2] [] (T_isRefused_ok hO hE s1 x2) md_X2_isRefused q3022 q3024 qs63 dX2_together_8 rfl rfl (by decide) (Nat.le_of_ble_eq_true rfl) (n := 11) rfl (fun x4 s3 => ?_)
  refine tw_if_eq dX2_together_11 (t := 18) (by decide) (n := 14) rfl ?_ ?_
  · refine x_aload_nr 0 dX2_together_18 rfl rfl (n := 19) rfl ?_
    refine x_iload_n 1 dX2_together_19 rfl rfl (n := 20) rfl ?_
    refine x_iload_n 2 dX2_together_20 rfl rfl (n := 21) rfl ?_
    refine tw_callV_I [.int a1, .int a2] [] (T_togetherOf_ok hO hE s3 a1 a2) md_X2_togetherOf q3358 q3360 qs113 dX2_together_21 rfl rfl (by decide) (Nat.le_of_ble_eq_true rfl) (n := 24) rfl (fun x6 s5 => ?_)
    exact tw_ireturn dX2_together_24
  · refine x_iconst (-1) dX2_together_14 rfl (n := 15) rfl ?_
    refine x_goto dX2_together_15 (n := 24) (by decide) ?_
    exact tw_ireturn dX2_together_24
abbrev cX2_chase : ByteArray := prog_14_method_92_code
def yX2_chase : MethodName := ⟨RX2, "chase", "(III)I"⟩
def dkwX2_chase_8 : List UInt8 := [27, 167, 0, 4, 28, 172]
abbrev dktX2_chase_8 : List UInt8 := dkwX2_chase_8 ++ []
def dkwX2_chase_7 : List UInt8 := [182, 0, 212, 54, 9, 21, 8, 21, 9, 161, 0, 15, 21, 8, 21, 9, 160, 0, 12, 27, 28, 162, 0, 7]
abbrev dktX2_chase_7 : List UInt8 := dkwX2_chase_7 ++ dktX2_chase_8
def dkwX2_chase_6 : List UInt8 := [172, 42, 27, 21, 6, 21, 5, 96, 4, 100, 182, 0, 212, 54, 8, 42, 28, 21, 6, 21, 5, 96, 4, 100]
abbrev dktX2_chase_6 : List UInt8 := dkwX2_chase_6 ++ dktX2_chase_7
def dkwX2_chase_5 : List UInt8 := [162, 0, 25, 21, 5, 154, 0, 8, 16, 254, 167, 0, 14, 29, 154, 0, 8, 21, 5, 167, 0, 5, 21, 6]
abbrev dktX2_chase_5 : List UInt8 := dkwX2_chase_5 ++ dktX2_chase_6
def dkwX2_chase_4 : List UInt8 := [21, 8, 21, 7, 100, 4, 96, 54, 6, 132, 8, 1, 167, 255, 191, 21, 5, 153, 0, 8, 29, 5]
abbrev dktX2_chase_4 : List UInt8 := dkwX2_chase_4 ++ dktX2_chase_5
def dkwX2_chase_3 : List UInt8 := [160, 0, 10, 21, 7, 4, 96, 167, 0, 4, 3, 54, 7, 21, 7, 21, 5, 164, 0, 16, 21, 7, 54, 5]
abbrev dktX2_chase_3 : List UInt8 := dkwX2_chase_3 ++ dktX2_chase_4
def dkwX2_chase_2 : List UInt8 := [7, 42, 180, 0, 17, 16, 37, 27, 96, 46, 96, 46, 163, 0, 50, 21, 4, 21, 8, 122, 4, 126, 4]
abbrev dktX2_chase_2 : List UInt8 := dkwX2_chase_2 ++ dktX2_chase_3
def dkwX2_chase_1 : List UInt8 := [182, 1, 53, 54, 4, 3, 54, 5, 16, 254, 54, 6, 3, 54, 7, 3, 54, 8, 21, 8, 42, 180, 0, 17]
abbrev dktX2_chase_1 : List UInt8 := dkwX2_chase_1 ++ dktX2_chase_2
def dkwX2_chase_0 : List UInt8 := [42, 42, 27, 28, 29, 3, 5, 184, 0, 79, 182, 1, 56, 182, 0, 161, 153, 0, 5, 2, 172, 42, 27, 28]
abbrev dktX2_chase_0 : List UInt8 := dkwX2_chase_0 ++ dktX2_chase_1
theorem dksX2_chase_0 : cX2_chase.data.toList.drop 0 = dktX2_chase_0 := by decide +kernel
theorem dksX2_chase_1 : cX2_chase.data.toList.drop 24 = dktX2_chase_1 := dk_seg dksX2_chase_0 24 rfl rfl
theorem dksX2_chase_2 : cX2_chase.data.toList.drop 48 = dktX2_chase_2 := dk_seg dksX2_chase_1 24 rfl rfl
theorem dksX2_chase_3 : cX2_chase.data.toList.drop 71 = dktX2_chase_3 := dk_seg dksX2_chase_2 23 rfl rfl
theorem dksX2_chase_4 : cX2_chase.data.toList.drop 95 = dktX2_chase_4 := dk_seg dksX2_chase_3 24 rfl rfl
theorem dksX2_chase_5 : cX2_chase.data.toList.drop 117 = dktX2_chase_5 := dk_seg dksX2_chase_4 22 rfl rfl
theorem dksX2_chase_6 : cX2_chase.data.toList.drop 141 = dktX2_chase_6 := dk_seg dksX2_chase_5 24 rfl rfl
theorem dksX2_chase_7 : cX2_chase.data.toList.drop 165 = dktX2_chase_7 := dk_seg dksX2_chase_6 24 rfl rfl
theorem dksX2_chase_8 : cX2_chase.data.toList.drop 189 = dktX2_chase_8 := dk_seg dksX2_chase_7 24 rfl rfl
theorem dX2_chase_0 : decode cX2_chase 0 = .ok (.aload_n 0, 1) := dk_42 (dk_at dksX2_chase_0 0 rfl rfl)
theorem dX2_chase_1 : decode cX2_chase 1 = .ok (.aload_n 0, 1) := dk_42 (dk_at dksX2_chase_0 1 rfl rfl)
theorem dX2_chase_2 : decode cX2_chase 2 = .ok (.iload_n 1, 1) := dk_27 (dk_at dksX2_chase_0 2 rfl rfl)
theorem dX2_chase_3 : decode cX2_chase 3 = .ok (.iload_n 2, 1) := dk_28 (dk_at dksX2_chase_0 3 rfl rfl)
theorem dX2_chase_4 : decode cX2_chase 4 = .ok (.iload_n 3, 1) := dk_29 (dk_at dksX2_chase_0 4 rfl rfl)
theorem dX2_chase_5 : decode cX2_chase 5 = .ok (.iconst 0, 1) := dk_3 (dk_at dksX2_chase_0 5 rfl rfl)
theorem dX2_chase_6 : decode cX2_chase 6 = .ok (.iconst 2, 1) := dk_5 (dk_at dksX2_chase_0 6 rfl rfl)
theorem dX2_chase_7 : decode cX2_chase 7 = .ok (.invokestatic 79, 3) := dk_184 0 79 (dk_at dksX2_chase_0 7 rfl rfl)
theorem dX2_chase_10 : decode cX2_chase 10 = .ok (.invokevirtual 312, 3) := dk_182 1 56 (dk_at dksX2_chase_0 10 rfl rfl)
theorem dX2_chase_13 : decode cX2_chase 13 = .ok (.invokevirtual 161, 3) := dk_182 0 161 (dk_at dksX2_chase_0 13 rfl rfl)
theorem dX2_chase_16 : decode cX2_chase 16 = .ok (.ifCond .eq 5, 3) := dk_153 0 5 (dk_at dksX2_chase_0 16 rfl rfl)
theorem dX2_chase_19 : decode cX2_chase 19 = .ok (.iconst (-1), 1) := dk_2 (dk_at dksX2_chase_0 19 rfl rfl)
theorem dX2_chase_20 : decode cX2_chase 20 = .ok (.ireturn, 1) := dk_172 (dk_at dksX2_chase_0 20 rfl rfl)
theorem dX2_chase_21 : decode cX2_chase 21 = .ok (.aload_n 0, 1) := dk_42 (dk_at dksX2_chase_0 21 rfl rfl)
theorem dX2_chase_22 : decode cX2_chase 22 = .ok (.iload_n 1, 1) := dk_27 (dk_at dksX2_chase_0 22 rfl rfl)
theorem dX2_chase_23 : decode cX2_chase 23 = .ok (.iload_n 2, 1) := dk_28 (dk_at dksX2_chase_0 23 rfl rfl)
theorem dX2_chase_24 : decode cX2_chase 24 = .ok (.invokevirtual 309, 3) := dk_182 1 53 (dk_at dksX2_chase_1 0 rfl rfl)
theorem dX2_chase_27 : decode cX2_chase 27 = .ok (.istore 4, 2) := dk_54 4 (dk_at dksX2_chase_1 3 rfl rfl)
theorem dX2_chase_29 : decode cX2_chase 29 = .ok (.iconst 0, 1) := dk_3 (dk_at dksX2_chase_1 5 rfl rfl)
theorem dX2_chase_30 : decode cX2_chase 30 = .ok (.istore 5, 2) := dk_54 5 (dk_at dksX2_chase_1 6 rfl rfl)
theorem dX2_chase_32 : decode cX2_chase 32 = .ok (.bipush (-2), 2) := dk_16 254 (dk_at dksX2_chase_1 8 rfl rfl)
theorem dX2_chase_34 : decode cX2_chase 34 = .ok (.istore 6, 2) := dk_54 6 (dk_at dksX2_chase_1 10 rfl rfl)
theorem dX2_chase_36 : decode cX2_chase 36 = .ok (.iconst 0, 1) := dk_3 (dk_at dksX2_chase_1 12 rfl rfl)
theorem dX2_chase_37 : decode cX2_chase 37 = .ok (.istore 7, 2) := dk_54 7 (dk_at dksX2_chase_1 13 rfl rfl)
theorem dX2_chase_39 : decode cX2_chase 39 = .ok (.iconst 0, 1) := dk_3 (dk_at dksX2_chase_1 15 rfl rfl)
theorem dX2_chase_40 : decode cX2_chase 40 = .ok (.istore 8, 2) := dk_54 8 (dk_at dksX2_chase_1 16 rfl rfl)
theorem dX2_chase_42 : decode cX2_chase 42 = .ok (.iload 8, 2) := dk_21 8 (dk_at dksX2_chase_1 18 rfl rfl)
theorem dX2_chase_44 : decode cX2_chase 44 = .ok (.aload_n 0, 1) := dk_42 (dk_at dksX2_chase_1 20 rfl rfl)
theorem dX2_chase_45 : decode cX2_chase 45 = .ok (.getfield 17, 3) := dk_180 0 17 (dk_at dksX2_chase_1 21 rfl rfl)
theorem dX2_chase_48 : decode cX2_chase 48 = .ok (.iconst 4, 1) := dk_7 (dk_at dksX2_chase_2 0 rfl rfl)
theorem dX2_chase_49 : decode cX2_chase 49 = .ok (.aload_n 0, 1) := dk_42 (dk_at dksX2_chase_2 1 rfl rfl)
theorem dX2_chase_50 : decode cX2_chase 50 = .ok (.getfield 17, 3) := dk_180 0 17 (dk_at dksX2_chase_2 2 rfl rfl)
theorem dX2_chase_53 : decode cX2_chase 53 = .ok (.bipush 37, 2) := dk_16 37 (dk_at dksX2_chase_2 5 rfl rfl)
theorem dX2_chase_55 : decode cX2_chase 55 = .ok (.iload_n 1, 1) := dk_27 (dk_at dksX2_chase_2 7 rfl rfl)
theorem dX2_chase_56 : decode cX2_chase 56 = .ok (.iadd, 1) := dk_96 (dk_at dksX2_chase_2 8 rfl rfl)
theorem dX2_chase_57 : decode cX2_chase 57 = .ok (.iaload, 1) := dk_46 (dk_at dksX2_chase_2 9 rfl rfl)
theorem dX2_chase_58 : decode cX2_chase 58 = .ok (.iadd, 1) := dk_96 (dk_at dksX2_chase_2 10 rfl rfl)
theorem dX2_chase_59 : decode cX2_chase 59 = .ok (.iaload, 1) := dk_46 (dk_at dksX2_chase_2 11 rfl rfl)
theorem dX2_chase_60 : decode cX2_chase 60 = .ok (.if_icmp .gt 50, 3) := dk_163 0 50 (dk_at dksX2_chase_2 12 rfl rfl)
theorem dX2_chase_63 : decode cX2_chase 63 = .ok (.iload 4, 2) := dk_21 4 (dk_at dksX2_chase_2 15 rfl rfl)
theorem dX2_chase_65 : decode cX2_chase 65 = .ok (.iload 8, 2) := dk_21 8 (dk_at dksX2_chase_2 17 rfl rfl)
theorem dX2_chase_67 : decode cX2_chase 67 = .ok (.ishr, 1) := dk_122 (dk_at dksX2_chase_2 19 rfl rfl)
theorem dX2_chase_68 : decode cX2_chase 68 = .ok (.iconst 1, 1) := dk_4 (dk_at dksX2_chase_2 20 rfl rfl)
theorem dX2_chase_69 : decode cX2_chase 69 = .ok (.iand, 1) := dk_126 (dk_at dksX2_chase_2 21 rfl rfl)
theorem dX2_chase_70 : decode cX2_chase 70 = .ok (.iconst 1, 1) := dk_4 (dk_at dksX2_chase_2 22 rfl rfl)
theorem dX2_chase_71 : decode cX2_chase 71 = .ok (.if_icmp .ne 10, 3) := dk_160 0 10 (dk_at dksX2_chase_3 0 rfl rfl)
theorem dX2_chase_74 : decode cX2_chase 74 = .ok (.iload 7, 2) := dk_21 7 (dk_at dksX2_chase_3 3 rfl rfl)
theorem dX2_chase_76 : decode cX2_chase 76 = .ok (.iconst 1, 1) := dk_4 (dk_at dksX2_chase_3 5 rfl rfl)
theorem dX2_chase_77 : decode cX2_chase 77 = .ok (.iadd, 1) := dk_96 (dk_at dksX2_chase_3 6 rfl rfl)
theorem dX2_chase_78 : decode cX2_chase 78 = .ok (.goto 4, 3) := dk_167 0 4 (dk_at dksX2_chase_3 7 rfl rfl)
theorem dX2_chase_81 : decode cX2_chase 81 = .ok (.iconst 0, 1) := dk_3 (dk_at dksX2_chase_3 10 rfl rfl)
theorem dX2_chase_82 : decode cX2_chase 82 = .ok (.istore 7, 2) := dk_54 7 (dk_at dksX2_chase_3 11 rfl rfl)
theorem dX2_chase_84 : decode cX2_chase 84 = .ok (.iload 7, 2) := dk_21 7 (dk_at dksX2_chase_3 13 rfl rfl)
theorem dX2_chase_86 : decode cX2_chase 86 = .ok (.iload 5, 2) := dk_21 5 (dk_at dksX2_chase_3 15 rfl rfl)
theorem dX2_chase_88 : decode cX2_chase 88 = .ok (.if_icmp .le 16, 3) := dk_164 0 16 (dk_at dksX2_chase_3 17 rfl rfl)
theorem dX2_chase_91 : decode cX2_chase 91 = .ok (.iload 7, 2) := dk_21 7 (dk_at dksX2_chase_3 20 rfl rfl)
theorem dX2_chase_93 : decode cX2_chase 93 = .ok (.istore 5, 2) := dk_54 5 (dk_at dksX2_chase_3 22 rfl rfl)
theorem dX2_chase_95 : decode cX2_chase 95 = .ok (.iload 8, 2) := dk_21 8 (dk_at dksX2_chase_4 0 rfl rfl)
theorem dX2_chase_97 : decode cX2_chase 97 = .ok (.iload 7, 2) := dk_21 7 (dk_at dksX2_chase_4 2 rfl rfl)
theorem dX2_chase_99 : decode cX2_chase 99 = .ok (.isub, 1) := dk_100 (dk_at dksX2_chase_4 4 rfl rfl)
theorem dX2_chase_100 : decode cX2_chase 100 = .ok (.iconst 1, 1) := dk_4 (dk_at dksX2_chase_4 5 rfl rfl)
theorem dX2_chase_101 : decode cX2_chase 101 = .ok (.iadd, 1) := dk_96 (dk_at dksX2_chase_4 6 rfl rfl)
theorem dX2_chase_102 : decode cX2_chase 102 = .ok (.istore 6, 2) := dk_54 6 (dk_at dksX2_chase_4 7 rfl rfl)
theorem dX2_chase_104 : decode cX2_chase 104 = .ok (.iinc 8 1, 3) := dk_132 8 1 (dk_at dksX2_chase_4 9 rfl rfl)
theorem dX2_chase_107 : decode cX2_chase 107 = .ok (.goto (-65), 3) := dk_167 255 191 (dk_at dksX2_chase_4 12 rfl rfl)
theorem dX2_chase_110 : decode cX2_chase 110 = .ok (.iload 5, 2) := dk_21 5 (dk_at dksX2_chase_4 15 rfl rfl)
theorem dX2_chase_112 : decode cX2_chase 112 = .ok (.ifCond .eq 8, 3) := dk_153 0 8 (dk_at dksX2_chase_4 17 rfl rfl)
theorem dX2_chase_115 : decode cX2_chase 115 = .ok (.iload_n 3, 1) := dk_29 (dk_at dksX2_chase_4 20 rfl rfl)
theorem dX2_chase_116 : decode cX2_chase 116 = .ok (.iconst 2, 1) := dk_5 (dk_at dksX2_chase_4 21 rfl rfl)
theorem dX2_chase_117 : decode cX2_chase 117 = .ok (.if_icmp .ge 25, 3) := dk_162 0 25 (dk_at dksX2_chase_5 0 rfl rfl)
theorem dX2_chase_120 : decode cX2_chase 120 = .ok (.iload 5, 2) := dk_21 5 (dk_at dksX2_chase_5 3 rfl rfl)
theorem dX2_chase_122 : decode cX2_chase 122 = .ok (.ifCond .ne 8, 3) := dk_154 0 8 (dk_at dksX2_chase_5 5 rfl rfl)
theorem dX2_chase_125 : decode cX2_chase 125 = .ok (.bipush (-2), 2) := dk_16 254 (dk_at dksX2_chase_5 8 rfl rfl)
theorem dX2_chase_127 : decode cX2_chase 127 = .ok (.goto 14, 3) := dk_167 0 14 (dk_at dksX2_chase_5 10 rfl rfl)
theorem dX2_chase_130 : decode cX2_chase 130 = .ok (.iload_n 3, 1) := dk_29 (dk_at dksX2_chase_5 13 rfl rfl)
theorem dX2_chase_131 : decode cX2_chase 131 = .ok (.ifCond .ne 8, 3) := dk_154 0 8 (dk_at dksX2_chase_5 14 rfl rfl)
theorem dX2_chase_134 : decode cX2_chase 134 = .ok (.iload 5, 2) := dk_21 5 (dk_at dksX2_chase_5 17 rfl rfl)
theorem dX2_chase_136 : decode cX2_chase 136 = .ok (.goto 5, 3) := dk_167 0 5 (dk_at dksX2_chase_5 19 rfl rfl)
theorem dX2_chase_139 : decode cX2_chase 139 = .ok (.iload 6, 2) := dk_21 6 (dk_at dksX2_chase_5 22 rfl rfl)
theorem dX2_chase_141 : decode cX2_chase 141 = .ok (.ireturn, 1) := dk_172 (dk_at dksX2_chase_6 0 rfl rfl)
theorem dX2_chase_142 : decode cX2_chase 142 = .ok (.aload_n 0, 1) := dk_42 (dk_at dksX2_chase_6 1 rfl rfl)
theorem dX2_chase_143 : decode cX2_chase 143 = .ok (.iload_n 1, 1) := dk_27 (dk_at dksX2_chase_6 2 rfl rfl)
theorem dX2_chase_144 : decode cX2_chase 144 = .ok (.iload 6, 2) := dk_21 6 (dk_at dksX2_chase_6 3 rfl rfl)
theorem dX2_chase_146 : decode cX2_chase 146 = .ok (.iload 5, 2) := dk_21 5 (dk_at dksX2_chase_6 5 rfl rfl)
theorem dX2_chase_148 : decode cX2_chase 148 = .ok (.iadd, 1) := dk_96 (dk_at dksX2_chase_6 7 rfl rfl)
theorem dX2_chase_149 : decode cX2_chase 149 = .ok (.iconst 1, 1) := dk_4 (dk_at dksX2_chase_6 8 rfl rfl)
theorem dX2_chase_150 : decode cX2_chase 150 = .ok (.isub, 1) := dk_100 (dk_at dksX2_chase_6 9 rfl rfl)
theorem dX2_chase_151 : decode cX2_chase 151 = .ok (.invokevirtual 212, 3) := dk_182 0 212 (dk_at dksX2_chase_6 10 rfl rfl)
theorem dX2_chase_154 : decode cX2_chase 154 = .ok (.istore 8, 2) := dk_54 8 (dk_at dksX2_chase_6 13 rfl rfl)
theorem dX2_chase_156 : decode cX2_chase 156 = .ok (.aload_n 0, 1) := dk_42 (dk_at dksX2_chase_6 15 rfl rfl)
theorem dX2_chase_157 : decode cX2_chase 157 = .ok (.iload_n 2, 1) := dk_28 (dk_at dksX2_chase_6 16 rfl rfl)
theorem dX2_chase_158 : decode cX2_chase 158 = .ok (.iload 6, 2) := dk_21 6 (dk_at dksX2_chase_6 17 rfl rfl)
theorem dX2_chase_160 : decode cX2_chase 160 = .ok (.iload 5, 2) := dk_21 5 (dk_at dksX2_chase_6 19 rfl rfl)
theorem dX2_chase_162 : decode cX2_chase 162 = .ok (.iadd, 1) := dk_96 (dk_at dksX2_chase_6 21 rfl rfl)
theorem dX2_chase_163 : decode cX2_chase 163 = .ok (.iconst 1, 1) := dk_4 (dk_at dksX2_chase_6 22 rfl rfl)
theorem dX2_chase_164 : decode cX2_chase 164 = .ok (.isub, 1) := dk_100 (dk_at dksX2_chase_6 23 rfl rfl)
theorem dX2_chase_165 : decode cX2_chase 165 = .ok (.invokevirtual 212, 3) := dk_182 0 212 (dk_at dksX2_chase_7 0 rfl rfl)
theorem dX2_chase_168 : decode cX2_chase 168 = .ok (.istore 9, 2) := dk_54 9 (dk_at dksX2_chase_7 3 rfl rfl)
theorem dX2_chase_170 : decode cX2_chase 170 = .ok (.iload 8, 2) := dk_21 8 (dk_at dksX2_chase_7 5 rfl rfl)
theorem dX2_chase_172 : decode cX2_chase 172 = .ok (.iload 9, 2) := dk_21 9 (dk_at dksX2_chase_7 7 rfl rfl)
theorem dX2_chase_174 : decode cX2_chase 174 = .ok (.if_icmp .lt 15, 3) := dk_161 0 15 (dk_at dksX2_chase_7 9 rfl rfl)
theorem dX2_chase_177 : decode cX2_chase 177 = .ok (.iload 8, 2) := dk_21 8 (dk_at dksX2_chase_7 12 rfl rfl)
theorem dX2_chase_179 : decode cX2_chase 179 = .ok (.iload 9, 2) := dk_21 9 (dk_at dksX2_chase_7 14 rfl rfl)
theorem dX2_chase_181 : decode cX2_chase 181 = .ok (.if_icmp .ne 12, 3) := dk_160 0 12 (dk_at dksX2_chase_7 16 rfl rfl)
theorem dX2_chase_184 : decode cX2_chase 184 = .ok (.iload_n 1, 1) := dk_27 (dk_at dksX2_chase_7 19 rfl rfl)
theorem dX2_chase_185 : decode cX2_chase 185 = .ok (.iload_n 2, 1) := dk_28 (dk_at dksX2_chase_7 20 rfl rfl)
theorem dX2_chase_186 : decode cX2_chase 186 = .ok (.if_icmp .ge 7, 3) := dk_162 0 7 (dk_at dksX2_chase_7 21 rfl rfl)
theorem dX2_chase_189 : decode cX2_chase 189 = .ok (.iload_n 1, 1) := dk_27 (dk_at dksX2_chase_8 0 rfl rfl)
theorem dX2_chase_190 : decode cX2_chase 190 = .ok (.goto 4, 3) := dk_167 0 4 (dk_at dksX2_chase_8 1 rfl rfl)
theorem dX2_chase_193 : decode cX2_chase 193 = .ok (.iload_n 2, 1) := dk_28 (dk_at dksX2_chase_8 4 rfl rfl)
theorem dX2_chase_194 : decode cX2_chase 194 = .ok (.ireturn, 1) := dk_172 (dk_at dksX2_chase_8 5 rfl rfl)
theorem md_X2_chase : xMd yX2_chase cX2_chase 10 (Option.some Jvm.ClassFile.FieldType.int) 3 := ⟨q3373, q126, by decide, by decide +kernel, by decide +kernel, by decide +kernel⟩
def T_chase_120   (v3 : Int32) (v5 : Int32) (v6 : Int32) (s0 : TS) : Option (xO × TS) :=
  (if v5 = 0 then
  (rI (-2) s0) else
  (if v3 = 0 then
  (rI v5 s0) else
  (rI v6 s0)))
def T_chase_104  (k42 : Int32 × Int32 × Int32 × Int32 × Int32 × Int32 × Int32 × Int32 × TS → Option (xO × TS)) (v1 : Int32) (v2 : Int32) (v3 : Int32) (v4 : Int32) (v5 : Int32) (v6 : Int32) (v7 : Int32) (v8 : Int32) (s0 : TS) : Option (xO × TS) :=
  (bnd (v8 + 1) fun x15 =>
  (k42 (v1, v2, v3, v4, v5, v6, v7, x15, s0)))
def T_chase_82  (k42 : Int32 × Int32 × Int32 × Int32 × Int32 × Int32 × Int32 × Int32 × TS → Option (xO × TS)) (v1 : Int32) (v2 : Int32) (v3 : Int32) (v4 : Int32) (v5 : Int32) (v6 : Int32) (v8 : Int32) (w0 : Int32) (s0 : TS) : Option (xO × TS) :=
  (if w0 ≤ v5 then
  (T_chase_104 k42 v1 v2 v3 v4 v5 v6 w0 v8 s0) else
  (bnd ((v8 - w0) + 1) fun x16 =>
  (T_chase_104 k42 v1 v2 v3 v4 w0 x16 w0 v8 s0)))
def T_chase_42F   (k42 : Int32 × Int32 × Int32 × Int32 × Int32 × Int32 × Int32 × Int32 × TS → Option (xO × TS)) (p : Int32 × Int32 × Int32 × Int32 × Int32 × Int32 × Int32 × Int32 × TS) : Option (xO × TS) := match p with
  | (v1, v2, v3, v4, v5, v6, v7, v8, s0) => (tald s0 7 (37 + v1) fun x9 =>
  (tald s0 7 (4 + x9) fun x10 =>
  (if x10 < v8 then
  (if v5 = 0 then
  (T_chase_120 v3 v5 v6 s0) else
  (if 2 ≤ v3 then
  (xcI (T_timeAt s0 v1 ((v6 + v5) - 1)) fun x12 s11 =>
  (xcI (T_timeAt s11 v2 ((v6 + v5) - 1)) fun x14 s13 =>
  (if x12 < x14 then
  (rI v1 s13) else
  (if x12 = x14 then
  (if v2 ≤ v1 then
  (rI v2 s13) else
  (rI v1 s13)) else
  (rI v2 s13))))) else
  (T_chase_120 v3 v5 v6 s0))) else
  (if ((v4 >>> (v8 &&& 31)) &&& 1) = 1 then
  (T_chase_82 k42 v1 v2 v3 v4 v5 v6 v8 (v7 + 1) s0) else
  (T_chase_82 k42 v1 v2 v3 v4 v5 v6 v8 0 s0)))))
def T_chase (s0 : TS) (a1 : Int32) (a2 : Int32) (a3 : Int32) : Option (xO × TS) :=
  (xcI (T_in s0 a3 0 2) fun x2 s1 =>
  (xcI (T_whyNotTwo s1 a1 a2 x2) fun x4 s3 =>
  (xcI (T_isRefused s3 x4) fun x6 s5 =>
  (if x6 = 0 then
  (xcI (T_togetherOf s5 a1 a2) fun x8 s7 =>
  (lp (T_chase_42F) FU (a1, a2, a3, x8, 0, (-2), 0, 0, s7))) else
  (rI (-1) s5)))))
theorem T_chase_120_ok {G : xG} {E : TE} (hO : xOK G) (hE : tok E)   (v3 : Int32) (v5 : Int32) (v6 : Int32) (s0 : TS) : XT G E "ForestLegsModel" "chase" cX2_chase 10 (Option.some Jvm.ClassFile.FieldType.int) 5 120 [(3, .int v3), (5, .int v5), (6, .int v6)] [] s0 (T_chase_120 v3 v5 v6 s0) := by
  unfold T_chase_120
  refine x_iload 1 dX2_chase_120 rfl (n := 122) rfl ?_
  refine tw_if_ne dX2_chase_122 (t := 130) (by decide) (n := 125) rfl ?_ ?_
  · refine x_iload_n 0 dX2_chase_130 rfl rfl (n := 131) rfl ?_
    refine tw_if_ne dX2_chase_131 (t := 139) (by decide) (n := 134) rfl ?_ ?_
    · refine x_iload 2 dX2_chase_139 rfl (n := 141) rfl ?_
      exact tw_ireturn dX2_chase_141
    · refine x_iload 1 dX2_chase_134 rfl (n := 136) rfl ?_
      refine x_goto dX2_chase_136 (n := 141) (by decide) ?_
      exact tw_ireturn dX2_chase_141
  · refine x_bipush (-2) dX2_chase_125 rfl (n := 127) rfl ?_
    refine x_goto dX2_chase_127 (n := 141) (by decide) ?_
    exact tw_ireturn dX2_chase_141
theorem T_chase_104_ok {G : xG} {E : TE} (hO : xOK G) (hE : tok E)  {k42 : Int32 × Int32 × Int32 × Int32 × Int32 × Int32 × Int32 × Int32 × TS → Option (xO × TS)} (hk42 : ∀ (v1 : Int32) (v2 : Int32) (v3 : Int32) (v4 : Int32) (v5 : Int32) (v6 : Int32) (v7 : Int32) (v8 : Int32) (s0 : TS), XT G E "ForestLegsModel" "chase" cX2_chase 10 (Option.some Jvm.ClassFile.FieldType.int) 5 42 [(0, .ref E.2.1), (1, .int v1), (2, .int v2), (3, .int v3), (4, .int v4), (5, .int v5), (6, .int v6), (7, .int v7), (8, .int v8)] [] s0 (k42 (v1, v2, v3, v4, v5, v6, v7, v8, s0))) (v1 : Int32) (v2 : Int32) (v3 : Int32) (v4 : Int32) (v5 : Int32) (v6 : Int32) (v7 : Int32) (v8 : Int32) (s0 : TS) : XT G E "ForestLegsModel" "chase" cX2_chase 10 (Option.some Jvm.ClassFile.FieldType.int) 5 104 [(0, .ref E.2.1), (1, .int v1), (2, .int v2), (3, .int v3), (4, .int v4), (5, .int v5), (6, .int v6), (7, .int v7), (8, .int v8)] [] s0 (T_chase_104 k42 v1 v2 v3 v4 v5 v6 v7 v8 s0) := by
  unfold T_chase_104
  refine tw_iinc 8 (fun x15 => [(8, .int x15), (0, .ref E.2.1), (1, .int v1), (2, .int v2), (3, .int v3), (4, .int v4), (5, .int v5), (6, .int v6), (7, .int v7)]) dX2_chase_104 rfl rfl (by decide) (fun _ => rfl) (n := 107) rfl (fun x15 => ?_)
  refine x_goto dX2_chase_107 (n := 42) (by decide) ?_
  refine x_sub [1, 2, 3, 4, 5, 6, 7, 8, 0] [(0, .ref E.2.1), (1, .int v1), (2, .int v2), (3, .int v3), (4, .int v4), (5, .int v5), (6, .int v6), (7, .int v7), (8, .int x15)] rfl ?_
  exact hk42 v1 v2 v3 v4 v5 v6 v7 x15 s0
theorem T_chase_82_ok {G : xG} {E : TE} (hO : xOK G) (hE : tok E)  {k42 : Int32 × Int32 × Int32 × Int32 × Int32 × Int32 × Int32 × Int32 × TS → Option (xO × TS)} (hk42 : ∀ (v1 : Int32) (v2 : Int32) (v3 : Int32) (v4 : Int32) (v5 : Int32) (v6 : Int32) (v7 : Int32) (v8 : Int32) (s0 : TS), XT G E "ForestLegsModel" "chase" cX2_chase 10 (Option.some Jvm.ClassFile.FieldType.int) 5 42 [(0, .ref E.2.1), (1, .int v1), (2, .int v2), (3, .int v3), (4, .int v4), (5, .int v5), (6, .int v6), (7, .int v7), (8, .int v8)] [] s0 (k42 (v1, v2, v3, v4, v5, v6, v7, v8, s0))) (v1 : Int32) (v2 : Int32) (v3 : Int32) (v4 : Int32) (v5 : Int32) (v6 : Int32) (v8 : Int32) (w0 : Int32) (s0 : TS) : XT G E "ForestLegsModel" "chase" cX2_chase 10 (Option.some Jvm.ClassFile.FieldType.int) 5 82 [(0, .ref E.2.1), (1, .int v1), (2, .int v2), (3, .int v3), (4, .int v4), (5, .int v5), (6, .int v6), (8, .int v8)] [.int w0] s0 (T_chase_82 k42 v1 v2 v3 v4 v5 v6 v8 w0 s0) := by
  unfold T_chase_82
  refine x_istore [(7, .int w0), (0, .ref E.2.1), (1, .int v1), (2, .int v2), (3, .int v3), (4, .int v4), (5, .int v5), (6, .int v6), (8, .int v8)] dX2_chase_82 (by decide) rfl (n := 84) rfl ?_
  refine x_iload 0 dX2_chase_84 rfl (n := 86) rfl ?_
  refine x_iload 6 dX2_chase_86 rfl (n := 88) rfl ?_
  refine tw_icmp_le dX2_chase_88 (t := 104) (by decide) (n := 91) rfl ?_ ?_
  · refine x_sub [1, 2, 3, 4, 5, 6, 7, 0, 8] [(0, .ref E.2.1), (1, .int v1), (2, .int v2), (3, .int v3), (4, .int v4), (5, .int v5), (6, .int v6), (7, .int w0), (8, .int v8)] rfl ?_
    exact T_chase_104_ok hO hE hk42 v1 v2 v3 v4 v5 v6 w0 v8 s0
  · refine x_iload 0 dX2_chase_91 rfl (n := 93) rfl ?_
    refine x_istore [(5, .int w0), (7, .int w0), (0, .ref E.2.1), (1, .int v1), (2, .int v2), (3, .int v3), (4, .int v4), (6, .int v6), (8, .int v8)] dX2_chase_93 (by decide) rfl (n := 95) rfl ?_
    refine x_iload 8 dX2_chase_95 rfl (n := 97) rfl ?_
    refine x_iload 1 dX2_chase_97 rfl (n := 99) rfl ?_
    refine x_isub dX2_chase_99 (n := 100) rfl ?_
    refine x_iconst 1 dX2_chase_100 rfl (n := 101) rfl ?_
    refine x_iadd dX2_chase_101 (n := 102) rfl ?_
    refine tw_nm (fun x16 => ?_)
    refine x_istore [(6, .int x16), (5, .int w0), (7, .int w0), (0, .ref E.2.1), (1, .int v1), (2, .int v2), (3, .int v3), (4, .int v4), (8, .int v8)] dX2_chase_102 (by decide) rfl (n := 104) rfl ?_
    refine x_sub [3, 4, 5, 6, 7, 1, 0, 2, 8] [(0, .ref E.2.1), (1, .int v1), (2, .int v2), (3, .int v3), (4, .int v4), (5, .int w0), (6, .int x16), (7, .int w0), (8, .int v8)] rfl ?_
    exact T_chase_104_ok hO hE hk42 v1 v2 v3 v4 w0 x16 w0 v8 s0
theorem T_chase_42F_ok {G : xG} {E : TE} (hO : xOK G) (hE : tok E)   {k42 : Int32 × Int32 × Int32 × Int32 × Int32 × Int32 × Int32 × Int32 × TS → Option (xO × TS)} (hk42 : ∀ (v1 : Int32) (v2 : Int32) (v3 : Int32) (v4 : Int32) (v5 : Int32) (v6 : Int32) (v7 : Int32) (v8 : Int32) (s0 : TS), XT G E "ForestLegsModel" "chase" cX2_chase 10 (Option.some Jvm.ClassFile.FieldType.int) 5 42 [(0, .ref E.2.1), (1, .int v1), (2, .int v2), (3, .int v3), (4, .int v4), (5, .int v5), (6, .int v6), (7, .int v7), (8, .int v8)] [] s0 (k42 (v1, v2, v3, v4, v5, v6, v7, v8, s0))) (v1 : Int32) (v2 : Int32) (v3 : Int32) (v4 : Int32) (v5 : Int32) (v6 : Int32) (v7 : Int32) (v8 : Int32) (s0 : TS) : XT G E "ForestLegsModel" "chase" cX2_chase 10 (Option.some Jvm.ClassFile.FieldType.int) 5 42 [(0, .ref E.2.1), (1, .int v1), (2, .int v2), (3, .int v3), (4, .int v4), (5, .int v5), (6, .int v6), (7, .int v7), (8, .int v8)] [] s0 (T_chase_42F k42 (v1, v2, v3, v4, v5, v6, v7, v8, s0)) := by
  unfold T_chase_42F
  refine x_iload 8 dX2_chase_42 rfl (n := 44) rfl ?_
  refine x_aload_nr 0 dX2_chase_44 rfl rfl (n := 45) rfl ?_
  refine tw_getA fl_X2_17 rfl (by decide) dX2_chase_45 (n := 48) rfl ?_
  refine x_iconst 4 dX2_chase_48 rfl (n := 49) rfl ?_
  refine x_aload_nr 0 dX2_chase_49 rfl rfl (n := 50) rfl ?_
  refine tw_getA fl_X2_17 rfl (by decide) dX2_chase_50 (n := 53) rfl ?_
  refine x_bipush 37 dX2_chase_53 rfl (n := 55) rfl ?_
  refine x_iload_n 1 dX2_chase_55 rfl rfl (n := 56) rfl ?_
  refine x_iadd dX2_chase_56 (n := 57) rfl ?_
  refine tw_iald hE (by decide) dX2_chase_57 (n := 58) rfl (fun x9 => ?_)
  refine x_iadd dX2_chase_58 (n := 59) rfl ?_
  refine tw_iald hE (by decide) dX2_chase_59 (n := 60) rfl (fun x10 => ?_)
  refine tw_icmp_gt dX2_chase_60 (t := 110) (by decide) (n := 63) rfl ?_ ?_
  · refine x_iload 5 dX2_chase_110 rfl (n := 112) rfl ?_
    refine tw_if_eq dX2_chase_112 (t := 120) (by decide) (n := 115) rfl ?_ ?_
    · refine x_sub [3, 5, 6] [(3, .int v3), (5, .int v5), (6, .int v6)] rfl ?_
      exact T_chase_120_ok hO hE v3 v5 v6 s0
    · refine x_iload_n 3 dX2_chase_115 rfl rfl (n := 116) rfl ?_
      refine x_iconst 2 dX2_chase_116 rfl (n := 117) rfl ?_
      refine tw_icmp_ge dX2_chase_117 (t := 142) (by decide) (n := 120) rfl ?_ ?_
      · refine x_aload_nr 0 dX2_chase_142 rfl rfl (n := 143) rfl ?_
        refine x_iload_n 1 dX2_chase_143 rfl rfl (n := 144) rfl ?_
        refine x_iload 6 dX2_chase_144 rfl (n := 146) rfl ?_
        refine x_iload 5 dX2_chase_146 rfl (n := 148) rfl ?_
        refine x_iadd dX2_chase_148 (n := 149) rfl ?_
        refine x_iconst 1 dX2_chase_149 rfl (n := 150) rfl ?_
        refine x_isub dX2_chase_150 (n := 151) rfl ?_
        refine tw_callV_I [.int v1, .int ((v6 + v5) - 1)] [] (T_timeAt_ok hO hE s0 v1 ((v6 + v5) - 1)) md_X2_timeAt q3183 q3185 qs93 dX2_chase_151 rfl rfl (by decide) (Nat.le_of_ble_eq_true rfl) (n := 154) rfl (fun x12 s11 => ?_)
        refine x_istore [(8, .int x12), (0, .ref E.2.1), (1, .int v1), (2, .int v2), (3, .int v3), (4, .int v4), (5, .int v5), (6, .int v6), (7, .int v7)] dX2_chase_154 (by decide) rfl (n := 156) rfl ?_
        refine x_aload_nr 1 dX2_chase_156 rfl rfl (n := 157) rfl ?_
        refine x_iload_n 3 dX2_chase_157 rfl rfl (n := 158) rfl ?_
        refine x_iload 7 dX2_chase_158 rfl (n := 160) rfl ?_
        refine x_iload 6 dX2_chase_160 rfl (n := 162) rfl ?_
        refine x_iadd dX2_chase_162 (n := 163) rfl ?_
        refine x_iconst 1 dX2_chase_163 rfl (n := 164) rfl ?_
        refine x_isub dX2_chase_164 (n := 165) rfl ?_
        refine tw_callV_I [.int v2, .int ((v6 + v5) - 1)] [] (T_timeAt_ok hO hE s11 v2 ((v6 + v5) - 1)) md_X2_timeAt q3183 q3185 qs93 dX2_chase_165 rfl rfl (by decide) (Nat.le_of_ble_eq_true rfl) (n := 168) rfl (fun x14 s13 => ?_)
        refine x_istore [(9, .int x14), (8, .int x12), (0, .ref E.2.1), (1, .int v1), (2, .int v2), (3, .int v3), (4, .int v4), (5, .int v5), (6, .int v6), (7, .int v7)] dX2_chase_168 (by decide) rfl (n := 170) rfl ?_
        refine x_iload 1 dX2_chase_170 rfl (n := 172) rfl ?_
        refine x_iload 0 dX2_chase_172 rfl (n := 174) rfl ?_
        refine tw_icmp_lt dX2_chase_174 (t := 189) (by decide) (n := 177) rfl ?_ ?_
        · refine x_iload_n 3 dX2_chase_189 rfl rfl (n := 190) rfl ?_
          refine x_goto dX2_chase_190 (n := 194) (by decide) ?_
          exact tw_ireturn dX2_chase_194
        · refine x_iload 1 dX2_chase_177 rfl (n := 179) rfl ?_
          refine x_iload 0 dX2_chase_179 rfl (n := 181) rfl ?_
          refine tw_icmp_ne dX2_chase_181 (t := 193) (by decide) (n := 184) rfl ?_ ?_
          · refine x_iload_n 4 dX2_chase_193 rfl rfl (n := 194) rfl ?_
            exact tw_ireturn dX2_chase_194
          · refine x_iload_n 3 dX2_chase_184 rfl rfl (n := 185) rfl ?_
            refine x_iload_n 4 dX2_chase_185 rfl rfl (n := 186) rfl ?_
            refine tw_icmp_ge dX2_chase_186 (t := 193) (by decide) (n := 189) rfl ?_ ?_
            · refine x_iload_n 4 dX2_chase_193 rfl rfl (n := 194) rfl ?_
              exact tw_ireturn dX2_chase_194
            · refine x_iload_n 3 dX2_chase_189 rfl rfl (n := 190) rfl ?_
              refine x_goto dX2_chase_190 (n := 194) (by decide) ?_
              exact tw_ireturn dX2_chase_194
      · refine x_sub [3, 5, 6] [(3, .int v3), (5, .int v5), (6, .int v6)] rfl ?_
        exact T_chase_120_ok hO hE v3 v5 v6 s0
  · refine x_iload 4 dX2_chase_63 rfl (n := 65) rfl ?_
    refine x_iload 8 dX2_chase_65 rfl (n := 67) rfl ?_
    refine x_ishr dX2_chase_67 (n := 68) rfl ?_
    refine x_iconst 1 dX2_chase_68 rfl (n := 69) rfl ?_
    refine x_iand dX2_chase_69 (n := 70) rfl ?_
    refine x_iconst 1 dX2_chase_70 rfl (n := 71) rfl ?_
    refine tw_icmp_ne dX2_chase_71 (t := 81) (by decide) (n := 74) rfl ?_ ?_
    · refine x_iconst 0 dX2_chase_81 rfl (n := 82) rfl ?_
      refine x_sub [0, 1, 2, 3, 4, 5, 6, 8] [(0, .ref E.2.1), (1, .int v1), (2, .int v2), (3, .int v3), (4, .int v4), (5, .int v5), (6, .int v6), (8, .int v8)] rfl ?_
      exact T_chase_82_ok hO hE hk42 v1 v2 v3 v4 v5 v6 v8 0 s0
    · refine x_iload 7 dX2_chase_74 rfl (n := 76) rfl ?_
      refine x_iconst 1 dX2_chase_76 rfl (n := 77) rfl ?_
      refine x_iadd dX2_chase_77 (n := 78) rfl ?_
      refine x_goto dX2_chase_78 (n := 82) (by decide) ?_
      refine x_sub [0, 1, 2, 3, 4, 5, 6, 8] [(0, .ref E.2.1), (1, .int v1), (2, .int v2), (3, .int v3), (4, .int v4), (5, .int v5), (6, .int v6), (8, .int v8)] rfl ?_
      exact T_chase_82_ok hO hE hk42 v1 v2 v3 v4 v5 v6 v8 (v7 + 1) s0
theorem T_chase_42_lp {G : xG} {E : TE} (hO : xOK G) (hE : tok E)   (n : Nat) (v1 : Int32) (v2 : Int32) (v3 : Int32) (v4 : Int32) (v5 : Int32) (v6 : Int32) (v7 : Int32) (v8 : Int32) (s0 : TS) : XT G E "ForestLegsModel" "chase" cX2_chase 10 (Option.some Jvm.ClassFile.FieldType.int) 5 42 [(0, .ref E.2.1), (1, .int v1), (2, .int v2), (3, .int v3), (4, .int v4), (5, .int v5), (6, .int v6), (7, .int v7), (8, .int v8)] [] s0 (lp (T_chase_42F) n (v1, v2, v3, v4, v5, v6, v7, v8, s0)) :=
  lp_ok (W := fun p K => XT G E "ForestLegsModel" "chase" cX2_chase 10 (Option.some Jvm.ClassFile.FieldType.int) 5 42 [(0, .ref E.2.1), (1, .int p.1), (2, .int p.2.1), (3, .int p.2.2.1), (4, .int p.2.2.2.1), (5, .int p.2.2.2.2.1), (6, .int p.2.2.2.2.2.1), (7, .int p.2.2.2.2.2.2.1), (8, .int p.2.2.2.2.2.2.2.1)] [] p.2.2.2.2.2.2.2.2 K) (fun _ => tw_no) (fun k hk => fun (v1, v2, v3, v4, v5, v6, v7, v8, s0) => T_chase_42F_ok hO hE (fun v1 v2 v3 v4 v5 v6 v7 v8 s0 => hk (v1, v2, v3, v4, v5, v6, v7, v8, s0)) v1 v2 v3 v4 v5 v6 v7 v8 s0) n (v1, v2, v3, v4, v5, v6, v7, v8, s0)
theorem T_chase_ok {G : xG} {E : TE} (hO : xOK G) (hE : tok E) (s0 : TS) (a1 : Int32) (a2 : Int32) (a3 : Int32) : CTT G E 5 yX2_chase cX2_chase 10 (Option.some Jvm.ClassFile.FieldType.int) [.ref E.2.1, .int a1, .int a2, .int a3] s0 (T_chase s0 a1 a2 a3) := by
  refine CT_of hO (by decide +kernel) (by decide +kernel) (Nat.le_of_ble_eq_true rfl) ?_
  show XT G E "ForestLegsModel" "chase" cX2_chase 10 (Option.some Jvm.ClassFile.FieldType.int) 5 0 [(0, .ref E.2.1), (1, .int a1), (2, .int a2), (3, .int a3)] [] s0 (T_chase s0 a1 a2 a3)
  refine x_aload_nr 0 dX2_chase_0 rfl rfl (n := 1) rfl ?_
  refine x_aload_nr 0 dX2_chase_1 rfl rfl (n := 2) rfl ?_
  refine x_iload_n 1 dX2_chase_2 rfl rfl (n := 3) rfl ?_
  refine x_iload_n 2 dX2_chase_3 rfl rfl (n := 4) rfl ?_
  refine x_iload_n 3 dX2_chase_4 rfl rfl (n := 5) rfl ?_
  refine x_iconst 0 dX2_chase_5 rfl (n := 6) rfl ?_
  refine x_iconst 2 dX2_chase_6 rfl (n := 7) rfl ?_
  refine tw_callS_I [.int a3, .int 0, .int 2] [.int a2, .int a1, .ref E.2.1, .ref E.2.1] (T_in_ok hO hE s0 a3 0 2) md_X2_in q3016 q3017 dX2_chase_7 rfl rfl (by decide) (Nat.le_of_ble_eq_true rfl) (n := 10) rfl (fun x2 s1 => ?_)
  refine tw_callV_I [.int a1, .int a2, .int x2] [.ref E.2.1] (T_whyNotTwo_ok hO hE s1 a1 a2 x2) md_X2_whyNotTwo q3366 q3368 qs114 dX2_chase_10 rfl rfl (by decide) (Nat.le_of_ble_eq_true rfl) (n := 13) rfl (fun x4 s3 => ?_)
  refine tw_callV_I [.int x4] [] (T_isRefused_ok hO hE s3 x4) md_X2_isRefused q3022 q3024 qs63 dX2_chase_13 rfl rfl (by decide) (Nat.le_of_ble_eq_true rfl) (n := 16) rfl (fun x6 s5 => ?_)
  refine tw_if_eq dX2_chase_16 (t := 21) (by decide) (n := 19) rfl ?_ ?_
  · refine x_aload_nr 0 dX2_chase_21 rfl rfl (n := 22) rfl ?_
    refine x_iload_n 1 dX2_chase_22 rfl rfl (n := 23) rfl ?_
    refine x_iload_n 2 dX2_chase_23 rfl rfl (n := 24) rfl ?_
    refine tw_callV_I [.int a1, .int a2] [] (T_togetherOf_ok hO hE s5 a1 a2) md_X2_togetherOf q3358 q3360 qs113 dX2_chase_24 rfl rfl (by decide) (Nat.le_of_ble_eq_true rfl) (n := 27) rfl (fun x8 s7 => ?_)
    refine x_istore [(4, .int x8), (0, .ref E.2.1), (1, .int a1), (2, .int a2), (3, .int a3)] dX2_chase_27 (by decide) rfl (n := 29) rfl ?_
    refine x_iconst 0 dX2_chase_29 rfl (n := 30) rfl ?_
    refine x_istore [(5, .int 0), (4, .int x8), (0, .ref E.2.1), (1, .int a1), (2, .int a2), (3, .int a3)] dX2_chase_30 (by decide) rfl (n := 32) rfl ?_
    refine x_bipush (-2) dX2_chase_32 rfl (n := 34) rfl ?_
    refine x_istore [(6, .int (-2)), (5, .int 0), (4, .int x8), (0, .ref E.2.1), (1, .int a1), (2, .int a2), (3, .int a3)] dX2_chase_34 (by decide) rfl (n := 36) rfl ?_
    refine x_iconst 0 dX2_chase_36 rfl (n := 37) rfl ?_
    refine x_istore [(7, .int 0), (6, .int (-2)), (5, .int 0), (4, .int x8), (0, .ref E.2.1), (1, .int a1), (2, .int a2), (3, .int a3)] dX2_chase_37 (by decide) rfl (n := 39) rfl ?_
    refine x_iconst 0 dX2_chase_39 rfl (n := 40) rfl ?_
    refine x_istore [(8, .int 0), (7, .int 0), (6, .int (-2)), (5, .int 0), (4, .int x8), (0, .ref E.2.1), (1, .int a1), (2, .int a2), (3, .int a3)] dX2_chase_40 (by decide) rfl (n := 42) rfl ?_
    refine x_sub [5, 6, 7, 8, 4, 3, 2, 1, 0] [(0, .ref E.2.1), (1, .int a1), (2, .int a2), (3, .int a3), (4, .int x8), (5, .int 0), (6, .int (-2)), (7, .int 0), (8, .int 0)] rfl ?_
    exact T_chase_42_lp hO hE FU a1 a2 a3 x8 0 (-2) 0 0 s7
  · refine x_iconst (-1) dX2_chase_19 rfl (n := 20) rfl ?_
    exact tw_ireturn dX2_chase_20
abbrev cX2_teamOf : ByteArray := prog_14_method_93_code
def yX2_teamOf : MethodName := ⟨RX2, "teamOf", "(II)I"⟩
def dkwX2_teamOf_4 : List UInt8 := [21, 6, 96, 62, 132, 4, 1, 167, 255, 161, 29, 172]
abbrev dktX2_teamOf_4 : List UInt8 := dkwX2_teamOf_4 ++ []
def dkwX2_teamOf_3 : List UInt8 := [21, 6, 167, 0, 24, 21, 6, 16, 254, 159, 0, 10, 21, 5, 21, 6, 162, 0, 8, 21, 5, 167, 0, 5]
abbrev dktX2_teamOf_3 : List UInt8 := dkwX2_teamOf_3 ++ dktX2_teamOf_4
def dkwX2_teamOf_2 : List UInt8 := [16, 254, 160, 0, 13, 21, 6, 16, 254, 160, 0, 6, 16, 254, 172, 29, 21, 5, 16, 254, 160, 0, 8]
abbrev dktX2_teamOf_2 : List UInt8 := dkwX2_teamOf_2 ++ dktX2_teamOf_3
def dkwX2_teamOf_1 : List UInt8 := [163, 0, 80, 42, 27, 21, 4, 182, 0, 221, 54, 5, 42, 28, 21, 4, 182, 0, 221, 54, 6, 21, 5]
abbrev dktX2_teamOf_1 : List UInt8 := dkwX2_teamOf_1 ++ dktX2_teamOf_2
def dkwX2_teamOf_0 : List UInt8 := [3, 62, 3, 54, 4, 21, 4, 42, 180, 0, 17, 7, 42, 180, 0, 17, 16, 37, 27, 96, 46, 96, 46]
abbrev dktX2_teamOf_0 : List UInt8 := dkwX2_teamOf_0 ++ dktX2_teamOf_1
theorem dksX2_teamOf_0 : cX2_teamOf.data.toList.drop 0 = dktX2_teamOf_0 := by decide +kernel
theorem dksX2_teamOf_1 : cX2_teamOf.data.toList.drop 23 = dktX2_teamOf_1 := dk_seg dksX2_teamOf_0 23 rfl rfl
theorem dksX2_teamOf_2 : cX2_teamOf.data.toList.drop 46 = dktX2_teamOf_2 := dk_seg dksX2_teamOf_1 23 rfl rfl
theorem dksX2_teamOf_3 : cX2_teamOf.data.toList.drop 69 = dktX2_teamOf_3 := dk_seg dksX2_teamOf_2 23 rfl rfl
theorem dksX2_teamOf_4 : cX2_teamOf.data.toList.drop 93 = dktX2_teamOf_4 := dk_seg dksX2_teamOf_3 24 rfl rfl
theorem dX2_teamOf_0 : decode cX2_teamOf 0 = .ok (.iconst 0, 1) := dk_3 (dk_at dksX2_teamOf_0 0 rfl rfl)
theorem dX2_teamOf_1 : decode cX2_teamOf 1 = .ok (.istore_n 3, 1) := dk_62 (dk_at dksX2_teamOf_0 1 rfl rfl)
theorem dX2_teamOf_2 : decode cX2_teamOf 2 = .ok (.iconst 0, 1) := dk_3 (dk_at dksX2_teamOf_0 2 rfl rfl)
theorem dX2_teamOf_3 : decode cX2_teamOf 3 = .ok (.istore 4, 2) := dk_54 4 (dk_at dksX2_teamOf_0 3 rfl rfl)
theorem dX2_teamOf_5 : decode cX2_teamOf 5 = .ok (.iload 4, 2) := dk_21 4 (dk_at dksX2_teamOf_0 5 rfl rfl)
theorem dX2_teamOf_7 : decode cX2_teamOf 7 = .ok (.aload_n 0, 1) := dk_42 (dk_at dksX2_teamOf_0 7 rfl rfl)
theorem dX2_teamOf_8 : decode cX2_teamOf 8 = .ok (.getfield 17, 3) := dk_180 0 17 (dk_at dksX2_teamOf_0 8 rfl rfl)
theorem dX2_teamOf_11 : decode cX2_teamOf 11 = .ok (.iconst 4, 1) := dk_7 (dk_at dksX2_teamOf_0 11 rfl rfl)
theorem dX2_teamOf_12 : decode cX2_teamOf 12 = .ok (.aload_n 0, 1) := dk_42 (dk_at dksX2_teamOf_0 12 rfl rfl)
theorem dX2_teamOf_13 : decode cX2_teamOf 13 = .ok (.getfield 17, 3) := dk_180 0 17 (dk_at dksX2_teamOf_0 13 rfl rfl)
theorem dX2_teamOf_16 : decode cX2_teamOf 16 = .ok (.bipush 37, 2) := dk_16 37 (dk_at dksX2_teamOf_0 16 rfl rfl)
theorem dX2_teamOf_18 : decode cX2_teamOf 18 = .ok (.iload_n 1, 1) := dk_27 (dk_at dksX2_teamOf_0 18 rfl rfl)
theorem dX2_teamOf_19 : decode cX2_teamOf 19 = .ok (.iadd, 1) := dk_96 (dk_at dksX2_teamOf_0 19 rfl rfl)
theorem dX2_teamOf_20 : decode cX2_teamOf 20 = .ok (.iaload, 1) := dk_46 (dk_at dksX2_teamOf_0 20 rfl rfl)
theorem dX2_teamOf_21 : decode cX2_teamOf 21 = .ok (.iadd, 1) := dk_96 (dk_at dksX2_teamOf_0 21 rfl rfl)
theorem dX2_teamOf_22 : decode cX2_teamOf 22 = .ok (.iaload, 1) := dk_46 (dk_at dksX2_teamOf_0 22 rfl rfl)
theorem dX2_teamOf_23 : decode cX2_teamOf 23 = .ok (.if_icmp .gt 80, 3) := dk_163 0 80 (dk_at dksX2_teamOf_1 0 rfl rfl)
theorem dX2_teamOf_26 : decode cX2_teamOf 26 = .ok (.aload_n 0, 1) := dk_42 (dk_at dksX2_teamOf_1 3 rfl rfl)
theorem dX2_teamOf_27 : decode cX2_teamOf 27 = .ok (.iload_n 1, 1) := dk_27 (dk_at dksX2_teamOf_1 4 rfl rfl)
theorem dX2_teamOf_28 : decode cX2_teamOf 28 = .ok (.iload 4, 2) := dk_21 4 (dk_at dksX2_teamOf_1 5 rfl rfl)
theorem dX2_teamOf_30 : decode cX2_teamOf 30 = .ok (.invokevirtual 221, 3) := dk_182 0 221 (dk_at dksX2_teamOf_1 7 rfl rfl)
theorem dX2_teamOf_33 : decode cX2_teamOf 33 = .ok (.istore 5, 2) := dk_54 5 (dk_at dksX2_teamOf_1 10 rfl rfl)
theorem dX2_teamOf_35 : decode cX2_teamOf 35 = .ok (.aload_n 0, 1) := dk_42 (dk_at dksX2_teamOf_1 12 rfl rfl)
theorem dX2_teamOf_36 : decode cX2_teamOf 36 = .ok (.iload_n 2, 1) := dk_28 (dk_at dksX2_teamOf_1 13 rfl rfl)
theorem dX2_teamOf_37 : decode cX2_teamOf 37 = .ok (.iload 4, 2) := dk_21 4 (dk_at dksX2_teamOf_1 14 rfl rfl)
theorem dX2_teamOf_39 : decode cX2_teamOf 39 = .ok (.invokevirtual 221, 3) := dk_182 0 221 (dk_at dksX2_teamOf_1 16 rfl rfl)
theorem dX2_teamOf_42 : decode cX2_teamOf 42 = .ok (.istore 6, 2) := dk_54 6 (dk_at dksX2_teamOf_1 19 rfl rfl)
theorem dX2_teamOf_44 : decode cX2_teamOf 44 = .ok (.iload 5, 2) := dk_21 5 (dk_at dksX2_teamOf_1 21 rfl rfl)
theorem dX2_teamOf_46 : decode cX2_teamOf 46 = .ok (.bipush (-2), 2) := dk_16 254 (dk_at dksX2_teamOf_2 0 rfl rfl)
theorem dX2_teamOf_48 : decode cX2_teamOf 48 = .ok (.if_icmp .ne 13, 3) := dk_160 0 13 (dk_at dksX2_teamOf_2 2 rfl rfl)
theorem dX2_teamOf_51 : decode cX2_teamOf 51 = .ok (.iload 6, 2) := dk_21 6 (dk_at dksX2_teamOf_2 5 rfl rfl)
theorem dX2_teamOf_53 : decode cX2_teamOf 53 = .ok (.bipush (-2), 2) := dk_16 254 (dk_at dksX2_teamOf_2 7 rfl rfl)
theorem dX2_teamOf_55 : decode cX2_teamOf 55 = .ok (.if_icmp .ne 6, 3) := dk_160 0 6 (dk_at dksX2_teamOf_2 9 rfl rfl)
theorem dX2_teamOf_58 : decode cX2_teamOf 58 = .ok (.bipush (-2), 2) := dk_16 254 (dk_at dksX2_teamOf_2 12 rfl rfl)
theorem dX2_teamOf_60 : decode cX2_teamOf 60 = .ok (.ireturn, 1) := dk_172 (dk_at dksX2_teamOf_2 14 rfl rfl)
theorem dX2_teamOf_61 : decode cX2_teamOf 61 = .ok (.iload_n 3, 1) := dk_29 (dk_at dksX2_teamOf_2 15 rfl rfl)
theorem dX2_teamOf_62 : decode cX2_teamOf 62 = .ok (.iload 5, 2) := dk_21 5 (dk_at dksX2_teamOf_2 16 rfl rfl)
theorem dX2_teamOf_64 : decode cX2_teamOf 64 = .ok (.bipush (-2), 2) := dk_16 254 (dk_at dksX2_teamOf_2 18 rfl rfl)
theorem dX2_teamOf_66 : decode cX2_teamOf 66 = .ok (.if_icmp .ne 8, 3) := dk_160 0 8 (dk_at dksX2_teamOf_2 20 rfl rfl)
theorem dX2_teamOf_69 : decode cX2_teamOf 69 = .ok (.iload 6, 2) := dk_21 6 (dk_at dksX2_teamOf_3 0 rfl rfl)
theorem dX2_teamOf_71 : decode cX2_teamOf 71 = .ok (.goto 24, 3) := dk_167 0 24 (dk_at dksX2_teamOf_3 2 rfl rfl)
theorem dX2_teamOf_74 : decode cX2_teamOf 74 = .ok (.iload 6, 2) := dk_21 6 (dk_at dksX2_teamOf_3 5 rfl rfl)
theorem dX2_teamOf_76 : decode cX2_teamOf 76 = .ok (.bipush (-2), 2) := dk_16 254 (dk_at dksX2_teamOf_3 7 rfl rfl)
theorem dX2_teamOf_78 : decode cX2_teamOf 78 = .ok (.if_icmp .eq 10, 3) := dk_159 0 10 (dk_at dksX2_teamOf_3 9 rfl rfl)
theorem dX2_teamOf_81 : decode cX2_teamOf 81 = .ok (.iload 5, 2) := dk_21 5 (dk_at dksX2_teamOf_3 12 rfl rfl)
theorem dX2_teamOf_83 : decode cX2_teamOf 83 = .ok (.iload 6, 2) := dk_21 6 (dk_at dksX2_teamOf_3 14 rfl rfl)
theorem dX2_teamOf_85 : decode cX2_teamOf 85 = .ok (.if_icmp .ge 8, 3) := dk_162 0 8 (dk_at dksX2_teamOf_3 16 rfl rfl)
theorem dX2_teamOf_88 : decode cX2_teamOf 88 = .ok (.iload 5, 2) := dk_21 5 (dk_at dksX2_teamOf_3 19 rfl rfl)
theorem dX2_teamOf_90 : decode cX2_teamOf 90 = .ok (.goto 5, 3) := dk_167 0 5 (dk_at dksX2_teamOf_3 21 rfl rfl)
theorem dX2_teamOf_93 : decode cX2_teamOf 93 = .ok (.iload 6, 2) := dk_21 6 (dk_at dksX2_teamOf_4 0 rfl rfl)
theorem dX2_teamOf_95 : decode cX2_teamOf 95 = .ok (.iadd, 1) := dk_96 (dk_at dksX2_teamOf_4 2 rfl rfl)
theorem dX2_teamOf_96 : decode cX2_teamOf 96 = .ok (.istore_n 3, 1) := dk_62 (dk_at dksX2_teamOf_4 3 rfl rfl)
theorem dX2_teamOf_97 : decode cX2_teamOf 97 = .ok (.iinc 4 1, 3) := dk_132 4 1 (dk_at dksX2_teamOf_4 4 rfl rfl)
theorem dX2_teamOf_100 : decode cX2_teamOf 100 = .ok (.goto (-95), 3) := dk_167 255 161 (dk_at dksX2_teamOf_4 7 rfl rfl)
theorem dX2_teamOf_103 : decode cX2_teamOf 103 = .ok (.iload_n 3, 1) := dk_29 (dk_at dksX2_teamOf_4 10 rfl rfl)
theorem dX2_teamOf_104 : decode cX2_teamOf 104 = .ok (.ireturn, 1) := dk_172 (dk_at dksX2_teamOf_4 11 rfl rfl)
theorem md_X2_teamOf : xMd yX2_teamOf cX2_teamOf 7 (Option.some Jvm.ClassFile.FieldType.int) 2 := ⟨q3381, q126, by decide, by decide +kernel, by decide +kernel, by decide +kernel⟩
def T_teamOf_95  (k5 : Int32 × Int32 × Int32 × Int32 × TS → Option (xO × TS)) (v1 : Int32) (v2 : Int32) (v4 : Int32) (w0 : Int32) (w1 : Int32) (s0 : TS) : Option (xO × TS) :=
  (bnd (w0 + w1) fun x7 =>
  (bnd (v4 + 1) fun x8 =>
  (k5 (v1, v2, x7, x8, s0))))
def T_teamOf_88  (k5 : Int32 × Int32 × Int32 × Int32 × TS → Option (xO × TS)) (v1 : Int32) (v2 : Int32) (v4 : Int32) (v5 : Int32) (w0 : Int32) (s0 : TS) : Option (xO × TS) :=
  (T_teamOf_95 k5 v1 v2 v4 w0 v5 s0)
def T_teamOf_61  (k5 : Int32 × Int32 × Int32 × Int32 × TS → Option (xO × TS)) (v1 : Int32) (v2 : Int32) (v3 : Int32) (v4 : Int32) (v5 : Int32) (v6 : Int32) (s0 : TS) : Option (xO × TS) :=
  (if v5 = (-2) then
  (T_teamOf_95 k5 v1 v2 v4 v3 v6 s0) else
  (if v6 = (-2) then
  (T_teamOf_88 k5 v1 v2 v4 v5 v3 s0) else
  (if v6 ≤ v5 then
  (T_teamOf_95 k5 v1 v2 v4 v3 v6 s0) else
  (T_teamOf_88 k5 v1 v2 v4 v5 v3 s0))))
def T_teamOf_5F   (k5 : Int32 × Int32 × Int32 × Int32 × TS → Option (xO × TS)) (p : Int32 × Int32 × Int32 × Int32 × TS) : Option (xO × TS) := match p with
  | (v1, v2, v3, v4, s0) => (tald s0 7 (37 + v1) fun x1 =>
  (tald s0 7 (4 + x1) fun x2 =>
  (if x2 < v4 then
  (rI v3 s0) else
  (xcI (T_legOf s0 v1 v4) fun x4 s3 =>
  (xcI (T_legOf s3 v2 v4) fun x6 s5 =>
  (if x4 = (-2) then
  (if x6 = (-2) then
  (rI (-2) s5) else
  (T_teamOf_61 k5 v1 v2 v3 v4 x4 x6 s5)) else
  (T_teamOf_61 k5 v1 v2 v3 v4 x4 x6 s5)))))))
def T_teamOf (s0 : TS) (a1 : Int32) (a2 : Int32) : Option (xO × TS) :=
  (lp (T_teamOf_5F) FU (a1, a2, 0, 0, s0))
theorem T_teamOf_95_ok {G : xG} {E : TE} (hO : xOK G) (hE : tok E)  {k5 : Int32 × Int32 × Int32 × Int32 × TS → Option (xO × TS)} (hk5 : ∀ (v1 : Int32) (v2 : Int32) (v3 : Int32) (v4 : Int32) (s0 : TS), XT G E "ForestLegsModel" "teamOf" cX2_teamOf 7 (Option.some Jvm.ClassFile.FieldType.int) 5 5 [(0, .ref E.2.1), (1, .int v1), (2, .int v2), (3, .int v3), (4, .int v4)] [] s0 (k5 (v1, v2, v3, v4, s0))) (v1 : Int32) (v2 : Int32) (v4 : Int32) (w0 : Int32) (w1 : Int32) (s0 : TS) : XT G E "ForestLegsModel" "teamOf" cX2_teamOf 7 (Option.some Jvm.ClassFile.FieldType.int) 5 95 [(0, .ref E.2.1), (1, .int v1), (2, .int v2), (4, .int v4)] [.int w1, .int w0] s0 (T_teamOf_95 k5 v1 v2 v4 w0 w1 s0) := by
  unfold T_teamOf_95
  refine x_iadd dX2_teamOf_95 (n := 96) rfl ?_
  refine tw_nm (fun x7 => ?_)
  refine x_istore_n [(3, .int x7), (0, .ref E.2.1), (1, .int v1), (2, .int v2), (4, .int v4)] dX2_teamOf_96 rfl (by decide) rfl (n := 97) rfl ?_
  refine tw_iinc 4 (fun x8 => [(4, .int x8), (3, .int x7), (0, .ref E.2.1), (1, .int v1), (2, .int v2)]) dX2_teamOf_97 rfl rfl (by decide) (fun _ => rfl) (n := 100) rfl (fun x8 => ?_)
  refine x_goto dX2_teamOf_100 (n := 5) (by decide) ?_
  refine x_sub [2, 3, 4, 1, 0] [(0, .ref E.2.1), (1, .int v1), (2, .int v2), (3, .int x7), (4, .int x8)] rfl ?_
  exact hk5 v1 v2 x7 x8 s0
theorem T_teamOf_88_ok {G : xG} {E : TE} (hO : xOK G) (hE : tok E)  {k5 : Int32 × Int32 × Int32 × Int32 × TS → Option (xO × TS)} (hk5 : ∀ (v1 : Int32) (v2 : Int32) (v3 : Int32) (v4 : Int32) (s0 : TS), XT G E "ForestLegsModel" "teamOf" cX2_teamOf 7 (Option.some Jvm.ClassFile.FieldType.int) 5 5 [(0, .ref E.2.1), (1, .int v1), (2, .int v2), (3, .int v3), (4, .int v4)] [] s0 (k5 (v1, v2, v3, v4, s0))) (v1 : Int32) (v2 : Int32) (v4 : Int32) (v5 : Int32) (w0 : Int32) (s0 : TS) : XT G E "ForestLegsModel" "teamOf" cX2_teamOf 7 (Option.some Jvm.ClassFile.FieldType.int) 5 88 [(0, .ref E.2.1), (1, .int v1), (2, .int v2), (4, .int v4), (5, .int v5)] [.int w0] s0 (T_teamOf_88 k5 v1 v2 v4 v5 w0 s0) := by
  unfold T_teamOf_88
  refine x_iload 4 dX2_teamOf_88 rfl (n := 90) rfl ?_
  refine x_goto dX2_teamOf_90 (n := 95) (by decide) ?_
  refine x_sub [0, 1, 2, 3] [(0, .ref E.2.1), (1, .int v1), (2, .int v2), (4, .int v4)] rfl ?_
  exact T_teamOf_95_ok hO hE hk5 v1 v2 v4 w0 v5 s0
theorem T_teamOf_61_ok {G : xG} {E : TE} (hO : xOK G) (hE : tok E)  {k5 : Int32 × Int32 × Int32 × Int32 × TS → Option (xO × TS)} (hk5 : ∀ (v1 : Int32) (v2 : Int32) (v3 : Int32) (v4 : Int32) (s0 : TS), XT G E "ForestLegsModel" "teamOf" cX2_teamOf 7 (Option.some Jvm.ClassFile.FieldType.int) 5 5 [(0, .ref E.2.1), (1, .int v1), (2, .int v2), (3, .int v3), (4, .int v4)] [] s0 (k5 (v1, v2, v3, v4, s0))) (v1 : Int32) (v2 : Int32) (v3 : Int32) (v4 : Int32) (v5 : Int32) (v6 : Int32) (s0 : TS) : XT G E "ForestLegsModel" "teamOf" cX2_teamOf 7 (Option.some Jvm.ClassFile.FieldType.int) 5 61 [(0, .ref E.2.1), (1, .int v1), (2, .int v2), (3, .int v3), (4, .int v4), (5, .int v5), (6, .int v6)] [] s0 (T_teamOf_61 k5 v1 v2 v3 v4 v5 v6 s0) := by
  unfold T_teamOf_61
  refine x_iload_n 3 dX2_teamOf_61 rfl rfl (n := 62) rfl ?_
  refine x_iload 5 dX2_teamOf_62 rfl (n := 64) rfl ?_
  refine x_bipush (-2) dX2_teamOf_64 rfl (n := 66) rfl ?_
  refine tw_icmp_ne dX2_teamOf_66 (t := 74) (by decide) (n := 69) rfl ?_ ?_
  · refine x_iload 6 dX2_teamOf_74 rfl (n := 76) rfl ?_
    refine x_bipush (-2) dX2_teamOf_76 rfl (n := 78) rfl ?_
    refine tw_icmp_eq dX2_teamOf_78 (t := 88) (by decide) (n := 81) rfl ?_ ?_
    · refine x_sub [0, 1, 2, 4, 5] [(0, .ref E.2.1), (1, .int v1), (2, .int v2), (4, .int v4), (5, .int v5)] rfl ?_
      exact T_teamOf_88_ok hO hE hk5 v1 v2 v4 v5 v3 s0
    · refine x_iload 5 dX2_teamOf_81 rfl (n := 83) rfl ?_
      refine x_iload 6 dX2_teamOf_83 rfl (n := 85) rfl ?_
      refine tw_icmp_ge dX2_teamOf_85 (t := 93) (by decide) (n := 88) rfl ?_ ?_
      · refine x_iload 6 dX2_teamOf_93 rfl (n := 95) rfl ?_
        refine x_sub [0, 1, 2, 4] [(0, .ref E.2.1), (1, .int v1), (2, .int v2), (4, .int v4)] rfl ?_
        exact T_teamOf_95_ok hO hE hk5 v1 v2 v4 v3 v6 s0
      · refine x_sub [0, 1, 2, 4, 5] [(0, .ref E.2.1), (1, .int v1), (2, .int v2), (4, .int v4), (5, .int v5)] rfl ?_
        exact T_teamOf_88_ok hO hE hk5 v1 v2 v4 v5 v3 s0
  · refine x_iload 6 dX2_teamOf_69 rfl (n := 71) rfl ?_
    refine x_goto dX2_teamOf_71 (n := 95) (by decide) ?_
    refine x_sub [0, 1, 2, 4] [(0, .ref E.2.1), (1, .int v1), (2, .int v2), (4, .int v4)] rfl ?_
    exact T_teamOf_95_ok hO hE hk5 v1 v2 v4 v3 v6 s0
theorem T_teamOf_5F_ok {G : xG} {E : TE} (hO : xOK G) (hE : tok E)   {k5 : Int32 × Int32 × Int32 × Int32 × TS → Option (xO × TS)} (hk5 : ∀ (v1 : Int32) (v2 : Int32) (v3 : Int32) (v4 : Int32) (s0 : TS), XT G E "ForestLegsModel" "teamOf" cX2_teamOf 7 (Option.some Jvm.ClassFile.FieldType.int) 5 5 [(0, .ref E.2.1), (1, .int v1), (2, .int v2), (3, .int v3), (4, .int v4)] [] s0 (k5 (v1, v2, v3, v4, s0))) (v1 : Int32) (v2 : Int32) (v3 : Int32) (v4 : Int32) (s0 : TS) : XT G E "ForestLegsModel" "teamOf" cX2_teamOf 7 (Option.some Jvm.ClassFile.FieldType.int) 5 5 [(0, .ref E.2.1), (1, .int v1), (2, .int v2), (3, .int v3), (4, .int v4)] [] s0 (T_teamOf_5F k5 (v1, v2, v3, v4, s0)) := by
  unfold T_teamOf_5F
  refine x_iload 4 dX2_teamOf_5 rfl (n := 7) rfl ?_
  refine x_aload_nr 0 dX2_teamOf_7 rfl rfl (n := 8) rfl ?_
  refine tw_getA fl_X2_17 rfl (by decide) dX2_teamOf_8 (n := 11) rfl ?_
  refine x_iconst 4 dX2_teamOf_11 rfl (n := 12) rfl ?_
  refine x_aload_nr 0 dX2_teamOf_12 rfl rfl (n := 13) rfl ?_
  refine tw_getA fl_X2_17 rfl (by decide) dX2_teamOf_13 (n := 16) rfl ?_
  refine x_bipush 37 dX2_teamOf_16 rfl (n := 18) rfl ?_
  refine x_iload_n 1 dX2_teamOf_18 rfl rfl (n := 19) rfl ?_
  refine x_iadd dX2_teamOf_19 (n := 20) rfl ?_
  refine tw_iald hE (by decide) dX2_teamOf_20 (n := 21) rfl (fun x1 => ?_)
  refine x_iadd dX2_teamOf_21 (n := 22) rfl ?_
  refine tw_iald hE (by decide) dX2_teamOf_22 (n := 23) rfl (fun x2 => ?_)
  refine tw_icmp_gt dX2_teamOf_23 (t := 103) (by decide) (n := 26) rfl ?_ ?_
  · refine x_iload_n 3 dX2_teamOf_103 rfl rfl (n := 104) rfl ?_
    exact tw_ireturn dX2_teamOf_104
  · refine x_aload_nr 0 dX2_teamOf_26 rfl rfl (n := 27) rfl ?_
    refine x_iload_n 1 dX2_teamOf_27 rfl rfl (n := 28) rfl ?_
    refine x_iload 4 dX2_teamOf_28 rfl (n := 30) rfl ?_
    refine tw_callV_I [.int v1, .int v4] [] (T_legOf_ok hO hE s0 v1 v4) md_X2_legOf q3179 q3181 qs92 dX2_teamOf_30 rfl rfl (by decide) (Nat.le_of_ble_eq_true rfl) (n := 33) rfl (fun x4 s3 => ?_)
    refine x_istore [(5, .int x4), (0, .ref E.2.1), (1, .int v1), (2, .int v2), (3, .int v3), (4, .int v4)] dX2_teamOf_33 (by decide) rfl (n := 35) rfl ?_
    refine x_aload_nr 1 dX2_teamOf_35 rfl rfl (n := 36) rfl ?_
    refine x_iload_n 3 dX2_teamOf_36 rfl rfl (n := 37) rfl ?_
    refine x_iload 5 dX2_teamOf_37 rfl (n := 39) rfl ?_
    refine tw_callV_I [.int v2, .int v4] [] (T_legOf_ok hO hE s3 v2 v4) md_X2_legOf q3179 q3181 qs92 dX2_teamOf_39 rfl rfl (by decide) (Nat.le_of_ble_eq_true rfl) (n := 42) rfl (fun x6 s5 => ?_)
    refine x_istore [(6, .int x6), (5, .int x4), (0, .ref E.2.1), (1, .int v1), (2, .int v2), (3, .int v3), (4, .int v4)] dX2_teamOf_42 (by decide) rfl (n := 44) rfl ?_
    refine x_iload 1 dX2_teamOf_44 rfl (n := 46) rfl ?_
    refine x_bipush (-2) dX2_teamOf_46 rfl (n := 48) rfl ?_
    refine tw_icmp_ne dX2_teamOf_48 (t := 61) (by decide) (n := 51) rfl ?_ ?_
    · refine x_sub [2, 3, 4, 5, 6, 1, 0] [(0, .ref E.2.1), (1, .int v1), (2, .int v2), (3, .int v3), (4, .int v4), (5, .int x4), (6, .int x6)] rfl ?_
      exact T_teamOf_61_ok hO hE hk5 v1 v2 v3 v4 x4 x6 s5
    · refine x_iload 0 dX2_teamOf_51 rfl (n := 53) rfl ?_
      refine x_bipush (-2) dX2_teamOf_53 rfl (n := 55) rfl ?_
      refine tw_icmp_ne dX2_teamOf_55 (t := 61) (by decide) (n := 58) rfl ?_ ?_
      · refine x_sub [2, 3, 4, 5, 6, 1, 0] [(0, .ref E.2.1), (1, .int v1), (2, .int v2), (3, .int v3), (4, .int v4), (5, .int x4), (6, .int x6)] rfl ?_
        exact T_teamOf_61_ok hO hE hk5 v1 v2 v3 v4 x4 x6 s5
      · refine x_bipush (-2) dX2_teamOf_58 rfl (n := 60) rfl ?_
        exact tw_ireturn dX2_teamOf_60
theorem T_teamOf_5_lp {G : xG} {E : TE} (hO : xOK G) (hE : tok E)   (n : Nat) (v1 : Int32) (v2 : Int32) (v3 : Int32) (v4 : Int32) (s0 : TS) : XT G E "ForestLegsModel" "teamOf" cX2_teamOf 7 (Option.some Jvm.ClassFile.FieldType.int) 5 5 [(0, .ref E.2.1), (1, .int v1), (2, .int v2), (3, .int v3), (4, .int v4)] [] s0 (lp (T_teamOf_5F) n (v1, v2, v3, v4, s0)) :=
  lp_ok (W := fun p K => XT G E "ForestLegsModel" "teamOf" cX2_teamOf 7 (Option.some Jvm.ClassFile.FieldType.int) 5 5 [(0, .ref E.2.1), (1, .int p.1), (2, .int p.2.1), (3, .int p.2.2.1), (4, .int p.2.2.2.1)] [] p.2.2.2.2 K) (fun _ => tw_no) (fun k hk => fun (v1, v2, v3, v4, s0) => T_teamOf_5F_ok hO hE (fun v1 v2 v3 v4 s0 => hk (v1, v2, v3, v4, s0)) v1 v2 v3 v4 s0) n (v1, v2, v3, v4, s0)
theorem T_teamOf_ok {G : xG} {E : TE} (hO : xOK G) (hE : tok E) (s0 : TS) (a1 : Int32) (a2 : Int32) : CTT G E 5 yX2_teamOf cX2_teamOf 7 (Option.some Jvm.ClassFile.FieldType.int) [.ref E.2.1, .int a1, .int a2] s0 (T_teamOf s0 a1 a2) := by
  refine CT_of hO (by decide +kernel) (by decide +kernel) (Nat.le_of_ble_eq_true rfl) ?_
  show XT G E "ForestLegsModel" "teamOf" cX2_teamOf 7 (Option.some Jvm.ClassFile.FieldType.int) 5 0 [(0, .ref E.2.1), (1, .int a1), (2, .int a2)] [] s0 (T_teamOf s0 a1 a2)
  refine x_iconst 0 dX2_teamOf_0 rfl (n := 1) rfl ?_
  refine x_istore_n [(3, .int 0), (0, .ref E.2.1), (1, .int a1), (2, .int a2)] dX2_teamOf_1 rfl (by decide) rfl (n := 2) rfl ?_
  refine x_iconst 0 dX2_teamOf_2 rfl (n := 3) rfl ?_
  refine x_istore [(4, .int 0), (3, .int 0), (0, .ref E.2.1), (1, .int a1), (2, .int a2)] dX2_teamOf_3 (by decide) rfl (n := 5) rfl ?_
  refine x_sub [2, 3, 4, 1, 0] [(0, .ref E.2.1), (1, .int a1), (2, .int a2), (3, .int 0), (4, .int 0)] rfl ?_
  exact T_teamOf_5_lp hO hE FU a1 a2 0 0 s0
abbrev cX2_team : ByteArray := prog_14_method_94_code
def yX2_team : MethodName := ⟨RX2, "team", "(II)I"⟩
def dkwX2_team_1 : List UInt8 := [172]
abbrev dktX2_team_1 : List UInt8 := dkwX2_team_1 ++ []
def dkwX2_team_0 : List UInt8 := [42, 42, 27, 28, 4, 182, 1, 56, 182, 0, 161, 153, 0, 7, 2, 167, 0, 9, 42, 27, 28, 182, 1, 59]
abbrev dktX2_team_0 : List UInt8 := dkwX2_team_0 ++ dktX2_team_1
theorem dksX2_team_0 : cX2_team.data.toList.drop 0 = dktX2_team_0 := by decide +kernel
theorem dksX2_team_1 : cX2_team.data.toList.drop 24 = dktX2_team_1 := dk_seg dksX2_team_0 24 rfl rfl
theorem dX2_team_0 : decode cX2_team 0 = .ok (.aload_n 0, 1) := dk_42 (dk_at dksX2_team_0 0 rfl rfl)
theorem dX2_team_1 : decode cX2_team 1 = .ok (.aload_n 0, 1) := dk_42 (dk_at dksX2_team_0 1 rfl rfl)
theorem dX2_team_2 : decode cX2_team 2 = .ok (.iload_n 1, 1) := dk_27 (dk_at dksX2_team_0 2 rfl rfl)
theorem dX2_team_3 : decode cX2_team 3 = .ok (.iload_n 2, 1) := dk_28 (dk_at dksX2_team_0 3 rfl rfl)
theorem dX2_team_4 : decode cX2_team 4 = .ok (.iconst 1, 1) := dk_4 (dk_at dksX2_team_0 4 rfl rfl)
theorem dX2_team_5 : decode cX2_team 5 = .ok (.invokevirtual 312, 3) := dk_182 1 56 (dk_at dksX2_team_0 5 rfl rfl)
theorem dX2_team_8 : decode cX2_team 8 = .ok (.invokevirtual 161, 3) := dk_182 0 161 (dk_at dksX2_team_0 8 rfl rfl)
theorem dX2_team_11 : decode cX2_team 11 = .ok (.ifCond .eq 7, 3) := dk_153 0 7 (dk_at dksX2_team_0 11 rfl rfl)
theorem dX2_team_14 : decode cX2_team 14 = .ok (.iconst (-1), 1) := dk_2 (dk_at dksX2_team_0 14 rfl rfl)
theorem dX2_team_15 : decode cX2_team 15 = .ok (.goto 9, 3) := dk_167 0 9 (dk_at dksX2_team_0 15 rfl rfl)
theorem dX2_team_18 : decode cX2_team 18 = .ok (.aload_n 0, 1) := dk_42 (dk_at dksX2_team_0 18 rfl rfl)
theorem dX2_team_19 : decode cX2_team 19 = .ok (.iload_n 1, 1) := dk_27 (dk_at dksX2_team_0 19 rfl rfl)
theorem dX2_team_20 : decode cX2_team 20 = .ok (.iload_n 2, 1) := dk_28 (dk_at dksX2_team_0 20 rfl rfl)
theorem dX2_team_21 : decode cX2_team 21 = .ok (.invokevirtual 315, 3) := dk_182 1 59 (dk_at dksX2_team_0 21 rfl rfl)
theorem dX2_team_24 : decode cX2_team 24 = .ok (.ireturn, 1) := dk_172 (dk_at dksX2_team_1 0 rfl rfl)
theorem md_X2_team : xMd yX2_team cX2_team 3 (Option.some Jvm.ClassFile.FieldType.int) 2 := ⟨q3377, q126, by decide, by decide +kernel, by decide +kernel, by decide +kernel⟩
def T_team (s0 : TS) (a1 : Int32) (a2 : Int32) : Option (xO × TS) :=
  (xcI (T_whyNotTwo s0 a1 a2 1) fun x2 s1 =>
  (xcI (T_isRefused s1 x2) fun x4 s3 =>
  (if x4 = 0 then
  (xcI (T_teamOf s3 a1 a2) fun x6 s5 =>
  (rI x6 s5)) else
  (rI (-1) s3))))
theorem T_team_ok {G : xG} {E : TE} (hO : xOK G) (hE : tok E) (s0 : TS) (a1 : Int32) (a2 : Int32) : CTT G E 6 yX2_team cX2_team 3 (Option.some Jvm.ClassFile.FieldType.int) [.ref E.2.1, .int a1, .int a2] s0 (T_team s0 a1 a2) := by
  refine CT_of hO (by decide +kernel) (by decide +kernel) (Nat.le_of_ble_eq_true rfl) ?_
  show XT G E "ForestLegsModel" "team" cX2_team 3 (Option.some Jvm.ClassFile.FieldType.int) 6 0 [(0, .ref E.2.1), (1, .int a1), (2, .int a2)] [] s0 (T_team s0 a1 a2)
  refine x_aload_nr 0 dX2_team_0 rfl rfl (n := 1) rfl ?_
  refine x_aload_nr 0 dX2_team_1 rfl rfl (n := 2) rfl ?_
  refine x_iload_n 1 dX2_team_2 rfl rfl (n := 3) rfl ?_
  refine x_iload_n 2 dX2_team_3 rfl rfl (n := 4) rfl ?_
  refine x_iconst 1 dX2_team_4 rfl (n := 5) rfl ?_
  refine tw_callV_I [.int a1, .int a2, .int 1] [.ref E.2.1] (T_whyNotTwo_ok hO hE s0 a1 a2 1) md_X2_whyNotTwo q3366 q3368 qs114 dX2_team_5 rfl rfl (by decide) (Nat.le_of_ble_eq_true rfl) (n := 8) rfl (fun x2 s1 => ?_)
  refine tw_callV_I [.int x2] [] (T_isRefused_ok hO hE s1 x2) md_X2_isRefused q3022 q3024 qs63 dX2_team_8 rfl rfl (by decide) (Nat.le_of_ble_eq_true rfl) (n := 11) rfl (fun x4 s3 => ?_)
  refine tw_if_eq dX2_team_11 (t := 18) (by decide) (n := 14) rfl ?_ ?_
  · refine x_aload_nr 0 dX2_team_18 rfl rfl (n := 19) rfl ?_
    refine x_iload_n 1 dX2_team_19 rfl rfl (n := 20) rfl ?_
    refine x_iload_n 2 dX2_team_20 rfl rfl (n := 21) rfl ?_
    refine tw_callV_I [.int a1, .int a2] [] (T_teamOf_ok hO hE s3 a1 a2) md_X2_teamOf q3378 q3380 qs115 dX2_team_21 rfl rfl (by decide) (Nat.le_of_ble_eq_true rfl) (n := 24) rfl (fun x6 s5 => ?_)
    exact tw_ireturn dX2_team_24
  · refine x_iconst (-1) dX2_team_14 rfl (n := 15) rfl ?_
    refine x_goto dX2_team_15 (n := 24) (by decide) ?_
    exact tw_ireturn dX2_team_24
abbrev cX2_mate : ByteArray := prog_14_method_95_code
def yX2_mate : MethodName := ⟨RX2, "mate", "(I)I"⟩
def dkwX2_mate_4 : List UInt8 := [162, 0, 9, 21, 4, 61, 21, 5, 62, 132, 4, 1, 167, 255, 175, 28, 172]
abbrev dktX2_mate_4 : List UInt8 := dkwX2_mate_4 ++ []
def dkwX2_mate_3 : List UInt8 := [27, 21, 4, 182, 1, 59, 54, 5, 21, 5, 16, 254, 159, 0, 21, 28, 16, 254, 159, 0, 9, 21, 5, 29]
abbrev dktX2_mate_3 : List UInt8 := dkwX2_mate_3 ++ dktX2_mate_4
def dkwX2_mate_2 : List UInt8 := [16, 37, 21, 4, 96, 46, 42, 180, 0, 17, 16, 37, 27, 96, 46, 159, 0, 8, 16, 254, 167, 0, 10, 42]
abbrev dktX2_mate_2 : List UInt8 := dkwX2_mate_2 ++ dktX2_mate_3
def dkwX2_mate_1 : List UInt8 := [54, 4, 21, 4, 42, 180, 0, 17, 4, 46, 162, 0, 76, 21, 4, 27, 159, 0, 25, 42, 180, 0, 17]
abbrev dktX2_mate_1 : List UInt8 := dkwX2_mate_1 ++ dktX2_mate_2
def dkwX2_mate_0 : List UInt8 := [42, 42, 27, 182, 0, 187, 184, 0, 234, 182, 0, 161, 153, 0, 5, 2, 172, 16, 254, 61, 3, 62, 3]
abbrev dktX2_mate_0 : List UInt8 := dkwX2_mate_0 ++ dktX2_mate_1
theorem dksX2_mate_0 : cX2_mate.data.toList.drop 0 = dktX2_mate_0 := by decide +kernel
theorem dksX2_mate_1 : cX2_mate.data.toList.drop 23 = dktX2_mate_1 := dk_seg dksX2_mate_0 23 rfl rfl
theorem dksX2_mate_2 : cX2_mate.data.toList.drop 46 = dktX2_mate_2 := dk_seg dksX2_mate_1 23 rfl rfl
theorem dksX2_mate_3 : cX2_mate.data.toList.drop 70 = dktX2_mate_3 := dk_seg dksX2_mate_2 24 rfl rfl
theorem dksX2_mate_4 : cX2_mate.data.toList.drop 94 = dktX2_mate_4 := dk_seg dksX2_mate_3 24 rfl rfl
theorem dX2_mate_0 : decode cX2_mate 0 = .ok (.aload_n 0, 1) := dk_42 (dk_at dksX2_mate_0 0 rfl rfl)
theorem dX2_mate_1 : decode cX2_mate 1 = .ok (.aload_n 0, 1) := dk_42 (dk_at dksX2_mate_0 1 rfl rfl)
theorem dX2_mate_2 : decode cX2_mate 2 = .ok (.iload_n 1, 1) := dk_27 (dk_at dksX2_mate_0 2 rfl rfl)
theorem dX2_mate_3 : decode cX2_mate 3 = .ok (.invokevirtual 187, 3) := dk_182 0 187 (dk_at dksX2_mate_0 3 rfl rfl)
theorem dX2_mate_6 : decode cX2_mate 6 = .ok (.invokestatic 234, 3) := dk_184 0 234 (dk_at dksX2_mate_0 6 rfl rfl)
theorem dX2_mate_9 : decode cX2_mate 9 = .ok (.invokevirtual 161, 3) := dk_182 0 161 (dk_at dksX2_mate_0 9 rfl rfl)
theorem dX2_mate_12 : decode cX2_mate 12 = .ok (.ifCond .eq 5, 3) := dk_153 0 5 (dk_at dksX2_mate_0 12 rfl rfl)
theorem dX2_mate_15 : decode cX2_mate 15 = .ok (.iconst (-1), 1) := dk_2 (dk_at dksX2_mate_0 15 rfl rfl)
theorem dX2_mate_16 : decode cX2_mate 16 = .ok (.ireturn, 1) := dk_172 (dk_at dksX2_mate_0 16 rfl rfl)
theorem dX2_mate_17 : decode cX2_mate 17 = .ok (.bipush (-2), 2) := dk_16 254 (dk_at dksX2_mate_0 17 rfl rfl)
theorem dX2_mate_19 : decode cX2_mate 19 = .ok (.istore_n 2, 1) := dk_61 (dk_at dksX2_mate_0 19 rfl rfl)
theorem dX2_mate_20 : decode cX2_mate 20 = .ok (.iconst 0, 1) := dk_3 (dk_at dksX2_mate_0 20 rfl rfl)
theorem dX2_mate_21 : decode cX2_mate 21 = .ok (.istore_n 3, 1) := dk_62 (dk_at dksX2_mate_0 21 rfl rfl)
theorem dX2_mate_22 : decode cX2_mate 22 = .ok (.iconst 0, 1) := dk_3 (dk_at dksX2_mate_0 22 rfl rfl)
theorem dX2_mate_23 : decode cX2_mate 23 = .ok (.istore 4, 2) := dk_54 4 (dk_at dksX2_mate_1 0 rfl rfl)
theorem dX2_mate_25 : decode cX2_mate 25 = .ok (.iload 4, 2) := dk_21 4 (dk_at dksX2_mate_1 2 rfl rfl)
theorem dX2_mate_27 : decode cX2_mate 27 = .ok (.aload_n 0, 1) := dk_42 (dk_at dksX2_mate_1 4 rfl rfl)
theorem dX2_mate_28 : decode cX2_mate 28 = .ok (.getfield 17, 3) := dk_180 0 17 (dk_at dksX2_mate_1 5 rfl rfl)
theorem dX2_mate_31 : decode cX2_mate 31 = .ok (.iconst 1, 1) := dk_4 (dk_at dksX2_mate_1 8 rfl rfl)
theorem dX2_mate_32 : decode cX2_mate 32 = .ok (.iaload, 1) := dk_46 (dk_at dksX2_mate_1 9 rfl rfl)
theorem dX2_mate_33 : decode cX2_mate 33 = .ok (.if_icmp .ge 76, 3) := dk_162 0 76 (dk_at dksX2_mate_1 10 rfl rfl)
theorem dX2_mate_36 : decode cX2_mate 36 = .ok (.iload 4, 2) := dk_21 4 (dk_at dksX2_mate_1 13 rfl rfl)
theorem dX2_mate_38 : decode cX2_mate 38 = .ok (.iload_n 1, 1) := dk_27 (dk_at dksX2_mate_1 15 rfl rfl)
theorem dX2_mate_39 : decode cX2_mate 39 = .ok (.if_icmp .eq 25, 3) := dk_159 0 25 (dk_at dksX2_mate_1 16 rfl rfl)
theorem dX2_mate_42 : decode cX2_mate 42 = .ok (.aload_n 0, 1) := dk_42 (dk_at dksX2_mate_1 19 rfl rfl)
theorem dX2_mate_43 : decode cX2_mate 43 = .ok (.getfield 17, 3) := dk_180 0 17 (dk_at dksX2_mate_1 20 rfl rfl)
theorem dX2_mate_46 : decode cX2_mate 46 = .ok (.bipush 37, 2) := dk_16 37 (dk_at dksX2_mate_2 0 rfl rfl)
theorem dX2_mate_48 : decode cX2_mate 48 = .ok (.iload 4, 2) := dk_21 4 (dk_at dksX2_mate_2 2 rfl rfl)
theorem dX2_mate_50 : decode cX2_mate 50 = .ok (.iadd, 1) := dk_96 (dk_at dksX2_mate_2 4 rfl rfl)
theorem dX2_mate_51 : decode cX2_mate 51 = .ok (.iaload, 1) := dk_46 (dk_at dksX2_mate_2 5 rfl rfl)
theorem dX2_mate_52 : decode cX2_mate 52 = .ok (.aload_n 0, 1) := dk_42 (dk_at dksX2_mate_2 6 rfl rfl)
theorem dX2_mate_53 : decode cX2_mate 53 = .ok (.getfield 17, 3) := dk_180 0 17 (dk_at dksX2_mate_2 7 rfl rfl)
theorem dX2_mate_56 : decode cX2_mate 56 = .ok (.bipush 37, 2) := dk_16 37 (dk_at dksX2_mate_2 10 rfl rfl)
theorem dX2_mate_58 : decode cX2_mate 58 = .ok (.iload_n 1, 1) := dk_27 (dk_at dksX2_mate_2 12 rfl rfl)
theorem dX2_mate_59 : decode cX2_mate 59 = .ok (.iadd, 1) := dk_96 (dk_at dksX2_mate_2 13 rfl rfl)
theorem dX2_mate_60 : decode cX2_mate 60 = .ok (.iaload, 1) := dk_46 (dk_at dksX2_mate_2 14 rfl rfl)
theorem dX2_mate_61 : decode cX2_mate 61 = .ok (.if_icmp .eq 8, 3) := dk_159 0 8 (dk_at dksX2_mate_2 15 rfl rfl)
theorem dX2_mate_64 : decode cX2_mate 64 = .ok (.bipush (-2), 2) := dk_16 254 (dk_at dksX2_mate_2 18 rfl rfl)
theorem dX2_mate_66 : decode cX2_mate 66 = .ok (.goto 10, 3) := dk_167 0 10 (dk_at dksX2_mate_2 20 rfl rfl)
theorem dX2_mate_69 : decode cX2_mate 69 = .ok (.aload_n 0, 1) := dk_42 (dk_at dksX2_mate_2 23 rfl rfl)
theorem dX2_mate_70 : decode cX2_mate 70 = .ok (.iload_n 1, 1) := dk_27 (dk_at dksX2_mate_3 0 rfl rfl)
theorem dX2_mate_71 : decode cX2_mate 71 = .ok (.iload 4, 2) := dk_21 4 (dk_at dksX2_mate_3 1 rfl rfl)
theorem dX2_mate_73 : decode cX2_mate 73 = .ok (.invokevirtual 315, 3) := dk_182 1 59 (dk_at dksX2_mate_3 3 rfl rfl)
theorem dX2_mate_76 : decode cX2_mate 76 = .ok (.istore 5, 2) := dk_54 5 (dk_at dksX2_mate_3 6 rfl rfl)
theorem dX2_mate_78 : decode cX2_mate 78 = .ok (.iload 5, 2) := dk_21 5 (dk_at dksX2_mate_3 8 rfl rfl)
theorem dX2_mate_80 : decode cX2_mate 80 = .ok (.bipush (-2), 2) := dk_16 254 (dk_at dksX2_mate_3 10 rfl rfl)
theorem dX2_mate_82 : decode cX2_mate 82 = .ok (.if_icmp .eq 21, 3) := dk_159 0 21 (dk_at dksX2_mate_3 12 rfl rfl)
theorem dX2_mate_85 : decode cX2_mate 85 = .ok (.iload_n 2, 1) := dk_28 (dk_at dksX2_mate_3 15 rfl rfl)
theorem dX2_mate_86 : decode cX2_mate 86 = .ok (.bipush (-2), 2) := dk_16 254 (dk_at dksX2_mate_3 16 rfl rfl)
theorem dX2_mate_88 : decode cX2_mate 88 = .ok (.if_icmp .eq 9, 3) := dk_159 0 9 (dk_at dksX2_mate_3 18 rfl rfl)
theorem dX2_mate_91 : decode cX2_mate 91 = .ok (.iload 5, 2) := dk_21 5 (dk_at dksX2_mate_3 21 rfl rfl)
theorem dX2_mate_93 : decode cX2_mate 93 = .ok (.iload_n 3, 1) := dk_29 (dk_at dksX2_mate_3 23 rfl rfl)
theorem dX2_mate_94 : decode cX2_mate 94 = .ok (.if_icmp .ge 9, 3) := dk_162 0 9 (dk_at dksX2_mate_4 0 rfl rfl)
theorem dX2_mate_97 : decode cX2_mate 97 = .ok (.iload 4, 2) := dk_21 4 (dk_at dksX2_mate_4 3 rfl rfl)
theorem dX2_mate_99 : decode cX2_mate 99 = .ok (.istore_n 2, 1) := dk_61 (dk_at dksX2_mate_4 5 rfl rfl)
theorem dX2_mate_100 : decode cX2_mate 100 = .ok (.iload 5, 2) := dk_21 5 (dk_at dksX2_mate_4 6 rfl rfl)
theorem dX2_mate_102 : decode cX2_mate 102 = .ok (.istore_n 3, 1) := dk_62 (dk_at dksX2_mate_4 8 rfl rfl)
theorem dX2_mate_103 : decode cX2_mate 103 = .ok (.iinc 4 1, 3) := dk_132 4 1 (dk_at dksX2_mate_4 9 rfl rfl)
theorem dX2_mate_106 : decode cX2_mate 106 = .ok (.goto (-81), 3) := dk_167 255 175 (dk_at dksX2_mate_4 12 rfl rfl)
theorem dX2_mate_109 : decode cX2_mate 109 = .ok (.iload_n 2, 1) := dk_28 (dk_at dksX2_mate_4 15 rfl rfl)
theorem dX2_mate_110 : decode cX2_mate 110 = .ok (.ireturn, 1) := dk_172 (dk_at dksX2_mate_4 16 rfl rfl)
theorem md_X2_mate : xMd yX2_mate cX2_mate 6 (Option.some Jvm.ClassFile.FieldType.int) 1 := ⟨q3385, q126, by decide, by decide +kernel, by decide +kernel, by decide +kernel⟩
def T_mate_103  (k25 : Int32 × Int32 × Int32 × Int32 × TS → Option (xO × TS)) (v1 : Int32) (v2 : Int32) (v3 : Int32) (v4 : Int32) (s0 : TS) : Option (xO × TS) :=
  (bnd (v4 + 1) fun x8 =>
  (k25 (v1, v2, v3, x8, s0)))
def T_mate_97  (k25 : Int32 × Int32 × Int32 × Int32 × TS → Option (xO × TS)) (v1 : Int32) (v4 : Int32) (v5 : Int32) (s0 : TS) : Option (xO × TS) :=
  (T_mate_103 k25 v1 v4 v5 v4 s0)
def T_mate_76  (k25 : Int32 × Int32 × Int32 × Int32 × TS → Option (xO × TS)) (v1 : Int32) (v2 : Int32) (v3 : Int32) (v4 : Int32) (w0 : Int32) (s0 : TS) : Option (xO × TS) :=
  (if w0 = (-2) then
  (T_mate_103 k25 v1 v2 v3 v4 s0) else
  (if v2 = (-2) then
  (T_mate_97 k25 v1 v4 w0 s0) else
  (if v3 ≤ w0 then
  (T_mate_103 k25 v1 v2 v3 v4 s0) else
  (T_mate_97 k25 v1 v4 w0 s0))))
def T_mate_64  (k25 : Int32 × Int32 × Int32 × Int32 × TS → Option (xO × TS)) (v1 : Int32) (v2 : Int32) (v3 : Int32) (v4 : Int32) (s0 : TS) : Option (xO × TS) :=
  (T_mate_76 k25 v1 v2 v3 v4 (-2) s0)
def T_mate_25F   (k25 : Int32 × Int32 × Int32 × Int32 × TS → Option (xO × TS)) (p : Int32 × Int32 × Int32 × Int32 × TS) : Option (xO × TS) := match p with
  | (v1, v2, v3, v4, s0) => (tald s0 7 1 fun x7 =>
  (if x7 ≤ v4 then
  (rI v2 s0) else
  (if v4 = v1 then
  (T_mate_64 k25 v1 v2 v3 v4 s0) else
  (tald s0 7 (37 + v4) fun x9 =>
  (tald s0 7 (37 + v1) fun x10 =>
  (if x9 = x10 then
  (xcI (T_teamOf s0 v1 v4) fun x12 s11 =>
  (T_mate_76 k25 v1 v2 v3 v4 x12 s11)) else
  (T_mate_64 k25 v1 v2 v3 v4 s0)))))))
def T_mate (s0 : TS) (a1 : Int32) : Option (xO × TS) :=
  (xcI (T_isRunner s0 a1) fun x2 s1 =>
  (xcI (T_unless_2 s1 x2) fun x4 s3 =>
  (xcI (T_isRefused s3 x4) fun x6 s5 =>
  (if x6 = 0 then
  (lp (T_mate_25F) FU (a1, (-2), 0, 0, s5)) else
  (rI (-1) s5)))))
theorem T_mate_103_ok {G : xG} {E : TE} (hO : xOK G) (hE : tok E)  {k25 : Int32 × Int32 × Int32 × Int32 × TS → Option (xO × TS)} (hk25 : ∀ (v1 : Int32) (v2 : Int32) (v3 : Int32) (v4 : Int32) (s0 : TS), XT G E "ForestLegsModel" "mate" cX2_mate 6 (Option.some Jvm.ClassFile.FieldType.int) 6 25 [(0, .ref E.2.1), (1, .int v1), (2, .int v2), (3, .int v3), (4, .int v4)] [] s0 (k25 (v1, v2, v3, v4, s0))) (v1 : Int32) (v2 : Int32) (v3 : Int32) (v4 : Int32) (s0 : TS) : XT G E "ForestLegsModel" "mate" cX2_mate 6 (Option.some Jvm.ClassFile.FieldType.int) 6 103 [(0, .ref E.2.1), (1, .int v1), (2, .int v2), (3, .int v3), (4, .int v4)] [] s0 (T_mate_103 k25 v1 v2 v3 v4 s0) := by
  unfold T_mate_103
  refine tw_iinc 4 (fun x8 => [(4, .int x8), (0, .ref E.2.1), (1, .int v1), (2, .int v2), (3, .int v3)]) dX2_mate_103 rfl rfl (by decide) (fun _ => rfl) (n := 106) rfl (fun x8 => ?_)
  refine x_goto dX2_mate_106 (n := 25) (by decide) ?_
  refine x_sub [1, 2, 3, 4, 0] [(0, .ref E.2.1), (1, .int v1), (2, .int v2), (3, .int v3), (4, .int x8)] rfl ?_
  exact hk25 v1 v2 v3 x8 s0
theorem T_mate_97_ok {G : xG} {E : TE} (hO : xOK G) (hE : tok E)  {k25 : Int32 × Int32 × Int32 × Int32 × TS → Option (xO × TS)} (hk25 : ∀ (v1 : Int32) (v2 : Int32) (v3 : Int32) (v4 : Int32) (s0 : TS), XT G E "ForestLegsModel" "mate" cX2_mate 6 (Option.some Jvm.ClassFile.FieldType.int) 6 25 [(0, .ref E.2.1), (1, .int v1), (2, .int v2), (3, .int v3), (4, .int v4)] [] s0 (k25 (v1, v2, v3, v4, s0))) (v1 : Int32) (v4 : Int32) (v5 : Int32) (s0 : TS) : XT G E "ForestLegsModel" "mate" cX2_mate 6 (Option.some Jvm.ClassFile.FieldType.int) 6 97 [(0, .ref E.2.1), (1, .int v1), (4, .int v4), (5, .int v5)] [] s0 (T_mate_97 k25 v1 v4 v5 s0) := by
  unfold T_mate_97
  refine x_iload 2 dX2_mate_97 rfl (n := 99) rfl ?_
  refine x_istore_n [(2, .int v4), (0, .ref E.2.1), (1, .int v1), (4, .int v4), (5, .int v5)] dX2_mate_99 rfl (by decide) rfl (n := 100) rfl ?_
  refine x_iload 4 dX2_mate_100 rfl (n := 102) rfl ?_
  refine x_istore_n [(3, .int v5), (2, .int v4), (0, .ref E.2.1), (1, .int v1), (4, .int v4), (5, .int v5)] dX2_mate_102 rfl (by decide) rfl (n := 103) rfl ?_
  refine x_sub [2, 3, 1, 0, 4] [(0, .ref E.2.1), (1, .int v1), (2, .int v4), (3, .int v5), (4, .int v4)] rfl ?_
  exact T_mate_103_ok hO hE hk25 v1 v4 v5 v4 s0
theorem T_mate_76_ok {G : xG} {E : TE} (hO : xOK G) (hE : tok E)  {k25 : Int32 × Int32 × Int32 × Int32 × TS → Option (xO × TS)} (hk25 : ∀ (v1 : Int32) (v2 : Int32) (v3 : Int32) (v4 : Int32) (s0 : TS), XT G E "ForestLegsModel" "mate" cX2_mate 6 (Option.some Jvm.ClassFile.FieldType.int) 6 25 [(0, .ref E.2.1), (1, .int v1), (2, .int v2), (3, .int v3), (4, .int v4)] [] s0 (k25 (v1, v2, v3, v4, s0))) (v1 : Int32) (v2 : Int32) (v3 : Int32) (v4 : Int32) (w0 : Int32) (s0 : TS) : XT G E "ForestLegsModel" "mate" cX2_mate 6 (Option.some Jvm.ClassFile.FieldType.int) 6 76 [(0, .ref E.2.1), (1, .int v1), (2, .int v2), (3, .int v3), (4, .int v4)] [.int w0] s0 (T_mate_76 k25 v1 v2 v3 v4 w0 s0) := by
  unfold T_mate_76
  refine x_istore [(5, .int w0), (0, .ref E.2.1), (1, .int v1), (2, .int v2), (3, .int v3), (4, .int v4)] dX2_mate_76 (by decide) rfl (n := 78) rfl ?_
  refine x_iload 0 dX2_mate_78 rfl (n := 80) rfl ?_
  refine x_bipush (-2) dX2_mate_80 rfl (n := 82) rfl ?_
  refine tw_icmp_eq dX2_mate_82 (t := 103) (by decide) (n := 85) rfl ?_ ?_
  · refine x_sub [1, 2, 3, 4, 5] [(0, .ref E.2.1), (1, .int v1), (2, .int v2), (3, .int v3), (4, .int v4)] rfl ?_
    exact T_mate_103_ok hO hE hk25 v1 v2 v3 v4 s0
  · refine x_iload_n 3 dX2_mate_85 rfl rfl (n := 86) rfl ?_
    refine x_bipush (-2) dX2_mate_86 rfl (n := 88) rfl ?_
    refine tw_icmp_eq dX2_mate_88 (t := 97) (by decide) (n := 91) rfl ?_ ?_
    · refine x_sub [1, 2, 5, 0] [(0, .ref E.2.1), (1, .int v1), (4, .int v4), (5, .int w0)] rfl ?_
      exact T_mate_97_ok hO hE hk25 v1 v4 w0 s0
    · refine x_iload 0 dX2_mate_91 rfl (n := 93) rfl ?_
      refine x_iload_n 4 dX2_mate_93 rfl rfl (n := 94) rfl ?_
      refine tw_icmp_ge dX2_mate_94 (t := 103) (by decide) (n := 97) rfl ?_ ?_
      · refine x_sub [1, 2, 3, 4, 5] [(0, .ref E.2.1), (1, .int v1), (2, .int v2), (3, .int v3), (4, .int v4)] rfl ?_
        exact T_mate_103_ok hO hE hk25 v1 v2 v3 v4 s0
      · refine x_sub [1, 2, 5, 0] [(0, .ref E.2.1), (1, .int v1), (4, .int v4), (5, .int w0)] rfl ?_
        exact T_mate_97_ok hO hE hk25 v1 v4 w0 s0
theorem T_mate_64_ok {G : xG} {E : TE} (hO : xOK G) (hE : tok E)  {k25 : Int32 × Int32 × Int32 × Int32 × TS → Option (xO × TS)} (hk25 : ∀ (v1 : Int32) (v2 : Int32) (v3 : Int32) (v4 : Int32) (s0 : TS), XT G E "ForestLegsModel" "mate" cX2_mate 6 (Option.some Jvm.ClassFile.FieldType.int) 6 25 [(0, .ref E.2.1), (1, .int v1), (2, .int v2), (3, .int v3), (4, .int v4)] [] s0 (k25 (v1, v2, v3, v4, s0))) (v1 : Int32) (v2 : Int32) (v3 : Int32) (v4 : Int32) (s0 : TS) : XT G E "ForestLegsModel" "mate" cX2_mate 6 (Option.some Jvm.ClassFile.FieldType.int) 6 64 [(0, .ref E.2.1), (1, .int v1), (2, .int v2), (3, .int v3), (4, .int v4)] [] s0 (T_mate_64 k25 v1 v2 v3 v4 s0) := by
  unfold T_mate_64
  refine x_bipush (-2) dX2_mate_64 rfl (n := 66) rfl ?_
  refine x_goto dX2_mate_66 (n := 76) (by decide) ?_
  exact T_mate_76_ok hO hE hk25 v1 v2 v3 v4 (-2) s0
theorem T_mate_25F_ok {G : xG} {E : TE} (hO : xOK G) (hE : tok E)   {k25 : Int32 × Int32 × Int32 × Int32 × TS → Option (xO × TS)} (hk25 : ∀ (v1 : Int32) (v2 : Int32) (v3 : Int32) (v4 : Int32) (s0 : TS), XT G E "ForestLegsModel" "mate" cX2_mate 6 (Option.some Jvm.ClassFile.FieldType.int) 6 25 [(0, .ref E.2.1), (1, .int v1), (2, .int v2), (3, .int v3), (4, .int v4)] [] s0 (k25 (v1, v2, v3, v4, s0))) (v1 : Int32) (v2 : Int32) (v3 : Int32) (v4 : Int32) (s0 : TS) : XT G E "ForestLegsModel" "mate" cX2_mate 6 (Option.some Jvm.ClassFile.FieldType.int) 6 25 [(0, .ref E.2.1), (1, .int v1), (2, .int v2), (3, .int v3), (4, .int v4)] [] s0 (T_mate_25F k25 (v1, v2, v3, v4, s0)) := by
  unfold T_mate_25F
  refine x_iload 4 dX2_mate_25 rfl (n := 27) rfl ?_
  refine x_aload_nr 0 dX2_mate_27 rfl rfl (n := 28) rfl ?_
  refine tw_getA fl_X2_17 rfl (by decide) dX2_mate_28 (n := 31) rfl ?_
  refine x_iconst 1 dX2_mate_31 rfl (n := 32) rfl ?_
  refine tw_iald hE (by decide) dX2_mate_32 (n := 33) rfl (fun x7 => ?_)
  refine tw_icmp_ge dX2_mate_33 (t := 109) (by decide) (n := 36) rfl ?_ ?_
  · refine x_iload_n 2 dX2_mate_109 rfl rfl (n := 110) rfl ?_
    exact tw_ireturn dX2_mate_110
  · refine x_iload 4 dX2_mate_36 rfl (n := 38) rfl ?_
    refine x_iload_n 1 dX2_mate_38 rfl rfl (n := 39) rfl ?_
    refine tw_icmp_eq dX2_mate_39 (t := 64) (by decide) (n := 42) rfl ?_ ?_
    · exact T_mate_64_ok hO hE hk25 v1 v2 v3 v4 s0
    · refine x_aload_nr 0 dX2_mate_42 rfl rfl (n := 43) rfl ?_
      refine tw_getA fl_X2_17 rfl (by decide) dX2_mate_43 (n := 46) rfl ?_
      refine x_bipush 37 dX2_mate_46 rfl (n := 48) rfl ?_
      refine x_iload 4 dX2_mate_48 rfl (n := 50) rfl ?_
      refine x_iadd dX2_mate_50 (n := 51) rfl ?_
      refine tw_iald hE (by decide) dX2_mate_51 (n := 52) rfl (fun x9 => ?_)
      refine x_aload_nr 0 dX2_mate_52 rfl rfl (n := 53) rfl ?_
      refine tw_getA fl_X2_17 rfl (by decide) dX2_mate_53 (n := 56) rfl ?_
      refine x_bipush 37 dX2_mate_56 rfl (n := 58) rfl ?_
      refine x_iload_n 1 dX2_mate_58 rfl rfl (n := 59) rfl ?_
      refine x_iadd dX2_mate_59 (n := 60) rfl ?_
      refine tw_iald hE (by decide) dX2_mate_60 (n := 61) rfl (fun x10 => ?_)
      refine tw_icmp_eq dX2_mate_61 (t := 69) (by decide) (n := 64) rfl ?_ ?_
      · refine x_aload_nr 0 dX2_mate_69 rfl rfl (n := 70) rfl ?_
        refine x_iload_n 1 dX2_mate_70 rfl rfl (n := 71) rfl ?_
        refine x_iload 4 dX2_mate_71 rfl (n := 73) rfl ?_
        refine tw_callV_I [.int v1, .int v4] [] (T_teamOf_ok hO hE s0 v1 v4) md_X2_teamOf q3378 q3380 qs115 dX2_mate_73 rfl rfl (by decide) (Nat.le_of_ble_eq_true rfl) (n := 76) rfl (fun x12 s11 => ?_)
        exact T_mate_76_ok hO hE hk25 v1 v2 v3 v4 x12 s11
      · exact T_mate_64_ok hO hE hk25 v1 v2 v3 v4 s0
theorem T_mate_25_lp {G : xG} {E : TE} (hO : xOK G) (hE : tok E)   (n : Nat) (v1 : Int32) (v2 : Int32) (v3 : Int32) (v4 : Int32) (s0 : TS) : XT G E "ForestLegsModel" "mate" cX2_mate 6 (Option.some Jvm.ClassFile.FieldType.int) 6 25 [(0, .ref E.2.1), (1, .int v1), (2, .int v2), (3, .int v3), (4, .int v4)] [] s0 (lp (T_mate_25F) n (v1, v2, v3, v4, s0)) :=
  lp_ok (W := fun p K => XT G E "ForestLegsModel" "mate" cX2_mate 6 (Option.some Jvm.ClassFile.FieldType.int) 6 25 [(0, .ref E.2.1), (1, .int p.1), (2, .int p.2.1), (3, .int p.2.2.1), (4, .int p.2.2.2.1)] [] p.2.2.2.2 K) (fun _ => tw_no) (fun k hk => fun (v1, v2, v3, v4, s0) => T_mate_25F_ok hO hE (fun v1 v2 v3 v4 s0 => hk (v1, v2, v3, v4, s0)) v1 v2 v3 v4 s0) n (v1, v2, v3, v4, s0)
theorem T_mate_ok {G : xG} {E : TE} (hO : xOK G) (hE : tok E) (s0 : TS) (a1 : Int32) : CTT G E 6 yX2_mate cX2_mate 6 (Option.some Jvm.ClassFile.FieldType.int) [.ref E.2.1, .int a1] s0 (T_mate s0 a1) := by
  refine CT_of hO (by decide +kernel) (by decide +kernel) (Nat.le_of_ble_eq_true rfl) ?_
  show XT G E "ForestLegsModel" "mate" cX2_mate 6 (Option.some Jvm.ClassFile.FieldType.int) 6 0 [(0, .ref E.2.1), (1, .int a1)] [] s0 (T_mate s0 a1)
  refine x_aload_nr 0 dX2_mate_0 rfl rfl (n := 1) rfl ?_
  refine x_aload_nr 0 dX2_mate_1 rfl rfl (n := 2) rfl ?_
  refine x_iload_n 1 dX2_mate_2 rfl rfl (n := 3) rfl ?_
  refine tw_callV_I [.int a1] [.ref E.2.1] (T_isRunner_ok hO hE s0 a1) md_X2_isRunner q3215 q3217 qs99 dX2_mate_3 rfl rfl (by decide) (Nat.le_of_ble_eq_true rfl) (n := 6) rfl (fun x2 s1 => ?_)
  refine tw_callS_I [.int x2] [.ref E.2.1] (T_unless_2_ok hO hE s1 x2) md_X2_unless_2 q3121 q3122 dX2_mate_6 rfl rfl (by decide) (Nat.le_of_ble_eq_true rfl) (n := 9) rfl (fun x4 s3 => ?_)
  refine tw_callV_I [.int x4] [] (T_isRefused_ok hO hE s3 x4) md_X2_isRefused q3022 q3024 qs63 dX2_mate_9 rfl rfl (by decide) (Nat.le_of_ble_eq_true rfl) (n := 12) rfl (fun x6 s5 => ?_)
  refine tw_if_eq dX2_mate_12 (t := 17) (by decide) (n := 15) rfl ?_ ?_
  · refine x_bipush (-2) dX2_mate_17 rfl (n := 19) rfl ?_
    refine x_istore_n [(2, .int (-2)), (0, .ref E.2.1), (1, .int a1)] dX2_mate_19 rfl (by decide) rfl (n := 20) rfl ?_
    refine x_iconst 0 dX2_mate_20 rfl (n := 21) rfl ?_
    refine x_istore_n [(3, .int 0), (2, .int (-2)), (0, .ref E.2.1), (1, .int a1)] dX2_mate_21 rfl (by decide) rfl (n := 22) rfl ?_
    refine x_iconst 0 dX2_mate_22 rfl (n := 23) rfl ?_
    refine x_istore [(4, .int 0), (3, .int 0), (2, .int (-2)), (0, .ref E.2.1), (1, .int a1)] dX2_mate_23 (by decide) rfl (n := 25) rfl ?_
    refine x_sub [3, 4, 2, 1, 0] [(0, .ref E.2.1), (1, .int a1), (2, .int (-2)), (3, .int 0), (4, .int 0)] rfl ?_
    exact T_mate_25_lp hO hE FU a1 (-2) 0 0 s5
  · refine x_iconst (-1) dX2_mate_15 rfl (n := 16) rfl ?_
    exact tw_ireturn dX2_mate_16
abbrev cX2_passes : ByteArray := prog_14_method_96_code
def yX2_passes : MethodName := ⟨RX2, "passes", "(II)I"⟩
def dkwX2_passes_6 : List UInt8 := [132, 4, 1, 167, 255, 134, 29, 172]
abbrev dktX2_passes_6 : List UInt8 := dkwX2_passes_6 ++ []
def dkwX2_passes_5 : List UInt8 := [153, 0, 21, 21, 5, 21, 6, 164, 0, 14, 21, 7, 21, 8, 162, 0, 7, 4, 167, 0, 4, 3, 96, 62]
abbrev dktX2_passes_5 : List UInt8 := dkwX2_passes_5 ++ dktX2_passes_6
def dkwX2_passes_4 : List UInt8 := [21, 7, 2, 159, 0, 13, 21, 8, 2, 159, 0, 7, 4, 167, 0, 4, 3, 54, 9, 29, 21, 9]
abbrev dktX2_passes_4 : List UInt8 := dkwX2_passes_4 ++ dktX2_passes_5
def dkwX2_passes_3 : List UInt8 := [54, 7, 42, 28, 21, 4, 182, 0, 212, 54, 8, 21, 5, 2, 159, 0, 25, 21, 6, 2, 159, 0, 19]
abbrev dktX2_passes_3 : List UInt8 := dkwX2_passes_3 ++ dktX2_passes_4
def dkwX2_passes_2 : List UInt8 := [182, 0, 212, 54, 5, 42, 28, 21, 4, 4, 100, 182, 0, 212, 54, 6, 42, 27, 21, 4, 182, 0, 212]
abbrev dktX2_passes_2 : List UInt8 := dkwX2_passes_2 ++ dktX2_passes_3
def dkwX2_passes_1 : List UInt8 := [180, 0, 17, 7, 42, 180, 0, 17, 16, 37, 27, 96, 46, 96, 46, 163, 0, 107, 42, 27, 21, 4, 4, 100]
abbrev dktX2_passes_1 : List UInt8 := dkwX2_passes_1 ++ dktX2_passes_2
def dkwX2_passes_0 : List UInt8 := [42, 42, 27, 28, 4, 182, 1, 56, 182, 0, 161, 153, 0, 5, 2, 172, 3, 62, 4, 54, 4, 21, 4, 42]
abbrev dktX2_passes_0 : List UInt8 := dkwX2_passes_0 ++ dktX2_passes_1
theorem dksX2_passes_0 : cX2_passes.data.toList.drop 0 = dktX2_passes_0 := by decide +kernel
theorem dksX2_passes_1 : cX2_passes.data.toList.drop 24 = dktX2_passes_1 := dk_seg dksX2_passes_0 24 rfl rfl
theorem dksX2_passes_2 : cX2_passes.data.toList.drop 48 = dktX2_passes_2 := dk_seg dksX2_passes_1 24 rfl rfl
theorem dksX2_passes_3 : cX2_passes.data.toList.drop 71 = dktX2_passes_3 := dk_seg dksX2_passes_2 23 rfl rfl
theorem dksX2_passes_4 : cX2_passes.data.toList.drop 94 = dktX2_passes_4 := dk_seg dksX2_passes_3 23 rfl rfl
theorem dksX2_passes_5 : cX2_passes.data.toList.drop 116 = dktX2_passes_5 := dk_seg dksX2_passes_4 22 rfl rfl
theorem dksX2_passes_6 : cX2_passes.data.toList.drop 140 = dktX2_passes_6 := dk_seg dksX2_passes_5 24 rfl rfl
theorem dX2_passes_0 : decode cX2_passes 0 = .ok (.aload_n 0, 1) := dk_42 (dk_at dksX2_passes_0 0 rfl rfl)
theorem dX2_passes_1 : decode cX2_passes 1 = .ok (.aload_n 0, 1) := dk_42 (dk_at dksX2_passes_0 1 rfl rfl)
theorem dX2_passes_2 : decode cX2_passes 2 = .ok (.iload_n 1, 1) := dk_27 (dk_at dksX2_passes_0 2 rfl rfl)
theorem dX2_passes_3 : decode cX2_passes 3 = .ok (.iload_n 2, 1) := dk_28 (dk_at dksX2_passes_0 3 rfl rfl)
theorem dX2_passes_4 : decode cX2_passes 4 = .ok (.iconst 1, 1) := dk_4 (dk_at dksX2_passes_0 4 rfl rfl)
theorem dX2_passes_5 : decode cX2_passes 5 = .ok (.invokevirtual 312, 3) := dk_182 1 56 (dk_at dksX2_passes_0 5 rfl rfl)
theorem dX2_passes_8 : decode cX2_passes 8 = .ok (.invokevirtual 161, 3) := dk_182 0 161 (dk_at dksX2_passes_0 8 rfl rfl)
theorem dX2_passes_11 : decode cX2_passes 11 = .ok (.ifCond .eq 5, 3) := dk_153 0 5 (dk_at dksX2_passes_0 11 rfl rfl)
theorem dX2_passes_14 : decode cX2_passes 14 = .ok (.iconst (-1), 1) := dk_2 (dk_at dksX2_passes_0 14 rfl rfl)
theorem dX2_passes_15 : decode cX2_passes 15 = .ok (.ireturn, 1) := dk_172 (dk_at dksX2_passes_0 15 rfl rfl)
theorem dX2_passes_16 : decode cX2_passes 16 = .ok (.iconst 0, 1) := dk_3 (dk_at dksX2_passes_0 16 rfl rfl)
theorem dX2_passes_17 : decode cX2_passes 17 = .ok (.istore_n 3, 1) := dk_62 (dk_at dksX2_passes_0 17 rfl rfl)
theorem dX2_passes_18 : decode cX2_passes 18 = .ok (.iconst 1, 1) := dk_4 (dk_at dksX2_passes_0 18 rfl rfl)
theorem dX2_passes_19 : decode cX2_passes 19 = .ok (.istore 4, 2) := dk_54 4 (dk_at dksX2_passes_0 19 rfl rfl)
theorem dX2_passes_21 : decode cX2_passes 21 = .ok (.iload 4, 2) := dk_21 4 (dk_at dksX2_passes_0 21 rfl rfl)
theorem dX2_passes_23 : decode cX2_passes 23 = .ok (.aload_n 0, 1) := dk_42 (dk_at dksX2_passes_0 23 rfl rfl)
theorem dX2_passes_24 : decode cX2_passes 24 = .ok (.getfield 17, 3) := dk_180 0 17 (dk_at dksX2_passes_1 0 rfl rfl)
theorem dX2_passes_27 : decode cX2_passes 27 = .ok (.iconst 4, 1) := dk_7 (dk_at dksX2_passes_1 3 rfl rfl)
theorem dX2_passes_28 : decode cX2_passes 28 = .ok (.aload_n 0, 1) := dk_42 (dk_at dksX2_passes_1 4 rfl rfl)
theorem dX2_passes_29 : decode cX2_passes 29 = .ok (.getfield 17, 3) := dk_180 0 17 (dk_at dksX2_passes_1 5 rfl rfl)
theorem dX2_passes_32 : decode cX2_passes 32 = .ok (.bipush 37, 2) := dk_16 37 (dk_at dksX2_passes_1 8 rfl rfl)
theorem dX2_passes_34 : decode cX2_passes 34 = .ok (.iload_n 1, 1) := dk_27 (dk_at dksX2_passes_1 10 rfl rfl)
theorem dX2_passes_35 : decode cX2_passes 35 = .ok (.iadd, 1) := dk_96 (dk_at dksX2_passes_1 11 rfl rfl)
theorem dX2_passes_36 : decode cX2_passes 36 = .ok (.iaload, 1) := dk_46 (dk_at dksX2_passes_1 12 rfl rfl)
theorem dX2_passes_37 : decode cX2_passes 37 = .ok (.iadd, 1) := dk_96 (dk_at dksX2_passes_1 13 rfl rfl)
theorem dX2_passes_38 : decode cX2_passes 38 = .ok (.iaload, 1) := dk_46 (dk_at dksX2_passes_1 14 rfl rfl)
theorem dX2_passes_39 : decode cX2_passes 39 = .ok (.if_icmp .gt 107, 3) := dk_163 0 107 (dk_at dksX2_passes_1 15 rfl rfl)
theorem dX2_passes_42 : decode cX2_passes 42 = .ok (.aload_n 0, 1) := dk_42 (dk_at dksX2_passes_1 18 rfl rfl)
theorem dX2_passes_43 : decode cX2_passes 43 = .ok (.iload_n 1, 1) := dk_27 (dk_at dksX2_passes_1 19 rfl rfl)
theorem dX2_passes_44 : decode cX2_passes 44 = .ok (.iload 4, 2) := dk_21 4 (dk_at dksX2_passes_1 20 rfl rfl)
theorem dX2_passes_46 : decode cX2_passes 46 = .ok (.iconst 1, 1) := dk_4 (dk_at dksX2_passes_1 22 rfl rfl)
theorem dX2_passes_47 : decode cX2_passes 47 = .ok (.isub, 1) := dk_100 (dk_at dksX2_passes_1 23 rfl rfl)
theorem dX2_passes_48 : decode cX2_passes 48 = .ok (.invokevirtual 212, 3) := dk_182 0 212 (dk_at dksX2_passes_2 0 rfl rfl)
theorem dX2_passes_51 : decode cX2_passes 51 = .ok (.istore 5, 2) := dk_54 5 (dk_at dksX2_passes_2 3 rfl rfl)
theorem dX2_passes_53 : decode cX2_passes 53 = .ok (.aload_n 0, 1) := dk_42 (dk_at dksX2_passes_2 5 rfl rfl)
theorem dX2_passes_54 : decode cX2_passes 54 = .ok (.iload_n 2, 1) := dk_28 (dk_at dksX2_passes_2 6 rfl rfl)
theorem dX2_passes_55 : decode cX2_passes 55 = .ok (.iload 4, 2) := dk_21 4 (dk_at dksX2_passes_2 7 rfl rfl)
theorem dX2_passes_57 : decode cX2_passes 57 = .ok (.iconst 1, 1) := dk_4 (dk_at dksX2_passes_2 9 rfl rfl)
theorem dX2_passes_58 : decode cX2_passes 58 = .ok (.isub, 1) := dk_100 (dk_at dksX2_passes_2 10 rfl rfl)
theorem dX2_passes_59 : decode cX2_passes 59 = .ok (.invokevirtual 212, 3) := dk_182 0 212 (dk_at dksX2_passes_2 11 rfl rfl)
theorem dX2_passes_62 : decode cX2_passes 62 = .ok (.istore 6, 2) := dk_54 6 (dk_at dksX2_passes_2 14 rfl rfl)
theorem dX2_passes_64 : decode cX2_passes 64 = .ok (.aload_n 0, 1) := dk_42 (dk_at dksX2_passes_2 16 rfl rfl)
theorem dX2_passes_65 : decode cX2_passes 65 = .ok (.iload_n 1, 1) := dk_27 (dk_at dksX2_passes_2 17 rfl rfl)
theorem dX2_passes_66 : decode cX2_passes 66 = .ok (.iload 4, 2) := dk_21 4 (dk_at dksX2_passes_2 18 rfl rfl)
theorem dX2_passes_68 : decode cX2_passes 68 = .ok (.invokevirtual 212, 3) := dk_182 0 212 (dk_at dksX2_passes_2 20 rfl rfl)
theorem dX2_passes_71 : decode cX2_passes 71 = .ok (.istore 7, 2) := dk_54 7 (dk_at dksX2_passes_3 0 rfl rfl)
theorem dX2_passes_73 : decode cX2_passes 73 = .ok (.aload_n 0, 1) := dk_42 (dk_at dksX2_passes_3 2 rfl rfl)
theorem dX2_passes_74 : decode cX2_passes 74 = .ok (.iload_n 2, 1) := dk_28 (dk_at dksX2_passes_3 3 rfl rfl)
theorem dX2_passes_75 : decode cX2_passes 75 = .ok (.iload 4, 2) := dk_21 4 (dk_at dksX2_passes_3 4 rfl rfl)
theorem dX2_passes_77 : decode cX2_passes 77 = .ok (.invokevirtual 212, 3) := dk_182 0 212 (dk_at dksX2_passes_3 6 rfl rfl)
theorem dX2_passes_80 : decode cX2_passes 80 = .ok (.istore 8, 2) := dk_54 8 (dk_at dksX2_passes_3 9 rfl rfl)
theorem dX2_passes_82 : decode cX2_passes 82 = .ok (.iload 5, 2) := dk_21 5 (dk_at dksX2_passes_3 11 rfl rfl)
theorem dX2_passes_84 : decode cX2_passes 84 = .ok (.iconst (-1), 1) := dk_2 (dk_at dksX2_passes_3 13 rfl rfl)
theorem dX2_passes_85 : decode cX2_passes 85 = .ok (.if_icmp .eq 25, 3) := dk_159 0 25 (dk_at dksX2_passes_3 14 rfl rfl)
theorem dX2_passes_88 : decode cX2_passes 88 = .ok (.iload 6, 2) := dk_21 6 (dk_at dksX2_passes_3 17 rfl rfl)
theorem dX2_passes_90 : decode cX2_passes 90 = .ok (.iconst (-1), 1) := dk_2 (dk_at dksX2_passes_3 19 rfl rfl)
theorem dX2_passes_91 : decode cX2_passes 91 = .ok (.if_icmp .eq 19, 3) := dk_159 0 19 (dk_at dksX2_passes_3 20 rfl rfl)
theorem dX2_passes_94 : decode cX2_passes 94 = .ok (.iload 7, 2) := dk_21 7 (dk_at dksX2_passes_4 0 rfl rfl)
theorem dX2_passes_96 : decode cX2_passes 96 = .ok (.iconst (-1), 1) := dk_2 (dk_at dksX2_passes_4 2 rfl rfl)
theorem dX2_passes_97 : decode cX2_passes 97 = .ok (.if_icmp .eq 13, 3) := dk_159 0 13 (dk_at dksX2_passes_4 3 rfl rfl)
theorem dX2_passes_100 : decode cX2_passes 100 = .ok (.iload 8, 2) := dk_21 8 (dk_at dksX2_passes_4 6 rfl rfl)
theorem dX2_passes_102 : decode cX2_passes 102 = .ok (.iconst (-1), 1) := dk_2 (dk_at dksX2_passes_4 8 rfl rfl)
theorem dX2_passes_103 : decode cX2_passes 103 = .ok (.if_icmp .eq 7, 3) := dk_159 0 7 (dk_at dksX2_passes_4 9 rfl rfl)
theorem dX2_passes_106 : decode cX2_passes 106 = .ok (.iconst 1, 1) := dk_4 (dk_at dksX2_passes_4 12 rfl rfl)
theorem dX2_passes_107 : decode cX2_passes 107 = .ok (.goto 4, 3) := dk_167 0 4 (dk_at dksX2_passes_4 13 rfl rfl)
theorem dX2_passes_110 : decode cX2_passes 110 = .ok (.iconst 0, 1) := dk_3 (dk_at dksX2_passes_4 16 rfl rfl)
theorem dX2_passes_111 : decode cX2_passes 111 = .ok (.istore 9, 2) := dk_54 9 (dk_at dksX2_passes_4 17 rfl rfl)
theorem dX2_passes_113 : decode cX2_passes 113 = .ok (.iload_n 3, 1) := dk_29 (dk_at dksX2_passes_4 19 rfl rfl)
theorem dX2_passes_114 : decode cX2_passes 114 = .ok (.iload 9, 2) := dk_21 9 (dk_at dksX2_passes_4 20 rfl rfl)
theorem dX2_passes_116 : decode cX2_passes 116 = .ok (.ifCond .eq 21, 3) := dk_153 0 21 (dk_at dksX2_passes_5 0 rfl rfl)
theorem dX2_passes_119 : decode cX2_passes 119 = .ok (.iload 5, 2) := dk_21 5 (dk_at dksX2_passes_5 3 rfl rfl)
theorem dX2_passes_121 : decode cX2_passes 121 = .ok (.iload 6, 2) := dk_21 6 (dk_at dksX2_passes_5 5 rfl rfl)
theorem dX2_passes_123 : decode cX2_passes 123 = .ok (.if_icmp .le 14, 3) := dk_164 0 14 (dk_at dksX2_passes_5 7 rfl rfl)
theorem dX2_passes_126 : decode cX2_passes 126 = .ok (.iload 7, 2) := dk_21 7 (dk_at dksX2_passes_5 10 rfl rfl)
theorem dX2_passes_128 : decode cX2_passes 128 = .ok (.iload 8, 2) := dk_21 8 (dk_at dksX2_passes_5 12 rfl rfl)
theorem dX2_passes_130 : decode cX2_passes 130 = .ok (.if_icmp .ge 7, 3) := dk_162 0 7 (dk_at dksX2_passes_5 14 rfl rfl)
theorem dX2_passes_133 : decode cX2_passes 133 = .ok (.iconst 1, 1) := dk_4 (dk_at dksX2_passes_5 17 rfl rfl)
theorem dX2_passes_134 : decode cX2_passes 134 = .ok (.goto 4, 3) := dk_167 0 4 (dk_at dksX2_passes_5 18 rfl rfl)
theorem dX2_passes_137 : decode cX2_passes 137 = .ok (.iconst 0, 1) := dk_3 (dk_at dksX2_passes_5 21 rfl rfl)
theorem dX2_passes_138 : decode cX2_passes 138 = .ok (.iadd, 1) := dk_96 (dk_at dksX2_passes_5 22 rfl rfl)
theorem dX2_passes_139 : decode cX2_passes 139 = .ok (.istore_n 3, 1) := dk_62 (dk_at dksX2_passes_5 23 rfl rfl)
theorem dX2_passes_140 : decode cX2_passes 140 = .ok (.iinc 4 1, 3) := dk_132 4 1 (dk_at dksX2_passes_6 0 rfl rfl)
theorem dX2_passes_143 : decode cX2_passes 143 = .ok (.goto (-122), 3) := dk_167 255 134 (dk_at dksX2_passes_6 3 rfl rfl)
theorem dX2_passes_146 : decode cX2_passes 146 = .ok (.iload_n 3, 1) := dk_29 (dk_at dksX2_passes_6 6 rfl rfl)
theorem dX2_passes_147 : decode cX2_passes 147 = .ok (.ireturn, 1) := dk_172 (dk_at dksX2_passes_6 7 rfl rfl)
theorem md_X2_passes : xMd yX2_passes cX2_passes 10 (Option.some Jvm.ClassFile.FieldType.int) 2 := ⟨q3389, q126, by decide, by decide +kernel, by decide +kernel, by decide +kernel⟩
def T_passes_138  (k21 : Int32 × Int32 × Int32 × Int32 × TS → Option (xO × TS)) (v1 : Int32) (v2 : Int32) (v4 : Int32) (w0 : Int32) (w1 : Int32) (s0 : TS) : Option (xO × TS) :=
  (bnd (w0 + w1) fun x15 =>
  (bnd (v4 + 1) fun x16 =>
  (k21 (v1, v2, x15, x16, s0))))
def T_passes_137  (k21 : Int32 × Int32 × Int32 × Int32 × TS → Option (xO × TS)) (v1 : Int32) (v2 : Int32) (v4 : Int32) (w0 : Int32) (s0 : TS) : Option (xO × TS) :=
  (T_passes_138 k21 v1 v2 v4 w0 0 s0)
def T_passes_111  (k21 : Int32 × Int32 × Int32 × Int32 × TS → Option (xO × TS)) (v1 : Int32) (v2 : Int32) (v3 : Int32) (v4 : Int32) (v5 : Int32) (v6 : Int32) (v7 : Int32) (v8 : Int32) (w0 : Int32) (s0 : TS) : Option (xO × TS) :=
  (if w0 = 0 then
  (T_passes_137 k21 v1 v2 v4 v3 s0) else
  (if v5 ≤ v6 then
  (T_passes_137 k21 v1 v2 v4 v3 s0) else
  (if v8 ≤ v7 then
  (T_passes_137 k21 v1 v2 v4 v3 s0) else
  (T_passes_138 k21 v1 v2 v4 v3 1 s0))))
def T_passes_110  (k21 : Int32 × Int32 × Int32 × Int32 × TS → Option (xO × TS)) (v1 : Int32) (v2 : Int32) (v3 : Int32) (v4 : Int32) (v5 : Int32) (v6 : Int32) (v7 : Int32) (v8 : Int32) (s0 : TS) : Option (xO × TS) :=
  (T_passes_111 k21 v1 v2 v3 v4 v5 v6 v7 v8 0 s0)
def T_passes_21F   (k21 : Int32 × Int32 × Int32 × Int32 × TS → Option (xO × TS)) (p : Int32 × Int32 × Int32 × Int32 × TS) : Option (xO × TS) := match p with
  | (v1, v2, v3, v4, s0) => (tald s0 7 (37 + v1) fun x5 =>
  (tald s0 7 (4 + x5) fun x6 =>
  (if x6 < v4 then
  (rI v3 s0) else
  (xcI (T_timeAt s0 v1 (v4 - 1)) fun x8 s7 =>
  (xcI (T_timeAt s7 v2 (v4 - 1)) fun x10 s9 =>
  (xcI (T_timeAt s9 v1 v4) fun x12 s11 =>
  (xcI (T_timeAt s11 v2 v4) fun x14 s13 =>
  (if x8 = (-1) then
  (T_passes_110 k21 v1 v2 v3 v4 x8 x10 x12 x14 s13) else
  (if x10 = (-1) then
  (T_passes_110 k21 v1 v2 v3 v4 x8 x10 x12 x14 s13) else
  (if x12 = (-1) then
  (T_passes_110 k21 v1 v2 v3 v4 x8 x10 x12 x14 s13) else
  (if x14 = (-1) then
  (T_passes_110 k21 v1 v2 v3 v4 x8 x10 x12 x14 s13) else
  (T_passes_111 k21 v1 v2 v3 v4 x8 x10 x12 x14 1 s13))))))))))))
def T_passes (s0 : TS) (a1 : Int32) (a2 : Int32) : Option (xO × TS) :=
  (xcI (T_whyNotTwo s0 a1 a2 1) fun x2 s1 =>
  (xcI (T_isRefused s1 x2) fun x4 s3 =>
  (if x4 = 0 then
  (lp (T_passes_21F) FU (a1, a2, 0, 1, s3)) else
  (rI (-1) s3))))
theorem T_passes_138_ok {G : xG} {E : TE} (hO : xOK G) (hE : tok E)  {k21 : Int32 × Int32 × Int32 × Int32 × TS → Option (xO × TS)} (hk21 : ∀ (v1 : Int32) (v2 : Int32) (v3 : Int32) (v4 : Int32) (s0 : TS), XT G E "ForestLegsModel" "passes" cX2_passes 10 (Option.some Jvm.ClassFile.FieldType.int) 4 21 [(0, .ref E.2.1), (1, .int v1), (2, .int v2), (3, .int v3), (4, .int v4)] [] s0 (k21 (v1, v2, v3, v4, s0))) (v1 : Int32) (v2 : Int32) (v4 : Int32) (w0 : Int32) (w1 : Int32) (s0 : TS) : XT G E "ForestLegsModel" "passes" cX2_passes 10 (Option.some Jvm.ClassFile.FieldType.int) 4 138 [(0, .ref E.2.1), (1, .int v1), (2, .int v2), (4, .int v4)] [.int w1, .int w0] s0 (T_passes_138 k21 v1 v2 v4 w0 w1 s0) := by
  unfold T_passes_138
  refine x_iadd dX2_passes_138 (n := 139) rfl ?_
  refine tw_nm (fun x15 => ?_)
  refine x_istore_n [(3, .int x15), (0, .ref E.2.1), (1, .int v1), (2, .int v2), (4, .int v4)] dX2_passes_139 rfl (by decide) rfl (n := 140) rfl ?_
  refine tw_iinc 4 (fun x16 => [(4, .int x16), (3, .int x15), (0, .ref E.2.1), (1, .int v1), (2, .int v2)]) dX2_passes_140 rfl rfl (by decide) (fun _ => rfl) (n := 143) rfl (fun x16 => ?_)
  refine x_goto dX2_passes_143 (n := 21) (by decide) ?_
  refine x_sub [2, 3, 4, 1, 0] [(0, .ref E.2.1), (1, .int v1), (2, .int v2), (3, .int x15), (4, .int x16)] rfl ?_
  exact hk21 v1 v2 x15 x16 s0
theorem T_passes_137_ok {G : xG} {E : TE} (hO : xOK G) (hE : tok E)  {k21 : Int32 × Int32 × Int32 × Int32 × TS → Option (xO × TS)} (hk21 : ∀ (v1 : Int32) (v2 : Int32) (v3 : Int32) (v4 : Int32) (s0 : TS), XT G E "ForestLegsModel" "passes" cX2_passes 10 (Option.some Jvm.ClassFile.FieldType.int) 4 21 [(0, .ref E.2.1), (1, .int v1), (2, .int v2), (3, .int v3), (4, .int v4)] [] s0 (k21 (v1, v2, v3, v4, s0))) (v1 : Int32) (v2 : Int32) (v4 : Int32) (w0 : Int32) (s0 : TS) : XT G E "ForestLegsModel" "passes" cX2_passes 10 (Option.some Jvm.ClassFile.FieldType.int) 4 137 [(0, .ref E.2.1), (1, .int v1), (2, .int v2), (4, .int v4)] [.int w0] s0 (T_passes_137 k21 v1 v2 v4 w0 s0) := by
  unfold T_passes_137
  refine x_iconst 0 dX2_passes_137 rfl (n := 138) rfl ?_
  exact T_passes_138_ok hO hE hk21 v1 v2 v4 w0 0 s0
theorem T_passes_111_ok {G : xG} {E : TE} (hO : xOK G) (hE : tok E)  {k21 : Int32 × Int32 × Int32 × Int32 × TS → Option (xO × TS)} (hk21 : ∀ (v1 : Int32) (v2 : Int32) (v3 : Int32) (v4 : Int32) (s0 : TS), XT G E "ForestLegsModel" "passes" cX2_passes 10 (Option.some Jvm.ClassFile.FieldType.int) 4 21 [(0, .ref E.2.1), (1, .int v1), (2, .int v2), (3, .int v3), (4, .int v4)] [] s0 (k21 (v1, v2, v3, v4, s0))) (v1 : Int32) (v2 : Int32) (v3 : Int32) (v4 : Int32) (v5 : Int32) (v6 : Int32) (v7 : Int32) (v8 : Int32) (w0 : Int32) (s0 : TS) : XT G E "ForestLegsModel" "passes" cX2_passes 10 (Option.some Jvm.ClassFile.FieldType.int) 4 111 [(0, .ref E.2.1), (1, .int v1), (2, .int v2), (3, .int v3), (4, .int v4), (5, .int v5), (6, .int v6), (7, .int v7), (8, .int v8)] [.int w0] s0 (T_passes_111 k21 v1 v2 v3 v4 v5 v6 v7 v8 w0 s0) := by
  unfold T_passes_111
  refine x_istore [(9, .int w0), (0, .ref E.2.1), (1, .int v1), (2, .int v2), (3, .int v3), (4, .int v4), (5, .int v5), (6, .int v6), (7, .int v7), (8, .int v8)] dX2_passes_111 (by decide) rfl (n := 113) rfl ?_
  refine x_iload_n 4 dX2_passes_113 rfl rfl (n := 114) rfl ?_
  refine x_iload 0 dX2_passes_114 rfl (n := 116) rfl ?_
  refine tw_if_eq dX2_passes_116 (t := 137) (by decide) (n := 119) rfl ?_ ?_
  · refine x_sub [1, 2, 3, 5] [(0, .ref E.2.1), (1, .int v1), (2, .int v2), (4, .int v4)] rfl ?_
    exact T_passes_137_ok hO hE hk21 v1 v2 v4 v3 s0
  · refine x_iload 6 dX2_passes_119 rfl (n := 121) rfl ?_
    refine x_iload 7 dX2_passes_121 rfl (n := 123) rfl ?_
    refine tw_icmp_le dX2_passes_123 (t := 137) (by decide) (n := 126) rfl ?_ ?_
    · refine x_sub [1, 2, 3, 5] [(0, .ref E.2.1), (1, .int v1), (2, .int v2), (4, .int v4)] rfl ?_
      exact T_passes_137_ok hO hE hk21 v1 v2 v4 v3 s0
    · refine x_iload 8 dX2_passes_126 rfl (n := 128) rfl ?_
      refine x_iload 9 dX2_passes_128 rfl (n := 130) rfl ?_
      refine tw_icmp_ge dX2_passes_130 (t := 137) (by decide) (n := 133) rfl ?_ ?_
      · refine x_sub [1, 2, 3, 5] [(0, .ref E.2.1), (1, .int v1), (2, .int v2), (4, .int v4)] rfl ?_
        exact T_passes_137_ok hO hE hk21 v1 v2 v4 v3 s0
      · refine x_iconst 1 dX2_passes_133 rfl (n := 134) rfl ?_
        refine x_goto dX2_passes_134 (n := 138) (by decide) ?_
        refine x_sub [1, 2, 3, 5] [(0, .ref E.2.1), (1, .int v1), (2, .int v2), (4, .int v4)] rfl ?_
        exact T_passes_138_ok hO hE hk21 v1 v2 v4 v3 1 s0
theorem T_passes_110_ok {G : xG} {E : TE} (hO : xOK G) (hE : tok E)  {k21 : Int32 × Int32 × Int32 × Int32 × TS → Option (xO × TS)} (hk21 : ∀ (v1 : Int32) (v2 : Int32) (v3 : Int32) (v4 : Int32) (s0 : TS), XT G E "ForestLegsModel" "passes" cX2_passes 10 (Option.some Jvm.ClassFile.FieldType.int) 4 21 [(0, .ref E.2.1), (1, .int v1), (2, .int v2), (3, .int v3), (4, .int v4)] [] s0 (k21 (v1, v2, v3, v4, s0))) (v1 : Int32) (v2 : Int32) (v3 : Int32) (v4 : Int32) (v5 : Int32) (v6 : Int32) (v7 : Int32) (v8 : Int32) (s0 : TS) : XT G E "ForestLegsModel" "passes" cX2_passes 10 (Option.some Jvm.ClassFile.FieldType.int) 4 110 [(0, .ref E.2.1), (1, .int v1), (2, .int v2), (3, .int v3), (4, .int v4), (5, .int v5), (6, .int v6), (7, .int v7), (8, .int v8)] [] s0 (T_passes_110 k21 v1 v2 v3 v4 v5 v6 v7 v8 s0) := by
  unfold T_passes_110
  refine x_iconst 0 dX2_passes_110 rfl (n := 111) rfl ?_
  exact T_passes_111_ok hO hE hk21 v1 v2 v3 v4 v5 v6 v7 v8 0 s0
theorem T_passes_21F_ok {G : xG} {E : TE} (hO : xOK G) (hE : tok E)   {k21 : Int32 × Int32 × Int32 × Int32 × TS → Option (xO × TS)} (hk21 : ∀ (v1 : Int32) (v2 : Int32) (v3 : Int32) (v4 : Int32) (s0 : TS), XT G E "ForestLegsModel" "passes" cX2_passes 10 (Option.some Jvm.ClassFile.FieldType.int) 4 21 [(0, .ref E.2.1), (1, .int v1), (2, .int v2), (3, .int v3), (4, .int v4)] [] s0 (k21 (v1, v2, v3, v4, s0))) (v1 : Int32) (v2 : Int32) (v3 : Int32) (v4 : Int32) (s0 : TS) : XT G E "ForestLegsModel" "passes" cX2_passes 10 (Option.some Jvm.ClassFile.FieldType.int) 4 21 [(0, .ref E.2.1), (1, .int v1), (2, .int v2), (3, .int v3), (4, .int v4)] [] s0 (T_passes_21F k21 (v1, v2, v3, v4, s0)) := by
  unfold T_passes_21F
  refine x_iload 4 dX2_passes_21 rfl (n := 23) rfl ?_
  refine x_aload_nr 0 dX2_passes_23 rfl rfl (n := 24) rfl ?_
  refine tw_getA fl_X2_17 rfl (by decide) dX2_passes_24 (n := 27) rfl ?_
  refine x_iconst 4 dX2_passes_27 rfl (n := 28) rfl ?_
  refine x_aload_nr 0 dX2_passes_28 rfl rfl (n := 29) rfl ?_
  refine tw_getA fl_X2_17 rfl (by decide) dX2_passes_29 (n := 32) rfl ?_
  refine x_bipush 37 dX2_passes_32 rfl (n := 34) rfl ?_
  refine x_iload_n 1 dX2_passes_34 rfl rfl (n := 35) rfl ?_
  refine x_iadd dX2_passes_35 (n := 36) rfl ?_
  refine tw_iald hE (by decide) dX2_passes_36 (n := 37) rfl (fun x5 => ?_)
  refine x_iadd dX2_passes_37 (n := 38) rfl ?_
  refine tw_iald hE (by decide) dX2_passes_38 (n := 39) rfl (fun x6 => ?_)
  refine tw_icmp_gt dX2_passes_39 (t := 146) (by decide) (n := 42) rfl ?_ ?_
  · refine x_iload_n 3 dX2_passes_146 rfl rfl (n := 147) rfl ?_
    exact tw_ireturn dX2_passes_147
  · refine x_aload_nr 0 dX2_passes_42 rfl rfl (n := 43) rfl ?_
    refine x_iload_n 1 dX2_passes_43 rfl rfl (n := 44) rfl ?_
    refine x_iload 4 dX2_passes_44 rfl (n := 46) rfl ?_
    refine x_iconst 1 dX2_passes_46 rfl (n := 47) rfl ?_
    refine x_isub dX2_passes_47 (n := 48) rfl ?_
    refine tw_callV_I [.int v1, .int (v4 - 1)] [] (T_timeAt_ok hO hE s0 v1 (v4 - 1)) md_X2_timeAt q3183 q3185 qs93 dX2_passes_48 rfl rfl (by decide) (Nat.le_of_ble_eq_true rfl) (n := 51) rfl (fun x8 s7 => ?_)
    refine x_istore [(5, .int x8), (0, .ref E.2.1), (1, .int v1), (2, .int v2), (3, .int v3), (4, .int v4)] dX2_passes_51 (by decide) rfl (n := 53) rfl ?_
    refine x_aload_nr 1 dX2_passes_53 rfl rfl (n := 54) rfl ?_
    refine x_iload_n 3 dX2_passes_54 rfl rfl (n := 55) rfl ?_
    refine x_iload 5 dX2_passes_55 rfl (n := 57) rfl ?_
    refine x_iconst 1 dX2_passes_57 rfl (n := 58) rfl ?_
    refine x_isub dX2_passes_58 (n := 59) rfl ?_
    refine tw_callV_I [.int v2, .int (v4 - 1)] [] (T_timeAt_ok hO hE s7 v2 (v4 - 1)) md_X2_timeAt q3183 q3185 qs93 dX2_passes_59 rfl rfl (by decide) (Nat.le_of_ble_eq_true rfl) (n := 62) rfl (fun x10 s9 => ?_)
    refine x_istore [(6, .int x10), (5, .int x8), (0, .ref E.2.1), (1, .int v1), (2, .int v2), (3, .int v3), (4, .int v4)] dX2_passes_62 (by decide) rfl (n := 64) rfl ?_
    refine x_aload_nr 2 dX2_passes_64 rfl rfl (n := 65) rfl ?_
    refine x_iload_n 3 dX2_passes_65 rfl rfl (n := 66) rfl ?_
    refine x_iload 6 dX2_passes_66 rfl (n := 68) rfl ?_
    refine tw_callV_I [.int v1, .int v4] [] (T_timeAt_ok hO hE s9 v1 v4) md_X2_timeAt q3183 q3185 qs93 dX2_passes_68 rfl rfl (by decide) (Nat.le_of_ble_eq_true rfl) (n := 71) rfl (fun x12 s11 => ?_)
    refine x_istore [(7, .int x12), (6, .int x10), (5, .int x8), (0, .ref E.2.1), (1, .int v1), (2, .int v2), (3, .int v3), (4, .int v4)] dX2_passes_71 (by decide) rfl (n := 73) rfl ?_
    refine x_aload_nr 3 dX2_passes_73 rfl rfl (n := 74) rfl ?_
    refine x_iload_n 5 dX2_passes_74 rfl rfl (n := 75) rfl ?_
    refine x_iload 7 dX2_passes_75 rfl (n := 77) rfl ?_
    refine tw_callV_I [.int v2, .int v4] [] (T_timeAt_ok hO hE s11 v2 v4) md_X2_timeAt q3183 q3185 qs93 dX2_passes_77 rfl rfl (by decide) (Nat.le_of_ble_eq_true rfl) (n := 80) rfl (fun x14 s13 => ?_)
    refine x_istore [(8, .int x14), (7, .int x12), (6, .int x10), (5, .int x8), (0, .ref E.2.1), (1, .int v1), (2, .int v2), (3, .int v3), (4, .int v4)] dX2_passes_80 (by decide) rfl (n := 82) rfl ?_
    refine x_iload 3 dX2_passes_82 rfl (n := 84) rfl ?_
    refine x_iconst (-1) dX2_passes_84 rfl (n := 85) rfl ?_
    refine tw_icmp_eq dX2_passes_85 (t := 110) (by decide) (n := 88) rfl ?_ ?_
    · refine x_sub [4, 5, 6, 7, 8, 3, 2, 1, 0] [(0, .ref E.2.1), (1, .int v1), (2, .int v2), (3, .int v3), (4, .int v4), (5, .int x8), (6, .int x10), (7, .int x12), (8, .int x14)] rfl ?_
      exact T_passes_110_ok hO hE hk21 v1 v2 v3 v4 x8 x10 x12 x14 s13
    · refine x_iload 2 dX2_passes_88 rfl (n := 90) rfl ?_
      refine x_iconst (-1) dX2_passes_90 rfl (n := 91) rfl ?_
      refine tw_icmp_eq dX2_passes_91 (t := 110) (by decide) (n := 94) rfl ?_ ?_
      · refine x_sub [4, 5, 6, 7, 8, 3, 2, 1, 0] [(0, .ref E.2.1), (1, .int v1), (2, .int v2), (3, .int v3), (4, .int v4), (5, .int x8), (6, .int x10), (7, .int x12), (8, .int x14)] rfl ?_
        exact T_passes_110_ok hO hE hk21 v1 v2 v3 v4 x8 x10 x12 x14 s13
      · refine x_iload 1 dX2_passes_94 rfl (n := 96) rfl ?_
        refine x_iconst (-1) dX2_passes_96 rfl (n := 97) rfl ?_
        refine tw_icmp_eq dX2_passes_97 (t := 110) (by decide) (n := 100) rfl ?_ ?_
        · refine x_sub [4, 5, 6, 7, 8, 3, 2, 1, 0] [(0, .ref E.2.1), (1, .int v1), (2, .int v2), (3, .int v3), (4, .int v4), (5, .int x8), (6, .int x10), (7, .int x12), (8, .int x14)] rfl ?_
          exact T_passes_110_ok hO hE hk21 v1 v2 v3 v4 x8 x10 x12 x14 s13
        · refine x_iload 0 dX2_passes_100 rfl (n := 102) rfl ?_
          refine x_iconst (-1) dX2_passes_102 rfl (n := 103) rfl ?_
          refine tw_icmp_eq dX2_passes_103 (t := 110) (by decide) (n := 106) rfl ?_ ?_
          · refine x_sub [4, 5, 6, 7, 8, 3, 2, 1, 0] [(0, .ref E.2.1), (1, .int v1), (2, .int v2), (3, .int v3), (4, .int v4), (5, .int x8), (6, .int x10), (7, .int x12), (8, .int x14)] rfl ?_
            exact T_passes_110_ok hO hE hk21 v1 v2 v3 v4 x8 x10 x12 x14 s13
          · refine x_iconst 1 dX2_passes_106 rfl (n := 107) rfl ?_
            refine x_goto dX2_passes_107 (n := 111) (by decide) ?_
            refine x_sub [4, 5, 6, 7, 8, 3, 2, 1, 0] [(0, .ref E.2.1), (1, .int v1), (2, .int v2), (3, .int v3), (4, .int v4), (5, .int x8), (6, .int x10), (7, .int x12), (8, .int x14)] rfl ?_
            exact T_passes_111_ok hO hE hk21 v1 v2 v3 v4 x8 x10 x12 x14 1 s13
theorem T_passes_21_lp {G : xG} {E : TE} (hO : xOK G) (hE : tok E)   (n : Nat) (v1 : Int32) (v2 : Int32) (v3 : Int32) (v4 : Int32) (s0 : TS) : XT G E "ForestLegsModel" "passes" cX2_passes 10 (Option.some Jvm.ClassFile.FieldType.int) 4 21 [(0, .ref E.2.1), (1, .int v1), (2, .int v2), (3, .int v3), (4, .int v4)] [] s0 (lp (T_passes_21F) n (v1, v2, v3, v4, s0)) :=
  lp_ok (W := fun p K => XT G E "ForestLegsModel" "passes" cX2_passes 10 (Option.some Jvm.ClassFile.FieldType.int) 4 21 [(0, .ref E.2.1), (1, .int p.1), (2, .int p.2.1), (3, .int p.2.2.1), (4, .int p.2.2.2.1)] [] p.2.2.2.2 K) (fun _ => tw_no) (fun k hk => fun (v1, v2, v3, v4, s0) => T_passes_21F_ok hO hE (fun v1 v2 v3 v4 s0 => hk (v1, v2, v3, v4, s0)) v1 v2 v3 v4 s0) n (v1, v2, v3, v4, s0)
theorem T_passes_ok {G : xG} {E : TE} (hO : xOK G) (hE : tok E) (s0 : TS) (a1 : Int32) (a2 : Int32) : CTT G E 4 yX2_passes cX2_passes 10 (Option.some Jvm.ClassFile.FieldType.int) [.ref E.2.1, .int a1, .int a2] s0 (T_passes s0 a1 a2) := by
  refine CT_of hO (by decide +kernel) (by decide +kernel) (Nat.le_of_ble_eq_true rfl) ?_
  show XT G E "ForestLegsModel" "passes" cX2_passes 10 (Option.some Jvm.ClassFile.FieldType.int) 4 0 [(0, .ref E.2.1), (1, .int a1), (2, .int a2)] [] s0 (T_passes s0 a1 a2)
  refine x_aload_nr 0 dX2_passes_0 rfl rfl (n := 1) rfl ?_
  refine x_aload_nr 0 dX2_passes_1 rfl rfl (n := 2) rfl ?_
  refine x_iload_n 1 dX2_passes_2 rfl rfl (n := 3) rfl ?_
  refine x_iload_n 2 dX2_passes_3 rfl rfl (n := 4) rfl ?_
  refine x_iconst 1 dX2_passes_4 rfl (n := 5) rfl ?_
  refine tw_callV_I [.int a1, .int a2, .int 1] [.ref E.2.1] (T_whyNotTwo_ok hO hE s0 a1 a2 1) md_X2_whyNotTwo q3366 q3368 qs114 dX2_passes_5 rfl rfl (by decide) (Nat.le_of_ble_eq_true rfl) (n := 8) rfl (fun x2 s1 => ?_)
  refine tw_callV_I [.int x2] [] (T_isRefused_ok hO hE s1 x2) md_X2_isRefused q3022 q3024 qs63 dX2_passes_8 rfl rfl (by decide) (Nat.le_of_ble_eq_true rfl) (n := 11) rfl (fun x4 s3 => ?_)
  refine tw_if_eq dX2_passes_11 (t := 16) (by decide) (n := 14) rfl ?_ ?_
  · refine x_iconst 0 dX2_passes_16 rfl (n := 17) rfl ?_
    refine x_istore_n [(3, .int 0), (0, .ref E.2.1), (1, .int a1), (2, .int a2)] dX2_passes_17 rfl (by decide) rfl (n := 18) rfl ?_
    refine x_iconst 1 dX2_passes_18 rfl (n := 19) rfl ?_
    refine x_istore [(4, .int 1), (3, .int 0), (0, .ref E.2.1), (1, .int a1), (2, .int a2)] dX2_passes_19 (by decide) rfl (n := 21) rfl ?_
    refine x_sub [2, 3, 4, 1, 0] [(0, .ref E.2.1), (1, .int a1), (2, .int a2), (3, .int 0), (4, .int 1)] rfl ?_
    exact T_passes_21_lp hO hE FU a1 a2 0 1 s3
  · refine x_iconst (-1) dX2_passes_14 rfl (n := 15) rfl ?_
    exact tw_ireturn dX2_passes_15
abbrev cX2_crowdAt : ByteArray := prog_14_method_97_code
def yX2_crowdAt : MethodName := ⟨RX2, "crowdAt", "(I)I"⟩
def dkwX2_crowdAt_2 : List UInt8 := [132, 3, 1, 167, 255, 209, 28, 172]
abbrev dktX2_crowdAt_2 : List UInt8 := dkwX2_crowdAt_2 ++ []
def dkwX2_crowdAt_1 : List UInt8 := [27, 163, 0, 20, 27, 42, 180, 0, 17, 16, 57, 29, 96, 46, 162, 0, 7, 4, 167, 0, 4, 3, 96, 61]
abbrev dktX2_crowdAt_1 : List UInt8 := dkwX2_crowdAt_1 ++ dktX2_crowdAt_2
def dkwX2_crowdAt_0 : List UInt8 := [3, 61, 3, 62, 29, 42, 180, 0, 17, 4, 46, 162, 0, 43, 28, 42, 180, 0, 17, 16, 47, 29, 96, 46]
abbrev dktX2_crowdAt_0 : List UInt8 := dkwX2_crowdAt_0 ++ dktX2_crowdAt_1
theorem dksX2_crowdAt_0 : cX2_crowdAt.data.toList.drop 0 = dktX2_crowdAt_0 := by decide +kernel
theorem dksX2_crowdAt_1 : cX2_crowdAt.data.toList.drop 24 = dktX2_crowdAt_1 := dk_seg dksX2_crowdAt_0 24 rfl rfl
theorem dksX2_crowdAt_2 : cX2_crowdAt.data.toList.drop 48 = dktX2_crowdAt_2 := dk_seg dksX2_crowdAt_1 24 rfl rfl
theorem dX2_crowdAt_0 : decode cX2_crowdAt 0 = .ok (.iconst 0, 1) := dk_3 (dk_at dksX2_crowdAt_0 0 rfl rfl)
theorem dX2_crowdAt_1 : decode cX2_crowdAt 1 = .ok (.istore_n 2, 1) := dk_61 (dk_at dksX2_crowdAt_0 1 rfl rfl)
theorem dX2_crowdAt_2 : decode cX2_crowdAt 2 = .ok (.iconst 0, 1) := dk_3 (dk_at dksX2_crowdAt_0 2 rfl rfl)
theorem dX2_crowdAt_3 : decode cX2_crowdAt 3 = .ok (.istore_n 3, 1) := dk_62 (dk_at dksX2_crowdAt_0 3 rfl rfl)
theorem dX2_crowdAt_4 : decode cX2_crowdAt 4 = .ok (.iload_n 3, 1) := dk_29 (dk_at dksX2_crowdAt_0 4 rfl rfl)
theorem dX2_crowdAt_5 : decode cX2_crowdAt 5 = .ok (.aload_n 0, 1) := dk_42 (dk_at dksX2_crowdAt_0 5 rfl rfl)
theorem dX2_crowdAt_6 : decode cX2_crowdAt 6 = .ok (.getfield 17, 3) := dk_180 0 17 (dk_at dksX2_crowdAt_0 6 rfl rfl)
theorem dX2_crowdAt_9 : decode cX2_crowdAt 9 = .ok (.iconst 1, 1) := dk_4 (dk_at dksX2_crowdAt_0 9 rfl rfl)
theorem dX2_crowdAt_10 : decode cX2_crowdAt 10 = .ok (.iaload, 1) := dk_46 (dk_at dksX2_crowdAt_0 10 rfl rfl)
theorem dX2_crowdAt_11 : decode cX2_crowdAt 11 = .ok (.if_icmp .ge 43, 3) := dk_162 0 43 (dk_at dksX2_crowdAt_0 11 rfl rfl)
theorem dX2_crowdAt_14 : decode cX2_crowdAt 14 = .ok (.iload_n 2, 1) := dk_28 (dk_at dksX2_crowdAt_0 14 rfl rfl)
theorem dX2_crowdAt_15 : decode cX2_crowdAt 15 = .ok (.aload_n 0, 1) := dk_42 (dk_at dksX2_crowdAt_0 15 rfl rfl)
theorem dX2_crowdAt_16 : decode cX2_crowdAt 16 = .ok (.getfield 17, 3) := dk_180 0 17 (dk_at dksX2_crowdAt_0 16 rfl rfl)
theorem dX2_crowdAt_19 : decode cX2_crowdAt 19 = .ok (.bipush 47, 2) := dk_16 47 (dk_at dksX2_crowdAt_0 19 rfl rfl)
theorem dX2_crowdAt_21 : decode cX2_crowdAt 21 = .ok (.iload_n 3, 1) := dk_29 (dk_at dksX2_crowdAt_0 21 rfl rfl)
theorem dX2_crowdAt_22 : decode cX2_crowdAt 22 = .ok (.iadd, 1) := dk_96 (dk_at dksX2_crowdAt_0 22 rfl rfl)
theorem dX2_crowdAt_23 : decode cX2_crowdAt 23 = .ok (.iaload, 1) := dk_46 (dk_at dksX2_crowdAt_0 23 rfl rfl)
theorem dX2_crowdAt_24 : decode cX2_crowdAt 24 = .ok (.iload_n 1, 1) := dk_27 (dk_at dksX2_crowdAt_1 0 rfl rfl)
theorem dX2_crowdAt_25 : decode cX2_crowdAt 25 = .ok (.if_icmp .gt 20, 3) := dk_163 0 20 (dk_at dksX2_crowdAt_1 1 rfl rfl)
theorem dX2_crowdAt_28 : decode cX2_crowdAt 28 = .ok (.iload_n 1, 1) := dk_27 (dk_at dksX2_crowdAt_1 4 rfl rfl)
theorem dX2_crowdAt_29 : decode cX2_crowdAt 29 = .ok (.aload_n 0, 1) := dk_42 (dk_at dksX2_crowdAt_1 5 rfl rfl)
theorem dX2_crowdAt_30 : decode cX2_crowdAt 30 = .ok (.getfield 17, 3) := dk_180 0 17 (dk_at dksX2_crowdAt_1 6 rfl rfl)
theorem dX2_crowdAt_33 : decode cX2_crowdAt 33 = .ok (.bipush 57, 2) := dk_16 57 (dk_at dksX2_crowdAt_1 9 rfl rfl)
theorem dX2_crowdAt_35 : decode cX2_crowdAt 35 = .ok (.iload_n 3, 1) := dk_29 (dk_at dksX2_crowdAt_1 11 rfl rfl)
theorem dX2_crowdAt_36 : decode cX2_crowdAt 36 = .ok (.iadd, 1) := dk_96 (dk_at dksX2_crowdAt_1 12 rfl rfl)
theorem dX2_crowdAt_37 : decode cX2_crowdAt 37 = .ok (.iaload, 1) := dk_46 (dk_at dksX2_crowdAt_1 13 rfl rfl)
theorem dX2_crowdAt_38 : decode cX2_crowdAt 38 = .ok (.if_icmp .ge 7, 3) := dk_162 0 7 (dk_at dksX2_crowdAt_1 14 rfl rfl)
theorem dX2_crowdAt_41 : decode cX2_crowdAt 41 = .ok (.iconst 1, 1) := dk_4 (dk_at dksX2_crowdAt_1 17 rfl rfl)
theorem dX2_crowdAt_42 : decode cX2_crowdAt 42 = .ok (.goto 4, 3) := dk_167 0 4 (dk_at dksX2_crowdAt_1 18 rfl rfl)
theorem dX2_crowdAt_45 : decode cX2_crowdAt 45 = .ok (.iconst 0, 1) := dk_3 (dk_at dksX2_crowdAt_1 21 rfl rfl)
theorem dX2_crowdAt_46 : decode cX2_crowdAt 46 = .ok (.iadd, 1) := dk_96 (dk_at dksX2_crowdAt_1 22 rfl rfl)
theorem dX2_crowdAt_47 : decode cX2_crowdAt 47 = .ok (.istore_n 2, 1) := dk_61 (dk_at dksX2_crowdAt_1 23 rfl rfl)
theorem dX2_crowdAt_48 : decode cX2_crowdAt 48 = .ok (.iinc 3 1, 3) := dk_132 3 1 (dk_at dksX2_crowdAt_2 0 rfl rfl)
theorem dX2_crowdAt_51 : decode cX2_crowdAt 51 = .ok (.goto (-47), 3) := dk_167 255 209 (dk_at dksX2_crowdAt_2 3 rfl rfl)
theorem dX2_crowdAt_54 : decode cX2_crowdAt 54 = .ok (.iload_n 2, 1) := dk_28 (dk_at dksX2_crowdAt_2 6 rfl rfl)
theorem dX2_crowdAt_55 : decode cX2_crowdAt 55 = .ok (.ireturn, 1) := dk_172 (dk_at dksX2_crowdAt_2 7 rfl rfl)
theorem md_X2_crowdAt : xMd yX2_crowdAt cX2_crowdAt 4 (Option.some Jvm.ClassFile.FieldType.int) 1 := ⟨q3397, q126, by decide, by decide +kernel, by decide +kernel, by decide +kernel⟩
def T_crowdAt_46  (k4 : Int32 × Int32 × Int32 × TS → Option (xO × TS)) (v1 : Int32) (v3 : Int32) (w0 : Int32) (w1 : Int32) (s0 : TS) : Option (xO × TS) :=
  (bnd (w0 + w1) fun x3 =>
  (bnd (v3 + 1) fun x4 =>
  (k4 (v1, x3, x4, s0))))
def T_crowdAt_45  (k4 : Int32 × Int32 × Int32 × TS → Option (xO × TS)) (v1 : Int32) (v3 : Int32) (w0 : Int32) (s0 : TS) : Option (xO × TS) :=
  (T_crowdAt_46 k4 v1 v3 w0 0 s0)
def T_crowdAt_4F   (k4 : Int32 × Int32 × Int32 × TS → Option (xO × TS)) (p : Int32 × Int32 × Int32 × TS) : Option (xO × TS) := match p with
  | (v1, v2, v3, s0) => (tald s0 7 1 fun x1 =>
  (if x1 ≤ v3 then
  (rI v2 s0) else
  (tald s0 7 (47 + v3) fun x2 =>
  (if v1 < x2 then
  (T_crowdAt_45 k4 v1 v3 v2 s0) else
  (tald s0 7 (57 + v3) fun x5 =>
  (if x5 ≤ v1 then
  (T_crowdAt_45 k4 v1 v3 v2 s0) else
  (T_crowdAt_46 k4 v1 v3 v2 1 s0)))))))
def T_crowdAt (s0 : TS) (a1 : Int32) : Option (xO × TS) :=
  (lp (T_crowdAt_4F) FU (a1, 0, 0, s0))
theorem T_crowdAt_46_ok {G : xG} {E : TE} (hO : xOK G) (hE : tok E)  {k4 : Int32 × Int32 × Int32 × TS → Option (xO × TS)} (hk4 : ∀ (v1 : Int32) (v2 : Int32) (v3 : Int32) (s0 : TS), XT G E "ForestLegsModel" "crowdAt" cX2_crowdAt 4 (Option.some Jvm.ClassFile.FieldType.int) 0 4 [(0, .ref E.2.1), (1, .int v1), (2, .int v2), (3, .int v3)] [] s0 (k4 (v1, v2, v3, s0))) (v1 : Int32) (v3 : Int32) (w0 : Int32) (w1 : Int32) (s0 : TS) : XT G E "ForestLegsModel" "crowdAt" cX2_crowdAt 4 (Option.some Jvm.ClassFile.FieldType.int) 0 46 [(0, .ref E.2.1), (1, .int v1), (3, .int v3)] [.int w1, .int w0] s0 (T_crowdAt_46 k4 v1 v3 w0 w1 s0) := by
  unfold T_crowdAt_46
  refine x_iadd dX2_crowdAt_46 (n := 47) rfl ?_
  refine tw_nm (fun x3 => ?_)
  refine x_istore_n [(2, .int x3), (0, .ref E.2.1), (1, .int v1), (3, .int v3)] dX2_crowdAt_47 rfl (by decide) rfl (n := 48) rfl ?_
  refine tw_iinc 3 (fun x4 => [(3, .int x4), (2, .int x3), (0, .ref E.2.1), (1, .int v1)]) dX2_crowdAt_48 rfl rfl (by decide) (fun _ => rfl) (n := 51) rfl (fun x4 => ?_)
  refine x_goto dX2_crowdAt_51 (n := 4) (by decide) ?_
  refine x_sub [2, 3, 1, 0] [(0, .ref E.2.1), (1, .int v1), (2, .int x3), (3, .int x4)] rfl ?_
  exact hk4 v1 x3 x4 s0
theorem T_crowdAt_45_ok {G : xG} {E : TE} (hO : xOK G) (hE : tok E)  {k4 : Int32 × Int32 × Int32 × TS → Option (xO × TS)} (hk4 : ∀ (v1 : Int32) (v2 : Int32) (v3 : Int32) (s0 : TS), XT G E "ForestLegsModel" "crowdAt" cX2_crowdAt 4 (Option.some Jvm.ClassFile.FieldType.int) 0 4 [(0, .ref E.2.1), (1, .int v1), (2, .int v2), (3, .int v3)] [] s0 (k4 (v1, v2, v3, s0))) (v1 : Int32) (v3 : Int32) (w0 : Int32) (s0 : TS) : XT G E "ForestLegsModel" "crowdAt" cX2_crowdAt 4 (Option.some Jvm.ClassFile.FieldType.int) 0 45 [(0, .ref E.2.1), (1, .int v1), (3, .int v3)] [.int w0] s0 (T_crowdAt_45 k4 v1 v3 w0 s0) := by
  unfold T_crowdAt_45
  refine x_iconst 0 dX2_crowdAt_45 rfl (n := 46) rfl ?_
  exact T_crowdAt_46_ok hO hE hk4 v1 v3 w0 0 s0
theorem T_crowdAt_4F_ok {G : xG} {E : TE} (hO : xOK G) (hE : tok E)   {k4 : Int32 × Int32 × Int32 × TS → Option (xO × TS)} (hk4 : ∀ (v1 : Int32) (v2 : Int32) (v3 : Int32) (s0 : TS), XT G E "ForestLegsModel" "crowdAt" cX2_crowdAt 4 (Option.some Jvm.ClassFile.FieldType.int) 0 4 [(0, .ref E.2.1), (1, .int v1), (2, .int v2), (3, .int v3)] [] s0 (k4 (v1, v2, v3, s0))) (v1 : Int32) (v2 : Int32) (v3 : Int32) (s0 : TS) : XT G E "ForestLegsModel" "crowdAt" cX2_crowdAt 4 (Option.some Jvm.ClassFile.FieldType.int) 0 4 [(0, .ref E.2.1), (1, .int v1), (2, .int v2), (3, .int v3)] [] s0 (T_crowdAt_4F k4 (v1, v2, v3, s0)) := by
  unfold T_crowdAt_4F
  refine x_iload_n 3 dX2_crowdAt_4 rfl rfl (n := 5) rfl ?_
  refine x_aload_nr 0 dX2_crowdAt_5 rfl rfl (n := 6) rfl ?_
  refine tw_getA fl_X2_17 rfl (by decide) dX2_crowdAt_6 (n := 9) rfl ?_
  refine x_iconst 1 dX2_crowdAt_9 rfl (n := 10) rfl ?_
  refine tw_iald hE (by decide) dX2_crowdAt_10 (n := 11) rfl (fun x1 => ?_)
  refine tw_icmp_ge dX2_crowdAt_11 (t := 54) (by decide) (n := 14) rfl ?_ ?_
  · refine x_iload_n 2 dX2_crowdAt_54 rfl rfl (n := 55) rfl ?_
    exact tw_ireturn dX2_crowdAt_55
  · refine x_iload_n 2 dX2_crowdAt_14 rfl rfl (n := 15) rfl ?_
    refine x_aload_nr 0 dX2_crowdAt_15 rfl rfl (n := 16) rfl ?_
    refine tw_getA fl_X2_17 rfl (by decide) dX2_crowdAt_16 (n := 19) rfl ?_
    refine x_bipush 47 dX2_crowdAt_19 rfl (n := 21) rfl ?_
    refine x_iload_n 3 dX2_crowdAt_21 rfl rfl (n := 22) rfl ?_
    refine x_iadd dX2_crowdAt_22 (n := 23) rfl ?_
    refine tw_iald hE (by decide) dX2_crowdAt_23 (n := 24) rfl (fun x2 => ?_)
    refine x_iload_n 1 dX2_crowdAt_24 rfl rfl (n := 25) rfl ?_
    refine tw_icmp_gt dX2_crowdAt_25 (t := 45) (by decide) (n := 28) rfl ?_ ?_
    · refine x_sub [0, 1, 3] [(0, .ref E.2.1), (1, .int v1), (3, .int v3)] rfl ?_
      exact T_crowdAt_45_ok hO hE hk4 v1 v3 v2 s0
    · refine x_iload_n 1 dX2_crowdAt_28 rfl rfl (n := 29) rfl ?_
      refine x_aload_nr 0 dX2_crowdAt_29 rfl rfl (n := 30) rfl ?_
      refine tw_getA fl_X2_17 rfl (by decide) dX2_crowdAt_30 (n := 33) rfl ?_
      refine x_bipush 57 dX2_crowdAt_33 rfl (n := 35) rfl ?_
      refine x_iload_n 3 dX2_crowdAt_35 rfl rfl (n := 36) rfl ?_
      refine x_iadd dX2_crowdAt_36 (n := 37) rfl ?_
      refine tw_iald hE (by decide) dX2_crowdAt_37 (n := 38) rfl (fun x5 => ?_)
      refine tw_icmp_ge dX2_crowdAt_38 (t := 45) (by decide) (n := 41) rfl ?_ ?_
      · refine x_sub [0, 1, 3] [(0, .ref E.2.1), (1, .int v1), (3, .int v3)] rfl ?_
        exact T_crowdAt_45_ok hO hE hk4 v1 v3 v2 s0
      · refine x_iconst 1 dX2_crowdAt_41 rfl (n := 42) rfl ?_
        refine x_goto dX2_crowdAt_42 (n := 46) (by decide) ?_
        refine x_sub [0, 1, 3] [(0, .ref E.2.1), (1, .int v1), (3, .int v3)] rfl ?_
        exact T_crowdAt_46_ok hO hE hk4 v1 v3 v2 1 s0
theorem T_crowdAt_4_lp {G : xG} {E : TE} (hO : xOK G) (hE : tok E)   (n : Nat) (v1 : Int32) (v2 : Int32) (v3 : Int32) (s0 : TS) : XT G E "ForestLegsModel" "crowdAt" cX2_crowdAt 4 (Option.some Jvm.ClassFile.FieldType.int) 0 4 [(0, .ref E.2.1), (1, .int v1), (2, .int v2), (3, .int v3)] [] s0 (lp (T_crowdAt_4F) n (v1, v2, v3, s0)) :=
  lp_ok (W := fun p K => XT G E "ForestLegsModel" "crowdAt" cX2_crowdAt 4 (Option.some Jvm.ClassFile.FieldType.int) 0 4 [(0, .ref E.2.1), (1, .int p.1), (2, .int p.2.1), (3, .int p.2.2.1)] [] p.2.2.2 K) (fun _ => tw_no) (fun k hk => fun (v1, v2, v3, s0) => T_crowdAt_4F_ok hO hE (fun v1 v2 v3 s0 => hk (v1, v2, v3, s0)) v1 v2 v3 s0) n (v1, v2, v3, s0)
theorem T_crowdAt_ok {G : xG} {E : TE} (hO : xOK G) (hE : tok E) (s0 : TS) (a1 : Int32) : CTT G E 0 yX2_crowdAt cX2_crowdAt 4 (Option.some Jvm.ClassFile.FieldType.int) [.ref E.2.1, .int a1] s0 (T_crowdAt s0 a1) := by
  refine CT_of hO (by decide +kernel) (by decide +kernel) (Nat.le_of_ble_eq_true rfl) ?_
  show XT G E "ForestLegsModel" "crowdAt" cX2_crowdAt 4 (Option.some Jvm.ClassFile.FieldType.int) 0 0 [(0, .ref E.2.1), (1, .int a1)] [] s0 (T_crowdAt s0 a1)
  refine x_iconst 0 dX2_crowdAt_0 rfl (n := 1) rfl ?_
  refine x_istore_n [(2, .int 0), (0, .ref E.2.1), (1, .int a1)] dX2_crowdAt_1 rfl (by decide) rfl (n := 2) rfl ?_
  refine x_iconst 0 dX2_crowdAt_2 rfl (n := 3) rfl ?_
  refine x_istore_n [(3, .int 0), (2, .int 0), (0, .ref E.2.1), (1, .int a1)] dX2_crowdAt_3 rfl (by decide) rfl (n := 4) rfl ?_
  refine x_sub [2, 3, 1, 0] [(0, .ref E.2.1), (1, .int a1), (2, .int 0), (3, .int 0)] rfl ?_
  exact T_crowdAt_4_lp hO hE FU a1 0 0 s0
abbrev cX2_crowd : ByteArray := prog_14_method_98_code
def yX2_crowd : MethodName := ⟨RX2, "crowd", "(I)I"⟩
def dkwX2_crowd_5 : List UInt8 := [21, 7, 54, 4, 132, 5, 1, 167, 255, 195, 27, 154, 0, 8, 21, 4, 167, 0, 4, 29, 172]
abbrev dktX2_crowd_5 : List UInt8 := dkwX2_crowd_5 ++ []
def dkwX2_crowd_4 : List UInt8 := [21, 7, 21, 4, 163, 0, 16, 21, 7, 21, 4, 160, 0, 16, 21, 6, 29, 162, 0, 10, 21, 6, 62]
abbrev dktX2_crowd_4 : List UInt8 := dkwX2_crowd_4 ++ dktX2_crowd_5
def dkwX2_crowd_3 : List UInt8 := [46, 162, 0, 56, 42, 180, 0, 17, 16, 47, 21, 5, 96, 46, 54, 6, 42, 21, 6, 182, 1, 62, 54, 7]
abbrev dktX2_crowd_3 : List UInt8 := dkwX2_crowd_3 ++ dktX2_crowd_4
def dkwX2_crowd_2 : List UInt8 := [3, 182, 0, 161, 153, 0, 5, 2, 172, 2, 62, 3, 54, 4, 3, 54, 5, 21, 5, 42, 180, 0, 17, 4]
abbrev dktX2_crowd_2 : List UInt8 := dkwX2_crowd_2 ++ dktX2_crowd_3
def dkwX2_crowd_1 : List UInt8 := [61, 42, 28, 153, 0, 7, 28, 167, 0, 18, 42, 180, 0, 17, 4, 46, 154, 0, 8, 16, 6, 167, 0, 4]
abbrev dktX2_crowd_1 : List UInt8 := dkwX2_crowd_1 ++ dktX2_crowd_2
def dkwX2_crowd_0 : List UInt8 := [42, 180, 0, 173, 153, 0, 16, 27, 3, 4, 184, 0, 79, 153, 0, 7, 4, 167, 0, 4, 3, 184, 0, 234]
abbrev dktX2_crowd_0 : List UInt8 := dkwX2_crowd_0 ++ dktX2_crowd_1
theorem dksX2_crowd_0 : cX2_crowd.data.toList.drop 0 = dktX2_crowd_0 := by decide +kernel
theorem dksX2_crowd_1 : cX2_crowd.data.toList.drop 24 = dktX2_crowd_1 := dk_seg dksX2_crowd_0 24 rfl rfl
theorem dksX2_crowd_2 : cX2_crowd.data.toList.drop 48 = dktX2_crowd_2 := dk_seg dksX2_crowd_1 24 rfl rfl
theorem dksX2_crowd_3 : cX2_crowd.data.toList.drop 72 = dktX2_crowd_3 := dk_seg dksX2_crowd_2 24 rfl rfl
theorem dksX2_crowd_4 : cX2_crowd.data.toList.drop 96 = dktX2_crowd_4 := dk_seg dksX2_crowd_3 24 rfl rfl
theorem dksX2_crowd_5 : cX2_crowd.data.toList.drop 119 = dktX2_crowd_5 := dk_seg dksX2_crowd_4 23 rfl rfl
theorem dX2_crowd_0 : decode cX2_crowd 0 = .ok (.aload_n 0, 1) := dk_42 (dk_at dksX2_crowd_0 0 rfl rfl)
theorem dX2_crowd_1 : decode cX2_crowd 1 = .ok (.getfield 173, 3) := dk_180 0 173 (dk_at dksX2_crowd_0 1 rfl rfl)
theorem dX2_crowd_4 : decode cX2_crowd 4 = .ok (.ifCond .eq 16, 3) := dk_153 0 16 (dk_at dksX2_crowd_0 4 rfl rfl)
theorem dX2_crowd_7 : decode cX2_crowd 7 = .ok (.iload_n 1, 1) := dk_27 (dk_at dksX2_crowd_0 7 rfl rfl)
theorem dX2_crowd_8 : decode cX2_crowd 8 = .ok (.iconst 0, 1) := dk_3 (dk_at dksX2_crowd_0 8 rfl rfl)
theorem dX2_crowd_9 : decode cX2_crowd 9 = .ok (.iconst 1, 1) := dk_4 (dk_at dksX2_crowd_0 9 rfl rfl)
theorem dX2_crowd_10 : decode cX2_crowd 10 = .ok (.invokestatic 79, 3) := dk_184 0 79 (dk_at dksX2_crowd_0 10 rfl rfl)
theorem dX2_crowd_13 : decode cX2_crowd 13 = .ok (.ifCond .eq 7, 3) := dk_153 0 7 (dk_at dksX2_crowd_0 13 rfl rfl)
theorem dX2_crowd_16 : decode cX2_crowd 16 = .ok (.iconst 1, 1) := dk_4 (dk_at dksX2_crowd_0 16 rfl rfl)
theorem dX2_crowd_17 : decode cX2_crowd 17 = .ok (.goto 4, 3) := dk_167 0 4 (dk_at dksX2_crowd_0 17 rfl rfl)
theorem dX2_crowd_20 : decode cX2_crowd 20 = .ok (.iconst 0, 1) := dk_3 (dk_at dksX2_crowd_0 20 rfl rfl)
theorem dX2_crowd_21 : decode cX2_crowd 21 = .ok (.invokestatic 234, 3) := dk_184 0 234 (dk_at dksX2_crowd_0 21 rfl rfl)
theorem dX2_crowd_24 : decode cX2_crowd 24 = .ok (.istore_n 2, 1) := dk_61 (dk_at dksX2_crowd_1 0 rfl rfl)
theorem dX2_crowd_25 : decode cX2_crowd 25 = .ok (.aload_n 0, 1) := dk_42 (dk_at dksX2_crowd_1 1 rfl rfl)
theorem dX2_crowd_26 : decode cX2_crowd 26 = .ok (.iload_n 2, 1) := dk_28 (dk_at dksX2_crowd_1 2 rfl rfl)
theorem dX2_crowd_27 : decode cX2_crowd 27 = .ok (.ifCond .eq 7, 3) := dk_153 0 7 (dk_at dksX2_crowd_1 3 rfl rfl)
theorem dX2_crowd_30 : decode cX2_crowd 30 = .ok (.iload_n 2, 1) := dk_28 (dk_at dksX2_crowd_1 6 rfl rfl)
theorem dX2_crowd_31 : decode cX2_crowd 31 = .ok (.goto 18, 3) := dk_167 0 18 (dk_at dksX2_crowd_1 7 rfl rfl)
theorem dX2_crowd_34 : decode cX2_crowd 34 = .ok (.aload_n 0, 1) := dk_42 (dk_at dksX2_crowd_1 10 rfl rfl)
theorem dX2_crowd_35 : decode cX2_crowd 35 = .ok (.getfield 17, 3) := dk_180 0 17 (dk_at dksX2_crowd_1 11 rfl rfl)
theorem dX2_crowd_38 : decode cX2_crowd 38 = .ok (.iconst 1, 1) := dk_4 (dk_at dksX2_crowd_1 14 rfl rfl)
theorem dX2_crowd_39 : decode cX2_crowd 39 = .ok (.iaload, 1) := dk_46 (dk_at dksX2_crowd_1 15 rfl rfl)
theorem dX2_crowd_40 : decode cX2_crowd 40 = .ok (.ifCond .ne 8, 3) := dk_154 0 8 (dk_at dksX2_crowd_1 16 rfl rfl)
theorem dX2_crowd_43 : decode cX2_crowd 43 = .ok (.bipush 6, 2) := dk_16 6 (dk_at dksX2_crowd_1 19 rfl rfl)
theorem dX2_crowd_45 : decode cX2_crowd 45 = .ok (.goto 4, 3) := dk_167 0 4 (dk_at dksX2_crowd_1 21 rfl rfl)
theorem dX2_crowd_48 : decode cX2_crowd 48 = .ok (.iconst 0, 1) := dk_3 (dk_at dksX2_crowd_2 0 rfl rfl)
theorem dX2_crowd_49 : decode cX2_crowd 49 = .ok (.invokevirtual 161, 3) := dk_182 0 161 (dk_at dksX2_crowd_2 1 rfl rfl)
theorem dX2_crowd_52 : decode cX2_crowd 52 = .ok (.ifCond .eq 5, 3) := dk_153 0 5 (dk_at dksX2_crowd_2 4 rfl rfl)
theorem dX2_crowd_55 : decode cX2_crowd 55 = .ok (.iconst (-1), 1) := dk_2 (dk_at dksX2_crowd_2 7 rfl rfl)
theorem dX2_crowd_56 : decode cX2_crowd 56 = .ok (.ireturn, 1) := dk_172 (dk_at dksX2_crowd_2 8 rfl rfl)
theorem dX2_crowd_57 : decode cX2_crowd 57 = .ok (.iconst (-1), 1) := dk_2 (dk_at dksX2_crowd_2 9 rfl rfl)
theorem dX2_crowd_58 : decode cX2_crowd 58 = .ok (.istore_n 3, 1) := dk_62 (dk_at dksX2_crowd_2 10 rfl rfl)
theorem dX2_crowd_59 : decode cX2_crowd 59 = .ok (.iconst 0, 1) := dk_3 (dk_at dksX2_crowd_2 11 rfl rfl)
theorem dX2_crowd_60 : decode cX2_crowd 60 = .ok (.istore 4, 2) := dk_54 4 (dk_at dksX2_crowd_2 12 rfl rfl)
theorem dX2_crowd_62 : decode cX2_crowd 62 = .ok (.iconst 0, 1) := dk_3 (dk_at dksX2_crowd_2 14 rfl rfl)
theorem dX2_crowd_63 : decode cX2_crowd 63 = .ok (.istore 5, 2) := dk_54 5 (dk_at dksX2_crowd_2 15 rfl rfl)
theorem dX2_crowd_65 : decode cX2_crowd 65 = .ok (.iload 5, 2) := dk_21 5 (dk_at dksX2_crowd_2 17 rfl rfl)
theorem dX2_crowd_67 : decode cX2_crowd 67 = .ok (.aload_n 0, 1) := dk_42 (dk_at dksX2_crowd_2 19 rfl rfl)
theorem dX2_crowd_68 : decode cX2_crowd 68 = .ok (.getfield 17, 3) := dk_180 0 17 (dk_at dksX2_crowd_2 20 rfl rfl)
theorem dX2_crowd_71 : decode cX2_crowd 71 = .ok (.iconst 1, 1) := dk_4 (dk_at dksX2_crowd_2 23 rfl rfl)
theorem dX2_crowd_72 : decode cX2_crowd 72 = .ok (.iaload, 1) := dk_46 (dk_at dksX2_crowd_3 0 rfl rfl)
theorem dX2_crowd_73 : decode cX2_crowd 73 = .ok (.if_icmp .ge 56, 3) := dk_162 0 56 (dk_at dksX2_crowd_3 1 rfl rfl)
theorem dX2_crowd_76 : decode cX2_crowd 76 = .ok (.aload_n 0, 1) := dk_42 (dk_at dksX2_crowd_3 4 rfl rfl)
theorem dX2_crowd_77 : decode cX2_crowd 77 = .ok (.getfield 17, 3) := dk_180 0 17 (dk_at dksX2_crowd_3 5 rfl rfl)
theorem dX2_crowd_80 : decode cX2_crowd 80 = .ok (.bipush 47, 2) := dk_16 47 (dk_at dksX2_crowd_3 8 rfl rfl)
theorem dX2_crowd_82 : decode cX2_crowd 82 = .ok (.iload 5, 2) := dk_21 5 (dk_at dksX2_crowd_3 10 rfl rfl)
theorem dX2_crowd_84 : decode cX2_crowd 84 = .ok (.iadd, 1) := dk_96 (dk_at dksX2_crowd_3 12 rfl rfl)
theorem dX2_crowd_85 : decode cX2_crowd 85 = .ok (.iaload, 1) := dk_46 (dk_at dksX2_crowd_3 13 rfl rfl)
theorem dX2_crowd_86 : decode cX2_crowd 86 = .ok (.istore 6, 2) := dk_54 6 (dk_at dksX2_crowd_3 14 rfl rfl)
theorem dX2_crowd_88 : decode cX2_crowd 88 = .ok (.aload_n 0, 1) := dk_42 (dk_at dksX2_crowd_3 16 rfl rfl)
theorem dX2_crowd_89 : decode cX2_crowd 89 = .ok (.iload 6, 2) := dk_21 6 (dk_at dksX2_crowd_3 17 rfl rfl)
theorem dX2_crowd_91 : decode cX2_crowd 91 = .ok (.invokevirtual 318, 3) := dk_182 1 62 (dk_at dksX2_crowd_3 19 rfl rfl)
theorem dX2_crowd_94 : decode cX2_crowd 94 = .ok (.istore 7, 2) := dk_54 7 (dk_at dksX2_crowd_3 22 rfl rfl)
theorem dX2_crowd_96 : decode cX2_crowd 96 = .ok (.iload 7, 2) := dk_21 7 (dk_at dksX2_crowd_4 0 rfl rfl)
theorem dX2_crowd_98 : decode cX2_crowd 98 = .ok (.iload 4, 2) := dk_21 4 (dk_at dksX2_crowd_4 2 rfl rfl)
theorem dX2_crowd_100 : decode cX2_crowd 100 = .ok (.if_icmp .gt 16, 3) := dk_163 0 16 (dk_at dksX2_crowd_4 4 rfl rfl)
theorem dX2_crowd_103 : decode cX2_crowd 103 = .ok (.iload 7, 2) := dk_21 7 (dk_at dksX2_crowd_4 7 rfl rfl)
theorem dX2_crowd_105 : decode cX2_crowd 105 = .ok (.iload 4, 2) := dk_21 4 (dk_at dksX2_crowd_4 9 rfl rfl)
theorem dX2_crowd_107 : decode cX2_crowd 107 = .ok (.if_icmp .ne 16, 3) := dk_160 0 16 (dk_at dksX2_crowd_4 11 rfl rfl)
theorem dX2_crowd_110 : decode cX2_crowd 110 = .ok (.iload 6, 2) := dk_21 6 (dk_at dksX2_crowd_4 14 rfl rfl)
theorem dX2_crowd_112 : decode cX2_crowd 112 = .ok (.iload_n 3, 1) := dk_29 (dk_at dksX2_crowd_4 16 rfl rfl)
theorem dX2_crowd_113 : decode cX2_crowd 113 = .ok (.if_icmp .ge 10, 3) := dk_162 0 10 (dk_at dksX2_crowd_4 17 rfl rfl)
theorem dX2_crowd_116 : decode cX2_crowd 116 = .ok (.iload 6, 2) := dk_21 6 (dk_at dksX2_crowd_4 20 rfl rfl)
theorem dX2_crowd_118 : decode cX2_crowd 118 = .ok (.istore_n 3, 1) := dk_62 (dk_at dksX2_crowd_4 22 rfl rfl)
theorem dX2_crowd_119 : decode cX2_crowd 119 = .ok (.iload 7, 2) := dk_21 7 (dk_at dksX2_crowd_5 0 rfl rfl)
theorem dX2_crowd_121 : decode cX2_crowd 121 = .ok (.istore 4, 2) := dk_54 4 (dk_at dksX2_crowd_5 2 rfl rfl)
theorem dX2_crowd_123 : decode cX2_crowd 123 = .ok (.iinc 5 1, 3) := dk_132 5 1 (dk_at dksX2_crowd_5 4 rfl rfl)
theorem dX2_crowd_126 : decode cX2_crowd 126 = .ok (.goto (-61), 3) := dk_167 255 195 (dk_at dksX2_crowd_5 7 rfl rfl)
theorem dX2_crowd_129 : decode cX2_crowd 129 = .ok (.iload_n 1, 1) := dk_27 (dk_at dksX2_crowd_5 10 rfl rfl)
theorem dX2_crowd_130 : decode cX2_crowd 130 = .ok (.ifCond .ne 8, 3) := dk_154 0 8 (dk_at dksX2_crowd_5 11 rfl rfl)
theorem dX2_crowd_133 : decode cX2_crowd 133 = .ok (.iload 4, 2) := dk_21 4 (dk_at dksX2_crowd_5 14 rfl rfl)
theorem dX2_crowd_135 : decode cX2_crowd 135 = .ok (.goto 4, 3) := dk_167 0 4 (dk_at dksX2_crowd_5 16 rfl rfl)
theorem dX2_crowd_138 : decode cX2_crowd 138 = .ok (.iload_n 3, 1) := dk_29 (dk_at dksX2_crowd_5 19 rfl rfl)
theorem dX2_crowd_139 : decode cX2_crowd 139 = .ok (.ireturn, 1) := dk_172 (dk_at dksX2_crowd_5 20 rfl rfl)
theorem md_X2_crowd : xMd yX2_crowd cX2_crowd 8 (Option.some Jvm.ClassFile.FieldType.int) 1 := ⟨q3393, q126, by decide, by decide +kernel, by decide +kernel, by decide +kernel⟩
def T_crowd_123  (k65 : Int32 × Int32 × Int32 × Int32 × TS → Option (xO × TS)) (v1 : Int32) (v3 : Int32) (v4 : Int32) (v5 : Int32) (s0 : TS) : Option (xO × TS) :=
  (bnd (v5 + 1) fun x10 =>
  (k65 (v1, v3, v4, x10, s0)))
def T_crowd_116  (k65 : Int32 × Int32 × Int32 × Int32 × TS → Option (xO × TS)) (v1 : Int32) (v5 : Int32) (v6 : Int32) (v7 : Int32) (s0 : TS) : Option (xO × TS) :=
  (T_crowd_123 k65 v1 v6 v7 v5 s0)
def T_crowd_65F   (k65 : Int32 × Int32 × Int32 × Int32 × TS → Option (xO × TS)) (p : Int32 × Int32 × Int32 × Int32 × TS) : Option (xO × TS) := match p with
  | (v1, v3, v4, v5, s0) => (tald s0 7 1 fun x6 =>
  (if x6 ≤ v5 then
  (if v1 = 0 then
  (rI v4 s0) else
  (rI v3 s0)) else
  (tald s0 7 (47 + v5) fun x7 =>
  (xcI (T_crowdAt s0 x7) fun x9 s8 =>
  (if v4 < x9 then
  (T_crowd_116 k65 v1 v5 x7 x9 s8) else
  (if x9 = v4 then
  (if v3 ≤ x7 then
  (T_crowd_123 k65 v1 v3 v4 v5 s8) else
  (T_crowd_116 k65 v1 v5 x7 x9 s8)) else
  (T_crowd_123 k65 v1 v3 v4 v5 s8)))))))
def T_crowd_49   (v1 : Int32) (w1 : Int32) (s0 : TS) : Option (xO × TS) :=
  (xcI (T_isRefused s0 w1) fun x5 s4 =>
  (if x5 = 0 then
  (lp (T_crowd_65F) FU (v1, (-1), 0, 0, s4)) else
  (rI (-1) s4)))
def T_crowd_21   (v1 : Int32) (w0 : Int32) (s0 : TS) : Option (xO × TS) :=
  (xcI (T_unless_2 s0 w0) fun x2 s1 =>
  (if x2 = 0 then
  (tald s1 7 1 fun x3 =>
  (if x3 = 0 then
  (T_crowd_49 v1 6 s1) else
  (T_crowd_49 v1 0 s1))) else
  (T_crowd_49 v1 x2 s1)))
def T_crowd_20   (v1 : Int32) (s0 : TS) : Option (xO × TS) :=
  (T_crowd_21 v1 0 s0)
def T_crowd (s0 : TS) (a1 : Int32) : Option (xO × TS) :=
  (if (s0.1 6) = 0 then
  (T_crowd_20 a1 s0) else
  (xcI (T_in s0 a1 0 1) fun x12 s11 =>
  (if x12 = 0 then
  (T_crowd_20 a1 s11) else
  (T_crowd_21 a1 1 s11))))
theorem T_crowd_123_ok {G : xG} {E : TE} (hO : xOK G) (hE : tok E)  {k65 : Int32 × Int32 × Int32 × Int32 × TS → Option (xO × TS)} (hk65 : ∀ (v1 : Int32) (v3 : Int32) (v4 : Int32) (v5 : Int32) (s0 : TS), XT G E "ForestLegsModel" "crowd" cX2_crowd 8 (Option.some Jvm.ClassFile.FieldType.int) 1 65 [(0, .ref E.2.1), (1, .int v1), (3, .int v3), (4, .int v4), (5, .int v5)] [] s0 (k65 (v1, v3, v4, v5, s0))) (v1 : Int32) (v3 : Int32) (v4 : Int32) (v5 : Int32) (s0 : TS) : XT G E "ForestLegsModel" "crowd" cX2_crowd 8 (Option.some Jvm.ClassFile.FieldType.int) 1 123 [(0, .ref E.2.1), (1, .int v1), (3, .int v3), (4, .int v4), (5, .int v5)] [] s0 (T_crowd_123 k65 v1 v3 v4 v5 s0) := by
  unfold T_crowd_123
  refine tw_iinc 4 (fun x10 => [(5, .int x10), (0, .ref E.2.1), (1, .int v1), (3, .int v3), (4, .int v4)]) dX2_crowd_123 rfl rfl (by decide) (fun _ => rfl) (n := 126) rfl (fun x10 => ?_)
  refine x_goto dX2_crowd_126 (n := 65) (by decide) ?_
  refine x_sub [1, 2, 3, 4, 0] [(0, .ref E.2.1), (1, .int v1), (3, .int v3), (4, .int v4), (5, .int x10)] rfl ?_
  exact hk65 v1 v3 v4 x10 s0
theorem T_crowd_116_ok {G : xG} {E : TE} (hO : xOK G) (hE : tok E)  {k65 : Int32 × Int32 × Int32 × Int32 × TS → Option (xO × TS)} (hk65 : ∀ (v1 : Int32) (v3 : Int32) (v4 : Int32) (v5 : Int32) (s0 : TS), XT G E "ForestLegsModel" "crowd" cX2_crowd 8 (Option.some Jvm.ClassFile.FieldType.int) 1 65 [(0, .ref E.2.1), (1, .int v1), (3, .int v3), (4, .int v4), (5, .int v5)] [] s0 (k65 (v1, v3, v4, v5, s0))) (v1 : Int32) (v5 : Int32) (v6 : Int32) (v7 : Int32) (s0 : TS) : XT G E "ForestLegsModel" "crowd" cX2_crowd 8 (Option.some Jvm.ClassFile.FieldType.int) 1 116 [(0, .ref E.2.1), (1, .int v1), (5, .int v5), (6, .int v6), (7, .int v7)] [] s0 (T_crowd_116 k65 v1 v5 v6 v7 s0) := by
  unfold T_crowd_116
  refine x_iload 3 dX2_crowd_116 rfl (n := 118) rfl ?_
  refine x_istore_n [(3, .int v6), (0, .ref E.2.1), (1, .int v1), (5, .int v5), (6, .int v6), (7, .int v7)] dX2_crowd_118 rfl (by decide) rfl (n := 119) rfl ?_
  refine x_iload 5 dX2_crowd_119 rfl (n := 121) rfl ?_
  refine x_istore [(4, .int v7), (3, .int v6), (0, .ref E.2.1), (1, .int v1), (5, .int v5), (6, .int v6), (7, .int v7)] dX2_crowd_121 (by decide) rfl (n := 123) rfl ?_
  refine x_sub [2, 3, 1, 0, 4] [(0, .ref E.2.1), (1, .int v1), (3, .int v6), (4, .int v7), (5, .int v5)] rfl ?_
  exact T_crowd_123_ok hO hE hk65 v1 v6 v7 v5 s0
theorem T_crowd_65F_ok {G : xG} {E : TE} (hO : xOK G) (hE : tok E)   {k65 : Int32 × Int32 × Int32 × Int32 × TS → Option (xO × TS)} (hk65 : ∀ (v1 : Int32) (v3 : Int32) (v4 : Int32) (v5 : Int32) (s0 : TS), XT G E "ForestLegsModel" "crowd" cX2_crowd 8 (Option.some Jvm.ClassFile.FieldType.int) 1 65 [(0, .ref E.2.1), (1, .int v1), (3, .int v3), (4, .int v4), (5, .int v5)] [] s0 (k65 (v1, v3, v4, v5, s0))) (v1 : Int32) (v3 : Int32) (v4 : Int32) (v5 : Int32) (s0 : TS) : XT G E "ForestLegsModel" "crowd" cX2_crowd 8 (Option.some Jvm.ClassFile.FieldType.int) 1 65 [(0, .ref E.2.1), (1, .int v1), (3, .int v3), (4, .int v4), (5, .int v5)] [] s0 (T_crowd_65F k65 (v1, v3, v4, v5, s0)) := by
  unfold T_crowd_65F
  refine x_iload 4 dX2_crowd_65 rfl (n := 67) rfl ?_
  refine x_aload_nr 0 dX2_crowd_67 rfl rfl (n := 68) rfl ?_
  refine tw_getA fl_X2_17 rfl (by decide) dX2_crowd_68 (n := 71) rfl ?_
  refine x_iconst 1 dX2_crowd_71 rfl (n := 72) rfl ?_
  refine tw_iald hE (by decide) dX2_crowd_72 (n := 73) rfl (fun x6 => ?_)
  refine tw_icmp_ge dX2_crowd_73 (t := 129) (by decide) (n := 76) rfl ?_ ?_
  · refine x_iload_n 1 dX2_crowd_129 rfl rfl (n := 130) rfl ?_
    refine tw_if_ne dX2_crowd_130 (t := 138) (by decide) (n := 133) rfl ?_ ?_
    · refine x_iload_n 2 dX2_crowd_138 rfl rfl (n := 139) rfl ?_
      exact tw_ireturn dX2_crowd_139
    · refine x_iload 3 dX2_crowd_133 rfl (n := 135) rfl ?_
      refine x_goto dX2_crowd_135 (n := 139) (by decide) ?_
      exact tw_ireturn dX2_crowd_139
  · refine x_aload_nr 0 dX2_crowd_76 rfl rfl (n := 77) rfl ?_
    refine tw_getA fl_X2_17 rfl (by decide) dX2_crowd_77 (n := 80) rfl ?_
    refine x_bipush 47 dX2_crowd_80 rfl (n := 82) rfl ?_
    refine x_iload 4 dX2_crowd_82 rfl (n := 84) rfl ?_
    refine x_iadd dX2_crowd_84 (n := 85) rfl ?_
    refine tw_iald hE (by decide) dX2_crowd_85 (n := 86) rfl (fun x7 => ?_)
    refine x_istore [(6, .int x7), (0, .ref E.2.1), (1, .int v1), (3, .int v3), (4, .int v4), (5, .int v5)] dX2_crowd_86 (by decide) rfl (n := 88) rfl ?_
    refine x_aload_nr 1 dX2_crowd_88 rfl rfl (n := 89) rfl ?_
    refine x_iload 0 dX2_crowd_89 rfl (n := 91) rfl ?_
    refine tw_callV_I [.int x7] [] (T_crowdAt_ok hO hE s0 x7) md_X2_crowdAt q3394 q3396 qs116 dX2_crowd_91 rfl rfl (by decide) (Nat.le_of_ble_eq_true rfl) (n := 94) rfl (fun x9 s8 => ?_)
    refine x_istore [(7, .int x9), (6, .int x7), (0, .ref E.2.1), (1, .int v1), (3, .int v3), (4, .int v4), (5, .int v5)] dX2_crowd_94 (by decide) rfl (n := 96) rfl ?_
    refine x_iload 0 dX2_crowd_96 rfl (n := 98) rfl ?_
    refine x_iload 5 dX2_crowd_98 rfl (n := 100) rfl ?_
    refine tw_icmp_gt dX2_crowd_100 (t := 116) (by decide) (n := 103) rfl ?_ ?_
    · refine x_sub [2, 3, 6, 1, 0] [(0, .ref E.2.1), (1, .int v1), (5, .int v5), (6, .int x7), (7, .int x9)] rfl ?_
      exact T_crowd_116_ok hO hE hk65 v1 v5 x7 x9 s8
    · refine x_iload 0 dX2_crowd_103 rfl (n := 105) rfl ?_
      refine x_iload 5 dX2_crowd_105 rfl (n := 107) rfl ?_
      refine tw_icmp_ne dX2_crowd_107 (t := 123) (by decide) (n := 110) rfl ?_ ?_
      · refine x_sub [2, 3, 4, 5, 6] [(0, .ref E.2.1), (1, .int v1), (3, .int v3), (4, .int v4), (5, .int v5)] rfl ?_
        exact T_crowd_123_ok hO hE hk65 v1 v3 v4 v5 s8
      · refine x_iload 1 dX2_crowd_110 rfl (n := 112) rfl ?_
        refine x_iload_n 4 dX2_crowd_112 rfl rfl (n := 113) rfl ?_
        refine tw_icmp_ge dX2_crowd_113 (t := 123) (by decide) (n := 116) rfl ?_ ?_
        · refine x_sub [2, 3, 4, 5, 6] [(0, .ref E.2.1), (1, .int v1), (3, .int v3), (4, .int v4), (5, .int v5)] rfl ?_
          exact T_crowd_123_ok hO hE hk65 v1 v3 v4 v5 s8
        · refine x_sub [2, 3, 6, 1, 0] [(0, .ref E.2.1), (1, .int v1), (5, .int v5), (6, .int x7), (7, .int x9)] rfl ?_
          exact T_crowd_116_ok hO hE hk65 v1 v5 x7 x9 s8
theorem T_crowd_65_lp {G : xG} {E : TE} (hO : xOK G) (hE : tok E)   (n : Nat) (v1 : Int32) (v3 : Int32) (v4 : Int32) (v5 : Int32) (s0 : TS) : XT G E "ForestLegsModel" "crowd" cX2_crowd 8 (Option.some Jvm.ClassFile.FieldType.int) 1 65 [(0, .ref E.2.1), (1, .int v1), (3, .int v3), (4, .int v4), (5, .int v5)] [] s0 (lp (T_crowd_65F) n (v1, v3, v4, v5, s0)) :=
  lp_ok (W := fun p K => XT G E "ForestLegsModel" "crowd" cX2_crowd 8 (Option.some Jvm.ClassFile.FieldType.int) 1 65 [(0, .ref E.2.1), (1, .int p.1), (3, .int p.2.1), (4, .int p.2.2.1), (5, .int p.2.2.2.1)] [] p.2.2.2.2 K) (fun _ => tw_no) (fun k hk => fun (v1, v3, v4, v5, s0) => T_crowd_65F_ok hO hE (fun v1 v3 v4 v5 s0 => hk (v1, v3, v4, v5, s0)) v1 v3 v4 v5 s0) n (v1, v3, v4, v5, s0)
theorem T_crowd_49_ok {G : xG} {E : TE} (hO : xOK G) (hE : tok E)   (v1 : Int32) (w1 : Int32) (s0 : TS) : XT G E "ForestLegsModel" "crowd" cX2_crowd 8 (Option.some Jvm.ClassFile.FieldType.int) 1 49 [(0, .ref E.2.1), (1, .int v1)] [.int w1, .ref E.2.1] s0 (T_crowd_49 v1 w1 s0) := by
  unfold T_crowd_49
  refine tw_callV_I [.int w1] [] (T_isRefused_ok hO hE s0 w1) md_X2_isRefused q3022 q3024 qs63 dX2_crowd_49 rfl rfl (by decide) (Nat.le_of_ble_eq_true rfl) (n := 52) rfl (fun x5 s4 => ?_)
  refine tw_if_eq dX2_crowd_52 (t := 57) (by decide) (n := 55) rfl ?_ ?_
  · refine x_iconst (-1) dX2_crowd_57 rfl (n := 58) rfl ?_
    refine x_istore_n [(3, .int (-1)), (0, .ref E.2.1), (1, .int v1)] dX2_crowd_58 rfl (by decide) rfl (n := 59) rfl ?_
    refine x_iconst 0 dX2_crowd_59 rfl (n := 60) rfl ?_
    refine x_istore [(4, .int 0), (3, .int (-1)), (0, .ref E.2.1), (1, .int v1)] dX2_crowd_60 (by decide) rfl (n := 62) rfl ?_
    refine x_iconst 0 dX2_crowd_62 rfl (n := 63) rfl ?_
    refine x_istore [(5, .int 0), (4, .int 0), (3, .int (-1)), (0, .ref E.2.1), (1, .int v1)] dX2_crowd_63 (by decide) rfl (n := 65) rfl ?_
    refine x_sub [3, 4, 2, 1, 0] [(0, .ref E.2.1), (1, .int v1), (3, .int (-1)), (4, .int 0), (5, .int 0)] rfl ?_
    exact T_crowd_65_lp hO hE FU v1 (-1) 0 0 s4
  · refine x_iconst (-1) dX2_crowd_55 rfl (n := 56) rfl ?_
    exact tw_ireturn dX2_crowd_56
theorem T_crowd_21_ok {G : xG} {E : TE} (hO : xOK G) (hE : tok E)   (v1 : Int32) (w0 : Int32) (s0 : TS) : XT G E "ForestLegsModel" "crowd" cX2_crowd 8 (Option.some Jvm.ClassFile.FieldType.int) 1 21 [(0, .ref E.2.1), (1, .int v1)] [.int w0] s0 (T_crowd_21 v1 w0 s0) := by
  unfold T_crowd_21
  refine tw_callS_I [.int w0] [] (T_unless_2_ok hO hE s0 w0) md_X2_unless_2 q3121 q3122 dX2_crowd_21 rfl rfl (by decide) (Nat.le_of_ble_eq_true rfl) (n := 24) rfl (fun x2 s1 => ?_)
  refine x_istore_n [(2, .int x2), (0, .ref E.2.1), (1, .int v1)] dX2_crowd_24 rfl (by decide) rfl (n := 25) rfl ?_
  refine x_aload_nr 1 dX2_crowd_25 rfl rfl (n := 26) rfl ?_
  refine x_iload_n 0 dX2_crowd_26 rfl rfl (n := 27) rfl ?_
  refine tw_if_eq dX2_crowd_27 (t := 34) (by decide) (n := 30) rfl ?_ ?_
  · refine x_aload_nr 1 dX2_crowd_34 rfl rfl (n := 35) rfl ?_
    refine tw_getA fl_X2_17 rfl (by decide) dX2_crowd_35 (n := 38) rfl ?_
    refine x_iconst 1 dX2_crowd_38 rfl (n := 39) rfl ?_
    refine tw_iald hE (by decide) dX2_crowd_39 (n := 40) rfl (fun x3 => ?_)
    refine tw_if_ne dX2_crowd_40 (t := 48) (by decide) (n := 43) rfl ?_ ?_
    · refine x_iconst 0 dX2_crowd_48 rfl (n := 49) rfl ?_
      refine x_sub [1, 2] [(0, .ref E.2.1), (1, .int v1)] rfl ?_
      exact T_crowd_49_ok hO hE v1 0 s1
    · refine x_bipush 6 dX2_crowd_43 rfl (n := 45) rfl ?_
      refine x_goto dX2_crowd_45 (n := 49) (by decide) ?_
      refine x_sub [1, 2] [(0, .ref E.2.1), (1, .int v1)] rfl ?_
      exact T_crowd_49_ok hO hE v1 6 s1
  · refine x_iload_n 0 dX2_crowd_30 rfl rfl (n := 31) rfl ?_
    refine x_goto dX2_crowd_31 (n := 49) (by decide) ?_
    refine x_sub [1, 2] [(0, .ref E.2.1), (1, .int v1)] rfl ?_
    exact T_crowd_49_ok hO hE v1 x2 s1
theorem T_crowd_20_ok {G : xG} {E : TE} (hO : xOK G) (hE : tok E)   (v1 : Int32) (s0 : TS) : XT G E "ForestLegsModel" "crowd" cX2_crowd 8 (Option.some Jvm.ClassFile.FieldType.int) 1 20 [(0, .ref E.2.1), (1, .int v1)] [] s0 (T_crowd_20 v1 s0) := by
  unfold T_crowd_20
  refine x_iconst 0 dX2_crowd_20 rfl (n := 21) rfl ?_
  exact T_crowd_21_ok hO hE v1 0 s0
theorem T_crowd_ok {G : xG} {E : TE} (hO : xOK G) (hE : tok E) (s0 : TS) (a1 : Int32) : CTT G E 1 yX2_crowd cX2_crowd 8 (Option.some Jvm.ClassFile.FieldType.int) [.ref E.2.1, .int a1] s0 (T_crowd s0 a1) := by
  refine CT_of hO (by decide +kernel) (by decide +kernel) (Nat.le_of_ble_eq_true rfl) ?_
  show XT G E "ForestLegsModel" "crowd" cX2_crowd 8 (Option.some Jvm.ClassFile.FieldType.int) 1 0 [(0, .ref E.2.1), (1, .int a1)] [] s0 (T_crowd s0 a1)
  refine x_aload_nr 0 dX2_crowd_0 rfl rfl (n := 1) rfl ?_
  refine tw_getI fl_X2_173 rfl (by decide) dX2_crowd_1 (n := 4) rfl ?_
  refine tw_if_eq dX2_crowd_4 (t := 20) (by decide) (n := 7) rfl ?_ ?_
  · exact T_crowd_20_ok hO hE a1 s0
  · refine x_iload_n 1 dX2_crowd_7 rfl rfl (n := 8) rfl ?_
    refine x_iconst 0 dX2_crowd_8 rfl (n := 9) rfl ?_
    refine x_iconst 1 dX2_crowd_9 rfl (n := 10) rfl ?_
    refine tw_callS_I [.int a1, .int 0, .int 1] [] (T_in_ok hO hE s0 a1 0 1) md_X2_in q3016 q3017 dX2_crowd_10 rfl rfl (by decide) (Nat.le_of_ble_eq_true rfl) (n := 13) rfl (fun x12 s11 => ?_)
    refine tw_if_eq dX2_crowd_13 (t := 20) (by decide) (n := 16) rfl ?_ ?_
    · exact T_crowd_20_ok hO hE a1 s11
    · refine x_iconst 1 dX2_crowd_16 rfl (n := 17) rfl ?_
      refine x_goto dX2_crowd_17 (n := 21) (by decide) ?_
      exact T_crowd_21_ok hO hE a1 1 s11
abbrev cX2_over : ByteArray := prog_14_method_99_code
def yX2_over : MethodName := ⟨RX2, "over", "(III)I"⟩
def dkwX2_over_8 : List UInt8 := [167, 255, 137, 29, 154, 0, 8, 21, 4, 167, 0, 5, 21, 5, 172]
abbrev dktX2_over_8 : List UInt8 := dkwX2_over_8 ++ []
def dkwX2_over_7 : List UInt8 := [21, 4, 162, 0, 11, 21, 9, 54, 4, 21, 6, 54, 5, 132, 8, 1, 167, 255, 169, 132, 6, 1]
abbrev dktX2_over_7 : List UInt8 := dkwX2_over_7 ++ dktX2_over_8
def dkwX2_over_6 : List UInt8 := [167, 0, 5, 16, 254, 54, 9, 21, 9, 16, 254, 159, 0, 25, 21, 4, 16, 254, 159, 0, 10, 21, 9]
abbrev dktX2_over_6 : List UInt8 := dkwX2_over_6 ++ dktX2_over_7
def dkwX2_over_5 : List UInt8 := [27, 160, 0, 26, 42, 21, 7, 21, 8, 182, 0, 197, 28, 160, 0, 14, 42, 21, 6, 21, 8, 182, 0, 221]
abbrev dktX2_over_5 : List UInt8 := dkwX2_over_5 ++ dktX2_over_6
def dkwX2_over_4 : List UInt8 := [21, 8, 42, 180, 0, 17, 7, 21, 7, 96, 46, 162, 0, 79, 42, 21, 7, 21, 8, 4, 100, 182, 0, 197]
abbrev dktX2_over_4 : List UInt8 := dkwX2_over_4 ++ dktX2_over_5
def dkwX2_over_3 : List UInt8 := [42, 180, 0, 17, 4, 46, 162, 0, 114, 42, 180, 0, 17, 16, 37, 21, 6, 96, 46, 54, 7, 4, 54, 8]
abbrev dktX2_over_3 : List UInt8 := dkwX2_over_3 ++ dktX2_over_4
def dkwX2_over_2 : List UInt8 := [184, 0, 157, 182, 0, 161, 153, 0, 5, 2, 172, 16, 254, 54, 4, 16, 254, 54, 5, 3, 54, 6, 21, 6]
abbrev dktX2_over_2 : List UInt8 := dkwX2_over_2 ++ dktX2_over_3
def dkwX2_over_1 : List UInt8 := [16, 99, 184, 0, 79, 153, 0, 17, 28, 4, 16, 99, 184, 0, 79, 153, 0, 7, 4, 167, 0, 4, 3]
abbrev dktX2_over_1 : List UInt8 := dkwX2_over_1 ++ dktX2_over_2
def dkwX2_over_0 : List UInt8 := [42, 42, 180, 0, 173, 153, 0, 16, 29, 3, 4, 184, 0, 79, 153, 0, 7, 4, 167, 0, 4, 3, 27, 4]
abbrev dktX2_over_0 : List UInt8 := dkwX2_over_0 ++ dktX2_over_1
theorem dksX2_over_0 : cX2_over.data.toList.drop 0 = dktX2_over_0 := by decide +kernel
theorem dksX2_over_1 : cX2_over.data.toList.drop 24 = dktX2_over_1 := dk_seg dksX2_over_0 24 rfl rfl
theorem dksX2_over_2 : cX2_over.data.toList.drop 47 = dktX2_over_2 := dk_seg dksX2_over_1 23 rfl rfl
theorem dksX2_over_3 : cX2_over.data.toList.drop 71 = dktX2_over_3 := dk_seg dksX2_over_2 24 rfl rfl
theorem dksX2_over_4 : cX2_over.data.toList.drop 95 = dktX2_over_4 := dk_seg dksX2_over_3 24 rfl rfl
theorem dksX2_over_5 : cX2_over.data.toList.drop 119 = dktX2_over_5 := dk_seg dksX2_over_4 24 rfl rfl
theorem dksX2_over_6 : cX2_over.data.toList.drop 143 = dktX2_over_6 := dk_seg dksX2_over_5 24 rfl rfl
theorem dksX2_over_7 : cX2_over.data.toList.drop 166 = dktX2_over_7 := dk_seg dksX2_over_6 23 rfl rfl
theorem dksX2_over_8 : cX2_over.data.toList.drop 188 = dktX2_over_8 := dk_seg dksX2_over_7 22 rfl rfl
theorem dX2_over_0 : decode cX2_over 0 = .ok (.aload_n 0, 1) := dk_42 (dk_at dksX2_over_0 0 rfl rfl)
theorem dX2_over_1 : decode cX2_over 1 = .ok (.aload_n 0, 1) := dk_42 (dk_at dksX2_over_0 1 rfl rfl)
theorem dX2_over_2 : decode cX2_over 2 = .ok (.getfield 173, 3) := dk_180 0 173 (dk_at dksX2_over_0 2 rfl rfl)
theorem dX2_over_5 : decode cX2_over 5 = .ok (.ifCond .eq 16, 3) := dk_153 0 16 (dk_at dksX2_over_0 5 rfl rfl)
theorem dX2_over_8 : decode cX2_over 8 = .ok (.iload_n 3, 1) := dk_29 (dk_at dksX2_over_0 8 rfl rfl)
theorem dX2_over_9 : decode cX2_over 9 = .ok (.iconst 0, 1) := dk_3 (dk_at dksX2_over_0 9 rfl rfl)
theorem dX2_over_10 : decode cX2_over 10 = .ok (.iconst 1, 1) := dk_4 (dk_at dksX2_over_0 10 rfl rfl)
theorem dX2_over_11 : decode cX2_over 11 = .ok (.invokestatic 79, 3) := dk_184 0 79 (dk_at dksX2_over_0 11 rfl rfl)
theorem dX2_over_14 : decode cX2_over 14 = .ok (.ifCond .eq 7, 3) := dk_153 0 7 (dk_at dksX2_over_0 14 rfl rfl)
theorem dX2_over_17 : decode cX2_over 17 = .ok (.iconst 1, 1) := dk_4 (dk_at dksX2_over_0 17 rfl rfl)
theorem dX2_over_18 : decode cX2_over 18 = .ok (.goto 4, 3) := dk_167 0 4 (dk_at dksX2_over_0 18 rfl rfl)
theorem dX2_over_21 : decode cX2_over 21 = .ok (.iconst 0, 1) := dk_3 (dk_at dksX2_over_0 21 rfl rfl)
theorem dX2_over_22 : decode cX2_over 22 = .ok (.iload_n 1, 1) := dk_27 (dk_at dksX2_over_0 22 rfl rfl)
theorem dX2_over_23 : decode cX2_over 23 = .ok (.iconst 1, 1) := dk_4 (dk_at dksX2_over_0 23 rfl rfl)
theorem dX2_over_24 : decode cX2_over 24 = .ok (.bipush 99, 2) := dk_16 99 (dk_at dksX2_over_1 0 rfl rfl)
theorem dX2_over_26 : decode cX2_over 26 = .ok (.invokestatic 79, 3) := dk_184 0 79 (dk_at dksX2_over_1 2 rfl rfl)
theorem dX2_over_29 : decode cX2_over 29 = .ok (.ifCond .eq 17, 3) := dk_153 0 17 (dk_at dksX2_over_1 5 rfl rfl)
theorem dX2_over_32 : decode cX2_over 32 = .ok (.iload_n 2, 1) := dk_28 (dk_at dksX2_over_1 8 rfl rfl)
theorem dX2_over_33 : decode cX2_over 33 = .ok (.iconst 1, 1) := dk_4 (dk_at dksX2_over_1 9 rfl rfl)
theorem dX2_over_34 : decode cX2_over 34 = .ok (.bipush 99, 2) := dk_16 99 (dk_at dksX2_over_1 10 rfl rfl)
theorem dX2_over_36 : decode cX2_over 36 = .ok (.invokestatic 79, 3) := dk_184 0 79 (dk_at dksX2_over_1 12 rfl rfl)
theorem dX2_over_39 : decode cX2_over 39 = .ok (.ifCond .eq 7, 3) := dk_153 0 7 (dk_at dksX2_over_1 15 rfl rfl)
theorem dX2_over_42 : decode cX2_over 42 = .ok (.iconst 1, 1) := dk_4 (dk_at dksX2_over_1 18 rfl rfl)
theorem dX2_over_43 : decode cX2_over 43 = .ok (.goto 4, 3) := dk_167 0 4 (dk_at dksX2_over_1 19 rfl rfl)
theorem dX2_over_46 : decode cX2_over 46 = .ok (.iconst 0, 1) := dk_3 (dk_at dksX2_over_1 22 rfl rfl)
theorem dX2_over_47 : decode cX2_over 47 = .ok (.invokestatic 157, 3) := dk_184 0 157 (dk_at dksX2_over_2 0 rfl rfl)
theorem dX2_over_50 : decode cX2_over 50 = .ok (.invokevirtual 161, 3) := dk_182 0 161 (dk_at dksX2_over_2 3 rfl rfl)
theorem dX2_over_53 : decode cX2_over 53 = .ok (.ifCond .eq 5, 3) := dk_153 0 5 (dk_at dksX2_over_2 6 rfl rfl)
theorem dX2_over_56 : decode cX2_over 56 = .ok (.iconst (-1), 1) := dk_2 (dk_at dksX2_over_2 9 rfl rfl)
theorem dX2_over_57 : decode cX2_over 57 = .ok (.ireturn, 1) := dk_172 (dk_at dksX2_over_2 10 rfl rfl)
theorem dX2_over_58 : decode cX2_over 58 = .ok (.bipush (-2), 2) := dk_16 254 (dk_at dksX2_over_2 11 rfl rfl)
theorem dX2_over_60 : decode cX2_over 60 = .ok (.istore 4, 2) := dk_54 4 (dk_at dksX2_over_2 13 rfl rfl)
theorem dX2_over_62 : decode cX2_over 62 = .ok (.bipush (-2), 2) := dk_16 254 (dk_at dksX2_over_2 15 rfl rfl)
theorem dX2_over_64 : decode cX2_over 64 = .ok (.istore 5, 2) := dk_54 5 (dk_at dksX2_over_2 17 rfl rfl)
theorem dX2_over_66 : decode cX2_over 66 = .ok (.iconst 0, 1) := dk_3 (dk_at dksX2_over_2 19 rfl rfl)
theorem dX2_over_67 : decode cX2_over 67 = .ok (.istore 6, 2) := dk_54 6 (dk_at dksX2_over_2 20 rfl rfl)
theorem dX2_over_69 : decode cX2_over 69 = .ok (.iload 6, 2) := dk_21 6 (dk_at dksX2_over_2 22 rfl rfl)
theorem dX2_over_71 : decode cX2_over 71 = .ok (.aload_n 0, 1) := dk_42 (dk_at dksX2_over_3 0 rfl rfl)
theorem dX2_over_72 : decode cX2_over 72 = .ok (.getfield 17, 3) := dk_180 0 17 (dk_at dksX2_over_3 1 rfl rfl)
theorem dX2_over_75 : decode cX2_over 75 = .ok (.iconst 1, 1) := dk_4 (dk_at dksX2_over_3 4 rfl rfl)
theorem dX2_over_76 : decode cX2_over 76 = .ok (.iaload, 1) := dk_46 (dk_at dksX2_over_3 5 rfl rfl)
theorem dX2_over_77 : decode cX2_over 77 = .ok (.if_icmp .ge 114, 3) := dk_162 0 114 (dk_at dksX2_over_3 6 rfl rfl)
theorem dX2_over_80 : decode cX2_over 80 = .ok (.aload_n 0, 1) := dk_42 (dk_at dksX2_over_3 9 rfl rfl)
theorem dX2_over_81 : decode cX2_over 81 = .ok (.getfield 17, 3) := dk_180 0 17 (dk_at dksX2_over_3 10 rfl rfl)
theorem dX2_over_84 : decode cX2_over 84 = .ok (.bipush 37, 2) := dk_16 37 (dk_at dksX2_over_3 13 rfl rfl)
theorem dX2_over_86 : decode cX2_over 86 = .ok (.iload 6, 2) := dk_21 6 (dk_at dksX2_over_3 15 rfl rfl)
theorem dX2_over_88 : decode cX2_over 88 = .ok (.iadd, 1) := dk_96 (dk_at dksX2_over_3 17 rfl rfl)
theorem dX2_over_89 : decode cX2_over 89 = .ok (.iaload, 1) := dk_46 (dk_at dksX2_over_3 18 rfl rfl)
theorem dX2_over_90 : decode cX2_over 90 = .ok (.istore 7, 2) := dk_54 7 (dk_at dksX2_over_3 19 rfl rfl)
theorem dX2_over_92 : decode cX2_over 92 = .ok (.iconst 1, 1) := dk_4 (dk_at dksX2_over_3 21 rfl rfl)
theorem dX2_over_93 : decode cX2_over 93 = .ok (.istore 8, 2) := dk_54 8 (dk_at dksX2_over_3 22 rfl rfl)
theorem dX2_over_95 : decode cX2_over 95 = .ok (.iload 8, 2) := dk_21 8 (dk_at dksX2_over_4 0 rfl rfl)
theorem dX2_over_97 : decode cX2_over 97 = .ok (.aload_n 0, 1) := dk_42 (dk_at dksX2_over_4 2 rfl rfl)
theorem dX2_over_98 : decode cX2_over 98 = .ok (.getfield 17, 3) := dk_180 0 17 (dk_at dksX2_over_4 3 rfl rfl)
theorem dX2_over_101 : decode cX2_over 101 = .ok (.iconst 4, 1) := dk_7 (dk_at dksX2_over_4 6 rfl rfl)
theorem dX2_over_102 : decode cX2_over 102 = .ok (.iload 7, 2) := dk_21 7 (dk_at dksX2_over_4 7 rfl rfl)
theorem dX2_over_104 : decode cX2_over 104 = .ok (.iadd, 1) := dk_96 (dk_at dksX2_over_4 9 rfl rfl)
theorem dX2_over_105 : decode cX2_over 105 = .ok (.iaload, 1) := dk_46 (dk_at dksX2_over_4 10 rfl rfl)
theorem dX2_over_106 : decode cX2_over 106 = .ok (.if_icmp .ge 79, 3) := dk_162 0 79 (dk_at dksX2_over_4 11 rfl rfl)
theorem dX2_over_109 : decode cX2_over 109 = .ok (.aload_n 0, 1) := dk_42 (dk_at dksX2_over_4 14 rfl rfl)
theorem dX2_over_110 : decode cX2_over 110 = .ok (.iload 7, 2) := dk_21 7 (dk_at dksX2_over_4 15 rfl rfl)
theorem dX2_over_112 : decode cX2_over 112 = .ok (.iload 8, 2) := dk_21 8 (dk_at dksX2_over_4 17 rfl rfl)
theorem dX2_over_114 : decode cX2_over 114 = .ok (.iconst 1, 1) := dk_4 (dk_at dksX2_over_4 19 rfl rfl)
theorem dX2_over_115 : decode cX2_over 115 = .ok (.isub, 1) := dk_100 (dk_at dksX2_over_4 20 rfl rfl)
theorem dX2_over_116 : decode cX2_over 116 = .ok (.invokevirtual 197, 3) := dk_182 0 197 (dk_at dksX2_over_4 21 rfl rfl)
theorem dX2_over_119 : decode cX2_over 119 = .ok (.iload_n 1, 1) := dk_27 (dk_at dksX2_over_5 0 rfl rfl)
theorem dX2_over_120 : decode cX2_over 120 = .ok (.if_icmp .ne 26, 3) := dk_160 0 26 (dk_at dksX2_over_5 1 rfl rfl)
theorem dX2_over_123 : decode cX2_over 123 = .ok (.aload_n 0, 1) := dk_42 (dk_at dksX2_over_5 4 rfl rfl)
theorem dX2_over_124 : decode cX2_over 124 = .ok (.iload 7, 2) := dk_21 7 (dk_at dksX2_over_5 5 rfl rfl)
theorem dX2_over_126 : decode cX2_over 126 = .ok (.iload 8, 2) := dk_21 8 (dk_at dksX2_over_5 7 rfl rfl)
theorem dX2_over_128 : decode cX2_over 128 = .ok (.invokevirtual 197, 3) := dk_182 0 197 (dk_at dksX2_over_5 9 rfl rfl)
theorem dX2_over_131 : decode cX2_over 131 = .ok (.iload_n 2, 1) := dk_28 (dk_at dksX2_over_5 12 rfl rfl)
theorem dX2_over_132 : decode cX2_over 132 = .ok (.if_icmp .ne 14, 3) := dk_160 0 14 (dk_at dksX2_over_5 13 rfl rfl)
theorem dX2_over_135 : decode cX2_over 135 = .ok (.aload_n 0, 1) := dk_42 (dk_at dksX2_over_5 16 rfl rfl)
theorem dX2_over_136 : decode cX2_over 136 = .ok (.iload 6, 2) := dk_21 6 (dk_at dksX2_over_5 17 rfl rfl)
theorem dX2_over_138 : decode cX2_over 138 = .ok (.iload 8, 2) := dk_21 8 (dk_at dksX2_over_5 19 rfl rfl)
theorem dX2_over_140 : decode cX2_over 140 = .ok (.invokevirtual 221, 3) := dk_182 0 221 (dk_at dksX2_over_5 21 rfl rfl)
theorem dX2_over_143 : decode cX2_over 143 = .ok (.goto 5, 3) := dk_167 0 5 (dk_at dksX2_over_6 0 rfl rfl)
theorem dX2_over_146 : decode cX2_over 146 = .ok (.bipush (-2), 2) := dk_16 254 (dk_at dksX2_over_6 3 rfl rfl)
theorem dX2_over_148 : decode cX2_over 148 = .ok (.istore 9, 2) := dk_54 9 (dk_at dksX2_over_6 5 rfl rfl)
theorem dX2_over_150 : decode cX2_over 150 = .ok (.iload 9, 2) := dk_21 9 (dk_at dksX2_over_6 7 rfl rfl)
theorem dX2_over_152 : decode cX2_over 152 = .ok (.bipush (-2), 2) := dk_16 254 (dk_at dksX2_over_6 9 rfl rfl)
theorem dX2_over_154 : decode cX2_over 154 = .ok (.if_icmp .eq 25, 3) := dk_159 0 25 (dk_at dksX2_over_6 11 rfl rfl)
theorem dX2_over_157 : decode cX2_over 157 = .ok (.iload 4, 2) := dk_21 4 (dk_at dksX2_over_6 14 rfl rfl)
theorem dX2_over_159 : decode cX2_over 159 = .ok (.bipush (-2), 2) := dk_16 254 (dk_at dksX2_over_6 16 rfl rfl)
theorem dX2_over_161 : decode cX2_over 161 = .ok (.if_icmp .eq 10, 3) := dk_159 0 10 (dk_at dksX2_over_6 18 rfl rfl)
theorem dX2_over_164 : decode cX2_over 164 = .ok (.iload 9, 2) := dk_21 9 (dk_at dksX2_over_6 21 rfl rfl)
theorem dX2_over_166 : decode cX2_over 166 = .ok (.iload 4, 2) := dk_21 4 (dk_at dksX2_over_7 0 rfl rfl)
theorem dX2_over_168 : decode cX2_over 168 = .ok (.if_icmp .ge 11, 3) := dk_162 0 11 (dk_at dksX2_over_7 2 rfl rfl)
theorem dX2_over_171 : decode cX2_over 171 = .ok (.iload 9, 2) := dk_21 9 (dk_at dksX2_over_7 5 rfl rfl)
theorem dX2_over_173 : decode cX2_over 173 = .ok (.istore 4, 2) := dk_54 4 (dk_at dksX2_over_7 7 rfl rfl)
theorem dX2_over_175 : decode cX2_over 175 = .ok (.iload 6, 2) := dk_21 6 (dk_at dksX2_over_7 9 rfl rfl)
theorem dX2_over_177 : decode cX2_over 177 = .ok (.istore 5, 2) := dk_54 5 (dk_at dksX2_over_7 11 rfl rfl)
theorem dX2_over_179 : decode cX2_over 179 = .ok (.iinc 8 1, 3) := dk_132 8 1 (dk_at dksX2_over_7 13 rfl rfl)
theorem dX2_over_182 : decode cX2_over 182 = .ok (.goto (-87), 3) := dk_167 255 169 (dk_at dksX2_over_7 16 rfl rfl)
theorem dX2_over_185 : decode cX2_over 185 = .ok (.iinc 6 1, 3) := dk_132 6 1 (dk_at dksX2_over_7 19 rfl rfl)
theorem dX2_over_188 : decode cX2_over 188 = .ok (.goto (-119), 3) := dk_167 255 137 (dk_at dksX2_over_8 0 rfl rfl)
theorem dX2_over_191 : decode cX2_over 191 = .ok (.iload_n 3, 1) := dk_29 (dk_at dksX2_over_8 3 rfl rfl)
theorem dX2_over_192 : decode cX2_over 192 = .ok (.ifCond .ne 8, 3) := dk_154 0 8 (dk_at dksX2_over_8 4 rfl rfl)
theorem dX2_over_195 : decode cX2_over 195 = .ok (.iload 4, 2) := dk_21 4 (dk_at dksX2_over_8 7 rfl rfl)
theorem dX2_over_197 : decode cX2_over 197 = .ok (.goto 5, 3) := dk_167 0 5 (dk_at dksX2_over_8 9 rfl rfl)
theorem dX2_over_200 : decode cX2_over 200 = .ok (.iload 5, 2) := dk_21 5 (dk_at dksX2_over_8 12 rfl rfl)
theorem dX2_over_202 : decode cX2_over 202 = .ok (.ireturn, 1) := dk_172 (dk_at dksX2_over_8 14 rfl rfl)
theorem md_X2_over : xMd yX2_over cX2_over 10 (Option.some Jvm.ClassFile.FieldType.int) 3 := ⟨q3401, q126, by decide, by decide +kernel, by decide +kernel, by decide +kernel⟩
def T_over_179  (k95 : Int32 × Int32 × Int32 × Int32 × Int32 × Int32 × Int32 × Int32 × TS → Option (xO × TS)) (v1 : Int32) (v2 : Int32) (v3 : Int32) (v4 : Int32) (v5 : Int32) (v6 : Int32) (v7 : Int32) (v8 : Int32) (s0 : TS) : Option (xO × TS) :=
  (bnd (v8 + 1) fun x13 =>
  (k95 (v1, v2, v3, v4, v5, v6, v7, x13, s0)))
def T_over_171  (k95 : Int32 × Int32 × Int32 × Int32 × Int32 × Int32 × Int32 × Int32 × TS → Option (xO × TS)) (v1 : Int32) (v2 : Int32) (v3 : Int32) (v6 : Int32) (v7 : Int32) (v8 : Int32) (v9 : Int32) (s0 : TS) : Option (xO × TS) :=
  (T_over_179 k95 v1 v2 v3 v9 v6 v6 v7 v8 s0)
def T_over_148  (k95 : Int32 × Int32 × Int32 × Int32 × Int32 × Int32 × Int32 × Int32 × TS → Option (xO × TS)) (v1 : Int32) (v2 : Int32) (v3 : Int32) (v4 : Int32) (v5 : Int32) (v6 : Int32) (v7 : Int32) (v8 : Int32) (w0 : Int32) (s0 : TS) : Option (xO × TS) :=
  (if w0 = (-2) then
  (T_over_179 k95 v1 v2 v3 v4 v5 v6 v7 v8 s0) else
  (if v4 = (-2) then
  (T_over_171 k95 v1 v2 v3 v6 v7 v8 w0 s0) else
  (if v4 ≤ w0 then
  (T_over_179 k95 v1 v2 v3 v4 v5 v6 v7 v8 s0) else
  (T_over_171 k95 v1 v2 v3 v6 v7 v8 w0 s0))))
def T_over_146  (k95 : Int32 × Int32 × Int32 × Int32 × Int32 × Int32 × Int32 × Int32 × TS → Option (xO × TS)) (v1 : Int32) (v2 : Int32) (v3 : Int32) (v4 : Int32) (v5 : Int32) (v6 : Int32) (v7 : Int32) (v8 : Int32) (s0 : TS) : Option (xO × TS) :=
  (T_over_148 k95 v1 v2 v3 v4 v5 v6 v7 v8 (-2) s0)
def T_over_95F  (k69 : Int32 × Int32 × Int32 × Int32 × Int32 × Int32 × TS → Option (xO × TS)) (k95 : Int32 × Int32 × Int32 × Int32 × Int32 × Int32 × Int32 × Int32 × TS → Option (xO × TS)) (p : Int32 × Int32 × Int32 × Int32 × Int32 × Int32 × Int32 × Int32 × TS) : Option (xO × TS) := match p with
  | (v1, v2, v3, v4, v5, v6, v7, v8, s0) => (tald s0 7 (4 + v7) fun x9 =>
  (if x9 ≤ v8 then
  (bnd (v6 + 1) fun x10 =>
  (k69 (v1, v2, v3, v4, v5, x10, s0))) else
  (xcI (T_codeOf s0 v7 (v8 - 1)) fun x12 s11 =>
  (if x12 = v1 then
  (xcI (T_codeOf s11 v7 v8) fun x15 s14 =>
  (if x15 = v2 then
  (xcI (T_legOf s14 v6 v8) fun x17 s16 =>
  (T_over_148 k95 v1 v2 v3 v4 v5 v6 v7 v8 x17 s16)) else
  (T_over_146 k95 v1 v2 v3 v4 v5 v6 v7 v8 s14))) else
  (T_over_146 k95 v1 v2 v3 v4 v5 v6 v7 v8 s11)))))
def T_over_69F   (k69 : Int32 × Int32 × Int32 × Int32 × Int32 × Int32 × TS → Option (xO × TS)) (p : Int32 × Int32 × Int32 × Int32 × Int32 × Int32 × TS) : Option (xO × TS) := match p with
  | (v1, v2, v3, v4, v5, v6, s0) => (tald s0 7 1 fun x7 =>
  (if x7 ≤ v6 then
  (if v3 = 0 then
  (rI v4 s0) else
  (rI v5 s0)) else
  (tald s0 7 (37 + v6) fun x8 =>
  (lp (T_over_95F k69) FU (v1, v2, v3, v4, v5, v6, x8, 1, s0)))))
def T_over_47   (v1 : Int32) (v2 : Int32) (v3 : Int32) (w1 : Int32) (w2 : Int32) (s0 : TS) : Option (xO × TS) :=
  (xcI (T_unless s0 w1 w2) fun x4 s3 =>
  (xcI (T_isRefused s3 x4) fun x6 s5 =>
  (if x6 = 0 then
  (lp (T_over_69F) FU (v1, v2, v3, (-2), (-2), 0, s5)) else
  (rI (-1) s5))))
def T_over_46   (v1 : Int32) (v2 : Int32) (v3 : Int32) (w1 : Int32) (s0 : TS) : Option (xO × TS) :=
  (T_over_47 v1 v2 v3 w1 0 s0)
def T_over_22   (v1 : Int32) (v2 : Int32) (v3 : Int32) (w1 : Int32) (s0 : TS) : Option (xO × TS) :=
  (xcI (T_in s0 v1 1 99) fun x2 s1 =>
  (if x2 = 0 then
  (T_over_46 v1 v2 v3 w1 s1) else
  (xcI (T_in s1 v2 1 99) fun x19 s18 =>
  (if x19 = 0 then
  (T_over_46 v1 v2 v3 w1 s18) else
  (T_over_47 v1 v2 v3 w1 1 s18)))))
def T_over_21   (v1 : Int32) (v2 : Int32) (v3 : Int32) (s0 : TS) : Option (xO × TS) :=
  (T_over_22 v1 v2 v3 0 s0)
def T_over (s0 : TS) (a1 : Int32) (a2 : Int32) (a3 : Int32) : Option (xO × TS) :=
  (if (s0.1 6) = 0 then
  (T_over_21 a1 a2 a3 s0) else
  (xcI (T_in s0 a3 0 1) fun x21 s20 =>
  (if x21 = 0 then
  (T_over_21 a1 a2 a3 s20) else
  (T_over_22 a1 a2 a3 1 s20))))
theorem T_over_179_ok {G : xG} {E : TE} (hO : xOK G) (hE : tok E)  {k95 : Int32 × Int32 × Int32 × Int32 × Int32 × Int32 × Int32 × Int32 × TS → Option (xO × TS)} (hk95 : ∀ (v1 : Int32) (v2 : Int32) (v3 : Int32) (v4 : Int32) (v5 : Int32) (v6 : Int32) (v7 : Int32) (v8 : Int32) (s0 : TS), XT G E "ForestLegsModel" "over" cX2_over 10 (Option.some Jvm.ClassFile.FieldType.int) 5 95 [(0, .ref E.2.1), (1, .int v1), (2, .int v2), (3, .int v3), (4, .int v4), (5, .int v5), (6, .int v6), (7, .int v7), (8, .int v8)] [] s0 (k95 (v1, v2, v3, v4, v5, v6, v7, v8, s0))) (v1 : Int32) (v2 : Int32) (v3 : Int32) (v4 : Int32) (v5 : Int32) (v6 : Int32) (v7 : Int32) (v8 : Int32) (s0 : TS) : XT G E "ForestLegsModel" "over" cX2_over 10 (Option.some Jvm.ClassFile.FieldType.int) 5 179 [(0, .ref E.2.1), (1, .int v1), (2, .int v2), (3, .int v3), (4, .int v4), (5, .int v5), (6, .int v6), (7, .int v7), (8, .int v8)] [] s0 (T_over_179 k95 v1 v2 v3 v4 v5 v6 v7 v8 s0) := by
  unfold T_over_179
  refine tw_iinc 8 (fun x13 => [(8, .int x13), (0, .ref E.2.1), (1, .int v1), (2, .int v2), (3, .int v3), (4, .int v4), (5, .int v5), (6, .int v6), (7, .int v7)]) dX2_over_179 rfl rfl (by decide) (fun _ => rfl) (n := 182) rfl (fun x13 => ?_)
  refine x_goto dX2_over_182 (n := 95) (by decide) ?_
  refine x_sub [1, 2, 3, 4, 5, 6, 7, 8, 0] [(0, .ref E.2.1), (1, .int v1), (2, .int v2), (3, .int v3), (4, .int v4), (5, .int v5), (6, .int v6), (7, .int v7), (8, .int x13)] rfl ?_
  exact hk95 v1 v2 v3 v4 v5 v6 v7 x13 s0
theorem T_over_171_ok {G : xG} {E : TE} (hO : xOK G) (hE : tok E)  {k95 : Int32 × Int32 × Int32 × Int32 × Int32 × Int32 × Int32 × Int32 × TS → Option (xO × TS)} (hk95 : ∀ (v1 : Int32) (v2 : Int32) (v3 : Int32) (v4 : Int32) (v5 : Int32) (v6 : Int32) (v7 : Int32) (v8 : Int32) (s0 : TS), XT G E "ForestLegsModel" "over" cX2_over 10 (Option.some Jvm.ClassFile.FieldType.int) 5 95 [(0, .ref E.2.1), (1, .int v1), (2, .int v2), (3, .int v3), (4, .int v4), (5, .int v5), (6, .int v6), (7, .int v7), (8, .int v8)] [] s0 (k95 (v1, v2, v3, v4, v5, v6, v7, v8, s0))) (v1 : Int32) (v2 : Int32) (v3 : Int32) (v6 : Int32) (v7 : Int32) (v8 : Int32) (v9 : Int32) (s0 : TS) : XT G E "ForestLegsModel" "over" cX2_over 10 (Option.some Jvm.ClassFile.FieldType.int) 5 171 [(0, .ref E.2.1), (1, .int v1), (2, .int v2), (3, .int v3), (6, .int v6), (7, .int v7), (8, .int v8), (9, .int v9)] [] s0 (T_over_171 k95 v1 v2 v3 v6 v7 v8 v9 s0) := by
  unfold T_over_171
  refine x_iload 7 dX2_over_171 rfl (n := 173) rfl ?_
  refine x_istore [(4, .int v9), (0, .ref E.2.1), (1, .int v1), (2, .int v2), (3, .int v3), (6, .int v6), (7, .int v7), (8, .int v8), (9, .int v9)] dX2_over_173 (by decide) rfl (n := 175) rfl ?_
  refine x_iload 5 dX2_over_175 rfl (n := 177) rfl ?_
  refine x_istore [(5, .int v6), (4, .int v9), (0, .ref E.2.1), (1, .int v1), (2, .int v2), (3, .int v3), (6, .int v6), (7, .int v7), (8, .int v8), (9, .int v9)] dX2_over_177 (by decide) rfl (n := 179) rfl ?_
  refine x_sub [2, 3, 4, 5, 1, 0, 6, 7, 8] [(0, .ref E.2.1), (1, .int v1), (2, .int v2), (3, .int v3), (4, .int v9), (5, .int v6), (6, .int v6), (7, .int v7), (8, .int v8)] rfl ?_
  exact T_over_179_ok hO hE hk95 v1 v2 v3 v9 v6 v6 v7 v8 s0
theorem T_over_148_ok {G : xG} {E : TE} (hO : xOK G) (hE : tok E)  {k95 : Int32 × Int32 × Int32 × Int32 × Int32 × Int32 × Int32 × Int32 × TS → Option (xO × TS)} (hk95 : ∀ (v1 : Int32) (v2 : Int32) (v3 : Int32) (v4 : Int32) (v5 : Int32) (v6 : Int32) (v7 : Int32) (v8 : Int32) (s0 : TS), XT G E "ForestLegsModel" "over" cX2_over 10 (Option.some Jvm.ClassFile.FieldType.int) 5 95 [(0, .ref E.2.1), (1, .int v1), (2, .int v2), (3, .int v3), (4, .int v4), (5, .int v5), (6, .int v6), (7, .int v7), (8, .int v8)] [] s0 (k95 (v1, v2, v3, v4, v5, v6, v7, v8, s0))) (v1 : Int32) (v2 : Int32) (v3 : Int32) (v4 : Int32) (v5 : Int32) (v6 : Int32) (v7 : Int32) (v8 : Int32) (w0 : Int32) (s0 : TS) : XT G E "ForestLegsModel" "over" cX2_over 10 (Option.some Jvm.ClassFile.FieldType.int) 5 148 [(0, .ref E.2.1), (1, .int v1), (2, .int v2), (3, .int v3), (4, .int v4), (5, .int v5), (6, .int v6), (7, .int v7), (8, .int v8)] [.int w0] s0 (T_over_148 k95 v1 v2 v3 v4 v5 v6 v7 v8 w0 s0) := by
  unfold T_over_148
  refine x_istore [(9, .int w0), (0, .ref E.2.1), (1, .int v1), (2, .int v2), (3, .int v3), (4, .int v4), (5, .int v5), (6, .int v6), (7, .int v7), (8, .int v8)] dX2_over_148 (by decide) rfl (n := 150) rfl ?_
  refine x_iload 0 dX2_over_150 rfl (n := 152) rfl ?_
  refine x_bipush (-2) dX2_over_152 rfl (n := 154) rfl ?_
  refine tw_icmp_eq dX2_over_154 (t := 179) (by decide) (n := 157) rfl ?_ ?_
  · refine x_sub [1, 2, 3, 4, 5, 6, 7, 8, 9] [(0, .ref E.2.1), (1, .int v1), (2, .int v2), (3, .int v3), (4, .int v4), (5, .int v5), (6, .int v6), (7, .int v7), (8, .int v8)] rfl ?_
    exact T_over_179_ok hO hE hk95 v1 v2 v3 v4 v5 v6 v7 v8 s0
  · refine x_iload 5 dX2_over_157 rfl (n := 159) rfl ?_
    refine x_bipush (-2) dX2_over_159 rfl (n := 161) rfl ?_
    refine tw_icmp_eq dX2_over_161 (t := 171) (by decide) (n := 164) rfl ?_ ?_
    · refine x_sub [1, 2, 3, 4, 7, 8, 9, 0] [(0, .ref E.2.1), (1, .int v1), (2, .int v2), (3, .int v3), (6, .int v6), (7, .int v7), (8, .int v8), (9, .int w0)] rfl ?_
      exact T_over_171_ok hO hE hk95 v1 v2 v3 v6 v7 v8 w0 s0
    · refine x_iload 0 dX2_over_164 rfl (n := 166) rfl ?_
      refine x_iload 5 dX2_over_166 rfl (n := 168) rfl ?_
      refine tw_icmp_ge dX2_over_168 (t := 179) (by decide) (n := 171) rfl ?_ ?_
      · refine x_sub [1, 2, 3, 4, 5, 6, 7, 8, 9] [(0, .ref E.2.1), (1, .int v1), (2, .int v2), (3, .int v3), (4, .int v4), (5, .int v5), (6, .int v6), (7, .int v7), (8, .int v8)] rfl ?_
        exact T_over_179_ok hO hE hk95 v1 v2 v3 v4 v5 v6 v7 v8 s0
      · refine x_sub [1, 2, 3, 4, 7, 8, 9, 0] [(0, .ref E.2.1), (1, .int v1), (2, .int v2), (3, .int v3), (6, .int v6), (7, .int v7), (8, .int v8), (9, .int w0)] rfl ?_
        exact T_over_171_ok hO hE hk95 v1 v2 v3 v6 v7 v8 w0 s0
theorem T_over_146_ok {G : xG} {E : TE} (hO : xOK G) (hE : tok E)  {k95 : Int32 × Int32 × Int32 × Int32 × Int32 × Int32 × Int32 × Int32 × TS → Option (xO × TS)} (hk95 : ∀ (v1 : Int32) (v2 : Int32) (v3 : Int32) (v4 : Int32) (v5 : Int32) (v6 : Int32) (v7 : Int32) (v8 : Int32) (s0 : TS), XT G E "ForestLegsModel" "over" cX2_over 10 (Option.some Jvm.ClassFile.FieldType.int) 5 95 [(0, .ref E.2.1), (1, .int v1), (2, .int v2), (3, .int v3), (4, .int v4), (5, .int v5), (6, .int v6), (7, .int v7), (8, .int v8)] [] s0 (k95 (v1, v2, v3, v4, v5, v6, v7, v8, s0))) (v1 : Int32) (v2 : Int32) (v3 : Int32) (v4 : Int32) (v5 : Int32) (v6 : Int32) (v7 : Int32) (v8 : Int32) (s0 : TS) : XT G E "ForestLegsModel" "over" cX2_over 10 (Option.some Jvm.ClassFile.FieldType.int) 5 146 [(0, .ref E.2.1), (1, .int v1), (2, .int v2), (3, .int v3), (4, .int v4), (5, .int v5), (6, .int v6), (7, .int v7), (8, .int v8)] [] s0 (T_over_146 k95 v1 v2 v3 v4 v5 v6 v7 v8 s0) := by
  unfold T_over_146
  refine x_bipush (-2) dX2_over_146 rfl (n := 148) rfl ?_
  exact T_over_148_ok hO hE hk95 v1 v2 v3 v4 v5 v6 v7 v8 (-2) s0
theorem T_over_95F_ok {G : xG} {E : TE} (hO : xOK G) (hE : tok E)  {k69 : Int32 × Int32 × Int32 × Int32 × Int32 × Int32 × TS → Option (xO × TS)} (hk69 : ∀ (v1 : Int32) (v2 : Int32) (v3 : Int32) (v4 : Int32) (v5 : Int32) (v6 : Int32) (s0 : TS), XT G E "ForestLegsModel" "over" cX2_over 10 (Option.some Jvm.ClassFile.FieldType.int) 5 69 [(0, .ref E.2.1), (1, .int v1), (2, .int v2), (3, .int v3), (4, .int v4), (5, .int v5), (6, .int v6)] [] s0 (k69 (v1, v2, v3, v4, v5, v6, s0))) {k95 : Int32 × Int32 × Int32 × Int32 × Int32 × Int32 × Int32 × Int32 × TS → Option (xO × TS)} (hk95 : ∀ (v1 : Int32) (v2 : Int32) (v3 : Int32) (v4 : Int32) (v5 : Int32) (v6 : Int32) (v7 : Int32) (v8 : Int32) (s0 : TS), XT G E "ForestLegsModel" "over" cX2_over 10 (Option.some Jvm.ClassFile.FieldType.int) 5 95 [(0, .ref E.2.1), (1, .int v1), (2, .int v2), (3, .int v3), (4, .int v4), (5, .int v5), (6, .int v6), (7, .int v7), (8, .int v8)] [] s0 (k95 (v1, v2, v3, v4, v5, v6, v7, v8, s0))) (v1 : Int32) (v2 : Int32) (v3 : Int32) (v4 : Int32) (v5 : Int32) (v6 : Int32) (v7 : Int32) (v8 : Int32) (s0 : TS) : XT G E "ForestLegsModel" "over" cX2_over 10 (Option.some Jvm.ClassFile.FieldType.int) 5 95 [(0, .ref E.2.1), (1, .int v1), (2, .int v2), (3, .int v3), (4, .int v4), (5, .int v5), (6, .int v6), (7, .int v7), (8, .int v8)] [] s0 (T_over_95F k69 k95 (v1, v2, v3, v4, v5, v6, v7, v8, s0)) := by
  unfold T_over_95F
  refine x_iload 8 dX2_over_95 rfl (n := 97) rfl ?_
  refine x_aload_nr 0 dX2_over_97 rfl rfl (n := 98) rfl ?_
  refine tw_getA fl_X2_17 rfl (by decide) dX2_over_98 (n := 101) rfl ?_
  refine x_iconst 4 dX2_over_101 rfl (n := 102) rfl ?_
  refine x_iload 7 dX2_over_102 rfl (n := 104) rfl ?_
  refine x_iadd dX2_over_104 (n := 105) rfl ?_
  refine tw_iald hE (by decide) dX2_over_105 (n := 106) rfl (fun x9 => ?_)
  refine tw_icmp_ge dX2_over_106 (t := 185) (by decide) (n := 109) rfl ?_ ?_
  · refine tw_iinc 6 (fun x10 => [(6, .int x10), (0, .ref E.2.1), (1, .int v1), (2, .int v2), (3, .int v3), (4, .int v4), (5, .int v5), (7, .int v7), (8, .int v8)]) dX2_over_185 rfl rfl (by decide) (fun _ => rfl) (n := 188) rfl (fun x10 => ?_)
    refine x_goto dX2_over_188 (n := 69) (by decide) ?_
    refine x_sub [1, 2, 3, 4, 5, 6, 0] [(0, .ref E.2.1), (1, .int v1), (2, .int v2), (3, .int v3), (4, .int v4), (5, .int v5), (6, .int x10)] rfl ?_
    exact hk69 v1 v2 v3 v4 v5 x10 s0
  · refine x_aload_nr 0 dX2_over_109 rfl rfl (n := 110) rfl ?_
    refine x_iload 7 dX2_over_110 rfl (n := 112) rfl ?_
    refine x_iload 8 dX2_over_112 rfl (n := 114) rfl ?_
    refine x_iconst 1 dX2_over_114 rfl (n := 115) rfl ?_
    refine x_isub dX2_over_115 (n := 116) rfl ?_
    refine tw_callV_I [.int v7, .int (v8 - 1)] [] (T_codeOf_ok hO hE s0 v7 (v8 - 1)) md_X2_codeOf q3147 q3149 qs85 dX2_over_116 rfl rfl (by decide) (Nat.le_of_ble_eq_true rfl) (n := 119) rfl (fun x12 s11 => ?_)
    refine x_iload_n 1 dX2_over_119 rfl rfl (n := 120) rfl ?_
    refine tw_icmp_ne dX2_over_120 (t := 146) (by decide) (n := 123) rfl ?_ ?_
    · exact T_over_146_ok hO hE hk95 v1 v2 v3 v4 v5 v6 v7 v8 s11
    · refine x_aload_nr 0 dX2_over_123 rfl rfl (n := 124) rfl ?_
      refine x_iload 7 dX2_over_124 rfl (n := 126) rfl ?_
      refine x_iload 8 dX2_over_126 rfl (n := 128) rfl ?_
      refine tw_callV_I [.int v7, .int v8] [] (T_codeOf_ok hO hE s11 v7 v8) md_X2_codeOf q3147 q3149 qs85 dX2_over_128 rfl rfl (by decide) (Nat.le_of_ble_eq_true rfl) (n := 131) rfl (fun x15 s14 => ?_)
      refine x_iload_n 2 dX2_over_131 rfl rfl (n := 132) rfl ?_
      refine tw_icmp_ne dX2_over_132 (t := 146) (by decide) (n := 135) rfl ?_ ?_
      · exact T_over_146_ok hO hE hk95 v1 v2 v3 v4 v5 v6 v7 v8 s14
      · refine x_aload_nr 0 dX2_over_135 rfl rfl (n := 136) rfl ?_
        refine x_iload 6 dX2_over_136 rfl (n := 138) rfl ?_
        refine x_iload 8 dX2_over_138 rfl (n := 140) rfl ?_
        refine tw_callV_I [.int v6, .int v8] [] (T_legOf_ok hO hE s14 v6 v8) md_X2_legOf q3179 q3181 qs92 dX2_over_140 rfl rfl (by decide) (Nat.le_of_ble_eq_true rfl) (n := 143) rfl (fun x17 s16 => ?_)
        refine x_goto dX2_over_143 (n := 148) (by decide) ?_
        exact T_over_148_ok hO hE hk95 v1 v2 v3 v4 v5 v6 v7 v8 x17 s16
theorem T_over_95_lp {G : xG} {E : TE} (hO : xOK G) (hE : tok E)  {k69 : Int32 × Int32 × Int32 × Int32 × Int32 × Int32 × TS → Option (xO × TS)} (hk69 : ∀ (v1 : Int32) (v2 : Int32) (v3 : Int32) (v4 : Int32) (v5 : Int32) (v6 : Int32) (s0 : TS), XT G E "ForestLegsModel" "over" cX2_over 10 (Option.some Jvm.ClassFile.FieldType.int) 5 69 [(0, .ref E.2.1), (1, .int v1), (2, .int v2), (3, .int v3), (4, .int v4), (5, .int v5), (6, .int v6)] [] s0 (k69 (v1, v2, v3, v4, v5, v6, s0))) (n : Nat) (v1 : Int32) (v2 : Int32) (v3 : Int32) (v4 : Int32) (v5 : Int32) (v6 : Int32) (v7 : Int32) (v8 : Int32) (s0 : TS) : XT G E "ForestLegsModel" "over" cX2_over 10 (Option.some Jvm.ClassFile.FieldType.int) 5 95 [(0, .ref E.2.1), (1, .int v1), (2, .int v2), (3, .int v3), (4, .int v4), (5, .int v5), (6, .int v6), (7, .int v7), (8, .int v8)] [] s0 (lp (T_over_95F k69) n (v1, v2, v3, v4, v5, v6, v7, v8, s0)) :=
  lp_ok (W := fun p K => XT G E "ForestLegsModel" "over" cX2_over 10 (Option.some Jvm.ClassFile.FieldType.int) 5 95 [(0, .ref E.2.1), (1, .int p.1), (2, .int p.2.1), (3, .int p.2.2.1), (4, .int p.2.2.2.1), (5, .int p.2.2.2.2.1), (6, .int p.2.2.2.2.2.1), (7, .int p.2.2.2.2.2.2.1), (8, .int p.2.2.2.2.2.2.2.1)] [] p.2.2.2.2.2.2.2.2 K) (fun _ => tw_no) (fun k hk => fun (v1, v2, v3, v4, v5, v6, v7, v8, s0) => T_over_95F_ok hO hE hk69 (fun v1 v2 v3 v4 v5 v6 v7 v8 s0 => hk (v1, v2, v3, v4, v5, v6, v7, v8, s0)) v1 v2 v3 v4 v5 v6 v7 v8 s0) n (v1, v2, v3, v4, v5, v6, v7, v8, s0)
theorem T_over_69F_ok {G : xG} {E : TE} (hO : xOK G) (hE : tok E)   {k69 : Int32 × Int32 × Int32 × Int32 × Int32 × Int32 × TS → Option (xO × TS)} (hk69 : ∀ (v1 : Int32) (v2 : Int32) (v3 : Int32) (v4 : Int32) (v5 : Int32) (v6 : Int32) (s0 : TS), XT G E "ForestLegsModel" "over" cX2_over 10 (Option.some Jvm.ClassFile.FieldType.int) 5 69 [(0, .ref E.2.1), (1, .int v1), (2, .int v2), (3, .int v3), (4, .int v4), (5, .int v5), (6, .int v6)] [] s0 (k69 (v1, v2, v3, v4, v5, v6, s0))) (v1 : Int32) (v2 : Int32) (v3 : Int32) (v4 : Int32) (v5 : Int32) (v6 : Int32) (s0 : TS) : XT G E "ForestLegsModel" "over" cX2_over 10 (Option.some Jvm.ClassFile.FieldType.int) 5 69 [(0, .ref E.2.1), (1, .int v1), (2, .int v2), (3, .int v3), (4, .int v4), (5, .int v5), (6, .int v6)] [] s0 (T_over_69F k69 (v1, v2, v3, v4, v5, v6, s0)) := by
  unfold T_over_69F
  refine x_iload 6 dX2_over_69 rfl (n := 71) rfl ?_
  refine x_aload_nr 0 dX2_over_71 rfl rfl (n := 72) rfl ?_
  refine tw_getA fl_X2_17 rfl (by decide) dX2_over_72 (n := 75) rfl ?_
  refine x_iconst 1 dX2_over_75 rfl (n := 76) rfl ?_
  refine tw_iald hE (by decide) dX2_over_76 (n := 77) rfl (fun x7 => ?_)
  refine tw_icmp_ge dX2_over_77 (t := 191) (by decide) (n := 80) rfl ?_ ?_
  · refine x_iload_n 3 dX2_over_191 rfl rfl (n := 192) rfl ?_
    refine tw_if_ne dX2_over_192 (t := 200) (by decide) (n := 195) rfl ?_ ?_
    · refine x_iload 5 dX2_over_200 rfl (n := 202) rfl ?_
      exact tw_ireturn dX2_over_202
    · refine x_iload 4 dX2_over_195 rfl (n := 197) rfl ?_
      refine x_goto dX2_over_197 (n := 202) (by decide) ?_
      exact tw_ireturn dX2_over_202
  · refine x_aload_nr 0 dX2_over_80 rfl rfl (n := 81) rfl ?_
    refine tw_getA fl_X2_17 rfl (by decide) dX2_over_81 (n := 84) rfl ?_
    refine x_bipush 37 dX2_over_84 rfl (n := 86) rfl ?_
    refine x_iload 6 dX2_over_86 rfl (n := 88) rfl ?_
    refine x_iadd dX2_over_88 (n := 89) rfl ?_
    refine tw_iald hE (by decide) dX2_over_89 (n := 90) rfl (fun x8 => ?_)
    refine x_istore [(7, .int x8), (0, .ref E.2.1), (1, .int v1), (2, .int v2), (3, .int v3), (4, .int v4), (5, .int v5), (6, .int v6)] dX2_over_90 (by decide) rfl (n := 92) rfl ?_
    refine x_iconst 1 dX2_over_92 rfl (n := 93) rfl ?_
    refine x_istore [(8, .int 1), (7, .int x8), (0, .ref E.2.1), (1, .int v1), (2, .int v2), (3, .int v3), (4, .int v4), (5, .int v5), (6, .int v6)] dX2_over_93 (by decide) rfl (n := 95) rfl ?_
    refine x_sub [2, 3, 4, 5, 6, 7, 8, 1, 0] [(0, .ref E.2.1), (1, .int v1), (2, .int v2), (3, .int v3), (4, .int v4), (5, .int v5), (6, .int v6), (7, .int x8), (8, .int 1)] rfl ?_
    exact T_over_95_lp hO hE hk69 FU v1 v2 v3 v4 v5 v6 x8 1 s0
theorem T_over_69_lp {G : xG} {E : TE} (hO : xOK G) (hE : tok E)   (n : Nat) (v1 : Int32) (v2 : Int32) (v3 : Int32) (v4 : Int32) (v5 : Int32) (v6 : Int32) (s0 : TS) : XT G E "ForestLegsModel" "over" cX2_over 10 (Option.some Jvm.ClassFile.FieldType.int) 5 69 [(0, .ref E.2.1), (1, .int v1), (2, .int v2), (3, .int v3), (4, .int v4), (5, .int v5), (6, .int v6)] [] s0 (lp (T_over_69F) n (v1, v2, v3, v4, v5, v6, s0)) :=
  lp_ok (W := fun p K => XT G E "ForestLegsModel" "over" cX2_over 10 (Option.some Jvm.ClassFile.FieldType.int) 5 69 [(0, .ref E.2.1), (1, .int p.1), (2, .int p.2.1), (3, .int p.2.2.1), (4, .int p.2.2.2.1), (5, .int p.2.2.2.2.1), (6, .int p.2.2.2.2.2.1)] [] p.2.2.2.2.2.2 K) (fun _ => tw_no) (fun k hk => fun (v1, v2, v3, v4, v5, v6, s0) => T_over_69F_ok hO hE (fun v1 v2 v3 v4 v5 v6 s0 => hk (v1, v2, v3, v4, v5, v6, s0)) v1 v2 v3 v4 v5 v6 s0) n (v1, v2, v3, v4, v5, v6, s0)
theorem T_over_47_ok {G : xG} {E : TE} (hO : xOK G) (hE : tok E)   (v1 : Int32) (v2 : Int32) (v3 : Int32) (w1 : Int32) (w2 : Int32) (s0 : TS) : XT G E "ForestLegsModel" "over" cX2_over 10 (Option.some Jvm.ClassFile.FieldType.int) 5 47 [(0, .ref E.2.1), (1, .int v1), (2, .int v2), (3, .int v3)] [.int w2, .int w1, .ref E.2.1] s0 (T_over_47 v1 v2 v3 w1 w2 s0) := by
  unfold T_over_47
  refine tw_callS_I [.int w1, .int w2] [.ref E.2.1] (T_unless_ok hO hE s0 w1 w2) md_X2_unless q3019 q3020 dX2_over_47 rfl rfl (by decide) (Nat.le_of_ble_eq_true rfl) (n := 50) rfl (fun x4 s3 => ?_)
  refine tw_callV_I [.int x4] [] (T_isRefused_ok hO hE s3 x4) md_X2_isRefused q3022 q3024 qs63 dX2_over_50 rfl rfl (by decide) (Nat.le_of_ble_eq_true rfl) (n := 53) rfl (fun x6 s5 => ?_)
  refine tw_if_eq dX2_over_53 (t := 58) (by decide) (n := 56) rfl ?_ ?_
  · refine x_bipush (-2) dX2_over_58 rfl (n := 60) rfl ?_
    refine x_istore [(4, .int (-2)), (0, .ref E.2.1), (1, .int v1), (2, .int v2), (3, .int v3)] dX2_over_60 (by decide) rfl (n := 62) rfl ?_
    refine x_bipush (-2) dX2_over_62 rfl (n := 64) rfl ?_
    refine x_istore [(5, .int (-2)), (4, .int (-2)), (0, .ref E.2.1), (1, .int v1), (2, .int v2), (3, .int v3)] dX2_over_64 (by decide) rfl (n := 66) rfl ?_
    refine x_iconst 0 dX2_over_66 rfl (n := 67) rfl ?_
    refine x_istore [(6, .int 0), (5, .int (-2)), (4, .int (-2)), (0, .ref E.2.1), (1, .int v1), (2, .int v2), (3, .int v3)] dX2_over_67 (by decide) rfl (n := 69) rfl ?_
    refine x_sub [3, 4, 5, 6, 2, 1, 0] [(0, .ref E.2.1), (1, .int v1), (2, .int v2), (3, .int v3), (4, .int (-2)), (5, .int (-2)), (6, .int 0)] rfl ?_
    exact T_over_69_lp hO hE FU v1 v2 v3 (-2) (-2) 0 s5
  · refine x_iconst (-1) dX2_over_56 rfl (n := 57) rfl ?_
    exact tw_ireturn dX2_over_57
theorem T_over_46_ok {G : xG} {E : TE} (hO : xOK G) (hE : tok E)   (v1 : Int32) (v2 : Int32) (v3 : Int32) (w1 : Int32) (s0 : TS) : XT G E "ForestLegsModel" "over" cX2_over 10 (Option.some Jvm.ClassFile.FieldType.int) 5 46 [(0, .ref E.2.1), (1, .int v1), (2, .int v2), (3, .int v3)] [.int w1, .ref E.2.1] s0 (T_over_46 v1 v2 v3 w1 s0) := by
  unfold T_over_46
  refine x_iconst 0 dX2_over_46 rfl (n := 47) rfl ?_
  exact T_over_47_ok hO hE v1 v2 v3 w1 0 s0
theorem T_over_22_ok {G : xG} {E : TE} (hO : xOK G) (hE : tok E)   (v1 : Int32) (v2 : Int32) (v3 : Int32) (w1 : Int32) (s0 : TS) : XT G E "ForestLegsModel" "over" cX2_over 10 (Option.some Jvm.ClassFile.FieldType.int) 5 22 [(0, .ref E.2.1), (1, .int v1), (2, .int v2), (3, .int v3)] [.int w1, .ref E.2.1] s0 (T_over_22 v1 v2 v3 w1 s0) := by
  unfold T_over_22
  refine x_iload_n 1 dX2_over_22 rfl rfl (n := 23) rfl ?_
  refine x_iconst 1 dX2_over_23 rfl (n := 24) rfl ?_
  refine x_bipush 99 dX2_over_24 rfl (n := 26) rfl ?_
  refine tw_callS_I [.int v1, .int 1, .int 99] [.int w1, .ref E.2.1] (T_in_ok hO hE s0 v1 1 99) md_X2_in q3016 q3017 dX2_over_26 rfl rfl (by decide) (Nat.le_of_ble_eq_true rfl) (n := 29) rfl (fun x2 s1 => ?_)
  refine tw_if_eq dX2_over_29 (t := 46) (by decide) (n := 32) rfl ?_ ?_
  · exact T_over_46_ok hO hE v1 v2 v3 w1 s1
  · refine x_iload_n 2 dX2_over_32 rfl rfl (n := 33) rfl ?_
    refine x_iconst 1 dX2_over_33 rfl (n := 34) rfl ?_
    refine x_bipush 99 dX2_over_34 rfl (n := 36) rfl ?_
    refine tw_callS_I [.int v2, .int 1, .int 99] [.int w1, .ref E.2.1] (T_in_ok hO hE s1 v2 1 99) md_X2_in q3016 q3017 dX2_over_36 rfl rfl (by decide) (Nat.le_of_ble_eq_true rfl) (n := 39) rfl (fun x19 s18 => ?_)
    refine tw_if_eq dX2_over_39 (t := 46) (by decide) (n := 42) rfl ?_ ?_
    · exact T_over_46_ok hO hE v1 v2 v3 w1 s18
    · refine x_iconst 1 dX2_over_42 rfl (n := 43) rfl ?_
      refine x_goto dX2_over_43 (n := 47) (by decide) ?_
      exact T_over_47_ok hO hE v1 v2 v3 w1 1 s18
theorem T_over_21_ok {G : xG} {E : TE} (hO : xOK G) (hE : tok E)   (v1 : Int32) (v2 : Int32) (v3 : Int32) (s0 : TS) : XT G E "ForestLegsModel" "over" cX2_over 10 (Option.some Jvm.ClassFile.FieldType.int) 5 21 [(0, .ref E.2.1), (1, .int v1), (2, .int v2), (3, .int v3)] [.ref E.2.1] s0 (T_over_21 v1 v2 v3 s0) := by
  unfold T_over_21
  refine x_iconst 0 dX2_over_21 rfl (n := 22) rfl ?_
  exact T_over_22_ok hO hE v1 v2 v3 0 s0
theorem T_over_ok {G : xG} {E : TE} (hO : xOK G) (hE : tok E) (s0 : TS) (a1 : Int32) (a2 : Int32) (a3 : Int32) : CTT G E 5 yX2_over cX2_over 10 (Option.some Jvm.ClassFile.FieldType.int) [.ref E.2.1, .int a1, .int a2, .int a3] s0 (T_over s0 a1 a2 a3) := by
  refine CT_of hO (by decide +kernel) (by decide +kernel) (Nat.le_of_ble_eq_true rfl) ?_
  show XT G E "ForestLegsModel" "over" cX2_over 10 (Option.some Jvm.ClassFile.FieldType.int) 5 0 [(0, .ref E.2.1), (1, .int a1), (2, .int a2), (3, .int a3)] [] s0 (T_over s0 a1 a2 a3)
  refine x_aload_nr 0 dX2_over_0 rfl rfl (n := 1) rfl ?_
  refine x_aload_nr 0 dX2_over_1 rfl rfl (n := 2) rfl ?_
  refine tw_getI fl_X2_173 rfl (by decide) dX2_over_2 (n := 5) rfl ?_
  refine tw_if_eq dX2_over_5 (t := 21) (by decide) (n := 8) rfl ?_ ?_
  · exact T_over_21_ok hO hE a1 a2 a3 s0
  · refine x_iload_n 3 dX2_over_8 rfl rfl (n := 9) rfl ?_
    refine x_iconst 0 dX2_over_9 rfl (n := 10) rfl ?_
    refine x_iconst 1 dX2_over_10 rfl (n := 11) rfl ?_
    refine tw_callS_I [.int a3, .int 0, .int 1] [.ref E.2.1] (T_in_ok hO hE s0 a3 0 1) md_X2_in q3016 q3017 dX2_over_11 rfl rfl (by decide) (Nat.le_of_ble_eq_true rfl) (n := 14) rfl (fun x21 s20 => ?_)
    refine tw_if_eq dX2_over_14 (t := 21) (by decide) (n := 17) rfl ?_ ?_
    · exact T_over_21_ok hO hE a1 a2 a3 s20
    · refine x_iconst 1 dX2_over_17 rfl (n := 18) rfl ?_
      refine x_goto dX2_over_18 (n := 22) (by decide) ?_
      exact T_over_22_ok hO hE a1 a2 a3 1 s20
abbrev cX2_hasPair : ByteArray := prog_14_method_100_code
def yX2_hasPair : MethodName := ⟨RX2, "hasPair", "(IIII)Z"⟩
def dkwX2_hasPair_1 : List UInt8 := [27, 21, 5, 182, 0, 197, 29, 160, 0, 5, 4, 172, 132, 5, 1, 167, 255, 220, 3, 172]
abbrev dktX2_hasPair_1 : List UInt8 := dkwX2_hasPair_1 ++ []
def dkwX2_hasPair_0 : List UInt8 := [4, 54, 5, 21, 5, 21, 4, 162, 0, 35, 42, 27, 21, 5, 4, 100, 182, 0, 197, 28, 160, 0, 16, 42]
abbrev dktX2_hasPair_0 : List UInt8 := dkwX2_hasPair_0 ++ dktX2_hasPair_1
theorem dksX2_hasPair_0 : cX2_hasPair.data.toList.drop 0 = dktX2_hasPair_0 := by decide +kernel
theorem dksX2_hasPair_1 : cX2_hasPair.data.toList.drop 24 = dktX2_hasPair_1 := dk_seg dksX2_hasPair_0 24 rfl rfl
theorem dX2_hasPair_0 : decode cX2_hasPair 0 = .ok (.iconst 1, 1) := dk_4 (dk_at dksX2_hasPair_0 0 rfl rfl)
theorem dX2_hasPair_1 : decode cX2_hasPair 1 = .ok (.istore 5, 2) := dk_54 5 (dk_at dksX2_hasPair_0 1 rfl rfl)
theorem dX2_hasPair_3 : decode cX2_hasPair 3 = .ok (.iload 5, 2) := dk_21 5 (dk_at dksX2_hasPair_0 3 rfl rfl)
theorem dX2_hasPair_5 : decode cX2_hasPair 5 = .ok (.iload 4, 2) := dk_21 4 (dk_at dksX2_hasPair_0 5 rfl rfl)
theorem dX2_hasPair_7 : decode cX2_hasPair 7 = .ok (.if_icmp .ge 35, 3) := dk_162 0 35 (dk_at dksX2_hasPair_0 7 rfl rfl)
theorem dX2_hasPair_10 : decode cX2_hasPair 10 = .ok (.aload_n 0, 1) := dk_42 (dk_at dksX2_hasPair_0 10 rfl rfl)
theorem dX2_hasPair_11 : decode cX2_hasPair 11 = .ok (.iload_n 1, 1) := dk_27 (dk_at dksX2_hasPair_0 11 rfl rfl)
theorem dX2_hasPair_12 : decode cX2_hasPair 12 = .ok (.iload 5, 2) := dk_21 5 (dk_at dksX2_hasPair_0 12 rfl rfl)
theorem dX2_hasPair_14 : decode cX2_hasPair 14 = .ok (.iconst 1, 1) := dk_4 (dk_at dksX2_hasPair_0 14 rfl rfl)
theorem dX2_hasPair_15 : decode cX2_hasPair 15 = .ok (.isub, 1) := dk_100 (dk_at dksX2_hasPair_0 15 rfl rfl)
theorem dX2_hasPair_16 : decode cX2_hasPair 16 = .ok (.invokevirtual 197, 3) := dk_182 0 197 (dk_at dksX2_hasPair_0 16 rfl rfl)
theorem dX2_hasPair_19 : decode cX2_hasPair 19 = .ok (.iload_n 2, 1) := dk_28 (dk_at dksX2_hasPair_0 19 rfl rfl)
theorem dX2_hasPair_20 : decode cX2_hasPair 20 = .ok (.if_icmp .ne 16, 3) := dk_160 0 16 (dk_at dksX2_hasPair_0 20 rfl rfl)
theorem dX2_hasPair_23 : decode cX2_hasPair 23 = .ok (.aload_n 0, 1) := dk_42 (dk_at dksX2_hasPair_0 23 rfl rfl)
theorem dX2_hasPair_24 : decode cX2_hasPair 24 = .ok (.iload_n 1, 1) := dk_27 (dk_at dksX2_hasPair_1 0 rfl rfl)
theorem dX2_hasPair_25 : decode cX2_hasPair 25 = .ok (.iload 5, 2) := dk_21 5 (dk_at dksX2_hasPair_1 1 rfl rfl)
theorem dX2_hasPair_27 : decode cX2_hasPair 27 = .ok (.invokevirtual 197, 3) := dk_182 0 197 (dk_at dksX2_hasPair_1 3 rfl rfl)
theorem dX2_hasPair_30 : decode cX2_hasPair 30 = .ok (.iload_n 3, 1) := dk_29 (dk_at dksX2_hasPair_1 6 rfl rfl)
theorem dX2_hasPair_31 : decode cX2_hasPair 31 = .ok (.if_icmp .ne 5, 3) := dk_160 0 5 (dk_at dksX2_hasPair_1 7 rfl rfl)
theorem dX2_hasPair_34 : decode cX2_hasPair 34 = .ok (.iconst 1, 1) := dk_4 (dk_at dksX2_hasPair_1 10 rfl rfl)
theorem dX2_hasPair_35 : decode cX2_hasPair 35 = .ok (.ireturn, 1) := dk_172 (dk_at dksX2_hasPair_1 11 rfl rfl)
theorem dX2_hasPair_36 : decode cX2_hasPair 36 = .ok (.iinc 5 1, 3) := dk_132 5 1 (dk_at dksX2_hasPair_1 12 rfl rfl)
theorem dX2_hasPair_39 : decode cX2_hasPair 39 = .ok (.goto (-36), 3) := dk_167 255 220 (dk_at dksX2_hasPair_1 15 rfl rfl)
theorem dX2_hasPair_42 : decode cX2_hasPair 42 = .ok (.iconst 0, 1) := dk_3 (dk_at dksX2_hasPair_1 18 rfl rfl)
theorem dX2_hasPair_43 : decode cX2_hasPair 43 = .ok (.ireturn, 1) := dk_172 (dk_at dksX2_hasPair_1 19 rfl rfl)
theorem md_X2_hasPair : xMd yX2_hasPair cX2_hasPair 6 (Option.some Jvm.ClassFile.FieldType.boolean) 4 := ⟨q3409, q126, by decide, by decide +kernel, by decide +kernel, by decide +kernel⟩
def T_hasPair_36  (k3 : Int32 × Int32 × Int32 × Int32 × Int32 × TS → Option (xO × TS)) (v1 : Int32) (v2 : Int32) (v3 : Int32) (v4 : Int32) (v5 : Int32) (s0 : TS) : Option (xO × TS) :=
  (bnd (v5 + 1) fun x3 =>
  (k3 (v1, v2, v3, v4, x3, s0)))
def T_hasPair_3F   (k3 : Int32 × Int32 × Int32 × Int32 × Int32 × TS → Option (xO × TS)) (p : Int32 × Int32 × Int32 × Int32 × Int32 × TS) : Option (xO × TS) := match p with
  | (v1, v2, v3, v4, v5, s0) => (if v4 ≤ v5 then
  (if vp_nar .boolean 0 = 0 then rI 0 s0 else none) else
  (xcI (T_codeOf s0 v1 (v5 - 1)) fun x2 s1 =>
  (if x2 = v2 then
  (xcI (T_codeOf s1 v1 v5) fun x5 s4 =>
  (if x5 = v3 then
  (if vp_nar .boolean 1 = 1 then rI 1 s4 else none) else
  (T_hasPair_36 k3 v1 v2 v3 v4 v5 s4))) else
  (T_hasPair_36 k3 v1 v2 v3 v4 v5 s1))))
def T_hasPair (s0 : TS) (a1 : Int32) (a2 : Int32) (a3 : Int32) (a4 : Int32) : Option (xO × TS) :=
  (lp (T_hasPair_3F) FU (a1, a2, a3, a4, 1, s0))
theorem T_hasPair_36_ok {G : xG} {E : TE} (hO : xOK G) (hE : tok E)  {k3 : Int32 × Int32 × Int32 × Int32 × Int32 × TS → Option (xO × TS)} (hk3 : ∀ (v1 : Int32) (v2 : Int32) (v3 : Int32) (v4 : Int32) (v5 : Int32) (s0 : TS), XT G E "ForestLegsModel" "hasPair" cX2_hasPair 6 (Option.some Jvm.ClassFile.FieldType.boolean) 1 3 [(0, .ref E.2.1), (1, .int v1), (2, .int v2), (3, .int v3), (4, .int v4), (5, .int v5)] [] s0 (k3 (v1, v2, v3, v4, v5, s0))) (v1 : Int32) (v2 : Int32) (v3 : Int32) (v4 : Int32) (v5 : Int32) (s0 : TS) : XT G E "ForestLegsModel" "hasPair" cX2_hasPair 6 (Option.some Jvm.ClassFile.FieldType.boolean) 1 36 [(0, .ref E.2.1), (1, .int v1), (2, .int v2), (3, .int v3), (4, .int v4), (5, .int v5)] [] s0 (T_hasPair_36 k3 v1 v2 v3 v4 v5 s0) := by
  unfold T_hasPair_36
  refine tw_iinc 5 (fun x3 => [(5, .int x3), (0, .ref E.2.1), (1, .int v1), (2, .int v2), (3, .int v3), (4, .int v4)]) dX2_hasPair_36 rfl rfl (by decide) (fun _ => rfl) (n := 39) rfl (fun x3 => ?_)
  refine x_goto dX2_hasPair_39 (n := 3) (by decide) ?_
  refine x_sub [1, 2, 3, 4, 5, 0] [(0, .ref E.2.1), (1, .int v1), (2, .int v2), (3, .int v3), (4, .int v4), (5, .int x3)] rfl ?_
  exact hk3 v1 v2 v3 v4 x3 s0
theorem T_hasPair_3F_ok {G : xG} {E : TE} (hO : xOK G) (hE : tok E)   {k3 : Int32 × Int32 × Int32 × Int32 × Int32 × TS → Option (xO × TS)} (hk3 : ∀ (v1 : Int32) (v2 : Int32) (v3 : Int32) (v4 : Int32) (v5 : Int32) (s0 : TS), XT G E "ForestLegsModel" "hasPair" cX2_hasPair 6 (Option.some Jvm.ClassFile.FieldType.boolean) 1 3 [(0, .ref E.2.1), (1, .int v1), (2, .int v2), (3, .int v3), (4, .int v4), (5, .int v5)] [] s0 (k3 (v1, v2, v3, v4, v5, s0))) (v1 : Int32) (v2 : Int32) (v3 : Int32) (v4 : Int32) (v5 : Int32) (s0 : TS) : XT G E "ForestLegsModel" "hasPair" cX2_hasPair 6 (Option.some Jvm.ClassFile.FieldType.boolean) 1 3 [(0, .ref E.2.1), (1, .int v1), (2, .int v2), (3, .int v3), (4, .int v4), (5, .int v5)] [] s0 (T_hasPair_3F k3 (v1, v2, v3, v4, v5, s0)) := by
  unfold T_hasPair_3F
  refine x_iload 5 dX2_hasPair_3 rfl (n := 5) rfl ?_
  refine x_iload 4 dX2_hasPair_5 rfl (n := 7) rfl ?_
  refine tw_icmp_ge dX2_hasPair_7 (t := 42) (by decide) (n := 10) rfl ?_ ?_
  · refine x_iconst 0 dX2_hasPair_42 rfl (n := 43) rfl ?_
    exact tw_zreturn rfl dX2_hasPair_43
  · refine x_aload_nr 0 dX2_hasPair_10 rfl rfl (n := 11) rfl ?_
    refine x_iload_n 1 dX2_hasPair_11 rfl rfl (n := 12) rfl ?_
    refine x_iload 5 dX2_hasPair_12 rfl (n := 14) rfl ?_
    refine x_iconst 1 dX2_hasPair_14 rfl (n := 15) rfl ?_
    refine x_isub dX2_hasPair_15 (n := 16) rfl ?_
    refine tw_callV_I [.int v1, .int (v5 - 1)] [] (T_codeOf_ok hO hE s0 v1 (v5 - 1)) md_X2_codeOf q3147 q3149 qs85 dX2_hasPair_16 rfl rfl (by decide) (Nat.le_of_ble_eq_true rfl) (n := 19) rfl (fun x2 s1 => ?_)
    refine x_iload_n 2 dX2_hasPair_19 rfl rfl (n := 20) rfl ?_
    refine tw_icmp_ne dX2_hasPair_20 (t := 36) (by decide) (n := 23) rfl ?_ ?_
    · exact T_hasPair_36_ok hO hE hk3 v1 v2 v3 v4 v5 s1
    · refine x_aload_nr 0 dX2_hasPair_23 rfl rfl (n := 24) rfl ?_
      refine x_iload_n 1 dX2_hasPair_24 rfl rfl (n := 25) rfl ?_
      refine x_iload 5 dX2_hasPair_25 rfl (n := 27) rfl ?_
      refine tw_callV_I [.int v1, .int v5] [] (T_codeOf_ok hO hE s1 v1 v5) md_X2_codeOf q3147 q3149 qs85 dX2_hasPair_27 rfl rfl (by decide) (Nat.le_of_ble_eq_true rfl) (n := 30) rfl (fun x5 s4 => ?_)
      refine x_iload_n 3 dX2_hasPair_30 rfl rfl (n := 31) rfl ?_
      refine tw_icmp_ne dX2_hasPair_31 (t := 36) (by decide) (n := 34) rfl ?_ ?_
      · exact T_hasPair_36_ok hO hE hk3 v1 v2 v3 v4 v5 s4
      · refine x_iconst 1 dX2_hasPair_34 rfl (n := 35) rfl ?_
        exact tw_zreturn rfl dX2_hasPair_35
theorem T_hasPair_3_lp {G : xG} {E : TE} (hO : xOK G) (hE : tok E)   (n : Nat) (v1 : Int32) (v2 : Int32) (v3 : Int32) (v4 : Int32) (v5 : Int32) (s0 : TS) : XT G E "ForestLegsModel" "hasPair" cX2_hasPair 6 (Option.some Jvm.ClassFile.FieldType.boolean) 1 3 [(0, .ref E.2.1), (1, .int v1), (2, .int v2), (3, .int v3), (4, .int v4), (5, .int v5)] [] s0 (lp (T_hasPair_3F) n (v1, v2, v3, v4, v5, s0)) :=
  lp_ok (W := fun p K => XT G E "ForestLegsModel" "hasPair" cX2_hasPair 6 (Option.some Jvm.ClassFile.FieldType.boolean) 1 3 [(0, .ref E.2.1), (1, .int p.1), (2, .int p.2.1), (3, .int p.2.2.1), (4, .int p.2.2.2.1), (5, .int p.2.2.2.2.1)] [] p.2.2.2.2.2 K) (fun _ => tw_no) (fun k hk => fun (v1, v2, v3, v4, v5, s0) => T_hasPair_3F_ok hO hE (fun v1 v2 v3 v4 v5 s0 => hk (v1, v2, v3, v4, v5, s0)) v1 v2 v3 v4 v5 s0) n (v1, v2, v3, v4, v5, s0)
theorem T_hasPair_ok {G : xG} {E : TE} (hO : xOK G) (hE : tok E) (s0 : TS) (a1 : Int32) (a2 : Int32) (a3 : Int32) (a4 : Int32) : CTT G E 1 yX2_hasPair cX2_hasPair 6 (Option.some Jvm.ClassFile.FieldType.boolean) [.ref E.2.1, .int a1, .int a2, .int a3, .int a4] s0 (T_hasPair s0 a1 a2 a3 a4) := by
  refine CT_of hO (by decide +kernel) (by decide +kernel) (Nat.le_of_ble_eq_true rfl) ?_
  show XT G E "ForestLegsModel" "hasPair" cX2_hasPair 6 (Option.some Jvm.ClassFile.FieldType.boolean) 1 0 [(0, .ref E.2.1), (1, .int a1), (2, .int a2), (3, .int a3), (4, .int a4)] [] s0 (T_hasPair s0 a1 a2 a3 a4)
  refine x_iconst 1 dX2_hasPair_0 rfl (n := 1) rfl ?_
  refine x_istore [(5, .int 1), (0, .ref E.2.1), (1, .int a1), (2, .int a2), (3, .int a3), (4, .int a4)] dX2_hasPair_1 (by decide) rfl (n := 3) rfl ?_
  refine x_sub [1, 2, 3, 4, 5, 0] [(0, .ref E.2.1), (1, .int a1), (2, .int a2), (3, .int a3), (4, .int a4), (5, .int 1)] rfl ?_
  exact T_hasPair_3_lp hO hE FU a1 a2 a3 a4 1 s0
abbrev cX2_common : ByteArray := prog_14_method_101_code
def yX2_common : MethodName := ⟨RX2, "common", "(II)I"⟩
def dkwX2_common_5 : List UInt8 := [167, 255, 178, 29, 172]
abbrev dktX2_common_5 : List UInt8 := dkwX2_common_5 ++ []
def dkwX2_common_4 : List UInt8 := [180, 0, 17, 7, 28, 96, 46, 182, 1, 65, 153, 0, 7, 4, 167, 0, 4, 3, 96, 62, 132, 4, 1]
abbrev dktX2_common_4 : List UInt8 := dkwX2_common_4 ++ dktX2_common_5
def dkwX2_common_3 : List UInt8 := [54, 6, 29, 42, 27, 21, 5, 21, 6, 21, 4, 182, 1, 65, 154, 0, 27, 42, 28, 21, 5, 21, 6, 42]
abbrev dktX2_common_3 : List UInt8 := dkwX2_common_3 ++ dktX2_common_4
def dkwX2_common_2 : List UInt8 := [96, 46, 162, 0, 71, 42, 27, 21, 4, 4, 100, 182, 0, 197, 54, 5, 42, 27, 21, 4, 182, 0, 197]
abbrev dktX2_common_2 : List UInt8 := dkwX2_common_2 ++ dktX2_common_3
def dkwX2_common_1 : List UInt8 := [184, 0, 234, 182, 0, 161, 153, 0, 5, 2, 172, 3, 62, 4, 54, 4, 21, 4, 42, 180, 0, 17, 7, 27]
abbrev dktX2_common_1 : List UInt8 := dkwX2_common_1 ++ dktX2_common_2
def dkwX2_common_0 : List UInt8 := [42, 42, 27, 182, 0, 184, 153, 0, 15, 42, 28, 182, 0, 184, 153, 0, 7, 4, 167, 0, 4, 3]
abbrev dktX2_common_0 : List UInt8 := dkwX2_common_0 ++ dktX2_common_1
theorem dksX2_common_0 : cX2_common.data.toList.drop 0 = dktX2_common_0 := by decide +kernel
theorem dksX2_common_1 : cX2_common.data.toList.drop 22 = dktX2_common_1 := dk_seg dksX2_common_0 22 rfl rfl
theorem dksX2_common_2 : cX2_common.data.toList.drop 46 = dktX2_common_2 := dk_seg dksX2_common_1 24 rfl rfl
theorem dksX2_common_3 : cX2_common.data.toList.drop 69 = dktX2_common_3 := dk_seg dksX2_common_2 23 rfl rfl
theorem dksX2_common_4 : cX2_common.data.toList.drop 93 = dktX2_common_4 := dk_seg dksX2_common_3 24 rfl rfl
theorem dksX2_common_5 : cX2_common.data.toList.drop 116 = dktX2_common_5 := dk_seg dksX2_common_4 23 rfl rfl
theorem dX2_common_0 : decode cX2_common 0 = .ok (.aload_n 0, 1) := dk_42 (dk_at dksX2_common_0 0 rfl rfl)
theorem dX2_common_1 : decode cX2_common 1 = .ok (.aload_n 0, 1) := dk_42 (dk_at dksX2_common_0 1 rfl rfl)
theorem dX2_common_2 : decode cX2_common 2 = .ok (.iload_n 1, 1) := dk_27 (dk_at dksX2_common_0 2 rfl rfl)
theorem dX2_common_3 : decode cX2_common 3 = .ok (.invokevirtual 184, 3) := dk_182 0 184 (dk_at dksX2_common_0 3 rfl rfl)
theorem dX2_common_6 : decode cX2_common 6 = .ok (.ifCond .eq 15, 3) := dk_153 0 15 (dk_at dksX2_common_0 6 rfl rfl)
theorem dX2_common_9 : decode cX2_common 9 = .ok (.aload_n 0, 1) := dk_42 (dk_at dksX2_common_0 9 rfl rfl)
theorem dX2_common_10 : decode cX2_common 10 = .ok (.iload_n 2, 1) := dk_28 (dk_at dksX2_common_0 10 rfl rfl)
theorem dX2_common_11 : decode cX2_common 11 = .ok (.invokevirtual 184, 3) := dk_182 0 184 (dk_at dksX2_common_0 11 rfl rfl)
theorem dX2_common_14 : decode cX2_common 14 = .ok (.ifCond .eq 7, 3) := dk_153 0 7 (dk_at dksX2_common_0 14 rfl rfl)
theorem dX2_common_17 : decode cX2_common 17 = .ok (.iconst 1, 1) := dk_4 (dk_at dksX2_common_0 17 rfl rfl)
theorem dX2_common_18 : decode cX2_common 18 = .ok (.goto 4, 3) := dk_167 0 4 (dk_at dksX2_common_0 18 rfl rfl)
theorem dX2_common_21 : decode cX2_common 21 = .ok (.iconst 0, 1) := dk_3 (dk_at dksX2_common_0 21 rfl rfl)
theorem dX2_common_22 : decode cX2_common 22 = .ok (.invokestatic 234, 3) := dk_184 0 234 (dk_at dksX2_common_1 0 rfl rfl)
theorem dX2_common_25 : decode cX2_common 25 = .ok (.invokevirtual 161, 3) := dk_182 0 161 (dk_at dksX2_common_1 3 rfl rfl)
theorem dX2_common_28 : decode cX2_common 28 = .ok (.ifCond .eq 5, 3) := dk_153 0 5 (dk_at dksX2_common_1 6 rfl rfl)
theorem dX2_common_31 : decode cX2_common 31 = .ok (.iconst (-1), 1) := dk_2 (dk_at dksX2_common_1 9 rfl rfl)
theorem dX2_common_32 : decode cX2_common 32 = .ok (.ireturn, 1) := dk_172 (dk_at dksX2_common_1 10 rfl rfl)
theorem dX2_common_33 : decode cX2_common 33 = .ok (.iconst 0, 1) := dk_3 (dk_at dksX2_common_1 11 rfl rfl)
theorem dX2_common_34 : decode cX2_common 34 = .ok (.istore_n 3, 1) := dk_62 (dk_at dksX2_common_1 12 rfl rfl)
theorem dX2_common_35 : decode cX2_common 35 = .ok (.iconst 1, 1) := dk_4 (dk_at dksX2_common_1 13 rfl rfl)
theorem dX2_common_36 : decode cX2_common 36 = .ok (.istore 4, 2) := dk_54 4 (dk_at dksX2_common_1 14 rfl rfl)
theorem dX2_common_38 : decode cX2_common 38 = .ok (.iload 4, 2) := dk_21 4 (dk_at dksX2_common_1 16 rfl rfl)
theorem dX2_common_40 : decode cX2_common 40 = .ok (.aload_n 0, 1) := dk_42 (dk_at dksX2_common_1 18 rfl rfl)
theorem dX2_common_41 : decode cX2_common 41 = .ok (.getfield 17, 3) := dk_180 0 17 (dk_at dksX2_common_1 19 rfl rfl)
theorem dX2_common_44 : decode cX2_common 44 = .ok (.iconst 4, 1) := dk_7 (dk_at dksX2_common_1 22 rfl rfl)
theorem dX2_common_45 : decode cX2_common 45 = .ok (.iload_n 1, 1) := dk_27 (dk_at dksX2_common_1 23 rfl rfl)
theorem dX2_common_46 : decode cX2_common 46 = .ok (.iadd, 1) := dk_96 (dk_at dksX2_common_2 0 rfl rfl)
theorem dX2_common_47 : decode cX2_common 47 = .ok (.iaload, 1) := dk_46 (dk_at dksX2_common_2 1 rfl rfl)
theorem dX2_common_48 : decode cX2_common 48 = .ok (.if_icmp .ge 71, 3) := dk_162 0 71 (dk_at dksX2_common_2 2 rfl rfl)
theorem dX2_common_51 : decode cX2_common 51 = .ok (.aload_n 0, 1) := dk_42 (dk_at dksX2_common_2 5 rfl rfl)
theorem dX2_common_52 : decode cX2_common 52 = .ok (.iload_n 1, 1) := dk_27 (dk_at dksX2_common_2 6 rfl rfl)
theorem dX2_common_53 : decode cX2_common 53 = .ok (.iload 4, 2) := dk_21 4 (dk_at dksX2_common_2 7 rfl rfl)
theorem dX2_common_55 : decode cX2_common 55 = .ok (.iconst 1, 1) := dk_4 (dk_at dksX2_common_2 9 rfl rfl)
theorem dX2_common_56 : decode cX2_common 56 = .ok (.isub, 1) := dk_100 (dk_at dksX2_common_2 10 rfl rfl)
theorem dX2_common_57 : decode cX2_common 57 = .ok (.invokevirtual 197, 3) := dk_182 0 197 (dk_at dksX2_common_2 11 rfl rfl)
theorem dX2_common_60 : decode cX2_common 60 = .ok (.istore 5, 2) := dk_54 5 (dk_at dksX2_common_2 14 rfl rfl)
theorem dX2_common_62 : decode cX2_common 62 = .ok (.aload_n 0, 1) := dk_42 (dk_at dksX2_common_2 16 rfl rfl)
theorem dX2_common_63 : decode cX2_common 63 = .ok (.iload_n 1, 1) := dk_27 (dk_at dksX2_common_2 17 rfl rfl)
theorem dX2_common_64 : decode cX2_common 64 = .ok (.iload 4, 2) := dk_21 4 (dk_at dksX2_common_2 18 rfl rfl)
theorem dX2_common_66 : decode cX2_common 66 = .ok (.invokevirtual 197, 3) := dk_182 0 197 (dk_at dksX2_common_2 20 rfl rfl)
theorem dX2_common_69 : decode cX2_common 69 = .ok (.istore 6, 2) := dk_54 6 (dk_at dksX2_common_3 0 rfl rfl)
theorem dX2_common_71 : decode cX2_common 71 = .ok (.iload_n 3, 1) := dk_29 (dk_at dksX2_common_3 2 rfl rfl)
theorem dX2_common_72 : decode cX2_common 72 = .ok (.aload_n 0, 1) := dk_42 (dk_at dksX2_common_3 3 rfl rfl)
theorem dX2_common_73 : decode cX2_common 73 = .ok (.iload_n 1, 1) := dk_27 (dk_at dksX2_common_3 4 rfl rfl)
theorem dX2_common_74 : decode cX2_common 74 = .ok (.iload 5, 2) := dk_21 5 (dk_at dksX2_common_3 5 rfl rfl)
theorem dX2_common_76 : decode cX2_common 76 = .ok (.iload 6, 2) := dk_21 6 (dk_at dksX2_common_3 7 rfl rfl)
theorem dX2_common_78 : decode cX2_common 78 = .ok (.iload 4, 2) := dk_21 4 (dk_at dksX2_common_3 9 rfl rfl)
theorem dX2_common_80 : decode cX2_common 80 = .ok (.invokevirtual 321, 3) := dk_182 1 65 (dk_at dksX2_common_3 11 rfl rfl)
theorem dX2_common_83 : decode cX2_common 83 = .ok (.ifCond .ne 27, 3) := dk_154 0 27 (dk_at dksX2_common_3 14 rfl rfl)
theorem dX2_common_86 : decode cX2_common 86 = .ok (.aload_n 0, 1) := dk_42 (dk_at dksX2_common_3 17 rfl rfl)
theorem dX2_common_87 : decode cX2_common 87 = .ok (.iload_n 2, 1) := dk_28 (dk_at dksX2_common_3 18 rfl rfl)
theorem dX2_common_88 : decode cX2_common 88 = .ok (.iload 5, 2) := dk_21 5 (dk_at dksX2_common_3 19 rfl rfl)
theorem dX2_common_90 : decode cX2_common 90 = .ok (.iload 6, 2) := dk_21 6 (dk_at dksX2_common_3 21 rfl rfl)
theorem dX2_common_92 : decode cX2_common 92 = .ok (.aload_n 0, 1) := dk_42 (dk_at dksX2_common_3 23 rfl rfl)
theorem dX2_common_93 : decode cX2_common 93 = .ok (.getfield 17, 3) := dk_180 0 17 (dk_at dksX2_common_4 0 rfl rfl)
theorem dX2_common_96 : decode cX2_common 96 = .ok (.iconst 4, 1) := dk_7 (dk_at dksX2_common_4 3 rfl rfl)
theorem dX2_common_97 : decode cX2_common 97 = .ok (.iload_n 2, 1) := dk_28 (dk_at dksX2_common_4 4 rfl rfl)
theorem dX2_common_98 : decode cX2_common 98 = .ok (.iadd, 1) := dk_96 (dk_at dksX2_common_4 5 rfl rfl)
theorem dX2_common_99 : decode cX2_common 99 = .ok (.iaload, 1) := dk_46 (dk_at dksX2_common_4 6 rfl rfl)
theorem dX2_common_100 : decode cX2_common 100 = .ok (.invokevirtual 321, 3) := dk_182 1 65 (dk_at dksX2_common_4 7 rfl rfl)
theorem dX2_common_103 : decode cX2_common 103 = .ok (.ifCond .eq 7, 3) := dk_153 0 7 (dk_at dksX2_common_4 10 rfl rfl)
theorem dX2_common_106 : decode cX2_common 106 = .ok (.iconst 1, 1) := dk_4 (dk_at dksX2_common_4 13 rfl rfl)
theorem dX2_common_107 : decode cX2_common 107 = .ok (.goto 4, 3) := dk_167 0 4 (dk_at dksX2_common_4 14 rfl rfl)
theorem dX2_common_110 : decode cX2_common 110 = .ok (.iconst 0, 1) := dk_3 (dk_at dksX2_common_4 17 rfl rfl)
theorem dX2_common_111 : decode cX2_common 111 = .ok (.iadd, 1) := dk_96 (dk_at dksX2_common_4 18 rfl rfl)
theorem dX2_common_112 : decode cX2_common 112 = .ok (.istore_n 3, 1) := dk_62 (dk_at dksX2_common_4 19 rfl rfl)
theorem dX2_common_113 : decode cX2_common 113 = .ok (.iinc 4 1, 3) := dk_132 4 1 (dk_at dksX2_common_4 20 rfl rfl)
theorem dX2_common_116 : decode cX2_common 116 = .ok (.goto (-78), 3) := dk_167 255 178 (dk_at dksX2_common_5 0 rfl rfl)
theorem dX2_common_119 : decode cX2_common 119 = .ok (.iload_n 3, 1) := dk_29 (dk_at dksX2_common_5 3 rfl rfl)
theorem dX2_common_120 : decode cX2_common 120 = .ok (.ireturn, 1) := dk_172 (dk_at dksX2_common_5 4 rfl rfl)
theorem md_X2_common : xMd yX2_common cX2_common 7 (Option.some Jvm.ClassFile.FieldType.int) 2 := ⟨q3405, q126, by decide, by decide +kernel, by decide +kernel, by decide +kernel⟩
def T_common_111  (k38 : Int32 × Int32 × Int32 × Int32 × TS → Option (xO × TS)) (v1 : Int32) (v2 : Int32) (v4 : Int32) (w0 : Int32) (w1 : Int32) (s0 : TS) : Option (xO × TS) :=
  (bnd (w0 + w1) fun x14 =>
  (bnd (v4 + 1) fun x15 =>
  (k38 (v1, v2, x14, x15, s0))))
def T_common_110  (k38 : Int32 × Int32 × Int32 × Int32 × TS → Option (xO × TS)) (v1 : Int32) (v2 : Int32) (v4 : Int32) (w0 : Int32) (s0 : TS) : Option (xO × TS) :=
  (T_common_111 k38 v1 v2 v4 w0 0 s0)
def T_common_38F   (k38 : Int32 × Int32 × Int32 × Int32 × TS → Option (xO × TS)) (p : Int32 × Int32 × Int32 × Int32 × TS) : Option (xO × TS) := match p with
  | (v1, v2, v3, v4, s0) => (tald s0 7 (4 + v1) fun x7 =>
  (if x7 ≤ v4 then
  (rI v3 s0) else
  (xcI (T_codeOf s0 v1 (v4 - 1)) fun x9 s8 =>
  (xcI (T_codeOf s8 v1 v4) fun x11 s10 =>
  (xcI (T_hasPair s10 v1 x9 x11 v4) fun x13 s12 =>
  (if x13 = 0 then
  (tald s12 7 (4 + v2) fun x16 =>
  (xcI (T_hasPair s12 v2 x9 x11 x16) fun x18 s17 =>
  (if x18 = 0 then
  (T_common_110 k38 v1 v2 v4 v3 s17) else
  (T_common_111 k38 v1 v2 v4 v3 1 s17)))) else
  (T_common_110 k38 v1 v2 v4 v3 s12)))))))
def T_common_22   (v1 : Int32) (v2 : Int32) (w1 : Int32) (s0 : TS) : Option (xO × TS) :=
  (xcI (T_unless_2 s0 w1) fun x4 s3 =>
  (xcI (T_isRefused s3 x4) fun x6 s5 =>
  (if x6 = 0 then
  (lp (T_common_38F) FU (v1, v2, 0, 1, s5)) else
  (rI (-1) s5))))
def T_common_21   (v1 : Int32) (v2 : Int32) (s0 : TS) : Option (xO × TS) :=
  (T_common_22 v1 v2 0 s0)
def T_common (s0 : TS) (a1 : Int32) (a2 : Int32) : Option (xO × TS) :=
  (xcI (T_isCourse s0 a1) fun x2 s1 =>
  (if x2 = 0 then
  (T_common_21 a1 a2 s1) else
  (xcI (T_isCourse s1 a2) fun x20 s19 =>
  (if x20 = 0 then
  (T_common_21 a1 a2 s19) else
  (T_common_22 a1 a2 1 s19)))))
theorem T_common_111_ok {G : xG} {E : TE} (hO : xOK G) (hE : tok E)  {k38 : Int32 × Int32 × Int32 × Int32 × TS → Option (xO × TS)} (hk38 : ∀ (v1 : Int32) (v2 : Int32) (v3 : Int32) (v4 : Int32) (s0 : TS), XT G E "ForestLegsModel" "common" cX2_common 7 (Option.some Jvm.ClassFile.FieldType.int) 2 38 [(0, .ref E.2.1), (1, .int v1), (2, .int v2), (3, .int v3), (4, .int v4)] [] s0 (k38 (v1, v2, v3, v4, s0))) (v1 : Int32) (v2 : Int32) (v4 : Int32) (w0 : Int32) (w1 : Int32) (s0 : TS) : XT G E "ForestLegsModel" "common" cX2_common 7 (Option.some Jvm.ClassFile.FieldType.int) 2 111 [(0, .ref E.2.1), (1, .int v1), (2, .int v2), (4, .int v4)] [.int w1, .int w0] s0 (T_common_111 k38 v1 v2 v4 w0 w1 s0) := by
  unfold T_common_111
  refine x_iadd dX2_common_111 (n := 112) rfl ?_
  refine tw_nm (fun x14 => ?_)
  refine x_istore_n [(3, .int x14), (0, .ref E.2.1), (1, .int v1), (2, .int v2), (4, .int v4)] dX2_common_112 rfl (by decide) rfl (n := 113) rfl ?_
  refine tw_iinc 4 (fun x15 => [(4, .int x15), (3, .int x14), (0, .ref E.2.1), (1, .int v1), (2, .int v2)]) dX2_common_113 rfl rfl (by decide) (fun _ => rfl) (n := 116) rfl (fun x15 => ?_)
  refine x_goto dX2_common_116 (n := 38) (by decide) ?_
  refine x_sub [2, 3, 4, 1, 0] [(0, .ref E.2.1), (1, .int v1), (2, .int v2), (3, .int x14), (4, .int x15)] rfl ?_
  exact hk38 v1 v2 x14 x15 s0
theorem T_common_110_ok {G : xG} {E : TE} (hO : xOK G) (hE : tok E)  {k38 : Int32 × Int32 × Int32 × Int32 × TS → Option (xO × TS)} (hk38 : ∀ (v1 : Int32) (v2 : Int32) (v3 : Int32) (v4 : Int32) (s0 : TS), XT G E "ForestLegsModel" "common" cX2_common 7 (Option.some Jvm.ClassFile.FieldType.int) 2 38 [(0, .ref E.2.1), (1, .int v1), (2, .int v2), (3, .int v3), (4, .int v4)] [] s0 (k38 (v1, v2, v3, v4, s0))) (v1 : Int32) (v2 : Int32) (v4 : Int32) (w0 : Int32) (s0 : TS) : XT G E "ForestLegsModel" "common" cX2_common 7 (Option.some Jvm.ClassFile.FieldType.int) 2 110 [(0, .ref E.2.1), (1, .int v1), (2, .int v2), (4, .int v4)] [.int w0] s0 (T_common_110 k38 v1 v2 v4 w0 s0) := by
  unfold T_common_110
  refine x_iconst 0 dX2_common_110 rfl (n := 111) rfl ?_
  exact T_common_111_ok hO hE hk38 v1 v2 v4 w0 0 s0
theorem T_common_38F_ok {G : xG} {E : TE} (hO : xOK G) (hE : tok E)   {k38 : Int32 × Int32 × Int32 × Int32 × TS → Option (xO × TS)} (hk38 : ∀ (v1 : Int32) (v2 : Int32) (v3 : Int32) (v4 : Int32) (s0 : TS), XT G E "ForestLegsModel" "common" cX2_common 7 (Option.some Jvm.ClassFile.FieldType.int) 2 38 [(0, .ref E.2.1), (1, .int v1), (2, .int v2), (3, .int v3), (4, .int v4)] [] s0 (k38 (v1, v2, v3, v4, s0))) (v1 : Int32) (v2 : Int32) (v3 : Int32) (v4 : Int32) (s0 : TS) : XT G E "ForestLegsModel" "common" cX2_common 7 (Option.some Jvm.ClassFile.FieldType.int) 2 38 [(0, .ref E.2.1), (1, .int v1), (2, .int v2), (3, .int v3), (4, .int v4)] [] s0 (T_common_38F k38 (v1, v2, v3, v4, s0)) := by
  unfold T_common_38F
  refine x_iload 4 dX2_common_38 rfl (n := 40) rfl ?_
  refine x_aload_nr 0 dX2_common_40 rfl rfl (n := 41) rfl ?_
  refine tw_getA fl_X2_17 rfl (by decide) dX2_common_41 (n := 44) rfl ?_
  refine x_iconst 4 dX2_common_44 rfl (n := 45) rfl ?_
  refine x_iload_n 1 dX2_common_45 rfl rfl (n := 46) rfl ?_
  refine x_iadd dX2_common_46 (n := 47) rfl ?_
  refine tw_iald hE (by decide) dX2_common_47 (n := 48) rfl (fun x7 => ?_)
  refine tw_icmp_ge dX2_common_48 (t := 119) (by decide) (n := 51) rfl ?_ ?_
  · refine x_iload_n 3 dX2_common_119 rfl rfl (n := 120) rfl ?_
    exact tw_ireturn dX2_common_120
  · refine x_aload_nr 0 dX2_common_51 rfl rfl (n := 52) rfl ?_
    refine x_iload_n 1 dX2_common_52 rfl rfl (n := 53) rfl ?_
    refine x_iload 4 dX2_common_53 rfl (n := 55) rfl ?_
    refine x_iconst 1 dX2_common_55 rfl (n := 56) rfl ?_
    refine x_isub dX2_common_56 (n := 57) rfl ?_
    refine tw_callV_I [.int v1, .int (v4 - 1)] [] (T_codeOf_ok hO hE s0 v1 (v4 - 1)) md_X2_codeOf q3147 q3149 qs85 dX2_common_57 rfl rfl (by decide) (Nat.le_of_ble_eq_true rfl) (n := 60) rfl (fun x9 s8 => ?_)
    refine x_istore [(5, .int x9), (0, .ref E.2.1), (1, .int v1), (2, .int v2), (3, .int v3), (4, .int v4)] dX2_common_60 (by decide) rfl (n := 62) rfl ?_
    refine x_aload_nr 1 dX2_common_62 rfl rfl (n := 63) rfl ?_
    refine x_iload_n 2 dX2_common_63 rfl rfl (n := 64) rfl ?_
    refine x_iload 5 dX2_common_64 rfl (n := 66) rfl ?_
    refine tw_callV_I [.int v1, .int v4] [] (T_codeOf_ok hO hE s8 v1 v4) md_X2_codeOf q3147 q3149 qs85 dX2_common_66 rfl rfl (by decide) (Nat.le_of_ble_eq_true rfl) (n := 69) rfl (fun x11 s10 => ?_)
    refine x_istore [(6, .int x11), (5, .int x9), (0, .ref E.2.1), (1, .int v1), (2, .int v2), (3, .int v3), (4, .int v4)] dX2_common_69 (by decide) rfl (n := 71) rfl ?_
    refine x_iload_n 5 dX2_common_71 rfl rfl (n := 72) rfl ?_
    refine x_aload_nr 2 dX2_common_72 rfl rfl (n := 73) rfl ?_
    refine x_iload_n 3 dX2_common_73 rfl rfl (n := 74) rfl ?_
    refine x_iload 1 dX2_common_74 rfl (n := 76) rfl ?_
    refine x_iload 0 dX2_common_76 rfl (n := 78) rfl ?_
    refine x_iload 6 dX2_common_78 rfl (n := 80) rfl ?_
    refine tw_callV_I [.int v1, .int x9, .int x11, .int v4] [.int v3] (T_hasPair_ok hO hE s10 v1 x9 x11 v4) md_X2_hasPair q3406 q3408 qs117 dX2_common_80 rfl rfl (by decide) (Nat.le_of_ble_eq_true rfl) (n := 83) rfl (fun x13 s12 => ?_)
    refine tw_if_ne dX2_common_83 (t := 110) (by decide) (n := 86) rfl ?_ ?_
    · refine x_sub [2, 3, 4, 6] [(0, .ref E.2.1), (1, .int v1), (2, .int v2), (4, .int v4)] rfl ?_
      exact T_common_110_ok hO hE hk38 v1 v2 v4 v3 s12
    · refine x_aload_nr 2 dX2_common_86 rfl rfl (n := 87) rfl ?_
      refine x_iload_n 4 dX2_common_87 rfl rfl (n := 88) rfl ?_
      refine x_iload 1 dX2_common_88 rfl (n := 90) rfl ?_
      refine x_iload 0 dX2_common_90 rfl (n := 92) rfl ?_
      refine x_aload_nr 2 dX2_common_92 rfl rfl (n := 93) rfl ?_
      refine tw_getA fl_X2_17 rfl (by decide) dX2_common_93 (n := 96) rfl ?_
      refine x_iconst 4 dX2_common_96 rfl (n := 97) rfl ?_
      refine x_iload_n 4 dX2_common_97 rfl rfl (n := 98) rfl ?_
      refine x_iadd dX2_common_98 (n := 99) rfl ?_
      refine tw_iald hE (by decide) dX2_common_99 (n := 100) rfl (fun x16 => ?_)
      refine tw_callV_I [.int v2, .int x9, .int x11, .int x16] [.int v3] (T_hasPair_ok hO hE s12 v2 x9 x11 x16) md_X2_hasPair q3406 q3408 qs117 dX2_common_100 rfl rfl (by decide) (Nat.le_of_ble_eq_true rfl) (n := 103) rfl (fun x18 s17 => ?_)
      refine tw_if_eq dX2_common_103 (t := 110) (by decide) (n := 106) rfl ?_ ?_
      · refine x_sub [2, 3, 4, 6] [(0, .ref E.2.1), (1, .int v1), (2, .int v2), (4, .int v4)] rfl ?_
        exact T_common_110_ok hO hE hk38 v1 v2 v4 v3 s17
      · refine x_iconst 1 dX2_common_106 rfl (n := 107) rfl ?_
        refine x_goto dX2_common_107 (n := 111) (by decide) ?_
        refine x_sub [2, 3, 4, 6] [(0, .ref E.2.1), (1, .int v1), (2, .int v2), (4, .int v4)] rfl ?_
        exact T_common_111_ok hO hE hk38 v1 v2 v4 v3 1 s17
theorem T_common_38_lp {G : xG} {E : TE} (hO : xOK G) (hE : tok E)   (n : Nat) (v1 : Int32) (v2 : Int32) (v3 : Int32) (v4 : Int32) (s0 : TS) : XT G E "ForestLegsModel" "common" cX2_common 7 (Option.some Jvm.ClassFile.FieldType.int) 2 38 [(0, .ref E.2.1), (1, .int v1), (2, .int v2), (3, .int v3), (4, .int v4)] [] s0 (lp (T_common_38F) n (v1, v2, v3, v4, s0)) :=
  lp_ok (W := fun p K => XT G E "ForestLegsModel" "common" cX2_common 7 (Option.some Jvm.ClassFile.FieldType.int) 2 38 [(0, .ref E.2.1), (1, .int p.1), (2, .int p.2.1), (3, .int p.2.2.1), (4, .int p.2.2.2.1)] [] p.2.2.2.2 K) (fun _ => tw_no) (fun k hk => fun (v1, v2, v3, v4, s0) => T_common_38F_ok hO hE (fun v1 v2 v3 v4 s0 => hk (v1, v2, v3, v4, s0)) v1 v2 v3 v4 s0) n (v1, v2, v3, v4, s0)
theorem T_common_22_ok {G : xG} {E : TE} (hO : xOK G) (hE : tok E)   (v1 : Int32) (v2 : Int32) (w1 : Int32) (s0 : TS) : XT G E "ForestLegsModel" "common" cX2_common 7 (Option.some Jvm.ClassFile.FieldType.int) 2 22 [(0, .ref E.2.1), (1, .int v1), (2, .int v2)] [.int w1, .ref E.2.1] s0 (T_common_22 v1 v2 w1 s0) := by
  unfold T_common_22
  refine tw_callS_I [.int w1] [.ref E.2.1] (T_unless_2_ok hO hE s0 w1) md_X2_unless_2 q3121 q3122 dX2_common_22 rfl rfl (by decide) (Nat.le_of_ble_eq_true rfl) (n := 25) rfl (fun x4 s3 => ?_)
  refine tw_callV_I [.int x4] [] (T_isRefused_ok hO hE s3 x4) md_X2_isRefused q3022 q3024 qs63 dX2_common_25 rfl rfl (by decide) (Nat.le_of_ble_eq_true rfl) (n := 28) rfl (fun x6 s5 => ?_)
  refine tw_if_eq dX2_common_28 (t := 33) (by decide) (n := 31) rfl ?_ ?_
  · refine x_iconst 0 dX2_common_33 rfl (n := 34) rfl ?_
    refine x_istore_n [(3, .int 0), (0, .ref E.2.1), (1, .int v1), (2, .int v2)] dX2_common_34 rfl (by decide) rfl (n := 35) rfl ?_
    refine x_iconst 1 dX2_common_35 rfl (n := 36) rfl ?_
    refine x_istore [(4, .int 1), (3, .int 0), (0, .ref E.2.1), (1, .int v1), (2, .int v2)] dX2_common_36 (by decide) rfl (n := 38) rfl ?_
    refine x_sub [2, 3, 4, 1, 0] [(0, .ref E.2.1), (1, .int v1), (2, .int v2), (3, .int 0), (4, .int 1)] rfl ?_
    exact T_common_38_lp hO hE FU v1 v2 0 1 s5
  · refine x_iconst (-1) dX2_common_31 rfl (n := 32) rfl ?_
    exact tw_ireturn dX2_common_32
theorem T_common_21_ok {G : xG} {E : TE} (hO : xOK G) (hE : tok E)   (v1 : Int32) (v2 : Int32) (s0 : TS) : XT G E "ForestLegsModel" "common" cX2_common 7 (Option.some Jvm.ClassFile.FieldType.int) 2 21 [(0, .ref E.2.1), (1, .int v1), (2, .int v2)] [.ref E.2.1] s0 (T_common_21 v1 v2 s0) := by
  unfold T_common_21
  refine x_iconst 0 dX2_common_21 rfl (n := 22) rfl ?_
  exact T_common_22_ok hO hE v1 v2 0 s0
theorem T_common_ok {G : xG} {E : TE} (hO : xOK G) (hE : tok E) (s0 : TS) (a1 : Int32) (a2 : Int32) : CTT G E 2 yX2_common cX2_common 7 (Option.some Jvm.ClassFile.FieldType.int) [.ref E.2.1, .int a1, .int a2] s0 (T_common s0 a1 a2) := by
  refine CT_of hO (by decide +kernel) (by decide +kernel) (Nat.le_of_ble_eq_true rfl) ?_
  show XT G E "ForestLegsModel" "common" cX2_common 7 (Option.some Jvm.ClassFile.FieldType.int) 2 0 [(0, .ref E.2.1), (1, .int a1), (2, .int a2)] [] s0 (T_common s0 a1 a2)
  refine x_aload_nr 0 dX2_common_0 rfl rfl (n := 1) rfl ?_
  refine x_aload_nr 0 dX2_common_1 rfl rfl (n := 2) rfl ?_
  refine x_iload_n 1 dX2_common_2 rfl rfl (n := 3) rfl ?_
  refine tw_callV_I [.int a1] [.ref E.2.1] (T_isCourse_ok hO hE s0 a1) md_X2_isCourse q3159 q3161 qs87 dX2_common_3 rfl rfl (by decide) (Nat.le_of_ble_eq_true rfl) (n := 6) rfl (fun x2 s1 => ?_)
  refine tw_if_eq dX2_common_6 (t := 21) (by decide) (n := 9) rfl ?_ ?_
  · exact T_common_21_ok hO hE a1 a2 s1
  · refine x_aload_nr 0 dX2_common_9 rfl rfl (n := 10) rfl ?_
    refine x_iload_n 2 dX2_common_10 rfl rfl (n := 11) rfl ?_
    refine tw_callV_I [.int a2] [.ref E.2.1] (T_isCourse_ok hO hE s1 a2) md_X2_isCourse q3159 q3161 qs87 dX2_common_11 rfl rfl (by decide) (Nat.le_of_ble_eq_true rfl) (n := 14) rfl (fun x20 s19 => ?_)
    refine tw_if_eq dX2_common_14 (t := 21) (by decide) (n := 17) rfl ?_ ?_
    · exact T_common_21_ok hO hE a1 a2 s19
    · refine x_iconst 1 dX2_common_17 rfl (n := 18) rfl ?_
      refine x_goto dX2_common_18 (n := 22) (by decide) ?_
      exact T_common_22_ok hO hE a1 a2 1 s19
abbrev cX2_remembers : ByteArray := prog_14_method_102_code
def yX2_remembers : MethodName := ⟨RX2, "remembers", "()V"⟩
def dkwX2_remembers_3 : List UInt8 := [3, 17, 1, 141, 184, 0, 180, 42, 89, 180, 0, 177, 4, 96, 181, 0, 177, 177]
abbrev dktX2_remembers_3 : List UInt8 := dkwX2_remembers_3 ++ []
def dkwX2_remembers_2 : List UInt8 := [46, 79, 132, 1, 1, 167, 255, 225, 42, 180, 0, 47, 17, 1, 141, 42, 180, 0, 177, 104, 42, 180, 0, 17]
abbrev dktX2_remembers_2 : List UInt8 := dkwX2_remembers_2 ++ dktX2_remembers_3
def dkwX2_remembers_1 : List UInt8 := [180, 0, 177, 17, 1, 141, 104, 162, 0, 25, 42, 180, 0, 47, 27, 42, 180, 0, 47, 27, 17, 1, 141, 96]
abbrev dktX2_remembers_1 : List UInt8 := dkwX2_remembers_1 ++ dktX2_remembers_2
def dkwX2_remembers_0 : List UInt8 := [42, 180, 0, 177, 16, 10, 160, 0, 49, 42, 89, 180, 0, 177, 4, 100, 181, 0, 177, 3, 60, 27, 42]
abbrev dktX2_remembers_0 : List UInt8 := dkwX2_remembers_0 ++ dktX2_remembers_1
theorem dksX2_remembers_0 : cX2_remembers.data.toList.drop 0 = dktX2_remembers_0 := by decide +kernel
theorem dksX2_remembers_1 : cX2_remembers.data.toList.drop 23 = dktX2_remembers_1 := dk_seg dksX2_remembers_0 23 rfl rfl
theorem dksX2_remembers_2 : cX2_remembers.data.toList.drop 47 = dktX2_remembers_2 := dk_seg dksX2_remembers_1 24 rfl rfl
theorem dksX2_remembers_3 : cX2_remembers.data.toList.drop 71 = dktX2_remembers_3 := dk_seg dksX2_remembers_2 24 rfl rfl
theorem dX2_remembers_0 : decode cX2_remembers 0 = .ok (.aload_n 0, 1) := dk_42 (dk_at dksX2_remembers_0 0 rfl rfl)
theorem dX2_remembers_1 : decode cX2_remembers 1 = .ok (.getfield 177, 3) := dk_180 0 177 (dk_at dksX2_remembers_0 1 rfl rfl)
theorem dX2_remembers_4 : decode cX2_remembers 4 = .ok (.bipush 10, 2) := dk_16 10 (dk_at dksX2_remembers_0 4 rfl rfl)
theorem dX2_remembers_6 : decode cX2_remembers 6 = .ok (.if_icmp .ne 49, 3) := dk_160 0 49 (dk_at dksX2_remembers_0 6 rfl rfl)
theorem dX2_remembers_9 : decode cX2_remembers 9 = .ok (.aload_n 0, 1) := dk_42 (dk_at dksX2_remembers_0 9 rfl rfl)
theorem dX2_remembers_10 : decode cX2_remembers 10 = .ok (.dup, 1) := dk_89 (dk_at dksX2_remembers_0 10 rfl rfl)
theorem dX2_remembers_11 : decode cX2_remembers 11 = .ok (.getfield 177, 3) := dk_180 0 177 (dk_at dksX2_remembers_0 11 rfl rfl)
theorem dX2_remembers_14 : decode cX2_remembers 14 = .ok (.iconst 1, 1) := dk_4 (dk_at dksX2_remembers_0 14 rfl rfl)
theorem dX2_remembers_15 : decode cX2_remembers 15 = .ok (.isub, 1) := dk_100 (dk_at dksX2_remembers_0 15 rfl rfl)
theorem dX2_remembers_16 : decode cX2_remembers 16 = .ok (.putfield 177, 3) := dk_181 0 177 (dk_at dksX2_remembers_0 16 rfl rfl)
theorem dX2_remembers_19 : decode cX2_remembers 19 = .ok (.iconst 0, 1) := dk_3 (dk_at dksX2_remembers_0 19 rfl rfl)
theorem dX2_remembers_20 : decode cX2_remembers 20 = .ok (.istore_n 1, 1) := dk_60 (dk_at dksX2_remembers_0 20 rfl rfl)
theorem dX2_remembers_21 : decode cX2_remembers 21 = .ok (.iload_n 1, 1) := dk_27 (dk_at dksX2_remembers_0 21 rfl rfl)
theorem dX2_remembers_22 : decode cX2_remembers 22 = .ok (.aload_n 0, 1) := dk_42 (dk_at dksX2_remembers_0 22 rfl rfl)
theorem dX2_remembers_23 : decode cX2_remembers 23 = .ok (.getfield 177, 3) := dk_180 0 177 (dk_at dksX2_remembers_1 0 rfl rfl)
theorem dX2_remembers_26 : decode cX2_remembers 26 = .ok (.sipush 397, 3) := dk_17 1 141 (dk_at dksX2_remembers_1 3 rfl rfl)
theorem dX2_remembers_29 : decode cX2_remembers 29 = .ok (.imul, 1) := dk_104 (dk_at dksX2_remembers_1 6 rfl rfl)
theorem dX2_remembers_30 : decode cX2_remembers 30 = .ok (.if_icmp .ge 25, 3) := dk_162 0 25 (dk_at dksX2_remembers_1 7 rfl rfl)
theorem dX2_remembers_33 : decode cX2_remembers 33 = .ok (.aload_n 0, 1) := dk_42 (dk_at dksX2_remembers_1 10 rfl rfl)
theorem dX2_remembers_34 : decode cX2_remembers 34 = .ok (.getfield 47, 3) := dk_180 0 47 (dk_at dksX2_remembers_1 11 rfl rfl)
theorem dX2_remembers_37 : decode cX2_remembers 37 = .ok (.iload_n 1, 1) := dk_27 (dk_at dksX2_remembers_1 14 rfl rfl)
theorem dX2_remembers_38 : decode cX2_remembers 38 = .ok (.aload_n 0, 1) := dk_42 (dk_at dksX2_remembers_1 15 rfl rfl)
theorem dX2_remembers_39 : decode cX2_remembers 39 = .ok (.getfield 47, 3) := dk_180 0 47 (dk_at dksX2_remembers_1 16 rfl rfl)
theorem dX2_remembers_42 : decode cX2_remembers 42 = .ok (.iload_n 1, 1) := dk_27 (dk_at dksX2_remembers_1 19 rfl rfl)
theorem dX2_remembers_43 : decode cX2_remembers 43 = .ok (.sipush 397, 3) := dk_17 1 141 (dk_at dksX2_remembers_1 20 rfl rfl)
theorem dX2_remembers_46 : decode cX2_remembers 46 = .ok (.iadd, 1) := dk_96 (dk_at dksX2_remembers_1 23 rfl rfl)
theorem dX2_remembers_47 : decode cX2_remembers 47 = .ok (.iaload, 1) := dk_46 (dk_at dksX2_remembers_2 0 rfl rfl)
theorem dX2_remembers_48 : decode cX2_remembers 48 = .ok (.iastore, 1) := dk_79 (dk_at dksX2_remembers_2 1 rfl rfl)
theorem dX2_remembers_49 : decode cX2_remembers 49 = .ok (.iinc 1 1, 3) := dk_132 1 1 (dk_at dksX2_remembers_2 2 rfl rfl)
theorem dX2_remembers_52 : decode cX2_remembers 52 = .ok (.goto (-31), 3) := dk_167 255 225 (dk_at dksX2_remembers_2 5 rfl rfl)
theorem dX2_remembers_55 : decode cX2_remembers 55 = .ok (.aload_n 0, 1) := dk_42 (dk_at dksX2_remembers_2 8 rfl rfl)
theorem dX2_remembers_56 : decode cX2_remembers 56 = .ok (.getfield 47, 3) := dk_180 0 47 (dk_at dksX2_remembers_2 9 rfl rfl)
theorem dX2_remembers_59 : decode cX2_remembers 59 = .ok (.sipush 397, 3) := dk_17 1 141 (dk_at dksX2_remembers_2 12 rfl rfl)
theorem dX2_remembers_62 : decode cX2_remembers 62 = .ok (.aload_n 0, 1) := dk_42 (dk_at dksX2_remembers_2 15 rfl rfl)
theorem dX2_remembers_63 : decode cX2_remembers 63 = .ok (.getfield 177, 3) := dk_180 0 177 (dk_at dksX2_remembers_2 16 rfl rfl)
theorem dX2_remembers_66 : decode cX2_remembers 66 = .ok (.imul, 1) := dk_104 (dk_at dksX2_remembers_2 19 rfl rfl)
theorem dX2_remembers_67 : decode cX2_remembers 67 = .ok (.aload_n 0, 1) := dk_42 (dk_at dksX2_remembers_2 20 rfl rfl)
theorem dX2_remembers_68 : decode cX2_remembers 68 = .ok (.getfield 17, 3) := dk_180 0 17 (dk_at dksX2_remembers_2 21 rfl rfl)
theorem dX2_remembers_71 : decode cX2_remembers 71 = .ok (.iconst 0, 1) := dk_3 (dk_at dksX2_remembers_3 0 rfl rfl)
theorem dX2_remembers_72 : decode cX2_remembers 72 = .ok (.sipush 397, 3) := dk_17 1 141 (dk_at dksX2_remembers_3 1 rfl rfl)
theorem dX2_remembers_75 : decode cX2_remembers 75 = .ok (.invokestatic 180, 3) := dk_184 0 180 (dk_at dksX2_remembers_3 4 rfl rfl)
theorem dX2_remembers_78 : decode cX2_remembers 78 = .ok (.aload_n 0, 1) := dk_42 (dk_at dksX2_remembers_3 7 rfl rfl)
theorem dX2_remembers_79 : decode cX2_remembers 79 = .ok (.dup, 1) := dk_89 (dk_at dksX2_remembers_3 8 rfl rfl)
theorem dX2_remembers_80 : decode cX2_remembers 80 = .ok (.getfield 177, 3) := dk_180 0 177 (dk_at dksX2_remembers_3 9 rfl rfl)
theorem dX2_remembers_83 : decode cX2_remembers 83 = .ok (.iconst 1, 1) := dk_4 (dk_at dksX2_remembers_3 12 rfl rfl)
theorem dX2_remembers_84 : decode cX2_remembers 84 = .ok (.iadd, 1) := dk_96 (dk_at dksX2_remembers_3 13 rfl rfl)
theorem dX2_remembers_85 : decode cX2_remembers 85 = .ok (.putfield 177, 3) := dk_181 0 177 (dk_at dksX2_remembers_3 14 rfl rfl)
theorem dX2_remembers_88 : decode cX2_remembers 88 = .ok (.return_, 1) := dk_177 (dk_at dksX2_remembers_3 17 rfl rfl)
theorem md_X2_remembers : xMd yX2_remembers cX2_remembers 2 (Option.none : Option Jvm.ClassFile.FieldType) 0 := ⟨q3417, q126, by decide, by decide +kernel, by decide +kernel, by decide +kernel⟩
def T_remembers_55    (s0 : TS) : Option (xO × TS) :=
  (xcV (T_lays s0 31 (397 * (s0.1 30)) 7 0 397) fun s1 =>
  (bnd (tI s1 30 ((s1.1 30) + 1)) fun s2 =>
  (rV s2)))
def T_remembers_21F   (k21 : Int32 × TS → Option (xO × TS)) (p : Int32 × TS) : Option (xO × TS) := match p with
  | (v1, s0) => (if ((s0.1 30) * 397) ≤ v1 then
  (T_remembers_55  s0) else
  (tald s0 31 (v1 + 397) fun x4 =>
  (tast s0 31 v1 x4 fun s5 =>
  (bnd (v1 + 1) fun x6 =>
  (k21 (x6, s5))))))
def T_remembers (s0 : TS)  : Option (xO × TS) :=
  (if (s0.1 30) = 10 then
  (bnd (tI s0 30 ((s0.1 30) - 1)) fun s3 =>
  (lp (T_remembers_21F) FU (0, s3))) else
  (T_remembers_55  s0))
theorem T_remembers_55_ok {G : xG} {E : TE} (hO : xOK G) (hE : tok E)    (s0 : TS) : XT G E "ForestLegsModel" "remembers" cX2_remembers 2 (Option.none : Option Jvm.ClassFile.FieldType) 1 55 [(0, .ref E.2.1)] [] s0 (T_remembers_55  s0) := by
  unfold T_remembers_55
  refine x_aload_nr 0 dX2_remembers_55 rfl rfl (n := 56) rfl ?_
  refine tw_getA fl_X2_47 rfl (by decide) dX2_remembers_56 (n := 59) rfl ?_
  refine x_sipush 397 dX2_remembers_59 rfl (n := 62) rfl ?_
  refine x_aload_nr 0 dX2_remembers_62 rfl rfl (n := 63) rfl ?_
  refine tw_getI fl_X2_177 rfl (by decide) dX2_remembers_63 (n := 66) rfl ?_
  refine x_imul dX2_remembers_66 (n := 67) rfl ?_
  refine x_aload_nr 0 dX2_remembers_67 rfl rfl (n := 68) rfl ?_
  refine tw_getA fl_X2_17 rfl (by decide) dX2_remembers_68 (n := 71) rfl ?_
  refine x_iconst 0 dX2_remembers_71 rfl (n := 72) rfl ?_
  refine x_sipush 397 dX2_remembers_72 rfl (n := 75) rfl ?_
  refine tw_callS_V [.ref (E.2.2 31), .int (397 * (s0.1 30)), .ref (E.2.2 7), .int 0, .int 397] [] (T_lays_ok hO hE s0 31 (397 * (s0.1 30)) 7 0 397 (by decide) (by decide)) md_X2_lays q3106 q3107 dX2_remembers_75 rfl rfl (by decide) (Nat.le_of_ble_eq_true rfl) (n := 78) rfl (fun s1 => ?_)
  refine x_aload_nr 0 dX2_remembers_78 rfl rfl (n := 79) rfl ?_
  refine x_dup dX2_remembers_79 rfl (n := 80) rfl ?_
  refine tw_getI fl_X2_177 rfl (by decide) dX2_remembers_80 (n := 83) rfl ?_
  refine x_iconst 1 dX2_remembers_83 rfl (n := 84) rfl ?_
  refine x_iadd dX2_remembers_84 (n := 85) rfl ?_
  refine tw_put (pl_X2_177 _ _ ⟨rfl, rfl⟩) rfl (by decide) dX2_remembers_85 (n := 88) rfl (fun s2 => ?_)
  exact tw_return dX2_remembers_88
theorem T_remembers_21F_ok {G : xG} {E : TE} (hO : xOK G) (hE : tok E)   {k21 : Int32 × TS → Option (xO × TS)} (hk21 : ∀ (v1 : Int32) (s0 : TS), XT G E "ForestLegsModel" "remembers" cX2_remembers 2 (Option.none : Option Jvm.ClassFile.FieldType) 1 21 [(0, .ref E.2.1), (1, .int v1)] [] s0 (k21 (v1, s0))) (v1 : Int32) (s0 : TS) : XT G E "ForestLegsModel" "remembers" cX2_remembers 2 (Option.none : Option Jvm.ClassFile.FieldType) 1 21 [(0, .ref E.2.1), (1, .int v1)] [] s0 (T_remembers_21F k21 (v1, s0)) := by
  unfold T_remembers_21F
  refine x_iload_n 1 dX2_remembers_21 rfl rfl (n := 22) rfl ?_
  refine x_aload_nr 0 dX2_remembers_22 rfl rfl (n := 23) rfl ?_
  refine tw_getI fl_X2_177 rfl (by decide) dX2_remembers_23 (n := 26) rfl ?_
  refine x_sipush 397 dX2_remembers_26 rfl (n := 29) rfl ?_
  refine x_imul dX2_remembers_29 (n := 30) rfl ?_
  refine tw_icmp_ge dX2_remembers_30 (t := 55) (by decide) (n := 33) rfl ?_ ?_
  · refine x_sub [0] [(0, .ref E.2.1)] rfl ?_
    exact T_remembers_55_ok hO hE  s0
  · refine x_aload_nr 0 dX2_remembers_33 rfl rfl (n := 34) rfl ?_
    refine tw_getA fl_X2_47 rfl (by decide) dX2_remembers_34 (n := 37) rfl ?_
    refine x_iload_n 1 dX2_remembers_37 rfl rfl (n := 38) rfl ?_
    refine x_aload_nr 0 dX2_remembers_38 rfl rfl (n := 39) rfl ?_
    refine tw_getA fl_X2_47 rfl (by decide) dX2_remembers_39 (n := 42) rfl ?_
    refine x_iload_n 1 dX2_remembers_42 rfl rfl (n := 43) rfl ?_
    refine x_sipush 397 dX2_remembers_43 rfl (n := 46) rfl ?_
    refine x_iadd dX2_remembers_46 (n := 47) rfl ?_
    refine tw_iald hE (by decide) dX2_remembers_47 (n := 48) rfl (fun x4 => ?_)
    refine tw_iast hE (by decide) dX2_remembers_48 (n := 49) rfl (fun s5 => ?_)
    refine tw_iinc 1 (fun x6 => [(1, .int x6), (0, .ref E.2.1)]) dX2_remembers_49 rfl rfl (by decide) (fun _ => rfl) (n := 52) rfl (fun x6 => ?_)
    refine x_goto dX2_remembers_52 (n := 21) (by decide) ?_
    refine x_sub [1, 0] [(0, .ref E.2.1), (1, .int x6)] rfl ?_
    exact hk21 x6 s5
theorem T_remembers_21_lp {G : xG} {E : TE} (hO : xOK G) (hE : tok E)   (n : Nat) (v1 : Int32) (s0 : TS) : XT G E "ForestLegsModel" "remembers" cX2_remembers 2 (Option.none : Option Jvm.ClassFile.FieldType) 1 21 [(0, .ref E.2.1), (1, .int v1)] [] s0 (lp (T_remembers_21F) n (v1, s0)) :=
  lp_ok (W := fun p K => XT G E "ForestLegsModel" "remembers" cX2_remembers 2 (Option.none : Option Jvm.ClassFile.FieldType) 1 21 [(0, .ref E.2.1), (1, .int p.1)] [] p.2 K) (fun _ => tw_no) (fun k hk => fun (v1, s0) => T_remembers_21F_ok hO hE (fun v1 s0 => hk (v1, s0)) v1 s0) n (v1, s0)
theorem T_remembers_ok {G : xG} {E : TE} (hO : xOK G) (hE : tok E) (s0 : TS)  : CTT G E 1 yX2_remembers cX2_remembers 2 (Option.none : Option Jvm.ClassFile.FieldType) [.ref E.2.1] s0 (T_remembers s0 ) := by
  refine CT_of hO (by decide +kernel) (by decide +kernel) (Nat.le_of_ble_eq_true rfl) ?_
  show XT G E "ForestLegsModel" "remembers" cX2_remembers 2 (Option.none : Option Jvm.ClassFile.FieldType) 1 0 [(0, .ref E.2.1)] [] s0 (T_remembers s0 )
  refine x_aload_nr 0 dX2_remembers_0 rfl rfl (n := 1) rfl ?_
  refine tw_getI fl_X2_177 rfl (by decide) dX2_remembers_1 (n := 4) rfl ?_
  refine x_bipush 10 dX2_remembers_4 rfl (n := 6) rfl ?_
  refine tw_icmp_ne dX2_remembers_6 (t := 55) (by decide) (n := 9) rfl ?_ ?_
  · exact T_remembers_55_ok hO hE  s0
  · refine x_aload_nr 0 dX2_remembers_9 rfl rfl (n := 10) rfl ?_
    refine x_dup dX2_remembers_10 rfl (n := 11) rfl ?_
    refine tw_getI fl_X2_177 rfl (by decide) dX2_remembers_11 (n := 14) rfl ?_
    refine x_iconst 1 dX2_remembers_14 rfl (n := 15) rfl ?_
    refine x_isub dX2_remembers_15 (n := 16) rfl ?_
    refine tw_put (pl_X2_177 _ _ ⟨rfl, rfl⟩) rfl (by decide) dX2_remembers_16 (n := 19) rfl (fun s3 => ?_)
    refine x_iconst 0 dX2_remembers_19 rfl (n := 20) rfl ?_
    refine x_istore_n [(1, .int 0), (0, .ref E.2.1)] dX2_remembers_20 rfl (by decide) rfl (n := 21) rfl ?_
    refine x_sub [1, 0] [(0, .ref E.2.1), (1, .int 0)] rfl ?_
    exact T_remembers_21_lp hO hE FU 0 s3
abbrev cX2_add : ByteArray := prog_14_method_104_code
def yX2_add : MethodName := ⟨RX2, "add", "(III)I"⟩
def dkwX2_add_10 : List UInt8 := [21, 6, 96, 28, 79, 42, 180, 0, 17, 16, 67, 27, 96, 92, 46, 4, 96, 79, 21, 6, 172]
abbrev dktX2_add_10 : List UInt8 := dkwX2_add_10 ++ []
def dkwX2_add_9 : List UInt8 := [180, 0, 17, 17, 0, 237, 21, 7, 96, 21, 6, 96, 29, 79, 42, 180, 0, 17, 16, 77, 21, 7, 96]
abbrev dktX2_add_9 : List UInt8 := dkwX2_add_9 ++ dktX2_add_10
def dkwX2_add_8 : List UInt8 := [180, 0, 17, 16, 77, 21, 7, 96, 21, 6, 96, 4, 100, 46, 79, 132, 6, 255, 167, 255, 170, 42]
abbrev dktX2_add_8 : List UInt8 := dkwX2_add_8 ++ dktX2_add_9
def dkwX2_add_7 : List UInt8 := [21, 7, 96, 21, 6, 96, 4, 100, 46, 79, 42, 180, 0, 17, 16, 77, 21, 7, 96, 21, 6, 96, 42]
abbrev dktX2_add_7 : List UInt8 := dkwX2_add_7 ++ dktX2_add_8
def dkwX2_add_6 : List UInt8 := [164, 0, 67, 42, 180, 0, 17, 17, 0, 237, 21, 7, 96, 21, 6, 96, 42, 180, 0, 17, 17, 0, 237]
abbrev dktX2_add_6 : List UInt8 := dkwX2_add_6 ++ dktX2_add_7
def dkwX2_add_5 : List UInt8 := [54, 7, 21, 6, 158, 0, 87, 42, 180, 0, 17, 17, 0, 237, 21, 7, 96, 21, 6, 96, 4, 100, 46, 29]
abbrev dktX2_add_5 : List UInt8 := dkwX2_add_5 ++ dktX2_add_6
def dkwX2_add_4 : List UInt8 := [153, 0, 5, 2, 172, 42, 182, 1, 69, 42, 180, 0, 17, 16, 67, 27, 96, 46, 54, 6, 16, 16, 27, 104]
abbrev dktX2_add_4 : List UInt8 := dkwX2_add_4 ++ dktX2_add_5
def dkwX2_add_3 : List UInt8 := [42, 180, 0, 17, 16, 67, 27, 96, 46, 16, 16, 160, 0, 7, 6, 167, 0, 4, 3, 182, 0, 161]
abbrev dktX2_add_3 : List UInt8 := dkwX2_add_3 ++ dktX2_add_4
def dkwX2_add_2 : List UInt8 := [153, 0, 7, 4, 167, 0, 4, 3, 184, 0, 157, 54, 5, 42, 21, 5, 153, 0, 8, 21, 5, 167, 0, 22]
abbrev dktX2_add_2 : List UInt8 := dkwX2_add_2 ++ dktX2_add_3
def dkwX2_add_1 : List UInt8 := [29, 42, 180, 0, 17, 16, 47, 27, 96, 46, 42, 180, 0, 17, 16, 57, 27, 96, 46, 184, 0, 79]
abbrev dktX2_add_1 : List UInt8 := dkwX2_add_1 ++ dktX2_add_2
def dkwX2_add_0 : List UInt8 := [42, 27, 182, 0, 187, 54, 4, 21, 4, 21, 4, 153, 0, 42, 28, 4, 16, 99, 184, 0, 79, 153, 0, 32]
abbrev dktX2_add_0 : List UInt8 := dkwX2_add_0 ++ dktX2_add_1
theorem dksX2_add_0 : cX2_add.data.toList.drop 0 = dktX2_add_0 := by decide +kernel
theorem dksX2_add_1 : cX2_add.data.toList.drop 24 = dktX2_add_1 := dk_seg dksX2_add_0 24 rfl rfl
theorem dksX2_add_2 : cX2_add.data.toList.drop 46 = dktX2_add_2 := dk_seg dksX2_add_1 22 rfl rfl
theorem dksX2_add_3 : cX2_add.data.toList.drop 70 = dktX2_add_3 := dk_seg dksX2_add_2 24 rfl rfl
theorem dksX2_add_4 : cX2_add.data.toList.drop 92 = dktX2_add_4 := dk_seg dksX2_add_3 22 rfl rfl
theorem dksX2_add_5 : cX2_add.data.toList.drop 116 = dktX2_add_5 := dk_seg dksX2_add_4 24 rfl rfl
theorem dksX2_add_6 : cX2_add.data.toList.drop 140 = dktX2_add_6 := dk_seg dksX2_add_5 24 rfl rfl
theorem dksX2_add_7 : cX2_add.data.toList.drop 163 = dktX2_add_7 := dk_seg dksX2_add_6 23 rfl rfl
theorem dksX2_add_8 : cX2_add.data.toList.drop 186 = dktX2_add_8 := dk_seg dksX2_add_7 23 rfl rfl
theorem dksX2_add_9 : cX2_add.data.toList.drop 208 = dktX2_add_9 := dk_seg dksX2_add_8 22 rfl rfl
theorem dksX2_add_10 : cX2_add.data.toList.drop 231 = dktX2_add_10 := dk_seg dksX2_add_9 23 rfl rfl
theorem dX2_add_0 : decode cX2_add 0 = .ok (.aload_n 0, 1) := dk_42 (dk_at dksX2_add_0 0 rfl rfl)
theorem dX2_add_1 : decode cX2_add 1 = .ok (.iload_n 1, 1) := dk_27 (dk_at dksX2_add_0 1 rfl rfl)
theorem dX2_add_2 : decode cX2_add 2 = .ok (.invokevirtual 187, 3) := dk_182 0 187 (dk_at dksX2_add_0 2 rfl rfl)
theorem dX2_add_5 : decode cX2_add 5 = .ok (.istore 4, 2) := dk_54 4 (dk_at dksX2_add_0 5 rfl rfl)
theorem dX2_add_7 : decode cX2_add 7 = .ok (.iload 4, 2) := dk_21 4 (dk_at dksX2_add_0 7 rfl rfl)
theorem dX2_add_9 : decode cX2_add 9 = .ok (.iload 4, 2) := dk_21 4 (dk_at dksX2_add_0 9 rfl rfl)
theorem dX2_add_11 : decode cX2_add 11 = .ok (.ifCond .eq 42, 3) := dk_153 0 42 (dk_at dksX2_add_0 11 rfl rfl)
theorem dX2_add_14 : decode cX2_add 14 = .ok (.iload_n 2, 1) := dk_28 (dk_at dksX2_add_0 14 rfl rfl)
theorem dX2_add_15 : decode cX2_add 15 = .ok (.iconst 1, 1) := dk_4 (dk_at dksX2_add_0 15 rfl rfl)
theorem dX2_add_16 : decode cX2_add 16 = .ok (.bipush 99, 2) := dk_16 99 (dk_at dksX2_add_0 16 rfl rfl)
theorem dX2_add_18 : decode cX2_add 18 = .ok (.invokestatic 79, 3) := dk_184 0 79 (dk_at dksX2_add_0 18 rfl rfl)
theorem dX2_add_21 : decode cX2_add 21 = .ok (.ifCond .eq 32, 3) := dk_153 0 32 (dk_at dksX2_add_0 21 rfl rfl)
theorem dX2_add_24 : decode cX2_add 24 = .ok (.iload_n 3, 1) := dk_29 (dk_at dksX2_add_1 0 rfl rfl)
theorem dX2_add_25 : decode cX2_add 25 = .ok (.aload_n 0, 1) := dk_42 (dk_at dksX2_add_1 1 rfl rfl)
theorem dX2_add_26 : decode cX2_add 26 = .ok (.getfield 17, 3) := dk_180 0 17 (dk_at dksX2_add_1 2 rfl rfl)
theorem dX2_add_29 : decode cX2_add 29 = .ok (.bipush 47, 2) := dk_16 47 (dk_at dksX2_add_1 5 rfl rfl)
theorem dX2_add_31 : decode cX2_add 31 = .ok (.iload_n 1, 1) := dk_27 (dk_at dksX2_add_1 7 rfl rfl)
theorem dX2_add_32 : decode cX2_add 32 = .ok (.iadd, 1) := dk_96 (dk_at dksX2_add_1 8 rfl rfl)
theorem dX2_add_33 : decode cX2_add 33 = .ok (.iaload, 1) := dk_46 (dk_at dksX2_add_1 9 rfl rfl)
theorem dX2_add_34 : decode cX2_add 34 = .ok (.aload_n 0, 1) := dk_42 (dk_at dksX2_add_1 10 rfl rfl)
theorem dX2_add_35 : decode cX2_add 35 = .ok (.getfield 17, 3) := dk_180 0 17 (dk_at dksX2_add_1 11 rfl rfl)
theorem dX2_add_38 : decode cX2_add 38 = .ok (.bipush 57, 2) := dk_16 57 (dk_at dksX2_add_1 14 rfl rfl)
theorem dX2_add_40 : decode cX2_add 40 = .ok (.iload_n 1, 1) := dk_27 (dk_at dksX2_add_1 16 rfl rfl)
theorem dX2_add_41 : decode cX2_add 41 = .ok (.iadd, 1) := dk_96 (dk_at dksX2_add_1 17 rfl rfl)
theorem dX2_add_42 : decode cX2_add 42 = .ok (.iaload, 1) := dk_46 (dk_at dksX2_add_1 18 rfl rfl)
theorem dX2_add_43 : decode cX2_add 43 = .ok (.invokestatic 79, 3) := dk_184 0 79 (dk_at dksX2_add_1 19 rfl rfl)
theorem dX2_add_46 : decode cX2_add 46 = .ok (.ifCond .eq 7, 3) := dk_153 0 7 (dk_at dksX2_add_2 0 rfl rfl)
theorem dX2_add_49 : decode cX2_add 49 = .ok (.iconst 1, 1) := dk_4 (dk_at dksX2_add_2 3 rfl rfl)
theorem dX2_add_50 : decode cX2_add 50 = .ok (.goto 4, 3) := dk_167 0 4 (dk_at dksX2_add_2 4 rfl rfl)
theorem dX2_add_53 : decode cX2_add 53 = .ok (.iconst 0, 1) := dk_3 (dk_at dksX2_add_2 7 rfl rfl)
theorem dX2_add_54 : decode cX2_add 54 = .ok (.invokestatic 157, 3) := dk_184 0 157 (dk_at dksX2_add_2 8 rfl rfl)
theorem dX2_add_57 : decode cX2_add 57 = .ok (.istore 5, 2) := dk_54 5 (dk_at dksX2_add_2 11 rfl rfl)
theorem dX2_add_59 : decode cX2_add 59 = .ok (.aload_n 0, 1) := dk_42 (dk_at dksX2_add_2 13 rfl rfl)
theorem dX2_add_60 : decode cX2_add 60 = .ok (.iload 5, 2) := dk_21 5 (dk_at dksX2_add_2 14 rfl rfl)
theorem dX2_add_62 : decode cX2_add 62 = .ok (.ifCond .eq 8, 3) := dk_153 0 8 (dk_at dksX2_add_2 16 rfl rfl)
theorem dX2_add_65 : decode cX2_add 65 = .ok (.iload 5, 2) := dk_21 5 (dk_at dksX2_add_2 19 rfl rfl)
theorem dX2_add_67 : decode cX2_add 67 = .ok (.goto 22, 3) := dk_167 0 22 (dk_at dksX2_add_2 21 rfl rfl)
theorem dX2_add_70 : decode cX2_add 70 = .ok (.aload_n 0, 1) := dk_42 (dk_at dksX2_add_3 0 rfl rfl)
theorem dX2_add_71 : decode cX2_add 71 = .ok (.getfield 17, 3) := dk_180 0 17 (dk_at dksX2_add_3 1 rfl rfl)
theorem dX2_add_74 : decode cX2_add 74 = .ok (.bipush 67, 2) := dk_16 67 (dk_at dksX2_add_3 4 rfl rfl)
theorem dX2_add_76 : decode cX2_add 76 = .ok (.iload_n 1, 1) := dk_27 (dk_at dksX2_add_3 6 rfl rfl)
theorem dX2_add_77 : decode cX2_add 77 = .ok (.iadd, 1) := dk_96 (dk_at dksX2_add_3 7 rfl rfl)
theorem dX2_add_78 : decode cX2_add 78 = .ok (.iaload, 1) := dk_46 (dk_at dksX2_add_3 8 rfl rfl)
theorem dX2_add_79 : decode cX2_add 79 = .ok (.bipush 16, 2) := dk_16 16 (dk_at dksX2_add_3 9 rfl rfl)
theorem dX2_add_81 : decode cX2_add 81 = .ok (.if_icmp .ne 7, 3) := dk_160 0 7 (dk_at dksX2_add_3 11 rfl rfl)
theorem dX2_add_84 : decode cX2_add 84 = .ok (.iconst 3, 1) := dk_6 (dk_at dksX2_add_3 14 rfl rfl)
theorem dX2_add_85 : decode cX2_add 85 = .ok (.goto 4, 3) := dk_167 0 4 (dk_at dksX2_add_3 15 rfl rfl)
theorem dX2_add_88 : decode cX2_add 88 = .ok (.iconst 0, 1) := dk_3 (dk_at dksX2_add_3 18 rfl rfl)
theorem dX2_add_89 : decode cX2_add 89 = .ok (.invokevirtual 161, 3) := dk_182 0 161 (dk_at dksX2_add_3 19 rfl rfl)
theorem dX2_add_92 : decode cX2_add 92 = .ok (.ifCond .eq 5, 3) := dk_153 0 5 (dk_at dksX2_add_4 0 rfl rfl)
theorem dX2_add_95 : decode cX2_add 95 = .ok (.iconst (-1), 1) := dk_2 (dk_at dksX2_add_4 3 rfl rfl)
theorem dX2_add_96 : decode cX2_add 96 = .ok (.ireturn, 1) := dk_172 (dk_at dksX2_add_4 4 rfl rfl)
theorem dX2_add_97 : decode cX2_add 97 = .ok (.aload_n 0, 1) := dk_42 (dk_at dksX2_add_4 5 rfl rfl)
theorem dX2_add_98 : decode cX2_add 98 = .ok (.invokevirtual 325, 3) := dk_182 1 69 (dk_at dksX2_add_4 6 rfl rfl)
theorem dX2_add_101 : decode cX2_add 101 = .ok (.aload_n 0, 1) := dk_42 (dk_at dksX2_add_4 9 rfl rfl)
theorem dX2_add_102 : decode cX2_add 102 = .ok (.getfield 17, 3) := dk_180 0 17 (dk_at dksX2_add_4 10 rfl rfl)
theorem dX2_add_105 : decode cX2_add 105 = .ok (.bipush 67, 2) := dk_16 67 (dk_at dksX2_add_4 13 rfl rfl)
theorem dX2_add_107 : decode cX2_add 107 = .ok (.iload_n 1, 1) := dk_27 (dk_at dksX2_add_4 15 rfl rfl)
theorem dX2_add_108 : decode cX2_add 108 = .ok (.iadd, 1) := dk_96 (dk_at dksX2_add_4 16 rfl rfl)
theorem dX2_add_109 : decode cX2_add 109 = .ok (.iaload, 1) := dk_46 (dk_at dksX2_add_4 17 rfl rfl)
theorem dX2_add_110 : decode cX2_add 110 = .ok (.istore 6, 2) := dk_54 6 (dk_at dksX2_add_4 18 rfl rfl)
theorem dX2_add_112 : decode cX2_add 112 = .ok (.bipush 16, 2) := dk_16 16 (dk_at dksX2_add_4 20 rfl rfl)
theorem dX2_add_114 : decode cX2_add 114 = .ok (.iload_n 1, 1) := dk_27 (dk_at dksX2_add_4 22 rfl rfl)
theorem dX2_add_115 : decode cX2_add 115 = .ok (.imul, 1) := dk_104 (dk_at dksX2_add_4 23 rfl rfl)
theorem dX2_add_116 : decode cX2_add 116 = .ok (.istore 7, 2) := dk_54 7 (dk_at dksX2_add_5 0 rfl rfl)
theorem dX2_add_118 : decode cX2_add 118 = .ok (.iload 6, 2) := dk_21 6 (dk_at dksX2_add_5 2 rfl rfl)
theorem dX2_add_120 : decode cX2_add 120 = .ok (.ifCond .le 87, 3) := dk_158 0 87 (dk_at dksX2_add_5 4 rfl rfl)
theorem dX2_add_123 : decode cX2_add 123 = .ok (.aload_n 0, 1) := dk_42 (dk_at dksX2_add_5 7 rfl rfl)
theorem dX2_add_124 : decode cX2_add 124 = .ok (.getfield 17, 3) := dk_180 0 17 (dk_at dksX2_add_5 8 rfl rfl)
theorem dX2_add_127 : decode cX2_add 127 = .ok (.sipush 237, 3) := dk_17 0 237 (dk_at dksX2_add_5 11 rfl rfl)
theorem dX2_add_130 : decode cX2_add 130 = .ok (.iload 7, 2) := dk_21 7 (dk_at dksX2_add_5 14 rfl rfl)
theorem dX2_add_132 : decode cX2_add 132 = .ok (.iadd, 1) := dk_96 (dk_at dksX2_add_5 16 rfl rfl)
theorem dX2_add_133 : decode cX2_add 133 = .ok (.iload 6, 2) := dk_21 6 (dk_at dksX2_add_5 17 rfl rfl)
theorem dX2_add_135 : decode cX2_add 135 = .ok (.iadd, 1) := dk_96 (dk_at dksX2_add_5 19 rfl rfl)
theorem dX2_add_136 : decode cX2_add 136 = .ok (.iconst 1, 1) := dk_4 (dk_at dksX2_add_5 20 rfl rfl)
theorem dX2_add_137 : decode cX2_add 137 = .ok (.isub, 1) := dk_100 (dk_at dksX2_add_5 21 rfl rfl)
theorem dX2_add_138 : decode cX2_add 138 = .ok (.iaload, 1) := dk_46 (dk_at dksX2_add_5 22 rfl rfl)
theorem dX2_add_139 : decode cX2_add 139 = .ok (.iload_n 3, 1) := dk_29 (dk_at dksX2_add_5 23 rfl rfl)
theorem dX2_add_140 : decode cX2_add 140 = .ok (.if_icmp .le 67, 3) := dk_164 0 67 (dk_at dksX2_add_6 0 rfl rfl)
theorem dX2_add_143 : decode cX2_add 143 = .ok (.aload_n 0, 1) := dk_42 (dk_at dksX2_add_6 3 rfl rfl)
theorem dX2_add_144 : decode cX2_add 144 = .ok (.getfield 17, 3) := dk_180 0 17 (dk_at dksX2_add_6 4 rfl rfl)
theorem dX2_add_147 : decode cX2_add 147 = .ok (.sipush 237, 3) := dk_17 0 237 (dk_at dksX2_add_6 7 rfl rfl)
theorem dX2_add_150 : decode cX2_add 150 = .ok (.iload 7, 2) := dk_21 7 (dk_at dksX2_add_6 10 rfl rfl)
theorem dX2_add_152 : decode cX2_add 152 = .ok (.iadd, 1) := dk_96 (dk_at dksX2_add_6 12 rfl rfl)
theorem dX2_add_153 : decode cX2_add 153 = .ok (.iload 6, 2) := dk_21 6 (dk_at dksX2_add_6 13 rfl rfl)
theorem dX2_add_155 : decode cX2_add 155 = .ok (.iadd, 1) := dk_96 (dk_at dksX2_add_6 15 rfl rfl)
theorem dX2_add_156 : decode cX2_add 156 = .ok (.aload_n 0, 1) := dk_42 (dk_at dksX2_add_6 16 rfl rfl)
theorem dX2_add_157 : decode cX2_add 157 = .ok (.getfield 17, 3) := dk_180 0 17 (dk_at dksX2_add_6 17 rfl rfl)
theorem dX2_add_160 : decode cX2_add 160 = .ok (.sipush 237, 3) := dk_17 0 237 (dk_at dksX2_add_6 20 rfl rfl)
theorem dX2_add_163 : decode cX2_add 163 = .ok (.iload 7, 2) := dk_21 7 (dk_at dksX2_add_7 0 rfl rfl)
theorem dX2_add_165 : decode cX2_add 165 = .ok (.iadd, 1) := dk_96 (dk_at dksX2_add_7 2 rfl rfl)
theorem dX2_add_166 : decode cX2_add 166 = .ok (.iload 6, 2) := dk_21 6 (dk_at dksX2_add_7 3 rfl rfl)
theorem dX2_add_168 : decode cX2_add 168 = .ok (.iadd, 1) := dk_96 (dk_at dksX2_add_7 5 rfl rfl)
theorem dX2_add_169 : decode cX2_add 169 = .ok (.iconst 1, 1) := dk_4 (dk_at dksX2_add_7 6 rfl rfl)
theorem dX2_add_170 : decode cX2_add 170 = .ok (.isub, 1) := dk_100 (dk_at dksX2_add_7 7 rfl rfl)
theorem dX2_add_171 : decode cX2_add 171 = .ok (.iaload, 1) := dk_46 (dk_at dksX2_add_7 8 rfl rfl)
theorem dX2_add_172 : decode cX2_add 172 = .ok (.iastore, 1) := dk_79 (dk_at dksX2_add_7 9 rfl rfl)
theorem dX2_add_173 : decode cX2_add 173 = .ok (.aload_n 0, 1) := dk_42 (dk_at dksX2_add_7 10 rfl rfl)
theorem dX2_add_174 : decode cX2_add 174 = .ok (.getfield 17, 3) := dk_180 0 17 (dk_at dksX2_add_7 11 rfl rfl)
theorem dX2_add_177 : decode cX2_add 177 = .ok (.bipush 77, 2) := dk_16 77 (dk_at dksX2_add_7 14 rfl rfl)
theorem dX2_add_179 : decode cX2_add 179 = .ok (.iload 7, 2) := dk_21 7 (dk_at dksX2_add_7 16 rfl rfl)
theorem dX2_add_181 : decode cX2_add 181 = .ok (.iadd, 1) := dk_96 (dk_at dksX2_add_7 18 rfl rfl)
theorem dX2_add_182 : decode cX2_add 182 = .ok (.iload 6, 2) := dk_21 6 (dk_at dksX2_add_7 19 rfl rfl)
theorem dX2_add_184 : decode cX2_add 184 = .ok (.iadd, 1) := dk_96 (dk_at dksX2_add_7 21 rfl rfl)
theorem dX2_add_185 : decode cX2_add 185 = .ok (.aload_n 0, 1) := dk_42 (dk_at dksX2_add_7 22 rfl rfl)
theorem dX2_add_186 : decode cX2_add 186 = .ok (.getfield 17, 3) := dk_180 0 17 (dk_at dksX2_add_8 0 rfl rfl)
theorem dX2_add_189 : decode cX2_add 189 = .ok (.bipush 77, 2) := dk_16 77 (dk_at dksX2_add_8 3 rfl rfl)
theorem dX2_add_191 : decode cX2_add 191 = .ok (.iload 7, 2) := dk_21 7 (dk_at dksX2_add_8 5 rfl rfl)
theorem dX2_add_193 : decode cX2_add 193 = .ok (.iadd, 1) := dk_96 (dk_at dksX2_add_8 7 rfl rfl)
theorem dX2_add_194 : decode cX2_add 194 = .ok (.iload 6, 2) := dk_21 6 (dk_at dksX2_add_8 8 rfl rfl)
theorem dX2_add_196 : decode cX2_add 196 = .ok (.iadd, 1) := dk_96 (dk_at dksX2_add_8 10 rfl rfl)
theorem dX2_add_197 : decode cX2_add 197 = .ok (.iconst 1, 1) := dk_4 (dk_at dksX2_add_8 11 rfl rfl)
theorem dX2_add_198 : decode cX2_add 198 = .ok (.isub, 1) := dk_100 (dk_at dksX2_add_8 12 rfl rfl)
theorem dX2_add_199 : decode cX2_add 199 = .ok (.iaload, 1) := dk_46 (dk_at dksX2_add_8 13 rfl rfl)
theorem dX2_add_200 : decode cX2_add 200 = .ok (.iastore, 1) := dk_79 (dk_at dksX2_add_8 14 rfl rfl)
theorem dX2_add_201 : decode cX2_add 201 = .ok (.iinc 6 (-1), 3) := dk_132 6 255 (dk_at dksX2_add_8 15 rfl rfl)
theorem dX2_add_204 : decode cX2_add 204 = .ok (.goto (-86), 3) := dk_167 255 170 (dk_at dksX2_add_8 18 rfl rfl)
theorem dX2_add_207 : decode cX2_add 207 = .ok (.aload_n 0, 1) := dk_42 (dk_at dksX2_add_8 21 rfl rfl)
theorem dX2_add_208 : decode cX2_add 208 = .ok (.getfield 17, 3) := dk_180 0 17 (dk_at dksX2_add_9 0 rfl rfl)
theorem dX2_add_211 : decode cX2_add 211 = .ok (.sipush 237, 3) := dk_17 0 237 (dk_at dksX2_add_9 3 rfl rfl)
theorem dX2_add_214 : decode cX2_add 214 = .ok (.iload 7, 2) := dk_21 7 (dk_at dksX2_add_9 6 rfl rfl)
theorem dX2_add_216 : decode cX2_add 216 = .ok (.iadd, 1) := dk_96 (dk_at dksX2_add_9 8 rfl rfl)
theorem dX2_add_217 : decode cX2_add 217 = .ok (.iload 6, 2) := dk_21 6 (dk_at dksX2_add_9 9 rfl rfl)
theorem dX2_add_219 : decode cX2_add 219 = .ok (.iadd, 1) := dk_96 (dk_at dksX2_add_9 11 rfl rfl)
theorem dX2_add_220 : decode cX2_add 220 = .ok (.iload_n 3, 1) := dk_29 (dk_at dksX2_add_9 12 rfl rfl)
theorem dX2_add_221 : decode cX2_add 221 = .ok (.iastore, 1) := dk_79 (dk_at dksX2_add_9 13 rfl rfl)
theorem dX2_add_222 : decode cX2_add 222 = .ok (.aload_n 0, 1) := dk_42 (dk_at dksX2_add_9 14 rfl rfl)
theorem dX2_add_223 : decode cX2_add 223 = .ok (.getfield 17, 3) := dk_180 0 17 (dk_at dksX2_add_9 15 rfl rfl)
theorem dX2_add_226 : decode cX2_add 226 = .ok (.bipush 77, 2) := dk_16 77 (dk_at dksX2_add_9 18 rfl rfl)
theorem dX2_add_228 : decode cX2_add 228 = .ok (.iload 7, 2) := dk_21 7 (dk_at dksX2_add_9 20 rfl rfl)
theorem dX2_add_230 : decode cX2_add 230 = .ok (.iadd, 1) := dk_96 (dk_at dksX2_add_9 22 rfl rfl)
theorem dX2_add_231 : decode cX2_add 231 = .ok (.iload 6, 2) := dk_21 6 (dk_at dksX2_add_10 0 rfl rfl)
theorem dX2_add_233 : decode cX2_add 233 = .ok (.iadd, 1) := dk_96 (dk_at dksX2_add_10 2 rfl rfl)
theorem dX2_add_234 : decode cX2_add 234 = .ok (.iload_n 2, 1) := dk_28 (dk_at dksX2_add_10 3 rfl rfl)
theorem dX2_add_235 : decode cX2_add 235 = .ok (.iastore, 1) := dk_79 (dk_at dksX2_add_10 4 rfl rfl)
theorem dX2_add_236 : decode cX2_add 236 = .ok (.aload_n 0, 1) := dk_42 (dk_at dksX2_add_10 5 rfl rfl)
theorem dX2_add_237 : decode cX2_add 237 = .ok (.getfield 17, 3) := dk_180 0 17 (dk_at dksX2_add_10 6 rfl rfl)
theorem dX2_add_240 : decode cX2_add 240 = .ok (.bipush 67, 2) := dk_16 67 (dk_at dksX2_add_10 9 rfl rfl)
theorem dX2_add_242 : decode cX2_add 242 = .ok (.iload_n 1, 1) := dk_27 (dk_at dksX2_add_10 11 rfl rfl)
theorem dX2_add_243 : decode cX2_add 243 = .ok (.iadd, 1) := dk_96 (dk_at dksX2_add_10 12 rfl rfl)
theorem dX2_add_244 : decode cX2_add 244 = .ok (.dup2, 1) := dk_92 (dk_at dksX2_add_10 13 rfl rfl)
theorem dX2_add_245 : decode cX2_add 245 = .ok (.iaload, 1) := dk_46 (dk_at dksX2_add_10 14 rfl rfl)
theorem dX2_add_246 : decode cX2_add 246 = .ok (.iconst 1, 1) := dk_4 (dk_at dksX2_add_10 15 rfl rfl)
theorem dX2_add_247 : decode cX2_add 247 = .ok (.iadd, 1) := dk_96 (dk_at dksX2_add_10 16 rfl rfl)
theorem dX2_add_248 : decode cX2_add 248 = .ok (.iastore, 1) := dk_79 (dk_at dksX2_add_10 17 rfl rfl)
theorem dX2_add_249 : decode cX2_add 249 = .ok (.iload 6, 2) := dk_21 6 (dk_at dksX2_add_10 18 rfl rfl)
theorem dX2_add_251 : decode cX2_add 251 = .ok (.ireturn, 1) := dk_172 (dk_at dksX2_add_10 20 rfl rfl)
theorem md_X2_add : xMd yX2_add cX2_add 8 (Option.some Jvm.ClassFile.FieldType.int) 3 := ⟨q3413, q126, by decide, by decide +kernel, by decide +kernel, by decide +kernel⟩
def T_add_207   (v1 : Int32) (v2 : Int32) (v3 : Int32) (v6 : Int32) (v7 : Int32) (s0 : TS) : Option (xO × TS) :=
  (tast s0 7 ((237 + v7) + v6) v3 fun s11 =>
  (tast s11 7 ((77 + v7) + v6) v2 fun s12 =>
  (bnd (67 + v1) fun x13 =>
  (tald s12 7 x13 fun x14 =>
  (tast s12 7 x13 (x14 + 1) fun s15 =>
  (rI v6 s15))))))
def T_add_118F   (k118 : Int32 × Int32 × Int32 × Int32 × Int32 × TS → Option (xO × TS)) (p : Int32 × Int32 × Int32 × Int32 × Int32 × TS) : Option (xO × TS) := match p with
  | (v1, v2, v3, v6, v7, s0) => (if v6 ≤ 0 then
  (T_add_207 v1 v2 v3 v6 v7 s0) else
  (tald s0 7 (((237 + v7) + v6) - 1) fun x16 =>
  (if x16 ≤ v3 then
  (T_add_207 v1 v2 v3 v6 v7 s0) else
  (tald s0 7 (((237 + v7) + v6) - 1) fun x17 =>
  (tast s0 7 ((237 + v7) + v6) x17 fun s18 =>
  (tald s18 7 (((77 + v7) + v6) - 1) fun x19 =>
  (tast s18 7 ((77 + v7) + v6) x19 fun s20 =>
  (bnd (v6 + (-1)) fun x21 =>
  (k118 (v1, v2, v3, x21, v7, s20))))))))))
def T_add_89   (v1 : Int32) (v2 : Int32) (v3 : Int32) (w1 : Int32) (s0 : TS) : Option (xO × TS) :=
  (xcI (T_isRefused s0 w1) fun x7 s6 =>
  (if x7 = 0 then
  (xcV (T_remembers s6 ) fun s8 =>
  (tald s8 7 (67 + v1) fun x9 =>
  (bnd (16 * v1) fun x10 =>
  (lp (T_add_118F) FU (v1, v2, v3, x9, x10, s8))))) else
  (rI (-1) s6)))
def T_add_54   (v1 : Int32) (v2 : Int32) (v3 : Int32) (w0 : Int32) (w1 : Int32) (s0 : TS) : Option (xO × TS) :=
  (xcI (T_unless s0 w0 w1) fun x4 s3 =>
  (if x4 = 0 then
  (tald s3 7 (67 + v1) fun x5 =>
  (if x5 = 16 then
  (T_add_89 v1 v2 v3 3 s3) else
  (T_add_89 v1 v2 v3 0 s3))) else
  (T_add_89 v1 v2 v3 x4 s3)))
def T_add_53   (v1 : Int32) (v2 : Int32) (v3 : Int32) (w0 : Int32) (s0 : TS) : Option (xO × TS) :=
  (T_add_54 v1 v2 v3 w0 0 s0)
def T_add (s0 : TS) (a1 : Int32) (a2 : Int32) (a3 : Int32) : Option (xO × TS) :=
  (xcI (T_isRunner s0 a1) fun x2 s1 =>
  (if x2 = 0 then
  (T_add_53 a1 a2 a3 x2 s1) else
  (xcI (T_in s1 a2 1 99) fun x23 s22 =>
  (if x23 = 0 then
  (T_add_53 a1 a2 a3 x2 s22) else
  (tald s22 7 (47 + a1) fun x24 =>
  (tald s22 7 (57 + a1) fun x25 =>
  (xcI (T_in s22 a3 x24 x25) fun x27 s26 =>
  (if x27 = 0 then
  (T_add_53 a1 a2 a3 x2 s26) else
  (T_add_54 a1 a2 a3 x2 1 s26)))))))))
theorem T_add_207_ok {G : xG} {E : TE} (hO : xOK G) (hE : tok E)   (v1 : Int32) (v2 : Int32) (v3 : Int32) (v6 : Int32) (v7 : Int32) (s0 : TS) : XT G E "ForestLegsModel" "add" cX2_add 8 (Option.some Jvm.ClassFile.FieldType.int) 2 207 [(0, .ref E.2.1), (1, .int v1), (2, .int v2), (3, .int v3), (6, .int v6), (7, .int v7)] [] s0 (T_add_207 v1 v2 v3 v6 v7 s0) := by
  unfold T_add_207
  refine x_aload_nr 0 dX2_add_207 rfl rfl (n := 208) rfl ?_
  refine tw_getA fl_X2_17 rfl (by decide) dX2_add_208 (n := 211) rfl ?_
  refine x_sipush 237 dX2_add_211 rfl (n := 214) rfl ?_
  refine x_iload 5 dX2_add_214 rfl (n := 216) rfl ?_
  refine x_iadd dX2_add_216 (n := 217) rfl ?_
  refine x_iload 4 dX2_add_217 rfl (n := 219) rfl ?_
  refine x_iadd dX2_add_219 (n := 220) rfl ?_
  refine x_iload_n 3 dX2_add_220 rfl rfl (n := 221) rfl ?_
  refine tw_iast hE (by decide) dX2_add_221 (n := 222) rfl (fun s11 => ?_)
  refine x_aload_nr 0 dX2_add_222 rfl rfl (n := 223) rfl ?_
  refine tw_getA fl_X2_17 rfl (by decide) dX2_add_223 (n := 226) rfl ?_
  refine x_bipush 77 dX2_add_226 rfl (n := 228) rfl ?_
  refine x_iload 5 dX2_add_228 rfl (n := 230) rfl ?_
  refine x_iadd dX2_add_230 (n := 231) rfl ?_
  refine x_iload 4 dX2_add_231 rfl (n := 233) rfl ?_
  refine x_iadd dX2_add_233 (n := 234) rfl ?_
  refine x_iload_n 2 dX2_add_234 rfl rfl (n := 235) rfl ?_
  refine tw_iast hE (by decide) dX2_add_235 (n := 236) rfl (fun s12 => ?_)
  refine x_aload_nr 0 dX2_add_236 rfl rfl (n := 237) rfl ?_
  refine tw_getA fl_X2_17 rfl (by decide) dX2_add_237 (n := 240) rfl ?_
  refine x_bipush 67 dX2_add_240 rfl (n := 242) rfl ?_
  refine x_iload_n 1 dX2_add_242 rfl rfl (n := 243) rfl ?_
  refine x_iadd dX2_add_243 (n := 244) rfl ?_
  refine tw_nm (fun x13 => ?_)
  refine x_dup2 dX2_add_244 rfl rfl (n := 245) rfl ?_
  refine tw_iald hE (by decide) dX2_add_245 (n := 246) rfl (fun x14 => ?_)
  refine x_iconst 1 dX2_add_246 rfl (n := 247) rfl ?_
  refine x_iadd dX2_add_247 (n := 248) rfl ?_
  refine tw_iast hE (by decide) dX2_add_248 (n := 249) rfl (fun s15 => ?_)
  refine x_iload 4 dX2_add_249 rfl (n := 251) rfl ?_
  exact tw_ireturn dX2_add_251
theorem T_add_118F_ok {G : xG} {E : TE} (hO : xOK G) (hE : tok E)   {k118 : Int32 × Int32 × Int32 × Int32 × Int32 × TS → Option (xO × TS)} (hk118 : ∀ (v1 : Int32) (v2 : Int32) (v3 : Int32) (v6 : Int32) (v7 : Int32) (s0 : TS), XT G E "ForestLegsModel" "add" cX2_add 8 (Option.some Jvm.ClassFile.FieldType.int) 2 118 [(0, .ref E.2.1), (1, .int v1), (2, .int v2), (3, .int v3), (6, .int v6), (7, .int v7)] [] s0 (k118 (v1, v2, v3, v6, v7, s0))) (v1 : Int32) (v2 : Int32) (v3 : Int32) (v6 : Int32) (v7 : Int32) (s0 : TS) : XT G E "ForestLegsModel" "add" cX2_add 8 (Option.some Jvm.ClassFile.FieldType.int) 2 118 [(0, .ref E.2.1), (1, .int v1), (2, .int v2), (3, .int v3), (6, .int v6), (7, .int v7)] [] s0 (T_add_118F k118 (v1, v2, v3, v6, v7, s0)) := by
  unfold T_add_118F
  refine x_iload 4 dX2_add_118 rfl (n := 120) rfl ?_
  refine tw_if_le dX2_add_120 (t := 207) (by decide) (n := 123) rfl ?_ ?_
  · exact T_add_207_ok hO hE v1 v2 v3 v6 v7 s0
  · refine x_aload_nr 0 dX2_add_123 rfl rfl (n := 124) rfl ?_
    refine tw_getA fl_X2_17 rfl (by decide) dX2_add_124 (n := 127) rfl ?_
    refine x_sipush 237 dX2_add_127 rfl (n := 130) rfl ?_
    refine x_iload 5 dX2_add_130 rfl (n := 132) rfl ?_
    refine x_iadd dX2_add_132 (n := 133) rfl ?_
    refine x_iload 4 dX2_add_133 rfl (n := 135) rfl ?_
    refine x_iadd dX2_add_135 (n := 136) rfl ?_
    refine x_iconst 1 dX2_add_136 rfl (n := 137) rfl ?_
    refine x_isub dX2_add_137 (n := 138) rfl ?_
    refine tw_iald hE (by decide) dX2_add_138 (n := 139) rfl (fun x16 => ?_)
    refine x_iload_n 3 dX2_add_139 rfl rfl (n := 140) rfl ?_
    refine tw_icmp_le dX2_add_140 (t := 207) (by decide) (n := 143) rfl ?_ ?_
    · exact T_add_207_ok hO hE v1 v2 v3 v6 v7 s0
    · refine x_aload_nr 0 dX2_add_143 rfl rfl (n := 144) rfl ?_
      refine tw_getA fl_X2_17 rfl (by decide) dX2_add_144 (n := 147) rfl ?_
      refine x_sipush 237 dX2_add_147 rfl (n := 150) rfl ?_
      refine x_iload 5 dX2_add_150 rfl (n := 152) rfl ?_
      refine x_iadd dX2_add_152 (n := 153) rfl ?_
      refine x_iload 4 dX2_add_153 rfl (n := 155) rfl ?_
      refine x_iadd dX2_add_155 (n := 156) rfl ?_
      refine x_aload_nr 0 dX2_add_156 rfl rfl (n := 157) rfl ?_
      refine tw_getA fl_X2_17 rfl (by decide) dX2_add_157 (n := 160) rfl ?_
      refine x_sipush 237 dX2_add_160 rfl (n := 163) rfl ?_
      refine x_iload 5 dX2_add_163 rfl (n := 165) rfl ?_
      refine x_iadd dX2_add_165 (n := 166) rfl ?_
      refine x_iload 4 dX2_add_166 rfl (n := 168) rfl ?_
      refine x_iadd dX2_add_168 (n := 169) rfl ?_
      refine x_iconst 1 dX2_add_169 rfl (n := 170) rfl ?_
      refine x_isub dX2_add_170 (n := 171) rfl ?_
      refine tw_iald hE (by decide) dX2_add_171 (n := 172) rfl (fun x17 => ?_)
      refine tw_iast hE (by decide) dX2_add_172 (n := 173) rfl (fun s18 => ?_)
      refine x_aload_nr 0 dX2_add_173 rfl rfl (n := 174) rfl ?_
      refine tw_getA fl_X2_17 rfl (by decide) dX2_add_174 (n := 177) rfl ?_
      refine x_bipush 77 dX2_add_177 rfl (n := 179) rfl ?_
      refine x_iload 5 dX2_add_179 rfl (n := 181) rfl ?_
      refine x_iadd dX2_add_181 (n := 182) rfl ?_
      refine x_iload 4 dX2_add_182 rfl (n := 184) rfl ?_
      refine x_iadd dX2_add_184 (n := 185) rfl ?_
      refine x_aload_nr 0 dX2_add_185 rfl rfl (n := 186) rfl ?_
      refine tw_getA fl_X2_17 rfl (by decide) dX2_add_186 (n := 189) rfl ?_
      refine x_bipush 77 dX2_add_189 rfl (n := 191) rfl ?_
      refine x_iload 5 dX2_add_191 rfl (n := 193) rfl ?_
      refine x_iadd dX2_add_193 (n := 194) rfl ?_
      refine x_iload 4 dX2_add_194 rfl (n := 196) rfl ?_
      refine x_iadd dX2_add_196 (n := 197) rfl ?_
      refine x_iconst 1 dX2_add_197 rfl (n := 198) rfl ?_
      refine x_isub dX2_add_198 (n := 199) rfl ?_
      refine tw_iald hE (by decide) dX2_add_199 (n := 200) rfl (fun x19 => ?_)
      refine tw_iast hE (by decide) dX2_add_200 (n := 201) rfl (fun s20 => ?_)
      refine tw_iinc 4 (fun x21 => [(6, .int x21), (0, .ref E.2.1), (1, .int v1), (2, .int v2), (3, .int v3), (7, .int v7)]) dX2_add_201 rfl rfl (by decide) (fun _ => rfl) (n := 204) rfl (fun x21 => ?_)
      refine x_goto dX2_add_204 (n := 118) (by decide) ?_
      refine x_sub [1, 2, 3, 4, 0, 5] [(0, .ref E.2.1), (1, .int v1), (2, .int v2), (3, .int v3), (6, .int x21), (7, .int v7)] rfl ?_
      exact hk118 v1 v2 v3 x21 v7 s20
theorem T_add_118_lp {G : xG} {E : TE} (hO : xOK G) (hE : tok E)   (n : Nat) (v1 : Int32) (v2 : Int32) (v3 : Int32) (v6 : Int32) (v7 : Int32) (s0 : TS) : XT G E "ForestLegsModel" "add" cX2_add 8 (Option.some Jvm.ClassFile.FieldType.int) 2 118 [(0, .ref E.2.1), (1, .int v1), (2, .int v2), (3, .int v3), (6, .int v6), (7, .int v7)] [] s0 (lp (T_add_118F) n (v1, v2, v3, v6, v7, s0)) :=
  lp_ok (W := fun p K => XT G E "ForestLegsModel" "add" cX2_add 8 (Option.some Jvm.ClassFile.FieldType.int) 2 118 [(0, .ref E.2.1), (1, .int p.1), (2, .int p.2.1), (3, .int p.2.2.1), (6, .int p.2.2.2.1), (7, .int p.2.2.2.2.1)] [] p.2.2.2.2.2 K) (fun _ => tw_no) (fun k hk => fun (v1, v2, v3, v6, v7, s0) => T_add_118F_ok hO hE (fun v1 v2 v3 v6 v7 s0 => hk (v1, v2, v3, v6, v7, s0)) v1 v2 v3 v6 v7 s0) n (v1, v2, v3, v6, v7, s0)
theorem T_add_89_ok {G : xG} {E : TE} (hO : xOK G) (hE : tok E)   (v1 : Int32) (v2 : Int32) (v3 : Int32) (w1 : Int32) (s0 : TS) : XT G E "ForestLegsModel" "add" cX2_add 8 (Option.some Jvm.ClassFile.FieldType.int) 2 89 [(0, .ref E.2.1), (1, .int v1), (2, .int v2), (3, .int v3)] [.int w1, .ref E.2.1] s0 (T_add_89 v1 v2 v3 w1 s0) := by
  unfold T_add_89
  refine tw_callV_I [.int w1] [] (T_isRefused_ok hO hE s0 w1) md_X2_isRefused q3022 q3024 qs63 dX2_add_89 rfl rfl (by decide) (Nat.le_of_ble_eq_true rfl) (n := 92) rfl (fun x7 s6 => ?_)
  refine tw_if_eq dX2_add_92 (t := 97) (by decide) (n := 95) rfl ?_ ?_
  · refine x_aload_nr 0 dX2_add_97 rfl rfl (n := 98) rfl ?_
    refine tw_callV_V [] [] (T_remembers_ok hO hE s6 ) md_X2_remembers q3414 q3416 qs118 dX2_add_98 rfl rfl (by decide) (Nat.le_of_ble_eq_true rfl) (n := 101) rfl (fun s8 => ?_)
    refine x_aload_nr 0 dX2_add_101 rfl rfl (n := 102) rfl ?_
    refine tw_getA fl_X2_17 rfl (by decide) dX2_add_102 (n := 105) rfl ?_
    refine x_bipush 67 dX2_add_105 rfl (n := 107) rfl ?_
    refine x_iload_n 1 dX2_add_107 rfl rfl (n := 108) rfl ?_
    refine x_iadd dX2_add_108 (n := 109) rfl ?_
    refine tw_iald hE (by decide) dX2_add_109 (n := 110) rfl (fun x9 => ?_)
    refine x_istore [(6, .int x9), (0, .ref E.2.1), (1, .int v1), (2, .int v2), (3, .int v3)] dX2_add_110 (by decide) rfl (n := 112) rfl ?_
    refine x_bipush 16 dX2_add_112 rfl (n := 114) rfl ?_
    refine x_iload_n 2 dX2_add_114 rfl rfl (n := 115) rfl ?_
    refine x_imul dX2_add_115 (n := 116) rfl ?_
    refine tw_nm (fun x10 => ?_)
    refine x_istore [(7, .int x10), (6, .int x9), (0, .ref E.2.1), (1, .int v1), (2, .int v2), (3, .int v3)] dX2_add_116 (by decide) rfl (n := 118) rfl ?_
    refine x_sub [2, 3, 4, 5, 1, 0] [(0, .ref E.2.1), (1, .int v1), (2, .int v2), (3, .int v3), (6, .int x9), (7, .int x10)] rfl ?_
    exact T_add_118_lp hO hE FU v1 v2 v3 x9 x10 s8
  · refine x_iconst (-1) dX2_add_95 rfl (n := 96) rfl ?_
    exact tw_ireturn dX2_add_96
theorem T_add_54_ok {G : xG} {E : TE} (hO : xOK G) (hE : tok E)   (v1 : Int32) (v2 : Int32) (v3 : Int32) (w0 : Int32) (w1 : Int32) (s0 : TS) : XT G E "ForestLegsModel" "add" cX2_add 8 (Option.some Jvm.ClassFile.FieldType.int) 2 54 [(0, .ref E.2.1), (1, .int v1), (2, .int v2), (3, .int v3)] [.int w1, .int w0] s0 (T_add_54 v1 v2 v3 w0 w1 s0) := by
  unfold T_add_54
  refine tw_callS_I [.int w0, .int w1] [] (T_unless_ok hO hE s0 w0 w1) md_X2_unless q3019 q3020 dX2_add_54 rfl rfl (by decide) (Nat.le_of_ble_eq_true rfl) (n := 57) rfl (fun x4 s3 => ?_)
  refine x_istore [(5, .int x4), (0, .ref E.2.1), (1, .int v1), (2, .int v2), (3, .int v3)] dX2_add_57 (by decide) rfl (n := 59) rfl ?_
  refine x_aload_nr 1 dX2_add_59 rfl rfl (n := 60) rfl ?_
  refine x_iload 0 dX2_add_60 rfl (n := 62) rfl ?_
  refine tw_if_eq dX2_add_62 (t := 70) (by decide) (n := 65) rfl ?_ ?_
  · refine x_aload_nr 1 dX2_add_70 rfl rfl (n := 71) rfl ?_
    refine tw_getA fl_X2_17 rfl (by decide) dX2_add_71 (n := 74) rfl ?_
    refine x_bipush 67 dX2_add_74 rfl (n := 76) rfl ?_
    refine x_iload_n 2 dX2_add_76 rfl rfl (n := 77) rfl ?_
    refine x_iadd dX2_add_77 (n := 78) rfl ?_
    refine tw_iald hE (by decide) dX2_add_78 (n := 79) rfl (fun x5 => ?_)
    refine x_bipush 16 dX2_add_79 rfl (n := 81) rfl ?_
    refine tw_icmp_ne dX2_add_81 (t := 88) (by decide) (n := 84) rfl ?_ ?_
    · refine x_iconst 0 dX2_add_88 rfl (n := 89) rfl ?_
      refine x_sub [1, 2, 3, 4] [(0, .ref E.2.1), (1, .int v1), (2, .int v2), (3, .int v3)] rfl ?_
      exact T_add_89_ok hO hE v1 v2 v3 0 s3
    · refine x_iconst 3 dX2_add_84 rfl (n := 85) rfl ?_
      refine x_goto dX2_add_85 (n := 89) (by decide) ?_
      refine x_sub [1, 2, 3, 4] [(0, .ref E.2.1), (1, .int v1), (2, .int v2), (3, .int v3)] rfl ?_
      exact T_add_89_ok hO hE v1 v2 v3 3 s3
  · refine x_iload 0 dX2_add_65 rfl (n := 67) rfl ?_
    refine x_goto dX2_add_67 (n := 89) (by decide) ?_
    refine x_sub [1, 2, 3, 4] [(0, .ref E.2.1), (1, .int v1), (2, .int v2), (3, .int v3)] rfl ?_
    exact T_add_89_ok hO hE v1 v2 v3 x4 s3
theorem T_add_53_ok {G : xG} {E : TE} (hO : xOK G) (hE : tok E)   (v1 : Int32) (v2 : Int32) (v3 : Int32) (w0 : Int32) (s0 : TS) : XT G E "ForestLegsModel" "add" cX2_add 8 (Option.some Jvm.ClassFile.FieldType.int) 2 53 [(0, .ref E.2.1), (1, .int v1), (2, .int v2), (3, .int v3)] [.int w0] s0 (T_add_53 v1 v2 v3 w0 s0) := by
  unfold T_add_53
  refine x_iconst 0 dX2_add_53 rfl (n := 54) rfl ?_
  exact T_add_54_ok hO hE v1 v2 v3 w0 0 s0
theorem T_add_ok {G : xG} {E : TE} (hO : xOK G) (hE : tok E) (s0 : TS) (a1 : Int32) (a2 : Int32) (a3 : Int32) : CTT G E 2 yX2_add cX2_add 8 (Option.some Jvm.ClassFile.FieldType.int) [.ref E.2.1, .int a1, .int a2, .int a3] s0 (T_add s0 a1 a2 a3) := by
  refine CT_of hO (by decide +kernel) (by decide +kernel) (Nat.le_of_ble_eq_true rfl) ?_
  show XT G E "ForestLegsModel" "add" cX2_add 8 (Option.some Jvm.ClassFile.FieldType.int) 2 0 [(0, .ref E.2.1), (1, .int a1), (2, .int a2), (3, .int a3)] [] s0 (T_add s0 a1 a2 a3)
  refine x_aload_nr 0 dX2_add_0 rfl rfl (n := 1) rfl ?_
  refine x_iload_n 1 dX2_add_1 rfl rfl (n := 2) rfl ?_
  refine tw_callV_I [.int a1] [] (T_isRunner_ok hO hE s0 a1) md_X2_isRunner q3215 q3217 qs99 dX2_add_2 rfl rfl (by decide) (Nat.le_of_ble_eq_true rfl) (n := 5) rfl (fun x2 s1 => ?_)
  refine x_istore [(4, .int x2), (0, .ref E.2.1), (1, .int a1), (2, .int a2), (3, .int a3)] dX2_add_5 (by decide) rfl (n := 7) rfl ?_
  refine x_iload 0 dX2_add_7 rfl (n := 9) rfl ?_
  refine x_iload 0 dX2_add_9 rfl (n := 11) rfl ?_
  refine tw_if_eq dX2_add_11 (t := 53) (by decide) (n := 14) rfl ?_ ?_
  · refine x_sub [1, 2, 3, 4] [(0, .ref E.2.1), (1, .int a1), (2, .int a2), (3, .int a3)] rfl ?_
    exact T_add_53_ok hO hE a1 a2 a3 x2 s1
  · refine x_iload_n 3 dX2_add_14 rfl rfl (n := 15) rfl ?_
    refine x_iconst 1 dX2_add_15 rfl (n := 16) rfl ?_
    refine x_bipush 99 dX2_add_16 rfl (n := 18) rfl ?_
    refine tw_callS_I [.int a2, .int 1, .int 99] [.int x2] (T_in_ok hO hE s1 a2 1 99) md_X2_in q3016 q3017 dX2_add_18 rfl rfl (by decide) (Nat.le_of_ble_eq_true rfl) (n := 21) rfl (fun x23 s22 => ?_)
    refine tw_if_eq dX2_add_21 (t := 53) (by decide) (n := 24) rfl ?_ ?_
    · refine x_sub [1, 2, 3, 4] [(0, .ref E.2.1), (1, .int a1), (2, .int a2), (3, .int a3)] rfl ?_
      exact T_add_53_ok hO hE a1 a2 a3 x2 s22
    · refine x_iload_n 4 dX2_add_24 rfl rfl (n := 25) rfl ?_
      refine x_aload_nr 1 dX2_add_25 rfl rfl (n := 26) rfl ?_
      refine tw_getA fl_X2_17 rfl (by decide) dX2_add_26 (n := 29) rfl ?_
      refine x_bipush 47 dX2_add_29 rfl (n := 31) rfl ?_
      refine x_iload_n 2 dX2_add_31 rfl rfl (n := 32) rfl ?_
      refine x_iadd dX2_add_32 (n := 33) rfl ?_
      refine tw_iald hE (by decide) dX2_add_33 (n := 34) rfl (fun x24 => ?_)
      refine x_aload_nr 1 dX2_add_34 rfl rfl (n := 35) rfl ?_
      refine tw_getA fl_X2_17 rfl (by decide) dX2_add_35 (n := 38) rfl ?_
      refine x_bipush 57 dX2_add_38 rfl (n := 40) rfl ?_
      refine x_iload_n 2 dX2_add_40 rfl rfl (n := 41) rfl ?_
      refine x_iadd dX2_add_41 (n := 42) rfl ?_
      refine tw_iald hE (by decide) dX2_add_42 (n := 43) rfl (fun x25 => ?_)
      refine tw_callS_I [.int a3, .int x24, .int x25] [.int x2] (T_in_ok hO hE s22 a3 x24 x25) md_X2_in q3016 q3017 dX2_add_43 rfl rfl (by decide) (Nat.le_of_ble_eq_true rfl) (n := 46) rfl (fun x27 s26 => ?_)
      refine tw_if_eq dX2_add_46 (t := 53) (by decide) (n := 49) rfl ?_ ?_
      · refine x_sub [1, 2, 3, 4] [(0, .ref E.2.1), (1, .int a1), (2, .int a2), (3, .int a3)] rfl ?_
        exact T_add_53_ok hO hE a1 a2 a3 x2 s26
      · refine x_iconst 1 dX2_add_49 rfl (n := 50) rfl ?_
        refine x_goto dX2_add_50 (n := 54) (by decide) ?_
        refine x_sub [1, 2, 3, 4] [(0, .ref E.2.1), (1, .int a1), (2, .int a2), (3, .int a3)] rfl ?_
        exact T_add_54_ok hO hE a1 a2 a3 x2 1 s26
abbrev cX2_drop : ByteArray := prog_14_method_105_code
def yX2_drop : MethodName := ⟨RX2, "drop", "(II)I"⟩
def dkwX2_drop_5 : List UInt8 := [96, 4, 96, 46, 79, 132, 5, 1, 167, 255, 185, 21, 4, 172]
abbrev dktX2_drop_5 : List UInt8 := dkwX2_drop_5 ++ []
def dkwX2_drop_4 : List UInt8 := [96, 46, 79, 42, 180, 0, 17, 16, 77, 29, 96, 21, 5, 96, 42, 180, 0, 17, 16, 77, 29, 96, 21, 5]
abbrev dktX2_drop_4 : List UInt8 := dkwX2_drop_4 ++ dktX2_drop_5
def dkwX2_drop_3 : List UInt8 := [180, 0, 17, 17, 0, 237, 29, 96, 21, 5, 96, 42, 180, 0, 17, 17, 0, 237, 29, 96, 21, 5, 96, 4]
abbrev dktX2_drop_3 : List UInt8 := dkwX2_drop_3 ++ dktX2_drop_4
def dkwX2_drop_2 : List UInt8 := [92, 46, 4, 100, 79, 28, 54, 5, 21, 5, 42, 180, 0, 17, 16, 67, 27, 96, 46, 162, 0, 63, 42]
abbrev dktX2_drop_2 : List UInt8 := dkwX2_drop_2 ++ dktX2_drop_3
def dkwX2_drop_1 : List UInt8 := [27, 104, 62, 42, 180, 0, 17, 16, 77, 29, 96, 28, 96, 46, 54, 4, 42, 180, 0, 17, 16, 67, 27, 96]
abbrev dktX2_drop_1 : List UInt8 := dkwX2_drop_1 ++ dktX2_drop_2
def dkwX2_drop_0 : List UInt8 := [42, 42, 27, 28, 182, 1, 2, 184, 0, 234, 182, 0, 161, 153, 0, 5, 2, 172, 42, 182, 1, 69, 16, 16]
abbrev dktX2_drop_0 : List UInt8 := dkwX2_drop_0 ++ dktX2_drop_1
theorem dksX2_drop_0 : cX2_drop.data.toList.drop 0 = dktX2_drop_0 := by decide +kernel
theorem dksX2_drop_1 : cX2_drop.data.toList.drop 24 = dktX2_drop_1 := dk_seg dksX2_drop_0 24 rfl rfl
theorem dksX2_drop_2 : cX2_drop.data.toList.drop 48 = dktX2_drop_2 := dk_seg dksX2_drop_1 24 rfl rfl
theorem dksX2_drop_3 : cX2_drop.data.toList.drop 71 = dktX2_drop_3 := dk_seg dksX2_drop_2 23 rfl rfl
theorem dksX2_drop_4 : cX2_drop.data.toList.drop 95 = dktX2_drop_4 := dk_seg dksX2_drop_3 24 rfl rfl
theorem dksX2_drop_5 : cX2_drop.data.toList.drop 119 = dktX2_drop_5 := dk_seg dksX2_drop_4 24 rfl rfl
theorem dX2_drop_0 : decode cX2_drop 0 = .ok (.aload_n 0, 1) := dk_42 (dk_at dksX2_drop_0 0 rfl rfl)
theorem dX2_drop_1 : decode cX2_drop 1 = .ok (.aload_n 0, 1) := dk_42 (dk_at dksX2_drop_0 1 rfl rfl)
theorem dX2_drop_2 : decode cX2_drop 2 = .ok (.iload_n 1, 1) := dk_27 (dk_at dksX2_drop_0 2 rfl rfl)
theorem dX2_drop_3 : decode cX2_drop 3 = .ok (.iload_n 2, 1) := dk_28 (dk_at dksX2_drop_0 3 rfl rfl)
theorem dX2_drop_4 : decode cX2_drop 4 = .ok (.invokevirtual 258, 3) := dk_182 1 2 (dk_at dksX2_drop_0 4 rfl rfl)
theorem dX2_drop_7 : decode cX2_drop 7 = .ok (.invokestatic 234, 3) := dk_184 0 234 (dk_at dksX2_drop_0 7 rfl rfl)
theorem dX2_drop_10 : decode cX2_drop 10 = .ok (.invokevirtual 161, 3) := dk_182 0 161 (dk_at dksX2_drop_0 10 rfl rfl)
theorem dX2_drop_13 : decode cX2_drop 13 = .ok (.ifCond .eq 5, 3) := dk_153 0 5 (dk_at dksX2_drop_0 13 rfl rfl)
theorem dX2_drop_16 : decode cX2_drop 16 = .ok (.iconst (-1), 1) := dk_2 (dk_at dksX2_drop_0 16 rfl rfl)
theorem dX2_drop_17 : decode cX2_drop 17 = .ok (.ireturn, 1) := dk_172 (dk_at dksX2_drop_0 17 rfl rfl)
theorem dX2_drop_18 : decode cX2_drop 18 = .ok (.aload_n 0, 1) := dk_42 (dk_at dksX2_drop_0 18 rfl rfl)
theorem dX2_drop_19 : decode cX2_drop 19 = .ok (.invokevirtual 325, 3) := dk_182 1 69 (dk_at dksX2_drop_0 19 rfl rfl)
theorem dX2_drop_22 : decode cX2_drop 22 = .ok (.bipush 16, 2) := dk_16 16 (dk_at dksX2_drop_0 22 rfl rfl)
theorem dX2_drop_24 : decode cX2_drop 24 = .ok (.iload_n 1, 1) := dk_27 (dk_at dksX2_drop_1 0 rfl rfl)
theorem dX2_drop_25 : decode cX2_drop 25 = .ok (.imul, 1) := dk_104 (dk_at dksX2_drop_1 1 rfl rfl)
theorem dX2_drop_26 : decode cX2_drop 26 = .ok (.istore_n 3, 1) := dk_62 (dk_at dksX2_drop_1 2 rfl rfl)
theorem dX2_drop_27 : decode cX2_drop 27 = .ok (.aload_n 0, 1) := dk_42 (dk_at dksX2_drop_1 3 rfl rfl)
theorem dX2_drop_28 : decode cX2_drop 28 = .ok (.getfield 17, 3) := dk_180 0 17 (dk_at dksX2_drop_1 4 rfl rfl)
theorem dX2_drop_31 : decode cX2_drop 31 = .ok (.bipush 77, 2) := dk_16 77 (dk_at dksX2_drop_1 7 rfl rfl)
theorem dX2_drop_33 : decode cX2_drop 33 = .ok (.iload_n 3, 1) := dk_29 (dk_at dksX2_drop_1 9 rfl rfl)
theorem dX2_drop_34 : decode cX2_drop 34 = .ok (.iadd, 1) := dk_96 (dk_at dksX2_drop_1 10 rfl rfl)
theorem dX2_drop_35 : decode cX2_drop 35 = .ok (.iload_n 2, 1) := dk_28 (dk_at dksX2_drop_1 11 rfl rfl)
theorem dX2_drop_36 : decode cX2_drop 36 = .ok (.iadd, 1) := dk_96 (dk_at dksX2_drop_1 12 rfl rfl)
theorem dX2_drop_37 : decode cX2_drop 37 = .ok (.iaload, 1) := dk_46 (dk_at dksX2_drop_1 13 rfl rfl)
theorem dX2_drop_38 : decode cX2_drop 38 = .ok (.istore 4, 2) := dk_54 4 (dk_at dksX2_drop_1 14 rfl rfl)
theorem dX2_drop_40 : decode cX2_drop 40 = .ok (.aload_n 0, 1) := dk_42 (dk_at dksX2_drop_1 16 rfl rfl)
theorem dX2_drop_41 : decode cX2_drop 41 = .ok (.getfield 17, 3) := dk_180 0 17 (dk_at dksX2_drop_1 17 rfl rfl)
theorem dX2_drop_44 : decode cX2_drop 44 = .ok (.bipush 67, 2) := dk_16 67 (dk_at dksX2_drop_1 20 rfl rfl)
theorem dX2_drop_46 : decode cX2_drop 46 = .ok (.iload_n 1, 1) := dk_27 (dk_at dksX2_drop_1 22 rfl rfl)
theorem dX2_drop_47 : decode cX2_drop 47 = .ok (.iadd, 1) := dk_96 (dk_at dksX2_drop_1 23 rfl rfl)
theorem dX2_drop_48 : decode cX2_drop 48 = .ok (.dup2, 1) := dk_92 (dk_at dksX2_drop_2 0 rfl rfl)
theorem dX2_drop_49 : decode cX2_drop 49 = .ok (.iaload, 1) := dk_46 (dk_at dksX2_drop_2 1 rfl rfl)
theorem dX2_drop_50 : decode cX2_drop 50 = .ok (.iconst 1, 1) := dk_4 (dk_at dksX2_drop_2 2 rfl rfl)
theorem dX2_drop_51 : decode cX2_drop 51 = .ok (.isub, 1) := dk_100 (dk_at dksX2_drop_2 3 rfl rfl)
theorem dX2_drop_52 : decode cX2_drop 52 = .ok (.iastore, 1) := dk_79 (dk_at dksX2_drop_2 4 rfl rfl)
theorem dX2_drop_53 : decode cX2_drop 53 = .ok (.iload_n 2, 1) := dk_28 (dk_at dksX2_drop_2 5 rfl rfl)
theorem dX2_drop_54 : decode cX2_drop 54 = .ok (.istore 5, 2) := dk_54 5 (dk_at dksX2_drop_2 6 rfl rfl)
theorem dX2_drop_56 : decode cX2_drop 56 = .ok (.iload 5, 2) := dk_21 5 (dk_at dksX2_drop_2 8 rfl rfl)
theorem dX2_drop_58 : decode cX2_drop 58 = .ok (.aload_n 0, 1) := dk_42 (dk_at dksX2_drop_2 10 rfl rfl)
theorem dX2_drop_59 : decode cX2_drop 59 = .ok (.getfield 17, 3) := dk_180 0 17 (dk_at dksX2_drop_2 11 rfl rfl)
theorem dX2_drop_62 : decode cX2_drop 62 = .ok (.bipush 67, 2) := dk_16 67 (dk_at dksX2_drop_2 14 rfl rfl)
theorem dX2_drop_64 : decode cX2_drop 64 = .ok (.iload_n 1, 1) := dk_27 (dk_at dksX2_drop_2 16 rfl rfl)
theorem dX2_drop_65 : decode cX2_drop 65 = .ok (.iadd, 1) := dk_96 (dk_at dksX2_drop_2 17 rfl rfl)
theorem dX2_drop_66 : decode cX2_drop 66 = .ok (.iaload, 1) := dk_46 (dk_at dksX2_drop_2 18 rfl rfl)
theorem dX2_drop_67 : decode cX2_drop 67 = .ok (.if_icmp .ge 63, 3) := dk_162 0 63 (dk_at dksX2_drop_2 19 rfl rfl)
theorem dX2_drop_70 : decode cX2_drop 70 = .ok (.aload_n 0, 1) := dk_42 (dk_at dksX2_drop_2 22 rfl rfl)
theorem dX2_drop_71 : decode cX2_drop 71 = .ok (.getfield 17, 3) := dk_180 0 17 (dk_at dksX2_drop_3 0 rfl rfl)
theorem dX2_drop_74 : decode cX2_drop 74 = .ok (.sipush 237, 3) := dk_17 0 237 (dk_at dksX2_drop_3 3 rfl rfl)
theorem dX2_drop_77 : decode cX2_drop 77 = .ok (.iload_n 3, 1) := dk_29 (dk_at dksX2_drop_3 6 rfl rfl)
theorem dX2_drop_78 : decode cX2_drop 78 = .ok (.iadd, 1) := dk_96 (dk_at dksX2_drop_3 7 rfl rfl)
theorem dX2_drop_79 : decode cX2_drop 79 = .ok (.iload 5, 2) := dk_21 5 (dk_at dksX2_drop_3 8 rfl rfl)
theorem dX2_drop_81 : decode cX2_drop 81 = .ok (.iadd, 1) := dk_96 (dk_at dksX2_drop_3 10 rfl rfl)
theorem dX2_drop_82 : decode cX2_drop 82 = .ok (.aload_n 0, 1) := dk_42 (dk_at dksX2_drop_3 11 rfl rfl)
theorem dX2_drop_83 : decode cX2_drop 83 = .ok (.getfield 17, 3) := dk_180 0 17 (dk_at dksX2_drop_3 12 rfl rfl)
theorem dX2_drop_86 : decode cX2_drop 86 = .ok (.sipush 237, 3) := dk_17 0 237 (dk_at dksX2_drop_3 15 rfl rfl)
theorem dX2_drop_89 : decode cX2_drop 89 = .ok (.iload_n 3, 1) := dk_29 (dk_at dksX2_drop_3 18 rfl rfl)
theorem dX2_drop_90 : decode cX2_drop 90 = .ok (.iadd, 1) := dk_96 (dk_at dksX2_drop_3 19 rfl rfl)
theorem dX2_drop_91 : decode cX2_drop 91 = .ok (.iload 5, 2) := dk_21 5 (dk_at dksX2_drop_3 20 rfl rfl)
theorem dX2_drop_93 : decode cX2_drop 93 = .ok (.iadd, 1) := dk_96 (dk_at dksX2_drop_3 22 rfl rfl)
theorem dX2_drop_94 : decode cX2_drop 94 = .ok (.iconst 1, 1) := dk_4 (dk_at dksX2_drop_3 23 rfl rfl)
theorem dX2_drop_95 : decode cX2_drop 95 = .ok (.iadd, 1) := dk_96 (dk_at dksX2_drop_4 0 rfl rfl)
theorem dX2_drop_96 : decode cX2_drop 96 = .ok (.iaload, 1) := dk_46 (dk_at dksX2_drop_4 1 rfl rfl)
theorem dX2_drop_97 : decode cX2_drop 97 = .ok (.iastore, 1) := dk_79 (dk_at dksX2_drop_4 2 rfl rfl)
theorem dX2_drop_98 : decode cX2_drop 98 = .ok (.aload_n 0, 1) := dk_42 (dk_at dksX2_drop_4 3 rfl rfl)
theorem dX2_drop_99 : decode cX2_drop 99 = .ok (.getfield 17, 3) := dk_180 0 17 (dk_at dksX2_drop_4 4 rfl rfl)
theorem dX2_drop_102 : decode cX2_drop 102 = .ok (.bipush 77, 2) := dk_16 77 (dk_at dksX2_drop_4 7 rfl rfl)
theorem dX2_drop_104 : decode cX2_drop 104 = .ok (.iload_n 3, 1) := dk_29 (dk_at dksX2_drop_4 9 rfl rfl)
theorem dX2_drop_105 : decode cX2_drop 105 = .ok (.iadd, 1) := dk_96 (dk_at dksX2_drop_4 10 rfl rfl)
theorem dX2_drop_106 : decode cX2_drop 106 = .ok (.iload 5, 2) := dk_21 5 (dk_at dksX2_drop_4 11 rfl rfl)
theorem dX2_drop_108 : decode cX2_drop 108 = .ok (.iadd, 1) := dk_96 (dk_at dksX2_drop_4 13 rfl rfl)
theorem dX2_drop_109 : decode cX2_drop 109 = .ok (.aload_n 0, 1) := dk_42 (dk_at dksX2_drop_4 14 rfl rfl)
theorem dX2_drop_110 : decode cX2_drop 110 = .ok (.getfield 17, 3) := dk_180 0 17 (dk_at dksX2_drop_4 15 rfl rfl)
theorem dX2_drop_113 : decode cX2_drop 113 = .ok (.bipush 77, 2) := dk_16 77 (dk_at dksX2_drop_4 18 rfl rfl)
theorem dX2_drop_115 : decode cX2_drop 115 = .ok (.iload_n 3, 1) := dk_29 (dk_at dksX2_drop_4 20 rfl rfl)
theorem dX2_drop_116 : decode cX2_drop 116 = .ok (.iadd, 1) := dk_96 (dk_at dksX2_drop_4 21 rfl rfl)
theorem dX2_drop_117 : decode cX2_drop 117 = .ok (.iload 5, 2) := dk_21 5 (dk_at dksX2_drop_4 22 rfl rfl)
theorem dX2_drop_119 : decode cX2_drop 119 = .ok (.iadd, 1) := dk_96 (dk_at dksX2_drop_5 0 rfl rfl)
theorem dX2_drop_120 : decode cX2_drop 120 = .ok (.iconst 1, 1) := dk_4 (dk_at dksX2_drop_5 1 rfl rfl)
theorem dX2_drop_121 : decode cX2_drop 121 = .ok (.iadd, 1) := dk_96 (dk_at dksX2_drop_5 2 rfl rfl)
theorem dX2_drop_122 : decode cX2_drop 122 = .ok (.iaload, 1) := dk_46 (dk_at dksX2_drop_5 3 rfl rfl)
theorem dX2_drop_123 : decode cX2_drop 123 = .ok (.iastore, 1) := dk_79 (dk_at dksX2_drop_5 4 rfl rfl)
theorem dX2_drop_124 : decode cX2_drop 124 = .ok (.iinc 5 1, 3) := dk_132 5 1 (dk_at dksX2_drop_5 5 rfl rfl)
theorem dX2_drop_127 : decode cX2_drop 127 = .ok (.goto (-71), 3) := dk_167 255 185 (dk_at dksX2_drop_5 8 rfl rfl)
theorem dX2_drop_130 : decode cX2_drop 130 = .ok (.iload 4, 2) := dk_21 4 (dk_at dksX2_drop_5 11 rfl rfl)
theorem dX2_drop_132 : decode cX2_drop 132 = .ok (.ireturn, 1) := dk_172 (dk_at dksX2_drop_5 13 rfl rfl)
theorem md_X2_drop : xMd yX2_drop cX2_drop 6 (Option.some Jvm.ClassFile.FieldType.int) 2 := ⟨q3421, q126, by decide, by decide +kernel, by decide +kernel, by decide +kernel⟩
def T_drop_56F   (k56 : Int32 × Int32 × Int32 × Int32 × TS → Option (xO × TS)) (p : Int32 × Int32 × Int32 × Int32 × TS) : Option (xO × TS) := match p with
  | (v1, v3, v4, v5, s0) => (tald s0 7 (67 + v1) fun x13 =>
  (if x13 ≤ v5 then
  (rI v4 s0) else
  (tald s0 7 (((237 + v3) + v5) + 1) fun x14 =>
  (tast s0 7 ((237 + v3) + v5) x14 fun s15 =>
  (tald s15 7 (((77 + v3) + v5) + 1) fun x16 =>
  (tast s15 7 ((77 + v3) + v5) x16 fun s17 =>
  (bnd (v5 + 1) fun x18 =>
  (k56 (v1, v3, v4, x18, s17)))))))))
def T_drop (s0 : TS) (a1 : Int32) (a2 : Int32) : Option (xO × TS) :=
  (xcI (T_isPunch s0 a1 a2) fun x2 s1 =>
  (xcI (T_unless_2 s1 x2) fun x4 s3 =>
  (xcI (T_isRefused s3 x4) fun x6 s5 =>
  (if x6 = 0 then
  (xcV (T_remembers s5 ) fun s7 =>
  (bnd (16 * a1) fun x8 =>
  (tald s7 7 ((77 + x8) + a2) fun x9 =>
  (bnd (67 + a1) fun x10 =>
  (tald s7 7 x10 fun x11 =>
  (tast s7 7 x10 (x11 - 1) fun s12 =>
  (lp (T_drop_56F) FU (a1, x8, x9, a2, s12)))))))) else
  (rI (-1) s5)))))
theorem T_drop_56F_ok {G : xG} {E : TE} (hO : xOK G) (hE : tok E)   {k56 : Int32 × Int32 × Int32 × Int32 × TS → Option (xO × TS)} (hk56 : ∀ (v1 : Int32) (v3 : Int32) (v4 : Int32) (v5 : Int32) (s0 : TS), XT G E "ForestLegsModel" "drop" cX2_drop 6 (Option.some Jvm.ClassFile.FieldType.int) 3 56 [(0, .ref E.2.1), (1, .int v1), (3, .int v3), (4, .int v4), (5, .int v5)] [] s0 (k56 (v1, v3, v4, v5, s0))) (v1 : Int32) (v3 : Int32) (v4 : Int32) (v5 : Int32) (s0 : TS) : XT G E "ForestLegsModel" "drop" cX2_drop 6 (Option.some Jvm.ClassFile.FieldType.int) 3 56 [(0, .ref E.2.1), (1, .int v1), (3, .int v3), (4, .int v4), (5, .int v5)] [] s0 (T_drop_56F k56 (v1, v3, v4, v5, s0)) := by
  unfold T_drop_56F
  refine x_iload 4 dX2_drop_56 rfl (n := 58) rfl ?_
  refine x_aload_nr 0 dX2_drop_58 rfl rfl (n := 59) rfl ?_
  refine tw_getA fl_X2_17 rfl (by decide) dX2_drop_59 (n := 62) rfl ?_
  refine x_bipush 67 dX2_drop_62 rfl (n := 64) rfl ?_
  refine x_iload_n 1 dX2_drop_64 rfl rfl (n := 65) rfl ?_
  refine x_iadd dX2_drop_65 (n := 66) rfl ?_
  refine tw_iald hE (by decide) dX2_drop_66 (n := 67) rfl (fun x13 => ?_)
  refine tw_icmp_ge dX2_drop_67 (t := 130) (by decide) (n := 70) rfl ?_ ?_
  · refine x_iload 3 dX2_drop_130 rfl (n := 132) rfl ?_
    exact tw_ireturn dX2_drop_132
  · refine x_aload_nr 0 dX2_drop_70 rfl rfl (n := 71) rfl ?_
    refine tw_getA fl_X2_17 rfl (by decide) dX2_drop_71 (n := 74) rfl ?_
    refine x_sipush 237 dX2_drop_74 rfl (n := 77) rfl ?_
    refine x_iload_n 2 dX2_drop_77 rfl rfl (n := 78) rfl ?_
    refine x_iadd dX2_drop_78 (n := 79) rfl ?_
    refine x_iload 4 dX2_drop_79 rfl (n := 81) rfl ?_
    refine x_iadd dX2_drop_81 (n := 82) rfl ?_
    refine x_aload_nr 0 dX2_drop_82 rfl rfl (n := 83) rfl ?_
    refine tw_getA fl_X2_17 rfl (by decide) dX2_drop_83 (n := 86) rfl ?_
    refine x_sipush 237 dX2_drop_86 rfl (n := 89) rfl ?_
    refine x_iload_n 2 dX2_drop_89 rfl rfl (n := 90) rfl ?_
    refine x_iadd dX2_drop_90 (n := 91) rfl ?_
    refine x_iload 4 dX2_drop_91 rfl (n := 93) rfl ?_
    refine x_iadd dX2_drop_93 (n := 94) rfl ?_
    refine x_iconst 1 dX2_drop_94 rfl (n := 95) rfl ?_
    refine x_iadd dX2_drop_95 (n := 96) rfl ?_
    refine tw_iald hE (by decide) dX2_drop_96 (n := 97) rfl (fun x14 => ?_)
    refine tw_iast hE (by decide) dX2_drop_97 (n := 98) rfl (fun s15 => ?_)
    refine x_aload_nr 0 dX2_drop_98 rfl rfl (n := 99) rfl ?_
    refine tw_getA fl_X2_17 rfl (by decide) dX2_drop_99 (n := 102) rfl ?_
    refine x_bipush 77 dX2_drop_102 rfl (n := 104) rfl ?_
    refine x_iload_n 2 dX2_drop_104 rfl rfl (n := 105) rfl ?_
    refine x_iadd dX2_drop_105 (n := 106) rfl ?_
    refine x_iload 4 dX2_drop_106 rfl (n := 108) rfl ?_
    refine x_iadd dX2_drop_108 (n := 109) rfl ?_
    refine x_aload_nr 0 dX2_drop_109 rfl rfl (n := 110) rfl ?_
    refine tw_getA fl_X2_17 rfl (by decide) dX2_drop_110 (n := 113) rfl ?_
    refine x_bipush 77 dX2_drop_113 rfl (n := 115) rfl ?_
    refine x_iload_n 2 dX2_drop_115 rfl rfl (n := 116) rfl ?_
    refine x_iadd dX2_drop_116 (n := 117) rfl ?_
    refine x_iload 4 dX2_drop_117 rfl (n := 119) rfl ?_
    refine x_iadd dX2_drop_119 (n := 120) rfl ?_
    refine x_iconst 1 dX2_drop_120 rfl (n := 121) rfl ?_
    refine x_iadd dX2_drop_121 (n := 122) rfl ?_
    refine tw_iald hE (by decide) dX2_drop_122 (n := 123) rfl (fun x16 => ?_)
    refine tw_iast hE (by decide) dX2_drop_123 (n := 124) rfl (fun s17 => ?_)
    refine tw_iinc 4 (fun x18 => [(5, .int x18), (0, .ref E.2.1), (1, .int v1), (3, .int v3), (4, .int v4)]) dX2_drop_124 rfl rfl (by decide) (fun _ => rfl) (n := 127) rfl (fun x18 => ?_)
    refine x_goto dX2_drop_127 (n := 56) (by decide) ?_
    refine x_sub [1, 2, 3, 4, 0] [(0, .ref E.2.1), (1, .int v1), (3, .int v3), (4, .int v4), (5, .int x18)] rfl ?_
    exact hk56 v1 v3 v4 x18 s17
theorem T_drop_56_lp {G : xG} {E : TE} (hO : xOK G) (hE : tok E)   (n : Nat) (v1 : Int32) (v3 : Int32) (v4 : Int32) (v5 : Int32) (s0 : TS) : XT G E "ForestLegsModel" "drop" cX2_drop 6 (Option.some Jvm.ClassFile.FieldType.int) 3 56 [(0, .ref E.2.1), (1, .int v1), (3, .int v3), (4, .int v4), (5, .int v5)] [] s0 (lp (T_drop_56F) n (v1, v3, v4, v5, s0)) :=
  lp_ok (W := fun p K => XT G E "ForestLegsModel" "drop" cX2_drop 6 (Option.some Jvm.ClassFile.FieldType.int) 3 56 [(0, .ref E.2.1), (1, .int p.1), (3, .int p.2.1), (4, .int p.2.2.1), (5, .int p.2.2.2.1)] [] p.2.2.2.2 K) (fun _ => tw_no) (fun k hk => fun (v1, v3, v4, v5, s0) => T_drop_56F_ok hO hE (fun v1 v3 v4 v5 s0 => hk (v1, v3, v4, v5, s0)) v1 v3 v4 v5 s0) n (v1, v3, v4, v5, s0)
theorem T_drop_ok {G : xG} {E : TE} (hO : xOK G) (hE : tok E) (s0 : TS) (a1 : Int32) (a2 : Int32) : CTT G E 3 yX2_drop cX2_drop 6 (Option.some Jvm.ClassFile.FieldType.int) [.ref E.2.1, .int a1, .int a2] s0 (T_drop s0 a1 a2) := by
  refine CT_of hO (by decide +kernel) (by decide +kernel) (Nat.le_of_ble_eq_true rfl) ?_
  show XT G E "ForestLegsModel" "drop" cX2_drop 6 (Option.some Jvm.ClassFile.FieldType.int) 3 0 [(0, .ref E.2.1), (1, .int a1), (2, .int a2)] [] s0 (T_drop s0 a1 a2)
  refine x_aload_nr 0 dX2_drop_0 rfl rfl (n := 1) rfl ?_
  refine x_aload_nr 0 dX2_drop_1 rfl rfl (n := 2) rfl ?_
  refine x_iload_n 1 dX2_drop_2 rfl rfl (n := 3) rfl ?_
  refine x_iload_n 2 dX2_drop_3 rfl rfl (n := 4) rfl ?_
  refine tw_callV_I [.int a1, .int a2] [.ref E.2.1] (T_isPunch_ok hO hE s0 a1 a2) md_X2_isPunch q3227 q3229 qs101 dX2_drop_4 rfl rfl (by decide) (Nat.le_of_ble_eq_true rfl) (n := 7) rfl (fun x2 s1 => ?_)
  refine tw_callS_I [.int x2] [.ref E.2.1] (T_unless_2_ok hO hE s1 x2) md_X2_unless_2 q3121 q3122 dX2_drop_7 rfl rfl (by decide) (Nat.le_of_ble_eq_true rfl) (n := 10) rfl (fun x4 s3 => ?_)
  refine tw_callV_I [.int x4] [] (T_isRefused_ok hO hE s3 x4) md_X2_isRefused q3022 q3024 qs63 dX2_drop_10 rfl rfl (by decide) (Nat.le_of_ble_eq_true rfl) (n := 13) rfl (fun x6 s5 => ?_)
  refine tw_if_eq dX2_drop_13 (t := 18) (by decide) (n := 16) rfl ?_ ?_
  · refine x_aload_nr 0 dX2_drop_18 rfl rfl (n := 19) rfl ?_
    refine tw_callV_V [] [] (T_remembers_ok hO hE s5 ) md_X2_remembers q3414 q3416 qs118 dX2_drop_19 rfl rfl (by decide) (Nat.le_of_ble_eq_true rfl) (n := 22) rfl (fun s7 => ?_)
    refine x_bipush 16 dX2_drop_22 rfl (n := 24) rfl ?_
    refine x_iload_n 1 dX2_drop_24 rfl rfl (n := 25) rfl ?_
    refine x_imul dX2_drop_25 (n := 26) rfl ?_
    refine tw_nm (fun x8 => ?_)
    refine x_istore_n [(3, .int x8), (0, .ref E.2.1), (1, .int a1), (2, .int a2)] dX2_drop_26 rfl (by decide) rfl (n := 27) rfl ?_
    refine x_aload_nr 1 dX2_drop_27 rfl rfl (n := 28) rfl ?_
    refine tw_getA fl_X2_17 rfl (by decide) dX2_drop_28 (n := 31) rfl ?_
    refine x_bipush 77 dX2_drop_31 rfl (n := 33) rfl ?_
    refine x_iload_n 0 dX2_drop_33 rfl rfl (n := 34) rfl ?_
    refine x_iadd dX2_drop_34 (n := 35) rfl ?_
    refine x_iload_n 3 dX2_drop_35 rfl rfl (n := 36) rfl ?_
    refine x_iadd dX2_drop_36 (n := 37) rfl ?_
    refine tw_iald hE (by decide) dX2_drop_37 (n := 38) rfl (fun x9 => ?_)
    refine x_istore [(4, .int x9), (3, .int x8), (0, .ref E.2.1), (1, .int a1), (2, .int a2)] dX2_drop_38 (by decide) rfl (n := 40) rfl ?_
    refine x_aload_nr 2 dX2_drop_40 rfl rfl (n := 41) rfl ?_
    refine tw_getA fl_X2_17 rfl (by decide) dX2_drop_41 (n := 44) rfl ?_
    refine x_bipush 67 dX2_drop_44 rfl (n := 46) rfl ?_
    refine x_iload_n 3 dX2_drop_46 rfl rfl (n := 47) rfl ?_
    refine x_iadd dX2_drop_47 (n := 48) rfl ?_
    refine tw_nm (fun x10 => ?_)
    refine x_dup2 dX2_drop_48 rfl rfl (n := 49) rfl ?_
    refine tw_iald hE (by decide) dX2_drop_49 (n := 50) rfl (fun x11 => ?_)
    refine x_iconst 1 dX2_drop_50 rfl (n := 51) rfl ?_
    refine x_isub dX2_drop_51 (n := 52) rfl ?_
    refine tw_iast hE (by decide) dX2_drop_52 (n := 53) rfl (fun s12 => ?_)
    refine x_iload_n 4 dX2_drop_53 rfl rfl (n := 54) rfl ?_
    refine x_istore [(5, .int a2), (4, .int x9), (3, .int x8), (0, .ref E.2.1), (1, .int a1), (2, .int a2)] dX2_drop_54 (by decide) rfl (n := 56) rfl ?_
    refine x_sub [3, 4, 2, 1, 0] [(0, .ref E.2.1), (1, .int a1), (3, .int x8), (4, .int x9), (5, .int a2)] rfl ?_
    exact T_drop_56_lp hO hE FU a1 x8 x9 a2 s12
  · refine x_iconst (-1) dX2_drop_16 rfl (n := 17) rfl ?_
    exact tw_ireturn dX2_drop_17
abbrev cX2_comes : ByteArray := prog_14_method_103_code
def yX2_comes : MethodName := ⟨RX2, "comes", "(II)I"⟩
def dkwX2_comes_0 : List UInt8 := [42, 182, 1, 69, 42, 180, 0, 17, 27, 46, 62, 42, 180, 0, 17, 27, 28, 79, 29, 172]
abbrev dktX2_comes_0 : List UInt8 := dkwX2_comes_0 ++ []
theorem dksX2_comes_0 : cX2_comes.data.toList.drop 0 = dktX2_comes_0 := by decide +kernel
theorem dX2_comes_0 : decode cX2_comes 0 = .ok (.aload_n 0, 1) := dk_42 (dk_at dksX2_comes_0 0 rfl rfl)
theorem dX2_comes_1 : decode cX2_comes 1 = .ok (.invokevirtual 325, 3) := dk_182 1 69 (dk_at dksX2_comes_0 1 rfl rfl)
theorem dX2_comes_4 : decode cX2_comes 4 = .ok (.aload_n 0, 1) := dk_42 (dk_at dksX2_comes_0 4 rfl rfl)
theorem dX2_comes_5 : decode cX2_comes 5 = .ok (.getfield 17, 3) := dk_180 0 17 (dk_at dksX2_comes_0 5 rfl rfl)
theorem dX2_comes_8 : decode cX2_comes 8 = .ok (.iload_n 1, 1) := dk_27 (dk_at dksX2_comes_0 8 rfl rfl)
theorem dX2_comes_9 : decode cX2_comes 9 = .ok (.iaload, 1) := dk_46 (dk_at dksX2_comes_0 9 rfl rfl)
theorem dX2_comes_10 : decode cX2_comes 10 = .ok (.istore_n 3, 1) := dk_62 (dk_at dksX2_comes_0 10 rfl rfl)
theorem dX2_comes_11 : decode cX2_comes 11 = .ok (.aload_n 0, 1) := dk_42 (dk_at dksX2_comes_0 11 rfl rfl)
theorem dX2_comes_12 : decode cX2_comes 12 = .ok (.getfield 17, 3) := dk_180 0 17 (dk_at dksX2_comes_0 12 rfl rfl)
theorem dX2_comes_15 : decode cX2_comes 15 = .ok (.iload_n 1, 1) := dk_27 (dk_at dksX2_comes_0 15 rfl rfl)
theorem dX2_comes_16 : decode cX2_comes 16 = .ok (.iload_n 2, 1) := dk_28 (dk_at dksX2_comes_0 16 rfl rfl)
theorem dX2_comes_17 : decode cX2_comes 17 = .ok (.iastore, 1) := dk_79 (dk_at dksX2_comes_0 17 rfl rfl)
theorem dX2_comes_18 : decode cX2_comes 18 = .ok (.iload_n 3, 1) := dk_29 (dk_at dksX2_comes_0 18 rfl rfl)
theorem dX2_comes_19 : decode cX2_comes 19 = .ok (.ireturn, 1) := dk_172 (dk_at dksX2_comes_0 19 rfl rfl)
theorem md_X2_comes : xMd yX2_comes cX2_comes 4 (Option.some Jvm.ClassFile.FieldType.int) 2 := ⟨q3429, q126, by decide, by decide +kernel, by decide +kernel, by decide +kernel⟩
def T_comes (s0 : TS) (a1 : Int32) (a2 : Int32) : Option (xO × TS) :=
  (xcV (T_remembers s0 ) fun s1 =>
  (tald s1 7 a1 fun x2 =>
  (tast s1 7 a1 a2 fun s3 =>
  (rI x2 s3))))
theorem T_comes_ok {G : xG} {E : TE} (hO : xOK G) (hE : tok E) (s0 : TS) (a1 : Int32) (a2 : Int32) : CTT G E 2 yX2_comes cX2_comes 4 (Option.some Jvm.ClassFile.FieldType.int) [.ref E.2.1, .int a1, .int a2] s0 (T_comes s0 a1 a2) := by
  refine CT_of hO (by decide +kernel) (by decide +kernel) (Nat.le_of_ble_eq_true rfl) ?_
  show XT G E "ForestLegsModel" "comes" cX2_comes 4 (Option.some Jvm.ClassFile.FieldType.int) 2 0 [(0, .ref E.2.1), (1, .int a1), (2, .int a2)] [] s0 (T_comes s0 a1 a2)
  refine x_aload_nr 0 dX2_comes_0 rfl rfl (n := 1) rfl ?_
  refine tw_callV_V [] [] (T_remembers_ok hO hE s0 ) md_X2_remembers q3414 q3416 qs118 dX2_comes_1 rfl rfl (by decide) (Nat.le_of_ble_eq_true rfl) (n := 4) rfl (fun s1 => ?_)
  refine x_aload_nr 0 dX2_comes_4 rfl rfl (n := 5) rfl ?_
  refine tw_getA fl_X2_17 rfl (by decide) dX2_comes_5 (n := 8) rfl ?_
  refine x_iload_n 1 dX2_comes_8 rfl rfl (n := 9) rfl ?_
  refine tw_iald hE (by decide) dX2_comes_9 (n := 10) rfl (fun x2 => ?_)
  refine x_istore_n [(3, .int x2), (0, .ref E.2.1), (1, .int a1), (2, .int a2)] dX2_comes_10 rfl (by decide) rfl (n := 11) rfl ?_
  refine x_aload_nr 1 dX2_comes_11 rfl rfl (n := 12) rfl ?_
  refine tw_getA fl_X2_17 rfl (by decide) dX2_comes_12 (n := 15) rfl ?_
  refine x_iload_n 2 dX2_comes_15 rfl rfl (n := 16) rfl ?_
  refine x_iload_n 3 dX2_comes_16 rfl rfl (n := 17) rfl ?_
  refine tw_iast hE (by decide) dX2_comes_17 (n := 18) rfl (fun s3 => ?_)
  refine x_iload_n 0 dX2_comes_18 rfl rfl (n := 19) rfl ?_
  exact tw_ireturn dX2_comes_19
abbrev cX2_start : ByteArray := prog_14_method_106_code
def yX2_start : MethodName := ⟨RX2, "start", "(II)I"⟩
def dkwX2_start_4 : List UInt8 := [182, 1, 72, 172]
abbrev dktX2_start_4 : List UInt8 := dkwX2_start_4 ++ []
def dkwX2_start_3 : List UInt8 := [162, 0, 7, 8, 167, 0, 4, 3, 182, 0, 161, 153, 0, 5, 2, 172, 42, 16, 47, 27, 96, 28]
abbrev dktX2_start_3 : List UInt8 := dkwX2_start_3 ++ dktX2_start_4
def dkwX2_start_2 : List UInt8 := [167, 0, 30, 42, 180, 0, 17, 16, 67, 27, 96, 46, 158, 0, 17, 42, 27, 3, 182, 0, 209, 28]
abbrev dktX2_start_2 : List UInt8 := dkwX2_start_2 ++ dktX2_start_3
def dkwX2_start_1 : List UInt8 := [184, 0, 79, 153, 0, 7, 4, 167, 0, 4, 3, 184, 0, 157, 54, 4, 42, 21, 4, 153, 0, 8, 21, 4]
abbrev dktX2_start_1 : List UInt8 := dkwX2_start_1 ++ dktX2_start_2
def dkwX2_start_0 : List UInt8 := [42, 27, 182, 0, 187, 62, 29, 29, 153, 0, 26, 28, 3, 42, 180, 0, 17, 16, 57, 27, 96, 46, 4, 100]
abbrev dktX2_start_0 : List UInt8 := dkwX2_start_0 ++ dktX2_start_1
theorem dksX2_start_0 : cX2_start.data.toList.drop 0 = dktX2_start_0 := by decide +kernel
theorem dksX2_start_1 : cX2_start.data.toList.drop 24 = dktX2_start_1 := dk_seg dksX2_start_0 24 rfl rfl
theorem dksX2_start_2 : cX2_start.data.toList.drop 48 = dktX2_start_2 := dk_seg dksX2_start_1 24 rfl rfl
theorem dksX2_start_3 : cX2_start.data.toList.drop 70 = dktX2_start_3 := dk_seg dksX2_start_2 22 rfl rfl
theorem dksX2_start_4 : cX2_start.data.toList.drop 92 = dktX2_start_4 := dk_seg dksX2_start_3 22 rfl rfl
theorem dX2_start_0 : decode cX2_start 0 = .ok (.aload_n 0, 1) := dk_42 (dk_at dksX2_start_0 0 rfl rfl)
theorem dX2_start_1 : decode cX2_start 1 = .ok (.iload_n 1, 1) := dk_27 (dk_at dksX2_start_0 1 rfl rfl)
theorem dX2_start_2 : decode cX2_start 2 = .ok (.invokevirtual 187, 3) := dk_182 0 187 (dk_at dksX2_start_0 2 rfl rfl)
theorem dX2_start_5 : decode cX2_start 5 = .ok (.istore_n 3, 1) := dk_62 (dk_at dksX2_start_0 5 rfl rfl)
theorem dX2_start_6 : decode cX2_start 6 = .ok (.iload_n 3, 1) := dk_29 (dk_at dksX2_start_0 6 rfl rfl)
theorem dX2_start_7 : decode cX2_start 7 = .ok (.iload_n 3, 1) := dk_29 (dk_at dksX2_start_0 7 rfl rfl)
theorem dX2_start_8 : decode cX2_start 8 = .ok (.ifCond .eq 26, 3) := dk_153 0 26 (dk_at dksX2_start_0 8 rfl rfl)
theorem dX2_start_11 : decode cX2_start 11 = .ok (.iload_n 2, 1) := dk_28 (dk_at dksX2_start_0 11 rfl rfl)
theorem dX2_start_12 : decode cX2_start 12 = .ok (.iconst 0, 1) := dk_3 (dk_at dksX2_start_0 12 rfl rfl)
theorem dX2_start_13 : decode cX2_start 13 = .ok (.aload_n 0, 1) := dk_42 (dk_at dksX2_start_0 13 rfl rfl)
theorem dX2_start_14 : decode cX2_start 14 = .ok (.getfield 17, 3) := dk_180 0 17 (dk_at dksX2_start_0 14 rfl rfl)
theorem dX2_start_17 : decode cX2_start 17 = .ok (.bipush 57, 2) := dk_16 57 (dk_at dksX2_start_0 17 rfl rfl)
theorem dX2_start_19 : decode cX2_start 19 = .ok (.iload_n 1, 1) := dk_27 (dk_at dksX2_start_0 19 rfl rfl)
theorem dX2_start_20 : decode cX2_start 20 = .ok (.iadd, 1) := dk_96 (dk_at dksX2_start_0 20 rfl rfl)
theorem dX2_start_21 : decode cX2_start 21 = .ok (.iaload, 1) := dk_46 (dk_at dksX2_start_0 21 rfl rfl)
theorem dX2_start_22 : decode cX2_start 22 = .ok (.iconst 1, 1) := dk_4 (dk_at dksX2_start_0 22 rfl rfl)
theorem dX2_start_23 : decode cX2_start 23 = .ok (.isub, 1) := dk_100 (dk_at dksX2_start_0 23 rfl rfl)
theorem dX2_start_24 : decode cX2_start 24 = .ok (.invokestatic 79, 3) := dk_184 0 79 (dk_at dksX2_start_1 0 rfl rfl)
theorem dX2_start_27 : decode cX2_start 27 = .ok (.ifCond .eq 7, 3) := dk_153 0 7 (dk_at dksX2_start_1 3 rfl rfl)
theorem dX2_start_30 : decode cX2_start 30 = .ok (.iconst 1, 1) := dk_4 (dk_at dksX2_start_1 6 rfl rfl)
theorem dX2_start_31 : decode cX2_start 31 = .ok (.goto 4, 3) := dk_167 0 4 (dk_at dksX2_start_1 7 rfl rfl)
theorem dX2_start_34 : decode cX2_start 34 = .ok (.iconst 0, 1) := dk_3 (dk_at dksX2_start_1 10 rfl rfl)
theorem dX2_start_35 : decode cX2_start 35 = .ok (.invokestatic 157, 3) := dk_184 0 157 (dk_at dksX2_start_1 11 rfl rfl)
theorem dX2_start_38 : decode cX2_start 38 = .ok (.istore 4, 2) := dk_54 4 (dk_at dksX2_start_1 14 rfl rfl)
theorem dX2_start_40 : decode cX2_start 40 = .ok (.aload_n 0, 1) := dk_42 (dk_at dksX2_start_1 16 rfl rfl)
theorem dX2_start_41 : decode cX2_start 41 = .ok (.iload 4, 2) := dk_21 4 (dk_at dksX2_start_1 17 rfl rfl)
theorem dX2_start_43 : decode cX2_start 43 = .ok (.ifCond .eq 8, 3) := dk_153 0 8 (dk_at dksX2_start_1 19 rfl rfl)
theorem dX2_start_46 : decode cX2_start 46 = .ok (.iload 4, 2) := dk_21 4 (dk_at dksX2_start_1 22 rfl rfl)
theorem dX2_start_48 : decode cX2_start 48 = .ok (.goto 30, 3) := dk_167 0 30 (dk_at dksX2_start_2 0 rfl rfl)
theorem dX2_start_51 : decode cX2_start 51 = .ok (.aload_n 0, 1) := dk_42 (dk_at dksX2_start_2 3 rfl rfl)
theorem dX2_start_52 : decode cX2_start 52 = .ok (.getfield 17, 3) := dk_180 0 17 (dk_at dksX2_start_2 4 rfl rfl)
theorem dX2_start_55 : decode cX2_start 55 = .ok (.bipush 67, 2) := dk_16 67 (dk_at dksX2_start_2 7 rfl rfl)
theorem dX2_start_57 : decode cX2_start 57 = .ok (.iload_n 1, 1) := dk_27 (dk_at dksX2_start_2 9 rfl rfl)
theorem dX2_start_58 : decode cX2_start 58 = .ok (.iadd, 1) := dk_96 (dk_at dksX2_start_2 10 rfl rfl)
theorem dX2_start_59 : decode cX2_start 59 = .ok (.iaload, 1) := dk_46 (dk_at dksX2_start_2 11 rfl rfl)
theorem dX2_start_60 : decode cX2_start 60 = .ok (.ifCond .le 17, 3) := dk_158 0 17 (dk_at dksX2_start_2 12 rfl rfl)
theorem dX2_start_63 : decode cX2_start 63 = .ok (.aload_n 0, 1) := dk_42 (dk_at dksX2_start_2 15 rfl rfl)
theorem dX2_start_64 : decode cX2_start 64 = .ok (.iload_n 1, 1) := dk_27 (dk_at dksX2_start_2 16 rfl rfl)
theorem dX2_start_65 : decode cX2_start 65 = .ok (.iconst 0, 1) := dk_3 (dk_at dksX2_start_2 17 rfl rfl)
theorem dX2_start_66 : decode cX2_start 66 = .ok (.invokevirtual 209, 3) := dk_182 0 209 (dk_at dksX2_start_2 18 rfl rfl)
theorem dX2_start_69 : decode cX2_start 69 = .ok (.iload_n 2, 1) := dk_28 (dk_at dksX2_start_2 21 rfl rfl)
theorem dX2_start_70 : decode cX2_start 70 = .ok (.if_icmp .ge 7, 3) := dk_162 0 7 (dk_at dksX2_start_3 0 rfl rfl)
theorem dX2_start_73 : decode cX2_start 73 = .ok (.iconst 5, 1) := dk_8 (dk_at dksX2_start_3 3 rfl rfl)
theorem dX2_start_74 : decode cX2_start 74 = .ok (.goto 4, 3) := dk_167 0 4 (dk_at dksX2_start_3 4 rfl rfl)
theorem dX2_start_77 : decode cX2_start 77 = .ok (.iconst 0, 1) := dk_3 (dk_at dksX2_start_3 7 rfl rfl)
theorem dX2_start_78 : decode cX2_start 78 = .ok (.invokevirtual 161, 3) := dk_182 0 161 (dk_at dksX2_start_3 8 rfl rfl)
theorem dX2_start_81 : decode cX2_start 81 = .ok (.ifCond .eq 5, 3) := dk_153 0 5 (dk_at dksX2_start_3 11 rfl rfl)
theorem dX2_start_84 : decode cX2_start 84 = .ok (.iconst (-1), 1) := dk_2 (dk_at dksX2_start_3 14 rfl rfl)
theorem dX2_start_85 : decode cX2_start 85 = .ok (.ireturn, 1) := dk_172 (dk_at dksX2_start_3 15 rfl rfl)
theorem dX2_start_86 : decode cX2_start 86 = .ok (.aload_n 0, 1) := dk_42 (dk_at dksX2_start_3 16 rfl rfl)
theorem dX2_start_87 : decode cX2_start 87 = .ok (.bipush 47, 2) := dk_16 47 (dk_at dksX2_start_3 17 rfl rfl)
theorem dX2_start_89 : decode cX2_start 89 = .ok (.iload_n 1, 1) := dk_27 (dk_at dksX2_start_3 19 rfl rfl)
theorem dX2_start_90 : decode cX2_start 90 = .ok (.iadd, 1) := dk_96 (dk_at dksX2_start_3 20 rfl rfl)
theorem dX2_start_91 : decode cX2_start 91 = .ok (.iload_n 2, 1) := dk_28 (dk_at dksX2_start_3 21 rfl rfl)
theorem dX2_start_92 : decode cX2_start 92 = .ok (.invokevirtual 328, 3) := dk_182 1 72 (dk_at dksX2_start_4 0 rfl rfl)
theorem dX2_start_95 : decode cX2_start 95 = .ok (.ireturn, 1) := dk_172 (dk_at dksX2_start_4 3 rfl rfl)
theorem md_X2_start : xMd yX2_start cX2_start 5 (Option.some Jvm.ClassFile.FieldType.int) 2 := ⟨q3425, q126, by decide, by decide +kernel, by decide +kernel, by decide +kernel⟩
def T_start_78   (v1 : Int32) (v2 : Int32) (w1 : Int32) (s0 : TS) : Option (xO × TS) :=
  (xcI (T_isRefused s0 w1) fun x7 s6 =>
  (if x7 = 0 then
  (xcI (T_comes s6 (47 + v1) v2) fun x9 s8 =>
  (rI x9 s8)) else
  (rI (-1) s6)))
def T_start_77   (v1 : Int32) (v2 : Int32) (s0 : TS) : Option (xO × TS) :=
  (T_start_78 v1 v2 0 s0)
def T_start_35   (v1 : Int32) (v2 : Int32) (w0 : Int32) (w1 : Int32) (s0 : TS) : Option (xO × TS) :=
  (xcI (T_unless s0 w0 w1) fun x4 s3 =>
  (if x4 = 0 then
  (tald s3 7 (67 + v1) fun x5 =>
  (if x5 ≤ 0 then
  (T_start_77 v1 v2 s3) else
  (xcI (T_punchTime s3 v1 0) fun x11 s10 =>
  (if v2 ≤ x11 then
  (T_start_77 v1 v2 s10) else
  (T_start_78 v1 v2 5 s10))))) else
  (T_start_78 v1 v2 x4 s3)))
def T_start_34   (v1 : Int32) (v2 : Int32) (w0 : Int32) (s0 : TS) : Option (xO × TS) :=
  (T_start_35 v1 v2 w0 0 s0)
def T_start (s0 : TS) (a1 : Int32) (a2 : Int32) : Option (xO × TS) :=
  (xcI (T_isRunner s0 a1) fun x2 s1 =>
  (if x2 = 0 then
  (T_start_34 a1 a2 x2 s1) else
  (tald s1 7 (57 + a1) fun x12 =>
  (xcI (T_in s1 a2 0 (x12 - 1)) fun x14 s13 =>
  (if x14 = 0 then
  (T_start_34 a1 a2 x2 s13) else
  (T_start_35 a1 a2 x2 1 s13))))))
theorem T_start_78_ok {G : xG} {E : TE} (hO : xOK G) (hE : tok E)   (v1 : Int32) (v2 : Int32) (w1 : Int32) (s0 : TS) : XT G E "ForestLegsModel" "start" cX2_start 5 (Option.some Jvm.ClassFile.FieldType.int) 3 78 [(0, .ref E.2.1), (1, .int v1), (2, .int v2)] [.int w1, .ref E.2.1] s0 (T_start_78 v1 v2 w1 s0) := by
  unfold T_start_78
  refine tw_callV_I [.int w1] [] (T_isRefused_ok hO hE s0 w1) md_X2_isRefused q3022 q3024 qs63 dX2_start_78 rfl rfl (by decide) (Nat.le_of_ble_eq_true rfl) (n := 81) rfl (fun x7 s6 => ?_)
  refine tw_if_eq dX2_start_81 (t := 86) (by decide) (n := 84) rfl ?_ ?_
  · refine x_aload_nr 0 dX2_start_86 rfl rfl (n := 87) rfl ?_
    refine x_bipush 47 dX2_start_87 rfl (n := 89) rfl ?_
    refine x_iload_n 1 dX2_start_89 rfl rfl (n := 90) rfl ?_
    refine x_iadd dX2_start_90 (n := 91) rfl ?_
    refine x_iload_n 2 dX2_start_91 rfl rfl (n := 92) rfl ?_
    refine tw_callV_I [.int (47 + v1), .int v2] [] (T_comes_ok hO hE s6 (47 + v1) v2) md_X2_comes q3426 q3428 qs119 dX2_start_92 rfl rfl (by decide) (Nat.le_of_ble_eq_true rfl) (n := 95) rfl (fun x9 s8 => ?_)
    exact tw_ireturn dX2_start_95
  · refine x_iconst (-1) dX2_start_84 rfl (n := 85) rfl ?_
    exact tw_ireturn dX2_start_85
theorem T_start_77_ok {G : xG} {E : TE} (hO : xOK G) (hE : tok E)   (v1 : Int32) (v2 : Int32) (s0 : TS) : XT G E "ForestLegsModel" "start" cX2_start 5 (Option.some Jvm.ClassFile.FieldType.int) 3 77 [(0, .ref E.2.1), (1, .int v1), (2, .int v2)] [.ref E.2.1] s0 (T_start_77 v1 v2 s0) := by
  unfold T_start_77
  refine x_iconst 0 dX2_start_77 rfl (n := 78) rfl ?_
  exact T_start_78_ok hO hE v1 v2 0 s0
theorem T_start_35_ok {G : xG} {E : TE} (hO : xOK G) (hE : tok E)   (v1 : Int32) (v2 : Int32) (w0 : Int32) (w1 : Int32) (s0 : TS) : XT G E "ForestLegsModel" "start" cX2_start 5 (Option.some Jvm.ClassFile.FieldType.int) 3 35 [(0, .ref E.2.1), (1, .int v1), (2, .int v2)] [.int w1, .int w0] s0 (T_start_35 v1 v2 w0 w1 s0) := by
  unfold T_start_35
  refine tw_callS_I [.int w0, .int w1] [] (T_unless_ok hO hE s0 w0 w1) md_X2_unless q3019 q3020 dX2_start_35 rfl rfl (by decide) (Nat.le_of_ble_eq_true rfl) (n := 38) rfl (fun x4 s3 => ?_)
  refine x_istore [(4, .int x4), (0, .ref E.2.1), (1, .int v1), (2, .int v2)] dX2_start_38 (by decide) rfl (n := 40) rfl ?_
  refine x_aload_nr 1 dX2_start_40 rfl rfl (n := 41) rfl ?_
  refine x_iload 0 dX2_start_41 rfl (n := 43) rfl ?_
  refine tw_if_eq dX2_start_43 (t := 51) (by decide) (n := 46) rfl ?_ ?_
  · refine x_aload_nr 1 dX2_start_51 rfl rfl (n := 52) rfl ?_
    refine tw_getA fl_X2_17 rfl (by decide) dX2_start_52 (n := 55) rfl ?_
    refine x_bipush 67 dX2_start_55 rfl (n := 57) rfl ?_
    refine x_iload_n 2 dX2_start_57 rfl rfl (n := 58) rfl ?_
    refine x_iadd dX2_start_58 (n := 59) rfl ?_
    refine tw_iald hE (by decide) dX2_start_59 (n := 60) rfl (fun x5 => ?_)
    refine tw_if_le dX2_start_60 (t := 77) (by decide) (n := 63) rfl ?_ ?_
    · refine x_sub [1, 2, 3] [(0, .ref E.2.1), (1, .int v1), (2, .int v2)] rfl ?_
      exact T_start_77_ok hO hE v1 v2 s3
    · refine x_aload_nr 1 dX2_start_63 rfl rfl (n := 64) rfl ?_
      refine x_iload_n 2 dX2_start_64 rfl rfl (n := 65) rfl ?_
      refine x_iconst 0 dX2_start_65 rfl (n := 66) rfl ?_
      refine tw_callV_I [.int v1, .int 0] [.ref E.2.1] (T_punchTime_ok hO hE s3 v1 0) md_X2_punchTime q3187 q3189 qs94 dX2_start_66 rfl rfl (by decide) (Nat.le_of_ble_eq_true rfl) (n := 69) rfl (fun x11 s10 => ?_)
      refine x_iload_n 3 dX2_start_69 rfl rfl (n := 70) rfl ?_
      refine tw_icmp_ge dX2_start_70 (t := 77) (by decide) (n := 73) rfl ?_ ?_
      · refine x_sub [1, 2, 3] [(0, .ref E.2.1), (1, .int v1), (2, .int v2)] rfl ?_
        exact T_start_77_ok hO hE v1 v2 s10
      · refine x_iconst 5 dX2_start_73 rfl (n := 74) rfl ?_
        refine x_goto dX2_start_74 (n := 78) (by decide) ?_
        refine x_sub [1, 2, 3] [(0, .ref E.2.1), (1, .int v1), (2, .int v2)] rfl ?_
        exact T_start_78_ok hO hE v1 v2 5 s10
  · refine x_iload 0 dX2_start_46 rfl (n := 48) rfl ?_
    refine x_goto dX2_start_48 (n := 78) (by decide) ?_
    refine x_sub [1, 2, 3] [(0, .ref E.2.1), (1, .int v1), (2, .int v2)] rfl ?_
    exact T_start_78_ok hO hE v1 v2 x4 s3
theorem T_start_34_ok {G : xG} {E : TE} (hO : xOK G) (hE : tok E)   (v1 : Int32) (v2 : Int32) (w0 : Int32) (s0 : TS) : XT G E "ForestLegsModel" "start" cX2_start 5 (Option.some Jvm.ClassFile.FieldType.int) 3 34 [(0, .ref E.2.1), (1, .int v1), (2, .int v2)] [.int w0] s0 (T_start_34 v1 v2 w0 s0) := by
  unfold T_start_34
  refine x_iconst 0 dX2_start_34 rfl (n := 35) rfl ?_
  exact T_start_35_ok hO hE v1 v2 w0 0 s0
theorem T_start_ok {G : xG} {E : TE} (hO : xOK G) (hE : tok E) (s0 : TS) (a1 : Int32) (a2 : Int32) : CTT G E 3 yX2_start cX2_start 5 (Option.some Jvm.ClassFile.FieldType.int) [.ref E.2.1, .int a1, .int a2] s0 (T_start s0 a1 a2) := by
  refine CT_of hO (by decide +kernel) (by decide +kernel) (Nat.le_of_ble_eq_true rfl) ?_
  show XT G E "ForestLegsModel" "start" cX2_start 5 (Option.some Jvm.ClassFile.FieldType.int) 3 0 [(0, .ref E.2.1), (1, .int a1), (2, .int a2)] [] s0 (T_start s0 a1 a2)
  refine x_aload_nr 0 dX2_start_0 rfl rfl (n := 1) rfl ?_
  refine x_iload_n 1 dX2_start_1 rfl rfl (n := 2) rfl ?_
  refine tw_callV_I [.int a1] [] (T_isRunner_ok hO hE s0 a1) md_X2_isRunner q3215 q3217 qs99 dX2_start_2 rfl rfl (by decide) (Nat.le_of_ble_eq_true rfl) (n := 5) rfl (fun x2 s1 => ?_)
  refine x_istore_n [(3, .int x2), (0, .ref E.2.1), (1, .int a1), (2, .int a2)] dX2_start_5 rfl (by decide) rfl (n := 6) rfl ?_
  refine x_iload_n 0 dX2_start_6 rfl rfl (n := 7) rfl ?_
  refine x_iload_n 0 dX2_start_7 rfl rfl (n := 8) rfl ?_
  refine tw_if_eq dX2_start_8 (t := 34) (by decide) (n := 11) rfl ?_ ?_
  · refine x_sub [1, 2, 3] [(0, .ref E.2.1), (1, .int a1), (2, .int a2)] rfl ?_
    exact T_start_34_ok hO hE a1 a2 x2 s1
  · refine x_iload_n 3 dX2_start_11 rfl rfl (n := 12) rfl ?_
    refine x_iconst 0 dX2_start_12 rfl (n := 13) rfl ?_
    refine x_aload_nr 1 dX2_start_13 rfl rfl (n := 14) rfl ?_
    refine tw_getA fl_X2_17 rfl (by decide) dX2_start_14 (n := 17) rfl ?_
    refine x_bipush 57 dX2_start_17 rfl (n := 19) rfl ?_
    refine x_iload_n 2 dX2_start_19 rfl rfl (n := 20) rfl ?_
    refine x_iadd dX2_start_20 (n := 21) rfl ?_
    refine tw_iald hE (by decide) dX2_start_21 (n := 22) rfl (fun x12 => ?_)
    refine x_iconst 1 dX2_start_22 rfl (n := 23) rfl ?_
    refine x_isub dX2_start_23 (n := 24) rfl ?_
    refine tw_callS_I [.int a2, .int 0, .int (x12 - 1)] [.int x2] (T_in_ok hO hE s1 a2 0 (x12 - 1)) md_X2_in q3016 q3017 dX2_start_24 rfl rfl (by decide) (Nat.le_of_ble_eq_true rfl) (n := 27) rfl (fun x14 s13 => ?_)
    refine tw_if_eq dX2_start_27 (t := 34) (by decide) (n := 30) rfl ?_ ?_
    · refine x_sub [1, 2, 3] [(0, .ref E.2.1), (1, .int a1), (2, .int a2)] rfl ?_
      exact T_start_34_ok hO hE a1 a2 x2 s13
    · refine x_iconst 1 dX2_start_30 rfl (n := 31) rfl ?_
      refine x_goto dX2_start_31 (n := 35) (by decide) ?_
      refine x_sub [1, 2, 3] [(0, .ref E.2.1), (1, .int a1), (2, .int a2)] rfl ?_
      exact T_start_35_ok hO hE a1 a2 x2 1 s13
abbrev cX2_finish : ByteArray := prog_14_method_107_code
def yX2_finish : MethodName := ⟨RX2, "finish", "(II)I"⟩
def dkwX2_finish_4 : List UInt8 := [182, 0, 161, 153, 0, 5, 2, 172, 42, 16, 57, 27, 96, 28, 182, 1, 72, 172]
abbrev dktX2_finish_4 : List UInt8 := dkwX2_finish_4 ++ []
def dkwX2_finish_3 : List UInt8 := [180, 0, 17, 16, 67, 27, 96, 46, 4, 100, 182, 0, 209, 28, 164, 0, 7, 8, 167, 0, 4, 3]
abbrev dktX2_finish_3 : List UInt8 := dkwX2_finish_3 ++ dktX2_finish_4
def dkwX2_finish_2 : List UInt8 := [153, 0, 8, 21, 4, 167, 0, 40, 42, 180, 0, 17, 16, 67, 27, 96, 46, 158, 0, 27, 42, 27, 42]
abbrev dktX2_finish_2 : List UInt8 := dkwX2_finish_2 ++ dktX2_finish_3
def dkwX2_finish_1 : List UInt8 := [17, 39, 15, 184, 0, 79, 153, 0, 7, 4, 167, 0, 4, 3, 184, 0, 157, 54, 4, 42, 21, 4]
abbrev dktX2_finish_1 : List UInt8 := dkwX2_finish_1 ++ dktX2_finish_2
def dkwX2_finish_0 : List UInt8 := [42, 27, 182, 0, 187, 62, 29, 29, 153, 0, 28, 28, 42, 180, 0, 17, 16, 47, 27, 96, 46, 4, 96]
abbrev dktX2_finish_0 : List UInt8 := dkwX2_finish_0 ++ dktX2_finish_1
theorem dksX2_finish_0 : cX2_finish.data.toList.drop 0 = dktX2_finish_0 := by decide +kernel
theorem dksX2_finish_1 : cX2_finish.data.toList.drop 23 = dktX2_finish_1 := dk_seg dksX2_finish_0 23 rfl rfl
theorem dksX2_finish_2 : cX2_finish.data.toList.drop 45 = dktX2_finish_2 := dk_seg dksX2_finish_1 22 rfl rfl
theorem dksX2_finish_3 : cX2_finish.data.toList.drop 68 = dktX2_finish_3 := dk_seg dksX2_finish_2 23 rfl rfl
theorem dksX2_finish_4 : cX2_finish.data.toList.drop 90 = dktX2_finish_4 := dk_seg dksX2_finish_3 22 rfl rfl
theorem dX2_finish_0 : decode cX2_finish 0 = .ok (.aload_n 0, 1) := dk_42 (dk_at dksX2_finish_0 0 rfl rfl)
theorem dX2_finish_1 : decode cX2_finish 1 = .ok (.iload_n 1, 1) := dk_27 (dk_at dksX2_finish_0 1 rfl rfl)
theorem dX2_finish_2 : decode cX2_finish 2 = .ok (.invokevirtual 187, 3) := dk_182 0 187 (dk_at dksX2_finish_0 2 rfl rfl)
theorem dX2_finish_5 : decode cX2_finish 5 = .ok (.istore_n 3, 1) := dk_62 (dk_at dksX2_finish_0 5 rfl rfl)
theorem dX2_finish_6 : decode cX2_finish 6 = .ok (.iload_n 3, 1) := dk_29 (dk_at dksX2_finish_0 6 rfl rfl)
theorem dX2_finish_7 : decode cX2_finish 7 = .ok (.iload_n 3, 1) := dk_29 (dk_at dksX2_finish_0 7 rfl rfl)
theorem dX2_finish_8 : decode cX2_finish 8 = .ok (.ifCond .eq 28, 3) := dk_153 0 28 (dk_at dksX2_finish_0 8 rfl rfl)
theorem dX2_finish_11 : decode cX2_finish 11 = .ok (.iload_n 2, 1) := dk_28 (dk_at dksX2_finish_0 11 rfl rfl)
theorem dX2_finish_12 : decode cX2_finish 12 = .ok (.aload_n 0, 1) := dk_42 (dk_at dksX2_finish_0 12 rfl rfl)
theorem dX2_finish_13 : decode cX2_finish 13 = .ok (.getfield 17, 3) := dk_180 0 17 (dk_at dksX2_finish_0 13 rfl rfl)
theorem dX2_finish_16 : decode cX2_finish 16 = .ok (.bipush 47, 2) := dk_16 47 (dk_at dksX2_finish_0 16 rfl rfl)
theorem dX2_finish_18 : decode cX2_finish 18 = .ok (.iload_n 1, 1) := dk_27 (dk_at dksX2_finish_0 18 rfl rfl)
theorem dX2_finish_19 : decode cX2_finish 19 = .ok (.iadd, 1) := dk_96 (dk_at dksX2_finish_0 19 rfl rfl)
theorem dX2_finish_20 : decode cX2_finish 20 = .ok (.iaload, 1) := dk_46 (dk_at dksX2_finish_0 20 rfl rfl)
theorem dX2_finish_21 : decode cX2_finish 21 = .ok (.iconst 1, 1) := dk_4 (dk_at dksX2_finish_0 21 rfl rfl)
theorem dX2_finish_22 : decode cX2_finish 22 = .ok (.iadd, 1) := dk_96 (dk_at dksX2_finish_0 22 rfl rfl)
theorem dX2_finish_23 : decode cX2_finish 23 = .ok (.sipush 9999, 3) := dk_17 39 15 (dk_at dksX2_finish_1 0 rfl rfl)
theorem dX2_finish_26 : decode cX2_finish 26 = .ok (.invokestatic 79, 3) := dk_184 0 79 (dk_at dksX2_finish_1 3 rfl rfl)
theorem dX2_finish_29 : decode cX2_finish 29 = .ok (.ifCond .eq 7, 3) := dk_153 0 7 (dk_at dksX2_finish_1 6 rfl rfl)
theorem dX2_finish_32 : decode cX2_finish 32 = .ok (.iconst 1, 1) := dk_4 (dk_at dksX2_finish_1 9 rfl rfl)
theorem dX2_finish_33 : decode cX2_finish 33 = .ok (.goto 4, 3) := dk_167 0 4 (dk_at dksX2_finish_1 10 rfl rfl)
theorem dX2_finish_36 : decode cX2_finish 36 = .ok (.iconst 0, 1) := dk_3 (dk_at dksX2_finish_1 13 rfl rfl)
theorem dX2_finish_37 : decode cX2_finish 37 = .ok (.invokestatic 157, 3) := dk_184 0 157 (dk_at dksX2_finish_1 14 rfl rfl)
theorem dX2_finish_40 : decode cX2_finish 40 = .ok (.istore 4, 2) := dk_54 4 (dk_at dksX2_finish_1 17 rfl rfl)
theorem dX2_finish_42 : decode cX2_finish 42 = .ok (.aload_n 0, 1) := dk_42 (dk_at dksX2_finish_1 19 rfl rfl)
theorem dX2_finish_43 : decode cX2_finish 43 = .ok (.iload 4, 2) := dk_21 4 (dk_at dksX2_finish_1 20 rfl rfl)
theorem dX2_finish_45 : decode cX2_finish 45 = .ok (.ifCond .eq 8, 3) := dk_153 0 8 (dk_at dksX2_finish_2 0 rfl rfl)
theorem dX2_finish_48 : decode cX2_finish 48 = .ok (.iload 4, 2) := dk_21 4 (dk_at dksX2_finish_2 3 rfl rfl)
theorem dX2_finish_50 : decode cX2_finish 50 = .ok (.goto 40, 3) := dk_167 0 40 (dk_at dksX2_finish_2 5 rfl rfl)
theorem dX2_finish_53 : decode cX2_finish 53 = .ok (.aload_n 0, 1) := dk_42 (dk_at dksX2_finish_2 8 rfl rfl)
theorem dX2_finish_54 : decode cX2_finish 54 = .ok (.getfield 17, 3) := dk_180 0 17 (dk_at dksX2_finish_2 9 rfl rfl)
theorem dX2_finish_57 : decode cX2_finish 57 = .ok (.bipush 67, 2) := dk_16 67 (dk_at dksX2_finish_2 12 rfl rfl)
theorem dX2_finish_59 : decode cX2_finish 59 = .ok (.iload_n 1, 1) := dk_27 (dk_at dksX2_finish_2 14 rfl rfl)
theorem dX2_finish_60 : decode cX2_finish 60 = .ok (.iadd, 1) := dk_96 (dk_at dksX2_finish_2 15 rfl rfl)
theorem dX2_finish_61 : decode cX2_finish 61 = .ok (.iaload, 1) := dk_46 (dk_at dksX2_finish_2 16 rfl rfl)
theorem dX2_finish_62 : decode cX2_finish 62 = .ok (.ifCond .le 27, 3) := dk_158 0 27 (dk_at dksX2_finish_2 17 rfl rfl)
theorem dX2_finish_65 : decode cX2_finish 65 = .ok (.aload_n 0, 1) := dk_42 (dk_at dksX2_finish_2 20 rfl rfl)
theorem dX2_finish_66 : decode cX2_finish 66 = .ok (.iload_n 1, 1) := dk_27 (dk_at dksX2_finish_2 21 rfl rfl)
theorem dX2_finish_67 : decode cX2_finish 67 = .ok (.aload_n 0, 1) := dk_42 (dk_at dksX2_finish_2 22 rfl rfl)
theorem dX2_finish_68 : decode cX2_finish 68 = .ok (.getfield 17, 3) := dk_180 0 17 (dk_at dksX2_finish_3 0 rfl rfl)
theorem dX2_finish_71 : decode cX2_finish 71 = .ok (.bipush 67, 2) := dk_16 67 (dk_at dksX2_finish_3 3 rfl rfl)
theorem dX2_finish_73 : decode cX2_finish 73 = .ok (.iload_n 1, 1) := dk_27 (dk_at dksX2_finish_3 5 rfl rfl)
theorem dX2_finish_74 : decode cX2_finish 74 = .ok (.iadd, 1) := dk_96 (dk_at dksX2_finish_3 6 rfl rfl)
theorem dX2_finish_75 : decode cX2_finish 75 = .ok (.iaload, 1) := dk_46 (dk_at dksX2_finish_3 7 rfl rfl)
theorem dX2_finish_76 : decode cX2_finish 76 = .ok (.iconst 1, 1) := dk_4 (dk_at dksX2_finish_3 8 rfl rfl)
theorem dX2_finish_77 : decode cX2_finish 77 = .ok (.isub, 1) := dk_100 (dk_at dksX2_finish_3 9 rfl rfl)
theorem dX2_finish_78 : decode cX2_finish 78 = .ok (.invokevirtual 209, 3) := dk_182 0 209 (dk_at dksX2_finish_3 10 rfl rfl)
theorem dX2_finish_81 : decode cX2_finish 81 = .ok (.iload_n 2, 1) := dk_28 (dk_at dksX2_finish_3 13 rfl rfl)
theorem dX2_finish_82 : decode cX2_finish 82 = .ok (.if_icmp .le 7, 3) := dk_164 0 7 (dk_at dksX2_finish_3 14 rfl rfl)
theorem dX2_finish_85 : decode cX2_finish 85 = .ok (.iconst 5, 1) := dk_8 (dk_at dksX2_finish_3 17 rfl rfl)
theorem dX2_finish_86 : decode cX2_finish 86 = .ok (.goto 4, 3) := dk_167 0 4 (dk_at dksX2_finish_3 18 rfl rfl)
theorem dX2_finish_89 : decode cX2_finish 89 = .ok (.iconst 0, 1) := dk_3 (dk_at dksX2_finish_3 21 rfl rfl)
theorem dX2_finish_90 : decode cX2_finish 90 = .ok (.invokevirtual 161, 3) := dk_182 0 161 (dk_at dksX2_finish_4 0 rfl rfl)
theorem dX2_finish_93 : decode cX2_finish 93 = .ok (.ifCond .eq 5, 3) := dk_153 0 5 (dk_at dksX2_finish_4 3 rfl rfl)
theorem dX2_finish_96 : decode cX2_finish 96 = .ok (.iconst (-1), 1) := dk_2 (dk_at dksX2_finish_4 6 rfl rfl)
theorem dX2_finish_97 : decode cX2_finish 97 = .ok (.ireturn, 1) := dk_172 (dk_at dksX2_finish_4 7 rfl rfl)
theorem dX2_finish_98 : decode cX2_finish 98 = .ok (.aload_n 0, 1) := dk_42 (dk_at dksX2_finish_4 8 rfl rfl)
theorem dX2_finish_99 : decode cX2_finish 99 = .ok (.bipush 57, 2) := dk_16 57 (dk_at dksX2_finish_4 9 rfl rfl)
theorem dX2_finish_101 : decode cX2_finish 101 = .ok (.iload_n 1, 1) := dk_27 (dk_at dksX2_finish_4 11 rfl rfl)
theorem dX2_finish_102 : decode cX2_finish 102 = .ok (.iadd, 1) := dk_96 (dk_at dksX2_finish_4 12 rfl rfl)
theorem dX2_finish_103 : decode cX2_finish 103 = .ok (.iload_n 2, 1) := dk_28 (dk_at dksX2_finish_4 13 rfl rfl)
theorem dX2_finish_104 : decode cX2_finish 104 = .ok (.invokevirtual 328, 3) := dk_182 1 72 (dk_at dksX2_finish_4 14 rfl rfl)
theorem dX2_finish_107 : decode cX2_finish 107 = .ok (.ireturn, 1) := dk_172 (dk_at dksX2_finish_4 17 rfl rfl)
theorem md_X2_finish : xMd yX2_finish cX2_finish 5 (Option.some Jvm.ClassFile.FieldType.int) 2 := ⟨q3433, q126, by decide, by decide +kernel, by decide +kernel, by decide +kernel⟩
def T_finish_90   (v1 : Int32) (v2 : Int32) (w1 : Int32) (s0 : TS) : Option (xO × TS) :=
  (xcI (T_isRefused s0 w1) fun x7 s6 =>
  (if x7 = 0 then
  (xcI (T_comes s6 (57 + v1) v2) fun x9 s8 =>
  (rI x9 s8)) else
  (rI (-1) s6)))
def T_finish_89   (v1 : Int32) (v2 : Int32) (s0 : TS) : Option (xO × TS) :=
  (T_finish_90 v1 v2 0 s0)
def T_finish_37   (v1 : Int32) (v2 : Int32) (w0 : Int32) (w1 : Int32) (s0 : TS) : Option (xO × TS) :=
  (xcI (T_unless s0 w0 w1) fun x4 s3 =>
  (if x4 = 0 then
  (tald s3 7 (67 + v1) fun x5 =>
  (if x5 ≤ 0 then
  (T_finish_89 v1 v2 s3) else
  (tald s3 7 (67 + v1) fun x10 =>
  (xcI (T_punchTime s3 v1 (x10 - 1)) fun x12 s11 =>
  (if x12 ≤ v2 then
  (T_finish_89 v1 v2 s11) else
  (T_finish_90 v1 v2 5 s11)))))) else
  (T_finish_90 v1 v2 x4 s3)))
def T_finish_36   (v1 : Int32) (v2 : Int32) (w0 : Int32) (s0 : TS) : Option (xO × TS) :=
  (T_finish_37 v1 v2 w0 0 s0)
def T_finish (s0 : TS) (a1 : Int32) (a2 : Int32) : Option (xO × TS) :=
  (xcI (T_isRunner s0 a1) fun x2 s1 =>
  (if x2 = 0 then
  (T_finish_36 a1 a2 x2 s1) else
  (tald s1 7 (47 + a1) fun x13 =>
  (xcI (T_in s1 a2 (x13 + 1) 9999) fun x15 s14 =>
  (if x15 = 0 then
  (T_finish_36 a1 a2 x2 s14) else
  (T_finish_37 a1 a2 x2 1 s14))))))
theorem T_finish_90_ok {G : xG} {E : TE} (hO : xOK G) (hE : tok E)   (v1 : Int32) (v2 : Int32) (w1 : Int32) (s0 : TS) : XT G E "ForestLegsModel" "finish" cX2_finish 5 (Option.some Jvm.ClassFile.FieldType.int) 3 90 [(0, .ref E.2.1), (1, .int v1), (2, .int v2)] [.int w1, .ref E.2.1] s0 (T_finish_90 v1 v2 w1 s0) := by
  unfold T_finish_90
  refine tw_callV_I [.int w1] [] (T_isRefused_ok hO hE s0 w1) md_X2_isRefused q3022 q3024 qs63 dX2_finish_90 rfl rfl (by decide) (Nat.le_of_ble_eq_true rfl) (n := 93) rfl (fun x7 s6 => ?_)
  refine tw_if_eq dX2_finish_93 (t := 98) (by decide) (n := 96) rfl ?_ ?_
  · refine x_aload_nr 0 dX2_finish_98 rfl rfl (n := 99) rfl ?_
    refine x_bipush 57 dX2_finish_99 rfl (n := 101) rfl ?_
    refine x_iload_n 1 dX2_finish_101 rfl rfl (n := 102) rfl ?_
    refine x_iadd dX2_finish_102 (n := 103) rfl ?_
    refine x_iload_n 2 dX2_finish_103 rfl rfl (n := 104) rfl ?_
    refine tw_callV_I [.int (57 + v1), .int v2] [] (T_comes_ok hO hE s6 (57 + v1) v2) md_X2_comes q3426 q3428 qs119 dX2_finish_104 rfl rfl (by decide) (Nat.le_of_ble_eq_true rfl) (n := 107) rfl (fun x9 s8 => ?_)
    exact tw_ireturn dX2_finish_107
  · refine x_iconst (-1) dX2_finish_96 rfl (n := 97) rfl ?_
    exact tw_ireturn dX2_finish_97
theorem T_finish_89_ok {G : xG} {E : TE} (hO : xOK G) (hE : tok E)   (v1 : Int32) (v2 : Int32) (s0 : TS) : XT G E "ForestLegsModel" "finish" cX2_finish 5 (Option.some Jvm.ClassFile.FieldType.int) 3 89 [(0, .ref E.2.1), (1, .int v1), (2, .int v2)] [.ref E.2.1] s0 (T_finish_89 v1 v2 s0) := by
  unfold T_finish_89
  refine x_iconst 0 dX2_finish_89 rfl (n := 90) rfl ?_
  exact T_finish_90_ok hO hE v1 v2 0 s0
theorem T_finish_37_ok {G : xG} {E : TE} (hO : xOK G) (hE : tok E)   (v1 : Int32) (v2 : Int32) (w0 : Int32) (w1 : Int32) (s0 : TS) : XT G E "ForestLegsModel" "finish" cX2_finish 5 (Option.some Jvm.ClassFile.FieldType.int) 3 37 [(0, .ref E.2.1), (1, .int v1), (2, .int v2)] [.int w1, .int w0] s0 (T_finish_37 v1 v2 w0 w1 s0) := by
  unfold T_finish_37
  refine tw_callS_I [.int w0, .int w1] [] (T_unless_ok hO hE s0 w0 w1) md_X2_unless q3019 q3020 dX2_finish_37 rfl rfl (by decide) (Nat.le_of_ble_eq_true rfl) (n := 40) rfl (fun x4 s3 => ?_)
  refine x_istore [(4, .int x4), (0, .ref E.2.1), (1, .int v1), (2, .int v2)] dX2_finish_40 (by decide) rfl (n := 42) rfl ?_
  refine x_aload_nr 1 dX2_finish_42 rfl rfl (n := 43) rfl ?_
  refine x_iload 0 dX2_finish_43 rfl (n := 45) rfl ?_
  refine tw_if_eq dX2_finish_45 (t := 53) (by decide) (n := 48) rfl ?_ ?_
  · refine x_aload_nr 1 dX2_finish_53 rfl rfl (n := 54) rfl ?_
    refine tw_getA fl_X2_17 rfl (by decide) dX2_finish_54 (n := 57) rfl ?_
    refine x_bipush 67 dX2_finish_57 rfl (n := 59) rfl ?_
    refine x_iload_n 2 dX2_finish_59 rfl rfl (n := 60) rfl ?_
    refine x_iadd dX2_finish_60 (n := 61) rfl ?_
    refine tw_iald hE (by decide) dX2_finish_61 (n := 62) rfl (fun x5 => ?_)
    refine tw_if_le dX2_finish_62 (t := 89) (by decide) (n := 65) rfl ?_ ?_
    · refine x_sub [1, 2, 3] [(0, .ref E.2.1), (1, .int v1), (2, .int v2)] rfl ?_
      exact T_finish_89_ok hO hE v1 v2 s3
    · refine x_aload_nr 1 dX2_finish_65 rfl rfl (n := 66) rfl ?_
      refine x_iload_n 2 dX2_finish_66 rfl rfl (n := 67) rfl ?_
      refine x_aload_nr 1 dX2_finish_67 rfl rfl (n := 68) rfl ?_
      refine tw_getA fl_X2_17 rfl (by decide) dX2_finish_68 (n := 71) rfl ?_
      refine x_bipush 67 dX2_finish_71 rfl (n := 73) rfl ?_
      refine x_iload_n 2 dX2_finish_73 rfl rfl (n := 74) rfl ?_
      refine x_iadd dX2_finish_74 (n := 75) rfl ?_
      refine tw_iald hE (by decide) dX2_finish_75 (n := 76) rfl (fun x10 => ?_)
      refine x_iconst 1 dX2_finish_76 rfl (n := 77) rfl ?_
      refine x_isub dX2_finish_77 (n := 78) rfl ?_
      refine tw_callV_I [.int v1, .int (x10 - 1)] [.ref E.2.1] (T_punchTime_ok hO hE s3 v1 (x10 - 1)) md_X2_punchTime q3187 q3189 qs94 dX2_finish_78 rfl rfl (by decide) (Nat.le_of_ble_eq_true rfl) (n := 81) rfl (fun x12 s11 => ?_)
      refine x_iload_n 3 dX2_finish_81 rfl rfl (n := 82) rfl ?_
      refine tw_icmp_le dX2_finish_82 (t := 89) (by decide) (n := 85) rfl ?_ ?_
      · refine x_sub [1, 2, 3] [(0, .ref E.2.1), (1, .int v1), (2, .int v2)] rfl ?_
        exact T_finish_89_ok hO hE v1 v2 s11
      · refine x_iconst 5 dX2_finish_85 rfl (n := 86) rfl ?_
        refine x_goto dX2_finish_86 (n := 90) (by decide) ?_
        refine x_sub [1, 2, 3] [(0, .ref E.2.1), (1, .int v1), (2, .int v2)] rfl ?_
        exact T_finish_90_ok hO hE v1 v2 5 s11
  · refine x_iload 0 dX2_finish_48 rfl (n := 50) rfl ?_
    refine x_goto dX2_finish_50 (n := 90) (by decide) ?_
    refine x_sub [1, 2, 3] [(0, .ref E.2.1), (1, .int v1), (2, .int v2)] rfl ?_
    exact T_finish_90_ok hO hE v1 v2 x4 s3
theorem T_finish_36_ok {G : xG} {E : TE} (hO : xOK G) (hE : tok E)   (v1 : Int32) (v2 : Int32) (w0 : Int32) (s0 : TS) : XT G E "ForestLegsModel" "finish" cX2_finish 5 (Option.some Jvm.ClassFile.FieldType.int) 3 36 [(0, .ref E.2.1), (1, .int v1), (2, .int v2)] [.int w0] s0 (T_finish_36 v1 v2 w0 s0) := by
  unfold T_finish_36
  refine x_iconst 0 dX2_finish_36 rfl (n := 37) rfl ?_
  exact T_finish_37_ok hO hE v1 v2 w0 0 s0
theorem T_finish_ok {G : xG} {E : TE} (hO : xOK G) (hE : tok E) (s0 : TS) (a1 : Int32) (a2 : Int32) : CTT G E 3 yX2_finish cX2_finish 5 (Option.some Jvm.ClassFile.FieldType.int) [.ref E.2.1, .int a1, .int a2] s0 (T_finish s0 a1 a2) := by
  refine CT_of hO (by decide +kernel) (by decide +kernel) (Nat.le_of_ble_eq_true rfl) ?_
  show XT G E "ForestLegsModel" "finish" cX2_finish 5 (Option.some Jvm.ClassFile.FieldType.int) 3 0 [(0, .ref E.2.1), (1, .int a1), (2, .int a2)] [] s0 (T_finish s0 a1 a2)
  refine x_aload_nr 0 dX2_finish_0 rfl rfl (n := 1) rfl ?_
  refine x_iload_n 1 dX2_finish_1 rfl rfl (n := 2) rfl ?_
  refine tw_callV_I [.int a1] [] (T_isRunner_ok hO hE s0 a1) md_X2_isRunner q3215 q3217 qs99 dX2_finish_2 rfl rfl (by decide) (Nat.le_of_ble_eq_true rfl) (n := 5) rfl (fun x2 s1 => ?_)
  refine x_istore_n [(3, .int x2), (0, .ref E.2.1), (1, .int a1), (2, .int a2)] dX2_finish_5 rfl (by decide) rfl (n := 6) rfl ?_
  refine x_iload_n 0 dX2_finish_6 rfl rfl (n := 7) rfl ?_
  refine x_iload_n 0 dX2_finish_7 rfl rfl (n := 8) rfl ?_
  refine tw_if_eq dX2_finish_8 (t := 36) (by decide) (n := 11) rfl ?_ ?_
  · refine x_sub [1, 2, 3] [(0, .ref E.2.1), (1, .int a1), (2, .int a2)] rfl ?_
    exact T_finish_36_ok hO hE a1 a2 x2 s1
  · refine x_iload_n 3 dX2_finish_11 rfl rfl (n := 12) rfl ?_
    refine x_aload_nr 1 dX2_finish_12 rfl rfl (n := 13) rfl ?_
    refine tw_getA fl_X2_17 rfl (by decide) dX2_finish_13 (n := 16) rfl ?_
    refine x_bipush 47 dX2_finish_16 rfl (n := 18) rfl ?_
    refine x_iload_n 2 dX2_finish_18 rfl rfl (n := 19) rfl ?_
    refine x_iadd dX2_finish_19 (n := 20) rfl ?_
    refine tw_iald hE (by decide) dX2_finish_20 (n := 21) rfl (fun x13 => ?_)
    refine x_iconst 1 dX2_finish_21 rfl (n := 22) rfl ?_
    refine x_iadd dX2_finish_22 (n := 23) rfl ?_
    refine x_sipush 9999 dX2_finish_23 rfl (n := 26) rfl ?_
    refine tw_callS_I [.int a2, .int (x13 + 1), .int 9999] [.int x2] (T_in_ok hO hE s1 a2 (x13 + 1) 9999) md_X2_in q3016 q3017 dX2_finish_26 rfl rfl (by decide) (Nat.le_of_ble_eq_true rfl) (n := 29) rfl (fun x15 s14 => ?_)
    refine tw_if_eq dX2_finish_29 (t := 36) (by decide) (n := 32) rfl ?_ ?_
    · refine x_sub [1, 2, 3] [(0, .ref E.2.1), (1, .int a1), (2, .int a2)] rfl ?_
      exact T_finish_36_ok hO hE a1 a2 x2 s14
    · refine x_iconst 1 dX2_finish_32 rfl (n := 33) rfl ?_
      refine x_goto dX2_finish_33 (n := 37) (by decide) ?_
      refine x_sub [1, 2, 3] [(0, .ref E.2.1), (1, .int a1), (2, .int a2)] rfl ?_
      exact T_finish_37_ok hO hE a1 a2 x2 1 s14
abbrev cX2_move : ByteArray := prog_14_method_108_code
def yX2_move : MethodName := ⟨RX2, "move", "(II)I"⟩
def dkwX2_move_1 : List UInt8 := [184, 0, 234, 182, 0, 161, 153, 0, 7, 2, 167, 0, 12, 42, 16, 37, 27, 96, 28, 182, 1, 72, 172]
abbrev dktX2_move_1 : List UInt8 := dkwX2_move_1 ++ []
def dkwX2_move_0 : List UInt8 := [42, 42, 27, 182, 0, 187, 153, 0, 15, 42, 28, 182, 0, 184, 153, 0, 7, 4, 167, 0, 4, 3]
abbrev dktX2_move_0 : List UInt8 := dkwX2_move_0 ++ dktX2_move_1
theorem dksX2_move_0 : cX2_move.data.toList.drop 0 = dktX2_move_0 := by decide +kernel
theorem dksX2_move_1 : cX2_move.data.toList.drop 22 = dktX2_move_1 := dk_seg dksX2_move_0 22 rfl rfl
theorem dX2_move_0 : decode cX2_move 0 = .ok (.aload_n 0, 1) := dk_42 (dk_at dksX2_move_0 0 rfl rfl)
theorem dX2_move_1 : decode cX2_move 1 = .ok (.aload_n 0, 1) := dk_42 (dk_at dksX2_move_0 1 rfl rfl)
theorem dX2_move_2 : decode cX2_move 2 = .ok (.iload_n 1, 1) := dk_27 (dk_at dksX2_move_0 2 rfl rfl)
theorem dX2_move_3 : decode cX2_move 3 = .ok (.invokevirtual 187, 3) := dk_182 0 187 (dk_at dksX2_move_0 3 rfl rfl)
theorem dX2_move_6 : decode cX2_move 6 = .ok (.ifCond .eq 15, 3) := dk_153 0 15 (dk_at dksX2_move_0 6 rfl rfl)
theorem dX2_move_9 : decode cX2_move 9 = .ok (.aload_n 0, 1) := dk_42 (dk_at dksX2_move_0 9 rfl rfl)
theorem dX2_move_10 : decode cX2_move 10 = .ok (.iload_n 2, 1) := dk_28 (dk_at dksX2_move_0 10 rfl rfl)
theorem dX2_move_11 : decode cX2_move 11 = .ok (.invokevirtual 184, 3) := dk_182 0 184 (dk_at dksX2_move_0 11 rfl rfl)
theorem dX2_move_14 : decode cX2_move 14 = .ok (.ifCond .eq 7, 3) := dk_153 0 7 (dk_at dksX2_move_0 14 rfl rfl)
theorem dX2_move_17 : decode cX2_move 17 = .ok (.iconst 1, 1) := dk_4 (dk_at dksX2_move_0 17 rfl rfl)
theorem dX2_move_18 : decode cX2_move 18 = .ok (.goto 4, 3) := dk_167 0 4 (dk_at dksX2_move_0 18 rfl rfl)
theorem dX2_move_21 : decode cX2_move 21 = .ok (.iconst 0, 1) := dk_3 (dk_at dksX2_move_0 21 rfl rfl)
theorem dX2_move_22 : decode cX2_move 22 = .ok (.invokestatic 234, 3) := dk_184 0 234 (dk_at dksX2_move_1 0 rfl rfl)
theorem dX2_move_25 : decode cX2_move 25 = .ok (.invokevirtual 161, 3) := dk_182 0 161 (dk_at dksX2_move_1 3 rfl rfl)
theorem dX2_move_28 : decode cX2_move 28 = .ok (.ifCond .eq 7, 3) := dk_153 0 7 (dk_at dksX2_move_1 6 rfl rfl)
theorem dX2_move_31 : decode cX2_move 31 = .ok (.iconst (-1), 1) := dk_2 (dk_at dksX2_move_1 9 rfl rfl)
theorem dX2_move_32 : decode cX2_move 32 = .ok (.goto 12, 3) := dk_167 0 12 (dk_at dksX2_move_1 10 rfl rfl)
theorem dX2_move_35 : decode cX2_move 35 = .ok (.aload_n 0, 1) := dk_42 (dk_at dksX2_move_1 13 rfl rfl)
theorem dX2_move_36 : decode cX2_move 36 = .ok (.bipush 37, 2) := dk_16 37 (dk_at dksX2_move_1 14 rfl rfl)
theorem dX2_move_38 : decode cX2_move 38 = .ok (.iload_n 1, 1) := dk_27 (dk_at dksX2_move_1 16 rfl rfl)
theorem dX2_move_39 : decode cX2_move 39 = .ok (.iadd, 1) := dk_96 (dk_at dksX2_move_1 17 rfl rfl)
theorem dX2_move_40 : decode cX2_move 40 = .ok (.iload_n 2, 1) := dk_28 (dk_at dksX2_move_1 18 rfl rfl)
theorem dX2_move_41 : decode cX2_move 41 = .ok (.invokevirtual 328, 3) := dk_182 1 72 (dk_at dksX2_move_1 19 rfl rfl)
theorem dX2_move_44 : decode cX2_move 44 = .ok (.ireturn, 1) := dk_172 (dk_at dksX2_move_1 22 rfl rfl)
theorem md_X2_move : xMd yX2_move cX2_move 3 (Option.some Jvm.ClassFile.FieldType.int) 2 := ⟨q3437, q126, by decide, by decide +kernel, by decide +kernel, by decide +kernel⟩
def T_move_22   (v1 : Int32) (v2 : Int32) (w1 : Int32) (s0 : TS) : Option (xO × TS) :=
  (xcI (T_unless_2 s0 w1) fun x4 s3 =>
  (xcI (T_isRefused s3 x4) fun x6 s5 =>
  (if x6 = 0 then
  (xcI (T_comes s5 (37 + v1) v2) fun x8 s7 =>
  (rI x8 s7)) else
  (rI (-1) s5))))
def T_move_21   (v1 : Int32) (v2 : Int32) (s0 : TS) : Option (xO × TS) :=
  (T_move_22 v1 v2 0 s0)
def T_move (s0 : TS) (a1 : Int32) (a2 : Int32) : Option (xO × TS) :=
  (xcI (T_isRunner s0 a1) fun x2 s1 =>
  (if x2 = 0 then
  (T_move_21 a1 a2 s1) else
  (xcI (T_isCourse s1 a2) fun x10 s9 =>
  (if x10 = 0 then
  (T_move_21 a1 a2 s9) else
  (T_move_22 a1 a2 1 s9)))))
theorem T_move_22_ok {G : xG} {E : TE} (hO : xOK G) (hE : tok E)   (v1 : Int32) (v2 : Int32) (w1 : Int32) (s0 : TS) : XT G E "ForestLegsModel" "move" cX2_move 3 (Option.some Jvm.ClassFile.FieldType.int) 3 22 [(0, .ref E.2.1), (1, .int v1), (2, .int v2)] [.int w1, .ref E.2.1] s0 (T_move_22 v1 v2 w1 s0) := by
  unfold T_move_22
  refine tw_callS_I [.int w1] [.ref E.2.1] (T_unless_2_ok hO hE s0 w1) md_X2_unless_2 q3121 q3122 dX2_move_22 rfl rfl (by decide) (Nat.le_of_ble_eq_true rfl) (n := 25) rfl (fun x4 s3 => ?_)
  refine tw_callV_I [.int x4] [] (T_isRefused_ok hO hE s3 x4) md_X2_isRefused q3022 q3024 qs63 dX2_move_25 rfl rfl (by decide) (Nat.le_of_ble_eq_true rfl) (n := 28) rfl (fun x6 s5 => ?_)
  refine tw_if_eq dX2_move_28 (t := 35) (by decide) (n := 31) rfl ?_ ?_
  · refine x_aload_nr 0 dX2_move_35 rfl rfl (n := 36) rfl ?_
    refine x_bipush 37 dX2_move_36 rfl (n := 38) rfl ?_
    refine x_iload_n 1 dX2_move_38 rfl rfl (n := 39) rfl ?_
    refine x_iadd dX2_move_39 (n := 40) rfl ?_
    refine x_iload_n 2 dX2_move_40 rfl rfl (n := 41) rfl ?_
    refine tw_callV_I [.int (37 + v1), .int v2] [] (T_comes_ok hO hE s5 (37 + v1) v2) md_X2_comes q3426 q3428 qs119 dX2_move_41 rfl rfl (by decide) (Nat.le_of_ble_eq_true rfl) (n := 44) rfl (fun x8 s7 => ?_)
    exact tw_ireturn dX2_move_44
  · refine x_iconst (-1) dX2_move_31 rfl (n := 32) rfl ?_
    refine x_goto dX2_move_32 (n := 44) (by decide) ?_
    exact tw_ireturn dX2_move_44
theorem T_move_21_ok {G : xG} {E : TE} (hO : xOK G) (hE : tok E)   (v1 : Int32) (v2 : Int32) (s0 : TS) : XT G E "ForestLegsModel" "move" cX2_move 3 (Option.some Jvm.ClassFile.FieldType.int) 3 21 [(0, .ref E.2.1), (1, .int v1), (2, .int v2)] [.ref E.2.1] s0 (T_move_21 v1 v2 s0) := by
  unfold T_move_21
  refine x_iconst 0 dX2_move_21 rfl (n := 22) rfl ?_
  exact T_move_22_ok hO hE v1 v2 0 s0
theorem T_move_ok {G : xG} {E : TE} (hO : xOK G) (hE : tok E) (s0 : TS) (a1 : Int32) (a2 : Int32) : CTT G E 3 yX2_move cX2_move 3 (Option.some Jvm.ClassFile.FieldType.int) [.ref E.2.1, .int a1, .int a2] s0 (T_move s0 a1 a2) := by
  refine CT_of hO (by decide +kernel) (by decide +kernel) (Nat.le_of_ble_eq_true rfl) ?_
  show XT G E "ForestLegsModel" "move" cX2_move 3 (Option.some Jvm.ClassFile.FieldType.int) 3 0 [(0, .ref E.2.1), (1, .int a1), (2, .int a2)] [] s0 (T_move s0 a1 a2)
  refine x_aload_nr 0 dX2_move_0 rfl rfl (n := 1) rfl ?_
  refine x_aload_nr 0 dX2_move_1 rfl rfl (n := 2) rfl ?_
  refine x_iload_n 1 dX2_move_2 rfl rfl (n := 3) rfl ?_
  refine tw_callV_I [.int a1] [.ref E.2.1] (T_isRunner_ok hO hE s0 a1) md_X2_isRunner q3215 q3217 qs99 dX2_move_3 rfl rfl (by decide) (Nat.le_of_ble_eq_true rfl) (n := 6) rfl (fun x2 s1 => ?_)
  refine tw_if_eq dX2_move_6 (t := 21) (by decide) (n := 9) rfl ?_ ?_
  · exact T_move_21_ok hO hE a1 a2 s1
  · refine x_aload_nr 0 dX2_move_9 rfl rfl (n := 10) rfl ?_
    refine x_iload_n 2 dX2_move_10 rfl rfl (n := 11) rfl ?_
    refine tw_callV_I [.int a2] [.ref E.2.1] (T_isCourse_ok hO hE s1 a2) md_X2_isCourse q3159 q3161 qs87 dX2_move_11 rfl rfl (by decide) (Nat.le_of_ble_eq_true rfl) (n := 14) rfl (fun x10 s9 => ?_)
    refine tw_if_eq dX2_move_14 (t := 21) (by decide) (n := 17) rfl ?_ ?_
    · exact T_move_21_ok hO hE a1 a2 s9
    · refine x_iconst 1 dX2_move_17 rfl (n := 18) rfl ?_
      refine x_goto dX2_move_18 (n := 22) (by decide) ?_
      exact T_move_22_ok hO hE a1 a2 1 s9
abbrev cX2_become : ByteArray := prog_14_method_109_code
def yX2_become : MethodName := ⟨RX2, "become", "(II)I"⟩
def dkwX2_become_2 : List UInt8 := [182, 1, 72, 172]
abbrev dktX2_become_2 : List UInt8 := dkwX2_become_2 ++ []
def dkwX2_become_1 : List UInt8 := [17, 2, 88, 184, 0, 79, 184, 0, 157, 182, 0, 161, 153, 0, 7, 2, 167, 0, 11, 42, 5, 27, 96, 28]
abbrev dktX2_become_1 : List UInt8 := dkwX2_become_1 ++ dktX2_become_2
def dkwX2_become_0 : List UInt8 := [42, 42, 180, 0, 173, 153, 0, 16, 27, 3, 4, 184, 0, 79, 153, 0, 7, 4, 167, 0, 4, 3, 28, 3]
abbrev dktX2_become_0 : List UInt8 := dkwX2_become_0 ++ dktX2_become_1
theorem dksX2_become_0 : cX2_become.data.toList.drop 0 = dktX2_become_0 := by decide +kernel
theorem dksX2_become_1 : cX2_become.data.toList.drop 24 = dktX2_become_1 := dk_seg dksX2_become_0 24 rfl rfl
theorem dksX2_become_2 : cX2_become.data.toList.drop 48 = dktX2_become_2 := dk_seg dksX2_become_1 24 rfl rfl
theorem dX2_become_0 : decode cX2_become 0 = .ok (.aload_n 0, 1) := dk_42 (dk_at dksX2_become_0 0 rfl rfl)
theorem dX2_become_1 : decode cX2_become 1 = .ok (.aload_n 0, 1) := dk_42 (dk_at dksX2_become_0 1 rfl rfl)
theorem dX2_become_2 : decode cX2_become 2 = .ok (.getfield 173, 3) := dk_180 0 173 (dk_at dksX2_become_0 2 rfl rfl)
theorem dX2_become_5 : decode cX2_become 5 = .ok (.ifCond .eq 16, 3) := dk_153 0 16 (dk_at dksX2_become_0 5 rfl rfl)
theorem dX2_become_8 : decode cX2_become 8 = .ok (.iload_n 1, 1) := dk_27 (dk_at dksX2_become_0 8 rfl rfl)
theorem dX2_become_9 : decode cX2_become 9 = .ok (.iconst 0, 1) := dk_3 (dk_at dksX2_become_0 9 rfl rfl)
theorem dX2_become_10 : decode cX2_become 10 = .ok (.iconst 1, 1) := dk_4 (dk_at dksX2_become_0 10 rfl rfl)
theorem dX2_become_11 : decode cX2_become 11 = .ok (.invokestatic 79, 3) := dk_184 0 79 (dk_at dksX2_become_0 11 rfl rfl)
theorem dX2_become_14 : decode cX2_become 14 = .ok (.ifCond .eq 7, 3) := dk_153 0 7 (dk_at dksX2_become_0 14 rfl rfl)
theorem dX2_become_17 : decode cX2_become 17 = .ok (.iconst 1, 1) := dk_4 (dk_at dksX2_become_0 17 rfl rfl)
theorem dX2_become_18 : decode cX2_become 18 = .ok (.goto 4, 3) := dk_167 0 4 (dk_at dksX2_become_0 18 rfl rfl)
theorem dX2_become_21 : decode cX2_become 21 = .ok (.iconst 0, 1) := dk_3 (dk_at dksX2_become_0 21 rfl rfl)
theorem dX2_become_22 : decode cX2_become 22 = .ok (.iload_n 2, 1) := dk_28 (dk_at dksX2_become_0 22 rfl rfl)
theorem dX2_become_23 : decode cX2_become 23 = .ok (.iconst 0, 1) := dk_3 (dk_at dksX2_become_0 23 rfl rfl)
theorem dX2_become_24 : decode cX2_become 24 = .ok (.sipush 600, 3) := dk_17 2 88 (dk_at dksX2_become_1 0 rfl rfl)
theorem dX2_become_27 : decode cX2_become 27 = .ok (.invokestatic 79, 3) := dk_184 0 79 (dk_at dksX2_become_1 3 rfl rfl)
theorem dX2_become_30 : decode cX2_become 30 = .ok (.invokestatic 157, 3) := dk_184 0 157 (dk_at dksX2_become_1 6 rfl rfl)
theorem dX2_become_33 : decode cX2_become 33 = .ok (.invokevirtual 161, 3) := dk_182 0 161 (dk_at dksX2_become_1 9 rfl rfl)
theorem dX2_become_36 : decode cX2_become 36 = .ok (.ifCond .eq 7, 3) := dk_153 0 7 (dk_at dksX2_become_1 12 rfl rfl)
theorem dX2_become_39 : decode cX2_become 39 = .ok (.iconst (-1), 1) := dk_2 (dk_at dksX2_become_1 15 rfl rfl)
theorem dX2_become_40 : decode cX2_become 40 = .ok (.goto 11, 3) := dk_167 0 11 (dk_at dksX2_become_1 16 rfl rfl)
theorem dX2_become_43 : decode cX2_become 43 = .ok (.aload_n 0, 1) := dk_42 (dk_at dksX2_become_1 19 rfl rfl)
theorem dX2_become_44 : decode cX2_become 44 = .ok (.iconst 2, 1) := dk_5 (dk_at dksX2_become_1 20 rfl rfl)
theorem dX2_become_45 : decode cX2_become 45 = .ok (.iload_n 1, 1) := dk_27 (dk_at dksX2_become_1 21 rfl rfl)
theorem dX2_become_46 : decode cX2_become 46 = .ok (.iadd, 1) := dk_96 (dk_at dksX2_become_1 22 rfl rfl)
theorem dX2_become_47 : decode cX2_become 47 = .ok (.iload_n 2, 1) := dk_28 (dk_at dksX2_become_1 23 rfl rfl)
theorem dX2_become_48 : decode cX2_become 48 = .ok (.invokevirtual 328, 3) := dk_182 1 72 (dk_at dksX2_become_2 0 rfl rfl)
theorem dX2_become_51 : decode cX2_become 51 = .ok (.ireturn, 1) := dk_172 (dk_at dksX2_become_2 3 rfl rfl)
theorem md_X2_become : xMd yX2_become cX2_become 3 (Option.some Jvm.ClassFile.FieldType.int) 2 := ⟨q3441, q126, by decide, by decide +kernel, by decide +kernel, by decide +kernel⟩
def T_become_22   (v1 : Int32) (v2 : Int32) (w1 : Int32) (s0 : TS) : Option (xO × TS) :=
  (xcI (T_in s0 v2 0 600) fun x2 s1 =>
  (xcI (T_unless s1 w1 x2) fun x4 s3 =>
  (xcI (T_isRefused s3 x4) fun x6 s5 =>
  (if x6 = 0 then
  (xcI (T_comes s5 (2 + v1) v2) fun x8 s7 =>
  (rI x8 s7)) else
  (rI (-1) s5)))))
def T_become_21   (v1 : Int32) (v2 : Int32) (s0 : TS) : Option (xO × TS) :=
  (T_become_22 v1 v2 0 s0)
def T_become (s0 : TS) (a1 : Int32) (a2 : Int32) : Option (xO × TS) :=
  (if (s0.1 6) = 0 then
  (T_become_21 a1 a2 s0) else
  (xcI (T_in s0 a1 0 1) fun x10 s9 =>
  (if x10 = 0 then
  (T_become_21 a1 a2 s9) else
  (T_become_22 a1 a2 1 s9))))
theorem T_become_22_ok {G : xG} {E : TE} (hO : xOK G) (hE : tok E)   (v1 : Int32) (v2 : Int32) (w1 : Int32) (s0 : TS) : XT G E "ForestLegsModel" "become" cX2_become 3 (Option.some Jvm.ClassFile.FieldType.int) 3 22 [(0, .ref E.2.1), (1, .int v1), (2, .int v2)] [.int w1, .ref E.2.1] s0 (T_become_22 v1 v2 w1 s0) := by
  unfold T_become_22
  refine x_iload_n 2 dX2_become_22 rfl rfl (n := 23) rfl ?_
  refine x_iconst 0 dX2_become_23 rfl (n := 24) rfl ?_
  refine x_sipush 600 dX2_become_24 rfl (n := 27) rfl ?_
  refine tw_callS_I [.int v2, .int 0, .int 600] [.int w1, .ref E.2.1] (T_in_ok hO hE s0 v2 0 600) md_X2_in q3016 q3017 dX2_become_27 rfl rfl (by decide) (Nat.le_of_ble_eq_true rfl) (n := 30) rfl (fun x2 s1 => ?_)
  refine tw_callS_I [.int w1, .int x2] [.ref E.2.1] (T_unless_ok hO hE s1 w1 x2) md_X2_unless q3019 q3020 dX2_become_30 rfl rfl (by decide) (Nat.le_of_ble_eq_true rfl) (n := 33) rfl (fun x4 s3 => ?_)
  refine tw_callV_I [.int x4] [] (T_isRefused_ok hO hE s3 x4) md_X2_isRefused q3022 q3024 qs63 dX2_become_33 rfl rfl (by decide) (Nat.le_of_ble_eq_true rfl) (n := 36) rfl (fun x6 s5 => ?_)
  refine tw_if_eq dX2_become_36 (t := 43) (by decide) (n := 39) rfl ?_ ?_
  · refine x_aload_nr 0 dX2_become_43 rfl rfl (n := 44) rfl ?_
    refine x_iconst 2 dX2_become_44 rfl (n := 45) rfl ?_
    refine x_iload_n 1 dX2_become_45 rfl rfl (n := 46) rfl ?_
    refine x_iadd dX2_become_46 (n := 47) rfl ?_
    refine x_iload_n 2 dX2_become_47 rfl rfl (n := 48) rfl ?_
    refine tw_callV_I [.int (2 + v1), .int v2] [] (T_comes_ok hO hE s5 (2 + v1) v2) md_X2_comes q3426 q3428 qs119 dX2_become_48 rfl rfl (by decide) (Nat.le_of_ble_eq_true rfl) (n := 51) rfl (fun x8 s7 => ?_)
    exact tw_ireturn dX2_become_51
  · refine x_iconst (-1) dX2_become_39 rfl (n := 40) rfl ?_
    refine x_goto dX2_become_40 (n := 51) (by decide) ?_
    exact tw_ireturn dX2_become_51
theorem T_become_21_ok {G : xG} {E : TE} (hO : xOK G) (hE : tok E)   (v1 : Int32) (v2 : Int32) (s0 : TS) : XT G E "ForestLegsModel" "become" cX2_become 3 (Option.some Jvm.ClassFile.FieldType.int) 3 21 [(0, .ref E.2.1), (1, .int v1), (2, .int v2)] [.ref E.2.1] s0 (T_become_21 v1 v2 s0) := by
  unfold T_become_21
  refine x_iconst 0 dX2_become_21 rfl (n := 22) rfl ?_
  exact T_become_22_ok hO hE v1 v2 0 s0
theorem T_become_ok {G : xG} {E : TE} (hO : xOK G) (hE : tok E) (s0 : TS) (a1 : Int32) (a2 : Int32) : CTT G E 3 yX2_become cX2_become 3 (Option.some Jvm.ClassFile.FieldType.int) [.ref E.2.1, .int a1, .int a2] s0 (T_become s0 a1 a2) := by
  refine CT_of hO (by decide +kernel) (by decide +kernel) (Nat.le_of_ble_eq_true rfl) ?_
  show XT G E "ForestLegsModel" "become" cX2_become 3 (Option.some Jvm.ClassFile.FieldType.int) 3 0 [(0, .ref E.2.1), (1, .int a1), (2, .int a2)] [] s0 (T_become s0 a1 a2)
  refine x_aload_nr 0 dX2_become_0 rfl rfl (n := 1) rfl ?_
  refine x_aload_nr 0 dX2_become_1 rfl rfl (n := 2) rfl ?_
  refine tw_getI fl_X2_173 rfl (by decide) dX2_become_2 (n := 5) rfl ?_
  refine tw_if_eq dX2_become_5 (t := 21) (by decide) (n := 8) rfl ?_ ?_
  · exact T_become_21_ok hO hE a1 a2 s0
  · refine x_iload_n 1 dX2_become_8 rfl rfl (n := 9) rfl ?_
    refine x_iconst 0 dX2_become_9 rfl (n := 10) rfl ?_
    refine x_iconst 1 dX2_become_10 rfl (n := 11) rfl ?_
    refine tw_callS_I [.int a1, .int 0, .int 1] [.ref E.2.1] (T_in_ok hO hE s0 a1 0 1) md_X2_in q3016 q3017 dX2_become_11 rfl rfl (by decide) (Nat.le_of_ble_eq_true rfl) (n := 14) rfl (fun x10 s9 => ?_)
    refine tw_if_eq dX2_become_14 (t := 21) (by decide) (n := 17) rfl ?_ ?_
    · exact T_become_21_ok hO hE a1 a2 s9
    · refine x_iconst 1 dX2_become_17 rfl (n := 18) rfl ?_
      refine x_goto dX2_become_18 (n := 22) (by decide) ?_
      exact T_become_22_ok hO hE a1 a2 1 s9
abbrev cX2_isBeside : ByteArray := prog_14_method_110_code
def yX2_isBeside : MethodName := ⟨RX2, "isBeside", "(III)Z"⟩
def dkwX2_isBeside_1 : List UInt8 := [46, 4, 100, 162, 0, 19, 42, 27, 28, 4, 96, 182, 0, 197, 29, 160, 0, 7, 4, 167, 0, 4, 3, 172]
abbrev dktX2_isBeside_1 : List UInt8 := dkwX2_isBeside_1 ++ []
def dkwX2_isBeside_0 : List UInt8 := [28, 158, 0, 15, 42, 27, 28, 4, 100, 182, 0, 197, 29, 159, 0, 29, 28, 42, 180, 0, 17, 7, 27, 96]
abbrev dktX2_isBeside_0 : List UInt8 := dkwX2_isBeside_0 ++ dktX2_isBeside_1
theorem dksX2_isBeside_0 : cX2_isBeside.data.toList.drop 0 = dktX2_isBeside_0 := by decide +kernel
theorem dksX2_isBeside_1 : cX2_isBeside.data.toList.drop 24 = dktX2_isBeside_1 := dk_seg dksX2_isBeside_0 24 rfl rfl
theorem dX2_isBeside_0 : decode cX2_isBeside 0 = .ok (.iload_n 2, 1) := dk_28 (dk_at dksX2_isBeside_0 0 rfl rfl)
theorem dX2_isBeside_1 : decode cX2_isBeside 1 = .ok (.ifCond .le 15, 3) := dk_158 0 15 (dk_at dksX2_isBeside_0 1 rfl rfl)
theorem dX2_isBeside_4 : decode cX2_isBeside 4 = .ok (.aload_n 0, 1) := dk_42 (dk_at dksX2_isBeside_0 4 rfl rfl)
theorem dX2_isBeside_5 : decode cX2_isBeside 5 = .ok (.iload_n 1, 1) := dk_27 (dk_at dksX2_isBeside_0 5 rfl rfl)
theorem dX2_isBeside_6 : decode cX2_isBeside 6 = .ok (.iload_n 2, 1) := dk_28 (dk_at dksX2_isBeside_0 6 rfl rfl)
theorem dX2_isBeside_7 : decode cX2_isBeside 7 = .ok (.iconst 1, 1) := dk_4 (dk_at dksX2_isBeside_0 7 rfl rfl)
theorem dX2_isBeside_8 : decode cX2_isBeside 8 = .ok (.isub, 1) := dk_100 (dk_at dksX2_isBeside_0 8 rfl rfl)
theorem dX2_isBeside_9 : decode cX2_isBeside 9 = .ok (.invokevirtual 197, 3) := dk_182 0 197 (dk_at dksX2_isBeside_0 9 rfl rfl)
theorem dX2_isBeside_12 : decode cX2_isBeside 12 = .ok (.iload_n 3, 1) := dk_29 (dk_at dksX2_isBeside_0 12 rfl rfl)
theorem dX2_isBeside_13 : decode cX2_isBeside 13 = .ok (.if_icmp .eq 29, 3) := dk_159 0 29 (dk_at dksX2_isBeside_0 13 rfl rfl)
theorem dX2_isBeside_16 : decode cX2_isBeside 16 = .ok (.iload_n 2, 1) := dk_28 (dk_at dksX2_isBeside_0 16 rfl rfl)
theorem dX2_isBeside_17 : decode cX2_isBeside 17 = .ok (.aload_n 0, 1) := dk_42 (dk_at dksX2_isBeside_0 17 rfl rfl)
theorem dX2_isBeside_18 : decode cX2_isBeside 18 = .ok (.getfield 17, 3) := dk_180 0 17 (dk_at dksX2_isBeside_0 18 rfl rfl)
theorem dX2_isBeside_21 : decode cX2_isBeside 21 = .ok (.iconst 4, 1) := dk_7 (dk_at dksX2_isBeside_0 21 rfl rfl)
theorem dX2_isBeside_22 : decode cX2_isBeside 22 = .ok (.iload_n 1, 1) := dk_27 (dk_at dksX2_isBeside_0 22 rfl rfl)
theorem dX2_isBeside_23 : decode cX2_isBeside 23 = .ok (.iadd, 1) := dk_96 (dk_at dksX2_isBeside_0 23 rfl rfl)
theorem dX2_isBeside_24 : decode cX2_isBeside 24 = .ok (.iaload, 1) := dk_46 (dk_at dksX2_isBeside_1 0 rfl rfl)
theorem dX2_isBeside_25 : decode cX2_isBeside 25 = .ok (.iconst 1, 1) := dk_4 (dk_at dksX2_isBeside_1 1 rfl rfl)
theorem dX2_isBeside_26 : decode cX2_isBeside 26 = .ok (.isub, 1) := dk_100 (dk_at dksX2_isBeside_1 2 rfl rfl)
theorem dX2_isBeside_27 : decode cX2_isBeside 27 = .ok (.if_icmp .ge 19, 3) := dk_162 0 19 (dk_at dksX2_isBeside_1 3 rfl rfl)
theorem dX2_isBeside_30 : decode cX2_isBeside 30 = .ok (.aload_n 0, 1) := dk_42 (dk_at dksX2_isBeside_1 6 rfl rfl)
theorem dX2_isBeside_31 : decode cX2_isBeside 31 = .ok (.iload_n 1, 1) := dk_27 (dk_at dksX2_isBeside_1 7 rfl rfl)
theorem dX2_isBeside_32 : decode cX2_isBeside 32 = .ok (.iload_n 2, 1) := dk_28 (dk_at dksX2_isBeside_1 8 rfl rfl)
theorem dX2_isBeside_33 : decode cX2_isBeside 33 = .ok (.iconst 1, 1) := dk_4 (dk_at dksX2_isBeside_1 9 rfl rfl)
theorem dX2_isBeside_34 : decode cX2_isBeside 34 = .ok (.iadd, 1) := dk_96 (dk_at dksX2_isBeside_1 10 rfl rfl)
theorem dX2_isBeside_35 : decode cX2_isBeside 35 = .ok (.invokevirtual 197, 3) := dk_182 0 197 (dk_at dksX2_isBeside_1 11 rfl rfl)
theorem dX2_isBeside_38 : decode cX2_isBeside 38 = .ok (.iload_n 3, 1) := dk_29 (dk_at dksX2_isBeside_1 14 rfl rfl)
theorem dX2_isBeside_39 : decode cX2_isBeside 39 = .ok (.if_icmp .ne 7, 3) := dk_160 0 7 (dk_at dksX2_isBeside_1 15 rfl rfl)
theorem dX2_isBeside_42 : decode cX2_isBeside 42 = .ok (.iconst 1, 1) := dk_4 (dk_at dksX2_isBeside_1 18 rfl rfl)
theorem dX2_isBeside_43 : decode cX2_isBeside 43 = .ok (.goto 4, 3) := dk_167 0 4 (dk_at dksX2_isBeside_1 19 rfl rfl)
theorem dX2_isBeside_46 : decode cX2_isBeside 46 = .ok (.iconst 0, 1) := dk_3 (dk_at dksX2_isBeside_1 22 rfl rfl)
theorem dX2_isBeside_47 : decode cX2_isBeside 47 = .ok (.ireturn, 1) := dk_172 (dk_at dksX2_isBeside_1 23 rfl rfl)
theorem md_X2_isBeside : xMd yX2_isBeside cX2_isBeside 4 (Option.some Jvm.ClassFile.FieldType.boolean) 3 := ⟨q3449, q126, by decide, by decide +kernel, by decide +kernel, by decide +kernel⟩
def T_isBeside_16   (v1 : Int32) (v2 : Int32) (v3 : Int32) (s0 : TS) : Option (xO × TS) :=
  (tald s0 7 (4 + v1) fun x1 =>
  (if (x1 - 1) ≤ v2 then
  (if vp_nar .boolean 0 = 0 then rI 0 s0 else none) else
  (xcI (T_codeOf s0 v1 (v2 + 1)) fun x3 s2 =>
  (if x3 = v3 then
  (if vp_nar .boolean 1 = 1 then rI 1 s2 else none) else
  (if vp_nar .boolean 0 = 0 then rI 0 s2 else none)))))
def T_isBeside (s0 : TS) (a1 : Int32) (a2 : Int32) (a3 : Int32) : Option (xO × TS) :=
  (if a2 ≤ 0 then
  (T_isBeside_16 a1 a2 a3 s0) else
  (xcI (T_codeOf s0 a1 (a2 - 1)) fun x5 s4 =>
  (if x5 = a3 then
  (if vp_nar .boolean 1 = 1 then rI 1 s4 else none) else
  (T_isBeside_16 a1 a2 a3 s4))))
theorem T_isBeside_16_ok {G : xG} {E : TE} (hO : xOK G) (hE : tok E)   (v1 : Int32) (v2 : Int32) (v3 : Int32) (s0 : TS) : XT G E "ForestLegsModel" "isBeside" cX2_isBeside 4 (Option.some Jvm.ClassFile.FieldType.boolean) 1 16 [(0, .ref E.2.1), (1, .int v1), (2, .int v2), (3, .int v3)] [] s0 (T_isBeside_16 v1 v2 v3 s0) := by
  unfold T_isBeside_16
  refine x_iload_n 2 dX2_isBeside_16 rfl rfl (n := 17) rfl ?_
  refine x_aload_nr 0 dX2_isBeside_17 rfl rfl (n := 18) rfl ?_
  refine tw_getA fl_X2_17 rfl (by decide) dX2_isBeside_18 (n := 21) rfl ?_
  refine x_iconst 4 dX2_isBeside_21 rfl (n := 22) rfl ?_
  refine x_iload_n 1 dX2_isBeside_22 rfl rfl (n := 23) rfl ?_
  refine x_iadd dX2_isBeside_23 (n := 24) rfl ?_
  refine tw_iald hE (by decide) dX2_isBeside_24 (n := 25) rfl (fun x1 => ?_)
  refine x_iconst 1 dX2_isBeside_25 rfl (n := 26) rfl ?_
  refine x_isub dX2_isBeside_26 (n := 27) rfl ?_
  refine tw_icmp_ge dX2_isBeside_27 (t := 46) (by decide) (n := 30) rfl ?_ ?_
  · refine x_iconst 0 dX2_isBeside_46 rfl (n := 47) rfl ?_
    exact tw_zreturn rfl dX2_isBeside_47
  · refine x_aload_nr 0 dX2_isBeside_30 rfl rfl (n := 31) rfl ?_
    refine x_iload_n 1 dX2_isBeside_31 rfl rfl (n := 32) rfl ?_
    refine x_iload_n 2 dX2_isBeside_32 rfl rfl (n := 33) rfl ?_
    refine x_iconst 1 dX2_isBeside_33 rfl (n := 34) rfl ?_
    refine x_iadd dX2_isBeside_34 (n := 35) rfl ?_
    refine tw_callV_I [.int v1, .int (v2 + 1)] [] (T_codeOf_ok hO hE s0 v1 (v2 + 1)) md_X2_codeOf q3147 q3149 qs85 dX2_isBeside_35 rfl rfl (by decide) (Nat.le_of_ble_eq_true rfl) (n := 38) rfl (fun x3 s2 => ?_)
    refine x_iload_n 3 dX2_isBeside_38 rfl rfl (n := 39) rfl ?_
    refine tw_icmp_ne dX2_isBeside_39 (t := 46) (by decide) (n := 42) rfl ?_ ?_
    · refine x_iconst 0 dX2_isBeside_46 rfl (n := 47) rfl ?_
      exact tw_zreturn rfl dX2_isBeside_47
    · refine x_iconst 1 dX2_isBeside_42 rfl (n := 43) rfl ?_
      refine x_goto dX2_isBeside_43 (n := 47) (by decide) ?_
      exact tw_zreturn rfl dX2_isBeside_47
theorem T_isBeside_ok {G : xG} {E : TE} (hO : xOK G) (hE : tok E) (s0 : TS) (a1 : Int32) (a2 : Int32) (a3 : Int32) : CTT G E 1 yX2_isBeside cX2_isBeside 4 (Option.some Jvm.ClassFile.FieldType.boolean) [.ref E.2.1, .int a1, .int a2, .int a3] s0 (T_isBeside s0 a1 a2 a3) := by
  refine CT_of hO (by decide +kernel) (by decide +kernel) (Nat.le_of_ble_eq_true rfl) ?_
  show XT G E "ForestLegsModel" "isBeside" cX2_isBeside 4 (Option.some Jvm.ClassFile.FieldType.boolean) 1 0 [(0, .ref E.2.1), (1, .int a1), (2, .int a2), (3, .int a3)] [] s0 (T_isBeside s0 a1 a2 a3)
  refine x_iload_n 2 dX2_isBeside_0 rfl rfl (n := 1) rfl ?_
  refine tw_if_le dX2_isBeside_1 (t := 16) (by decide) (n := 4) rfl ?_ ?_
  · exact T_isBeside_16_ok hO hE a1 a2 a3 s0
  · refine x_aload_nr 0 dX2_isBeside_4 rfl rfl (n := 5) rfl ?_
    refine x_iload_n 1 dX2_isBeside_5 rfl rfl (n := 6) rfl ?_
    refine x_iload_n 2 dX2_isBeside_6 rfl rfl (n := 7) rfl ?_
    refine x_iconst 1 dX2_isBeside_7 rfl (n := 8) rfl ?_
    refine x_isub dX2_isBeside_8 (n := 9) rfl ?_
    refine tw_callV_I [.int a1, .int (a2 - 1)] [] (T_codeOf_ok hO hE s0 a1 (a2 - 1)) md_X2_codeOf q3147 q3149 qs85 dX2_isBeside_9 rfl rfl (by decide) (Nat.le_of_ble_eq_true rfl) (n := 12) rfl (fun x5 s4 => ?_)
    refine x_iload_n 3 dX2_isBeside_12 rfl rfl (n := 13) rfl ?_
    refine tw_icmp_eq dX2_isBeside_13 (t := 42) (by decide) (n := 16) rfl ?_ ?_
    · refine x_iconst 1 dX2_isBeside_42 rfl (n := 43) rfl ?_
      refine x_goto dX2_isBeside_43 (n := 47) (by decide) ?_
      exact tw_zreturn rfl dX2_isBeside_47
    · exact T_isBeside_16_ok hO hE a1 a2 a3 s4
abbrev cX2_recode : ByteArray := prog_14_method_111_code
def yX2_recode : MethodName := ⟨RX2, "recode", "(III)I"⟩
def dkwX2_recode_2 : List UInt8 := [153, 0, 5, 2, 172, 42, 16, 7, 16, 10, 27, 104, 96, 28, 96, 29, 182, 1, 72, 172]
abbrev dktX2_recode_2 : List UInt8 := dkwX2_recode_2 ++ []
def dkwX2_recode_1 : List UInt8 := [21, 4, 167, 0, 18, 42, 27, 28, 29, 182, 1, 75, 153, 0, 7, 8, 167, 0, 4, 3, 182, 0, 161]
abbrev dktX2_recode_1 : List UInt8 := dkwX2_recode_1 ++ dktX2_recode_2
def dkwX2_recode_0 : List UInt8 := [42, 27, 28, 182, 0, 252, 29, 4, 16, 99, 184, 0, 79, 184, 0, 157, 54, 4, 42, 21, 4, 153, 0, 8]
abbrev dktX2_recode_0 : List UInt8 := dkwX2_recode_0 ++ dktX2_recode_1
theorem dksX2_recode_0 : cX2_recode.data.toList.drop 0 = dktX2_recode_0 := by decide +kernel
theorem dksX2_recode_1 : cX2_recode.data.toList.drop 24 = dktX2_recode_1 := dk_seg dksX2_recode_0 24 rfl rfl
theorem dksX2_recode_2 : cX2_recode.data.toList.drop 47 = dktX2_recode_2 := dk_seg dksX2_recode_1 23 rfl rfl
theorem dX2_recode_0 : decode cX2_recode 0 = .ok (.aload_n 0, 1) := dk_42 (dk_at dksX2_recode_0 0 rfl rfl)
theorem dX2_recode_1 : decode cX2_recode 1 = .ok (.iload_n 1, 1) := dk_27 (dk_at dksX2_recode_0 1 rfl rfl)
theorem dX2_recode_2 : decode cX2_recode 2 = .ok (.iload_n 2, 1) := dk_28 (dk_at dksX2_recode_0 2 rfl rfl)
theorem dX2_recode_3 : decode cX2_recode 3 = .ok (.invokevirtual 252, 3) := dk_182 0 252 (dk_at dksX2_recode_0 3 rfl rfl)
theorem dX2_recode_6 : decode cX2_recode 6 = .ok (.iload_n 3, 1) := dk_29 (dk_at dksX2_recode_0 6 rfl rfl)
theorem dX2_recode_7 : decode cX2_recode 7 = .ok (.iconst 1, 1) := dk_4 (dk_at dksX2_recode_0 7 rfl rfl)
theorem dX2_recode_8 : decode cX2_recode 8 = .ok (.bipush 99, 2) := dk_16 99 (dk_at dksX2_recode_0 8 rfl rfl)
theorem dX2_recode_10 : decode cX2_recode 10 = .ok (.invokestatic 79, 3) := dk_184 0 79 (dk_at dksX2_recode_0 10 rfl rfl)
theorem dX2_recode_13 : decode cX2_recode 13 = .ok (.invokestatic 157, 3) := dk_184 0 157 (dk_at dksX2_recode_0 13 rfl rfl)
theorem dX2_recode_16 : decode cX2_recode 16 = .ok (.istore 4, 2) := dk_54 4 (dk_at dksX2_recode_0 16 rfl rfl)
theorem dX2_recode_18 : decode cX2_recode 18 = .ok (.aload_n 0, 1) := dk_42 (dk_at dksX2_recode_0 18 rfl rfl)
theorem dX2_recode_19 : decode cX2_recode 19 = .ok (.iload 4, 2) := dk_21 4 (dk_at dksX2_recode_0 19 rfl rfl)
theorem dX2_recode_21 : decode cX2_recode 21 = .ok (.ifCond .eq 8, 3) := dk_153 0 8 (dk_at dksX2_recode_0 21 rfl rfl)
theorem dX2_recode_24 : decode cX2_recode 24 = .ok (.iload 4, 2) := dk_21 4 (dk_at dksX2_recode_1 0 rfl rfl)
theorem dX2_recode_26 : decode cX2_recode 26 = .ok (.goto 18, 3) := dk_167 0 18 (dk_at dksX2_recode_1 2 rfl rfl)
theorem dX2_recode_29 : decode cX2_recode 29 = .ok (.aload_n 0, 1) := dk_42 (dk_at dksX2_recode_1 5 rfl rfl)
theorem dX2_recode_30 : decode cX2_recode 30 = .ok (.iload_n 1, 1) := dk_27 (dk_at dksX2_recode_1 6 rfl rfl)
theorem dX2_recode_31 : decode cX2_recode 31 = .ok (.iload_n 2, 1) := dk_28 (dk_at dksX2_recode_1 7 rfl rfl)
theorem dX2_recode_32 : decode cX2_recode 32 = .ok (.iload_n 3, 1) := dk_29 (dk_at dksX2_recode_1 8 rfl rfl)
theorem dX2_recode_33 : decode cX2_recode 33 = .ok (.invokevirtual 331, 3) := dk_182 1 75 (dk_at dksX2_recode_1 9 rfl rfl)
theorem dX2_recode_36 : decode cX2_recode 36 = .ok (.ifCond .eq 7, 3) := dk_153 0 7 (dk_at dksX2_recode_1 12 rfl rfl)
theorem dX2_recode_39 : decode cX2_recode 39 = .ok (.iconst 5, 1) := dk_8 (dk_at dksX2_recode_1 15 rfl rfl)
theorem dX2_recode_40 : decode cX2_recode 40 = .ok (.goto 4, 3) := dk_167 0 4 (dk_at dksX2_recode_1 16 rfl rfl)
theorem dX2_recode_43 : decode cX2_recode 43 = .ok (.iconst 0, 1) := dk_3 (dk_at dksX2_recode_1 19 rfl rfl)
theorem dX2_recode_44 : decode cX2_recode 44 = .ok (.invokevirtual 161, 3) := dk_182 0 161 (dk_at dksX2_recode_1 20 rfl rfl)
theorem dX2_recode_47 : decode cX2_recode 47 = .ok (.ifCond .eq 5, 3) := dk_153 0 5 (dk_at dksX2_recode_2 0 rfl rfl)
theorem dX2_recode_50 : decode cX2_recode 50 = .ok (.iconst (-1), 1) := dk_2 (dk_at dksX2_recode_2 3 rfl rfl)
theorem dX2_recode_51 : decode cX2_recode 51 = .ok (.ireturn, 1) := dk_172 (dk_at dksX2_recode_2 4 rfl rfl)
theorem dX2_recode_52 : decode cX2_recode 52 = .ok (.aload_n 0, 1) := dk_42 (dk_at dksX2_recode_2 5 rfl rfl)
theorem dX2_recode_53 : decode cX2_recode 53 = .ok (.bipush 7, 2) := dk_16 7 (dk_at dksX2_recode_2 6 rfl rfl)
theorem dX2_recode_55 : decode cX2_recode 55 = .ok (.bipush 10, 2) := dk_16 10 (dk_at dksX2_recode_2 8 rfl rfl)
theorem dX2_recode_57 : decode cX2_recode 57 = .ok (.iload_n 1, 1) := dk_27 (dk_at dksX2_recode_2 10 rfl rfl)
theorem dX2_recode_58 : decode cX2_recode 58 = .ok (.imul, 1) := dk_104 (dk_at dksX2_recode_2 11 rfl rfl)
theorem dX2_recode_59 : decode cX2_recode 59 = .ok (.iadd, 1) := dk_96 (dk_at dksX2_recode_2 12 rfl rfl)
theorem dX2_recode_60 : decode cX2_recode 60 = .ok (.iload_n 2, 1) := dk_28 (dk_at dksX2_recode_2 13 rfl rfl)
theorem dX2_recode_61 : decode cX2_recode 61 = .ok (.iadd, 1) := dk_96 (dk_at dksX2_recode_2 14 rfl rfl)
theorem dX2_recode_62 : decode cX2_recode 62 = .ok (.iload_n 3, 1) := dk_29 (dk_at dksX2_recode_2 15 rfl rfl)
theorem dX2_recode_63 : decode cX2_recode 63 = .ok (.invokevirtual 328, 3) := dk_182 1 72 (dk_at dksX2_recode_2 16 rfl rfl)
theorem dX2_recode_66 : decode cX2_recode 66 = .ok (.ireturn, 1) := dk_172 (dk_at dksX2_recode_2 19 rfl rfl)
theorem md_X2_recode : xMd yX2_recode cX2_recode 5 (Option.some Jvm.ClassFile.FieldType.int) 3 := ⟨q3445, q126, by decide, by decide +kernel, by decide +kernel, by decide +kernel⟩
def T_recode_44   (v1 : Int32) (v2 : Int32) (v3 : Int32) (w1 : Int32) (s0 : TS) : Option (xO × TS) :=
  (xcI (T_isRefused s0 w1) fun x10 s9 =>
  (if x10 = 0 then
  (xcI (T_comes s9 ((7 + (10 * v1)) + v2) v3) fun x12 s11 =>
  (rI x12 s11)) else
  (rI (-1) s9)))
def T_recode (s0 : TS) (a1 : Int32) (a2 : Int32) (a3 : Int32) : Option (xO × TS) :=
  (xcI (T_isControl s0 a1 a2) fun x2 s1 =>
  (xcI (T_in s1 a3 1 99) fun x4 s3 =>
  (xcI (T_unless s3 x2 x4) fun x6 s5 =>
  (if x6 = 0 then
  (xcI (T_isBeside s5 a1 a2 a3) fun x8 s7 =>
  (if x8 = 0 then
  (T_recode_44 a1 a2 a3 0 s7) else
  (T_recode_44 a1 a2 a3 5 s7))) else
  (T_recode_44 a1 a2 a3 x6 s5)))))
theorem T_recode_44_ok {G : xG} {E : TE} (hO : xOK G) (hE : tok E)   (v1 : Int32) (v2 : Int32) (v3 : Int32) (w1 : Int32) (s0 : TS) : XT G E "ForestLegsModel" "recode" cX2_recode 5 (Option.some Jvm.ClassFile.FieldType.int) 3 44 [(0, .ref E.2.1), (1, .int v1), (2, .int v2), (3, .int v3)] [.int w1, .ref E.2.1] s0 (T_recode_44 v1 v2 v3 w1 s0) := by
  unfold T_recode_44
  refine tw_callV_I [.int w1] [] (T_isRefused_ok hO hE s0 w1) md_X2_isRefused q3022 q3024 qs63 dX2_recode_44 rfl rfl (by decide) (Nat.le_of_ble_eq_true rfl) (n := 47) rfl (fun x10 s9 => ?_)
  refine tw_if_eq dX2_recode_47 (t := 52) (by decide) (n := 50) rfl ?_ ?_
  · refine x_aload_nr 0 dX2_recode_52 rfl rfl (n := 53) rfl ?_
    refine x_bipush 7 dX2_recode_53 rfl (n := 55) rfl ?_
    refine x_bipush 10 dX2_recode_55 rfl (n := 57) rfl ?_
    refine x_iload_n 1 dX2_recode_57 rfl rfl (n := 58) rfl ?_
    refine x_imul dX2_recode_58 (n := 59) rfl ?_
    refine x_iadd dX2_recode_59 (n := 60) rfl ?_
    refine x_iload_n 2 dX2_recode_60 rfl rfl (n := 61) rfl ?_
    refine x_iadd dX2_recode_61 (n := 62) rfl ?_
    refine x_iload_n 3 dX2_recode_62 rfl rfl (n := 63) rfl ?_
    refine tw_callV_I [.int ((7 + (10 * v1)) + v2), .int v3] [] (T_comes_ok hO hE s9 ((7 + (10 * v1)) + v2) v3) md_X2_comes q3426 q3428 qs119 dX2_recode_63 rfl rfl (by decide) (Nat.le_of_ble_eq_true rfl) (n := 66) rfl (fun x12 s11 => ?_)
    exact tw_ireturn dX2_recode_66
  · refine x_iconst (-1) dX2_recode_50 rfl (n := 51) rfl ?_
    exact tw_ireturn dX2_recode_51
theorem T_recode_ok {G : xG} {E : TE} (hO : xOK G) (hE : tok E) (s0 : TS) (a1 : Int32) (a2 : Int32) (a3 : Int32) : CTT G E 3 yX2_recode cX2_recode 5 (Option.some Jvm.ClassFile.FieldType.int) [.ref E.2.1, .int a1, .int a2, .int a3] s0 (T_recode s0 a1 a2 a3) := by
  refine CT_of hO (by decide +kernel) (by decide +kernel) (Nat.le_of_ble_eq_true rfl) ?_
  show XT G E "ForestLegsModel" "recode" cX2_recode 5 (Option.some Jvm.ClassFile.FieldType.int) 3 0 [(0, .ref E.2.1), (1, .int a1), (2, .int a2), (3, .int a3)] [] s0 (T_recode s0 a1 a2 a3)
  refine x_aload_nr 0 dX2_recode_0 rfl rfl (n := 1) rfl ?_
  refine x_iload_n 1 dX2_recode_1 rfl rfl (n := 2) rfl ?_
  refine x_iload_n 2 dX2_recode_2 rfl rfl (n := 3) rfl ?_
  refine tw_callV_I [.int a1, .int a2] [] (T_isControl_ok hO hE s0 a1 a2) md_X2_isControl q3207 q3209 qs98 dX2_recode_3 rfl rfl (by decide) (Nat.le_of_ble_eq_true rfl) (n := 6) rfl (fun x2 s1 => ?_)
  refine x_iload_n 3 dX2_recode_6 rfl rfl (n := 7) rfl ?_
  refine x_iconst 1 dX2_recode_7 rfl (n := 8) rfl ?_
  refine x_bipush 99 dX2_recode_8 rfl (n := 10) rfl ?_
  refine tw_callS_I [.int a3, .int 1, .int 99] [.int x2] (T_in_ok hO hE s1 a3 1 99) md_X2_in q3016 q3017 dX2_recode_10 rfl rfl (by decide) (Nat.le_of_ble_eq_true rfl) (n := 13) rfl (fun x4 s3 => ?_)
  refine tw_callS_I [.int x2, .int x4] [] (T_unless_ok hO hE s3 x2 x4) md_X2_unless q3019 q3020 dX2_recode_13 rfl rfl (by decide) (Nat.le_of_ble_eq_true rfl) (n := 16) rfl (fun x6 s5 => ?_)
  refine x_istore [(4, .int x6), (0, .ref E.2.1), (1, .int a1), (2, .int a2), (3, .int a3)] dX2_recode_16 (by decide) rfl (n := 18) rfl ?_
  refine x_aload_nr 1 dX2_recode_18 rfl rfl (n := 19) rfl ?_
  refine x_iload 0 dX2_recode_19 rfl (n := 21) rfl ?_
  refine tw_if_eq dX2_recode_21 (t := 29) (by decide) (n := 24) rfl ?_ ?_
  · refine x_aload_nr 1 dX2_recode_29 rfl rfl (n := 30) rfl ?_
    refine x_iload_n 2 dX2_recode_30 rfl rfl (n := 31) rfl ?_
    refine x_iload_n 3 dX2_recode_31 rfl rfl (n := 32) rfl ?_
    refine x_iload_n 4 dX2_recode_32 rfl rfl (n := 33) rfl ?_
    refine tw_callV_I [.int a1, .int a2, .int a3] [.ref E.2.1] (T_isBeside_ok hO hE s5 a1 a2 a3) md_X2_isBeside q3446 q3448 qs120 dX2_recode_33 rfl rfl (by decide) (Nat.le_of_ble_eq_true rfl) (n := 36) rfl (fun x8 s7 => ?_)
    refine tw_if_eq dX2_recode_36 (t := 43) (by decide) (n := 39) rfl ?_ ?_
    · refine x_iconst 0 dX2_recode_43 rfl (n := 44) rfl ?_
      refine x_sub [1, 2, 3, 4] [(0, .ref E.2.1), (1, .int a1), (2, .int a2), (3, .int a3)] rfl ?_
      exact T_recode_44_ok hO hE a1 a2 a3 0 s7
    · refine x_iconst 5 dX2_recode_39 rfl (n := 40) rfl ?_
      refine x_goto dX2_recode_40 (n := 44) (by decide) ?_
      refine x_sub [1, 2, 3, 4] [(0, .ref E.2.1), (1, .int a1), (2, .int a2), (3, .int a3)] rfl ?_
      exact T_recode_44_ok hO hE a1 a2 a3 5 s7
  · refine x_iload 0 dX2_recode_24 rfl (n := 26) rfl ?_
    refine x_goto dX2_recode_26 (n := 44) (by decide) ?_
    refine x_sub [1, 2, 3, 4] [(0, .ref E.2.1), (1, .int a1), (2, .int a2), (3, .int a3)] rfl ?_
    exact T_recode_44_ok hO hE a1 a2 a3 x6 s5
abbrev cX2_wouldBeAlike : ByteArray := prog_14_method_112_code
def yX2_wouldBeAlike : MethodName := ⟨RX2, "wouldBeAlike", "(II)Z"⟩
def dkwX2_wouldBeAlike_1 : List UInt8 := [182, 0, 197, 42, 27, 28, 4, 96, 182, 0, 197, 160, 0, 7, 4, 167, 0, 4, 3, 172]
abbrev dktX2_wouldBeAlike_1 : List UInt8 := dkwX2_wouldBeAlike_1 ++ []
def dkwX2_wouldBeAlike_0 : List UInt8 := [28, 158, 0, 40, 28, 42, 180, 0, 17, 7, 27, 96, 46, 4, 100, 162, 0, 26, 42, 27, 28, 4, 100]
abbrev dktX2_wouldBeAlike_0 : List UInt8 := dkwX2_wouldBeAlike_0 ++ dktX2_wouldBeAlike_1
theorem dksX2_wouldBeAlike_0 : cX2_wouldBeAlike.data.toList.drop 0 = dktX2_wouldBeAlike_0 := by decide +kernel
theorem dksX2_wouldBeAlike_1 : cX2_wouldBeAlike.data.toList.drop 23 = dktX2_wouldBeAlike_1 := dk_seg dksX2_wouldBeAlike_0 23 rfl rfl
theorem dX2_wouldBeAlike_0 : decode cX2_wouldBeAlike 0 = .ok (.iload_n 2, 1) := dk_28 (dk_at dksX2_wouldBeAlike_0 0 rfl rfl)
theorem dX2_wouldBeAlike_1 : decode cX2_wouldBeAlike 1 = .ok (.ifCond .le 40, 3) := dk_158 0 40 (dk_at dksX2_wouldBeAlike_0 1 rfl rfl)
theorem dX2_wouldBeAlike_4 : decode cX2_wouldBeAlike 4 = .ok (.iload_n 2, 1) := dk_28 (dk_at dksX2_wouldBeAlike_0 4 rfl rfl)
theorem dX2_wouldBeAlike_5 : decode cX2_wouldBeAlike 5 = .ok (.aload_n 0, 1) := dk_42 (dk_at dksX2_wouldBeAlike_0 5 rfl rfl)
theorem dX2_wouldBeAlike_6 : decode cX2_wouldBeAlike 6 = .ok (.getfield 17, 3) := dk_180 0 17 (dk_at dksX2_wouldBeAlike_0 6 rfl rfl)
theorem dX2_wouldBeAlike_9 : decode cX2_wouldBeAlike 9 = .ok (.iconst 4, 1) := dk_7 (dk_at dksX2_wouldBeAlike_0 9 rfl rfl)
theorem dX2_wouldBeAlike_10 : decode cX2_wouldBeAlike 10 = .ok (.iload_n 1, 1) := dk_27 (dk_at dksX2_wouldBeAlike_0 10 rfl rfl)
theorem dX2_wouldBeAlike_11 : decode cX2_wouldBeAlike 11 = .ok (.iadd, 1) := dk_96 (dk_at dksX2_wouldBeAlike_0 11 rfl rfl)
theorem dX2_wouldBeAlike_12 : decode cX2_wouldBeAlike 12 = .ok (.iaload, 1) := dk_46 (dk_at dksX2_wouldBeAlike_0 12 rfl rfl)
theorem dX2_wouldBeAlike_13 : decode cX2_wouldBeAlike 13 = .ok (.iconst 1, 1) := dk_4 (dk_at dksX2_wouldBeAlike_0 13 rfl rfl)
theorem dX2_wouldBeAlike_14 : decode cX2_wouldBeAlike 14 = .ok (.isub, 1) := dk_100 (dk_at dksX2_wouldBeAlike_0 14 rfl rfl)
theorem dX2_wouldBeAlike_15 : decode cX2_wouldBeAlike 15 = .ok (.if_icmp .ge 26, 3) := dk_162 0 26 (dk_at dksX2_wouldBeAlike_0 15 rfl rfl)
theorem dX2_wouldBeAlike_18 : decode cX2_wouldBeAlike 18 = .ok (.aload_n 0, 1) := dk_42 (dk_at dksX2_wouldBeAlike_0 18 rfl rfl)
theorem dX2_wouldBeAlike_19 : decode cX2_wouldBeAlike 19 = .ok (.iload_n 1, 1) := dk_27 (dk_at dksX2_wouldBeAlike_0 19 rfl rfl)
theorem dX2_wouldBeAlike_20 : decode cX2_wouldBeAlike 20 = .ok (.iload_n 2, 1) := dk_28 (dk_at dksX2_wouldBeAlike_0 20 rfl rfl)
theorem dX2_wouldBeAlike_21 : decode cX2_wouldBeAlike 21 = .ok (.iconst 1, 1) := dk_4 (dk_at dksX2_wouldBeAlike_0 21 rfl rfl)
theorem dX2_wouldBeAlike_22 : decode cX2_wouldBeAlike 22 = .ok (.isub, 1) := dk_100 (dk_at dksX2_wouldBeAlike_0 22 rfl rfl)
theorem dX2_wouldBeAlike_23 : decode cX2_wouldBeAlike 23 = .ok (.invokevirtual 197, 3) := dk_182 0 197 (dk_at dksX2_wouldBeAlike_1 0 rfl rfl)
theorem dX2_wouldBeAlike_26 : decode cX2_wouldBeAlike 26 = .ok (.aload_n 0, 1) := dk_42 (dk_at dksX2_wouldBeAlike_1 3 rfl rfl)
theorem dX2_wouldBeAlike_27 : decode cX2_wouldBeAlike 27 = .ok (.iload_n 1, 1) := dk_27 (dk_at dksX2_wouldBeAlike_1 4 rfl rfl)
theorem dX2_wouldBeAlike_28 : decode cX2_wouldBeAlike 28 = .ok (.iload_n 2, 1) := dk_28 (dk_at dksX2_wouldBeAlike_1 5 rfl rfl)
theorem dX2_wouldBeAlike_29 : decode cX2_wouldBeAlike 29 = .ok (.iconst 1, 1) := dk_4 (dk_at dksX2_wouldBeAlike_1 6 rfl rfl)
theorem dX2_wouldBeAlike_30 : decode cX2_wouldBeAlike 30 = .ok (.iadd, 1) := dk_96 (dk_at dksX2_wouldBeAlike_1 7 rfl rfl)
theorem dX2_wouldBeAlike_31 : decode cX2_wouldBeAlike 31 = .ok (.invokevirtual 197, 3) := dk_182 0 197 (dk_at dksX2_wouldBeAlike_1 8 rfl rfl)
theorem dX2_wouldBeAlike_34 : decode cX2_wouldBeAlike 34 = .ok (.if_icmp .ne 7, 3) := dk_160 0 7 (dk_at dksX2_wouldBeAlike_1 11 rfl rfl)
theorem dX2_wouldBeAlike_37 : decode cX2_wouldBeAlike 37 = .ok (.iconst 1, 1) := dk_4 (dk_at dksX2_wouldBeAlike_1 14 rfl rfl)
theorem dX2_wouldBeAlike_38 : decode cX2_wouldBeAlike 38 = .ok (.goto 4, 3) := dk_167 0 4 (dk_at dksX2_wouldBeAlike_1 15 rfl rfl)
theorem dX2_wouldBeAlike_41 : decode cX2_wouldBeAlike 41 = .ok (.iconst 0, 1) := dk_3 (dk_at dksX2_wouldBeAlike_1 18 rfl rfl)
theorem dX2_wouldBeAlike_42 : decode cX2_wouldBeAlike 42 = .ok (.ireturn, 1) := dk_172 (dk_at dksX2_wouldBeAlike_1 19 rfl rfl)
theorem md_X2_wouldBeAlike : xMd yX2_wouldBeAlike cX2_wouldBeAlike 3 (Option.some Jvm.ClassFile.FieldType.boolean) 2 := ⟨q3457, q126, by decide, by decide +kernel, by decide +kernel, by decide +kernel⟩
def T_wouldBeAlike (s0 : TS) (a1 : Int32) (a2 : Int32) : Option (xO × TS) :=
  (if a2 ≤ 0 then
  (if vp_nar .boolean 0 = 0 then rI 0 s0 else none) else
  (tald s0 7 (4 + a1) fun x1 =>
  (if (x1 - 1) ≤ a2 then
  (if vp_nar .boolean 0 = 0 then rI 0 s0 else none) else
  (xcI (T_codeOf s0 a1 (a2 - 1)) fun x3 s2 =>
  (xcI (T_codeOf s2 a1 (a2 + 1)) fun x5 s4 =>
  (if x3 = x5 then
  (if vp_nar .boolean 1 = 1 then rI 1 s4 else none) else
  (if vp_nar .boolean 0 = 0 then rI 0 s4 else none)))))))
theorem T_wouldBeAlike_ok {G : xG} {E : TE} (hO : xOK G) (hE : tok E) (s0 : TS) (a1 : Int32) (a2 : Int32) : CTT G E 1 yX2_wouldBeAlike cX2_wouldBeAlike 3 (Option.some Jvm.ClassFile.FieldType.boolean) [.ref E.2.1, .int a1, .int a2] s0 (T_wouldBeAlike s0 a1 a2) := by
  refine CT_of hO (by decide +kernel) (by decide +kernel) (Nat.le_of_ble_eq_true rfl) ?_
  show XT G E "ForestLegsModel" "wouldBeAlike" cX2_wouldBeAlike 3 (Option.some Jvm.ClassFile.FieldType.boolean) 1 0 [(0, .ref E.2.1), (1, .int a1), (2, .int a2)] [] s0 (T_wouldBeAlike s0 a1 a2)
  refine x_iload_n 2 dX2_wouldBeAlike_0 rfl rfl (n := 1) rfl ?_
  refine tw_if_le dX2_wouldBeAlike_1 (t := 41) (by decide) (n := 4) rfl ?_ ?_
  · refine x_iconst 0 dX2_wouldBeAlike_41 rfl (n := 42) rfl ?_
    exact tw_zreturn rfl dX2_wouldBeAlike_42
  · refine x_iload_n 2 dX2_wouldBeAlike_4 rfl rfl (n := 5) rfl ?_
    refine x_aload_nr 0 dX2_wouldBeAlike_5 rfl rfl (n := 6) rfl ?_
    refine tw_getA fl_X2_17 rfl (by decide) dX2_wouldBeAlike_6 (n := 9) rfl ?_
    refine x_iconst 4 dX2_wouldBeAlike_9 rfl (n := 10) rfl ?_
    refine x_iload_n 1 dX2_wouldBeAlike_10 rfl rfl (n := 11) rfl ?_
    refine x_iadd dX2_wouldBeAlike_11 (n := 12) rfl ?_
    refine tw_iald hE (by decide) dX2_wouldBeAlike_12 (n := 13) rfl (fun x1 => ?_)
    refine x_iconst 1 dX2_wouldBeAlike_13 rfl (n := 14) rfl ?_
    refine x_isub dX2_wouldBeAlike_14 (n := 15) rfl ?_
    refine tw_icmp_ge dX2_wouldBeAlike_15 (t := 41) (by decide) (n := 18) rfl ?_ ?_
    · refine x_iconst 0 dX2_wouldBeAlike_41 rfl (n := 42) rfl ?_
      exact tw_zreturn rfl dX2_wouldBeAlike_42
    · refine x_aload_nr 0 dX2_wouldBeAlike_18 rfl rfl (n := 19) rfl ?_
      refine x_iload_n 1 dX2_wouldBeAlike_19 rfl rfl (n := 20) rfl ?_
      refine x_iload_n 2 dX2_wouldBeAlike_20 rfl rfl (n := 21) rfl ?_
      refine x_iconst 1 dX2_wouldBeAlike_21 rfl (n := 22) rfl ?_
      refine x_isub dX2_wouldBeAlike_22 (n := 23) rfl ?_
      refine tw_callV_I [.int a1, .int (a2 - 1)] [] (T_codeOf_ok hO hE s0 a1 (a2 - 1)) md_X2_codeOf q3147 q3149 qs85 dX2_wouldBeAlike_23 rfl rfl (by decide) (Nat.le_of_ble_eq_true rfl) (n := 26) rfl (fun x3 s2 => ?_)
      refine x_aload_nr 0 dX2_wouldBeAlike_26 rfl rfl (n := 27) rfl ?_
      refine x_iload_n 1 dX2_wouldBeAlike_27 rfl rfl (n := 28) rfl ?_
      refine x_iload_n 2 dX2_wouldBeAlike_28 rfl rfl (n := 29) rfl ?_
      refine x_iconst 1 dX2_wouldBeAlike_29 rfl (n := 30) rfl ?_
      refine x_iadd dX2_wouldBeAlike_30 (n := 31) rfl ?_
      refine tw_callV_I [.int a1, .int (a2 + 1)] [.int x3] (T_codeOf_ok hO hE s2 a1 (a2 + 1)) md_X2_codeOf q3147 q3149 qs85 dX2_wouldBeAlike_31 rfl rfl (by decide) (Nat.le_of_ble_eq_true rfl) (n := 34) rfl (fun x5 s4 => ?_)
      refine tw_icmp_ne dX2_wouldBeAlike_34 (t := 41) (by decide) (n := 37) rfl ?_ ?_
      · refine x_iconst 0 dX2_wouldBeAlike_41 rfl (n := 42) rfl ?_
        exact tw_zreturn rfl dX2_wouldBeAlike_42
      · refine x_iconst 1 dX2_wouldBeAlike_37 rfl (n := 38) rfl ?_
        refine x_goto dX2_wouldBeAlike_38 (n := 42) (by decide) ?_
        exact tw_zreturn rfl dX2_wouldBeAlike_42
abbrev cX2_cancel : ByteArray := prog_14_method_113_code
def yX2_cancel : MethodName := ⟨RX2, "cancel", "(II)I"⟩
def dkwX2_cancel_5 : List UInt8 := [27, 96, 46, 172]
abbrev dktX2_cancel_5 : List UInt8 := dkwX2_cancel_5 ++ []
def dkwX2_cancel_4 : List UInt8 := [16, 7, 16, 10, 27, 104, 96, 29, 96, 4, 96, 46, 79, 132, 3, 1, 167, 255, 211, 42, 180, 0, 17, 7]
abbrev dktX2_cancel_4 : List UInt8 := dkwX2_cancel_4 ++ dktX2_cancel_5
def dkwX2_cancel_3 : List UInt8 := [7, 27, 96, 46, 162, 0, 39, 42, 180, 0, 17, 16, 7, 16, 10, 27, 104, 96, 29, 96, 42, 180, 0, 17]
abbrev dktX2_cancel_3 : List UInt8 := dkwX2_cancel_3 ++ dktX2_cancel_4
def dkwX2_cancel_2 : List UInt8 := [172, 42, 182, 1, 69, 42, 180, 0, 17, 7, 27, 96, 92, 46, 4, 100, 79, 28, 62, 29, 42, 180, 0, 17]
abbrev dktX2_cancel_2 : List UInt8 := dkwX2_cancel_2 ++ dktX2_cancel_3
def dkwX2_cancel_1 : List UInt8 := [159, 0, 12, 42, 27, 28, 182, 1, 78, 153, 0, 7, 8, 167, 0, 4, 3, 182, 0, 161, 153, 0, 5, 2]
abbrev dktX2_cancel_1 : List UInt8 := dkwX2_cancel_1 ++ dktX2_cancel_2
def dkwX2_cancel_0 : List UInt8 := [42, 42, 27, 28, 182, 0, 252, 154, 0, 7, 4, 167, 0, 29, 42, 180, 0, 17, 7, 27, 96, 46, 4]
abbrev dktX2_cancel_0 : List UInt8 := dkwX2_cancel_0 ++ dktX2_cancel_1
theorem dksX2_cancel_0 : cX2_cancel.data.toList.drop 0 = dktX2_cancel_0 := by decide +kernel
theorem dksX2_cancel_1 : cX2_cancel.data.toList.drop 23 = dktX2_cancel_1 := dk_seg dksX2_cancel_0 23 rfl rfl
theorem dksX2_cancel_2 : cX2_cancel.data.toList.drop 47 = dktX2_cancel_2 := dk_seg dksX2_cancel_1 24 rfl rfl
theorem dksX2_cancel_3 : cX2_cancel.data.toList.drop 71 = dktX2_cancel_3 := dk_seg dksX2_cancel_2 24 rfl rfl
theorem dksX2_cancel_4 : cX2_cancel.data.toList.drop 95 = dktX2_cancel_4 := dk_seg dksX2_cancel_3 24 rfl rfl
theorem dksX2_cancel_5 : cX2_cancel.data.toList.drop 119 = dktX2_cancel_5 := dk_seg dksX2_cancel_4 24 rfl rfl
theorem dX2_cancel_0 : decode cX2_cancel 0 = .ok (.aload_n 0, 1) := dk_42 (dk_at dksX2_cancel_0 0 rfl rfl)
theorem dX2_cancel_1 : decode cX2_cancel 1 = .ok (.aload_n 0, 1) := dk_42 (dk_at dksX2_cancel_0 1 rfl rfl)
theorem dX2_cancel_2 : decode cX2_cancel 2 = .ok (.iload_n 1, 1) := dk_27 (dk_at dksX2_cancel_0 2 rfl rfl)
theorem dX2_cancel_3 : decode cX2_cancel 3 = .ok (.iload_n 2, 1) := dk_28 (dk_at dksX2_cancel_0 3 rfl rfl)
theorem dX2_cancel_4 : decode cX2_cancel 4 = .ok (.invokevirtual 252, 3) := dk_182 0 252 (dk_at dksX2_cancel_0 4 rfl rfl)
theorem dX2_cancel_7 : decode cX2_cancel 7 = .ok (.ifCond .ne 7, 3) := dk_154 0 7 (dk_at dksX2_cancel_0 7 rfl rfl)
theorem dX2_cancel_10 : decode cX2_cancel 10 = .ok (.iconst 1, 1) := dk_4 (dk_at dksX2_cancel_0 10 rfl rfl)
theorem dX2_cancel_11 : decode cX2_cancel 11 = .ok (.goto 29, 3) := dk_167 0 29 (dk_at dksX2_cancel_0 11 rfl rfl)
theorem dX2_cancel_14 : decode cX2_cancel 14 = .ok (.aload_n 0, 1) := dk_42 (dk_at dksX2_cancel_0 14 rfl rfl)
theorem dX2_cancel_15 : decode cX2_cancel 15 = .ok (.getfield 17, 3) := dk_180 0 17 (dk_at dksX2_cancel_0 15 rfl rfl)
theorem dX2_cancel_18 : decode cX2_cancel 18 = .ok (.iconst 4, 1) := dk_7 (dk_at dksX2_cancel_0 18 rfl rfl)
theorem dX2_cancel_19 : decode cX2_cancel 19 = .ok (.iload_n 1, 1) := dk_27 (dk_at dksX2_cancel_0 19 rfl rfl)
theorem dX2_cancel_20 : decode cX2_cancel 20 = .ok (.iadd, 1) := dk_96 (dk_at dksX2_cancel_0 20 rfl rfl)
theorem dX2_cancel_21 : decode cX2_cancel 21 = .ok (.iaload, 1) := dk_46 (dk_at dksX2_cancel_0 21 rfl rfl)
theorem dX2_cancel_22 : decode cX2_cancel 22 = .ok (.iconst 1, 1) := dk_4 (dk_at dksX2_cancel_0 22 rfl rfl)
theorem dX2_cancel_23 : decode cX2_cancel 23 = .ok (.if_icmp .eq 12, 3) := dk_159 0 12 (dk_at dksX2_cancel_1 0 rfl rfl)
theorem dX2_cancel_26 : decode cX2_cancel 26 = .ok (.aload_n 0, 1) := dk_42 (dk_at dksX2_cancel_1 3 rfl rfl)
theorem dX2_cancel_27 : decode cX2_cancel 27 = .ok (.iload_n 1, 1) := dk_27 (dk_at dksX2_cancel_1 4 rfl rfl)
theorem dX2_cancel_28 : decode cX2_cancel 28 = .ok (.iload_n 2, 1) := dk_28 (dk_at dksX2_cancel_1 5 rfl rfl)
theorem dX2_cancel_29 : decode cX2_cancel 29 = .ok (.invokevirtual 334, 3) := dk_182 1 78 (dk_at dksX2_cancel_1 6 rfl rfl)
theorem dX2_cancel_32 : decode cX2_cancel 32 = .ok (.ifCond .eq 7, 3) := dk_153 0 7 (dk_at dksX2_cancel_1 9 rfl rfl)
theorem dX2_cancel_35 : decode cX2_cancel 35 = .ok (.iconst 5, 1) := dk_8 (dk_at dksX2_cancel_1 12 rfl rfl)
theorem dX2_cancel_36 : decode cX2_cancel 36 = .ok (.goto 4, 3) := dk_167 0 4 (dk_at dksX2_cancel_1 13 rfl rfl)
theorem dX2_cancel_39 : decode cX2_cancel 39 = .ok (.iconst 0, 1) := dk_3 (dk_at dksX2_cancel_1 16 rfl rfl)
theorem dX2_cancel_40 : decode cX2_cancel 40 = .ok (.invokevirtual 161, 3) := dk_182 0 161 (dk_at dksX2_cancel_1 17 rfl rfl)
theorem dX2_cancel_43 : decode cX2_cancel 43 = .ok (.ifCond .eq 5, 3) := dk_153 0 5 (dk_at dksX2_cancel_1 20 rfl rfl)
theorem dX2_cancel_46 : decode cX2_cancel 46 = .ok (.iconst (-1), 1) := dk_2 (dk_at dksX2_cancel_1 23 rfl rfl)
theorem dX2_cancel_47 : decode cX2_cancel 47 = .ok (.ireturn, 1) := dk_172 (dk_at dksX2_cancel_2 0 rfl rfl)
theorem dX2_cancel_48 : decode cX2_cancel 48 = .ok (.aload_n 0, 1) := dk_42 (dk_at dksX2_cancel_2 1 rfl rfl)
theorem dX2_cancel_49 : decode cX2_cancel 49 = .ok (.invokevirtual 325, 3) := dk_182 1 69 (dk_at dksX2_cancel_2 2 rfl rfl)
theorem dX2_cancel_52 : decode cX2_cancel 52 = .ok (.aload_n 0, 1) := dk_42 (dk_at dksX2_cancel_2 5 rfl rfl)
theorem dX2_cancel_53 : decode cX2_cancel 53 = .ok (.getfield 17, 3) := dk_180 0 17 (dk_at dksX2_cancel_2 6 rfl rfl)
theorem dX2_cancel_56 : decode cX2_cancel 56 = .ok (.iconst 4, 1) := dk_7 (dk_at dksX2_cancel_2 9 rfl rfl)
theorem dX2_cancel_57 : decode cX2_cancel 57 = .ok (.iload_n 1, 1) := dk_27 (dk_at dksX2_cancel_2 10 rfl rfl)
theorem dX2_cancel_58 : decode cX2_cancel 58 = .ok (.iadd, 1) := dk_96 (dk_at dksX2_cancel_2 11 rfl rfl)
theorem dX2_cancel_59 : decode cX2_cancel 59 = .ok (.dup2, 1) := dk_92 (dk_at dksX2_cancel_2 12 rfl rfl)
theorem dX2_cancel_60 : decode cX2_cancel 60 = .ok (.iaload, 1) := dk_46 (dk_at dksX2_cancel_2 13 rfl rfl)
theorem dX2_cancel_61 : decode cX2_cancel 61 = .ok (.iconst 1, 1) := dk_4 (dk_at dksX2_cancel_2 14 rfl rfl)
theorem dX2_cancel_62 : decode cX2_cancel 62 = .ok (.isub, 1) := dk_100 (dk_at dksX2_cancel_2 15 rfl rfl)
theorem dX2_cancel_63 : decode cX2_cancel 63 = .ok (.iastore, 1) := dk_79 (dk_at dksX2_cancel_2 16 rfl rfl)
theorem dX2_cancel_64 : decode cX2_cancel 64 = .ok (.iload_n 2, 1) := dk_28 (dk_at dksX2_cancel_2 17 rfl rfl)
theorem dX2_cancel_65 : decode cX2_cancel 65 = .ok (.istore_n 3, 1) := dk_62 (dk_at dksX2_cancel_2 18 rfl rfl)
theorem dX2_cancel_66 : decode cX2_cancel 66 = .ok (.iload_n 3, 1) := dk_29 (dk_at dksX2_cancel_2 19 rfl rfl)
theorem dX2_cancel_67 : decode cX2_cancel 67 = .ok (.aload_n 0, 1) := dk_42 (dk_at dksX2_cancel_2 20 rfl rfl)
theorem dX2_cancel_68 : decode cX2_cancel 68 = .ok (.getfield 17, 3) := dk_180 0 17 (dk_at dksX2_cancel_2 21 rfl rfl)
theorem dX2_cancel_71 : decode cX2_cancel 71 = .ok (.iconst 4, 1) := dk_7 (dk_at dksX2_cancel_3 0 rfl rfl)
theorem dX2_cancel_72 : decode cX2_cancel 72 = .ok (.iload_n 1, 1) := dk_27 (dk_at dksX2_cancel_3 1 rfl rfl)
theorem dX2_cancel_73 : decode cX2_cancel 73 = .ok (.iadd, 1) := dk_96 (dk_at dksX2_cancel_3 2 rfl rfl)
theorem dX2_cancel_74 : decode cX2_cancel 74 = .ok (.iaload, 1) := dk_46 (dk_at dksX2_cancel_3 3 rfl rfl)
theorem dX2_cancel_75 : decode cX2_cancel 75 = .ok (.if_icmp .ge 39, 3) := dk_162 0 39 (dk_at dksX2_cancel_3 4 rfl rfl)
theorem dX2_cancel_78 : decode cX2_cancel 78 = .ok (.aload_n 0, 1) := dk_42 (dk_at dksX2_cancel_3 7 rfl rfl)
theorem dX2_cancel_79 : decode cX2_cancel 79 = .ok (.getfield 17, 3) := dk_180 0 17 (dk_at dksX2_cancel_3 8 rfl rfl)
theorem dX2_cancel_82 : decode cX2_cancel 82 = .ok (.bipush 7, 2) := dk_16 7 (dk_at dksX2_cancel_3 11 rfl rfl)
theorem dX2_cancel_84 : decode cX2_cancel 84 = .ok (.bipush 10, 2) := dk_16 10 (dk_at dksX2_cancel_3 13 rfl rfl)
theorem dX2_cancel_86 : decode cX2_cancel 86 = .ok (.iload_n 1, 1) := dk_27 (dk_at dksX2_cancel_3 15 rfl rfl)
theorem dX2_cancel_87 : decode cX2_cancel 87 = .ok (.imul, 1) := dk_104 (dk_at dksX2_cancel_3 16 rfl rfl)
theorem dX2_cancel_88 : decode cX2_cancel 88 = .ok (.iadd, 1) := dk_96 (dk_at dksX2_cancel_3 17 rfl rfl)
theorem dX2_cancel_89 : decode cX2_cancel 89 = .ok (.iload_n 3, 1) := dk_29 (dk_at dksX2_cancel_3 18 rfl rfl)
theorem dX2_cancel_90 : decode cX2_cancel 90 = .ok (.iadd, 1) := dk_96 (dk_at dksX2_cancel_3 19 rfl rfl)
theorem dX2_cancel_91 : decode cX2_cancel 91 = .ok (.aload_n 0, 1) := dk_42 (dk_at dksX2_cancel_3 20 rfl rfl)
theorem dX2_cancel_92 : decode cX2_cancel 92 = .ok (.getfield 17, 3) := dk_180 0 17 (dk_at dksX2_cancel_3 21 rfl rfl)
theorem dX2_cancel_95 : decode cX2_cancel 95 = .ok (.bipush 7, 2) := dk_16 7 (dk_at dksX2_cancel_4 0 rfl rfl)
theorem dX2_cancel_97 : decode cX2_cancel 97 = .ok (.bipush 10, 2) := dk_16 10 (dk_at dksX2_cancel_4 2 rfl rfl)
theorem dX2_cancel_99 : decode cX2_cancel 99 = .ok (.iload_n 1, 1) := dk_27 (dk_at dksX2_cancel_4 4 rfl rfl)
theorem dX2_cancel_100 : decode cX2_cancel 100 = .ok (.imul, 1) := dk_104 (dk_at dksX2_cancel_4 5 rfl rfl)
theorem dX2_cancel_101 : decode cX2_cancel 101 = .ok (.iadd, 1) := dk_96 (dk_at dksX2_cancel_4 6 rfl rfl)
theorem dX2_cancel_102 : decode cX2_cancel 102 = .ok (.iload_n 3, 1) := dk_29 (dk_at dksX2_cancel_4 7 rfl rfl)
theorem dX2_cancel_103 : decode cX2_cancel 103 = .ok (.iadd, 1) := dk_96 (dk_at dksX2_cancel_4 8 rfl rfl)
theorem dX2_cancel_104 : decode cX2_cancel 104 = .ok (.iconst 1, 1) := dk_4 (dk_at dksX2_cancel_4 9 rfl rfl)
theorem dX2_cancel_105 : decode cX2_cancel 105 = .ok (.iadd, 1) := dk_96 (dk_at dksX2_cancel_4 10 rfl rfl)
theorem dX2_cancel_106 : decode cX2_cancel 106 = .ok (.iaload, 1) := dk_46 (dk_at dksX2_cancel_4 11 rfl rfl)
theorem dX2_cancel_107 : decode cX2_cancel 107 = .ok (.iastore, 1) := dk_79 (dk_at dksX2_cancel_4 12 rfl rfl)
theorem dX2_cancel_108 : decode cX2_cancel 108 = .ok (.iinc 3 1, 3) := dk_132 3 1 (dk_at dksX2_cancel_4 13 rfl rfl)
theorem dX2_cancel_111 : decode cX2_cancel 111 = .ok (.goto (-45), 3) := dk_167 255 211 (dk_at dksX2_cancel_4 16 rfl rfl)
theorem dX2_cancel_114 : decode cX2_cancel 114 = .ok (.aload_n 0, 1) := dk_42 (dk_at dksX2_cancel_4 19 rfl rfl)
theorem dX2_cancel_115 : decode cX2_cancel 115 = .ok (.getfield 17, 3) := dk_180 0 17 (dk_at dksX2_cancel_4 20 rfl rfl)
theorem dX2_cancel_118 : decode cX2_cancel 118 = .ok (.iconst 4, 1) := dk_7 (dk_at dksX2_cancel_4 23 rfl rfl)
theorem dX2_cancel_119 : decode cX2_cancel 119 = .ok (.iload_n 1, 1) := dk_27 (dk_at dksX2_cancel_5 0 rfl rfl)
theorem dX2_cancel_120 : decode cX2_cancel 120 = .ok (.iadd, 1) := dk_96 (dk_at dksX2_cancel_5 1 rfl rfl)
theorem dX2_cancel_121 : decode cX2_cancel 121 = .ok (.iaload, 1) := dk_46 (dk_at dksX2_cancel_5 2 rfl rfl)
theorem dX2_cancel_122 : decode cX2_cancel 122 = .ok (.ireturn, 1) := dk_172 (dk_at dksX2_cancel_5 3 rfl rfl)
theorem md_X2_cancel : xMd yX2_cancel cX2_cancel 4 (Option.some Jvm.ClassFile.FieldType.int) 2 := ⟨q3453, q126, by decide, by decide +kernel, by decide +kernel, by decide +kernel⟩
def T_cancel_66F   (k66 : Int32 × Int32 × TS → Option (xO × TS)) (p : Int32 × Int32 × TS) : Option (xO × TS) := match p with
  | (v1, v3, s0) => (tald s0 7 (4 + v1) fun x10 =>
  (if x10 ≤ v3 then
  (tald s0 7 (4 + v1) fun x11 =>
  (rI x11 s0)) else
  (tald s0 7 (((7 + (10 * v1)) + v3) + 1) fun x12 =>
  (tast s0 7 ((7 + (10 * v1)) + v3) x12 fun s13 =>
  (bnd (v3 + 1) fun x14 =>
  (k66 (v1, x14, s13)))))))
def T_cancel_40   (v1 : Int32) (v2 : Int32) (w1 : Int32) (s0 : TS) : Option (xO × TS) :=
  (xcI (T_isRefused s0 w1) fun x5 s4 =>
  (if x5 = 0 then
  (xcV (T_remembers s4 ) fun s6 =>
  (bnd (4 + v1) fun x7 =>
  (tald s6 7 x7 fun x8 =>
  (tast s6 7 x7 (x8 - 1) fun s9 =>
  (lp (T_cancel_66F) FU (v1, v2, s9)))))) else
  (rI (-1) s4)))
def T_cancel_35   (v1 : Int32) (v2 : Int32) (s0 : TS) : Option (xO × TS) :=
  (T_cancel_40 v1 v2 5 s0)
def T_cancel (s0 : TS) (a1 : Int32) (a2 : Int32) : Option (xO × TS) :=
  (xcI (T_isControl s0 a1 a2) fun x2 s1 =>
  (if x2 = 0 then
  (T_cancel_40 a1 a2 1 s1) else
  (tald s1 7 (4 + a1) fun x3 =>
  (if x3 = 1 then
  (T_cancel_35 a1 a2 s1) else
  (xcI (T_wouldBeAlike s1 a1 a2) fun x16 s15 =>
  (if x16 = 0 then
  (T_cancel_40 a1 a2 0 s15) else
  (T_cancel_35 a1 a2 s15)))))))
theorem T_cancel_66F_ok {G : xG} {E : TE} (hO : xOK G) (hE : tok E)   {k66 : Int32 × Int32 × TS → Option (xO × TS)} (hk66 : ∀ (v1 : Int32) (v3 : Int32) (s0 : TS), XT G E "ForestLegsModel" "cancel" cX2_cancel 4 (Option.some Jvm.ClassFile.FieldType.int) 3 66 [(0, .ref E.2.1), (1, .int v1), (3, .int v3)] [] s0 (k66 (v1, v3, s0))) (v1 : Int32) (v3 : Int32) (s0 : TS) : XT G E "ForestLegsModel" "cancel" cX2_cancel 4 (Option.some Jvm.ClassFile.FieldType.int) 3 66 [(0, .ref E.2.1), (1, .int v1), (3, .int v3)] [] s0 (T_cancel_66F k66 (v1, v3, s0)) := by
  unfold T_cancel_66F
  refine x_iload_n 2 dX2_cancel_66 rfl rfl (n := 67) rfl ?_
  refine x_aload_nr 0 dX2_cancel_67 rfl rfl (n := 68) rfl ?_
  refine tw_getA fl_X2_17 rfl (by decide) dX2_cancel_68 (n := 71) rfl ?_
  refine x_iconst 4 dX2_cancel_71 rfl (n := 72) rfl ?_
  refine x_iload_n 1 dX2_cancel_72 rfl rfl (n := 73) rfl ?_
  refine x_iadd dX2_cancel_73 (n := 74) rfl ?_
  refine tw_iald hE (by decide) dX2_cancel_74 (n := 75) rfl (fun x10 => ?_)
  refine tw_icmp_ge dX2_cancel_75 (t := 114) (by decide) (n := 78) rfl ?_ ?_
  · refine x_aload_nr 0 dX2_cancel_114 rfl rfl (n := 115) rfl ?_
    refine tw_getA fl_X2_17 rfl (by decide) dX2_cancel_115 (n := 118) rfl ?_
    refine x_iconst 4 dX2_cancel_118 rfl (n := 119) rfl ?_
    refine x_iload_n 1 dX2_cancel_119 rfl rfl (n := 120) rfl ?_
    refine x_iadd dX2_cancel_120 (n := 121) rfl ?_
    refine tw_iald hE (by decide) dX2_cancel_121 (n := 122) rfl (fun x11 => ?_)
    exact tw_ireturn dX2_cancel_122
  · refine x_aload_nr 0 dX2_cancel_78 rfl rfl (n := 79) rfl ?_
    refine tw_getA fl_X2_17 rfl (by decide) dX2_cancel_79 (n := 82) rfl ?_
    refine x_bipush 7 dX2_cancel_82 rfl (n := 84) rfl ?_
    refine x_bipush 10 dX2_cancel_84 rfl (n := 86) rfl ?_
    refine x_iload_n 1 dX2_cancel_86 rfl rfl (n := 87) rfl ?_
    refine x_imul dX2_cancel_87 (n := 88) rfl ?_
    refine x_iadd dX2_cancel_88 (n := 89) rfl ?_
    refine x_iload_n 2 dX2_cancel_89 rfl rfl (n := 90) rfl ?_
    refine x_iadd dX2_cancel_90 (n := 91) rfl ?_
    refine x_aload_nr 0 dX2_cancel_91 rfl rfl (n := 92) rfl ?_
    refine tw_getA fl_X2_17 rfl (by decide) dX2_cancel_92 (n := 95) rfl ?_
    refine x_bipush 7 dX2_cancel_95 rfl (n := 97) rfl ?_
    refine x_bipush 10 dX2_cancel_97 rfl (n := 99) rfl ?_
    refine x_iload_n 1 dX2_cancel_99 rfl rfl (n := 100) rfl ?_
    refine x_imul dX2_cancel_100 (n := 101) rfl ?_
    refine x_iadd dX2_cancel_101 (n := 102) rfl ?_
    refine x_iload_n 2 dX2_cancel_102 rfl rfl (n := 103) rfl ?_
    refine x_iadd dX2_cancel_103 (n := 104) rfl ?_
    refine x_iconst 1 dX2_cancel_104 rfl (n := 105) rfl ?_
    refine x_iadd dX2_cancel_105 (n := 106) rfl ?_
    refine tw_iald hE (by decide) dX2_cancel_106 (n := 107) rfl (fun x12 => ?_)
    refine tw_iast hE (by decide) dX2_cancel_107 (n := 108) rfl (fun s13 => ?_)
    refine tw_iinc 2 (fun x14 => [(3, .int x14), (0, .ref E.2.1), (1, .int v1)]) dX2_cancel_108 rfl rfl (by decide) (fun _ => rfl) (n := 111) rfl (fun x14 => ?_)
    refine x_goto dX2_cancel_111 (n := 66) (by decide) ?_
    refine x_sub [1, 2, 0] [(0, .ref E.2.1), (1, .int v1), (3, .int x14)] rfl ?_
    exact hk66 v1 x14 s13
theorem T_cancel_66_lp {G : xG} {E : TE} (hO : xOK G) (hE : tok E)   (n : Nat) (v1 : Int32) (v3 : Int32) (s0 : TS) : XT G E "ForestLegsModel" "cancel" cX2_cancel 4 (Option.some Jvm.ClassFile.FieldType.int) 3 66 [(0, .ref E.2.1), (1, .int v1), (3, .int v3)] [] s0 (lp (T_cancel_66F) n (v1, v3, s0)) :=
  lp_ok (W := fun p K => XT G E "ForestLegsModel" "cancel" cX2_cancel 4 (Option.some Jvm.ClassFile.FieldType.int) 3 66 [(0, .ref E.2.1), (1, .int p.1), (3, .int p.2.1)] [] p.2.2 K) (fun _ => tw_no) (fun k hk => fun (v1, v3, s0) => T_cancel_66F_ok hO hE (fun v1 v3 s0 => hk (v1, v3, s0)) v1 v3 s0) n (v1, v3, s0)
theorem T_cancel_40_ok {G : xG} {E : TE} (hO : xOK G) (hE : tok E)   (v1 : Int32) (v2 : Int32) (w1 : Int32) (s0 : TS) : XT G E "ForestLegsModel" "cancel" cX2_cancel 4 (Option.some Jvm.ClassFile.FieldType.int) 3 40 [(0, .ref E.2.1), (1, .int v1), (2, .int v2)] [.int w1, .ref E.2.1] s0 (T_cancel_40 v1 v2 w1 s0) := by
  unfold T_cancel_40
  refine tw_callV_I [.int w1] [] (T_isRefused_ok hO hE s0 w1) md_X2_isRefused q3022 q3024 qs63 dX2_cancel_40 rfl rfl (by decide) (Nat.le_of_ble_eq_true rfl) (n := 43) rfl (fun x5 s4 => ?_)
  refine tw_if_eq dX2_cancel_43 (t := 48) (by decide) (n := 46) rfl ?_ ?_
  · refine x_aload_nr 0 dX2_cancel_48 rfl rfl (n := 49) rfl ?_
    refine tw_callV_V [] [] (T_remembers_ok hO hE s4 ) md_X2_remembers q3414 q3416 qs118 dX2_cancel_49 rfl rfl (by decide) (Nat.le_of_ble_eq_true rfl) (n := 52) rfl (fun s6 => ?_)
    refine x_aload_nr 0 dX2_cancel_52 rfl rfl (n := 53) rfl ?_
    refine tw_getA fl_X2_17 rfl (by decide) dX2_cancel_53 (n := 56) rfl ?_
    refine x_iconst 4 dX2_cancel_56 rfl (n := 57) rfl ?_
    refine x_iload_n 1 dX2_cancel_57 rfl rfl (n := 58) rfl ?_
    refine x_iadd dX2_cancel_58 (n := 59) rfl ?_
    refine tw_nm (fun x7 => ?_)
    refine x_dup2 dX2_cancel_59 rfl rfl (n := 60) rfl ?_
    refine tw_iald hE (by decide) dX2_cancel_60 (n := 61) rfl (fun x8 => ?_)
    refine x_iconst 1 dX2_cancel_61 rfl (n := 62) rfl ?_
    refine x_isub dX2_cancel_62 (n := 63) rfl ?_
    refine tw_iast hE (by decide) dX2_cancel_63 (n := 64) rfl (fun s9 => ?_)
    refine x_iload_n 2 dX2_cancel_64 rfl rfl (n := 65) rfl ?_
    refine x_istore_n [(3, .int v2), (0, .ref E.2.1), (1, .int v1), (2, .int v2)] dX2_cancel_65 rfl (by decide) rfl (n := 66) rfl ?_
    refine x_sub [1, 2, 0] [(0, .ref E.2.1), (1, .int v1), (3, .int v2)] rfl ?_
    exact T_cancel_66_lp hO hE FU v1 v2 s9
  · refine x_iconst (-1) dX2_cancel_46 rfl (n := 47) rfl ?_
    exact tw_ireturn dX2_cancel_47
theorem T_cancel_35_ok {G : xG} {E : TE} (hO : xOK G) (hE : tok E)   (v1 : Int32) (v2 : Int32) (s0 : TS) : XT G E "ForestLegsModel" "cancel" cX2_cancel 4 (Option.some Jvm.ClassFile.FieldType.int) 3 35 [(0, .ref E.2.1), (1, .int v1), (2, .int v2)] [.ref E.2.1] s0 (T_cancel_35 v1 v2 s0) := by
  unfold T_cancel_35
  refine x_iconst 5 dX2_cancel_35 rfl (n := 36) rfl ?_
  refine x_goto dX2_cancel_36 (n := 40) (by decide) ?_
  exact T_cancel_40_ok hO hE v1 v2 5 s0
theorem T_cancel_ok {G : xG} {E : TE} (hO : xOK G) (hE : tok E) (s0 : TS) (a1 : Int32) (a2 : Int32) : CTT G E 3 yX2_cancel cX2_cancel 4 (Option.some Jvm.ClassFile.FieldType.int) [.ref E.2.1, .int a1, .int a2] s0 (T_cancel s0 a1 a2) := by
  refine CT_of hO (by decide +kernel) (by decide +kernel) (Nat.le_of_ble_eq_true rfl) ?_
  show XT G E "ForestLegsModel" "cancel" cX2_cancel 4 (Option.some Jvm.ClassFile.FieldType.int) 3 0 [(0, .ref E.2.1), (1, .int a1), (2, .int a2)] [] s0 (T_cancel s0 a1 a2)
  refine x_aload_nr 0 dX2_cancel_0 rfl rfl (n := 1) rfl ?_
  refine x_aload_nr 0 dX2_cancel_1 rfl rfl (n := 2) rfl ?_
  refine x_iload_n 1 dX2_cancel_2 rfl rfl (n := 3) rfl ?_
  refine x_iload_n 2 dX2_cancel_3 rfl rfl (n := 4) rfl ?_
  refine tw_callV_I [.int a1, .int a2] [.ref E.2.1] (T_isControl_ok hO hE s0 a1 a2) md_X2_isControl q3207 q3209 qs98 dX2_cancel_4 rfl rfl (by decide) (Nat.le_of_ble_eq_true rfl) (n := 7) rfl (fun x2 s1 => ?_)
  refine tw_if_ne dX2_cancel_7 (t := 14) (by decide) (n := 10) rfl ?_ ?_
  · refine x_aload_nr 0 dX2_cancel_14 rfl rfl (n := 15) rfl ?_
    refine tw_getA fl_X2_17 rfl (by decide) dX2_cancel_15 (n := 18) rfl ?_
    refine x_iconst 4 dX2_cancel_18 rfl (n := 19) rfl ?_
    refine x_iload_n 1 dX2_cancel_19 rfl rfl (n := 20) rfl ?_
    refine x_iadd dX2_cancel_20 (n := 21) rfl ?_
    refine tw_iald hE (by decide) dX2_cancel_21 (n := 22) rfl (fun x3 => ?_)
    refine x_iconst 1 dX2_cancel_22 rfl (n := 23) rfl ?_
    refine tw_icmp_eq dX2_cancel_23 (t := 35) (by decide) (n := 26) rfl ?_ ?_
    · exact T_cancel_35_ok hO hE a1 a2 s1
    · refine x_aload_nr 0 dX2_cancel_26 rfl rfl (n := 27) rfl ?_
      refine x_iload_n 1 dX2_cancel_27 rfl rfl (n := 28) rfl ?_
      refine x_iload_n 2 dX2_cancel_28 rfl rfl (n := 29) rfl ?_
      refine tw_callV_I [.int a1, .int a2] [.ref E.2.1] (T_wouldBeAlike_ok hO hE s1 a1 a2) md_X2_wouldBeAlike q3454 q3456 qs121 dX2_cancel_29 rfl rfl (by decide) (Nat.le_of_ble_eq_true rfl) (n := 32) rfl (fun x16 s15 => ?_)
      refine tw_if_eq dX2_cancel_32 (t := 39) (by decide) (n := 35) rfl ?_ ?_
      · refine x_iconst 0 dX2_cancel_39 rfl (n := 40) rfl ?_
        exact T_cancel_40_ok hO hE a1 a2 0 s15
      · exact T_cancel_35_ok hO hE a1 a2 s15
  · refine x_iconst 1 dX2_cancel_10 rfl (n := 11) rfl ?_
    refine x_goto dX2_cancel_11 (n := 40) (by decide) ?_
    exact T_cancel_40_ok hO hE a1 a2 1 s1
abbrev cX2_undo : ByteArray := prog_14_method_114_code
def yX2_undo : MethodName := ⟨RX2, "undo", "()I"⟩
def dkwX2_undo_2 : List UInt8 := [180, 0, 47, 17, 1, 141, 42, 180, 0, 177, 104, 17, 1, 141, 184, 0, 180, 42, 180, 0, 177, 172]
abbrev dktX2_undo_2 : List UInt8 := dkwX2_undo_2 ++ []
def dkwX2_undo_1 : List UInt8 := [182, 0, 161, 153, 0, 5, 2, 172, 42, 89, 180, 0, 177, 4, 100, 181, 0, 177, 42, 180, 0, 17, 3, 42]
abbrev dktX2_undo_1 : List UInt8 := dkwX2_undo_1 ++ dktX2_undo_2
def dkwX2_undo_0 : List UInt8 := [42, 42, 180, 0, 173, 154, 0, 7, 4, 167, 0, 15, 42, 180, 0, 177, 154, 0, 7, 8, 167, 0, 4, 3]
abbrev dktX2_undo_0 : List UInt8 := dkwX2_undo_0 ++ dktX2_undo_1
theorem dksX2_undo_0 : cX2_undo.data.toList.drop 0 = dktX2_undo_0 := by decide +kernel
theorem dksX2_undo_1 : cX2_undo.data.toList.drop 24 = dktX2_undo_1 := dk_seg dksX2_undo_0 24 rfl rfl
theorem dksX2_undo_2 : cX2_undo.data.toList.drop 48 = dktX2_undo_2 := dk_seg dksX2_undo_1 24 rfl rfl
theorem dX2_undo_0 : decode cX2_undo 0 = .ok (.aload_n 0, 1) := dk_42 (dk_at dksX2_undo_0 0 rfl rfl)
theorem dX2_undo_1 : decode cX2_undo 1 = .ok (.aload_n 0, 1) := dk_42 (dk_at dksX2_undo_0 1 rfl rfl)
theorem dX2_undo_2 : decode cX2_undo 2 = .ok (.getfield 173, 3) := dk_180 0 173 (dk_at dksX2_undo_0 2 rfl rfl)
theorem dX2_undo_5 : decode cX2_undo 5 = .ok (.ifCond .ne 7, 3) := dk_154 0 7 (dk_at dksX2_undo_0 5 rfl rfl)
theorem dX2_undo_8 : decode cX2_undo 8 = .ok (.iconst 1, 1) := dk_4 (dk_at dksX2_undo_0 8 rfl rfl)
theorem dX2_undo_9 : decode cX2_undo 9 = .ok (.goto 15, 3) := dk_167 0 15 (dk_at dksX2_undo_0 9 rfl rfl)
theorem dX2_undo_12 : decode cX2_undo 12 = .ok (.aload_n 0, 1) := dk_42 (dk_at dksX2_undo_0 12 rfl rfl)
theorem dX2_undo_13 : decode cX2_undo 13 = .ok (.getfield 177, 3) := dk_180 0 177 (dk_at dksX2_undo_0 13 rfl rfl)
theorem dX2_undo_16 : decode cX2_undo 16 = .ok (.ifCond .ne 7, 3) := dk_154 0 7 (dk_at dksX2_undo_0 16 rfl rfl)
theorem dX2_undo_19 : decode cX2_undo 19 = .ok (.iconst 5, 1) := dk_8 (dk_at dksX2_undo_0 19 rfl rfl)
theorem dX2_undo_20 : decode cX2_undo 20 = .ok (.goto 4, 3) := dk_167 0 4 (dk_at dksX2_undo_0 20 rfl rfl)
theorem dX2_undo_23 : decode cX2_undo 23 = .ok (.iconst 0, 1) := dk_3 (dk_at dksX2_undo_0 23 rfl rfl)
theorem dX2_undo_24 : decode cX2_undo 24 = .ok (.invokevirtual 161, 3) := dk_182 0 161 (dk_at dksX2_undo_1 0 rfl rfl)
theorem dX2_undo_27 : decode cX2_undo 27 = .ok (.ifCond .eq 5, 3) := dk_153 0 5 (dk_at dksX2_undo_1 3 rfl rfl)
theorem dX2_undo_30 : decode cX2_undo 30 = .ok (.iconst (-1), 1) := dk_2 (dk_at dksX2_undo_1 6 rfl rfl)
theorem dX2_undo_31 : decode cX2_undo 31 = .ok (.ireturn, 1) := dk_172 (dk_at dksX2_undo_1 7 rfl rfl)
theorem dX2_undo_32 : decode cX2_undo 32 = .ok (.aload_n 0, 1) := dk_42 (dk_at dksX2_undo_1 8 rfl rfl)
theorem dX2_undo_33 : decode cX2_undo 33 = .ok (.dup, 1) := dk_89 (dk_at dksX2_undo_1 9 rfl rfl)
theorem dX2_undo_34 : decode cX2_undo 34 = .ok (.getfield 177, 3) := dk_180 0 177 (dk_at dksX2_undo_1 10 rfl rfl)
theorem dX2_undo_37 : decode cX2_undo 37 = .ok (.iconst 1, 1) := dk_4 (dk_at dksX2_undo_1 13 rfl rfl)
theorem dX2_undo_38 : decode cX2_undo 38 = .ok (.isub, 1) := dk_100 (dk_at dksX2_undo_1 14 rfl rfl)
theorem dX2_undo_39 : decode cX2_undo 39 = .ok (.putfield 177, 3) := dk_181 0 177 (dk_at dksX2_undo_1 15 rfl rfl)
theorem dX2_undo_42 : decode cX2_undo 42 = .ok (.aload_n 0, 1) := dk_42 (dk_at dksX2_undo_1 18 rfl rfl)
theorem dX2_undo_43 : decode cX2_undo 43 = .ok (.getfield 17, 3) := dk_180 0 17 (dk_at dksX2_undo_1 19 rfl rfl)
theorem dX2_undo_46 : decode cX2_undo 46 = .ok (.iconst 0, 1) := dk_3 (dk_at dksX2_undo_1 22 rfl rfl)
theorem dX2_undo_47 : decode cX2_undo 47 = .ok (.aload_n 0, 1) := dk_42 (dk_at dksX2_undo_1 23 rfl rfl)
theorem dX2_undo_48 : decode cX2_undo 48 = .ok (.getfield 47, 3) := dk_180 0 47 (dk_at dksX2_undo_2 0 rfl rfl)
theorem dX2_undo_51 : decode cX2_undo 51 = .ok (.sipush 397, 3) := dk_17 1 141 (dk_at dksX2_undo_2 3 rfl rfl)
theorem dX2_undo_54 : decode cX2_undo 54 = .ok (.aload_n 0, 1) := dk_42 (dk_at dksX2_undo_2 6 rfl rfl)
theorem dX2_undo_55 : decode cX2_undo 55 = .ok (.getfield 177, 3) := dk_180 0 177 (dk_at dksX2_undo_2 7 rfl rfl)
theorem dX2_undo_58 : decode cX2_undo 58 = .ok (.imul, 1) := dk_104 (dk_at dksX2_undo_2 10 rfl rfl)
theorem dX2_undo_59 : decode cX2_undo 59 = .ok (.sipush 397, 3) := dk_17 1 141 (dk_at dksX2_undo_2 11 rfl rfl)
theorem dX2_undo_62 : decode cX2_undo 62 = .ok (.invokestatic 180, 3) := dk_184 0 180 (dk_at dksX2_undo_2 14 rfl rfl)
theorem dX2_undo_65 : decode cX2_undo 65 = .ok (.aload_n 0, 1) := dk_42 (dk_at dksX2_undo_2 17 rfl rfl)
theorem dX2_undo_66 : decode cX2_undo 66 = .ok (.getfield 177, 3) := dk_180 0 177 (dk_at dksX2_undo_2 18 rfl rfl)
theorem dX2_undo_69 : decode cX2_undo 69 = .ok (.ireturn, 1) := dk_172 (dk_at dksX2_undo_2 21 rfl rfl)
theorem md_X2_undo : xMd yX2_undo cX2_undo 1 (Option.some Jvm.ClassFile.FieldType.int) 0 := ⟨q3461, q126, by decide, by decide +kernel, by decide +kernel, by decide +kernel⟩
def T_undo_24   (w1 : Int32) (s0 : TS) : Option (xO × TS) :=
  (xcI (T_isRefused s0 w1) fun x2 s1 =>
  (if x2 = 0 then
  (bnd (tI s1 30 ((s1.1 30) - 1)) fun s3 =>
  (xcV (T_lays s3 7 0 31 (397 * (s3.1 30)) 397) fun s4 =>
  (rI (s4.1 30) s4))) else
  (rI (-1) s1)))
def T_undo (s0 : TS)  : Option (xO × TS) :=
  (if (s0.1 6) = 0 then
  (T_undo_24 1 s0) else
  (if (s0.1 30) = 0 then
  (T_undo_24 5 s0) else
  (T_undo_24 0 s0)))
theorem T_undo_24_ok {G : xG} {E : TE} (hO : xOK G) (hE : tok E)   (w1 : Int32) (s0 : TS) : XT G E "ForestLegsModel" "undo" cX2_undo 1 (Option.some Jvm.ClassFile.FieldType.int) 1 24 [(0, .ref E.2.1)] [.int w1, .ref E.2.1] s0 (T_undo_24 w1 s0) := by
  unfold T_undo_24
  refine tw_callV_I [.int w1] [] (T_isRefused_ok hO hE s0 w1) md_X2_isRefused q3022 q3024 qs63 dX2_undo_24 rfl rfl (by decide) (Nat.le_of_ble_eq_true rfl) (n := 27) rfl (fun x2 s1 => ?_)
  refine tw_if_eq dX2_undo_27 (t := 32) (by decide) (n := 30) rfl ?_ ?_
  · refine x_aload_nr 0 dX2_undo_32 rfl rfl (n := 33) rfl ?_
    refine x_dup dX2_undo_33 rfl (n := 34) rfl ?_
    refine tw_getI fl_X2_177 rfl (by decide) dX2_undo_34 (n := 37) rfl ?_
    refine x_iconst 1 dX2_undo_37 rfl (n := 38) rfl ?_
    refine x_isub dX2_undo_38 (n := 39) rfl ?_
    refine tw_put (pl_X2_177 _ _ ⟨rfl, rfl⟩) rfl (by decide) dX2_undo_39 (n := 42) rfl (fun s3 => ?_)
    refine x_aload_nr 0 dX2_undo_42 rfl rfl (n := 43) rfl ?_
    refine tw_getA fl_X2_17 rfl (by decide) dX2_undo_43 (n := 46) rfl ?_
    refine x_iconst 0 dX2_undo_46 rfl (n := 47) rfl ?_
    refine x_aload_nr 0 dX2_undo_47 rfl rfl (n := 48) rfl ?_
    refine tw_getA fl_X2_47 rfl (by decide) dX2_undo_48 (n := 51) rfl ?_
    refine x_sipush 397 dX2_undo_51 rfl (n := 54) rfl ?_
    refine x_aload_nr 0 dX2_undo_54 rfl rfl (n := 55) rfl ?_
    refine tw_getI fl_X2_177 rfl (by decide) dX2_undo_55 (n := 58) rfl ?_
    refine x_imul dX2_undo_58 (n := 59) rfl ?_
    refine x_sipush 397 dX2_undo_59 rfl (n := 62) rfl ?_
    refine tw_callS_V [.ref (E.2.2 7), .int 0, .ref (E.2.2 31), .int (397 * (s3.1 30)), .int 397] [] (T_lays_ok hO hE s3 7 0 31 (397 * (s3.1 30)) 397 (by decide) (by decide)) md_X2_lays q3106 q3107 dX2_undo_62 rfl rfl (by decide) (Nat.le_of_ble_eq_true rfl) (n := 65) rfl (fun s4 => ?_)
    refine x_aload_nr 0 dX2_undo_65 rfl rfl (n := 66) rfl ?_
    refine tw_getI fl_X2_177 rfl (by decide) dX2_undo_66 (n := 69) rfl ?_
    exact tw_ireturn dX2_undo_69
  · refine x_iconst (-1) dX2_undo_30 rfl (n := 31) rfl ?_
    exact tw_ireturn dX2_undo_31
theorem T_undo_ok {G : xG} {E : TE} (hO : xOK G) (hE : tok E) (s0 : TS)  : CTT G E 1 yX2_undo cX2_undo 1 (Option.some Jvm.ClassFile.FieldType.int) [.ref E.2.1] s0 (T_undo s0 ) := by
  refine CT_of hO (by decide +kernel) (by decide +kernel) (Nat.le_of_ble_eq_true rfl) ?_
  show XT G E "ForestLegsModel" "undo" cX2_undo 1 (Option.some Jvm.ClassFile.FieldType.int) 1 0 [(0, .ref E.2.1)] [] s0 (T_undo s0 )
  refine x_aload_nr 0 dX2_undo_0 rfl rfl (n := 1) rfl ?_
  refine x_aload_nr 0 dX2_undo_1 rfl rfl (n := 2) rfl ?_
  refine tw_getI fl_X2_173 rfl (by decide) dX2_undo_2 (n := 5) rfl ?_
  refine tw_if_ne dX2_undo_5 (t := 12) (by decide) (n := 8) rfl ?_ ?_
  · refine x_aload_nr 0 dX2_undo_12 rfl rfl (n := 13) rfl ?_
    refine tw_getI fl_X2_177 rfl (by decide) dX2_undo_13 (n := 16) rfl ?_
    refine tw_if_ne dX2_undo_16 (t := 23) (by decide) (n := 19) rfl ?_ ?_
    · refine x_iconst 0 dX2_undo_23 rfl (n := 24) rfl ?_
      exact T_undo_24_ok hO hE 0 s0
    · refine x_iconst 5 dX2_undo_19 rfl (n := 20) rfl ?_
      refine x_goto dX2_undo_20 (n := 24) (by decide) ?_
      exact T_undo_24_ok hO hE 5 s0
  · refine x_iconst 1 dX2_undo_8 rfl (n := 9) rfl ?_
    refine x_goto dX2_undo_9 (n := 24) (by decide) ?_
    exact T_undo_24_ok hO hE 1 s0
abbrev cX2_named : ByteArray := prog_14_method_115_code
def yX2_named : MethodName := ⟨RX2, "named", "(IZ)I"⟩
def dkwX2_named_6 : List UInt8 := [132, 6, 1, 167, 255, 203, 42, 4, 181, 0, 50, 3, 172]
abbrev dktX2_named_6 : List UInt8 := dkwX2_named_6 ++ []
def dkwX2_named_5 : List UInt8 := [180, 0, 23, 16, 6, 21, 5, 21, 6, 96, 104, 29, 21, 4, 182, 0, 114, 153, 0, 6, 21, 6, 172]
abbrev dktX2_named_5 : List UInt8 := dkwX2_named_5 ++ dktX2_named_6
def dkwX2_named_4 : List UInt8 := [164, 0, 53, 21, 6, 42, 180, 0, 17, 28, 153, 0, 7, 3, 167, 0, 4, 4, 46, 162, 0, 34, 42, 42]
abbrev dktX2_named_4 : List UInt8 := dkwX2_named_4 ++ dktX2_named_5
def dkwX2_named_3 : List UInt8 := [132, 4, 255, 167, 255, 233, 28, 153, 0, 7, 3, 167, 0, 4, 6, 54, 5, 3, 54, 6, 21, 4, 29]
abbrev dktX2_named_3 : List UInt8 := dkwX2_named_3 ++ dktX2_named_4
def dkwX2_named_2 : List UInt8 := [167, 255, 236, 21, 4, 29, 164, 0, 23, 42, 180, 0, 13, 21, 4, 4, 100, 46, 16, 32, 160, 0, 9]
abbrev dktX2_named_2 : List UInt8 := dkwX2_named_2 ++ dktX2_named_3
def dkwX2_named_1 : List UInt8 := [54, 4, 29, 21, 4, 162, 0, 20, 42, 180, 0, 13, 29, 46, 16, 32, 160, 0, 9, 132, 3, 1]
abbrev dktX2_named_1 : List UInt8 := dkwX2_named_1 ++ dktX2_named_2
def dkwX2_named_0 : List UInt8 := [42, 3, 181, 0, 50, 3, 62, 27, 3, 42, 180, 0, 56, 184, 0, 79, 153, 0, 7, 27, 167, 0, 4, 3]
abbrev dktX2_named_0 : List UInt8 := dkwX2_named_0 ++ dktX2_named_1
theorem dksX2_named_0 : cX2_named.data.toList.drop 0 = dktX2_named_0 := by decide +kernel
theorem dksX2_named_1 : cX2_named.data.toList.drop 24 = dktX2_named_1 := dk_seg dksX2_named_0 24 rfl rfl
theorem dksX2_named_2 : cX2_named.data.toList.drop 46 = dktX2_named_2 := dk_seg dksX2_named_1 22 rfl rfl
theorem dksX2_named_3 : cX2_named.data.toList.drop 69 = dktX2_named_3 := dk_seg dksX2_named_2 23 rfl rfl
theorem dksX2_named_4 : cX2_named.data.toList.drop 92 = dktX2_named_4 := dk_seg dksX2_named_3 23 rfl rfl
theorem dksX2_named_5 : cX2_named.data.toList.drop 116 = dktX2_named_5 := dk_seg dksX2_named_4 24 rfl rfl
theorem dksX2_named_6 : cX2_named.data.toList.drop 139 = dktX2_named_6 := dk_seg dksX2_named_5 23 rfl rfl
theorem dX2_named_0 : decode cX2_named 0 = .ok (.aload_n 0, 1) := dk_42 (dk_at dksX2_named_0 0 rfl rfl)
theorem dX2_named_1 : decode cX2_named 1 = .ok (.iconst 0, 1) := dk_3 (dk_at dksX2_named_0 1 rfl rfl)
theorem dX2_named_2 : decode cX2_named 2 = .ok (.putfield 50, 3) := dk_181 0 50 (dk_at dksX2_named_0 2 rfl rfl)
theorem dX2_named_5 : decode cX2_named 5 = .ok (.iconst 0, 1) := dk_3 (dk_at dksX2_named_0 5 rfl rfl)
theorem dX2_named_6 : decode cX2_named 6 = .ok (.istore_n 3, 1) := dk_62 (dk_at dksX2_named_0 6 rfl rfl)
theorem dX2_named_7 : decode cX2_named 7 = .ok (.iload_n 1, 1) := dk_27 (dk_at dksX2_named_0 7 rfl rfl)
theorem dX2_named_8 : decode cX2_named 8 = .ok (.iconst 0, 1) := dk_3 (dk_at dksX2_named_0 8 rfl rfl)
theorem dX2_named_9 : decode cX2_named 9 = .ok (.aload_n 0, 1) := dk_42 (dk_at dksX2_named_0 9 rfl rfl)
theorem dX2_named_10 : decode cX2_named 10 = .ok (.getfield 56, 3) := dk_180 0 56 (dk_at dksX2_named_0 10 rfl rfl)
theorem dX2_named_13 : decode cX2_named 13 = .ok (.invokestatic 79, 3) := dk_184 0 79 (dk_at dksX2_named_0 13 rfl rfl)
theorem dX2_named_16 : decode cX2_named 16 = .ok (.ifCond .eq 7, 3) := dk_153 0 7 (dk_at dksX2_named_0 16 rfl rfl)
theorem dX2_named_19 : decode cX2_named 19 = .ok (.iload_n 1, 1) := dk_27 (dk_at dksX2_named_0 19 rfl rfl)
theorem dX2_named_20 : decode cX2_named 20 = .ok (.goto 4, 3) := dk_167 0 4 (dk_at dksX2_named_0 20 rfl rfl)
theorem dX2_named_23 : decode cX2_named 23 = .ok (.iconst 0, 1) := dk_3 (dk_at dksX2_named_0 23 rfl rfl)
theorem dX2_named_24 : decode cX2_named 24 = .ok (.istore 4, 2) := dk_54 4 (dk_at dksX2_named_1 0 rfl rfl)
theorem dX2_named_26 : decode cX2_named 26 = .ok (.iload_n 3, 1) := dk_29 (dk_at dksX2_named_1 2 rfl rfl)
theorem dX2_named_27 : decode cX2_named 27 = .ok (.iload 4, 2) := dk_21 4 (dk_at dksX2_named_1 3 rfl rfl)
theorem dX2_named_29 : decode cX2_named 29 = .ok (.if_icmp .ge 20, 3) := dk_162 0 20 (dk_at dksX2_named_1 5 rfl rfl)
theorem dX2_named_32 : decode cX2_named 32 = .ok (.aload_n 0, 1) := dk_42 (dk_at dksX2_named_1 8 rfl rfl)
theorem dX2_named_33 : decode cX2_named 33 = .ok (.getfield 13, 3) := dk_180 0 13 (dk_at dksX2_named_1 9 rfl rfl)
theorem dX2_named_36 : decode cX2_named 36 = .ok (.iload_n 3, 1) := dk_29 (dk_at dksX2_named_1 12 rfl rfl)
theorem dX2_named_37 : decode cX2_named 37 = .ok (.iaload, 1) := dk_46 (dk_at dksX2_named_1 13 rfl rfl)
theorem dX2_named_38 : decode cX2_named 38 = .ok (.bipush 32, 2) := dk_16 32 (dk_at dksX2_named_1 14 rfl rfl)
theorem dX2_named_40 : decode cX2_named 40 = .ok (.if_icmp .ne 9, 3) := dk_160 0 9 (dk_at dksX2_named_1 16 rfl rfl)
theorem dX2_named_43 : decode cX2_named 43 = .ok (.iinc 3 1, 3) := dk_132 3 1 (dk_at dksX2_named_1 19 rfl rfl)
theorem dX2_named_46 : decode cX2_named 46 = .ok (.goto (-20), 3) := dk_167 255 236 (dk_at dksX2_named_2 0 rfl rfl)
theorem dX2_named_49 : decode cX2_named 49 = .ok (.iload 4, 2) := dk_21 4 (dk_at dksX2_named_2 3 rfl rfl)
theorem dX2_named_51 : decode cX2_named 51 = .ok (.iload_n 3, 1) := dk_29 (dk_at dksX2_named_2 5 rfl rfl)
theorem dX2_named_52 : decode cX2_named 52 = .ok (.if_icmp .le 23, 3) := dk_164 0 23 (dk_at dksX2_named_2 6 rfl rfl)
theorem dX2_named_55 : decode cX2_named 55 = .ok (.aload_n 0, 1) := dk_42 (dk_at dksX2_named_2 9 rfl rfl)
theorem dX2_named_56 : decode cX2_named 56 = .ok (.getfield 13, 3) := dk_180 0 13 (dk_at dksX2_named_2 10 rfl rfl)
theorem dX2_named_59 : decode cX2_named 59 = .ok (.iload 4, 2) := dk_21 4 (dk_at dksX2_named_2 13 rfl rfl)
theorem dX2_named_61 : decode cX2_named 61 = .ok (.iconst 1, 1) := dk_4 (dk_at dksX2_named_2 15 rfl rfl)
theorem dX2_named_62 : decode cX2_named 62 = .ok (.isub, 1) := dk_100 (dk_at dksX2_named_2 16 rfl rfl)
theorem dX2_named_63 : decode cX2_named 63 = .ok (.iaload, 1) := dk_46 (dk_at dksX2_named_2 17 rfl rfl)
theorem dX2_named_64 : decode cX2_named 64 = .ok (.bipush 32, 2) := dk_16 32 (dk_at dksX2_named_2 18 rfl rfl)
theorem dX2_named_66 : decode cX2_named 66 = .ok (.if_icmp .ne 9, 3) := dk_160 0 9 (dk_at dksX2_named_2 20 rfl rfl)
theorem dX2_named_69 : decode cX2_named 69 = .ok (.iinc 4 (-1), 3) := dk_132 4 255 (dk_at dksX2_named_3 0 rfl rfl)
theorem dX2_named_72 : decode cX2_named 72 = .ok (.goto (-23), 3) := dk_167 255 233 (dk_at dksX2_named_3 3 rfl rfl)
theorem dX2_named_75 : decode cX2_named 75 = .ok (.iload_n 2, 1) := dk_28 (dk_at dksX2_named_3 6 rfl rfl)
theorem dX2_named_76 : decode cX2_named 76 = .ok (.ifCond .eq 7, 3) := dk_153 0 7 (dk_at dksX2_named_3 7 rfl rfl)
theorem dX2_named_79 : decode cX2_named 79 = .ok (.iconst 0, 1) := dk_3 (dk_at dksX2_named_3 10 rfl rfl)
theorem dX2_named_80 : decode cX2_named 80 = .ok (.goto 4, 3) := dk_167 0 4 (dk_at dksX2_named_3 11 rfl rfl)
theorem dX2_named_83 : decode cX2_named 83 = .ok (.iconst 3, 1) := dk_6 (dk_at dksX2_named_3 14 rfl rfl)
theorem dX2_named_84 : decode cX2_named 84 = .ok (.istore 5, 2) := dk_54 5 (dk_at dksX2_named_3 15 rfl rfl)
theorem dX2_named_86 : decode cX2_named 86 = .ok (.iconst 0, 1) := dk_3 (dk_at dksX2_named_3 17 rfl rfl)
theorem dX2_named_87 : decode cX2_named 87 = .ok (.istore 6, 2) := dk_54 6 (dk_at dksX2_named_3 18 rfl rfl)
theorem dX2_named_89 : decode cX2_named 89 = .ok (.iload 4, 2) := dk_21 4 (dk_at dksX2_named_3 20 rfl rfl)
theorem dX2_named_91 : decode cX2_named 91 = .ok (.iload_n 3, 1) := dk_29 (dk_at dksX2_named_3 22 rfl rfl)
theorem dX2_named_92 : decode cX2_named 92 = .ok (.if_icmp .le 53, 3) := dk_164 0 53 (dk_at dksX2_named_4 0 rfl rfl)
theorem dX2_named_95 : decode cX2_named 95 = .ok (.iload 6, 2) := dk_21 6 (dk_at dksX2_named_4 3 rfl rfl)
theorem dX2_named_97 : decode cX2_named 97 = .ok (.aload_n 0, 1) := dk_42 (dk_at dksX2_named_4 5 rfl rfl)
theorem dX2_named_98 : decode cX2_named 98 = .ok (.getfield 17, 3) := dk_180 0 17 (dk_at dksX2_named_4 6 rfl rfl)
theorem dX2_named_101 : decode cX2_named 101 = .ok (.iload_n 2, 1) := dk_28 (dk_at dksX2_named_4 9 rfl rfl)
theorem dX2_named_102 : decode cX2_named 102 = .ok (.ifCond .eq 7, 3) := dk_153 0 7 (dk_at dksX2_named_4 10 rfl rfl)
theorem dX2_named_105 : decode cX2_named 105 = .ok (.iconst 0, 1) := dk_3 (dk_at dksX2_named_4 13 rfl rfl)
theorem dX2_named_106 : decode cX2_named 106 = .ok (.goto 4, 3) := dk_167 0 4 (dk_at dksX2_named_4 14 rfl rfl)
theorem dX2_named_109 : decode cX2_named 109 = .ok (.iconst 1, 1) := dk_4 (dk_at dksX2_named_4 17 rfl rfl)
theorem dX2_named_110 : decode cX2_named 110 = .ok (.iaload, 1) := dk_46 (dk_at dksX2_named_4 18 rfl rfl)
theorem dX2_named_111 : decode cX2_named 111 = .ok (.if_icmp .ge 34, 3) := dk_162 0 34 (dk_at dksX2_named_4 19 rfl rfl)
theorem dX2_named_114 : decode cX2_named 114 = .ok (.aload_n 0, 1) := dk_42 (dk_at dksX2_named_4 22 rfl rfl)
theorem dX2_named_115 : decode cX2_named 115 = .ok (.aload_n 0, 1) := dk_42 (dk_at dksX2_named_4 23 rfl rfl)
theorem dX2_named_116 : decode cX2_named 116 = .ok (.getfield 23, 3) := dk_180 0 23 (dk_at dksX2_named_5 0 rfl rfl)
theorem dX2_named_119 : decode cX2_named 119 = .ok (.bipush 6, 2) := dk_16 6 (dk_at dksX2_named_5 3 rfl rfl)
theorem dX2_named_121 : decode cX2_named 121 = .ok (.iload 5, 2) := dk_21 5 (dk_at dksX2_named_5 5 rfl rfl)
theorem dX2_named_123 : decode cX2_named 123 = .ok (.iload 6, 2) := dk_21 6 (dk_at dksX2_named_5 7 rfl rfl)
theorem dX2_named_125 : decode cX2_named 125 = .ok (.iadd, 1) := dk_96 (dk_at dksX2_named_5 9 rfl rfl)
theorem dX2_named_126 : decode cX2_named 126 = .ok (.imul, 1) := dk_104 (dk_at dksX2_named_5 10 rfl rfl)
theorem dX2_named_127 : decode cX2_named 127 = .ok (.iload_n 3, 1) := dk_29 (dk_at dksX2_named_5 11 rfl rfl)
theorem dX2_named_128 : decode cX2_named 128 = .ok (.iload 4, 2) := dk_21 4 (dk_at dksX2_named_5 12 rfl rfl)
theorem dX2_named_130 : decode cX2_named 130 = .ok (.invokevirtual 114, 3) := dk_182 0 114 (dk_at dksX2_named_5 14 rfl rfl)
theorem dX2_named_133 : decode cX2_named 133 = .ok (.ifCond .eq 6, 3) := dk_153 0 6 (dk_at dksX2_named_5 17 rfl rfl)
theorem dX2_named_136 : decode cX2_named 136 = .ok (.iload 6, 2) := dk_21 6 (dk_at dksX2_named_5 20 rfl rfl)
theorem dX2_named_138 : decode cX2_named 138 = .ok (.ireturn, 1) := dk_172 (dk_at dksX2_named_5 22 rfl rfl)
theorem dX2_named_139 : decode cX2_named 139 = .ok (.iinc 6 1, 3) := dk_132 6 1 (dk_at dksX2_named_6 0 rfl rfl)
theorem dX2_named_142 : decode cX2_named 142 = .ok (.goto (-53), 3) := dk_167 255 203 (dk_at dksX2_named_6 3 rfl rfl)
theorem dX2_named_145 : decode cX2_named 145 = .ok (.aload_n 0, 1) := dk_42 (dk_at dksX2_named_6 6 rfl rfl)
theorem dX2_named_146 : decode cX2_named 146 = .ok (.iconst 1, 1) := dk_4 (dk_at dksX2_named_6 7 rfl rfl)
theorem dX2_named_147 : decode cX2_named 147 = .ok (.putfield 50, 3) := dk_181 0 50 (dk_at dksX2_named_6 8 rfl rfl)
theorem dX2_named_150 : decode cX2_named 150 = .ok (.iconst 0, 1) := dk_3 (dk_at dksX2_named_6 11 rfl rfl)
theorem dX2_named_151 : decode cX2_named 151 = .ok (.ireturn, 1) := dk_172 (dk_at dksX2_named_6 12 rfl rfl)
theorem md_X2_named : xMd yX2_named cX2_named 7 (Option.some Jvm.ClassFile.FieldType.int) 2 := ⟨q3465, q126, by decide, by decide +kernel, by decide +kernel, by decide +kernel⟩
def T_named_145    (s0 : TS) : Option (xO × TS) :=
  (bnd (tI s0 0 1) fun s4 =>
  (rI 0 s4))
def T_named_110  (k89 : Int32 × Int32 × Int32 × Int32 × Int32 × TS → Option (xO × TS)) (v2 : Int32) (v3 : Int32) (v4 : Int32) (v5 : Int32) (v6 : Int32) (w0 : Int32) (w2 : Int32) (s0 : TS) : Option (xO × TS) :=
  (tald s0 7 w2 fun x5 =>
  (if x5 ≤ w0 then
  (T_named_145  s0) else
  (xcI (T_isAt s0 9 (6 * (v5 + v6)) v3 v4) fun x7 s6 =>
  (if x7 = 0 then
  (bnd (v6 + 1) fun x8 =>
  (k89 (v2, v3, v4, v5, x8, s6))) else
  (rI v6 s6)))))
def T_named_89F   (k89 : Int32 × Int32 × Int32 × Int32 × Int32 × TS → Option (xO × TS)) (p : Int32 × Int32 × Int32 × Int32 × Int32 × TS) : Option (xO × TS) := match p with
  | (v2, v3, v4, v5, v6, s0) => (if v4 ≤ v3 then
  (T_named_145  s0) else
  (if v2 = 0 then
  (T_named_110 k89 v2 v3 v4 v5 v6 v6 1 s0) else
  (T_named_110 k89 v2 v3 v4 v5 v6 v6 0 s0)))
def T_named_84   (v2 : Int32) (v3 : Int32) (v4 : Int32) (w0 : Int32) (s0 : TS) : Option (xO × TS) :=
  (lp (T_named_89F) FU (v2, v3, v4, w0, 0, s0))
def T_named_75   (v2 : Int32) (v3 : Int32) (v4 : Int32) (s0 : TS) : Option (xO × TS) :=
  (if v2 = 0 then
  (T_named_84 v2 v3 v4 3 s0) else
  (T_named_84 v2 v3 v4 0 s0))
def T_named_49F   (k49 : Int32 × Int32 × Int32 × TS → Option (xO × TS)) (p : Int32 × Int32 × Int32 × TS) : Option (xO × TS) := match p with
  | (v2, v3, v4, s0) => (if v4 ≤ v3 then
  (T_named_75 v2 v3 v4 s0) else
  (tald s0 4 (v4 - 1) fun x9 =>
  (if x9 = 32 then
  (bnd (v4 + (-1)) fun x10 =>
  (k49 (v2, v3, x10, s0))) else
  (T_named_75 v2 v3 v4 s0))))
def T_named_26F   (k26 : Int32 × Int32 × Int32 × TS → Option (xO × TS)) (p : Int32 × Int32 × Int32 × TS) : Option (xO × TS) := match p with
  | (v2, v3, v4, s0) => (if v4 ≤ v3 then
  (lp (T_named_49F) FU (v2, v3, v4, s0)) else
  (tald s0 4 v3 fun x11 =>
  (if x11 = 32 then
  (bnd (v3 + 1) fun x12 =>
  (k26 (v2, x12, v4, s0))) else
  (lp (T_named_49F) FU (v2, v3, v4, s0)))))
def T_named_24   (v2 : Int32) (v3 : Int32) (w0 : Int32) (s0 : TS) : Option (xO × TS) :=
  (lp (T_named_26F) FU (v2, v3, w0, s0))
def T_named (s0 : TS) (a1 : Int32) (a2 : Int32) : Option (xO × TS) :=
  (bnd (tI s0 0 0) fun s1 =>
  (xcI (T_in s1 a1 0 (s1.1 5)) fun x3 s2 =>
  (if x3 = 0 then
  (T_named_24 a2 0 0 s2) else
  (T_named_24 a2 0 a1 s2))))
theorem T_named_145_ok {G : xG} {E : TE} (hO : xOK G) (hE : tok E)    (s0 : TS) : XT G E "ForestLegsModel" "named" cX2_named 7 (Option.some Jvm.ClassFile.FieldType.int) 1 145 [(0, .ref E.2.1)] [] s0 (T_named_145  s0) := by
  unfold T_named_145
  refine x_aload_nr 0 dX2_named_145 rfl rfl (n := 146) rfl ?_
  refine x_iconst 1 dX2_named_146 rfl (n := 147) rfl ?_
  refine tw_put (pl_X2_50 _ _ ⟨rfl, rfl⟩) rfl (by decide) dX2_named_147 (n := 150) rfl (fun s4 => ?_)
  refine x_iconst 0 dX2_named_150 rfl (n := 151) rfl ?_
  exact tw_ireturn dX2_named_151
theorem T_named_110_ok {G : xG} {E : TE} (hO : xOK G) (hE : tok E)  {k89 : Int32 × Int32 × Int32 × Int32 × Int32 × TS → Option (xO × TS)} (hk89 : ∀ (v2 : Int32) (v3 : Int32) (v4 : Int32) (v5 : Int32) (v6 : Int32) (s0 : TS), XT G E "ForestLegsModel" "named" cX2_named 7 (Option.some Jvm.ClassFile.FieldType.int) 1 89 [(0, .ref E.2.1), (2, .int v2), (3, .int v3), (4, .int v4), (5, .int v5), (6, .int v6)] [] s0 (k89 (v2, v3, v4, v5, v6, s0))) (v2 : Int32) (v3 : Int32) (v4 : Int32) (v5 : Int32) (v6 : Int32) (w0 : Int32) (w2 : Int32) (s0 : TS) : XT G E "ForestLegsModel" "named" cX2_named 7 (Option.some Jvm.ClassFile.FieldType.int) 1 110 [(0, .ref E.2.1), (2, .int v2), (3, .int v3), (4, .int v4), (5, .int v5), (6, .int v6)] [.int w2, .ref (E.2.2 7), .int w0] s0 (T_named_110 k89 v2 v3 v4 v5 v6 w0 w2 s0) := by
  unfold T_named_110
  refine tw_iald hE (by decide) dX2_named_110 (n := 111) rfl (fun x5 => ?_)
  refine tw_icmp_ge dX2_named_111 (t := 145) (by decide) (n := 114) rfl ?_ ?_
  · refine x_sub [0] [(0, .ref E.2.1)] rfl ?_
    exact T_named_145_ok hO hE  s0
  · refine x_aload_nr 0 dX2_named_114 rfl rfl (n := 115) rfl ?_
    refine x_aload_nr 0 dX2_named_115 rfl rfl (n := 116) rfl ?_
    refine tw_getA fl_X2_23 rfl (by decide) dX2_named_116 (n := 119) rfl ?_
    refine x_bipush 6 dX2_named_119 rfl (n := 121) rfl ?_
    refine x_iload 4 dX2_named_121 rfl (n := 123) rfl ?_
    refine x_iload 5 dX2_named_123 rfl (n := 125) rfl ?_
    refine x_iadd dX2_named_125 (n := 126) rfl ?_
    refine x_imul dX2_named_126 (n := 127) rfl ?_
    refine x_iload_n 2 dX2_named_127 rfl rfl (n := 128) rfl ?_
    refine x_iload 3 dX2_named_128 rfl (n := 130) rfl ?_
    refine tw_callV_I [.ref (E.2.2 9), .int (6 * (v5 + v6)), .int v3, .int v4] [] (T_isAt_ok hO hE s0 9 (6 * (v5 + v6)) v3 v4 (by decide)) md_X2_isAt q3082 q3084 qs74 dX2_named_130 rfl rfl (by decide) (Nat.le_of_ble_eq_true rfl) (n := 133) rfl (fun x7 s6 => ?_)
    refine tw_if_eq dX2_named_133 (t := 139) (by decide) (n := 136) rfl ?_ ?_
    · refine tw_iinc 5 (fun x8 => [(6, .int x8), (0, .ref E.2.1), (2, .int v2), (3, .int v3), (4, .int v4), (5, .int v5)]) dX2_named_139 rfl rfl (by decide) (fun _ => rfl) (n := 142) rfl (fun x8 => ?_)
      refine x_goto dX2_named_142 (n := 89) (by decide) ?_
      refine x_sub [1, 2, 3, 4, 5, 0] [(0, .ref E.2.1), (2, .int v2), (3, .int v3), (4, .int v4), (5, .int v5), (6, .int x8)] rfl ?_
      exact hk89 v2 v3 v4 v5 x8 s6
    · refine x_iload 5 dX2_named_136 rfl (n := 138) rfl ?_
      exact tw_ireturn dX2_named_138
theorem T_named_89F_ok {G : xG} {E : TE} (hO : xOK G) (hE : tok E)   {k89 : Int32 × Int32 × Int32 × Int32 × Int32 × TS → Option (xO × TS)} (hk89 : ∀ (v2 : Int32) (v3 : Int32) (v4 : Int32) (v5 : Int32) (v6 : Int32) (s0 : TS), XT G E "ForestLegsModel" "named" cX2_named 7 (Option.some Jvm.ClassFile.FieldType.int) 1 89 [(0, .ref E.2.1), (2, .int v2), (3, .int v3), (4, .int v4), (5, .int v5), (6, .int v6)] [] s0 (k89 (v2, v3, v4, v5, v6, s0))) (v2 : Int32) (v3 : Int32) (v4 : Int32) (v5 : Int32) (v6 : Int32) (s0 : TS) : XT G E "ForestLegsModel" "named" cX2_named 7 (Option.some Jvm.ClassFile.FieldType.int) 1 89 [(0, .ref E.2.1), (2, .int v2), (3, .int v3), (4, .int v4), (5, .int v5), (6, .int v6)] [] s0 (T_named_89F k89 (v2, v3, v4, v5, v6, s0)) := by
  unfold T_named_89F
  refine x_iload 3 dX2_named_89 rfl (n := 91) rfl ?_
  refine x_iload_n 2 dX2_named_91 rfl rfl (n := 92) rfl ?_
  refine tw_icmp_le dX2_named_92 (t := 145) (by decide) (n := 95) rfl ?_ ?_
  · refine x_sub [0] [(0, .ref E.2.1)] rfl ?_
    exact T_named_145_ok hO hE  s0
  · refine x_iload 5 dX2_named_95 rfl (n := 97) rfl ?_
    refine x_aload_nr 0 dX2_named_97 rfl rfl (n := 98) rfl ?_
    refine tw_getA fl_X2_17 rfl (by decide) dX2_named_98 (n := 101) rfl ?_
    refine x_iload_n 1 dX2_named_101 rfl rfl (n := 102) rfl ?_
    refine tw_if_eq dX2_named_102 (t := 109) (by decide) (n := 105) rfl ?_ ?_
    · refine x_iconst 1 dX2_named_109 rfl (n := 110) rfl ?_
      exact T_named_110_ok hO hE hk89 v2 v3 v4 v5 v6 v6 1 s0
    · refine x_iconst 0 dX2_named_105 rfl (n := 106) rfl ?_
      refine x_goto dX2_named_106 (n := 110) (by decide) ?_
      exact T_named_110_ok hO hE hk89 v2 v3 v4 v5 v6 v6 0 s0
theorem T_named_89_lp {G : xG} {E : TE} (hO : xOK G) (hE : tok E)   (n : Nat) (v2 : Int32) (v3 : Int32) (v4 : Int32) (v5 : Int32) (v6 : Int32) (s0 : TS) : XT G E "ForestLegsModel" "named" cX2_named 7 (Option.some Jvm.ClassFile.FieldType.int) 1 89 [(0, .ref E.2.1), (2, .int v2), (3, .int v3), (4, .int v4), (5, .int v5), (6, .int v6)] [] s0 (lp (T_named_89F) n (v2, v3, v4, v5, v6, s0)) :=
  lp_ok (W := fun p K => XT G E "ForestLegsModel" "named" cX2_named 7 (Option.some Jvm.ClassFile.FieldType.int) 1 89 [(0, .ref E.2.1), (2, .int p.1), (3, .int p.2.1), (4, .int p.2.2.1), (5, .int p.2.2.2.1), (6, .int p.2.2.2.2.1)] [] p.2.2.2.2.2 K) (fun _ => tw_no) (fun k hk => fun (v2, v3, v4, v5, v6, s0) => T_named_89F_ok hO hE (fun v2 v3 v4 v5 v6 s0 => hk (v2, v3, v4, v5, v6, s0)) v2 v3 v4 v5 v6 s0) n (v2, v3, v4, v5, v6, s0)
theorem T_named_84_ok {G : xG} {E : TE} (hO : xOK G) (hE : tok E)   (v2 : Int32) (v3 : Int32) (v4 : Int32) (w0 : Int32) (s0 : TS) : XT G E "ForestLegsModel" "named" cX2_named 7 (Option.some Jvm.ClassFile.FieldType.int) 1 84 [(0, .ref E.2.1), (2, .int v2), (3, .int v3), (4, .int v4)] [.int w0] s0 (T_named_84 v2 v3 v4 w0 s0) := by
  unfold T_named_84
  refine x_istore [(5, .int w0), (0, .ref E.2.1), (2, .int v2), (3, .int v3), (4, .int v4)] dX2_named_84 (by decide) rfl (n := 86) rfl ?_
  refine x_iconst 0 dX2_named_86 rfl (n := 87) rfl ?_
  refine x_istore [(6, .int 0), (5, .int w0), (0, .ref E.2.1), (2, .int v2), (3, .int v3), (4, .int v4)] dX2_named_87 (by decide) rfl (n := 89) rfl ?_
  refine x_sub [2, 3, 4, 5, 1, 0] [(0, .ref E.2.1), (2, .int v2), (3, .int v3), (4, .int v4), (5, .int w0), (6, .int 0)] rfl ?_
  exact T_named_89_lp hO hE FU v2 v3 v4 w0 0 s0
theorem T_named_75_ok {G : xG} {E : TE} (hO : xOK G) (hE : tok E)   (v2 : Int32) (v3 : Int32) (v4 : Int32) (s0 : TS) : XT G E "ForestLegsModel" "named" cX2_named 7 (Option.some Jvm.ClassFile.FieldType.int) 1 75 [(0, .ref E.2.1), (2, .int v2), (3, .int v3), (4, .int v4)] [] s0 (T_named_75 v2 v3 v4 s0) := by
  unfold T_named_75
  refine x_iload_n 1 dX2_named_75 rfl rfl (n := 76) rfl ?_
  refine tw_if_eq dX2_named_76 (t := 83) (by decide) (n := 79) rfl ?_ ?_
  · refine x_iconst 3 dX2_named_83 rfl (n := 84) rfl ?_
    exact T_named_84_ok hO hE v2 v3 v4 3 s0
  · refine x_iconst 0 dX2_named_79 rfl (n := 80) rfl ?_
    refine x_goto dX2_named_80 (n := 84) (by decide) ?_
    exact T_named_84_ok hO hE v2 v3 v4 0 s0
theorem T_named_49F_ok {G : xG} {E : TE} (hO : xOK G) (hE : tok E)   {k49 : Int32 × Int32 × Int32 × TS → Option (xO × TS)} (hk49 : ∀ (v2 : Int32) (v3 : Int32) (v4 : Int32) (s0 : TS), XT G E "ForestLegsModel" "named" cX2_named 7 (Option.some Jvm.ClassFile.FieldType.int) 1 49 [(0, .ref E.2.1), (2, .int v2), (3, .int v3), (4, .int v4)] [] s0 (k49 (v2, v3, v4, s0))) (v2 : Int32) (v3 : Int32) (v4 : Int32) (s0 : TS) : XT G E "ForestLegsModel" "named" cX2_named 7 (Option.some Jvm.ClassFile.FieldType.int) 1 49 [(0, .ref E.2.1), (2, .int v2), (3, .int v3), (4, .int v4)] [] s0 (T_named_49F k49 (v2, v3, v4, s0)) := by
  unfold T_named_49F
  refine x_iload 3 dX2_named_49 rfl (n := 51) rfl ?_
  refine x_iload_n 2 dX2_named_51 rfl rfl (n := 52) rfl ?_
  refine tw_icmp_le dX2_named_52 (t := 75) (by decide) (n := 55) rfl ?_ ?_
  · exact T_named_75_ok hO hE v2 v3 v4 s0
  · refine x_aload_nr 0 dX2_named_55 rfl rfl (n := 56) rfl ?_
    refine tw_getA fl_X2_13 rfl (by decide) dX2_named_56 (n := 59) rfl ?_
    refine x_iload 3 dX2_named_59 rfl (n := 61) rfl ?_
    refine x_iconst 1 dX2_named_61 rfl (n := 62) rfl ?_
    refine x_isub dX2_named_62 (n := 63) rfl ?_
    refine tw_iald hE (by decide) dX2_named_63 (n := 64) rfl (fun x9 => ?_)
    refine x_bipush 32 dX2_named_64 rfl (n := 66) rfl ?_
    refine tw_icmp_ne dX2_named_66 (t := 75) (by decide) (n := 69) rfl ?_ ?_
    · exact T_named_75_ok hO hE v2 v3 v4 s0
    · refine tw_iinc 3 (fun x10 => [(4, .int x10), (0, .ref E.2.1), (2, .int v2), (3, .int v3)]) dX2_named_69 rfl rfl (by decide) (fun _ => rfl) (n := 72) rfl (fun x10 => ?_)
      refine x_goto dX2_named_72 (n := 49) (by decide) ?_
      refine x_sub [1, 2, 3, 0] [(0, .ref E.2.1), (2, .int v2), (3, .int v3), (4, .int x10)] rfl ?_
      exact hk49 v2 v3 x10 s0
theorem T_named_49_lp {G : xG} {E : TE} (hO : xOK G) (hE : tok E)   (n : Nat) (v2 : Int32) (v3 : Int32) (v4 : Int32) (s0 : TS) : XT G E "ForestLegsModel" "named" cX2_named 7 (Option.some Jvm.ClassFile.FieldType.int) 1 49 [(0, .ref E.2.1), (2, .int v2), (3, .int v3), (4, .int v4)] [] s0 (lp (T_named_49F) n (v2, v3, v4, s0)) :=
  lp_ok (W := fun p K => XT G E "ForestLegsModel" "named" cX2_named 7 (Option.some Jvm.ClassFile.FieldType.int) 1 49 [(0, .ref E.2.1), (2, .int p.1), (3, .int p.2.1), (4, .int p.2.2.1)] [] p.2.2.2 K) (fun _ => tw_no) (fun k hk => fun (v2, v3, v4, s0) => T_named_49F_ok hO hE (fun v2 v3 v4 s0 => hk (v2, v3, v4, s0)) v2 v3 v4 s0) n (v2, v3, v4, s0)
theorem T_named_26F_ok {G : xG} {E : TE} (hO : xOK G) (hE : tok E)   {k26 : Int32 × Int32 × Int32 × TS → Option (xO × TS)} (hk26 : ∀ (v2 : Int32) (v3 : Int32) (v4 : Int32) (s0 : TS), XT G E "ForestLegsModel" "named" cX2_named 7 (Option.some Jvm.ClassFile.FieldType.int) 1 26 [(0, .ref E.2.1), (2, .int v2), (3, .int v3), (4, .int v4)] [] s0 (k26 (v2, v3, v4, s0))) (v2 : Int32) (v3 : Int32) (v4 : Int32) (s0 : TS) : XT G E "ForestLegsModel" "named" cX2_named 7 (Option.some Jvm.ClassFile.FieldType.int) 1 26 [(0, .ref E.2.1), (2, .int v2), (3, .int v3), (4, .int v4)] [] s0 (T_named_26F k26 (v2, v3, v4, s0)) := by
  unfold T_named_26F
  refine x_iload_n 2 dX2_named_26 rfl rfl (n := 27) rfl ?_
  refine x_iload 3 dX2_named_27 rfl (n := 29) rfl ?_
  refine tw_icmp_ge dX2_named_29 (t := 49) (by decide) (n := 32) rfl ?_ ?_
  · exact T_named_49_lp hO hE FU v2 v3 v4 s0
  · refine x_aload_nr 0 dX2_named_32 rfl rfl (n := 33) rfl ?_
    refine tw_getA fl_X2_13 rfl (by decide) dX2_named_33 (n := 36) rfl ?_
    refine x_iload_n 2 dX2_named_36 rfl rfl (n := 37) rfl ?_
    refine tw_iald hE (by decide) dX2_named_37 (n := 38) rfl (fun x11 => ?_)
    refine x_bipush 32 dX2_named_38 rfl (n := 40) rfl ?_
    refine tw_icmp_ne dX2_named_40 (t := 49) (by decide) (n := 43) rfl ?_ ?_
    · exact T_named_49_lp hO hE FU v2 v3 v4 s0
    · refine tw_iinc 2 (fun x12 => [(3, .int x12), (0, .ref E.2.1), (2, .int v2), (4, .int v4)]) dX2_named_43 rfl rfl (by decide) (fun _ => rfl) (n := 46) rfl (fun x12 => ?_)
      refine x_goto dX2_named_46 (n := 26) (by decide) ?_
      refine x_sub [1, 2, 0, 3] [(0, .ref E.2.1), (2, .int v2), (3, .int x12), (4, .int v4)] rfl ?_
      exact hk26 v2 x12 v4 s0
theorem T_named_26_lp {G : xG} {E : TE} (hO : xOK G) (hE : tok E)   (n : Nat) (v2 : Int32) (v3 : Int32) (v4 : Int32) (s0 : TS) : XT G E "ForestLegsModel" "named" cX2_named 7 (Option.some Jvm.ClassFile.FieldType.int) 1 26 [(0, .ref E.2.1), (2, .int v2), (3, .int v3), (4, .int v4)] [] s0 (lp (T_named_26F) n (v2, v3, v4, s0)) :=
  lp_ok (W := fun p K => XT G E "ForestLegsModel" "named" cX2_named 7 (Option.some Jvm.ClassFile.FieldType.int) 1 26 [(0, .ref E.2.1), (2, .int p.1), (3, .int p.2.1), (4, .int p.2.2.1)] [] p.2.2.2 K) (fun _ => tw_no) (fun k hk => fun (v2, v3, v4, s0) => T_named_26F_ok hO hE (fun v2 v3 v4 s0 => hk (v2, v3, v4, s0)) v2 v3 v4 s0) n (v2, v3, v4, s0)
theorem T_named_24_ok {G : xG} {E : TE} (hO : xOK G) (hE : tok E)   (v2 : Int32) (v3 : Int32) (w0 : Int32) (s0 : TS) : XT G E "ForestLegsModel" "named" cX2_named 7 (Option.some Jvm.ClassFile.FieldType.int) 1 24 [(0, .ref E.2.1), (2, .int v2), (3, .int v3)] [.int w0] s0 (T_named_24 v2 v3 w0 s0) := by
  unfold T_named_24
  refine x_istore [(4, .int w0), (0, .ref E.2.1), (2, .int v2), (3, .int v3)] dX2_named_24 (by decide) rfl (n := 26) rfl ?_
  refine x_sub [1, 2, 3, 0] [(0, .ref E.2.1), (2, .int v2), (3, .int v3), (4, .int w0)] rfl ?_
  exact T_named_26_lp hO hE FU v2 v3 w0 s0
theorem T_named_ok {G : xG} {E : TE} (hO : xOK G) (hE : tok E) (s0 : TS) (a1 : Int32) (a2 : Int32) : CTT G E 1 yX2_named cX2_named 7 (Option.some Jvm.ClassFile.FieldType.int) [.ref E.2.1, .int a1, .int a2] s0 (T_named s0 a1 a2) := by
  refine CT_of hO (by decide +kernel) (by decide +kernel) (Nat.le_of_ble_eq_true rfl) ?_
  show XT G E "ForestLegsModel" "named" cX2_named 7 (Option.some Jvm.ClassFile.FieldType.int) 1 0 [(0, .ref E.2.1), (1, .int a1), (2, .int a2)] [] s0 (T_named s0 a1 a2)
  refine x_aload_nr 0 dX2_named_0 rfl rfl (n := 1) rfl ?_
  refine x_iconst 0 dX2_named_1 rfl (n := 2) rfl ?_
  refine tw_put (pl_X2_50 _ _ ⟨rfl, rfl⟩) rfl (by decide) dX2_named_2 (n := 5) rfl (fun s1 => ?_)
  refine x_iconst 0 dX2_named_5 rfl (n := 6) rfl ?_
  refine x_istore_n [(3, .int 0), (0, .ref E.2.1), (1, .int a1), (2, .int a2)] dX2_named_6 rfl (by decide) rfl (n := 7) rfl ?_
  refine x_iload_n 2 dX2_named_7 rfl rfl (n := 8) rfl ?_
  refine x_iconst 0 dX2_named_8 rfl (n := 9) rfl ?_
  refine x_aload_nr 1 dX2_named_9 rfl rfl (n := 10) rfl ?_
  refine tw_getI fl_X2_56 rfl (by decide) dX2_named_10 (n := 13) rfl ?_
  refine tw_callS_I [.int a1, .int 0, .int (s1.1 5)] [] (T_in_ok hO hE s1 a1 0 (s1.1 5)) md_X2_in q3016 q3017 dX2_named_13 rfl rfl (by decide) (Nat.le_of_ble_eq_true rfl) (n := 16) rfl (fun x3 s2 => ?_)
  refine tw_if_eq dX2_named_16 (t := 23) (by decide) (n := 19) rfl ?_ ?_
  · refine x_iconst 0 dX2_named_23 rfl (n := 24) rfl ?_
    refine x_sub [1, 3, 0] [(0, .ref E.2.1), (2, .int a2), (3, .int 0)] rfl ?_
    exact T_named_24_ok hO hE a2 0 0 s2
  · refine x_iload_n 2 dX2_named_19 rfl rfl (n := 20) rfl ?_
    refine x_goto dX2_named_20 (n := 24) (by decide) ?_
    refine x_sub [1, 3, 0] [(0, .ref E.2.1), (2, .int a2), (3, .int 0)] rfl ?_
    exact T_named_24_ok hO hE a2 0 a1 s2
abbrev cX2_size : ByteArray := prog_14_method_116_code
def yX2_size : MethodName := ⟨RX2, "size", "()I"⟩
def dkwX2_size_0 : List UInt8 := [42, 3, 181, 0, 50, 42, 180, 0, 56, 172]
abbrev dktX2_size_0 : List UInt8 := dkwX2_size_0 ++ []
theorem dksX2_size_0 : cX2_size.data.toList.drop 0 = dktX2_size_0 := by decide +kernel
theorem dX2_size_0 : decode cX2_size 0 = .ok (.aload_n 0, 1) := dk_42 (dk_at dksX2_size_0 0 rfl rfl)
theorem dX2_size_1 : decode cX2_size 1 = .ok (.iconst 0, 1) := dk_3 (dk_at dksX2_size_0 1 rfl rfl)
theorem dX2_size_2 : decode cX2_size 2 = .ok (.putfield 50, 3) := dk_181 0 50 (dk_at dksX2_size_0 2 rfl rfl)
theorem dX2_size_5 : decode cX2_size 5 = .ok (.aload_n 0, 1) := dk_42 (dk_at dksX2_size_0 5 rfl rfl)
theorem dX2_size_6 : decode cX2_size 6 = .ok (.getfield 56, 3) := dk_180 0 56 (dk_at dksX2_size_0 6 rfl rfl)
theorem dX2_size_9 : decode cX2_size 9 = .ok (.ireturn, 1) := dk_172 (dk_at dksX2_size_0 9 rfl rfl)
theorem md_X2_size : xMd yX2_size cX2_size 1 (Option.some Jvm.ClassFile.FieldType.int) 0 := ⟨q3469, q126, by decide, by decide +kernel, by decide +kernel, by decide +kernel⟩
def T_size (s0 : TS)  : Option (xO × TS) :=
  (bnd (tI s0 0 0) fun s1 =>
  (rI (s1.1 5) s1))
theorem T_size_ok {G : xG} {E : TE} (hO : xOK G) (hE : tok E) (s0 : TS)  : CTT G E 0 yX2_size cX2_size 1 (Option.some Jvm.ClassFile.FieldType.int) [.ref E.2.1] s0 (T_size s0 ) := by
  refine CT_of hO (by decide +kernel) (by decide +kernel) (Nat.le_of_ble_eq_true rfl) ?_
  show XT G E "ForestLegsModel" "size" cX2_size 1 (Option.some Jvm.ClassFile.FieldType.int) 0 0 [(0, .ref E.2.1)] [] s0 (T_size s0 )
  refine x_aload_nr 0 dX2_size_0 rfl rfl (n := 1) rfl ?_
  refine x_iconst 0 dX2_size_1 rfl (n := 2) rfl ?_
  refine tw_put (pl_X2_50 _ _ ⟨rfl, rfl⟩) rfl (by decide) dX2_size_2 (n := 5) rfl (fun s1 => ?_)
  refine x_aload_nr 0 dX2_size_5 rfl rfl (n := 6) rfl ?_
  refine tw_getI fl_X2_56 rfl (by decide) dX2_size_6 (n := 9) rfl ?_
  exact tw_ireturn dX2_size_9
abbrev cX2_trouble : ByteArray := prog_14_method_117_code
def yX2_trouble : MethodName := ⟨RX2, "trouble", "()I"⟩
def dkwX2_trouble_0 : List UInt8 := [42, 3, 181, 0, 50, 42, 180, 0, 53, 172]
abbrev dktX2_trouble_0 : List UInt8 := dkwX2_trouble_0 ++ []
theorem dksX2_trouble_0 : cX2_trouble.data.toList.drop 0 = dktX2_trouble_0 := by decide +kernel
theorem dX2_trouble_0 : decode cX2_trouble 0 = .ok (.aload_n 0, 1) := dk_42 (dk_at dksX2_trouble_0 0 rfl rfl)
theorem dX2_trouble_1 : decode cX2_trouble 1 = .ok (.iconst 0, 1) := dk_3 (dk_at dksX2_trouble_0 1 rfl rfl)
theorem dX2_trouble_2 : decode cX2_trouble 2 = .ok (.putfield 50, 3) := dk_181 0 50 (dk_at dksX2_trouble_0 2 rfl rfl)
theorem dX2_trouble_5 : decode cX2_trouble 5 = .ok (.aload_n 0, 1) := dk_42 (dk_at dksX2_trouble_0 5 rfl rfl)
theorem dX2_trouble_6 : decode cX2_trouble 6 = .ok (.getfield 53, 3) := dk_180 0 53 (dk_at dksX2_trouble_0 6 rfl rfl)
theorem dX2_trouble_9 : decode cX2_trouble 9 = .ok (.ireturn, 1) := dk_172 (dk_at dksX2_trouble_0 9 rfl rfl)
theorem md_X2_trouble : xMd yX2_trouble cX2_trouble 1 (Option.some Jvm.ClassFile.FieldType.int) 0 := ⟨q3473, q126, by decide, by decide +kernel, by decide +kernel, by decide +kernel⟩
def T_trouble (s0 : TS)  : Option (xO × TS) :=
  (bnd (tI s0 0 0) fun s1 =>
  (rI (s1.1 1) s1))
theorem T_trouble_ok {G : xG} {E : TE} (hO : xOK G) (hE : tok E) (s0 : TS)  : CTT G E 0 yX2_trouble cX2_trouble 1 (Option.some Jvm.ClassFile.FieldType.int) [.ref E.2.1] s0 (T_trouble s0 ) := by
  refine CT_of hO (by decide +kernel) (by decide +kernel) (Nat.le_of_ble_eq_true rfl) ?_
  show XT G E "ForestLegsModel" "trouble" cX2_trouble 1 (Option.some Jvm.ClassFile.FieldType.int) 0 0 [(0, .ref E.2.1)] [] s0 (T_trouble s0 )
  refine x_aload_nr 0 dX2_trouble_0 rfl rfl (n := 1) rfl ?_
  refine x_iconst 0 dX2_trouble_1 rfl (n := 2) rfl ?_
  refine tw_put (pl_X2_50 _ _ ⟨rfl, rfl⟩) rfl (by decide) dX2_trouble_2 (n := 5) rfl (fun s1 => ?_)
  refine x_aload_nr 0 dX2_trouble_5 rfl rfl (n := 6) rfl ?_
  refine tw_getI fl_X2_53 rfl (by decide) dX2_trouble_6 (n := 9) rfl ?_
  exact tw_ireturn dX2_trouble_9
