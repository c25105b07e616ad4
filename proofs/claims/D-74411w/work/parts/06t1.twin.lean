set_option maxRecDepth 100000
set_option maxHeartbeats 4000000
theorem fl_X2_50 : xFL "ForestLegsModel" 50 1 0 := ⟨_, _, _, _, _, cl_1, by decide, Or.inl q2903, Or.inl rfl⟩
theorem pl_X2_50 (nm : String) (v : Value) (h : xfit (tyX2 0) v) : xPL "ForestLegsModel" 50 1 0 nm v := ⟨_, _, _, _, _, cl_1, by decide, Or.inl q2903, Or.inl rfl, Or.inl rfl, h⟩
theorem fl_X2_56 : xFL "ForestLegsModel" 56 1 5 := ⟨_, _, _, _, _, cl_1, by decide, Or.inl q2908, Or.inl rfl⟩
theorem pl_X2_56 (nm : String) (v : Value) (h : xfit (tyX2 5) v) : xPL "ForestLegsModel" 56 1 5 nm v := ⟨_, _, _, _, _, cl_1, by decide, Or.inl q2908, Or.inl rfl, Or.inl rfl, h⟩
theorem fl_X2_13 : xFL "ForestLegsModel" 13 1 4 := ⟨_, _, _, _, _, cl_1, by decide, Or.inl q2907, Or.inl rfl⟩
theorem pl_X2_13 (v : Value) (h : xfit (tyX2 4) v) : xPL "ForestLegsModel" 13 1 4 "<init>" v := ⟨_, _, _, _, _, cl_1, by decide, Or.inl q2907, Or.inl rfl, Or.inr ⟨rfl, rfl, rfl⟩, h⟩
theorem fl_X2_9 : xFL "ForestLegsModel" 9 1 3 := ⟨_, _, _, _, _, cl_1, by decide, Or.inl q2906, Or.inl rfl⟩
theorem pl_X2_9 (nm : String) (v : Value) (h : xfit (tyX2 3) v) : xPL "ForestLegsModel" 9 1 3 nm v := ⟨_, _, _, _, _, cl_1, by decide, Or.inl q2906, Or.inl rfl, Or.inl rfl, h⟩
theorem fl_X2_53 : xFL "ForestLegsModel" 53 1 1 := ⟨_, _, _, _, _, cl_1, by decide, Or.inl q2904, Or.inl rfl⟩
theorem pl_X2_53 (nm : String) (v : Value) (h : xfit (tyX2 1) v) : xPL "ForestLegsModel" 53 1 1 nm v := ⟨_, _, _, _, _, cl_1, by decide, Or.inl q2904, Or.inl rfl, Or.inl rfl, h⟩
theorem fl_X2_63 : xFL "ForestLegsModel" 63 1 11 := ⟨_, _, _, _, _, cl_1, by decide, Or.inl q2914, Or.inl rfl⟩
theorem pl_X2_63 (nm : String) (v : Value) (h : xfit (tyX2 11) v) : xPL "ForestLegsModel" 63 1 11 nm v := ⟨_, _, _, _, _, cl_1, by decide, Or.inl q2914, Or.inl rfl, Or.inl rfl, h⟩
theorem fl_X2_66 : xFL "ForestLegsModel" 66 1 13 := ⟨_, _, _, _, _, cl_1, by decide, Or.inl q2916, Or.inl rfl⟩
theorem pl_X2_66 (nm : String) (v : Value) (h : xfit (tyX2 13) v) : xPL "ForestLegsModel" 66 1 13 nm v := ⟨_, _, _, _, _, cl_1, by decide, Or.inl q2916, Or.inl rfl, Or.inl rfl, h⟩
theorem fl_X2_73 : xFL "ForestLegsModel" 73 1 12 := ⟨_, _, _, _, _, cl_1, by decide, Or.inl q2915, Or.inl rfl⟩
theorem pl_X2_73 (nm : String) (v : Value) (h : xfit (tyX2 12) v) : xPL "ForestLegsModel" 73 1 12 nm v := ⟨_, _, _, _, _, cl_1, by decide, Or.inl q2915, Or.inl rfl, Or.inl rfl, h⟩
theorem fl_X2_76 : xFL "ForestLegsModel" 76 1 14 := ⟨_, _, _, _, _, cl_1, by decide, Or.inl q2917, Or.inl rfl⟩
theorem pl_X2_76 (nm : String) (v : Value) (h : xfit (tyX2 14) v) : xPL "ForestLegsModel" 76 1 14 nm v := ⟨_, _, _, _, _, cl_1, by decide, Or.inl q2917, Or.inl rfl, Or.inl rfl, h⟩
theorem fl_X2_83 : xFL "ForestLegsModel" 83 1 15 := ⟨_, _, _, _, _, cl_1, by decide, Or.inl q2918, Or.inl rfl⟩
theorem pl_X2_83 (nm : String) (v : Value) (h : xfit (tyX2 15) v) : xPL "ForestLegsModel" 83 1 15 nm v := ⟨_, _, _, _, _, cl_1, by decide, Or.inl q2918, Or.inl rfl, Or.inl rfl, h⟩
theorem fl_X2_96 : xFL "ForestLegsModel" 96 1 17 := ⟨_, _, _, _, _, cl_1, by decide, Or.inl q2920, Or.inl rfl⟩
theorem pl_X2_96 (nm : String) (v : Value) (h : xfit (tyX2 17) v) : xPL "ForestLegsModel" 96 1 17 nm v := ⟨_, _, _, _, _, cl_1, by decide, Or.inl q2920, Or.inl rfl, Or.inl rfl, h⟩
theorem fl_X2_99 : xFL "ForestLegsModel" 99 1 18 := ⟨_, _, _, _, _, cl_1, by decide, Or.inl q2921, Or.inl rfl⟩
theorem pl_X2_99 (nm : String) (v : Value) (h : xfit (tyX2 18) v) : xPL "ForestLegsModel" 99 1 18 nm v := ⟨_, _, _, _, _, cl_1, by decide, Or.inl q2921, Or.inl rfl, Or.inl rfl, h⟩
theorem fl_X2_26 : xFL "ForestLegsModel" 26 1 10 := ⟨_, _, _, _, _, cl_1, by decide, Or.inl q2913, Or.inl rfl⟩
theorem pl_X2_26 (v : Value) (h : xfit (tyX2 10) v) : xPL "ForestLegsModel" 26 1 10 "<init>" v := ⟨_, _, _, _, _, cl_1, by decide, Or.inl q2913, Or.inl rfl, Or.inr ⟨rfl, rfl, rfl⟩, h⟩
theorem fl_X2_20 : xFL "ForestLegsModel" 20 1 8 := ⟨_, _, _, _, _, cl_1, by decide, Or.inl q2911, Or.inl rfl⟩
theorem pl_X2_20 (v : Value) (h : xfit (tyX2 8) v) : xPL "ForestLegsModel" 20 1 8 "<init>" v := ⟨_, _, _, _, _, cl_1, by decide, Or.inl q2911, Or.inl rfl, Or.inr ⟨rfl, rfl, rfl⟩, h⟩
theorem fl_X2_142 : xFL "ForestLegsModel" 142 1 16 := ⟨_, _, _, _, _, cl_1, by decide, Or.inl q2919, Or.inl rfl⟩
theorem pl_X2_142 (nm : String) (v : Value) (h : xfit (tyX2 16) v) : xPL "ForestLegsModel" 142 1 16 nm v := ⟨_, _, _, _, _, cl_1, by decide, Or.inl q2919, Or.inl rfl, Or.inl rfl, h⟩
theorem fl_X2_164 : xFL "ForestLegsModel" 164 1 2 := ⟨_, _, _, _, _, cl_1, by decide, Or.inl q2905, Or.inl rfl⟩
theorem pl_X2_164 (nm : String) (v : Value) (h : xfit (tyX2 2) v) : xPL "ForestLegsModel" 164 1 2 nm v := ⟨_, _, _, _, _, cl_1, by decide, Or.inl q2905, Or.inl rfl, Or.inl rfl, h⟩
theorem fl_X2_173 : xFL "ForestLegsModel" 173 1 6 := ⟨_, _, _, _, _, cl_1, by decide, Or.inl q2909, Or.inl rfl⟩
theorem pl_X2_173 (nm : String) (v : Value) (h : xfit (tyX2 6) v) : xPL "ForestLegsModel" 173 1 6 nm v := ⟨_, _, _, _, _, cl_1, by decide, Or.inl q2909, Or.inl rfl, Or.inl rfl, h⟩
theorem fl_X2_177 : xFL "ForestLegsModel" 177 1 30 := ⟨_, _, _, _, _, cl_1, by decide, Or.inl q2933, Or.inl rfl⟩
theorem pl_X2_177 (nm : String) (v : Value) (h : xfit (tyX2 30) v) : xPL "ForestLegsModel" 177 1 30 nm v := ⟨_, _, _, _, _, cl_1, by decide, Or.inl q2933, Or.inl rfl, Or.inl rfl, h⟩
theorem fl_X2_17 : xFL "ForestLegsModel" 17 1 7 := ⟨_, _, _, _, _, cl_1, by decide, Or.inl q2910, Or.inl rfl⟩
theorem pl_X2_17 (v : Value) (h : xfit (tyX2 7) v) : xPL "ForestLegsModel" 17 1 7 "<init>" v := ⟨_, _, _, _, _, cl_1, by decide, Or.inl q2910, Or.inl rfl, Or.inr ⟨rfl, rfl, rfl⟩, h⟩
theorem fl_X2_23 : xFL "ForestLegsModel" 23 1 9 := ⟨_, _, _, _, _, cl_1, by decide, Or.inl q2912, Or.inl rfl⟩
theorem pl_X2_23 (v : Value) (h : xfit (tyX2 9) v) : xPL "ForestLegsModel" 23 1 9 "<init>" v := ⟨_, _, _, _, _, cl_1, by decide, Or.inl q2912, Or.inl rfl, Or.inr ⟨rfl, rfl, rfl⟩, h⟩
theorem fl_X2_32 : xFL "ForestLegsModel" 32 1 20 := ⟨_, _, _, _, _, cl_1, by decide, Or.inl q2923, Or.inl rfl⟩
theorem pl_X2_32 (v : Value) (h : xfit (tyX2 20) v) : xPL "ForestLegsModel" 32 1 20 "<init>" v := ⟨_, _, _, _, _, cl_1, by decide, Or.inl q2923, Or.inl rfl, Or.inr ⟨rfl, rfl, rfl⟩, h⟩
theorem fl_X2_29 : xFL "ForestLegsModel" 29 1 19 := ⟨_, _, _, _, _, cl_1, by decide, Or.inl q2922, Or.inl rfl⟩
theorem pl_X2_29 (v : Value) (h : xfit (tyX2 19) v) : xPL "ForestLegsModel" 29 1 19 "<init>" v := ⟨_, _, _, _, _, cl_1, by decide, Or.inl q2922, Or.inl rfl, Or.inr ⟨rfl, rfl, rfl⟩, h⟩
theorem fl_X2_35 : xFL "ForestLegsModel" 35 1 21 := ⟨_, _, _, _, _, cl_1, by decide, Or.inl q2924, Or.inl rfl⟩
theorem pl_X2_35 (v : Value) (h : xfit (tyX2 21) v) : xPL "ForestLegsModel" 35 1 21 "<init>" v := ⟨_, _, _, _, _, cl_1, by decide, Or.inl q2924, Or.inl rfl, Or.inr ⟨rfl, rfl, rfl⟩, h⟩
theorem fl_X2_267 : xFL "ForestLegsModel" 267 1 23 := ⟨_, _, _, _, _, cl_1, by decide, Or.inl q2926, Or.inl rfl⟩
theorem pl_X2_267 (nm : String) (v : Value) (h : xfit (tyX2 23) v) : xPL "ForestLegsModel" 267 1 23 nm v := ⟨_, _, _, _, _, cl_1, by decide, Or.inl q2926, Or.inl rfl, Or.inl rfl, h⟩
theorem fl_X2_38 : xFL "ForestLegsModel" 38 1 22 := ⟨_, _, _, _, _, cl_1, by decide, Or.inl q2925, Or.inl rfl⟩
theorem pl_X2_38 (v : Value) (h : xfit (tyX2 22) v) : xPL "ForestLegsModel" 38 1 22 "<init>" v := ⟨_, _, _, _, _, cl_1, by decide, Or.inl q2925, Or.inl rfl, Or.inr ⟨rfl, rfl, rfl⟩, h⟩
theorem fl_X2_270 : xFL "ForestLegsModel" 270 1 24 := ⟨_, _, _, _, _, cl_1, by decide, Or.inl q2927, Or.inl rfl⟩
theorem pl_X2_270 (nm : String) (v : Value) (h : xfit (tyX2 24) v) : xPL "ForestLegsModel" 270 1 24 nm v := ⟨_, _, _, _, _, cl_1, by decide, Or.inl q2927, Or.inl rfl, Or.inl rfl, h⟩
theorem fl_X2_294 : xFL "ForestLegsModel" 294 1 27 := ⟨_, _, _, _, _, cl_1, by decide, Or.inl q2930, Or.inl rfl⟩
theorem pl_X2_294 (nm : String) (v : Value) (h : xfit (tyX2 27) v) : xPL "ForestLegsModel" 294 1 27 nm v := ⟨_, _, _, _, _, cl_1, by decide, Or.inl q2930, Or.inl rfl, Or.inl rfl, h⟩
theorem fl_X2_41 : xFL "ForestLegsModel" 41 1 25 := ⟨_, _, _, _, _, cl_1, by decide, Or.inl q2928, Or.inl rfl⟩
theorem pl_X2_41 (v : Value) (h : xfit (tyX2 25) v) : xPL "ForestLegsModel" 41 1 25 "<init>" v := ⟨_, _, _, _, _, cl_1, by decide, Or.inl q2928, Or.inl rfl, Or.inr ⟨rfl, rfl, rfl⟩, h⟩
theorem fl_X2_44 : xFL "ForestLegsModel" 44 1 26 := ⟨_, _, _, _, _, cl_1, by decide, Or.inl q2929, Or.inl rfl⟩
theorem pl_X2_44 (v : Value) (h : xfit (tyX2 26) v) : xPL "ForestLegsModel" 44 1 26 "<init>" v := ⟨_, _, _, _, _, cl_1, by decide, Or.inl q2929, Or.inl rfl, Or.inr ⟨rfl, rfl, rfl⟩, h⟩
theorem fl_X2_297 : xFL "ForestLegsModel" 297 1 28 := ⟨_, _, _, _, _, cl_1, by decide, Or.inl q2931, Or.inl rfl⟩
theorem pl_X2_297 (nm : String) (v : Value) (h : xfit (tyX2 28) v) : xPL "ForestLegsModel" 297 1 28 nm v := ⟨_, _, _, _, _, cl_1, by decide, Or.inl q2931, Or.inl rfl, Or.inl rfl, h⟩
theorem fl_X2_300 : xFL "ForestLegsModel" 300 1 29 := ⟨_, _, _, _, _, cl_1, by decide, Or.inl q2932, Or.inl rfl⟩
theorem pl_X2_300 (nm : String) (v : Value) (h : xfit (tyX2 29) v) : xPL "ForestLegsModel" 300 1 29 nm v := ⟨_, _, _, _, _, cl_1, by decide, Or.inl q2932, Or.inl rfl, Or.inl rfl, h⟩
theorem fl_X2_47 : xFL "ForestLegsModel" 47 1 31 := ⟨_, _, _, _, _, cl_1, by decide, Or.inl q2934, Or.inl rfl⟩
theorem pl_X2_47 (v : Value) (h : xfit (tyX2 31) v) : xPL "ForestLegsModel" 47 1 31 "<init>" v := ⟨_, _, _, _, _, cl_1, by decide, Or.inl q2934, Or.inl rfl, Or.inr ⟨rfl, rfl, rfl⟩, h⟩
abbrev cX2_thrown : ByteArray := prog_14_method_2_code
def yX2_thrown : MethodName := ⟨RX2, "thrown", "()I"⟩
theorem dX2_thrown_0 : decode cX2_thrown 0 = .ok (.aload_n 0, 1) := by decide +kernel
theorem dX2_thrown_1 : decode cX2_thrown 1 = .ok (.getfield 50, 3) := by decide +kernel
theorem dX2_thrown_4 : decode cX2_thrown 4 = .ok (.ireturn, 1) := by decide +kernel
theorem md_X2_thrown : xMd yX2_thrown cX2_thrown 1 (Option.some Jvm.ClassFile.FieldType.int) 0 := ⟨q3003, q126, by decide, by decide +kernel, by decide +kernel, by decide +kernel⟩
def T_thrown (s0 : TS)  : Option (xO × TS) :=
  (rI (s0.1 0) s0)
theorem T_thrown_ok {G : xG} {E : TE} (hO : xOK G) (hE : tok E) (s0 : TS)  : CTT G E 0 yX2_thrown cX2_thrown 1 (Option.some Jvm.ClassFile.FieldType.int) [.ref E.2.1] s0 (T_thrown s0 ) := by
  refine CT_of hO (by decide +kernel) (by decide +kernel) (Nat.le_of_ble_eq_true rfl) ?_
  show XT G E "ForestLegsModel" "thrown" cX2_thrown 1 (Option.some Jvm.ClassFile.FieldType.int) 0 0 [(0, .ref E.2.1)] [] s0 (T_thrown s0 )
  refine x_aload_nr 0 dX2_thrown_0 rfl rfl (n := 1) rfl ?_
  refine tw_getI fl_X2_50 rfl (by decide) dX2_thrown_1 (n := 4) rfl ?_
  exact tw_ireturn dX2_thrown_4
abbrev cX2_laysWord : ByteArray := prog_14_method_9_code
def yX2_laysWord : MethodName := ⟨RX2, "laysWord", "(I)V"⟩
def dkwX2_laysWord_1 : List UInt8 := [100, 122, 17, 0, 255, 126, 79, 132, 2, 1, 167, 255, 224, 42, 89, 180, 0, 56, 7, 96, 181, 0, 56, 177]
abbrev dktX2_laysWord_1 : List UInt8 := dkwX2_laysWord_1 ++ []
def dkwX2_laysWord_0 : List UInt8 := [3, 61, 28, 7, 162, 0, 33, 42, 180, 0, 13, 42, 180, 0, 56, 28, 96, 27, 16, 24, 16, 8, 28, 104]
abbrev dktX2_laysWord_0 : List UInt8 := dkwX2_laysWord_0 ++ dktX2_laysWord_1
theorem dksX2_laysWord_0 : cX2_laysWord.data.toList.drop 0 = dktX2_laysWord_0 := by decide +kernel
theorem dksX2_laysWord_1 : cX2_laysWord.data.toList.drop 24 = dktX2_laysWord_1 := dk_seg dksX2_laysWord_0 24 rfl rfl
theorem dX2_laysWord_0 : decode cX2_laysWord 0 = .ok (.iconst 0, 1) := dk_3 (dk_at dksX2_laysWord_0 0 rfl rfl)
theorem dX2_laysWord_1 : decode cX2_laysWord 1 = .ok (.istore_n 2, 1) := dk_61 (dk_at dksX2_laysWord_0 1 rfl rfl)
theorem dX2_laysWord_2 : decode cX2_laysWord 2 = .ok (.iload_n 2, 1) := dk_28 (dk_at dksX2_laysWord_0 2 rfl rfl)
theorem dX2_laysWord_3 : decode cX2_laysWord 3 = .ok (.iconst 4, 1) := dk_7 (dk_at dksX2_laysWord_0 3 rfl rfl)
theorem dX2_laysWord_4 : decode cX2_laysWord 4 = .ok (.if_icmp .ge 33, 3) := dk_162 0 33 (dk_at dksX2_laysWord_0 4 rfl rfl)
theorem dX2_laysWord_7 : decode cX2_laysWord 7 = .ok (.aload_n 0, 1) := dk_42 (dk_at dksX2_laysWord_0 7 rfl rfl)
theorem dX2_laysWord_8 : decode cX2_laysWord 8 = .ok (.getfield 13, 3) := dk_180 0 13 (dk_at dksX2_laysWord_0 8 rfl rfl)
theorem dX2_laysWord_11 : decode cX2_laysWord 11 = .ok (.aload_n 0, 1) := dk_42 (dk_at dksX2_laysWord_0 11 rfl rfl)
theorem dX2_laysWord_12 : decode cX2_laysWord 12 = .ok (.getfield 56, 3) := dk_180 0 56 (dk_at dksX2_laysWord_0 12 rfl rfl)
theorem dX2_laysWord_15 : decode cX2_laysWord 15 = .ok (.iload_n 2, 1) := dk_28 (dk_at dksX2_laysWord_0 15 rfl rfl)
theorem dX2_laysWord_16 : decode cX2_laysWord 16 = .ok (.iadd, 1) := dk_96 (dk_at dksX2_laysWord_0 16 rfl rfl)
theorem dX2_laysWord_17 : decode cX2_laysWord 17 = .ok (.iload_n 1, 1) := dk_27 (dk_at dksX2_laysWord_0 17 rfl rfl)
theorem dX2_laysWord_18 : decode cX2_laysWord 18 = .ok (.bipush 24, 2) := dk_16 24 (dk_at dksX2_laysWord_0 18 rfl rfl)
theorem dX2_laysWord_20 : decode cX2_laysWord 20 = .ok (.bipush 8, 2) := dk_16 8 (dk_at dksX2_laysWord_0 20 rfl rfl)
theorem dX2_laysWord_22 : decode cX2_laysWord 22 = .ok (.iload_n 2, 1) := dk_28 (dk_at dksX2_laysWord_0 22 rfl rfl)
theorem dX2_laysWord_23 : decode cX2_laysWord 23 = .ok (.imul, 1) := dk_104 (dk_at dksX2_laysWord_0 23 rfl rfl)
theorem dX2_laysWord_24 : decode cX2_laysWord 24 = .ok (.isub, 1) := dk_100 (dk_at dksX2_laysWord_1 0 rfl rfl)
theorem dX2_laysWord_25 : decode cX2_laysWord 25 = .ok (.ishr, 1) := dk_122 (dk_at dksX2_laysWord_1 1 rfl rfl)
theorem dX2_laysWord_26 : decode cX2_laysWord 26 = .ok (.sipush 255, 3) := dk_17 0 255 (dk_at dksX2_laysWord_1 2 rfl rfl)
theorem dX2_laysWord_29 : decode cX2_laysWord 29 = .ok (.iand, 1) := dk_126 (dk_at dksX2_laysWord_1 5 rfl rfl)
theorem dX2_laysWord_30 : decode cX2_laysWord 30 = .ok (.iastore, 1) := dk_79 (dk_at dksX2_laysWord_1 6 rfl rfl)
theorem dX2_laysWord_31 : decode cX2_laysWord 31 = .ok (.iinc 2 1, 3) := dk_132 2 1 (dk_at dksX2_laysWord_1 7 rfl rfl)
theorem dX2_laysWord_34 : decode cX2_laysWord 34 = .ok (.goto (-32), 3) := dk_167 255 224 (dk_at dksX2_laysWord_1 10 rfl rfl)
theorem dX2_laysWord_37 : decode cX2_laysWord 37 = .ok (.aload_n 0, 1) := dk_42 (dk_at dksX2_laysWord_1 13 rfl rfl)
theorem dX2_laysWord_38 : decode cX2_laysWord 38 = .ok (.dup, 1) := dk_89 (dk_at dksX2_laysWord_1 14 rfl rfl)
theorem dX2_laysWord_39 : decode cX2_laysWord 39 = .ok (.getfield 56, 3) := dk_180 0 56 (dk_at dksX2_laysWord_1 15 rfl rfl)
theorem dX2_laysWord_42 : decode cX2_laysWord 42 = .ok (.iconst 4, 1) := dk_7 (dk_at dksX2_laysWord_1 18 rfl rfl)
theorem dX2_laysWord_43 : decode cX2_laysWord 43 = .ok (.iadd, 1) := dk_96 (dk_at dksX2_laysWord_1 19 rfl rfl)
theorem dX2_laysWord_44 : decode cX2_laysWord 44 = .ok (.putfield 56, 3) := dk_181 0 56 (dk_at dksX2_laysWord_1 20 rfl rfl)
theorem dX2_laysWord_47 : decode cX2_laysWord 47 = .ok (.return_, 1) := dk_177 (dk_at dksX2_laysWord_1 23 rfl rfl)
theorem md_X2_laysWord : xMd yX2_laysWord cX2_laysWord 3 (Option.none : Option Jvm.ClassFile.FieldType) 1 := ⟨q3011, q126, by decide, by decide +kernel, by decide +kernel, by decide +kernel⟩
def T_laysWord_2F   (k2 : Int32 × Int32 × TS → Option (xO × TS)) (p : Int32 × Int32 × TS) : Option (xO × TS) := match p with
  | (v1, v2, s0) => (if 4 ≤ v2 then
  (bnd (tI s0 5 ((s0.1 5) + 4)) fun s1 =>
  (rV s1)) else
  (tast s0 4 ((s0.1 5) + v2) ((v1 >>> ((24 - (8 * v2)) &&& 31)) &&& 255) fun s2 =>
  (bnd (v2 + 1) fun x3 =>
  (k2 (v1, x3, s2)))))
def T_laysWord (s0 : TS) (a1 : Int32) : Option (xO × TS) :=
  (lp (T_laysWord_2F) FU (a1, 0, s0))
theorem T_laysWord_2F_ok {G : xG} {E : TE} (hO : xOK G) (hE : tok E)   {k2 : Int32 × Int32 × TS → Option (xO × TS)} (hk2 : ∀ (v1 : Int32) (v2 : Int32) (s0 : TS), XT G E "ForestLegsModel" "laysWord" cX2_laysWord 3 (Option.none : Option Jvm.ClassFile.FieldType) 0 2 [(0, .ref E.2.1), (1, .int v1), (2, .int v2)] [] s0 (k2 (v1, v2, s0))) (v1 : Int32) (v2 : Int32) (s0 : TS) : XT G E "ForestLegsModel" "laysWord" cX2_laysWord 3 (Option.none : Option Jvm.ClassFile.FieldType) 0 2 [(0, .ref E.2.1), (1, .int v1), (2, .int v2)] [] s0 (T_laysWord_2F k2 (v1, v2, s0)) := by
  unfold T_laysWord_2F
  refine x_iload_n 2 dX2_laysWord_2 rfl rfl (n := 3) rfl ?_
  refine x_iconst 4 dX2_laysWord_3 rfl (n := 4) rfl ?_
  refine tw_icmp_ge dX2_laysWord_4 (t := 37) (by decide) (n := 7) rfl ?_ ?_
  · refine x_aload_nr 0 dX2_laysWord_37 rfl rfl (n := 38) rfl ?_
    refine x_dup dX2_laysWord_38 rfl (n := 39) rfl ?_
    refine tw_getI fl_X2_56 rfl (by decide) dX2_laysWord_39 (n := 42) rfl ?_
    refine x_iconst 4 dX2_laysWord_42 rfl (n := 43) rfl ?_
    refine x_iadd dX2_laysWord_43 (n := 44) rfl ?_
    refine tw_put (pl_X2_56 _ _ ⟨rfl, rfl⟩) rfl (by decide) dX2_laysWord_44 (n := 47) rfl (fun s1 => ?_)
    exact tw_return dX2_laysWord_47
  · refine x_aload_nr 0 dX2_laysWord_7 rfl rfl (n := 8) rfl ?_
    refine tw_getA fl_X2_13 rfl (by decide) dX2_laysWord_8 (n := 11) rfl ?_
    refine x_aload_nr 0 dX2_laysWord_11 rfl rfl (n := 12) rfl ?_
    refine tw_getI fl_X2_56 rfl (by decide) dX2_laysWord_12 (n := 15) rfl ?_
    refine x_iload_n 2 dX2_laysWord_15 rfl rfl (n := 16) rfl ?_
    refine x_iadd dX2_laysWord_16 (n := 17) rfl ?_
    refine x_iload_n 1 dX2_laysWord_17 rfl rfl (n := 18) rfl ?_
    refine x_bipush 24 dX2_laysWord_18 rfl (n := 20) rfl ?_
    refine x_bipush 8 dX2_laysWord_20 rfl (n := 22) rfl ?_
    refine x_iload_n 2 dX2_laysWord_22 rfl rfl (n := 23) rfl ?_
    refine x_imul dX2_laysWord_23 (n := 24) rfl ?_
    refine x_isub dX2_laysWord_24 (n := 25) rfl ?_
    refine x_ishr dX2_laysWord_25 (n := 26) rfl ?_
    refine x_sipush 255 dX2_laysWord_26 rfl (n := 29) rfl ?_
    refine x_iand dX2_laysWord_29 (n := 30) rfl ?_
    refine tw_iast hE (by decide) dX2_laysWord_30 (n := 31) rfl (fun s2 => ?_)
    refine tw_iinc 2 (fun x3 => [(2, .int x3), (0, .ref E.2.1), (1, .int v1)]) dX2_laysWord_31 rfl rfl (by decide) (fun _ => rfl) (n := 34) rfl (fun x3 => ?_)
    refine x_goto dX2_laysWord_34 (n := 2) (by decide) ?_
    refine x_sub [1, 2, 0] [(0, .ref E.2.1), (1, .int v1), (2, .int x3)] rfl ?_
    exact hk2 v1 x3 s2
theorem T_laysWord_2_lp {G : xG} {E : TE} (hO : xOK G) (hE : tok E)   (n : Nat) (v1 : Int32) (v2 : Int32) (s0 : TS) : XT G E "ForestLegsModel" "laysWord" cX2_laysWord 3 (Option.none : Option Jvm.ClassFile.FieldType) 0 2 [(0, .ref E.2.1), (1, .int v1), (2, .int v2)] [] s0 (lp (T_laysWord_2F) n (v1, v2, s0)) :=
  lp_ok (W := fun p K => XT G E "ForestLegsModel" "laysWord" cX2_laysWord 3 (Option.none : Option Jvm.ClassFile.FieldType) 0 2 [(0, .ref E.2.1), (1, .int p.1), (2, .int p.2.1)] [] p.2.2 K) (fun _ => tw_no) (fun k hk => fun (v1, v2, s0) => T_laysWord_2F_ok hO hE (fun v1 v2 s0 => hk (v1, v2, s0)) v1 v2 s0) n (v1, v2, s0)
theorem T_laysWord_ok {G : xG} {E : TE} (hO : xOK G) (hE : tok E) (s0 : TS) (a1 : Int32) : CTT G E 0 yX2_laysWord cX2_laysWord 3 (Option.none : Option Jvm.ClassFile.FieldType) [.ref E.2.1, .int a1] s0 (T_laysWord s0 a1) := by
  refine CT_of hO (by decide +kernel) (by decide +kernel) (Nat.le_of_ble_eq_true rfl) ?_
  show XT G E "ForestLegsModel" "laysWord" cX2_laysWord 3 (Option.none : Option Jvm.ClassFile.FieldType) 0 0 [(0, .ref E.2.1), (1, .int a1)] [] s0 (T_laysWord s0 a1)
  refine x_iconst 0 dX2_laysWord_0 rfl (n := 1) rfl ?_
  refine x_istore_n [(2, .int 0), (0, .ref E.2.1), (1, .int a1)] dX2_laysWord_1 rfl (by decide) rfl (n := 2) rfl ?_
  refine x_sub [1, 2, 0] [(0, .ref E.2.1), (1, .int a1), (2, .int 0)] rfl ?_
  exact T_laysWord_2_lp hO hE FU a1 0 s0
abbrev cX2_feed : ByteArray := prog_14_method_8_code
def yX2_feed : MethodName := ⟨RX2, "feed", "(IIIII)I"⟩
def dkwX2_feed_2 : List UInt8 := [172]
abbrev dktX2_feed_2 : List UInt8 := dkwX2_feed_2 ++ []
def dkwX2_feed_1 : List UInt8 := [182, 0, 59, 42, 29, 182, 0, 59, 42, 21, 4, 182, 0, 59, 42, 21, 5, 182, 0, 59, 42, 180, 0, 56]
abbrev dktX2_feed_1 : List UInt8 := dkwX2_feed_1 ++ dktX2_feed_2
def dkwX2_feed_0 : List UInt8 := [42, 3, 181, 0, 50, 42, 180, 0, 56, 17, 3, 112, 164, 0, 5, 2, 172, 42, 27, 182, 0, 59, 42, 28]
abbrev dktX2_feed_0 : List UInt8 := dkwX2_feed_0 ++ dktX2_feed_1
theorem dksX2_feed_0 : cX2_feed.data.toList.drop 0 = dktX2_feed_0 := by decide +kernel
theorem dksX2_feed_1 : cX2_feed.data.toList.drop 24 = dktX2_feed_1 := dk_seg dksX2_feed_0 24 rfl rfl
theorem dksX2_feed_2 : cX2_feed.data.toList.drop 48 = dktX2_feed_2 := dk_seg dksX2_feed_1 24 rfl rfl
theorem dX2_feed_0 : decode cX2_feed 0 = .ok (.aload_n 0, 1) := dk_42 (dk_at dksX2_feed_0 0 rfl rfl)
theorem dX2_feed_1 : decode cX2_feed 1 = .ok (.iconst 0, 1) := dk_3 (dk_at dksX2_feed_0 1 rfl rfl)
theorem dX2_feed_2 : decode cX2_feed 2 = .ok (.putfield 50, 3) := dk_181 0 50 (dk_at dksX2_feed_0 2 rfl rfl)
theorem dX2_feed_5 : decode cX2_feed 5 = .ok (.aload_n 0, 1) := dk_42 (dk_at dksX2_feed_0 5 rfl rfl)
theorem dX2_feed_6 : decode cX2_feed 6 = .ok (.getfield 56, 3) := dk_180 0 56 (dk_at dksX2_feed_0 6 rfl rfl)
theorem dX2_feed_9 : decode cX2_feed 9 = .ok (.sipush 880, 3) := dk_17 3 112 (dk_at dksX2_feed_0 9 rfl rfl)
theorem dX2_feed_12 : decode cX2_feed 12 = .ok (.if_icmp .le 5, 3) := dk_164 0 5 (dk_at dksX2_feed_0 12 rfl rfl)
theorem dX2_feed_15 : decode cX2_feed 15 = .ok (.iconst (-1), 1) := dk_2 (dk_at dksX2_feed_0 15 rfl rfl)
theorem dX2_feed_16 : decode cX2_feed 16 = .ok (.ireturn, 1) := dk_172 (dk_at dksX2_feed_0 16 rfl rfl)
theorem dX2_feed_17 : decode cX2_feed 17 = .ok (.aload_n 0, 1) := dk_42 (dk_at dksX2_feed_0 17 rfl rfl)
theorem dX2_feed_18 : decode cX2_feed 18 = .ok (.iload_n 1, 1) := dk_27 (dk_at dksX2_feed_0 18 rfl rfl)
theorem dX2_feed_19 : decode cX2_feed 19 = .ok (.invokevirtual 59, 3) := dk_182 0 59 (dk_at dksX2_feed_0 19 rfl rfl)
theorem dX2_feed_22 : decode cX2_feed 22 = .ok (.aload_n 0, 1) := dk_42 (dk_at dksX2_feed_0 22 rfl rfl)
theorem dX2_feed_23 : decode cX2_feed 23 = .ok (.iload_n 2, 1) := dk_28 (dk_at dksX2_feed_0 23 rfl rfl)
theorem dX2_feed_24 : decode cX2_feed 24 = .ok (.invokevirtual 59, 3) := dk_182 0 59 (dk_at dksX2_feed_1 0 rfl rfl)
theorem dX2_feed_27 : decode cX2_feed 27 = .ok (.aload_n 0, 1) := dk_42 (dk_at dksX2_feed_1 3 rfl rfl)
theorem dX2_feed_28 : decode cX2_feed 28 = .ok (.iload_n 3, 1) := dk_29 (dk_at dksX2_feed_1 4 rfl rfl)
theorem dX2_feed_29 : decode cX2_feed 29 = .ok (.invokevirtual 59, 3) := dk_182 0 59 (dk_at dksX2_feed_1 5 rfl rfl)
theorem dX2_feed_32 : decode cX2_feed 32 = .ok (.aload_n 0, 1) := dk_42 (dk_at dksX2_feed_1 8 rfl rfl)
theorem dX2_feed_33 : decode cX2_feed 33 = .ok (.iload 4, 2) := dk_21 4 (dk_at dksX2_feed_1 9 rfl rfl)
theorem dX2_feed_35 : decode cX2_feed 35 = .ok (.invokevirtual 59, 3) := dk_182 0 59 (dk_at dksX2_feed_1 11 rfl rfl)
theorem dX2_feed_38 : decode cX2_feed 38 = .ok (.aload_n 0, 1) := dk_42 (dk_at dksX2_feed_1 14 rfl rfl)
theorem dX2_feed_39 : decode cX2_feed 39 = .ok (.iload 5, 2) := dk_21 5 (dk_at dksX2_feed_1 15 rfl rfl)
theorem dX2_feed_41 : decode cX2_feed 41 = .ok (.invokevirtual 59, 3) := dk_182 0 59 (dk_at dksX2_feed_1 17 rfl rfl)
theorem dX2_feed_44 : decode cX2_feed 44 = .ok (.aload_n 0, 1) := dk_42 (dk_at dksX2_feed_1 20 rfl rfl)
theorem dX2_feed_45 : decode cX2_feed 45 = .ok (.getfield 56, 3) := dk_180 0 56 (dk_at dksX2_feed_1 21 rfl rfl)
theorem dX2_feed_48 : decode cX2_feed 48 = .ok (.ireturn, 1) := dk_172 (dk_at dksX2_feed_2 0 rfl rfl)
theorem md_X2_feed : xMd yX2_feed cX2_feed 6 (Option.some Jvm.ClassFile.FieldType.int) 5 := ⟨q3007, q126, by decide, by decide +kernel, by decide +kernel, by decide +kernel⟩
def T_feed (s0 : TS) (a1 : Int32) (a2 : Int32) (a3 : Int32) (a4 : Int32) (a5 : Int32) : Option (xO × TS) :=
  (bnd (tI s0 0 0) fun s1 =>
  (if (s1.1 5) ≤ 880 then
  (xcV (T_laysWord s1 a1) fun s2 =>
  (xcV (T_laysWord s2 a2) fun s3 =>
  (xcV (T_laysWord s3 a3) fun s4 =>
  (xcV (T_laysWord s4 a4) fun s5 =>
  (xcV (T_laysWord s5 a5) fun s6 =>
  (rI (s6.1 5) s6)))))) else
  (rI (-1) s1)))
theorem T_feed_ok {G : xG} {E : TE} (hO : xOK G) (hE : tok E) (s0 : TS) (a1 : Int32) (a2 : Int32) (a3 : Int32) (a4 : Int32) (a5 : Int32) : CTT G E 1 yX2_feed cX2_feed 6 (Option.some Jvm.ClassFile.FieldType.int) [.ref E.2.1, .int a1, .int a2, .int a3, .int a4, .int a5] s0 (T_feed s0 a1 a2 a3 a4 a5) := by
  refine CT_of hO (by decide +kernel) (by decide +kernel) (Nat.le_of_ble_eq_true rfl) ?_
  show XT G E "ForestLegsModel" "feed" cX2_feed 6 (Option.some Jvm.ClassFile.FieldType.int) 1 0 [(0, .ref E.2.1), (1, .int a1), (2, .int a2), (3, .int a3), (4, .int a4), (5, .int a5)] [] s0 (T_feed s0 a1 a2 a3 a4 a5)
  refine x_aload_nr 0 dX2_feed_0 rfl rfl (n := 1) rfl ?_
  refine x_iconst 0 dX2_feed_1 rfl (n := 2) rfl ?_
  refine tw_put (pl_X2_50 _ _ ⟨rfl, rfl⟩) rfl (by decide) dX2_feed_2 (n := 5) rfl (fun s1 => ?_)
  refine x_aload_nr 0 dX2_feed_5 rfl rfl (n := 6) rfl ?_
  refine tw_getI fl_X2_56 rfl (by decide) dX2_feed_6 (n := 9) rfl ?_
  refine x_sipush 880 dX2_feed_9 rfl (n := 12) rfl ?_
  refine tw_icmp_le dX2_feed_12 (t := 17) (by decide) (n := 15) rfl ?_ ?_
  · refine x_aload_nr 0 dX2_feed_17 rfl rfl (n := 18) rfl ?_
    refine x_iload_n 1 dX2_feed_18 rfl rfl (n := 19) rfl ?_
    refine tw_callV_V [.int a1] [] (T_laysWord_ok hO hE s1 a1) md_X2_laysWord q3008 q3010 qs62 dX2_feed_19 rfl rfl (by decide) (Nat.le_of_ble_eq_true rfl) (n := 22) rfl (fun s2 => ?_)
    refine x_aload_nr 0 dX2_feed_22 rfl rfl (n := 23) rfl ?_
    refine x_iload_n 2 dX2_feed_23 rfl rfl (n := 24) rfl ?_
    refine tw_callV_V [.int a2] [] (T_laysWord_ok hO hE s2 a2) md_X2_laysWord q3008 q3010 qs62 dX2_feed_24 rfl rfl (by decide) (Nat.le_of_ble_eq_true rfl) (n := 27) rfl (fun s3 => ?_)
    refine x_aload_nr 0 dX2_feed_27 rfl rfl (n := 28) rfl ?_
    refine x_iload_n 3 dX2_feed_28 rfl rfl (n := 29) rfl ?_
    refine tw_callV_V [.int a3] [] (T_laysWord_ok hO hE s3 a3) md_X2_laysWord q3008 q3010 qs62 dX2_feed_29 rfl rfl (by decide) (Nat.le_of_ble_eq_true rfl) (n := 32) rfl (fun s4 => ?_)
    refine x_aload_nr 0 dX2_feed_32 rfl rfl (n := 33) rfl ?_
    refine x_iload 4 dX2_feed_33 rfl (n := 35) rfl ?_
    refine tw_callV_V [.int a4] [] (T_laysWord_ok hO hE s4 a4) md_X2_laysWord q3008 q3010 qs62 dX2_feed_35 rfl rfl (by decide) (Nat.le_of_ble_eq_true rfl) (n := 38) rfl (fun s5 => ?_)
    refine x_aload_nr 0 dX2_feed_38 rfl rfl (n := 39) rfl ?_
    refine x_iload 5 dX2_feed_39 rfl (n := 41) rfl ?_
    refine tw_callV_V [.int a5] [] (T_laysWord_ok hO hE s5 a5) md_X2_laysWord q3008 q3010 qs62 dX2_feed_41 rfl rfl (by decide) (Nat.le_of_ble_eq_true rfl) (n := 44) rfl (fun s6 => ?_)
    refine x_aload_nr 0 dX2_feed_44 rfl rfl (n := 45) rfl ?_
    refine tw_getI fl_X2_56 rfl (by decide) dX2_feed_45 (n := 48) rfl ?_
    exact tw_ireturn dX2_feed_48
  · refine x_iconst (-1) dX2_feed_15 rfl (n := 16) rfl ?_
    exact tw_ireturn dX2_feed_16
abbrev cX2_in : ByteArray := prog_14_method_3_code
def yX2_in : MethodName := ⟨RX2, "in", "(III)Z"⟩
def dkwX2_in_0 : List UInt8 := [26, 27, 161, 0, 12, 26, 28, 163, 0, 7, 4, 167, 0, 4, 3, 172]
abbrev dktX2_in_0 : List UInt8 := dkwX2_in_0 ++ []
theorem dksX2_in_0 : cX2_in.data.toList.drop 0 = dktX2_in_0 := by decide +kernel
theorem dX2_in_0 : decode cX2_in 0 = .ok (.iload_n 0, 1) := dk_26 (dk_at dksX2_in_0 0 rfl rfl)
theorem dX2_in_1 : decode cX2_in 1 = .ok (.iload_n 1, 1) := dk_27 (dk_at dksX2_in_0 1 rfl rfl)
theorem dX2_in_2 : decode cX2_in 2 = .ok (.if_icmp .lt 12, 3) := dk_161 0 12 (dk_at dksX2_in_0 2 rfl rfl)
theorem dX2_in_5 : decode cX2_in 5 = .ok (.iload_n 0, 1) := dk_26 (dk_at dksX2_in_0 5 rfl rfl)
theorem dX2_in_6 : decode cX2_in 6 = .ok (.iload_n 2, 1) := dk_28 (dk_at dksX2_in_0 6 rfl rfl)
theorem dX2_in_7 : decode cX2_in 7 = .ok (.if_icmp .gt 7, 3) := dk_163 0 7 (dk_at dksX2_in_0 7 rfl rfl)
theorem dX2_in_10 : decode cX2_in 10 = .ok (.iconst 1, 1) := dk_4 (dk_at dksX2_in_0 10 rfl rfl)
theorem dX2_in_11 : decode cX2_in 11 = .ok (.goto 4, 3) := dk_167 0 4 (dk_at dksX2_in_0 11 rfl rfl)
theorem dX2_in_14 : decode cX2_in 14 = .ok (.iconst 0, 1) := dk_3 (dk_at dksX2_in_0 14 rfl rfl)
theorem dX2_in_15 : decode cX2_in 15 = .ok (.ireturn, 1) := dk_172 (dk_at dksX2_in_0 15 rfl rfl)
theorem md_X2_in : xMd yX2_in cX2_in 3 (Option.some Jvm.ClassFile.FieldType.boolean) 3 := ⟨q3018, q126, by decide, by decide +kernel, by decide +kernel, by decide +kernel⟩
def T_in (s0 : TS) (a0 : Int32) (a1 : Int32) (a2 : Int32) : Option (xO × TS) :=
  (if a0 < a1 then
  (if vp_nar .boolean 0 = 0 then rI 0 s0 else none) else
  (if a2 < a0 then
  (if vp_nar .boolean 0 = 0 then rI 0 s0 else none) else
  (if vp_nar .boolean 1 = 1 then rI 1 s0 else none)))
theorem T_in_ok {G : xG} {E : TE} (hO : xOK G) (hE : tok E) (s0 : TS) (a0 : Int32) (a1 : Int32) (a2 : Int32) : CTT G E 0 yX2_in cX2_in 3 (Option.some Jvm.ClassFile.FieldType.boolean) [.int a0, .int a1, .int a2] s0 (T_in s0 a0 a1 a2) := by
  refine CT_of hO (by decide +kernel) (by decide +kernel) (Nat.le_of_ble_eq_true rfl) ?_
  show XT G E "ForestLegsModel" "in" cX2_in 3 (Option.some Jvm.ClassFile.FieldType.boolean) 0 0 [(0, .int a0), (1, .int a1), (2, .int a2)] [] s0 (T_in s0 a0 a1 a2)
  refine x_iload_n 0 dX2_in_0 rfl rfl (n := 1) rfl ?_
  refine x_iload_n 1 dX2_in_1 rfl rfl (n := 2) rfl ?_
  refine tw_icmp_lt dX2_in_2 (t := 14) (by decide) (n := 5) rfl ?_ ?_
  · refine x_iconst 0 dX2_in_14 rfl (n := 15) rfl ?_
    exact tw_zreturn rfl dX2_in_15
  · refine x_iload_n 0 dX2_in_5 rfl rfl (n := 6) rfl ?_
    refine x_iload_n 2 dX2_in_6 rfl rfl (n := 7) rfl ?_
    refine tw_icmp_gt dX2_in_7 (t := 14) (by decide) (n := 10) rfl ?_ ?_
    · refine x_iconst 0 dX2_in_14 rfl (n := 15) rfl ?_
      exact tw_zreturn rfl dX2_in_15
    · refine x_iconst 1 dX2_in_10 rfl (n := 11) rfl ?_
      refine x_goto dX2_in_11 (n := 15) (by decide) ?_
      exact tw_zreturn rfl dX2_in_15
abbrev cX2_unless : ByteArray := prog_14_method_7_code
def yX2_unless : MethodName := ⟨RX2, "unless", "(ZZ)I"⟩
def dkwX2_unless_0 : List UInt8 := [26, 154, 0, 7, 4, 167, 0, 12, 27, 153, 0, 7, 3, 167, 0, 4, 5, 172]
abbrev dktX2_unless_0 : List UInt8 := dkwX2_unless_0 ++ []
theorem dksX2_unless_0 : cX2_unless.data.toList.drop 0 = dktX2_unless_0 := by decide +kernel
theorem dX2_unless_0 : decode cX2_unless 0 = .ok (.iload_n 0, 1) := dk_26 (dk_at dksX2_unless_0 0 rfl rfl)
theorem dX2_unless_1 : decode cX2_unless 1 = .ok (.ifCond .ne 7, 3) := dk_154 0 7 (dk_at dksX2_unless_0 1 rfl rfl)
theorem dX2_unless_4 : decode cX2_unless 4 = .ok (.iconst 1, 1) := dk_4 (dk_at dksX2_unless_0 4 rfl rfl)
theorem dX2_unless_5 : decode cX2_unless 5 = .ok (.goto 12, 3) := dk_167 0 12 (dk_at dksX2_unless_0 5 rfl rfl)
theorem dX2_unless_8 : decode cX2_unless 8 = .ok (.iload_n 1, 1) := dk_27 (dk_at dksX2_unless_0 8 rfl rfl)
theorem dX2_unless_9 : decode cX2_unless 9 = .ok (.ifCond .eq 7, 3) := dk_153 0 7 (dk_at dksX2_unless_0 9 rfl rfl)
theorem dX2_unless_12 : decode cX2_unless 12 = .ok (.iconst 0, 1) := dk_3 (dk_at dksX2_unless_0 12 rfl rfl)
theorem dX2_unless_13 : decode cX2_unless 13 = .ok (.goto 4, 3) := dk_167 0 4 (dk_at dksX2_unless_0 13 rfl rfl)
theorem dX2_unless_16 : decode cX2_unless 16 = .ok (.iconst 2, 1) := dk_5 (dk_at dksX2_unless_0 16 rfl rfl)
theorem dX2_unless_17 : decode cX2_unless 17 = .ok (.ireturn, 1) := dk_172 (dk_at dksX2_unless_0 17 rfl rfl)
theorem md_X2_unless : xMd yX2_unless cX2_unless 2 (Option.some Jvm.ClassFile.FieldType.int) 2 := ⟨q3021, q126, by decide, by decide +kernel, by decide +kernel, by decide +kernel⟩
def T_unless (s0 : TS) (a0 : Int32) (a1 : Int32) : Option (xO × TS) :=
  (if a0 = 0 then
  (rI 1 s0) else
  (if a1 = 0 then
  (rI 2 s0) else
  (rI 0 s0)))
theorem T_unless_ok {G : xG} {E : TE} (hO : xOK G) (hE : tok E) (s0 : TS) (a0 : Int32) (a1 : Int32) : CTT G E 0 yX2_unless cX2_unless 2 (Option.some Jvm.ClassFile.FieldType.int) [.int a0, .int a1] s0 (T_unless s0 a0 a1) := by
  refine CT_of hO (by decide +kernel) (by decide +kernel) (Nat.le_of_ble_eq_true rfl) ?_
  show XT G E "ForestLegsModel" "unless" cX2_unless 2 (Option.some Jvm.ClassFile.FieldType.int) 0 0 [(0, .int a0), (1, .int a1)] [] s0 (T_unless s0 a0 a1)
  refine x_iload_n 0 dX2_unless_0 rfl rfl (n := 1) rfl ?_
  refine tw_if_ne dX2_unless_1 (t := 8) (by decide) (n := 4) rfl ?_ ?_
  · refine x_iload_n 1 dX2_unless_8 rfl rfl (n := 9) rfl ?_
    refine tw_if_eq dX2_unless_9 (t := 16) (by decide) (n := 12) rfl ?_ ?_
    · refine x_iconst 2 dX2_unless_16 rfl (n := 17) rfl ?_
      exact tw_ireturn dX2_unless_17
    · refine x_iconst 0 dX2_unless_12 rfl (n := 13) rfl ?_
      refine x_goto dX2_unless_13 (n := 17) (by decide) ?_
      exact tw_ireturn dX2_unless_17
  · refine x_iconst 1 dX2_unless_4 rfl (n := 5) rfl ?_
    refine x_goto dX2_unless_5 (n := 17) (by decide) ?_
    exact tw_ireturn dX2_unless_17
abbrev cX2_isRefused : ByteArray := prog_14_method_5_code
def yX2_isRefused : MethodName := ⟨RX2, "isRefused", "(I)Z"⟩
def dkwX2_isRefused_1 : List UInt8 := [172]
abbrev dktX2_isRefused_1 : List UInt8 := dkwX2_isRefused_1 ++ []
def dkwX2_isRefused_0 : List UInt8 := [42, 3, 181, 0, 50, 42, 2, 181, 0, 9, 42, 27, 181, 0, 53, 27, 153, 0, 7, 4, 167, 0, 4, 3]
abbrev dktX2_isRefused_0 : List UInt8 := dkwX2_isRefused_0 ++ dktX2_isRefused_1
theorem dksX2_isRefused_0 : cX2_isRefused.data.toList.drop 0 = dktX2_isRefused_0 := by decide +kernel
theorem dksX2_isRefused_1 : cX2_isRefused.data.toList.drop 24 = dktX2_isRefused_1 := dk_seg dksX2_isRefused_0 24 rfl rfl
theorem dX2_isRefused_0 : decode cX2_isRefused 0 = .ok (.aload_n 0, 1) := dk_42 (dk_at dksX2_isRefused_0 0 rfl rfl)
theorem dX2_isRefused_1 : decode cX2_isRefused 1 = .ok (.iconst 0, 1) := dk_3 (dk_at dksX2_isRefused_0 1 rfl rfl)
theorem dX2_isRefused_2 : decode cX2_isRefused 2 = .ok (.putfield 50, 3) := dk_181 0 50 (dk_at dksX2_isRefused_0 2 rfl rfl)
theorem dX2_isRefused_5 : decode cX2_isRefused 5 = .ok (.aload_n 0, 1) := dk_42 (dk_at dksX2_isRefused_0 5 rfl rfl)
theorem dX2_isRefused_6 : decode cX2_isRefused 6 = .ok (.iconst (-1), 1) := dk_2 (dk_at dksX2_isRefused_0 6 rfl rfl)
theorem dX2_isRefused_7 : decode cX2_isRefused 7 = .ok (.putfield 9, 3) := dk_181 0 9 (dk_at dksX2_isRefused_0 7 rfl rfl)
theorem dX2_isRefused_10 : decode cX2_isRefused 10 = .ok (.aload_n 0, 1) := dk_42 (dk_at dksX2_isRefused_0 10 rfl rfl)
theorem dX2_isRefused_11 : decode cX2_isRefused 11 = .ok (.iload_n 1, 1) := dk_27 (dk_at dksX2_isRefused_0 11 rfl rfl)
theorem dX2_isRefused_12 : decode cX2_isRefused 12 = .ok (.putfield 53, 3) := dk_181 0 53 (dk_at dksX2_isRefused_0 12 rfl rfl)
theorem dX2_isRefused_15 : decode cX2_isRefused 15 = .ok (.iload_n 1, 1) := dk_27 (dk_at dksX2_isRefused_0 15 rfl rfl)
theorem dX2_isRefused_16 : decode cX2_isRefused 16 = .ok (.ifCond .eq 7, 3) := dk_153 0 7 (dk_at dksX2_isRefused_0 16 rfl rfl)
theorem dX2_isRefused_19 : decode cX2_isRefused 19 = .ok (.iconst 1, 1) := dk_4 (dk_at dksX2_isRefused_0 19 rfl rfl)
theorem dX2_isRefused_20 : decode cX2_isRefused 20 = .ok (.goto 4, 3) := dk_167 0 4 (dk_at dksX2_isRefused_0 20 rfl rfl)
theorem dX2_isRefused_23 : decode cX2_isRefused 23 = .ok (.iconst 0, 1) := dk_3 (dk_at dksX2_isRefused_0 23 rfl rfl)
theorem dX2_isRefused_24 : decode cX2_isRefused 24 = .ok (.ireturn, 1) := dk_172 (dk_at dksX2_isRefused_1 0 rfl rfl)
theorem md_X2_isRefused : xMd yX2_isRefused cX2_isRefused 2 (Option.some Jvm.ClassFile.FieldType.boolean) 1 := ⟨q3025, q126, by decide, by decide +kernel, by decide +kernel, by decide +kernel⟩
def T_isRefused (s0 : TS) (a1 : Int32) : Option (xO × TS) :=
  (bnd (tI s0 0 0) fun s1 =>
  (bnd (tI s1 3 (-1)) fun s2 =>
  (bnd (tI s2 1 a1) fun s3 =>
  (if a1 = 0 then
  (if vp_nar .boolean 0 = 0 then rI 0 s3 else none) else
  (if vp_nar .boolean 1 = 1 then rI 1 s3 else none)))))
theorem T_isRefused_ok {G : xG} {E : TE} (hO : xOK G) (hE : tok E) (s0 : TS) (a1 : Int32) : CTT G E 0 yX2_isRefused cX2_isRefused 2 (Option.some Jvm.ClassFile.FieldType.boolean) [.ref E.2.1, .int a1] s0 (T_isRefused s0 a1) := by
  refine CT_of hO (by decide +kernel) (by decide +kernel) (Nat.le_of_ble_eq_true rfl) ?_
  show XT G E "ForestLegsModel" "isRefused" cX2_isRefused 2 (Option.some Jvm.ClassFile.FieldType.boolean) 0 0 [(0, .ref E.2.1), (1, .int a1)] [] s0 (T_isRefused s0 a1)
  refine x_aload_nr 0 dX2_isRefused_0 rfl rfl (n := 1) rfl ?_
  refine x_iconst 0 dX2_isRefused_1 rfl (n := 2) rfl ?_
  refine tw_put (pl_X2_50 _ _ ⟨rfl, rfl⟩) rfl (by decide) dX2_isRefused_2 (n := 5) rfl (fun s1 => ?_)
  refine x_aload_nr 0 dX2_isRefused_5 rfl rfl (n := 6) rfl ?_
  refine x_iconst (-1) dX2_isRefused_6 rfl (n := 7) rfl ?_
  refine tw_put (pl_X2_9 _ _ ⟨rfl, rfl⟩) rfl (by decide) dX2_isRefused_7 (n := 10) rfl (fun s2 => ?_)
  refine x_aload_nr 0 dX2_isRefused_10 rfl rfl (n := 11) rfl ?_
  refine x_iload_n 1 dX2_isRefused_11 rfl rfl (n := 12) rfl ?_
  refine tw_put (pl_X2_53 _ _ ⟨rfl, rfl⟩) rfl (by decide) dX2_isRefused_12 (n := 15) rfl (fun s3 => ?_)
  refine x_iload_n 1 dX2_isRefused_15 rfl rfl (n := 16) rfl ?_
  refine tw_if_eq dX2_isRefused_16 (t := 23) (by decide) (n := 19) rfl ?_ ?_
  · refine x_iconst 0 dX2_isRefused_23 rfl (n := 24) rfl ?_
    exact tw_zreturn rfl dX2_isRefused_24
  · refine x_iconst 1 dX2_isRefused_19 rfl (n := 20) rfl ?_
    refine x_goto dX2_isRefused_20 (n := 24) (by decide) ?_
    exact tw_zreturn rfl dX2_isRefused_24
abbrev cX2_see : ByteArray := prog_14_method_10_code
def yX2_see : MethodName := ⟨RX2, "see", "(I)I"⟩
def dkwX2_see_0 : List UInt8 := [27, 42, 180, 0, 63, 162, 0, 12, 42, 180, 0, 13, 27, 46, 167, 0, 4, 2, 172]
abbrev dktX2_see_0 : List UInt8 := dkwX2_see_0 ++ []
theorem dksX2_see_0 : cX2_see.data.toList.drop 0 = dktX2_see_0 := by decide +kernel
theorem dX2_see_0 : decode cX2_see 0 = .ok (.iload_n 1, 1) := dk_27 (dk_at dksX2_see_0 0 rfl rfl)
theorem dX2_see_1 : decode cX2_see 1 = .ok (.aload_n 0, 1) := dk_42 (dk_at dksX2_see_0 1 rfl rfl)
theorem dX2_see_2 : decode cX2_see 2 = .ok (.getfield 63, 3) := dk_180 0 63 (dk_at dksX2_see_0 2 rfl rfl)
theorem dX2_see_5 : decode cX2_see 5 = .ok (.if_icmp .ge 12, 3) := dk_162 0 12 (dk_at dksX2_see_0 5 rfl rfl)
theorem dX2_see_8 : decode cX2_see 8 = .ok (.aload_n 0, 1) := dk_42 (dk_at dksX2_see_0 8 rfl rfl)
theorem dX2_see_9 : decode cX2_see 9 = .ok (.getfield 13, 3) := dk_180 0 13 (dk_at dksX2_see_0 9 rfl rfl)
theorem dX2_see_12 : decode cX2_see 12 = .ok (.iload_n 1, 1) := dk_27 (dk_at dksX2_see_0 12 rfl rfl)
theorem dX2_see_13 : decode cX2_see 13 = .ok (.iaload, 1) := dk_46 (dk_at dksX2_see_0 13 rfl rfl)
theorem dX2_see_14 : decode cX2_see 14 = .ok (.goto 4, 3) := dk_167 0 4 (dk_at dksX2_see_0 14 rfl rfl)
theorem dX2_see_17 : decode cX2_see 17 = .ok (.iconst (-1), 1) := dk_2 (dk_at dksX2_see_0 17 rfl rfl)
theorem dX2_see_18 : decode cX2_see 18 = .ok (.ireturn, 1) := dk_172 (dk_at dksX2_see_0 18 rfl rfl)
theorem md_X2_see : xMd yX2_see cX2_see 2 (Option.some Jvm.ClassFile.FieldType.int) 1 := ⟨q3037, q126, by decide, by decide +kernel, by decide +kernel, by decide +kernel⟩
def T_see (s0 : TS) (a1 : Int32) : Option (xO × TS) :=
  (if (s0.1 11) ≤ a1 then
  (rI (-1) s0) else
  (tald s0 4 a1 fun x1 =>
  (rI x1 s0)))
theorem T_see_ok {G : xG} {E : TE} (hO : xOK G) (hE : tok E) (s0 : TS) (a1 : Int32) : CTT G E 0 yX2_see cX2_see 2 (Option.some Jvm.ClassFile.FieldType.int) [.ref E.2.1, .int a1] s0 (T_see s0 a1) := by
  refine CT_of hO (by decide +kernel) (by decide +kernel) (Nat.le_of_ble_eq_true rfl) ?_
  show XT G E "ForestLegsModel" "see" cX2_see 2 (Option.some Jvm.ClassFile.FieldType.int) 0 0 [(0, .ref E.2.1), (1, .int a1)] [] s0 (T_see s0 a1)
  refine x_iload_n 1 dX2_see_0 rfl rfl (n := 1) rfl ?_
  refine x_aload_nr 0 dX2_see_1 rfl rfl (n := 2) rfl ?_
  refine tw_getI fl_X2_63 rfl (by decide) dX2_see_2 (n := 5) rfl ?_
  refine tw_icmp_ge dX2_see_5 (t := 17) (by decide) (n := 8) rfl ?_ ?_
  · refine x_iconst (-1) dX2_see_17 rfl (n := 18) rfl ?_
    exact tw_ireturn dX2_see_18
  · refine x_aload_nr 0 dX2_see_8 rfl rfl (n := 9) rfl ?_
    refine tw_getA fl_X2_13 rfl (by decide) dX2_see_9 (n := 12) rfl ?_
    refine x_iload_n 1 dX2_see_12 rfl rfl (n := 13) rfl ?_
    refine tw_iald hE (by decide) dX2_see_13 (n := 14) rfl (fun x1 => ?_)
    refine x_goto dX2_see_14 (n := 18) (by decide) ?_
    exact tw_ireturn dX2_see_18
abbrev cX2_goesOn : ByteArray := prog_14_method_11_code
def yX2_goesOn : MethodName := ⟨RX2, "goesOn", "()V"⟩
def dkwX2_goesOn_11 : List UInt8 := [159, 0, 9, 27, 16, 58, 160, 0, 7, 27, 167, 0, 4, 4, 181, 0, 76, 177]
abbrev dktX2_goesOn_11 : List UInt8 := dkwX2_goesOn_11 ++ []
def dkwX2_goesOn_10 : List UInt8 := [181, 0, 76, 177, 42, 89, 180, 0, 66, 4, 96, 181, 0, 66, 42, 27, 16, 59, 159, 0, 15, 27, 16, 44]
abbrev dktX2_goesOn_10 : List UInt8 := dkwX2_goesOn_10 ++ dktX2_goesOn_11
def dkwX2_goesOn_9 : List UInt8 := [167, 255, 185, 42, 42, 180, 0, 66, 42, 180, 0, 73, 100, 7, 164, 0, 7, 4, 167, 0, 4, 6]
abbrev dktX2_goesOn_9 : List UInt8 := dkwX2_goesOn_9 ++ dktX2_goesOn_10
def dkwX2_goesOn_8 : List UInt8 := [16, 48, 100, 167, 0, 7, 42, 180, 0, 83, 181, 0, 83, 42, 89, 180, 0, 66, 4, 96, 181, 0, 66]
abbrev dktX2_goesOn_8 : List UInt8 := dkwX2_goesOn_8 ++ dktX2_goesOn_9
def dkwX2_goesOn_7 : List UInt8 := [180, 0, 73, 100, 7, 162, 0, 25, 16, 10, 42, 180, 0, 83, 104, 42, 42, 180, 0, 66, 182, 0, 69, 96]
abbrev dktX2_goesOn_7 : List UInt8 := dkwX2_goesOn_7 ++ dktX2_goesOn_8
def dkwX2_goesOn_6 : List UInt8 := [42, 42, 180, 0, 66, 182, 0, 69, 16, 48, 16, 57, 184, 0, 79, 153, 0, 59, 42, 42, 180, 0, 66, 42]
abbrev dktX2_goesOn_6 : List UInt8 := dkwX2_goesOn_6 ++ dktX2_goesOn_7
def dkwX2_goesOn_5 : List UInt8 := [167, 0, 4, 5, 181, 0, 76, 177, 27, 16, 48, 16, 57, 184, 0, 79, 153, 0, 105, 42, 3, 181, 0, 83]
abbrev dktX2_goesOn_5 : List UInt8 := dkwX2_goesOn_5 ++ dktX2_goesOn_6
def dkwX2_goesOn_4 : List UInt8 := [181, 0, 66, 167, 255, 228, 42, 42, 180, 0, 66, 42, 180, 0, 73, 100, 16, 6, 164, 0, 7, 4]
abbrev dktX2_goesOn_4 : List UInt8 := dkwX2_goesOn_4 ++ dktX2_goesOn_5
def dkwX2_goesOn_3 : List UInt8 := [180, 0, 66, 182, 0, 69, 16, 97, 16, 122, 184, 0, 79, 153, 0, 16, 42, 89, 180, 0, 66, 4, 96]
abbrev dktX2_goesOn_3 : List UInt8 := dkwX2_goesOn_3 ++ dktX2_goesOn_4
def dkwX2_goesOn_2 : List UInt8 := [160, 0, 9, 42, 3, 181, 0, 76, 177, 27, 16, 97, 16, 122, 184, 0, 79, 153, 0, 58, 42, 42]
abbrev dktX2_goesOn_2 : List UInt8 := dkwX2_goesOn_2 ++ dktX2_goesOn_3
def dkwX2_goesOn_1 : List UInt8 := [167, 255, 233, 42, 42, 180, 0, 66, 181, 0, 73, 42, 42, 180, 0, 66, 182, 0, 69, 60, 27, 2]
abbrev dktX2_goesOn_1 : List UInt8 := dkwX2_goesOn_1 ++ dktX2_goesOn_2
def dkwX2_goesOn_0 : List UInt8 := [42, 42, 180, 0, 66, 182, 0, 69, 16, 32, 160, 0, 16, 42, 89, 180, 0, 66, 4, 96, 181, 0, 66]
abbrev dktX2_goesOn_0 : List UInt8 := dkwX2_goesOn_0 ++ dktX2_goesOn_1
theorem dksX2_goesOn_0 : cX2_goesOn.data.toList.drop 0 = dktX2_goesOn_0 := by decide +kernel
theorem dksX2_goesOn_1 : cX2_goesOn.data.toList.drop 23 = dktX2_goesOn_1 := dk_seg dksX2_goesOn_0 23 rfl rfl
theorem dksX2_goesOn_2 : cX2_goesOn.data.toList.drop 45 = dktX2_goesOn_2 := dk_seg dksX2_goesOn_1 22 rfl rfl
theorem dksX2_goesOn_3 : cX2_goesOn.data.toList.drop 67 = dktX2_goesOn_3 := dk_seg dksX2_goesOn_2 22 rfl rfl
theorem dksX2_goesOn_4 : cX2_goesOn.data.toList.drop 90 = dktX2_goesOn_4 := dk_seg dksX2_goesOn_3 23 rfl rfl
theorem dksX2_goesOn_5 : cX2_goesOn.data.toList.drop 112 = dktX2_goesOn_5 := dk_seg dksX2_goesOn_4 22 rfl rfl
theorem dksX2_goesOn_6 : cX2_goesOn.data.toList.drop 136 = dktX2_goesOn_6 := dk_seg dksX2_goesOn_5 24 rfl rfl
theorem dksX2_goesOn_7 : cX2_goesOn.data.toList.drop 160 = dktX2_goesOn_7 := dk_seg dksX2_goesOn_6 24 rfl rfl
theorem dksX2_goesOn_8 : cX2_goesOn.data.toList.drop 184 = dktX2_goesOn_8 := dk_seg dksX2_goesOn_7 24 rfl rfl
theorem dksX2_goesOn_9 : cX2_goesOn.data.toList.drop 207 = dktX2_goesOn_9 := dk_seg dksX2_goesOn_8 23 rfl rfl
theorem dksX2_goesOn_10 : cX2_goesOn.data.toList.drop 229 = dktX2_goesOn_10 := dk_seg dksX2_goesOn_9 22 rfl rfl
theorem dksX2_goesOn_11 : cX2_goesOn.data.toList.drop 253 = dktX2_goesOn_11 := dk_seg dksX2_goesOn_10 24 rfl rfl
theorem dX2_goesOn_0 : decode cX2_goesOn 0 = .ok (.aload_n 0, 1) := dk_42 (dk_at dksX2_goesOn_0 0 rfl rfl)
theorem dX2_goesOn_1 : decode cX2_goesOn 1 = .ok (.aload_n 0, 1) := dk_42 (dk_at dksX2_goesOn_0 1 rfl rfl)
theorem dX2_goesOn_2 : decode cX2_goesOn 2 = .ok (.getfield 66, 3) := dk_180 0 66 (dk_at dksX2_goesOn_0 2 rfl rfl)
theorem dX2_goesOn_5 : decode cX2_goesOn 5 = .ok (.invokevirtual 69, 3) := dk_182 0 69 (dk_at dksX2_goesOn_0 5 rfl rfl)
theorem dX2_goesOn_8 : decode cX2_goesOn 8 = .ok (.bipush 32, 2) := dk_16 32 (dk_at dksX2_goesOn_0 8 rfl rfl)
theorem dX2_goesOn_10 : decode cX2_goesOn 10 = .ok (.if_icmp .ne 16, 3) := dk_160 0 16 (dk_at dksX2_goesOn_0 10 rfl rfl)
theorem dX2_goesOn_13 : decode cX2_goesOn 13 = .ok (.aload_n 0, 1) := dk_42 (dk_at dksX2_goesOn_0 13 rfl rfl)
theorem dX2_goesOn_14 : decode cX2_goesOn 14 = .ok (.dup, 1) := dk_89 (dk_at dksX2_goesOn_0 14 rfl rfl)
theorem dX2_goesOn_15 : decode cX2_goesOn 15 = .ok (.getfield 66, 3) := dk_180 0 66 (dk_at dksX2_goesOn_0 15 rfl rfl)
theorem dX2_goesOn_18 : decode cX2_goesOn 18 = .ok (.iconst 1, 1) := dk_4 (dk_at dksX2_goesOn_0 18 rfl rfl)
theorem dX2_goesOn_19 : decode cX2_goesOn 19 = .ok (.iadd, 1) := dk_96 (dk_at dksX2_goesOn_0 19 rfl rfl)
theorem dX2_goesOn_20 : decode cX2_goesOn 20 = .ok (.putfield 66, 3) := dk_181 0 66 (dk_at dksX2_goesOn_0 20 rfl rfl)
theorem dX2_goesOn_23 : decode cX2_goesOn 23 = .ok (.goto (-23), 3) := dk_167 255 233 (dk_at dksX2_goesOn_1 0 rfl rfl)
theorem dX2_goesOn_26 : decode cX2_goesOn 26 = .ok (.aload_n 0, 1) := dk_42 (dk_at dksX2_goesOn_1 3 rfl rfl)
theorem dX2_goesOn_27 : decode cX2_goesOn 27 = .ok (.aload_n 0, 1) := dk_42 (dk_at dksX2_goesOn_1 4 rfl rfl)
theorem dX2_goesOn_28 : decode cX2_goesOn 28 = .ok (.getfield 66, 3) := dk_180 0 66 (dk_at dksX2_goesOn_1 5 rfl rfl)
theorem dX2_goesOn_31 : decode cX2_goesOn 31 = .ok (.putfield 73, 3) := dk_181 0 73 (dk_at dksX2_goesOn_1 8 rfl rfl)
theorem dX2_goesOn_34 : decode cX2_goesOn 34 = .ok (.aload_n 0, 1) := dk_42 (dk_at dksX2_goesOn_1 11 rfl rfl)
theorem dX2_goesOn_35 : decode cX2_goesOn 35 = .ok (.aload_n 0, 1) := dk_42 (dk_at dksX2_goesOn_1 12 rfl rfl)
theorem dX2_goesOn_36 : decode cX2_goesOn 36 = .ok (.getfield 66, 3) := dk_180 0 66 (dk_at dksX2_goesOn_1 13 rfl rfl)
theorem dX2_goesOn_39 : decode cX2_goesOn 39 = .ok (.invokevirtual 69, 3) := dk_182 0 69 (dk_at dksX2_goesOn_1 16 rfl rfl)
theorem dX2_goesOn_42 : decode cX2_goesOn 42 = .ok (.istore_n 1, 1) := dk_60 (dk_at dksX2_goesOn_1 19 rfl rfl)
theorem dX2_goesOn_43 : decode cX2_goesOn 43 = .ok (.iload_n 1, 1) := dk_27 (dk_at dksX2_goesOn_1 20 rfl rfl)
theorem dX2_goesOn_44 : decode cX2_goesOn 44 = .ok (.iconst (-1), 1) := dk_2 (dk_at dksX2_goesOn_1 21 rfl rfl)
theorem dX2_goesOn_45 : decode cX2_goesOn 45 = .ok (.if_icmp .ne 9, 3) := dk_160 0 9 (dk_at dksX2_goesOn_2 0 rfl rfl)
theorem dX2_goesOn_48 : decode cX2_goesOn 48 = .ok (.aload_n 0, 1) := dk_42 (dk_at dksX2_goesOn_2 3 rfl rfl)
theorem dX2_goesOn_49 : decode cX2_goesOn 49 = .ok (.iconst 0, 1) := dk_3 (dk_at dksX2_goesOn_2 4 rfl rfl)
theorem dX2_goesOn_50 : decode cX2_goesOn 50 = .ok (.putfield 76, 3) := dk_181 0 76 (dk_at dksX2_goesOn_2 5 rfl rfl)
theorem dX2_goesOn_53 : decode cX2_goesOn 53 = .ok (.return_, 1) := dk_177 (dk_at dksX2_goesOn_2 8 rfl rfl)
theorem dX2_goesOn_54 : decode cX2_goesOn 54 = .ok (.iload_n 1, 1) := dk_27 (dk_at dksX2_goesOn_2 9 rfl rfl)
theorem dX2_goesOn_55 : decode cX2_goesOn 55 = .ok (.bipush 97, 2) := dk_16 97 (dk_at dksX2_goesOn_2 10 rfl rfl)
theorem dX2_goesOn_57 : decode cX2_goesOn 57 = .ok (.bipush 122, 2) := dk_16 122 (dk_at dksX2_goesOn_2 12 rfl rfl)
theorem dX2_goesOn_59 : decode cX2_goesOn 59 = .ok (.invokestatic 79, 3) := dk_184 0 79 (dk_at dksX2_goesOn_2 14 rfl rfl)
theorem dX2_goesOn_62 : decode cX2_goesOn 62 = .ok (.ifCond .eq 58, 3) := dk_153 0 58 (dk_at dksX2_goesOn_2 17 rfl rfl)
theorem dX2_goesOn_65 : decode cX2_goesOn 65 = .ok (.aload_n 0, 1) := dk_42 (dk_at dksX2_goesOn_2 20 rfl rfl)
theorem dX2_goesOn_66 : decode cX2_goesOn 66 = .ok (.aload_n 0, 1) := dk_42 (dk_at dksX2_goesOn_2 21 rfl rfl)
theorem dX2_goesOn_67 : decode cX2_goesOn 67 = .ok (.getfield 66, 3) := dk_180 0 66 (dk_at dksX2_goesOn_3 0 rfl rfl)
theorem dX2_goesOn_70 : decode cX2_goesOn 70 = .ok (.invokevirtual 69, 3) := dk_182 0 69 (dk_at dksX2_goesOn_3 3 rfl rfl)
theorem dX2_goesOn_73 : decode cX2_goesOn 73 = .ok (.bipush 97, 2) := dk_16 97 (dk_at dksX2_goesOn_3 6 rfl rfl)
theorem dX2_goesOn_75 : decode cX2_goesOn 75 = .ok (.bipush 122, 2) := dk_16 122 (dk_at dksX2_goesOn_3 8 rfl rfl)
theorem dX2_goesOn_77 : decode cX2_goesOn 77 = .ok (.invokestatic 79, 3) := dk_184 0 79 (dk_at dksX2_goesOn_3 10 rfl rfl)
theorem dX2_goesOn_80 : decode cX2_goesOn 80 = .ok (.ifCond .eq 16, 3) := dk_153 0 16 (dk_at dksX2_goesOn_3 13 rfl rfl)
theorem dX2_goesOn_83 : decode cX2_goesOn 83 = .ok (.aload_n 0, 1) := dk_42 (dk_at dksX2_goesOn_3 16 rfl rfl)
theorem dX2_goesOn_84 : decode cX2_goesOn 84 = .ok (.dup, 1) := dk_89 (dk_at dksX2_goesOn_3 17 rfl rfl)
theorem dX2_goesOn_85 : decode cX2_goesOn 85 = .ok (.getfield 66, 3) := dk_180 0 66 (dk_at dksX2_goesOn_3 18 rfl rfl)
theorem dX2_goesOn_88 : decode cX2_goesOn 88 = .ok (.iconst 1, 1) := dk_4 (dk_at dksX2_goesOn_3 21 rfl rfl)
theorem dX2_goesOn_89 : decode cX2_goesOn 89 = .ok (.iadd, 1) := dk_96 (dk_at dksX2_goesOn_3 22 rfl rfl)
theorem dX2_goesOn_90 : decode cX2_goesOn 90 = .ok (.putfield 66, 3) := dk_181 0 66 (dk_at dksX2_goesOn_4 0 rfl rfl)
theorem dX2_goesOn_93 : decode cX2_goesOn 93 = .ok (.goto (-28), 3) := dk_167 255 228 (dk_at dksX2_goesOn_4 3 rfl rfl)
theorem dX2_goesOn_96 : decode cX2_goesOn 96 = .ok (.aload_n 0, 1) := dk_42 (dk_at dksX2_goesOn_4 6 rfl rfl)
theorem dX2_goesOn_97 : decode cX2_goesOn 97 = .ok (.aload_n 0, 1) := dk_42 (dk_at dksX2_goesOn_4 7 rfl rfl)
theorem dX2_goesOn_98 : decode cX2_goesOn 98 = .ok (.getfield 66, 3) := dk_180 0 66 (dk_at dksX2_goesOn_4 8 rfl rfl)
theorem dX2_goesOn_101 : decode cX2_goesOn 101 = .ok (.aload_n 0, 1) := dk_42 (dk_at dksX2_goesOn_4 11 rfl rfl)
theorem dX2_goesOn_102 : decode cX2_goesOn 102 = .ok (.getfield 73, 3) := dk_180 0 73 (dk_at dksX2_goesOn_4 12 rfl rfl)
theorem dX2_goesOn_105 : decode cX2_goesOn 105 = .ok (.isub, 1) := dk_100 (dk_at dksX2_goesOn_4 15 rfl rfl)
theorem dX2_goesOn_106 : decode cX2_goesOn 106 = .ok (.bipush 6, 2) := dk_16 6 (dk_at dksX2_goesOn_4 16 rfl rfl)
theorem dX2_goesOn_108 : decode cX2_goesOn 108 = .ok (.if_icmp .le 7, 3) := dk_164 0 7 (dk_at dksX2_goesOn_4 18 rfl rfl)
theorem dX2_goesOn_111 : decode cX2_goesOn 111 = .ok (.iconst 1, 1) := dk_4 (dk_at dksX2_goesOn_4 21 rfl rfl)
theorem dX2_goesOn_112 : decode cX2_goesOn 112 = .ok (.goto 4, 3) := dk_167 0 4 (dk_at dksX2_goesOn_5 0 rfl rfl)
theorem dX2_goesOn_115 : decode cX2_goesOn 115 = .ok (.iconst 2, 1) := dk_5 (dk_at dksX2_goesOn_5 3 rfl rfl)
theorem dX2_goesOn_116 : decode cX2_goesOn 116 = .ok (.putfield 76, 3) := dk_181 0 76 (dk_at dksX2_goesOn_5 4 rfl rfl)
theorem dX2_goesOn_119 : decode cX2_goesOn 119 = .ok (.return_, 1) := dk_177 (dk_at dksX2_goesOn_5 7 rfl rfl)
theorem dX2_goesOn_120 : decode cX2_goesOn 120 = .ok (.iload_n 1, 1) := dk_27 (dk_at dksX2_goesOn_5 8 rfl rfl)
theorem dX2_goesOn_121 : decode cX2_goesOn 121 = .ok (.bipush 48, 2) := dk_16 48 (dk_at dksX2_goesOn_5 9 rfl rfl)
theorem dX2_goesOn_123 : decode cX2_goesOn 123 = .ok (.bipush 57, 2) := dk_16 57 (dk_at dksX2_goesOn_5 11 rfl rfl)
theorem dX2_goesOn_125 : decode cX2_goesOn 125 = .ok (.invokestatic 79, 3) := dk_184 0 79 (dk_at dksX2_goesOn_5 13 rfl rfl)
theorem dX2_goesOn_128 : decode cX2_goesOn 128 = .ok (.ifCond .eq 105, 3) := dk_153 0 105 (dk_at dksX2_goesOn_5 16 rfl rfl)
theorem dX2_goesOn_131 : decode cX2_goesOn 131 = .ok (.aload_n 0, 1) := dk_42 (dk_at dksX2_goesOn_5 19 rfl rfl)
theorem dX2_goesOn_132 : decode cX2_goesOn 132 = .ok (.iconst 0, 1) := dk_3 (dk_at dksX2_goesOn_5 20 rfl rfl)
theorem dX2_goesOn_133 : decode cX2_goesOn 133 = .ok (.putfield 83, 3) := dk_181 0 83 (dk_at dksX2_goesOn_5 21 rfl rfl)
theorem dX2_goesOn_136 : decode cX2_goesOn 136 = .ok (.aload_n 0, 1) := dk_42 (dk_at dksX2_goesOn_6 0 rfl rfl)
theorem dX2_goesOn_137 : decode cX2_goesOn 137 = .ok (.aload_n 0, 1) := dk_42 (dk_at dksX2_goesOn_6 1 rfl rfl)
theorem dX2_goesOn_138 : decode cX2_goesOn 138 = .ok (.getfield 66, 3) := dk_180 0 66 (dk_at dksX2_goesOn_6 2 rfl rfl)
theorem dX2_goesOn_141 : decode cX2_goesOn 141 = .ok (.invokevirtual 69, 3) := dk_182 0 69 (dk_at dksX2_goesOn_6 5 rfl rfl)
theorem dX2_goesOn_144 : decode cX2_goesOn 144 = .ok (.bipush 48, 2) := dk_16 48 (dk_at dksX2_goesOn_6 8 rfl rfl)
theorem dX2_goesOn_146 : decode cX2_goesOn 146 = .ok (.bipush 57, 2) := dk_16 57 (dk_at dksX2_goesOn_6 10 rfl rfl)
theorem dX2_goesOn_148 : decode cX2_goesOn 148 = .ok (.invokestatic 79, 3) := dk_184 0 79 (dk_at dksX2_goesOn_6 12 rfl rfl)
theorem dX2_goesOn_151 : decode cX2_goesOn 151 = .ok (.ifCond .eq 59, 3) := dk_153 0 59 (dk_at dksX2_goesOn_6 15 rfl rfl)
theorem dX2_goesOn_154 : decode cX2_goesOn 154 = .ok (.aload_n 0, 1) := dk_42 (dk_at dksX2_goesOn_6 18 rfl rfl)
theorem dX2_goesOn_155 : decode cX2_goesOn 155 = .ok (.aload_n 0, 1) := dk_42 (dk_at dksX2_goesOn_6 19 rfl rfl)
theorem dX2_goesOn_156 : decode cX2_goesOn 156 = .ok (.getfield 66, 3) := dk_180 0 66 (dk_at dksX2_goesOn_6 20 rfl rfl)
theorem dX2_goesOn_159 : decode cX2_goesOn 159 = .ok (.aload_n 0, 1) := dk_42 (dk_at dksX2_goesOn_6 23 rfl rfl)
theorem dX2_goesOn_160 : decode cX2_goesOn 160 = .ok (.getfield 73, 3) := dk_180 0 73 (dk_at dksX2_goesOn_7 0 rfl rfl)
theorem dX2_goesOn_163 : decode cX2_goesOn 163 = .ok (.isub, 1) := dk_100 (dk_at dksX2_goesOn_7 3 rfl rfl)
theorem dX2_goesOn_164 : decode cX2_goesOn 164 = .ok (.iconst 4, 1) := dk_7 (dk_at dksX2_goesOn_7 4 rfl rfl)
theorem dX2_goesOn_165 : decode cX2_goesOn 165 = .ok (.if_icmp .ge 25, 3) := dk_162 0 25 (dk_at dksX2_goesOn_7 5 rfl rfl)
theorem dX2_goesOn_168 : decode cX2_goesOn 168 = .ok (.bipush 10, 2) := dk_16 10 (dk_at dksX2_goesOn_7 8 rfl rfl)
theorem dX2_goesOn_170 : decode cX2_goesOn 170 = .ok (.aload_n 0, 1) := dk_42 (dk_at dksX2_goesOn_7 10 rfl rfl)
theorem dX2_goesOn_171 : decode cX2_goesOn 171 = .ok (.getfield 83, 3) := dk_180 0 83 (dk_at dksX2_goesOn_7 11 rfl rfl)
theorem dX2_goesOn_174 : decode cX2_goesOn 174 = .ok (.imul, 1) := dk_104 (dk_at dksX2_goesOn_7 14 rfl rfl)
theorem dX2_goesOn_175 : decode cX2_goesOn 175 = .ok (.aload_n 0, 1) := dk_42 (dk_at dksX2_goesOn_7 15 rfl rfl)
theorem dX2_goesOn_176 : decode cX2_goesOn 176 = .ok (.aload_n 0, 1) := dk_42 (dk_at dksX2_goesOn_7 16 rfl rfl)
theorem dX2_goesOn_177 : decode cX2_goesOn 177 = .ok (.getfield 66, 3) := dk_180 0 66 (dk_at dksX2_goesOn_7 17 rfl rfl)
theorem dX2_goesOn_180 : decode cX2_goesOn 180 = .ok (.invokevirtual 69, 3) := dk_182 0 69 (dk_at dksX2_goesOn_7 20 rfl rfl)
theorem dX2_goesOn_183 : decode cX2_goesOn 183 = .ok (.iadd, 1) := dk_96 (dk_at dksX2_goesOn_7 23 rfl rfl)
theorem dX2_goesOn_184 : decode cX2_goesOn 184 = .ok (.bipush 48, 2) := dk_16 48 (dk_at dksX2_goesOn_8 0 rfl rfl)
theorem dX2_goesOn_186 : decode cX2_goesOn 186 = .ok (.isub, 1) := dk_100 (dk_at dksX2_goesOn_8 2 rfl rfl)
theorem dX2_goesOn_187 : decode cX2_goesOn 187 = .ok (.goto 7, 3) := dk_167 0 7 (dk_at dksX2_goesOn_8 3 rfl rfl)
theorem dX2_goesOn_190 : decode cX2_goesOn 190 = .ok (.aload_n 0, 1) := dk_42 (dk_at dksX2_goesOn_8 6 rfl rfl)
theorem dX2_goesOn_191 : decode cX2_goesOn 191 = .ok (.getfield 83, 3) := dk_180 0 83 (dk_at dksX2_goesOn_8 7 rfl rfl)
theorem dX2_goesOn_194 : decode cX2_goesOn 194 = .ok (.putfield 83, 3) := dk_181 0 83 (dk_at dksX2_goesOn_8 10 rfl rfl)
theorem dX2_goesOn_197 : decode cX2_goesOn 197 = .ok (.aload_n 0, 1) := dk_42 (dk_at dksX2_goesOn_8 13 rfl rfl)
theorem dX2_goesOn_198 : decode cX2_goesOn 198 = .ok (.dup, 1) := dk_89 (dk_at dksX2_goesOn_8 14 rfl rfl)
theorem dX2_goesOn_199 : decode cX2_goesOn 199 = .ok (.getfield 66, 3) := dk_180 0 66 (dk_at dksX2_goesOn_8 15 rfl rfl)
theorem dX2_goesOn_202 : decode cX2_goesOn 202 = .ok (.iconst 1, 1) := dk_4 (dk_at dksX2_goesOn_8 18 rfl rfl)
theorem dX2_goesOn_203 : decode cX2_goesOn 203 = .ok (.iadd, 1) := dk_96 (dk_at dksX2_goesOn_8 19 rfl rfl)
theorem dX2_goesOn_204 : decode cX2_goesOn 204 = .ok (.putfield 66, 3) := dk_181 0 66 (dk_at dksX2_goesOn_8 20 rfl rfl)
theorem dX2_goesOn_207 : decode cX2_goesOn 207 = .ok (.goto (-71), 3) := dk_167 255 185 (dk_at dksX2_goesOn_9 0 rfl rfl)
theorem dX2_goesOn_210 : decode cX2_goesOn 210 = .ok (.aload_n 0, 1) := dk_42 (dk_at dksX2_goesOn_9 3 rfl rfl)
theorem dX2_goesOn_211 : decode cX2_goesOn 211 = .ok (.aload_n 0, 1) := dk_42 (dk_at dksX2_goesOn_9 4 rfl rfl)
theorem dX2_goesOn_212 : decode cX2_goesOn 212 = .ok (.getfield 66, 3) := dk_180 0 66 (dk_at dksX2_goesOn_9 5 rfl rfl)
theorem dX2_goesOn_215 : decode cX2_goesOn 215 = .ok (.aload_n 0, 1) := dk_42 (dk_at dksX2_goesOn_9 8 rfl rfl)
theorem dX2_goesOn_216 : decode cX2_goesOn 216 = .ok (.getfield 73, 3) := dk_180 0 73 (dk_at dksX2_goesOn_9 9 rfl rfl)
theorem dX2_goesOn_219 : decode cX2_goesOn 219 = .ok (.isub, 1) := dk_100 (dk_at dksX2_goesOn_9 12 rfl rfl)
theorem dX2_goesOn_220 : decode cX2_goesOn 220 = .ok (.iconst 4, 1) := dk_7 (dk_at dksX2_goesOn_9 13 rfl rfl)
theorem dX2_goesOn_221 : decode cX2_goesOn 221 = .ok (.if_icmp .le 7, 3) := dk_164 0 7 (dk_at dksX2_goesOn_9 14 rfl rfl)
theorem dX2_goesOn_224 : decode cX2_goesOn 224 = .ok (.iconst 1, 1) := dk_4 (dk_at dksX2_goesOn_9 17 rfl rfl)
theorem dX2_goesOn_225 : decode cX2_goesOn 225 = .ok (.goto 4, 3) := dk_167 0 4 (dk_at dksX2_goesOn_9 18 rfl rfl)
theorem dX2_goesOn_228 : decode cX2_goesOn 228 = .ok (.iconst 3, 1) := dk_6 (dk_at dksX2_goesOn_9 21 rfl rfl)
theorem dX2_goesOn_229 : decode cX2_goesOn 229 = .ok (.putfield 76, 3) := dk_181 0 76 (dk_at dksX2_goesOn_10 0 rfl rfl)
theorem dX2_goesOn_232 : decode cX2_goesOn 232 = .ok (.return_, 1) := dk_177 (dk_at dksX2_goesOn_10 3 rfl rfl)
theorem dX2_goesOn_233 : decode cX2_goesOn 233 = .ok (.aload_n 0, 1) := dk_42 (dk_at dksX2_goesOn_10 4 rfl rfl)
theorem dX2_goesOn_234 : decode cX2_goesOn 234 = .ok (.dup, 1) := dk_89 (dk_at dksX2_goesOn_10 5 rfl rfl)
theorem dX2_goesOn_235 : decode cX2_goesOn 235 = .ok (.getfield 66, 3) := dk_180 0 66 (dk_at dksX2_goesOn_10 6 rfl rfl)
theorem dX2_goesOn_238 : decode cX2_goesOn 238 = .ok (.iconst 1, 1) := dk_4 (dk_at dksX2_goesOn_10 9 rfl rfl)
theorem dX2_goesOn_239 : decode cX2_goesOn 239 = .ok (.iadd, 1) := dk_96 (dk_at dksX2_goesOn_10 10 rfl rfl)
theorem dX2_goesOn_240 : decode cX2_goesOn 240 = .ok (.putfield 66, 3) := dk_181 0 66 (dk_at dksX2_goesOn_10 11 rfl rfl)
theorem dX2_goesOn_243 : decode cX2_goesOn 243 = .ok (.aload_n 0, 1) := dk_42 (dk_at dksX2_goesOn_10 14 rfl rfl)
theorem dX2_goesOn_244 : decode cX2_goesOn 244 = .ok (.iload_n 1, 1) := dk_27 (dk_at dksX2_goesOn_10 15 rfl rfl)
theorem dX2_goesOn_245 : decode cX2_goesOn 245 = .ok (.bipush 59, 2) := dk_16 59 (dk_at dksX2_goesOn_10 16 rfl rfl)
theorem dX2_goesOn_247 : decode cX2_goesOn 247 = .ok (.if_icmp .eq 15, 3) := dk_159 0 15 (dk_at dksX2_goesOn_10 18 rfl rfl)
theorem dX2_goesOn_250 : decode cX2_goesOn 250 = .ok (.iload_n 1, 1) := dk_27 (dk_at dksX2_goesOn_10 21 rfl rfl)
theorem dX2_goesOn_251 : decode cX2_goesOn 251 = .ok (.bipush 44, 2) := dk_16 44 (dk_at dksX2_goesOn_10 22 rfl rfl)
theorem dX2_goesOn_253 : decode cX2_goesOn 253 = .ok (.if_icmp .eq 9, 3) := dk_159 0 9 (dk_at dksX2_goesOn_11 0 rfl rfl)
theorem dX2_goesOn_256 : decode cX2_goesOn 256 = .ok (.iload_n 1, 1) := dk_27 (dk_at dksX2_goesOn_11 3 rfl rfl)
theorem dX2_goesOn_257 : decode cX2_goesOn 257 = .ok (.bipush 58, 2) := dk_16 58 (dk_at dksX2_goesOn_11 4 rfl rfl)
theorem dX2_goesOn_259 : decode cX2_goesOn 259 = .ok (.if_icmp .ne 7, 3) := dk_160 0 7 (dk_at dksX2_goesOn_11 6 rfl rfl)
theorem dX2_goesOn_262 : decode cX2_goesOn 262 = .ok (.iload_n 1, 1) := dk_27 (dk_at dksX2_goesOn_11 9 rfl rfl)
theorem dX2_goesOn_263 : decode cX2_goesOn 263 = .ok (.goto 4, 3) := dk_167 0 4 (dk_at dksX2_goesOn_11 10 rfl rfl)
theorem dX2_goesOn_266 : decode cX2_goesOn 266 = .ok (.iconst 1, 1) := dk_4 (dk_at dksX2_goesOn_11 13 rfl rfl)
theorem dX2_goesOn_267 : decode cX2_goesOn 267 = .ok (.putfield 76, 3) := dk_181 0 76 (dk_at dksX2_goesOn_11 14 rfl rfl)
theorem dX2_goesOn_270 : decode cX2_goesOn 270 = .ok (.return_, 1) := dk_177 (dk_at dksX2_goesOn_11 17 rfl rfl)
theorem md_X2_goesOn : xMd yX2_goesOn cX2_goesOn 2 (Option.none : Option Jvm.ClassFile.FieldType) 0 := ⟨q3033, q126, by decide, by decide +kernel, by decide +kernel, by decide +kernel⟩
def T_goesOn_267   (w1 : Int32) (s0 : TS) : Option (xO × TS) :=
  (bnd (tI s0 14 w1) fun s11 =>
  (rV s11))
def T_goesOn_262   (v1 : Int32) (s0 : TS) : Option (xO × TS) :=
  (T_goesOn_267 v1 s0)
def T_goesOn_229   (w1 : Int32) (s0 : TS) : Option (xO × TS) :=
  (bnd (tI s0 14 w1) fun s17 =>
  (rV s17))
def T_goesOn_194  (k136 : TS → Option (xO × TS)) (w1 : Int32) (s0 : TS) : Option (xO × TS) :=
  (bnd (tI s0 15 w1) fun s18 =>
  (bnd (tI s18 13 ((s18.1 13) + 1)) fun s19 =>
  (k136 s19)))
def T_goesOn_136F   (k136 : TS → Option (xO × TS)) (p : TS) : Option (xO × TS) := match p with
  | s0 => (xcI (T_see s0 (s0.1 13)) fun x14 s13 =>
  (xcI (T_in s13 x14 48 57) fun x16 s15 =>
  (if x16 = 0 then
  (if ((s15.1 13) - (s15.1 12)) ≤ 4 then
  (T_goesOn_229 3 s15) else
  (T_goesOn_229 1 s15)) else
  (if 4 ≤ ((s15.1 13) - (s15.1 12)) then
  (T_goesOn_194 k136 (s15.1 15) s15) else
  (xcI (T_see s15 (s15.1 13)) fun x21 s20 =>
  (T_goesOn_194 k136 (((10 * (s15.1 15)) + x21) - 48) s20))))))
def T_goesOn_116   (w1 : Int32) (s0 : TS) : Option (xO × TS) :=
  (bnd (tI s0 14 w1) fun s26 =>
  (rV s26))
def T_goesOn_65F   (k65 : TS → Option (xO × TS)) (p : TS) : Option (xO × TS) := match p with
  | s0 => (xcI (T_see s0 (s0.1 13)) fun x23 s22 =>
  (xcI (T_in s22 x23 97 122) fun x25 s24 =>
  (if x25 = 0 then
  (if ((s24.1 13) - (s24.1 12)) ≤ 6 then
  (T_goesOn_116 2 s24) else
  (T_goesOn_116 1 s24)) else
  (bnd (tI s24 13 ((s24.1 13) + 1)) fun s27 =>
  (k65 s27)))))
def T_goesOn_0F   (k0 : TS → Option (xO × TS)) (p : TS) : Option (xO × TS) := match p with
  | s0 => (xcI (T_see s0 (s0.1 13)) fun x2 s1 =>
  (if x2 = 32 then
  (bnd (tI s1 13 ((s1.1 13) + 1)) fun s29 =>
  (k0 s29)) else
  (bnd (tI s1 12 (s1.1 13)) fun s3 =>
  (xcI (T_see s3 (s3.1 13)) fun x5 s4 =>
  (if x5 = (-1) then
  (bnd (tI s4 14 0) fun s28 =>
  (rV s28)) else
  (xcI (T_in s4 x5 97 122) fun x7 s6 =>
  (if x7 = 0 then
  (xcI (T_in s6 x5 48 57) fun x9 s8 =>
  (if x9 = 0 then
  (bnd (tI s8 13 ((s8.1 13) + 1)) fun s10 =>
  (if x5 = 59 then
  (T_goesOn_262 x5 s10) else
  (if x5 = 44 then
  (T_goesOn_262 x5 s10) else
  (if x5 = 58 then
  (T_goesOn_262 x5 s10) else
  (T_goesOn_267 1 s10))))) else
  (bnd (tI s8 15 0) fun s12 =>
  (lp (T_goesOn_136F) FU s12)))) else
  (lp (T_goesOn_65F) FU s6))))))))
def T_goesOn (s0 : TS)  : Option (xO × TS) :=
  (lp (T_goesOn_0F) FU s0)
theorem T_goesOn_267_ok {G : xG} {E : TE} (hO : xOK G) (hE : tok E)   (w1 : Int32) (s0 : TS) : XT G E "ForestLegsModel" "goesOn" cX2_goesOn 2 (Option.none : Option Jvm.ClassFile.FieldType) 1 267 [] [.int w1, .ref E.2.1] s0 (T_goesOn_267 w1 s0) := by
  unfold T_goesOn_267
  refine tw_put (pl_X2_76 _ _ ⟨rfl, rfl⟩) rfl (by decide) dX2_goesOn_267 (n := 270) rfl (fun s11 => ?_)
  exact tw_return dX2_goesOn_270
theorem T_goesOn_262_ok {G : xG} {E : TE} (hO : xOK G) (hE : tok E)   (v1 : Int32) (s0 : TS) : XT G E "ForestLegsModel" "goesOn" cX2_goesOn 2 (Option.none : Option Jvm.ClassFile.FieldType) 1 262 [(1, .int v1)] [.ref E.2.1] s0 (T_goesOn_262 v1 s0) := by
  unfold T_goesOn_262
  refine x_iload_n 0 dX2_goesOn_262 rfl rfl (n := 263) rfl ?_
  refine x_goto dX2_goesOn_263 (n := 267) (by decide) ?_
  refine x_sub [] [] rfl ?_
  exact T_goesOn_267_ok hO hE v1 s0
theorem T_goesOn_229_ok {G : xG} {E : TE} (hO : xOK G) (hE : tok E)   (w1 : Int32) (s0 : TS) : XT G E "ForestLegsModel" "goesOn" cX2_goesOn 2 (Option.none : Option Jvm.ClassFile.FieldType) 1 229 [] [.int w1, .ref E.2.1] s0 (T_goesOn_229 w1 s0) := by
  unfold T_goesOn_229
  refine tw_put (pl_X2_76 _ _ ⟨rfl, rfl⟩) rfl (by decide) dX2_goesOn_229 (n := 232) rfl (fun s17 => ?_)
  exact tw_return dX2_goesOn_232
theorem T_goesOn_194_ok {G : xG} {E : TE} (hO : xOK G) (hE : tok E)  {k136 : TS → Option (xO × TS)} (hk136 : ∀  (s0 : TS), XT G E "ForestLegsModel" "goesOn" cX2_goesOn 2 (Option.none : Option Jvm.ClassFile.FieldType) 1 136 [(0, .ref E.2.1)] [] s0 (k136 (s0))) (w1 : Int32) (s0 : TS) : XT G E "ForestLegsModel" "goesOn" cX2_goesOn 2 (Option.none : Option Jvm.ClassFile.FieldType) 1 194 [(0, .ref E.2.1)] [.int w1, .ref E.2.1] s0 (T_goesOn_194 k136 w1 s0) := by
  unfold T_goesOn_194
  refine tw_put (pl_X2_83 _ _ ⟨rfl, rfl⟩) rfl (by decide) dX2_goesOn_194 (n := 197) rfl (fun s18 => ?_)
  refine x_aload_nr 0 dX2_goesOn_197 rfl rfl (n := 198) rfl ?_
  refine x_dup dX2_goesOn_198 rfl (n := 199) rfl ?_
  refine tw_getI fl_X2_66 rfl (by decide) dX2_goesOn_199 (n := 202) rfl ?_
  refine x_iconst 1 dX2_goesOn_202 rfl (n := 203) rfl ?_
  refine x_iadd dX2_goesOn_203 (n := 204) rfl ?_
  refine tw_put (pl_X2_66 _ _ ⟨rfl, rfl⟩) rfl (by decide) dX2_goesOn_204 (n := 207) rfl (fun s19 => ?_)
  refine x_goto dX2_goesOn_207 (n := 136) (by decide) ?_
  exact hk136  s19
theorem T_goesOn_136F_ok {G : xG} {E : TE} (hO : xOK G) (hE : tok E)   {k136 : TS → Option (xO × TS)} (hk136 : ∀  (s0 : TS), XT G E "ForestLegsModel" "goesOn" cX2_goesOn 2 (Option.none : Option Jvm.ClassFile.FieldType) 1 136 [(0, .ref E.2.1)] [] s0 (k136 (s0)))  (s0 : TS) : XT G E "ForestLegsModel" "goesOn" cX2_goesOn 2 (Option.none : Option Jvm.ClassFile.FieldType) 1 136 [(0, .ref E.2.1)] [] s0 (T_goesOn_136F k136 s0) := by
  unfold T_goesOn_136F
  refine x_aload_nr 0 dX2_goesOn_136 rfl rfl (n := 137) rfl ?_
  refine x_aload_nr 0 dX2_goesOn_137 rfl rfl (n := 138) rfl ?_
  refine tw_getI fl_X2_66 rfl (by decide) dX2_goesOn_138 (n := 141) rfl ?_
  refine tw_callV_I [.int (s0.1 13)] [] (T_see_ok hO hE s0 (s0.1 13)) md_X2_see q3034 q3036 qs66 dX2_goesOn_141 rfl rfl (by decide) (Nat.le_of_ble_eq_true rfl) (n := 144) rfl (fun x14 s13 => ?_)
  refine x_bipush 48 dX2_goesOn_144 rfl (n := 146) rfl ?_
  refine x_bipush 57 dX2_goesOn_146 rfl (n := 148) rfl ?_
  refine tw_callS_I [.int x14, .int 48, .int 57] [] (T_in_ok hO hE s13 x14 48 57) md_X2_in q3016 q3017 dX2_goesOn_148 rfl rfl (by decide) (Nat.le_of_ble_eq_true rfl) (n := 151) rfl (fun x16 s15 => ?_)
  refine tw_if_eq dX2_goesOn_151 (t := 210) (by decide) (n := 154) rfl ?_ ?_
  · refine x_aload_nr 0 dX2_goesOn_210 rfl rfl (n := 211) rfl ?_
    refine x_aload_nr 0 dX2_goesOn_211 rfl rfl (n := 212) rfl ?_
    refine tw_getI fl_X2_66 rfl (by decide) dX2_goesOn_212 (n := 215) rfl ?_
    refine x_aload_nr 0 dX2_goesOn_215 rfl rfl (n := 216) rfl ?_
    refine tw_getI fl_X2_73 rfl (by decide) dX2_goesOn_216 (n := 219) rfl ?_
    refine x_isub dX2_goesOn_219 (n := 220) rfl ?_
    refine x_iconst 4 dX2_goesOn_220 rfl (n := 221) rfl ?_
    refine tw_icmp_le dX2_goesOn_221 (t := 228) (by decide) (n := 224) rfl ?_ ?_
    · refine x_iconst 3 dX2_goesOn_228 rfl (n := 229) rfl ?_
      refine x_sub [] [] rfl ?_
      exact T_goesOn_229_ok hO hE 3 s15
    · refine x_iconst 1 dX2_goesOn_224 rfl (n := 225) rfl ?_
      refine x_goto dX2_goesOn_225 (n := 229) (by decide) ?_
      refine x_sub [] [] rfl ?_
      exact T_goesOn_229_ok hO hE 1 s15
  · refine x_aload_nr 0 dX2_goesOn_154 rfl rfl (n := 155) rfl ?_
    refine x_aload_nr 0 dX2_goesOn_155 rfl rfl (n := 156) rfl ?_
    refine tw_getI fl_X2_66 rfl (by decide) dX2_goesOn_156 (n := 159) rfl ?_
    refine x_aload_nr 0 dX2_goesOn_159 rfl rfl (n := 160) rfl ?_
    refine tw_getI fl_X2_73 rfl (by decide) dX2_goesOn_160 (n := 163) rfl ?_
    refine x_isub dX2_goesOn_163 (n := 164) rfl ?_
    refine x_iconst 4 dX2_goesOn_164 rfl (n := 165) rfl ?_
    refine tw_icmp_ge dX2_goesOn_165 (t := 190) (by decide) (n := 168) rfl ?_ ?_
    · refine x_aload_nr 0 dX2_goesOn_190 rfl rfl (n := 191) rfl ?_
      refine tw_getI fl_X2_83 rfl (by decide) dX2_goesOn_191 (n := 194) rfl ?_
      exact T_goesOn_194_ok hO hE hk136 (s15.1 15) s15
    · refine x_bipush 10 dX2_goesOn_168 rfl (n := 170) rfl ?_
      refine x_aload_nr 0 dX2_goesOn_170 rfl rfl (n := 171) rfl ?_
      refine tw_getI fl_X2_83 rfl (by decide) dX2_goesOn_171 (n := 174) rfl ?_
      refine x_imul dX2_goesOn_174 (n := 175) rfl ?_
      refine x_aload_nr 0 dX2_goesOn_175 rfl rfl (n := 176) rfl ?_
      refine x_aload_nr 0 dX2_goesOn_176 rfl rfl (n := 177) rfl ?_
      refine tw_getI fl_X2_66 rfl (by decide) dX2_goesOn_177 (n := 180) rfl ?_
      refine tw_callV_I [.int (s15.1 13)] [.int (10 * (s15.1 15)), .ref E.2.1] (T_see_ok hO hE s15 (s15.1 13)) md_X2_see q3034 q3036 qs66 dX2_goesOn_180 rfl rfl (by decide) (Nat.le_of_ble_eq_true rfl) (n := 183) rfl (fun x21 s20 => ?_)
      refine x_iadd dX2_goesOn_183 (n := 184) rfl ?_
      refine x_bipush 48 dX2_goesOn_184 rfl (n := 186) rfl ?_
      refine x_isub dX2_goesOn_186 (n := 187) rfl ?_
      refine x_goto dX2_goesOn_187 (n := 194) (by decide) ?_
      exact T_goesOn_194_ok hO hE hk136 (((10 * (s15.1 15)) + x21) - 48) s20
theorem T_goesOn_136_lp {G : xG} {E : TE} (hO : xOK G) (hE : tok E)   (n : Nat)  (s0 : TS) : XT G E "ForestLegsModel" "goesOn" cX2_goesOn 2 (Option.none : Option Jvm.ClassFile.FieldType) 1 136 [(0, .ref E.2.1)] [] s0 (lp (T_goesOn_136F) n s0) :=
  lp_ok (W := fun p K => XT G E "ForestLegsModel" "goesOn" cX2_goesOn 2 (Option.none : Option Jvm.ClassFile.FieldType) 1 136 [(0, .ref E.2.1)] [] p K) (fun _ => tw_no) (fun k hk => fun s0 => T_goesOn_136F_ok hO hE (fun  s0 => hk s0)  s0) n s0
theorem T_goesOn_116_ok {G : xG} {E : TE} (hO : xOK G) (hE : tok E)   (w1 : Int32) (s0 : TS) : XT G E "ForestLegsModel" "goesOn" cX2_goesOn 2 (Option.none : Option Jvm.ClassFile.FieldType) 1 116 [] [.int w1, .ref E.2.1] s0 (T_goesOn_116 w1 s0) := by
  unfold T_goesOn_116
  refine tw_put (pl_X2_76 _ _ ⟨rfl, rfl⟩) rfl (by decide) dX2_goesOn_116 (n := 119) rfl (fun s26 => ?_)
  exact tw_return dX2_goesOn_119
theorem T_goesOn_65F_ok {G : xG} {E : TE} (hO : xOK G) (hE : tok E)   {k65 : TS → Option (xO × TS)} (hk65 : ∀  (s0 : TS), XT G E "ForestLegsModel" "goesOn" cX2_goesOn 2 (Option.none : Option Jvm.ClassFile.FieldType) 1 65 [(0, .ref E.2.1)] [] s0 (k65 (s0)))  (s0 : TS) : XT G E "ForestLegsModel" "goesOn" cX2_goesOn 2 (Option.none : Option Jvm.ClassFile.FieldType) 1 65 [(0, .ref E.2.1)] [] s0 (T_goesOn_65F k65 s0) := by
  unfold T_goesOn_65F
  refine x_aload_nr 0 dX2_goesOn_65 rfl rfl (n := 66) rfl ?_
  refine x_aload_nr 0 dX2_goesOn_66 rfl rfl (n := 67) rfl ?_
  refine tw_getI fl_X2_66 rfl (by decide) dX2_goesOn_67 (n := 70) rfl ?_
  refine tw_callV_I [.int (s0.1 13)] [] (T_see_ok hO hE s0 (s0.1 13)) md_X2_see q3034 q3036 qs66 dX2_goesOn_70 rfl rfl (by decide) (Nat.le_of_ble_eq_true rfl) (n := 73) rfl (fun x23 s22 => ?_)
  refine x_bipush 97 dX2_goesOn_73 rfl (n := 75) rfl ?_
  refine x_bipush 122 dX2_goesOn_75 rfl (n := 77) rfl ?_
  refine tw_callS_I [.int x23, .int 97, .int 122] [] (T_in_ok hO hE s22 x23 97 122) md_X2_in q3016 q3017 dX2_goesOn_77 rfl rfl (by decide) (Nat.le_of_ble_eq_true rfl) (n := 80) rfl (fun x25 s24 => ?_)
  refine tw_if_eq dX2_goesOn_80 (t := 96) (by decide) (n := 83) rfl ?_ ?_
  · refine x_aload_nr 0 dX2_goesOn_96 rfl rfl (n := 97) rfl ?_
    refine x_aload_nr 0 dX2_goesOn_97 rfl rfl (n := 98) rfl ?_
    refine tw_getI fl_X2_66 rfl (by decide) dX2_goesOn_98 (n := 101) rfl ?_
    refine x_aload_nr 0 dX2_goesOn_101 rfl rfl (n := 102) rfl ?_
    refine tw_getI fl_X2_73 rfl (by decide) dX2_goesOn_102 (n := 105) rfl ?_
    refine x_isub dX2_goesOn_105 (n := 106) rfl ?_
    refine x_bipush 6 dX2_goesOn_106 rfl (n := 108) rfl ?_
    refine tw_icmp_le dX2_goesOn_108 (t := 115) (by decide) (n := 111) rfl ?_ ?_
    · refine x_iconst 2 dX2_goesOn_115 rfl (n := 116) rfl ?_
      refine x_sub [] [] rfl ?_
      exact T_goesOn_116_ok hO hE 2 s24
    · refine x_iconst 1 dX2_goesOn_111 rfl (n := 112) rfl ?_
      refine x_goto dX2_goesOn_112 (n := 116) (by decide) ?_
      refine x_sub [] [] rfl ?_
      exact T_goesOn_116_ok hO hE 1 s24
  · refine x_aload_nr 0 dX2_goesOn_83 rfl rfl (n := 84) rfl ?_
    refine x_dup dX2_goesOn_84 rfl (n := 85) rfl ?_
    refine tw_getI fl_X2_66 rfl (by decide) dX2_goesOn_85 (n := 88) rfl ?_
    refine x_iconst 1 dX2_goesOn_88 rfl (n := 89) rfl ?_
    refine x_iadd dX2_goesOn_89 (n := 90) rfl ?_
    refine tw_put (pl_X2_66 _ _ ⟨rfl, rfl⟩) rfl (by decide) dX2_goesOn_90 (n := 93) rfl (fun s27 => ?_)
    refine x_goto dX2_goesOn_93 (n := 65) (by decide) ?_
    exact hk65  s27
theorem T_goesOn_65_lp {G : xG} {E : TE} (hO : xOK G) (hE : tok E)   (n : Nat)  (s0 : TS) : XT G E "ForestLegsModel" "goesOn" cX2_goesOn 2 (Option.none : Option Jvm.ClassFile.FieldType) 1 65 [(0, .ref E.2.1)] [] s0 (lp (T_goesOn_65F) n s0) :=
  lp_ok (W := fun p K => XT G E "ForestLegsModel" "goesOn" cX2_goesOn 2 (Option.none : Option Jvm.ClassFile.FieldType) 1 65 [(0, .ref E.2.1)] [] p K) (fun _ => tw_no) (fun k hk => fun s0 => T_goesOn_65F_ok hO hE (fun  s0 => hk s0)  s0) n s0
theorem T_goesOn_0F_ok {G : xG} {E : TE} (hO : xOK G) (hE : tok E)   {k0 : TS → Option (xO × TS)} (hk0 : ∀  (s0 : TS), XT G E "ForestLegsModel" "goesOn" cX2_goesOn 2 (Option.none : Option Jvm.ClassFile.FieldType) 1 0 [(0, .ref E.2.1)] [] s0 (k0 (s0)))  (s0 : TS) : XT G E "ForestLegsModel" "goesOn" cX2_goesOn 2 (Option.none : Option Jvm.ClassFile.FieldType) 1 0 [(0, .ref E.2.1)] [] s0 (T_goesOn_0F k0 s0) := by
  unfold T_goesOn_0F
  refine x_aload_nr 0 dX2_goesOn_0 rfl rfl (n := 1) rfl ?_
  refine x_aload_nr 0 dX2_goesOn_1 rfl rfl (n := 2) rfl ?_
  refine tw_getI fl_X2_66 rfl (by decide) dX2_goesOn_2 (n := 5) rfl ?_
  refine tw_callV_I [.int (s0.1 13)] [] (T_see_ok hO hE s0 (s0.1 13)) md_X2_see q3034 q3036 qs66 dX2_goesOn_5 rfl rfl (by decide) (Nat.le_of_ble_eq_true rfl) (n := 8) rfl (fun x2 s1 => ?_)
  refine x_bipush 32 dX2_goesOn_8 rfl (n := 10) rfl ?_
  refine tw_icmp_ne dX2_goesOn_10 (t := 26) (by decide) (n := 13) rfl ?_ ?_
  · refine x_aload_nr 0 dX2_goesOn_26 rfl rfl (n := 27) rfl ?_
    refine x_aload_nr 0 dX2_goesOn_27 rfl rfl (n := 28) rfl ?_
    refine tw_getI fl_X2_66 rfl (by decide) dX2_goesOn_28 (n := 31) rfl ?_
    refine tw_put (pl_X2_73 _ _ ⟨rfl, rfl⟩) rfl (by decide) dX2_goesOn_31 (n := 34) rfl (fun s3 => ?_)
    refine x_aload_nr 0 dX2_goesOn_34 rfl rfl (n := 35) rfl ?_
    refine x_aload_nr 0 dX2_goesOn_35 rfl rfl (n := 36) rfl ?_
    refine tw_getI fl_X2_66 rfl (by decide) dX2_goesOn_36 (n := 39) rfl ?_
    refine tw_callV_I [.int (s3.1 13)] [] (T_see_ok hO hE s3 (s3.1 13)) md_X2_see q3034 q3036 qs66 dX2_goesOn_39 rfl rfl (by decide) (Nat.le_of_ble_eq_true rfl) (n := 42) rfl (fun x5 s4 => ?_)
    refine x_istore_n [(1, .int x5), (0, .ref E.2.1)] dX2_goesOn_42 rfl (by decide) rfl (n := 43) rfl ?_
    refine x_iload_n 0 dX2_goesOn_43 rfl rfl (n := 44) rfl ?_
    refine x_iconst (-1) dX2_goesOn_44 rfl (n := 45) rfl ?_
    refine tw_icmp_ne dX2_goesOn_45 (t := 54) (by decide) (n := 48) rfl ?_ ?_
    · refine x_iload_n 0 dX2_goesOn_54 rfl rfl (n := 55) rfl ?_
      refine x_bipush 97 dX2_goesOn_55 rfl (n := 57) rfl ?_
      refine x_bipush 122 dX2_goesOn_57 rfl (n := 59) rfl ?_
      refine tw_callS_I [.int x5, .int 97, .int 122] [] (T_in_ok hO hE s4 x5 97 122) md_X2_in q3016 q3017 dX2_goesOn_59 rfl rfl (by decide) (Nat.le_of_ble_eq_true rfl) (n := 62) rfl (fun x7 s6 => ?_)
      refine tw_if_eq dX2_goesOn_62 (t := 120) (by decide) (n := 65) rfl ?_ ?_
      · refine x_iload_n 0 dX2_goesOn_120 rfl rfl (n := 121) rfl ?_
        refine x_bipush 48 dX2_goesOn_121 rfl (n := 123) rfl ?_
        refine x_bipush 57 dX2_goesOn_123 rfl (n := 125) rfl ?_
        refine tw_callS_I [.int x5, .int 48, .int 57] [] (T_in_ok hO hE s6 x5 48 57) md_X2_in q3016 q3017 dX2_goesOn_125 rfl rfl (by decide) (Nat.le_of_ble_eq_true rfl) (n := 128) rfl (fun x9 s8 => ?_)
        refine tw_if_eq dX2_goesOn_128 (t := 233) (by decide) (n := 131) rfl ?_ ?_
        · refine x_aload_nr 1 dX2_goesOn_233 rfl rfl (n := 234) rfl ?_
          refine x_dup dX2_goesOn_234 rfl (n := 235) rfl ?_
          refine tw_getI fl_X2_66 rfl (by decide) dX2_goesOn_235 (n := 238) rfl ?_
          refine x_iconst 1 dX2_goesOn_238 rfl (n := 239) rfl ?_
          refine x_iadd dX2_goesOn_239 (n := 240) rfl ?_
          refine tw_put (pl_X2_66 _ _ ⟨rfl, rfl⟩) rfl (by decide) dX2_goesOn_240 (n := 243) rfl (fun s10 => ?_)
          refine x_aload_nr 1 dX2_goesOn_243 rfl rfl (n := 244) rfl ?_
          refine x_iload_n 0 dX2_goesOn_244 rfl rfl (n := 245) rfl ?_
          refine x_bipush 59 dX2_goesOn_245 rfl (n := 247) rfl ?_
          refine tw_icmp_eq dX2_goesOn_247 (t := 262) (by decide) (n := 250) rfl ?_ ?_
          · refine x_sub [0] [(1, .int x5)] rfl ?_
            exact T_goesOn_262_ok hO hE x5 s10
          · refine x_iload_n 0 dX2_goesOn_250 rfl rfl (n := 251) rfl ?_
            refine x_bipush 44 dX2_goesOn_251 rfl (n := 253) rfl ?_
            refine tw_icmp_eq dX2_goesOn_253 (t := 262) (by decide) (n := 256) rfl ?_ ?_
            · refine x_sub [0] [(1, .int x5)] rfl ?_
              exact T_goesOn_262_ok hO hE x5 s10
            · refine x_iload_n 0 dX2_goesOn_256 rfl rfl (n := 257) rfl ?_
              refine x_bipush 58 dX2_goesOn_257 rfl (n := 259) rfl ?_
              refine tw_icmp_ne dX2_goesOn_259 (t := 266) (by decide) (n := 262) rfl ?_ ?_
              · refine x_iconst 1 dX2_goesOn_266 rfl (n := 267) rfl ?_
                refine x_sub [] [] rfl ?_
                exact T_goesOn_267_ok hO hE 1 s10
              · refine x_sub [0] [(1, .int x5)] rfl ?_
                exact T_goesOn_262_ok hO hE x5 s10
        · refine x_aload_nr 1 dX2_goesOn_131 rfl rfl (n := 132) rfl ?_
          refine x_iconst 0 dX2_goesOn_132 rfl (n := 133) rfl ?_
          refine tw_put (pl_X2_83 _ _ ⟨rfl, rfl⟩) rfl (by decide) dX2_goesOn_133 (n := 136) rfl (fun s12 => ?_)
          refine x_sub [1] [(0, .ref E.2.1)] rfl ?_
          exact T_goesOn_136_lp hO hE FU  s12
      · refine x_sub [1] [(0, .ref E.2.1)] rfl ?_
        exact T_goesOn_65_lp hO hE FU  s6
    · refine x_aload_nr 1 dX2_goesOn_48 rfl rfl (n := 49) rfl ?_
      refine x_iconst 0 dX2_goesOn_49 rfl (n := 50) rfl ?_
      refine tw_put (pl_X2_76 _ _ ⟨rfl, rfl⟩) rfl (by decide) dX2_goesOn_50 (n := 53) rfl (fun s28 => ?_)
      exact tw_return dX2_goesOn_53
  · refine x_aload_nr 0 dX2_goesOn_13 rfl rfl (n := 14) rfl ?_
    refine x_dup dX2_goesOn_14 rfl (n := 15) rfl ?_
    refine tw_getI fl_X2_66 rfl (by decide) dX2_goesOn_15 (n := 18) rfl ?_
    refine x_iconst 1 dX2_goesOn_18 rfl (n := 19) rfl ?_
    refine x_iadd dX2_goesOn_19 (n := 20) rfl ?_
    refine tw_put (pl_X2_66 _ _ ⟨rfl, rfl⟩) rfl (by decide) dX2_goesOn_20 (n := 23) rfl (fun s29 => ?_)
    refine x_goto dX2_goesOn_23 (n := 0) (by decide) ?_
    exact hk0  s29
theorem T_goesOn_0_lp {G : xG} {E : TE} (hO : xOK G) (hE : tok E)   (n : Nat)  (s0 : TS) : XT G E "ForestLegsModel" "goesOn" cX2_goesOn 2 (Option.none : Option Jvm.ClassFile.FieldType) 1 0 [(0, .ref E.2.1)] [] s0 (lp (T_goesOn_0F) n s0) :=
  lp_ok (W := fun p K => XT G E "ForestLegsModel" "goesOn" cX2_goesOn 2 (Option.none : Option Jvm.ClassFile.FieldType) 1 0 [(0, .ref E.2.1)] [] p K) (fun _ => tw_no) (fun k hk => fun s0 => T_goesOn_0F_ok hO hE (fun  s0 => hk s0)  s0) n s0
theorem T_goesOn_ok {G : xG} {E : TE} (hO : xOK G) (hE : tok E) (s0 : TS)  : CTT G E 1 yX2_goesOn cX2_goesOn 2 (Option.none : Option Jvm.ClassFile.FieldType) [.ref E.2.1] s0 (T_goesOn s0 ) := by
  refine CT_of hO (by decide +kernel) (by decide +kernel) (Nat.le_of_ble_eq_true rfl) ?_
  show XT G E "ForestLegsModel" "goesOn" cX2_goesOn 2 (Option.none : Option Jvm.ClassFile.FieldType) 1 0 [(0, .ref E.2.1)] [] s0 (T_goesOn s0 )
  exact T_goesOn_0_lp hO hE FU  s0
abbrev cX2_isWord : ByteArray := prog_14_method_12_code
def yX2_isWord : MethodName := ⟨RX2, "isWord", "(Ljava/lang/String;)Z"⟩
def dkwX2_isWord_2 : List UInt8 := [28, 182, 0, 92, 159, 0, 5, 3, 172, 132, 2, 1, 167, 255, 224, 4, 172]
abbrev dktX2_isWord_2 : List UInt8 := dkwX2_isWord_2 ++ []
def dkwX2_isWord_1 : List UInt8 := [3, 172, 3, 61, 28, 43, 182, 0, 86, 162, 0, 30, 42, 180, 0, 13, 42, 180, 0, 73, 28, 96, 46, 43]
abbrev dktX2_isWord_1 : List UInt8 := dkwX2_isWord_1 ++ dktX2_isWord_2
def dkwX2_isWord_0 : List UInt8 := [42, 180, 0, 76, 5, 160, 0, 19, 42, 180, 0, 66, 42, 180, 0, 73, 100, 43, 182, 0, 86, 159, 0, 5]
abbrev dktX2_isWord_0 : List UInt8 := dkwX2_isWord_0 ++ dktX2_isWord_1
theorem dksX2_isWord_0 : cX2_isWord.data.toList.drop 0 = dktX2_isWord_0 := by decide +kernel
theorem dksX2_isWord_1 : cX2_isWord.data.toList.drop 24 = dktX2_isWord_1 := dk_seg dksX2_isWord_0 24 rfl rfl
theorem dksX2_isWord_2 : cX2_isWord.data.toList.drop 48 = dktX2_isWord_2 := dk_seg dksX2_isWord_1 24 rfl rfl
theorem dX2_isWord_0 : decode cX2_isWord 0 = .ok (.aload_n 0, 1) := dk_42 (dk_at dksX2_isWord_0 0 rfl rfl)
theorem dX2_isWord_1 : decode cX2_isWord 1 = .ok (.getfield 76, 3) := dk_180 0 76 (dk_at dksX2_isWord_0 1 rfl rfl)
theorem dX2_isWord_4 : decode cX2_isWord 4 = .ok (.iconst 2, 1) := dk_5 (dk_at dksX2_isWord_0 4 rfl rfl)
theorem dX2_isWord_5 : decode cX2_isWord 5 = .ok (.if_icmp .ne 19, 3) := dk_160 0 19 (dk_at dksX2_isWord_0 5 rfl rfl)
theorem dX2_isWord_8 : decode cX2_isWord 8 = .ok (.aload_n 0, 1) := dk_42 (dk_at dksX2_isWord_0 8 rfl rfl)
theorem dX2_isWord_9 : decode cX2_isWord 9 = .ok (.getfield 66, 3) := dk_180 0 66 (dk_at dksX2_isWord_0 9 rfl rfl)
theorem dX2_isWord_12 : decode cX2_isWord 12 = .ok (.aload_n 0, 1) := dk_42 (dk_at dksX2_isWord_0 12 rfl rfl)
theorem dX2_isWord_13 : decode cX2_isWord 13 = .ok (.getfield 73, 3) := dk_180 0 73 (dk_at dksX2_isWord_0 13 rfl rfl)
theorem dX2_isWord_16 : decode cX2_isWord 16 = .ok (.isub, 1) := dk_100 (dk_at dksX2_isWord_0 16 rfl rfl)
theorem dX2_isWord_17 : decode cX2_isWord 17 = .ok (.aload_n 1, 1) := dk_43 (dk_at dksX2_isWord_0 17 rfl rfl)
theorem dX2_isWord_18 : decode cX2_isWord 18 = .ok (.invokevirtual 86, 3) := dk_182 0 86 (dk_at dksX2_isWord_0 18 rfl rfl)
theorem dX2_isWord_21 : decode cX2_isWord 21 = .ok (.if_icmp .eq 5, 3) := dk_159 0 5 (dk_at dksX2_isWord_0 21 rfl rfl)
theorem dX2_isWord_24 : decode cX2_isWord 24 = .ok (.iconst 0, 1) := dk_3 (dk_at dksX2_isWord_1 0 rfl rfl)
theorem dX2_isWord_25 : decode cX2_isWord 25 = .ok (.ireturn, 1) := dk_172 (dk_at dksX2_isWord_1 1 rfl rfl)
theorem dX2_isWord_26 : decode cX2_isWord 26 = .ok (.iconst 0, 1) := dk_3 (dk_at dksX2_isWord_1 2 rfl rfl)
theorem dX2_isWord_27 : decode cX2_isWord 27 = .ok (.istore_n 2, 1) := dk_61 (dk_at dksX2_isWord_1 3 rfl rfl)
theorem dX2_isWord_28 : decode cX2_isWord 28 = .ok (.iload_n 2, 1) := dk_28 (dk_at dksX2_isWord_1 4 rfl rfl)
theorem dX2_isWord_29 : decode cX2_isWord 29 = .ok (.aload_n 1, 1) := dk_43 (dk_at dksX2_isWord_1 5 rfl rfl)
theorem dX2_isWord_30 : decode cX2_isWord 30 = .ok (.invokevirtual 86, 3) := dk_182 0 86 (dk_at dksX2_isWord_1 6 rfl rfl)
theorem dX2_isWord_33 : decode cX2_isWord 33 = .ok (.if_icmp .ge 30, 3) := dk_162 0 30 (dk_at dksX2_isWord_1 9 rfl rfl)
theorem dX2_isWord_36 : decode cX2_isWord 36 = .ok (.aload_n 0, 1) := dk_42 (dk_at dksX2_isWord_1 12 rfl rfl)
theorem dX2_isWord_37 : decode cX2_isWord 37 = .ok (.getfield 13, 3) := dk_180 0 13 (dk_at dksX2_isWord_1 13 rfl rfl)
theorem dX2_isWord_40 : decode cX2_isWord 40 = .ok (.aload_n 0, 1) := dk_42 (dk_at dksX2_isWord_1 16 rfl rfl)
theorem dX2_isWord_41 : decode cX2_isWord 41 = .ok (.getfield 73, 3) := dk_180 0 73 (dk_at dksX2_isWord_1 17 rfl rfl)
theorem dX2_isWord_44 : decode cX2_isWord 44 = .ok (.iload_n 2, 1) := dk_28 (dk_at dksX2_isWord_1 20 rfl rfl)
theorem dX2_isWord_45 : decode cX2_isWord 45 = .ok (.iadd, 1) := dk_96 (dk_at dksX2_isWord_1 21 rfl rfl)
theorem dX2_isWord_46 : decode cX2_isWord 46 = .ok (.iaload, 1) := dk_46 (dk_at dksX2_isWord_1 22 rfl rfl)
theorem dX2_isWord_47 : decode cX2_isWord 47 = .ok (.aload_n 1, 1) := dk_43 (dk_at dksX2_isWord_1 23 rfl rfl)
theorem dX2_isWord_48 : decode cX2_isWord 48 = .ok (.iload_n 2, 1) := dk_28 (dk_at dksX2_isWord_2 0 rfl rfl)
theorem dX2_isWord_49 : decode cX2_isWord 49 = .ok (.invokevirtual 92, 3) := dk_182 0 92 (dk_at dksX2_isWord_2 1 rfl rfl)
theorem dX2_isWord_52 : decode cX2_isWord 52 = .ok (.if_icmp .eq 5, 3) := dk_159 0 5 (dk_at dksX2_isWord_2 4 rfl rfl)
theorem dX2_isWord_55 : decode cX2_isWord 55 = .ok (.iconst 0, 1) := dk_3 (dk_at dksX2_isWord_2 7 rfl rfl)
theorem dX2_isWord_56 : decode cX2_isWord 56 = .ok (.ireturn, 1) := dk_172 (dk_at dksX2_isWord_2 8 rfl rfl)
theorem dX2_isWord_57 : decode cX2_isWord 57 = .ok (.iinc 2 1, 3) := dk_132 2 1 (dk_at dksX2_isWord_2 9 rfl rfl)
theorem dX2_isWord_60 : decode cX2_isWord 60 = .ok (.goto (-32), 3) := dk_167 255 224 (dk_at dksX2_isWord_2 12 rfl rfl)
theorem dX2_isWord_63 : decode cX2_isWord 63 = .ok (.iconst 1, 1) := dk_4 (dk_at dksX2_isWord_2 15 rfl rfl)
theorem dX2_isWord_64 : decode cX2_isWord 64 = .ok (.ireturn, 1) := dk_172 (dk_at dksX2_isWord_2 16 rfl rfl)
theorem md_X2_isWord : xMd yX2_isWord cX2_isWord 3 (Option.some Jvm.ClassFile.FieldType.boolean) 1 := ⟨q3046, q126, by decide, by decide +kernel, by decide +kernel, by decide +kernel⟩
def T_isWord_28F   (k28 : Nat × Int32 × TS → Option (xO × TS)) (p : Nat × Int32 × TS) : Option (xO × TS) := match p with
  | (v1, v2, s0) => (tlenK v1 fun x2 =>
  (if x2 ≤ v2 then
  (if vp_nar .boolean 1 = 1 then rI 1 s0 else none) else
  (tald s0 4 ((s0.1 12) + v2) fun x3 =>
  (tchK v1 v2 fun x4 =>
  (if x3 = x4 then
  (bnd (v2 + 1) fun x5 =>
  (k28 (v1, x5, s0))) else
  (if vp_nar .boolean 0 = 0 then rI 0 s0 else none))))))
def T_isWord (s0 : TS) (a1 : Nat) : Option (xO × TS) :=
  (if (s0.1 14) = 2 then
  (tlenK a1 fun x1 =>
  (if ((s0.1 13) - (s0.1 12)) = x1 then
  (lp (T_isWord_28F) FU (a1, 0, s0)) else
  (if vp_nar .boolean 0 = 0 then rI 0 s0 else none))) else
  (if vp_nar .boolean 0 = 0 then rI 0 s0 else none))
theorem T_isWord_28F_ok {G : xG} {E : TE} (hO : xOK G) (hE : tok E)   {k28 : Nat × Int32 × TS → Option (xO × TS)} (hk28 : ∀ (v1 : Nat) (v2 : Int32) (s0 : TS), XT G E "ForestLegsModel" "isWord" cX2_isWord 3 (Option.some Jvm.ClassFile.FieldType.boolean) 4 28 [(0, .ref E.2.1), (1, va_rf (E.1.2.2.2 (10 + v1))), (2, .int v2)] [] s0 (k28 (v1, v2, s0))) (v1 : Nat) (v2 : Int32) (s0 : TS) : XT G E "ForestLegsModel" "isWord" cX2_isWord 3 (Option.some Jvm.ClassFile.FieldType.boolean) 4 28 [(0, .ref E.2.1), (1, va_rf (E.1.2.2.2 (10 + v1))), (2, .int v2)] [] s0 (T_isWord_28F k28 (v1, v2, s0)) := by
  unfold T_isWord_28F
  refine x_iload_n 2 dX2_isWord_28 rfl rfl (n := 29) rfl ?_
  refine x_aload_n 1 dX2_isWord_29 rfl rfl (n := 30) rfl ?_
  refine tw_slen hO hE q3047 dX2_isWord_30 (by decide) (Nat.le_of_ble_eq_true rfl) (n := 33) rfl (fun x2 => ?_)
  refine tw_icmp_ge dX2_isWord_33 (t := 63) (by decide) (n := 36) rfl ?_ ?_
  · refine x_iconst 1 dX2_isWord_63 rfl (n := 64) rfl ?_
    exact tw_zreturn rfl dX2_isWord_64
  · refine x_aload_nr 0 dX2_isWord_36 rfl rfl (n := 37) rfl ?_
    refine tw_getA fl_X2_13 rfl (by decide) dX2_isWord_37 (n := 40) rfl ?_
    refine x_aload_nr 0 dX2_isWord_40 rfl rfl (n := 41) rfl ?_
    refine tw_getI fl_X2_73 rfl (by decide) dX2_isWord_41 (n := 44) rfl ?_
    refine x_iload_n 2 dX2_isWord_44 rfl rfl (n := 45) rfl ?_
    refine x_iadd dX2_isWord_45 (n := 46) rfl ?_
    refine tw_iald hE (by decide) dX2_isWord_46 (n := 47) rfl (fun x3 => ?_)
    refine x_aload_n 1 dX2_isWord_47 rfl rfl (n := 48) rfl ?_
    refine x_iload_n 2 dX2_isWord_48 rfl rfl (n := 49) rfl ?_
    refine tw_sch hO hE q3048 dX2_isWord_49 (by decide) (Nat.le_of_ble_eq_true rfl) (n := 52) rfl (fun x4 => ?_)
    refine tw_icmp_eq dX2_isWord_52 (t := 57) (by decide) (n := 55) rfl ?_ ?_
    · refine tw_iinc 2 (fun x5 => [(2, .int x5), (0, .ref E.2.1), (1, va_rf (E.1.2.2.2 (10 + v1)))]) dX2_isWord_57 rfl rfl (by decide) (fun _ => (by simp only [xst, List.filter_cons, List.filter_nil, xcat] <;> rfl)) (n := 60) rfl (fun x5 => ?_)
      refine x_goto dX2_isWord_60 (n := 28) (by decide) ?_
      refine x_sub [1, 2, 0] [(0, .ref E.2.1), (1, va_rf (E.1.2.2.2 (10 + v1))), (2, .int x5)] rfl ?_
      exact hk28 v1 x5 s0
    · refine x_iconst 0 dX2_isWord_55 rfl (n := 56) rfl ?_
      exact tw_zreturn rfl dX2_isWord_56
theorem T_isWord_28_lp {G : xG} {E : TE} (hO : xOK G) (hE : tok E)   (n : Nat) (v1 : Nat) (v2 : Int32) (s0 : TS) : XT G E "ForestLegsModel" "isWord" cX2_isWord 3 (Option.some Jvm.ClassFile.FieldType.boolean) 4 28 [(0, .ref E.2.1), (1, va_rf (E.1.2.2.2 (10 + v1))), (2, .int v2)] [] s0 (lp (T_isWord_28F) n (v1, v2, s0)) :=
  lp_ok (W := fun p K => XT G E "ForestLegsModel" "isWord" cX2_isWord 3 (Option.some Jvm.ClassFile.FieldType.boolean) 4 28 [(0, .ref E.2.1), (1, va_rf (E.1.2.2.2 (10 + p.1))), (2, .int p.2.1)] [] p.2.2 K) (fun _ => tw_no) (fun k hk => fun (v1, v2, s0) => T_isWord_28F_ok hO hE (fun v1 v2 s0 => hk (v1, v2, s0)) v1 v2 s0) n (v1, v2, s0)
theorem T_isWord_ok {G : xG} {E : TE} (hO : xOK G) (hE : tok E) (s0 : TS) (a1 : Nat) : CTT G E 4 yX2_isWord cX2_isWord 3 (Option.some Jvm.ClassFile.FieldType.boolean) [.ref E.2.1, va_rf (E.1.2.2.2 (10 + a1))] s0 (T_isWord s0 a1) := by
  refine CT_of hO (by decide +kernel) (by decide +kernel) (lg_slen _ (by simp only [List.map, xcat]; exact Nat.le_of_ble_eq_true rfl)) ?_
  rw [show lv_args 0 [.ref E.2.1, va_rf (E.1.2.2.2 (10 + a1))] = [(0, .ref E.2.1), (1, va_rf (E.1.2.2.2 (10 + a1)))] from by simp only [lv_args, xcat] <;> rfl]
  show XT G E "ForestLegsModel" "isWord" cX2_isWord 3 (Option.some Jvm.ClassFile.FieldType.boolean) 4 0 [(0, .ref E.2.1), (1, va_rf (E.1.2.2.2 (10 + a1)))] [] s0 (T_isWord s0 a1)
  refine x_aload_nr 0 dX2_isWord_0 rfl rfl (n := 1) rfl ?_
  refine tw_getI fl_X2_76 rfl (by decide) dX2_isWord_1 (n := 4) rfl ?_
  refine x_iconst 2 dX2_isWord_4 rfl (n := 5) rfl ?_
  refine tw_icmp_ne dX2_isWord_5 (t := 24) (by decide) (n := 8) rfl ?_ ?_
  · refine x_iconst 0 dX2_isWord_24 rfl (n := 25) rfl ?_
    exact tw_zreturn rfl dX2_isWord_25
  · refine x_aload_nr 0 dX2_isWord_8 rfl rfl (n := 9) rfl ?_
    refine tw_getI fl_X2_66 rfl (by decide) dX2_isWord_9 (n := 12) rfl ?_
    refine x_aload_nr 0 dX2_isWord_12 rfl rfl (n := 13) rfl ?_
    refine tw_getI fl_X2_73 rfl (by decide) dX2_isWord_13 (n := 16) rfl ?_
    refine x_isub dX2_isWord_16 (n := 17) rfl ?_
    refine x_aload_n 1 dX2_isWord_17 rfl rfl (n := 18) rfl ?_
    refine tw_slen hO hE q3047 dX2_isWord_18 (by decide) (Nat.le_of_ble_eq_true rfl) (n := 21) rfl (fun x1 => ?_)
    refine tw_icmp_eq dX2_isWord_21 (t := 26) (by decide) (n := 24) rfl ?_ ?_
    · refine x_iconst 0 dX2_isWord_26 rfl (n := 27) rfl ?_
      refine x_istore_n [(2, .int 0), (0, .ref E.2.1), (1, va_rf (E.1.2.2.2 (10 + a1)))] dX2_isWord_27 rfl (by decide) (by simp only [xst, List.filter_cons, List.filter_nil, xcat] <;> rfl) (n := 28) rfl ?_
      refine x_sub [1, 2, 0] [(0, .ref E.2.1), (1, va_rf (E.1.2.2.2 (10 + a1))), (2, .int 0)] rfl ?_
      exact T_isWord_28_lp hO hE FU a1 0 s0
    · refine x_iconst 0 dX2_isWord_24 rfl (n := 25) rfl ?_
      exact tw_zreturn rfl dX2_isWord_25
abbrev cX2_errs : ByteArray := prog_14_method_13_code
def yX2_errs : MethodName := ⟨RX2, "errs", "(I)Z"⟩
def dkwX2_errs_0 : List UInt8 := [42, 27, 181, 0, 96, 42, 42, 180, 0, 73, 181, 0, 99, 3, 172]
abbrev dktX2_errs_0 : List UInt8 := dkwX2_errs_0 ++ []
theorem dksX2_errs_0 : cX2_errs.data.toList.drop 0 = dktX2_errs_0 := by decide +kernel
theorem dX2_errs_0 : decode cX2_errs 0 = .ok (.aload_n 0, 1) := dk_42 (dk_at dksX2_errs_0 0 rfl rfl)
theorem dX2_errs_1 : decode cX2_errs 1 = .ok (.iload_n 1, 1) := dk_27 (dk_at dksX2_errs_0 1 rfl rfl)
theorem dX2_errs_2 : decode cX2_errs 2 = .ok (.putfield 96, 3) := dk_181 0 96 (dk_at dksX2_errs_0 2 rfl rfl)
theorem dX2_errs_5 : decode cX2_errs 5 = .ok (.aload_n 0, 1) := dk_42 (dk_at dksX2_errs_0 5 rfl rfl)
theorem dX2_errs_6 : decode cX2_errs 6 = .ok (.aload_n 0, 1) := dk_42 (dk_at dksX2_errs_0 6 rfl rfl)
theorem dX2_errs_7 : decode cX2_errs 7 = .ok (.getfield 73, 3) := dk_180 0 73 (dk_at dksX2_errs_0 7 rfl rfl)
theorem dX2_errs_10 : decode cX2_errs 10 = .ok (.putfield 99, 3) := dk_181 0 99 (dk_at dksX2_errs_0 10 rfl rfl)
theorem dX2_errs_13 : decode cX2_errs 13 = .ok (.iconst 0, 1) := dk_3 (dk_at dksX2_errs_0 13 rfl rfl)
theorem dX2_errs_14 : decode cX2_errs 14 = .ok (.ireturn, 1) := dk_172 (dk_at dksX2_errs_0 14 rfl rfl)
theorem md_X2_errs : xMd yX2_errs cX2_errs 2 (Option.some Jvm.ClassFile.FieldType.boolean) 1 := ⟨q3066, q126, by decide, by decide +kernel, by decide +kernel, by decide +kernel⟩
def T_errs (s0 : TS) (a1 : Int32) : Option (xO × TS) :=
  (bnd (tI s0 17 a1) fun s1 =>
  (bnd (tI s1 18 (s1.1 12)) fun s2 =>
  (if vp_nar .boolean 0 = 0 then rI 0 s2 else none)))
theorem T_errs_ok {G : xG} {E : TE} (hO : xOK G) (hE : tok E) (s0 : TS) (a1 : Int32) : CTT G E 0 yX2_errs cX2_errs 2 (Option.some Jvm.ClassFile.FieldType.boolean) [.ref E.2.1, .int a1] s0 (T_errs s0 a1) := by
  refine CT_of hO (by decide +kernel) (by decide +kernel) (Nat.le_of_ble_eq_true rfl) ?_
  show XT G E "ForestLegsModel" "errs" cX2_errs 2 (Option.some Jvm.ClassFile.FieldType.boolean) 0 0 [(0, .ref E.2.1), (1, .int a1)] [] s0 (T_errs s0 a1)
  refine x_aload_nr 0 dX2_errs_0 rfl rfl (n := 1) rfl ?_
  refine x_iload_n 1 dX2_errs_1 rfl rfl (n := 2) rfl ?_
  refine tw_put (pl_X2_96 _ _ ⟨rfl, rfl⟩) rfl (by decide) dX2_errs_2 (n := 5) rfl (fun s1 => ?_)
  refine x_aload_nr 0 dX2_errs_5 rfl rfl (n := 6) rfl ?_
  refine x_aload_nr 0 dX2_errs_6 rfl rfl (n := 7) rfl ?_
  refine tw_getI fl_X2_73 rfl (by decide) dX2_errs_7 (n := 10) rfl ?_
  refine tw_put (pl_X2_99 _ _ ⟨rfl, rfl⟩) rfl (by decide) dX2_errs_10 (n := 13) rfl (fun s2 => ?_)
  refine x_iconst 0 dX2_errs_13 rfl (n := 14) rfl ?_
  exact tw_zreturn rfl dX2_errs_14
abbrev cX2_isName : ByteArray := prog_14_method_14_code
def yX2_isName : MethodName := ⟨RX2, "isName", "()Z"⟩
def dkwX2_isName_2 : List UInt8 := [167, 0, 4, 3, 172]
abbrev dktX2_isName_2 : List UInt8 := dkwX2_isName_2 ++ []
def dkwX2_isName_1 : List UInt8 := [154, 0, 25, 42, 18, 110, 182, 0, 104, 154, 0, 16, 42, 18, 112, 182, 0, 104, 154, 0, 7, 4]
abbrev dktX2_isName_1 : List UInt8 := dkwX2_isName_1 ++ dktX2_isName_2
def dkwX2_isName_0 : List UInt8 := [42, 180, 0, 76, 5, 160, 0, 43, 42, 18, 102, 182, 0, 104, 154, 0, 34, 42, 18, 108, 182, 0, 104]
abbrev dktX2_isName_0 : List UInt8 := dkwX2_isName_0 ++ dktX2_isName_1
theorem dksX2_isName_0 : cX2_isName.data.toList.drop 0 = dktX2_isName_0 := by decide +kernel
theorem dksX2_isName_1 : cX2_isName.data.toList.drop 23 = dktX2_isName_1 := dk_seg dksX2_isName_0 23 rfl rfl
theorem dksX2_isName_2 : cX2_isName.data.toList.drop 45 = dktX2_isName_2 := dk_seg dksX2_isName_1 22 rfl rfl
theorem dX2_isName_0 : decode cX2_isName 0 = .ok (.aload_n 0, 1) := dk_42 (dk_at dksX2_isName_0 0 rfl rfl)
theorem dX2_isName_1 : decode cX2_isName 1 = .ok (.getfield 76, 3) := dk_180 0 76 (dk_at dksX2_isName_0 1 rfl rfl)
theorem dX2_isName_4 : decode cX2_isName 4 = .ok (.iconst 2, 1) := dk_5 (dk_at dksX2_isName_0 4 rfl rfl)
theorem dX2_isName_5 : decode cX2_isName 5 = .ok (.if_icmp .ne 43, 3) := dk_160 0 43 (dk_at dksX2_isName_0 5 rfl rfl)
theorem dX2_isName_8 : decode cX2_isName 8 = .ok (.aload_n 0, 1) := dk_42 (dk_at dksX2_isName_0 8 rfl rfl)
theorem dX2_isName_9 : decode cX2_isName 9 = .ok (.ldc 102, 2) := dk_18 102 (dk_at dksX2_isName_0 9 rfl rfl)
theorem dX2_isName_11 : decode cX2_isName 11 = .ok (.invokevirtual 104, 3) := dk_182 0 104 (dk_at dksX2_isName_0 11 rfl rfl)
theorem dX2_isName_14 : decode cX2_isName 14 = .ok (.ifCond .ne 34, 3) := dk_154 0 34 (dk_at dksX2_isName_0 14 rfl rfl)
theorem dX2_isName_17 : decode cX2_isName 17 = .ok (.aload_n 0, 1) := dk_42 (dk_at dksX2_isName_0 17 rfl rfl)
theorem dX2_isName_18 : decode cX2_isName 18 = .ok (.ldc 108, 2) := dk_18 108 (dk_at dksX2_isName_0 18 rfl rfl)
theorem dX2_isName_20 : decode cX2_isName 20 = .ok (.invokevirtual 104, 3) := dk_182 0 104 (dk_at dksX2_isName_0 20 rfl rfl)
theorem dX2_isName_23 : decode cX2_isName 23 = .ok (.ifCond .ne 25, 3) := dk_154 0 25 (dk_at dksX2_isName_1 0 rfl rfl)
theorem dX2_isName_26 : decode cX2_isName 26 = .ok (.aload_n 0, 1) := dk_42 (dk_at dksX2_isName_1 3 rfl rfl)
theorem dX2_isName_27 : decode cX2_isName 27 = .ok (.ldc 110, 2) := dk_18 110 (dk_at dksX2_isName_1 4 rfl rfl)
theorem dX2_isName_29 : decode cX2_isName 29 = .ok (.invokevirtual 104, 3) := dk_182 0 104 (dk_at dksX2_isName_1 6 rfl rfl)
theorem dX2_isName_32 : decode cX2_isName 32 = .ok (.ifCond .ne 16, 3) := dk_154 0 16 (dk_at dksX2_isName_1 9 rfl rfl)
theorem dX2_isName_35 : decode cX2_isName 35 = .ok (.aload_n 0, 1) := dk_42 (dk_at dksX2_isName_1 12 rfl rfl)
theorem dX2_isName_36 : decode cX2_isName 36 = .ok (.ldc 112, 2) := dk_18 112 (dk_at dksX2_isName_1 13 rfl rfl)
theorem dX2_isName_38 : decode cX2_isName 38 = .ok (.invokevirtual 104, 3) := dk_182 0 104 (dk_at dksX2_isName_1 15 rfl rfl)
theorem dX2_isName_41 : decode cX2_isName 41 = .ok (.ifCond .ne 7, 3) := dk_154 0 7 (dk_at dksX2_isName_1 18 rfl rfl)
theorem dX2_isName_44 : decode cX2_isName 44 = .ok (.iconst 1, 1) := dk_4 (dk_at dksX2_isName_1 21 rfl rfl)
theorem dX2_isName_45 : decode cX2_isName 45 = .ok (.goto 4, 3) := dk_167 0 4 (dk_at dksX2_isName_2 0 rfl rfl)
theorem dX2_isName_48 : decode cX2_isName 48 = .ok (.iconst 0, 1) := dk_3 (dk_at dksX2_isName_2 3 rfl rfl)
theorem dX2_isName_49 : decode cX2_isName 49 = .ok (.ireturn, 1) := dk_172 (dk_at dksX2_isName_2 4 rfl rfl)
theorem md_X2_isName : xMd yX2_isName cX2_isName 1 (Option.some Jvm.ClassFile.FieldType.boolean) 0 := ⟨q3074, q126, by decide, by decide +kernel, by decide +kernel, by decide +kernel⟩
def T_isName (s0 : TS)  : Option (xO × TS) :=
  (if (s0.1 14) = 2 then
  (xcI (T_isWord s0 0) fun x2 s1 =>
  (if x2 = 0 then
  (xcI (T_isWord s1 1) fun x4 s3 =>
  (if x4 = 0 then
  (xcI (T_isWord s3 2) fun x6 s5 =>
  (if x6 = 0 then
  (xcI (T_isWord s5 3) fun x8 s7 =>
  (if x8 = 0 then
  (if vp_nar .boolean 1 = 1 then rI 1 s7 else none) else
  (if vp_nar .boolean 0 = 0 then rI 0 s7 else none))) else
  (if vp_nar .boolean 0 = 0 then rI 0 s5 else none))) else
  (if vp_nar .boolean 0 = 0 then rI 0 s3 else none))) else
  (if vp_nar .boolean 0 = 0 then rI 0 s1 else none))) else
  (if vp_nar .boolean 0 = 0 then rI 0 s0 else none))
theorem T_isName_ok {G : xG} {E : TE} (hO : xOK G) (hE : tok E) (s0 : TS)  : CTT G E 5 yX2_isName cX2_isName 1 (Option.some Jvm.ClassFile.FieldType.boolean) [.ref E.2.1] s0 (T_isName s0 ) := by
  refine CT_of hO (by decide +kernel) (by decide +kernel) (Nat.le_of_ble_eq_true rfl) ?_
  show XT G E "ForestLegsModel" "isName" cX2_isName 1 (Option.some Jvm.ClassFile.FieldType.boolean) 5 0 [(0, .ref E.2.1)] [] s0 (T_isName s0 )
  refine x_aload_nr 0 dX2_isName_0 rfl rfl (n := 1) rfl ?_
  refine tw_getI fl_X2_76 rfl (by decide) dX2_isName_1 (n := 4) rfl ?_
  refine x_iconst 2 dX2_isName_4 rfl (n := 5) rfl ?_
  refine tw_icmp_ne dX2_isName_5 (t := 48) (by decide) (n := 8) rfl ?_ ?_
  · refine x_iconst 0 dX2_isName_48 rfl (n := 49) rfl ?_
    exact tw_zreturn rfl dX2_isName_49
  · refine x_aload_nr 0 dX2_isName_8 rfl rfl (n := 9) rfl ?_
    refine tw_ldcS (j := 0) rfl dX2_isName_9 (n := 11) rfl ?_
    refine tw_callV_I [va_rf (E.1.2.2.2 (10 + 0))] [] (T_isWord_ok hO hE s0 0) md_X2_isWord q3043 q3045 qs68 dX2_isName_11 rfl rfl (by decide) (Nat.le_of_ble_eq_true rfl) (n := 14) rfl (fun x2 s1 => ?_)
    refine tw_if_ne dX2_isName_14 (t := 48) (by decide) (n := 17) rfl ?_ ?_
    · refine x_iconst 0 dX2_isName_48 rfl (n := 49) rfl ?_
      exact tw_zreturn rfl dX2_isName_49
    · refine x_aload_nr 0 dX2_isName_17 rfl rfl (n := 18) rfl ?_
      refine tw_ldcS (j := 1) rfl dX2_isName_18 (n := 20) rfl ?_
      refine tw_callV_I [va_rf (E.1.2.2.2 (10 + 1))] [] (T_isWord_ok hO hE s1 1) md_X2_isWord q3043 q3045 qs68 dX2_isName_20 rfl rfl (by decide) (Nat.le_of_ble_eq_true rfl) (n := 23) rfl (fun x4 s3 => ?_)
      refine tw_if_ne dX2_isName_23 (t := 48) (by decide) (n := 26) rfl ?_ ?_
      · refine x_iconst 0 dX2_isName_48 rfl (n := 49) rfl ?_
        exact tw_zreturn rfl dX2_isName_49
      · refine x_aload_nr 0 dX2_isName_26 rfl rfl (n := 27) rfl ?_
        refine tw_ldcS (j := 2) rfl dX2_isName_27 (n := 29) rfl ?_
        refine tw_callV_I [va_rf (E.1.2.2.2 (10 + 2))] [] (T_isWord_ok hO hE s3 2) md_X2_isWord q3043 q3045 qs68 dX2_isName_29 rfl rfl (by decide) (Nat.le_of_ble_eq_true rfl) (n := 32) rfl (fun x6 s5 => ?_)
        refine tw_if_ne dX2_isName_32 (t := 48) (by decide) (n := 35) rfl ?_ ?_
        · refine x_iconst 0 dX2_isName_48 rfl (n := 49) rfl ?_
          exact tw_zreturn rfl dX2_isName_49
        · refine x_aload_nr 0 dX2_isName_35 rfl rfl (n := 36) rfl ?_
          refine tw_ldcS (j := 3) rfl dX2_isName_36 (n := 38) rfl ?_
          refine tw_callV_I [va_rf (E.1.2.2.2 (10 + 3))] [] (T_isWord_ok hO hE s5 3) md_X2_isWord q3043 q3045 qs68 dX2_isName_38 rfl rfl (by decide) (Nat.le_of_ble_eq_true rfl) (n := 41) rfl (fun x8 s7 => ?_)
          refine tw_if_ne dX2_isName_41 (t := 48) (by decide) (n := 44) rfl ?_ ?_
          · refine x_iconst 0 dX2_isName_48 rfl (n := 49) rfl ?_
            exact tw_zreturn rfl dX2_isName_49
          · refine x_iconst 1 dX2_isName_44 rfl (n := 45) rfl ?_
            refine x_goto dX2_isName_45 (n := 49) (by decide) ?_
            exact tw_zreturn rfl dX2_isName_49
abbrev cX2_isAt : ByteArray := prog_14_method_15_code
def yX2_isAt : MethodName := ⟨RX2, "isAt", "([IIII)Z"⟩
def dkwX2_isAt_4 : List UInt8 := [167, 0, 4, 3, 54, 5, 132, 6, 1, 167, 255, 171, 21, 5, 172]
abbrev dktX2_isAt_4 : List UInt8 := dkwX2_isAt_4 ++ []
def dkwX2_isAt_3 : List UInt8 := [180, 0, 13, 29, 21, 6, 96, 46, 160, 0, 19, 167, 0, 12, 43, 28, 21, 6, 96, 46, 154, 0, 7, 4]
abbrev dktX2_isAt_3 : List UInt8 := dkwX2_isAt_3 ++ dktX2_isAt_4
def dkwX2_isAt_2 : List UInt8 := [21, 7, 153, 0, 36, 42, 180, 0, 13, 29, 21, 6, 96, 46, 153, 0, 37, 43, 28, 21, 6, 96, 46, 42]
abbrev dktX2_isAt_2 : List UInt8 := dkwX2_isAt_2 ++ dktX2_isAt_3
def dkwX2_isAt_1 : List UInt8 := [162, 0, 84, 29, 21, 6, 96, 21, 4, 162, 0, 7, 4, 167, 0, 4, 3, 54, 7, 21, 5, 153, 0, 54]
abbrev dktX2_isAt_1 : List UInt8 := dkwX2_isAt_1 ++ dktX2_isAt_2
def dkwX2_isAt_0 : List UInt8 := [21, 4, 29, 100, 16, 6, 163, 0, 7, 4, 167, 0, 4, 3, 54, 5, 3, 54, 6, 21, 6, 16, 6]
abbrev dktX2_isAt_0 : List UInt8 := dkwX2_isAt_0 ++ dktX2_isAt_1
theorem dksX2_isAt_0 : cX2_isAt.data.toList.drop 0 = dktX2_isAt_0 := by decide +kernel
theorem dksX2_isAt_1 : cX2_isAt.data.toList.drop 23 = dktX2_isAt_1 := dk_seg dksX2_isAt_0 23 rfl rfl
theorem dksX2_isAt_2 : cX2_isAt.data.toList.drop 47 = dktX2_isAt_2 := dk_seg dksX2_isAt_1 24 rfl rfl
theorem dksX2_isAt_3 : cX2_isAt.data.toList.drop 71 = dktX2_isAt_3 := dk_seg dksX2_isAt_2 24 rfl rfl
theorem dksX2_isAt_4 : cX2_isAt.data.toList.drop 95 = dktX2_isAt_4 := dk_seg dksX2_isAt_3 24 rfl rfl
theorem dX2_isAt_0 : decode cX2_isAt 0 = .ok (.iload 4, 2) := dk_21 4 (dk_at dksX2_isAt_0 0 rfl rfl)
theorem dX2_isAt_2 : decode cX2_isAt 2 = .ok (.iload_n 3, 1) := dk_29 (dk_at dksX2_isAt_0 2 rfl rfl)
theorem dX2_isAt_3 : decode cX2_isAt 3 = .ok (.isub, 1) := dk_100 (dk_at dksX2_isAt_0 3 rfl rfl)
theorem dX2_isAt_4 : decode cX2_isAt 4 = .ok (.bipush 6, 2) := dk_16 6 (dk_at dksX2_isAt_0 4 rfl rfl)
theorem dX2_isAt_6 : decode cX2_isAt 6 = .ok (.if_icmp .gt 7, 3) := dk_163 0 7 (dk_at dksX2_isAt_0 6 rfl rfl)
theorem dX2_isAt_9 : decode cX2_isAt 9 = .ok (.iconst 1, 1) := dk_4 (dk_at dksX2_isAt_0 9 rfl rfl)
theorem dX2_isAt_10 : decode cX2_isAt 10 = .ok (.goto 4, 3) := dk_167 0 4 (dk_at dksX2_isAt_0 10 rfl rfl)
theorem dX2_isAt_13 : decode cX2_isAt 13 = .ok (.iconst 0, 1) := dk_3 (dk_at dksX2_isAt_0 13 rfl rfl)
theorem dX2_isAt_14 : decode cX2_isAt 14 = .ok (.istore 5, 2) := dk_54 5 (dk_at dksX2_isAt_0 14 rfl rfl)
theorem dX2_isAt_16 : decode cX2_isAt 16 = .ok (.iconst 0, 1) := dk_3 (dk_at dksX2_isAt_0 16 rfl rfl)
theorem dX2_isAt_17 : decode cX2_isAt 17 = .ok (.istore 6, 2) := dk_54 6 (dk_at dksX2_isAt_0 17 rfl rfl)
theorem dX2_isAt_19 : decode cX2_isAt 19 = .ok (.iload 6, 2) := dk_21 6 (dk_at dksX2_isAt_0 19 rfl rfl)
theorem dX2_isAt_21 : decode cX2_isAt 21 = .ok (.bipush 6, 2) := dk_16 6 (dk_at dksX2_isAt_0 21 rfl rfl)
theorem dX2_isAt_23 : decode cX2_isAt 23 = .ok (.if_icmp .ge 84, 3) := dk_162 0 84 (dk_at dksX2_isAt_1 0 rfl rfl)
theorem dX2_isAt_26 : decode cX2_isAt 26 = .ok (.iload_n 3, 1) := dk_29 (dk_at dksX2_isAt_1 3 rfl rfl)
theorem dX2_isAt_27 : decode cX2_isAt 27 = .ok (.iload 6, 2) := dk_21 6 (dk_at dksX2_isAt_1 4 rfl rfl)
theorem dX2_isAt_29 : decode cX2_isAt 29 = .ok (.iadd, 1) := dk_96 (dk_at dksX2_isAt_1 6 rfl rfl)
theorem dX2_isAt_30 : decode cX2_isAt 30 = .ok (.iload 4, 2) := dk_21 4 (dk_at dksX2_isAt_1 7 rfl rfl)
theorem dX2_isAt_32 : decode cX2_isAt 32 = .ok (.if_icmp .ge 7, 3) := dk_162 0 7 (dk_at dksX2_isAt_1 9 rfl rfl)
theorem dX2_isAt_35 : decode cX2_isAt 35 = .ok (.iconst 1, 1) := dk_4 (dk_at dksX2_isAt_1 12 rfl rfl)
theorem dX2_isAt_36 : decode cX2_isAt 36 = .ok (.goto 4, 3) := dk_167 0 4 (dk_at dksX2_isAt_1 13 rfl rfl)
theorem dX2_isAt_39 : decode cX2_isAt 39 = .ok (.iconst 0, 1) := dk_3 (dk_at dksX2_isAt_1 16 rfl rfl)
theorem dX2_isAt_40 : decode cX2_isAt 40 = .ok (.istore 7, 2) := dk_54 7 (dk_at dksX2_isAt_1 17 rfl rfl)
theorem dX2_isAt_42 : decode cX2_isAt 42 = .ok (.iload 5, 2) := dk_21 5 (dk_at dksX2_isAt_1 19 rfl rfl)
theorem dX2_isAt_44 : decode cX2_isAt 44 = .ok (.ifCond .eq 54, 3) := dk_153 0 54 (dk_at dksX2_isAt_1 21 rfl rfl)
theorem dX2_isAt_47 : decode cX2_isAt 47 = .ok (.iload 7, 2) := dk_21 7 (dk_at dksX2_isAt_2 0 rfl rfl)
theorem dX2_isAt_49 : decode cX2_isAt 49 = .ok (.ifCond .eq 36, 3) := dk_153 0 36 (dk_at dksX2_isAt_2 2 rfl rfl)
theorem dX2_isAt_52 : decode cX2_isAt 52 = .ok (.aload_n 0, 1) := dk_42 (dk_at dksX2_isAt_2 5 rfl rfl)
theorem dX2_isAt_53 : decode cX2_isAt 53 = .ok (.getfield 13, 3) := dk_180 0 13 (dk_at dksX2_isAt_2 6 rfl rfl)
theorem dX2_isAt_56 : decode cX2_isAt 56 = .ok (.iload_n 3, 1) := dk_29 (dk_at dksX2_isAt_2 9 rfl rfl)
theorem dX2_isAt_57 : decode cX2_isAt 57 = .ok (.iload 6, 2) := dk_21 6 (dk_at dksX2_isAt_2 10 rfl rfl)
theorem dX2_isAt_59 : decode cX2_isAt 59 = .ok (.iadd, 1) := dk_96 (dk_at dksX2_isAt_2 12 rfl rfl)
theorem dX2_isAt_60 : decode cX2_isAt 60 = .ok (.iaload, 1) := dk_46 (dk_at dksX2_isAt_2 13 rfl rfl)
theorem dX2_isAt_61 : decode cX2_isAt 61 = .ok (.ifCond .eq 37, 3) := dk_153 0 37 (dk_at dksX2_isAt_2 14 rfl rfl)
theorem dX2_isAt_64 : decode cX2_isAt 64 = .ok (.aload_n 1, 1) := dk_43 (dk_at dksX2_isAt_2 17 rfl rfl)
theorem dX2_isAt_65 : decode cX2_isAt 65 = .ok (.iload_n 2, 1) := dk_28 (dk_at dksX2_isAt_2 18 rfl rfl)
theorem dX2_isAt_66 : decode cX2_isAt 66 = .ok (.iload 6, 2) := dk_21 6 (dk_at dksX2_isAt_2 19 rfl rfl)
theorem dX2_isAt_68 : decode cX2_isAt 68 = .ok (.iadd, 1) := dk_96 (dk_at dksX2_isAt_2 21 rfl rfl)
theorem dX2_isAt_69 : decode cX2_isAt 69 = .ok (.iaload, 1) := dk_46 (dk_at dksX2_isAt_2 22 rfl rfl)
theorem dX2_isAt_70 : decode cX2_isAt 70 = .ok (.aload_n 0, 1) := dk_42 (dk_at dksX2_isAt_2 23 rfl rfl)
theorem dX2_isAt_71 : decode cX2_isAt 71 = .ok (.getfield 13, 3) := dk_180 0 13 (dk_at dksX2_isAt_3 0 rfl rfl)
theorem dX2_isAt_74 : decode cX2_isAt 74 = .ok (.iload_n 3, 1) := dk_29 (dk_at dksX2_isAt_3 3 rfl rfl)
theorem dX2_isAt_75 : decode cX2_isAt 75 = .ok (.iload 6, 2) := dk_21 6 (dk_at dksX2_isAt_3 4 rfl rfl)
theorem dX2_isAt_77 : decode cX2_isAt 77 = .ok (.iadd, 1) := dk_96 (dk_at dksX2_isAt_3 6 rfl rfl)
theorem dX2_isAt_78 : decode cX2_isAt 78 = .ok (.iaload, 1) := dk_46 (dk_at dksX2_isAt_3 7 rfl rfl)
theorem dX2_isAt_79 : decode cX2_isAt 79 = .ok (.if_icmp .ne 19, 3) := dk_160 0 19 (dk_at dksX2_isAt_3 8 rfl rfl)
theorem dX2_isAt_82 : decode cX2_isAt 82 = .ok (.goto 12, 3) := dk_167 0 12 (dk_at dksX2_isAt_3 11 rfl rfl)
theorem dX2_isAt_85 : decode cX2_isAt 85 = .ok (.aload_n 1, 1) := dk_43 (dk_at dksX2_isAt_3 14 rfl rfl)
theorem dX2_isAt_86 : decode cX2_isAt 86 = .ok (.iload_n 2, 1) := dk_28 (dk_at dksX2_isAt_3 15 rfl rfl)
theorem dX2_isAt_87 : decode cX2_isAt 87 = .ok (.iload 6, 2) := dk_21 6 (dk_at dksX2_isAt_3 16 rfl rfl)
theorem dX2_isAt_89 : decode cX2_isAt 89 = .ok (.iadd, 1) := dk_96 (dk_at dksX2_isAt_3 18 rfl rfl)
theorem dX2_isAt_90 : decode cX2_isAt 90 = .ok (.iaload, 1) := dk_46 (dk_at dksX2_isAt_3 19 rfl rfl)
theorem dX2_isAt_91 : decode cX2_isAt 91 = .ok (.ifCond .ne 7, 3) := dk_154 0 7 (dk_at dksX2_isAt_3 20 rfl rfl)
theorem dX2_isAt_94 : decode cX2_isAt 94 = .ok (.iconst 1, 1) := dk_4 (dk_at dksX2_isAt_3 23 rfl rfl)
theorem dX2_isAt_95 : decode cX2_isAt 95 = .ok (.goto 4, 3) := dk_167 0 4 (dk_at dksX2_isAt_4 0 rfl rfl)
theorem dX2_isAt_98 : decode cX2_isAt 98 = .ok (.iconst 0, 1) := dk_3 (dk_at dksX2_isAt_4 3 rfl rfl)
theorem dX2_isAt_99 : decode cX2_isAt 99 = .ok (.istore 5, 2) := dk_54 5 (dk_at dksX2_isAt_4 4 rfl rfl)
theorem dX2_isAt_101 : decode cX2_isAt 101 = .ok (.iinc 6 1, 3) := dk_132 6 1 (dk_at dksX2_isAt_4 6 rfl rfl)
theorem dX2_isAt_104 : decode cX2_isAt 104 = .ok (.goto (-85), 3) := dk_167 255 171 (dk_at dksX2_isAt_4 9 rfl rfl)
theorem dX2_isAt_107 : decode cX2_isAt 107 = .ok (.iload 5, 2) := dk_21 5 (dk_at dksX2_isAt_4 12 rfl rfl)
theorem dX2_isAt_109 : decode cX2_isAt 109 = .ok (.ireturn, 1) := dk_172 (dk_at dksX2_isAt_4 14 rfl rfl)
theorem md_X2_isAt : xMd yX2_isAt cX2_isAt 8 (Option.some Jvm.ClassFile.FieldType.boolean) 4 := ⟨q3085, q126, by decide, by decide +kernel, by decide +kernel, by decide +kernel⟩
def T_isAt_99 (a1 : Nat) (k19 : Int32 × Int32 × Int32 × Int32 × Int32 × TS → Option (xO × TS)) (v2 : Int32) (v3 : Int32) (v4 : Int32) (v6 : Int32) (w0 : Int32) (s0 : TS) : Option (xO × TS) :=
  (bnd (v6 + 1) fun x1 =>
  (k19 (v2, v3, v4, w0, x1, s0)))
def T_isAt_98 (a1 : Nat) (k19 : Int32 × Int32 × Int32 × Int32 × Int32 × TS → Option (xO × TS)) (v2 : Int32) (v3 : Int32) (v4 : Int32) (v6 : Int32) (s0 : TS) : Option (xO × TS) :=
  (T_isAt_99 a1 k19 v2 v3 v4 v6 0 s0)
def T_isAt_94 (a1 : Nat) (k19 : Int32 × Int32 × Int32 × Int32 × Int32 × TS → Option (xO × TS)) (v2 : Int32) (v3 : Int32) (v4 : Int32) (v6 : Int32) (s0 : TS) : Option (xO × TS) :=
  (T_isAt_99 a1 k19 v2 v3 v4 v6 1 s0)
def T_isAt_40 (a1 : Nat) (k19 : Int32 × Int32 × Int32 × Int32 × Int32 × TS → Option (xO × TS)) (v2 : Int32) (v3 : Int32) (v4 : Int32) (v5 : Int32) (v6 : Int32) (w0 : Int32) (s0 : TS) : Option (xO × TS) :=
  (if v5 = 0 then
  (T_isAt_98 a1 k19 v2 v3 v4 v6 s0) else
  (if w0 = 0 then
  (tald s0 a1 (v2 + v6) fun x2 =>
  (if x2 = 0 then
  (T_isAt_94 a1 k19 v2 v3 v4 v6 s0) else
  (T_isAt_98 a1 k19 v2 v3 v4 v6 s0))) else
  (tald s0 4 (v3 + v6) fun x3 =>
  (if x3 = 0 then
  (T_isAt_98 a1 k19 v2 v3 v4 v6 s0) else
  (tald s0 a1 (v2 + v6) fun x4 =>
  (tald s0 4 (v3 + v6) fun x5 =>
  (if x4 = x5 then
  (T_isAt_94 a1 k19 v2 v3 v4 v6 s0) else
  (T_isAt_98 a1 k19 v2 v3 v4 v6 s0))))))))
def T_isAt_19F (a1 : Nat)  (k19 : Int32 × Int32 × Int32 × Int32 × Int32 × TS → Option (xO × TS)) (p : Int32 × Int32 × Int32 × Int32 × Int32 × TS) : Option (xO × TS) := match p with
  | (v2, v3, v4, v5, v6, s0) => (if 6 ≤ v6 then
  (if vp_nar .boolean v5 = v5 then rI v5 s0 else none) else
  (if v4 ≤ (v3 + v6) then
  (T_isAt_40 a1 k19 v2 v3 v4 v5 v6 0 s0) else
  (T_isAt_40 a1 k19 v2 v3 v4 v5 v6 1 s0)))
def T_isAt_14 (a1 : Nat)  (v2 : Int32) (v3 : Int32) (v4 : Int32) (w0 : Int32) (s0 : TS) : Option (xO × TS) :=
  (lp (T_isAt_19F a1) FU (v2, v3, v4, w0, 0, s0))
def T_isAt (s0 : TS) (a1 : Nat) (a2 : Int32) (a3 : Int32) (a4 : Int32) : Option (xO × TS) :=
  (if 6 < (a4 - a3) then
  (T_isAt_14 a1 a2 a3 a4 0 s0) else
  (T_isAt_14 a1 a2 a3 a4 1 s0))
theorem T_isAt_99_ok {G : xG} {E : TE} (hO : xOK G) (hE : tok E) (a1 : Nat) (ha1 : a1 ∈ tarrs) {k19 : Int32 × Int32 × Int32 × Int32 × Int32 × TS → Option (xO × TS)} (hk19 : ∀ (v2 : Int32) (v3 : Int32) (v4 : Int32) (v5 : Int32) (v6 : Int32) (s0 : TS), XT G E "ForestLegsModel" "isAt" cX2_isAt 8 (Option.some Jvm.ClassFile.FieldType.boolean) 0 19 [(0, .ref E.2.1), (1, .ref (E.2.2 a1)), (2, .int v2), (3, .int v3), (4, .int v4), (5, .int v5), (6, .int v6)] [] s0 (k19 (v2, v3, v4, v5, v6, s0))) (v2 : Int32) (v3 : Int32) (v4 : Int32) (v6 : Int32) (w0 : Int32) (s0 : TS) : XT G E "ForestLegsModel" "isAt" cX2_isAt 8 (Option.some Jvm.ClassFile.FieldType.boolean) 0 99 [(0, .ref E.2.1), (1, .ref (E.2.2 a1)), (2, .int v2), (3, .int v3), (4, .int v4), (6, .int v6)] [.int w0] s0 (T_isAt_99 a1 k19 v2 v3 v4 v6 w0 s0) := by
  unfold T_isAt_99
  refine x_istore [(5, .int w0), (0, .ref E.2.1), (1, .ref (E.2.2 a1)), (2, .int v2), (3, .int v3), (4, .int v4), (6, .int v6)] dX2_isAt_99 (by decide) rfl (n := 101) rfl ?_
  refine tw_iinc 6 (fun x1 => [(6, .int x1), (5, .int w0), (0, .ref E.2.1), (1, .ref (E.2.2 a1)), (2, .int v2), (3, .int v3), (4, .int v4)]) dX2_isAt_101 rfl rfl (by decide) (fun _ => rfl) (n := 104) rfl (fun x1 => ?_)
  refine x_goto dX2_isAt_104 (n := 19) (by decide) ?_
  refine x_sub [2, 3, 4, 5, 6, 1, 0] [(0, .ref E.2.1), (1, .ref (E.2.2 a1)), (2, .int v2), (3, .int v3), (4, .int v4), (5, .int w0), (6, .int x1)] rfl ?_
  exact hk19 v2 v3 v4 w0 x1 s0
theorem T_isAt_98_ok {G : xG} {E : TE} (hO : xOK G) (hE : tok E) (a1 : Nat) (ha1 : a1 ∈ tarrs) {k19 : Int32 × Int32 × Int32 × Int32 × Int32 × TS → Option (xO × TS)} (hk19 : ∀ (v2 : Int32) (v3 : Int32) (v4 : Int32) (v5 : Int32) (v6 : Int32) (s0 : TS), XT G E "ForestLegsModel" "isAt" cX2_isAt 8 (Option.some Jvm.ClassFile.FieldType.boolean) 0 19 [(0, .ref E.2.1), (1, .ref (E.2.2 a1)), (2, .int v2), (3, .int v3), (4, .int v4), (5, .int v5), (6, .int v6)] [] s0 (k19 (v2, v3, v4, v5, v6, s0))) (v2 : Int32) (v3 : Int32) (v4 : Int32) (v6 : Int32) (s0 : TS) : XT G E "ForestLegsModel" "isAt" cX2_isAt 8 (Option.some Jvm.ClassFile.FieldType.boolean) 0 98 [(0, .ref E.2.1), (1, .ref (E.2.2 a1)), (2, .int v2), (3, .int v3), (4, .int v4), (6, .int v6)] [] s0 (T_isAt_98 a1 k19 v2 v3 v4 v6 s0) := by
  unfold T_isAt_98
  refine x_iconst 0 dX2_isAt_98 rfl (n := 99) rfl ?_
  exact T_isAt_99_ok hO hE a1 ha1 hk19 v2 v3 v4 v6 0 s0
theorem T_isAt_94_ok {G : xG} {E : TE} (hO : xOK G) (hE : tok E) (a1 : Nat) (ha1 : a1 ∈ tarrs) {k19 : Int32 × Int32 × Int32 × Int32 × Int32 × TS → Option (xO × TS)} (hk19 : ∀ (v2 : Int32) (v3 : Int32) (v4 : Int32) (v5 : Int32) (v6 : Int32) (s0 : TS), XT G E "ForestLegsModel" "isAt" cX2_isAt 8 (Option.some Jvm.ClassFile.FieldType.boolean) 0 19 [(0, .ref E.2.1), (1, .ref (E.2.2 a1)), (2, .int v2), (3, .int v3), (4, .int v4), (5, .int v5), (6, .int v6)] [] s0 (k19 (v2, v3, v4, v5, v6, s0))) (v2 : Int32) (v3 : Int32) (v4 : Int32) (v6 : Int32) (s0 : TS) : XT G E "ForestLegsModel" "isAt" cX2_isAt 8 (Option.some Jvm.ClassFile.FieldType.boolean) 0 94 [(0, .ref E.2.1), (1, .ref (E.2.2 a1)), (2, .int v2), (3, .int v3), (4, .int v4), (6, .int v6)] [] s0 (T_isAt_94 a1 k19 v2 v3 v4 v6 s0) := by
  unfold T_isAt_94
  refine x_iconst 1 dX2_isAt_94 rfl (n := 95) rfl ?_
  refine x_goto dX2_isAt_95 (n := 99) (by decide) ?_
  exact T_isAt_99_ok hO hE a1 ha1 hk19 v2 v3 v4 v6 1 s0
theorem T_isAt_40_ok {G : xG} {E : TE} (hO : xOK G) (hE : tok E) (a1 : Nat) (ha1 : a1 ∈ tarrs) {k19 : Int32 × Int32 × Int32 × Int32 × Int32 × TS → Option (xO × TS)} (hk19 : ∀ (v2 : Int32) (v3 : Int32) (v4 : Int32) (v5 : Int32) (v6 : Int32) (s0 : TS), XT G E "ForestLegsModel" "isAt" cX2_isAt 8 (Option.some Jvm.ClassFile.FieldType.boolean) 0 19 [(0, .ref E.2.1), (1, .ref (E.2.2 a1)), (2, .int v2), (3, .int v3), (4, .int v4), (5, .int v5), (6, .int v6)] [] s0 (k19 (v2, v3, v4, v5, v6, s0))) (v2 : Int32) (v3 : Int32) (v4 : Int32) (v5 : Int32) (v6 : Int32) (w0 : Int32) (s0 : TS) : XT G E "ForestLegsModel" "isAt" cX2_isAt 8 (Option.some Jvm.ClassFile.FieldType.boolean) 0 40 [(0, .ref E.2.1), (1, .ref (E.2.2 a1)), (2, .int v2), (3, .int v3), (4, .int v4), (5, .int v5), (6, .int v6)] [.int w0] s0 (T_isAt_40 a1 k19 v2 v3 v4 v5 v6 w0 s0) := by
  unfold T_isAt_40
  refine x_istore [(7, .int w0), (0, .ref E.2.1), (1, .ref (E.2.2 a1)), (2, .int v2), (3, .int v3), (4, .int v4), (5, .int v5), (6, .int v6)] dX2_isAt_40 (by decide) rfl (n := 42) rfl ?_
  refine x_iload 6 dX2_isAt_42 rfl (n := 44) rfl ?_
  refine tw_if_eq dX2_isAt_44 (t := 98) (by decide) (n := 47) rfl ?_ ?_
  · refine x_sub [1, 2, 3, 4, 5, 7] [(0, .ref E.2.1), (1, .ref (E.2.2 a1)), (2, .int v2), (3, .int v3), (4, .int v4), (6, .int v6)] rfl ?_
    exact T_isAt_98_ok hO hE a1 ha1 hk19 v2 v3 v4 v6 s0
  · refine x_iload 0 dX2_isAt_47 rfl (n := 49) rfl ?_
    refine tw_if_eq dX2_isAt_49 (t := 85) (by decide) (n := 52) rfl ?_ ?_
    · refine x_aload_nr 2 dX2_isAt_85 rfl rfl (n := 86) rfl ?_
      refine x_iload_n 3 dX2_isAt_86 rfl rfl (n := 87) rfl ?_
      refine x_iload 7 dX2_isAt_87 rfl (n := 89) rfl ?_
      refine x_iadd dX2_isAt_89 (n := 90) rfl ?_
      refine tw_iald hE ha1 dX2_isAt_90 (n := 91) rfl (fun x2 => ?_)
      refine tw_if_ne dX2_isAt_91 (t := 98) (by decide) (n := 94) rfl ?_ ?_
      · refine x_sub [1, 2, 3, 4, 5, 7] [(0, .ref E.2.1), (1, .ref (E.2.2 a1)), (2, .int v2), (3, .int v3), (4, .int v4), (6, .int v6)] rfl ?_
        exact T_isAt_98_ok hO hE a1 ha1 hk19 v2 v3 v4 v6 s0
      · refine x_sub [1, 2, 3, 4, 5, 7] [(0, .ref E.2.1), (1, .ref (E.2.2 a1)), (2, .int v2), (3, .int v3), (4, .int v4), (6, .int v6)] rfl ?_
        exact T_isAt_94_ok hO hE a1 ha1 hk19 v2 v3 v4 v6 s0
    · refine x_aload_nr 1 dX2_isAt_52 rfl rfl (n := 53) rfl ?_
      refine tw_getA fl_X2_13 rfl (by decide) dX2_isAt_53 (n := 56) rfl ?_
      refine x_iload_n 4 dX2_isAt_56 rfl rfl (n := 57) rfl ?_
      refine x_iload 7 dX2_isAt_57 rfl (n := 59) rfl ?_
      refine x_iadd dX2_isAt_59 (n := 60) rfl ?_
      refine tw_iald hE (by decide) dX2_isAt_60 (n := 61) rfl (fun x3 => ?_)
      refine tw_if_eq dX2_isAt_61 (t := 98) (by decide) (n := 64) rfl ?_ ?_
      · refine x_sub [1, 2, 3, 4, 5, 7] [(0, .ref E.2.1), (1, .ref (E.2.2 a1)), (2, .int v2), (3, .int v3), (4, .int v4), (6, .int v6)] rfl ?_
        exact T_isAt_98_ok hO hE a1 ha1 hk19 v2 v3 v4 v6 s0
      · refine x_aload_nr 2 dX2_isAt_64 rfl rfl (n := 65) rfl ?_
        refine x_iload_n 3 dX2_isAt_65 rfl rfl (n := 66) rfl ?_
        refine x_iload 7 dX2_isAt_66 rfl (n := 68) rfl ?_
        refine x_iadd dX2_isAt_68 (n := 69) rfl ?_
        refine tw_iald hE ha1 dX2_isAt_69 (n := 70) rfl (fun x4 => ?_)
        refine x_aload_nr 1 dX2_isAt_70 rfl rfl (n := 71) rfl ?_
        refine tw_getA fl_X2_13 rfl (by decide) dX2_isAt_71 (n := 74) rfl ?_
        refine x_iload_n 4 dX2_isAt_74 rfl rfl (n := 75) rfl ?_
        refine x_iload 7 dX2_isAt_75 rfl (n := 77) rfl ?_
        refine x_iadd dX2_isAt_77 (n := 78) rfl ?_
        refine tw_iald hE (by decide) dX2_isAt_78 (n := 79) rfl (fun x5 => ?_)
        refine tw_icmp_ne dX2_isAt_79 (t := 98) (by decide) (n := 82) rfl ?_ ?_
        · refine x_sub [1, 2, 3, 4, 5, 7] [(0, .ref E.2.1), (1, .ref (E.2.2 a1)), (2, .int v2), (3, .int v3), (4, .int v4), (6, .int v6)] rfl ?_
          exact T_isAt_98_ok hO hE a1 ha1 hk19 v2 v3 v4 v6 s0
        · refine x_goto dX2_isAt_82 (n := 94) (by decide) ?_
          refine x_sub [1, 2, 3, 4, 5, 7] [(0, .ref E.2.1), (1, .ref (E.2.2 a1)), (2, .int v2), (3, .int v3), (4, .int v4), (6, .int v6)] rfl ?_
          exact T_isAt_94_ok hO hE a1 ha1 hk19 v2 v3 v4 v6 s0
theorem T_isAt_19F_ok {G : xG} {E : TE} (hO : xOK G) (hE : tok E) (a1 : Nat) (ha1 : a1 ∈ tarrs)  {k19 : Int32 × Int32 × Int32 × Int32 × Int32 × TS → Option (xO × TS)} (hk19 : ∀ (v2 : Int32) (v3 : Int32) (v4 : Int32) (v5 : Int32) (v6 : Int32) (s0 : TS), XT G E "ForestLegsModel" "isAt" cX2_isAt 8 (Option.some Jvm.ClassFile.FieldType.boolean) 0 19 [(0, .ref E.2.1), (1, .ref (E.2.2 a1)), (2, .int v2), (3, .int v3), (4, .int v4), (5, .int v5), (6, .int v6)] [] s0 (k19 (v2, v3, v4, v5, v6, s0))) (v2 : Int32) (v3 : Int32) (v4 : Int32) (v5 : Int32) (v6 : Int32) (s0 : TS) : XT G E "ForestLegsModel" "isAt" cX2_isAt 8 (Option.some Jvm.ClassFile.FieldType.boolean) 0 19 [(0, .ref E.2.1), (1, .ref (E.2.2 a1)), (2, .int v2), (3, .int v3), (4, .int v4), (5, .int v5), (6, .int v6)] [] s0 (T_isAt_19F a1 k19 (v2, v3, v4, v5, v6, s0)) := by
  unfold T_isAt_19F
  refine x_iload 6 dX2_isAt_19 rfl (n := 21) rfl ?_
  refine x_bipush 6 dX2_isAt_21 rfl (n := 23) rfl ?_
  refine tw_icmp_ge dX2_isAt_23 (t := 107) (by decide) (n := 26) rfl ?_ ?_
  · refine x_iload 5 dX2_isAt_107 rfl (n := 109) rfl ?_
    exact tw_zreturn rfl dX2_isAt_109
  · refine x_iload_n 3 dX2_isAt_26 rfl rfl (n := 27) rfl ?_
    refine x_iload 6 dX2_isAt_27 rfl (n := 29) rfl ?_
    refine x_iadd dX2_isAt_29 (n := 30) rfl ?_
    refine x_iload 4 dX2_isAt_30 rfl (n := 32) rfl ?_
    refine tw_icmp_ge dX2_isAt_32 (t := 39) (by decide) (n := 35) rfl ?_ ?_
    · refine x_iconst 0 dX2_isAt_39 rfl (n := 40) rfl ?_
      exact T_isAt_40_ok hO hE a1 ha1 hk19 v2 v3 v4 v5 v6 0 s0
    · refine x_iconst 1 dX2_isAt_35 rfl (n := 36) rfl ?_
      refine x_goto dX2_isAt_36 (n := 40) (by decide) ?_
      exact T_isAt_40_ok hO hE a1 ha1 hk19 v2 v3 v4 v5 v6 1 s0
theorem T_isAt_19_lp {G : xG} {E : TE} (hO : xOK G) (hE : tok E) (a1 : Nat) (ha1 : a1 ∈ tarrs)  (n : Nat) (v2 : Int32) (v3 : Int32) (v4 : Int32) (v5 : Int32) (v6 : Int32) (s0 : TS) : XT G E "ForestLegsModel" "isAt" cX2_isAt 8 (Option.some Jvm.ClassFile.FieldType.boolean) 0 19 [(0, .ref E.2.1), (1, .ref (E.2.2 a1)), (2, .int v2), (3, .int v3), (4, .int v4), (5, .int v5), (6, .int v6)] [] s0 (lp (T_isAt_19F a1) n (v2, v3, v4, v5, v6, s0)) :=
  lp_ok (W := fun p K => XT G E "ForestLegsModel" "isAt" cX2_isAt 8 (Option.some Jvm.ClassFile.FieldType.boolean) 0 19 [(0, .ref E.2.1), (1, .ref (E.2.2 a1)), (2, .int p.1), (3, .int p.2.1), (4, .int p.2.2.1), (5, .int p.2.2.2.1), (6, .int p.2.2.2.2.1)] [] p.2.2.2.2.2 K) (fun _ => tw_no) (fun k hk => fun (v2, v3, v4, v5, v6, s0) => T_isAt_19F_ok hO hE a1 ha1 (fun v2 v3 v4 v5 v6 s0 => hk (v2, v3, v4, v5, v6, s0)) v2 v3 v4 v5 v6 s0) n (v2, v3, v4, v5, v6, s0)
theorem T_isAt_14_ok {G : xG} {E : TE} (hO : xOK G) (hE : tok E) (a1 : Nat) (ha1 : a1 ∈ tarrs)  (v2 : Int32) (v3 : Int32) (v4 : Int32) (w0 : Int32) (s0 : TS) : XT G E "ForestLegsModel" "isAt" cX2_isAt 8 (Option.some Jvm.ClassFile.FieldType.boolean) 0 14 [(0, .ref E.2.1), (1, .ref (E.2.2 a1)), (2, .int v2), (3, .int v3), (4, .int v4)] [.int w0] s0 (T_isAt_14 a1 v2 v3 v4 w0 s0) := by
  unfold T_isAt_14
  refine x_istore [(5, .int w0), (0, .ref E.2.1), (1, .ref (E.2.2 a1)), (2, .int v2), (3, .int v3), (4, .int v4)] dX2_isAt_14 (by decide) rfl (n := 16) rfl ?_
  refine x_iconst 0 dX2_isAt_16 rfl (n := 17) rfl ?_
  refine x_istore [(6, .int 0), (5, .int w0), (0, .ref E.2.1), (1, .ref (E.2.2 a1)), (2, .int v2), (3, .int v3), (4, .int v4)] dX2_isAt_17 (by decide) rfl (n := 19) rfl ?_
  refine x_sub [2, 3, 4, 5, 6, 1, 0] [(0, .ref E.2.1), (1, .ref (E.2.2 a1)), (2, .int v2), (3, .int v3), (4, .int v4), (5, .int w0), (6, .int 0)] rfl ?_
  exact T_isAt_19_lp hO hE a1 ha1 FU v2 v3 v4 w0 0 s0
theorem T_isAt_ok {G : xG} {E : TE} (hO : xOK G) (hE : tok E) (s0 : TS) (a1 : Nat) (a2 : Int32) (a3 : Int32) (a4 : Int32) (ha1 : a1 ∈ tarrs) : CTT G E 0 yX2_isAt cX2_isAt 8 (Option.some Jvm.ClassFile.FieldType.boolean) [.ref E.2.1, .ref (E.2.2 a1), .int a2, .int a3, .int a4] s0 (T_isAt s0 a1 a2 a3 a4) := by
  refine CT_of hO (by decide +kernel) (by decide +kernel) (Nat.le_of_ble_eq_true rfl) ?_
  show XT G E "ForestLegsModel" "isAt" cX2_isAt 8 (Option.some Jvm.ClassFile.FieldType.boolean) 0 0 [(0, .ref E.2.1), (1, .ref (E.2.2 a1)), (2, .int a2), (3, .int a3), (4, .int a4)] [] s0 (T_isAt s0 a1 a2 a3 a4)
  refine x_iload 4 dX2_isAt_0 rfl (n := 2) rfl ?_
  refine x_iload_n 3 dX2_isAt_2 rfl rfl (n := 3) rfl ?_
  refine x_isub dX2_isAt_3 (n := 4) rfl ?_
  refine x_bipush 6 dX2_isAt_4 rfl (n := 6) rfl ?_
  refine tw_icmp_gt dX2_isAt_6 (t := 13) (by decide) (n := 9) rfl ?_ ?_
  · refine x_iconst 0 dX2_isAt_13 rfl (n := 14) rfl ?_
    exact T_isAt_14_ok hO hE a1 ha1 a2 a3 a4 0 s0
  · refine x_iconst 1 dX2_isAt_9 rfl (n := 10) rfl ?_
    refine x_goto dX2_isAt_10 (n := 14) (by decide) ?_
    exact T_isAt_14_ok hO hE a1 ha1 a2 a3 a4 1 s0
abbrev cX2_namedHere : ByteArray := prog_14_method_16_code
def yX2_namedHere : MethodName := ⟨RX2, "namedHere", "(II)I"⟩
def dkwX2_namedHere_1 : List UInt8 := [180, 0, 66, 182, 0, 114, 153, 0, 5, 29, 172, 132, 3, 1, 167, 255, 221, 2, 172]
abbrev dktX2_namedHere_1 : List UInt8 := dkwX2_namedHere_1 ++ []
def dkwX2_namedHere_0 : List UInt8 := [3, 62, 29, 28, 162, 0, 36, 42, 42, 180, 0, 26, 16, 6, 27, 29, 96, 104, 42, 180, 0, 73, 42]
abbrev dktX2_namedHere_0 : List UInt8 := dkwX2_namedHere_0 ++ dktX2_namedHere_1
theorem dksX2_namedHere_0 : cX2_namedHere.data.toList.drop 0 = dktX2_namedHere_0 := by decide +kernel
theorem dksX2_namedHere_1 : cX2_namedHere.data.toList.drop 23 = dktX2_namedHere_1 := dk_seg dksX2_namedHere_0 23 rfl rfl
theorem dX2_namedHere_0 : decode cX2_namedHere 0 = .ok (.iconst 0, 1) := dk_3 (dk_at dksX2_namedHere_0 0 rfl rfl)
theorem dX2_namedHere_1 : decode cX2_namedHere 1 = .ok (.istore_n 3, 1) := dk_62 (dk_at dksX2_namedHere_0 1 rfl rfl)
theorem dX2_namedHere_2 : decode cX2_namedHere 2 = .ok (.iload_n 3, 1) := dk_29 (dk_at dksX2_namedHere_0 2 rfl rfl)
theorem dX2_namedHere_3 : decode cX2_namedHere 3 = .ok (.iload_n 2, 1) := dk_28 (dk_at dksX2_namedHere_0 3 rfl rfl)
theorem dX2_namedHere_4 : decode cX2_namedHere 4 = .ok (.if_icmp .ge 36, 3) := dk_162 0 36 (dk_at dksX2_namedHere_0 4 rfl rfl)
theorem dX2_namedHere_7 : decode cX2_namedHere 7 = .ok (.aload_n 0, 1) := dk_42 (dk_at dksX2_namedHere_0 7 rfl rfl)
theorem dX2_namedHere_8 : decode cX2_namedHere 8 = .ok (.aload_n 0, 1) := dk_42 (dk_at dksX2_namedHere_0 8 rfl rfl)
theorem dX2_namedHere_9 : decode cX2_namedHere 9 = .ok (.getfield 26, 3) := dk_180 0 26 (dk_at dksX2_namedHere_0 9 rfl rfl)
theorem dX2_namedHere_12 : decode cX2_namedHere 12 = .ok (.bipush 6, 2) := dk_16 6 (dk_at dksX2_namedHere_0 12 rfl rfl)
theorem dX2_namedHere_14 : decode cX2_namedHere 14 = .ok (.iload_n 1, 1) := dk_27 (dk_at dksX2_namedHere_0 14 rfl rfl)
theorem dX2_namedHere_15 : decode cX2_namedHere 15 = .ok (.iload_n 3, 1) := dk_29 (dk_at dksX2_namedHere_0 15 rfl rfl)
theorem dX2_namedHere_16 : decode cX2_namedHere 16 = .ok (.iadd, 1) := dk_96 (dk_at dksX2_namedHere_0 16 rfl rfl)
theorem dX2_namedHere_17 : decode cX2_namedHere 17 = .ok (.imul, 1) := dk_104 (dk_at dksX2_namedHere_0 17 rfl rfl)
theorem dX2_namedHere_18 : decode cX2_namedHere 18 = .ok (.aload_n 0, 1) := dk_42 (dk_at dksX2_namedHere_0 18 rfl rfl)
theorem dX2_namedHere_19 : decode cX2_namedHere 19 = .ok (.getfield 73, 3) := dk_180 0 73 (dk_at dksX2_namedHere_0 19 rfl rfl)
theorem dX2_namedHere_22 : decode cX2_namedHere 22 = .ok (.aload_n 0, 1) := dk_42 (dk_at dksX2_namedHere_0 22 rfl rfl)
theorem dX2_namedHere_23 : decode cX2_namedHere 23 = .ok (.getfield 66, 3) := dk_180 0 66 (dk_at dksX2_namedHere_1 0 rfl rfl)
theorem dX2_namedHere_26 : decode cX2_namedHere 26 = .ok (.invokevirtual 114, 3) := dk_182 0 114 (dk_at dksX2_namedHere_1 3 rfl rfl)
theorem dX2_namedHere_29 : decode cX2_namedHere 29 = .ok (.ifCond .eq 5, 3) := dk_153 0 5 (dk_at dksX2_namedHere_1 6 rfl rfl)
theorem dX2_namedHere_32 : decode cX2_namedHere 32 = .ok (.iload_n 3, 1) := dk_29 (dk_at dksX2_namedHere_1 9 rfl rfl)
theorem dX2_namedHere_33 : decode cX2_namedHere 33 = .ok (.ireturn, 1) := dk_172 (dk_at dksX2_namedHere_1 10 rfl rfl)
theorem dX2_namedHere_34 : decode cX2_namedHere 34 = .ok (.iinc 3 1, 3) := dk_132 3 1 (dk_at dksX2_namedHere_1 11 rfl rfl)
theorem dX2_namedHere_37 : decode cX2_namedHere 37 = .ok (.goto (-35), 3) := dk_167 255 221 (dk_at dksX2_namedHere_1 14 rfl rfl)
theorem dX2_namedHere_40 : decode cX2_namedHere 40 = .ok (.iconst (-1), 1) := dk_2 (dk_at dksX2_namedHere_1 17 rfl rfl)
theorem dX2_namedHere_41 : decode cX2_namedHere 41 = .ok (.ireturn, 1) := dk_172 (dk_at dksX2_namedHere_1 18 rfl rfl)
theorem md_X2_namedHere : xMd yX2_namedHere cX2_namedHere 4 (Option.some Jvm.ClassFile.FieldType.int) 2 := ⟨q3081, q126, by decide, by decide +kernel, by decide +kernel, by decide +kernel⟩
def T_namedHere_2F   (k2 : Int32 × Int32 × Int32 × TS → Option (xO × TS)) (p : Int32 × Int32 × Int32 × TS) : Option (xO × TS) := match p with
  | (v1, v2, v3, s0) => (if v2 ≤ v3 then
  (rI (-1) s0) else
  (xcI (T_isAt s0 10 (6 * (v1 + v3)) (s0.1 12) (s0.1 13)) fun x2 s1 =>
  (if x2 = 0 then
  (bnd (v3 + 1) fun x3 =>
  (k2 (v1, v2, x3, s1))) else
  (rI v3 s1))))
def T_namedHere (s0 : TS) (a1 : Int32) (a2 : Int32) : Option (xO × TS) :=
  (lp (T_namedHere_2F) FU (a1, a2, 0, s0))
theorem T_namedHere_2F_ok {G : xG} {E : TE} (hO : xOK G) (hE : tok E)   {k2 : Int32 × Int32 × Int32 × TS → Option (xO × TS)} (hk2 : ∀ (v1 : Int32) (v2 : Int32) (v3 : Int32) (s0 : TS), XT G E "ForestLegsModel" "namedHere" cX2_namedHere 4 (Option.some Jvm.ClassFile.FieldType.int) 1 2 [(0, .ref E.2.1), (1, .int v1), (2, .int v2), (3, .int v3)] [] s0 (k2 (v1, v2, v3, s0))) (v1 : Int32) (v2 : Int32) (v3 : Int32) (s0 : TS) : XT G E "ForestLegsModel" "namedHere" cX2_namedHere 4 (Option.some Jvm.ClassFile.FieldType.int) 1 2 [(0, .ref E.2.1), (1, .int v1), (2, .int v2), (3, .int v3)] [] s0 (T_namedHere_2F k2 (v1, v2, v3, s0)) := by
  unfold T_namedHere_2F
  refine x_iload_n 3 dX2_namedHere_2 rfl rfl (n := 3) rfl ?_
  refine x_iload_n 2 dX2_namedHere_3 rfl rfl (n := 4) rfl ?_
  refine tw_icmp_ge dX2_namedHere_4 (t := 40) (by decide) (n := 7) rfl ?_ ?_
  · refine x_iconst (-1) dX2_namedHere_40 rfl (n := 41) rfl ?_
    exact tw_ireturn dX2_namedHere_41
  · refine x_aload_nr 0 dX2_namedHere_7 rfl rfl (n := 8) rfl ?_
    refine x_aload_nr 0 dX2_namedHere_8 rfl rfl (n := 9) rfl ?_
    refine tw_getA fl_X2_26 rfl (by decide) dX2_namedHere_9 (n := 12) rfl ?_
    refine x_bipush 6 dX2_namedHere_12 rfl (n := 14) rfl ?_
    refine x_iload_n 1 dX2_namedHere_14 rfl rfl (n := 15) rfl ?_
    refine x_iload_n 3 dX2_namedHere_15 rfl rfl (n := 16) rfl ?_
    refine x_iadd dX2_namedHere_16 (n := 17) rfl ?_
    refine x_imul dX2_namedHere_17 (n := 18) rfl ?_
    refine x_aload_nr 0 dX2_namedHere_18 rfl rfl (n := 19) rfl ?_
    refine tw_getI fl_X2_73 rfl (by decide) dX2_namedHere_19 (n := 22) rfl ?_
    refine x_aload_nr 0 dX2_namedHere_22 rfl rfl (n := 23) rfl ?_
    refine tw_getI fl_X2_66 rfl (by decide) dX2_namedHere_23 (n := 26) rfl ?_
    refine tw_callV_I [.ref (E.2.2 10), .int (6 * (v1 + v3)), .int (s0.1 12), .int (s0.1 13)] [] (T_isAt_ok hO hE s0 10 (6 * (v1 + v3)) (s0.1 12) (s0.1 13) (by decide)) md_X2_isAt q3082 q3084 qs74 dX2_namedHere_26 rfl rfl (by decide) (Nat.le_of_ble_eq_true rfl) (n := 29) rfl (fun x2 s1 => ?_)
    refine tw_if_eq dX2_namedHere_29 (t := 34) (by decide) (n := 32) rfl ?_ ?_
    · refine tw_iinc 3 (fun x3 => [(3, .int x3), (0, .ref E.2.1), (1, .int v1), (2, .int v2)]) dX2_namedHere_34 rfl rfl (by decide) (fun _ => rfl) (n := 37) rfl (fun x3 => ?_)
      refine x_goto dX2_namedHere_37 (n := 2) (by decide) ?_
      refine x_sub [1, 2, 3, 0] [(0, .ref E.2.1), (1, .int v1), (2, .int v2), (3, .int x3)] rfl ?_
      exact hk2 v1 v2 x3 s1
    · refine x_iload_n 3 dX2_namedHere_32 rfl rfl (n := 33) rfl ?_
      exact tw_ireturn dX2_namedHere_33
theorem T_namedHere_2_lp {G : xG} {E : TE} (hO : xOK G) (hE : tok E)   (n : Nat) (v1 : Int32) (v2 : Int32) (v3 : Int32) (s0 : TS) : XT G E "ForestLegsModel" "namedHere" cX2_namedHere 4 (Option.some Jvm.ClassFile.FieldType.int) 1 2 [(0, .ref E.2.1), (1, .int v1), (2, .int v2), (3, .int v3)] [] s0 (lp (T_namedHere_2F) n (v1, v2, v3, s0)) :=
  lp_ok (W := fun p K => XT G E "ForestLegsModel" "namedHere" cX2_namedHere 4 (Option.some Jvm.ClassFile.FieldType.int) 1 2 [(0, .ref E.2.1), (1, .int p.1), (2, .int p.2.1), (3, .int p.2.2.1)] [] p.2.2.2 K) (fun _ => tw_no) (fun k hk => fun (v1, v2, v3, s0) => T_namedHere_2F_ok hO hE (fun v1 v2 v3 s0 => hk (v1, v2, v3, s0)) v1 v2 v3 s0) n (v1, v2, v3, s0)
theorem T_namedHere_ok {G : xG} {E : TE} (hO : xOK G) (hE : tok E) (s0 : TS) (a1 : Int32) (a2 : Int32) : CTT G E 1 yX2_namedHere cX2_namedHere 4 (Option.some Jvm.ClassFile.FieldType.int) [.ref E.2.1, .int a1, .int a2] s0 (T_namedHere s0 a1 a2) := by
  refine CT_of hO (by decide +kernel) (by decide +kernel) (Nat.le_of_ble_eq_true rfl) ?_
  show XT G E "ForestLegsModel" "namedHere" cX2_namedHere 4 (Option.some Jvm.ClassFile.FieldType.int) 1 0 [(0, .ref E.2.1), (1, .int a1), (2, .int a2)] [] s0 (T_namedHere s0 a1 a2)
  refine x_iconst 0 dX2_namedHere_0 rfl (n := 1) rfl ?_
  refine x_istore_n [(3, .int 0), (0, .ref E.2.1), (1, .int a1), (2, .int a2)] dX2_namedHere_1 rfl (by decide) rfl (n := 2) rfl ?_
  refine x_sub [1, 2, 3, 0] [(0, .ref E.2.1), (1, .int a1), (2, .int a2), (3, .int 0)] rfl ?_
  exact T_namedHere_2_lp hO hE FU a1 a2 0 s0
abbrev cX2_takesName : ByteArray := prog_14_method_17_code
def yX2_takesName : MethodName := ⟨RX2, "takesName", "(I)Z"⟩
def dkwX2_takesName_4 : List UInt8 := [167, 0, 4, 3, 79, 132, 2, 1, 167, 255, 208, 42, 182, 0, 118, 4, 172]
abbrev dktX2_takesName_4 : List UInt8 := dkwX2_takesName_4 ++ []
def dkwX2_takesName_3 : List UInt8 := [180, 0, 73, 28, 96, 42, 180, 0, 66, 162, 0, 17, 42, 180, 0, 13, 42, 180, 0, 73, 28, 96, 46]
abbrev dktX2_takesName_3 : List UInt8 := dkwX2_takesName_3 ++ dktX2_takesName_4
def dkwX2_takesName_2 : List UInt8 := [6, 182, 0, 125, 172, 3, 61, 28, 16, 6, 162, 0, 48, 42, 180, 0, 26, 16, 6, 27, 104, 28, 96, 42]
abbrev dktX2_takesName_2 : List UInt8 := dkwX2_takesName_2 ++ dktX2_takesName_3
def dkwX2_takesName_1 : List UInt8 := [46, 182, 0, 129, 2, 160, 0, 18, 42, 6, 42, 180, 0, 20, 4, 46, 182, 0, 129, 2, 159, 0, 9, 42]
abbrev dktX2_takesName_1 : List UInt8 := dkwX2_takesName_1 ++ dktX2_takesName_2
def dkwX2_takesName_0 : List UInt8 := [42, 182, 0, 118, 42, 182, 0, 121, 154, 0, 9, 42, 4, 182, 0, 125, 172, 42, 3, 42, 180, 0, 20, 3]
abbrev dktX2_takesName_0 : List UInt8 := dkwX2_takesName_0 ++ dktX2_takesName_1
theorem dksX2_takesName_0 : cX2_takesName.data.toList.drop 0 = dktX2_takesName_0 := by decide +kernel
theorem dksX2_takesName_1 : cX2_takesName.data.toList.drop 24 = dktX2_takesName_1 := dk_seg dksX2_takesName_0 24 rfl rfl
theorem dksX2_takesName_2 : cX2_takesName.data.toList.drop 48 = dktX2_takesName_2 := dk_seg dksX2_takesName_1 24 rfl rfl
theorem dksX2_takesName_3 : cX2_takesName.data.toList.drop 72 = dktX2_takesName_3 := dk_seg dksX2_takesName_2 24 rfl rfl
theorem dksX2_takesName_4 : cX2_takesName.data.toList.drop 95 = dktX2_takesName_4 := dk_seg dksX2_takesName_3 23 rfl rfl
theorem dX2_takesName_0 : decode cX2_takesName 0 = .ok (.aload_n 0, 1) := dk_42 (dk_at dksX2_takesName_0 0 rfl rfl)
theorem dX2_takesName_1 : decode cX2_takesName 1 = .ok (.invokevirtual 118, 3) := dk_182 0 118 (dk_at dksX2_takesName_0 1 rfl rfl)
theorem dX2_takesName_4 : decode cX2_takesName 4 = .ok (.aload_n 0, 1) := dk_42 (dk_at dksX2_takesName_0 4 rfl rfl)
theorem dX2_takesName_5 : decode cX2_takesName 5 = .ok (.invokevirtual 121, 3) := dk_182 0 121 (dk_at dksX2_takesName_0 5 rfl rfl)
theorem dX2_takesName_8 : decode cX2_takesName 8 = .ok (.ifCond .ne 9, 3) := dk_154 0 9 (dk_at dksX2_takesName_0 8 rfl rfl)
theorem dX2_takesName_11 : decode cX2_takesName 11 = .ok (.aload_n 0, 1) := dk_42 (dk_at dksX2_takesName_0 11 rfl rfl)
theorem dX2_takesName_12 : decode cX2_takesName 12 = .ok (.iconst 1, 1) := dk_4 (dk_at dksX2_takesName_0 12 rfl rfl)
theorem dX2_takesName_13 : decode cX2_takesName 13 = .ok (.invokevirtual 125, 3) := dk_182 0 125 (dk_at dksX2_takesName_0 13 rfl rfl)
theorem dX2_takesName_16 : decode cX2_takesName 16 = .ok (.ireturn, 1) := dk_172 (dk_at dksX2_takesName_0 16 rfl rfl)
theorem dX2_takesName_17 : decode cX2_takesName 17 = .ok (.aload_n 0, 1) := dk_42 (dk_at dksX2_takesName_0 17 rfl rfl)
theorem dX2_takesName_18 : decode cX2_takesName 18 = .ok (.iconst 0, 1) := dk_3 (dk_at dksX2_takesName_0 18 rfl rfl)
theorem dX2_takesName_19 : decode cX2_takesName 19 = .ok (.aload_n 0, 1) := dk_42 (dk_at dksX2_takesName_0 19 rfl rfl)
theorem dX2_takesName_20 : decode cX2_takesName 20 = .ok (.getfield 20, 3) := dk_180 0 20 (dk_at dksX2_takesName_0 20 rfl rfl)
theorem dX2_takesName_23 : decode cX2_takesName 23 = .ok (.iconst 0, 1) := dk_3 (dk_at dksX2_takesName_0 23 rfl rfl)
theorem dX2_takesName_24 : decode cX2_takesName 24 = .ok (.iaload, 1) := dk_46 (dk_at dksX2_takesName_1 0 rfl rfl)
theorem dX2_takesName_25 : decode cX2_takesName 25 = .ok (.invokevirtual 129, 3) := dk_182 0 129 (dk_at dksX2_takesName_1 1 rfl rfl)
theorem dX2_takesName_28 : decode cX2_takesName 28 = .ok (.iconst (-1), 1) := dk_2 (dk_at dksX2_takesName_1 4 rfl rfl)
theorem dX2_takesName_29 : decode cX2_takesName 29 = .ok (.if_icmp .ne 18, 3) := dk_160 0 18 (dk_at dksX2_takesName_1 5 rfl rfl)
theorem dX2_takesName_32 : decode cX2_takesName 32 = .ok (.aload_n 0, 1) := dk_42 (dk_at dksX2_takesName_1 8 rfl rfl)
theorem dX2_takesName_33 : decode cX2_takesName 33 = .ok (.iconst 3, 1) := dk_6 (dk_at dksX2_takesName_1 9 rfl rfl)
theorem dX2_takesName_34 : decode cX2_takesName 34 = .ok (.aload_n 0, 1) := dk_42 (dk_at dksX2_takesName_1 10 rfl rfl)
theorem dX2_takesName_35 : decode cX2_takesName 35 = .ok (.getfield 20, 3) := dk_180 0 20 (dk_at dksX2_takesName_1 11 rfl rfl)
theorem dX2_takesName_38 : decode cX2_takesName 38 = .ok (.iconst 1, 1) := dk_4 (dk_at dksX2_takesName_1 14 rfl rfl)
theorem dX2_takesName_39 : decode cX2_takesName 39 = .ok (.iaload, 1) := dk_46 (dk_at dksX2_takesName_1 15 rfl rfl)
theorem dX2_takesName_40 : decode cX2_takesName 40 = .ok (.invokevirtual 129, 3) := dk_182 0 129 (dk_at dksX2_takesName_1 16 rfl rfl)
theorem dX2_takesName_43 : decode cX2_takesName 43 = .ok (.iconst (-1), 1) := dk_2 (dk_at dksX2_takesName_1 19 rfl rfl)
theorem dX2_takesName_44 : decode cX2_takesName 44 = .ok (.if_icmp .eq 9, 3) := dk_159 0 9 (dk_at dksX2_takesName_1 20 rfl rfl)
theorem dX2_takesName_47 : decode cX2_takesName 47 = .ok (.aload_n 0, 1) := dk_42 (dk_at dksX2_takesName_1 23 rfl rfl)
theorem dX2_takesName_48 : decode cX2_takesName 48 = .ok (.iconst 3, 1) := dk_6 (dk_at dksX2_takesName_2 0 rfl rfl)
theorem dX2_takesName_49 : decode cX2_takesName 49 = .ok (.invokevirtual 125, 3) := dk_182 0 125 (dk_at dksX2_takesName_2 1 rfl rfl)
theorem dX2_takesName_52 : decode cX2_takesName 52 = .ok (.ireturn, 1) := dk_172 (dk_at dksX2_takesName_2 4 rfl rfl)
theorem dX2_takesName_53 : decode cX2_takesName 53 = .ok (.iconst 0, 1) := dk_3 (dk_at dksX2_takesName_2 5 rfl rfl)
theorem dX2_takesName_54 : decode cX2_takesName 54 = .ok (.istore_n 2, 1) := dk_61 (dk_at dksX2_takesName_2 6 rfl rfl)
theorem dX2_takesName_55 : decode cX2_takesName 55 = .ok (.iload_n 2, 1) := dk_28 (dk_at dksX2_takesName_2 7 rfl rfl)
theorem dX2_takesName_56 : decode cX2_takesName 56 = .ok (.bipush 6, 2) := dk_16 6 (dk_at dksX2_takesName_2 8 rfl rfl)
theorem dX2_takesName_58 : decode cX2_takesName 58 = .ok (.if_icmp .ge 48, 3) := dk_162 0 48 (dk_at dksX2_takesName_2 10 rfl rfl)
theorem dX2_takesName_61 : decode cX2_takesName 61 = .ok (.aload_n 0, 1) := dk_42 (dk_at dksX2_takesName_2 13 rfl rfl)
theorem dX2_takesName_62 : decode cX2_takesName 62 = .ok (.getfield 26, 3) := dk_180 0 26 (dk_at dksX2_takesName_2 14 rfl rfl)
theorem dX2_takesName_65 : decode cX2_takesName 65 = .ok (.bipush 6, 2) := dk_16 6 (dk_at dksX2_takesName_2 17 rfl rfl)
theorem dX2_takesName_67 : decode cX2_takesName 67 = .ok (.iload_n 1, 1) := dk_27 (dk_at dksX2_takesName_2 19 rfl rfl)
theorem dX2_takesName_68 : decode cX2_takesName 68 = .ok (.imul, 1) := dk_104 (dk_at dksX2_takesName_2 20 rfl rfl)
theorem dX2_takesName_69 : decode cX2_takesName 69 = .ok (.iload_n 2, 1) := dk_28 (dk_at dksX2_takesName_2 21 rfl rfl)
theorem dX2_takesName_70 : decode cX2_takesName 70 = .ok (.iadd, 1) := dk_96 (dk_at dksX2_takesName_2 22 rfl rfl)
theorem dX2_takesName_71 : decode cX2_takesName 71 = .ok (.aload_n 0, 1) := dk_42 (dk_at dksX2_takesName_2 23 rfl rfl)
theorem dX2_takesName_72 : decode cX2_takesName 72 = .ok (.getfield 73, 3) := dk_180 0 73 (dk_at dksX2_takesName_3 0 rfl rfl)
theorem dX2_takesName_75 : decode cX2_takesName 75 = .ok (.iload_n 2, 1) := dk_28 (dk_at dksX2_takesName_3 3 rfl rfl)
theorem dX2_takesName_76 : decode cX2_takesName 76 = .ok (.iadd, 1) := dk_96 (dk_at dksX2_takesName_3 4 rfl rfl)
theorem dX2_takesName_77 : decode cX2_takesName 77 = .ok (.aload_n 0, 1) := dk_42 (dk_at dksX2_takesName_3 5 rfl rfl)
theorem dX2_takesName_78 : decode cX2_takesName 78 = .ok (.getfield 66, 3) := dk_180 0 66 (dk_at dksX2_takesName_3 6 rfl rfl)
theorem dX2_takesName_81 : decode cX2_takesName 81 = .ok (.if_icmp .ge 17, 3) := dk_162 0 17 (dk_at dksX2_takesName_3 9 rfl rfl)
theorem dX2_takesName_84 : decode cX2_takesName 84 = .ok (.aload_n 0, 1) := dk_42 (dk_at dksX2_takesName_3 12 rfl rfl)
theorem dX2_takesName_85 : decode cX2_takesName 85 = .ok (.getfield 13, 3) := dk_180 0 13 (dk_at dksX2_takesName_3 13 rfl rfl)
theorem dX2_takesName_88 : decode cX2_takesName 88 = .ok (.aload_n 0, 1) := dk_42 (dk_at dksX2_takesName_3 16 rfl rfl)
theorem dX2_takesName_89 : decode cX2_takesName 89 = .ok (.getfield 73, 3) := dk_180 0 73 (dk_at dksX2_takesName_3 17 rfl rfl)
theorem dX2_takesName_92 : decode cX2_takesName 92 = .ok (.iload_n 2, 1) := dk_28 (dk_at dksX2_takesName_3 20 rfl rfl)
theorem dX2_takesName_93 : decode cX2_takesName 93 = .ok (.iadd, 1) := dk_96 (dk_at dksX2_takesName_3 21 rfl rfl)
theorem dX2_takesName_94 : decode cX2_takesName 94 = .ok (.iaload, 1) := dk_46 (dk_at dksX2_takesName_3 22 rfl rfl)
theorem dX2_takesName_95 : decode cX2_takesName 95 = .ok (.goto 4, 3) := dk_167 0 4 (dk_at dksX2_takesName_4 0 rfl rfl)
theorem dX2_takesName_98 : decode cX2_takesName 98 = .ok (.iconst 0, 1) := dk_3 (dk_at dksX2_takesName_4 3 rfl rfl)
theorem dX2_takesName_99 : decode cX2_takesName 99 = .ok (.iastore, 1) := dk_79 (dk_at dksX2_takesName_4 4 rfl rfl)
theorem dX2_takesName_100 : decode cX2_takesName 100 = .ok (.iinc 2 1, 3) := dk_132 2 1 (dk_at dksX2_takesName_4 5 rfl rfl)
theorem dX2_takesName_103 : decode cX2_takesName 103 = .ok (.goto (-48), 3) := dk_167 255 208 (dk_at dksX2_takesName_4 8 rfl rfl)
theorem dX2_takesName_106 : decode cX2_takesName 106 = .ok (.aload_n 0, 1) := dk_42 (dk_at dksX2_takesName_4 11 rfl rfl)
theorem dX2_takesName_107 : decode cX2_takesName 107 = .ok (.invokevirtual 118, 3) := dk_182 0 118 (dk_at dksX2_takesName_4 12 rfl rfl)
theorem dX2_takesName_110 : decode cX2_takesName 110 = .ok (.iconst 1, 1) := dk_4 (dk_at dksX2_takesName_4 15 rfl rfl)
theorem dX2_takesName_111 : decode cX2_takesName 111 = .ok (.ireturn, 1) := dk_172 (dk_at dksX2_takesName_4 16 rfl rfl)
theorem md_X2_takesName : xMd yX2_takesName cX2_takesName 3 (Option.some Jvm.ClassFile.FieldType.boolean) 1 := ⟨q3070, q126, by decide, by decide +kernel, by decide +kernel, by decide +kernel⟩
def T_takesName_47    (s0 : TS) : Option (xO × TS) :=
  (xcI (T_errs s0 3) fun x8 s7 =>
  (if vp_nar .boolean x8 = x8 then rI x8 s7 else none))
def T_takesName_99  (k55 : Int32 × Int32 × TS → Option (xO × TS)) (v1 : Int32) (v2 : Int32) (w1 : Int32) (w2 : Int32) (s0 : TS) : Option (xO × TS) :=
  (tast s0 10 w1 w2 fun s13 =>
  (bnd (v2 + 1) fun x14 =>
  (k55 (v1, x14, s13))))
def T_takesName_55F   (k55 : Int32 × Int32 × TS → Option (xO × TS)) (p : Int32 × Int32 × TS) : Option (xO × TS) := match p with
  | (v1, v2, s0) => (if 6 ≤ v2 then
  (xcV (T_goesOn s0 ) fun s12 =>
  (if vp_nar .boolean 1 = 1 then rI 1 s12 else none)) else
  (if (s0.1 13) ≤ ((s0.1 12) + v2) then
  (T_takesName_99 k55 v1 v2 ((6 * v1) + v2) 0 s0) else
  (tald s0 4 ((s0.1 12) + v2) fun x15 =>
  (T_takesName_99 k55 v1 v2 ((6 * v1) + v2) x15 s0))))
def T_takesName (s0 : TS) (a1 : Int32) : Option (xO × TS) :=
  (xcV (T_goesOn s0 ) fun s1 =>
  (xcI (T_isName s1 ) fun x3 s2 =>
  (if x3 = 0 then
  (xcI (T_errs s2 1) fun x17 s16 =>
  (if vp_nar .boolean x17 = x17 then rI x17 s16 else none)) else
  (tald s2 8 0 fun x4 =>
  (xcI (T_namedHere s2 0 x4) fun x6 s5 =>
  (if x6 = (-1) then
  (tald s5 8 1 fun x9 =>
  (xcI (T_namedHere s5 3 x9) fun x11 s10 =>
  (if x11 = (-1) then
  (lp (T_takesName_55F) FU (a1, 0, s10)) else
  (T_takesName_47  s10)))) else
  (T_takesName_47  s5)))))))
theorem T_takesName_47_ok {G : xG} {E : TE} (hO : xOK G) (hE : tok E)    (s0 : TS) : XT G E "ForestLegsModel" "takesName" cX2_takesName 3 (Option.some Jvm.ClassFile.FieldType.boolean) 6 47 [(0, .ref E.2.1)] [] s0 (T_takesName_47  s0) := by
  unfold T_takesName_47
  refine x_aload_nr 0 dX2_takesName_47 rfl rfl (n := 48) rfl ?_
  refine x_iconst 3 dX2_takesName_48 rfl (n := 49) rfl ?_
  refine tw_callV_I [.int 3] [] (T_errs_ok hO hE s0 3) md_X2_errs q3063 q3065 qs70 dX2_takesName_49 rfl rfl (by decide) (Nat.le_of_ble_eq_true rfl) (n := 52) rfl (fun x8 s7 => ?_)
  exact tw_zreturn rfl dX2_takesName_52
theorem T_takesName_99_ok {G : xG} {E : TE} (hO : xOK G) (hE : tok E)  {k55 : Int32 × Int32 × TS → Option (xO × TS)} (hk55 : ∀ (v1 : Int32) (v2 : Int32) (s0 : TS), XT G E "ForestLegsModel" "takesName" cX2_takesName 3 (Option.some Jvm.ClassFile.FieldType.boolean) 6 55 [(0, .ref E.2.1), (1, .int v1), (2, .int v2)] [] s0 (k55 (v1, v2, s0))) (v1 : Int32) (v2 : Int32) (w1 : Int32) (w2 : Int32) (s0 : TS) : XT G E "ForestLegsModel" "takesName" cX2_takesName 3 (Option.some Jvm.ClassFile.FieldType.boolean) 6 99 [(0, .ref E.2.1), (1, .int v1), (2, .int v2)] [.int w2, .int w1, .ref (E.2.2 10)] s0 (T_takesName_99 k55 v1 v2 w1 w2 s0) := by
  unfold T_takesName_99
  refine tw_iast hE (by decide) dX2_takesName_99 (n := 100) rfl (fun s13 => ?_)
  refine tw_iinc 2 (fun x14 => [(2, .int x14), (0, .ref E.2.1), (1, .int v1)]) dX2_takesName_100 rfl rfl (by decide) (fun _ => rfl) (n := 103) rfl (fun x14 => ?_)
  refine x_goto dX2_takesName_103 (n := 55) (by decide) ?_
  refine x_sub [1, 2, 0] [(0, .ref E.2.1), (1, .int v1), (2, .int x14)] rfl ?_
  exact hk55 v1 x14 s13
theorem T_takesName_55F_ok {G : xG} {E : TE} (hO : xOK G) (hE : tok E)   {k55 : Int32 × Int32 × TS → Option (xO × TS)} (hk55 : ∀ (v1 : Int32) (v2 : Int32) (s0 : TS), XT G E "ForestLegsModel" "takesName" cX2_takesName 3 (Option.some Jvm.ClassFile.FieldType.boolean) 6 55 [(0, .ref E.2.1), (1, .int v1), (2, .int v2)] [] s0 (k55 (v1, v2, s0))) (v1 : Int32) (v2 : Int32) (s0 : TS) : XT G E "ForestLegsModel" "takesName" cX2_takesName 3 (Option.some Jvm.ClassFile.FieldType.boolean) 6 55 [(0, .ref E.2.1), (1, .int v1), (2, .int v2)] [] s0 (T_takesName_55F k55 (v1, v2, s0)) := by
  unfold T_takesName_55F
  refine x_iload_n 2 dX2_takesName_55 rfl rfl (n := 56) rfl ?_
  refine x_bipush 6 dX2_takesName_56 rfl (n := 58) rfl ?_
  refine tw_icmp_ge dX2_takesName_58 (t := 106) (by decide) (n := 61) rfl ?_ ?_
  · refine x_aload_nr 0 dX2_takesName_106 rfl rfl (n := 107) rfl ?_
    refine tw_callV_V [] [] (T_goesOn_ok hO hE s0 ) md_X2_goesOn q3030 q3032 qs65 dX2_takesName_107 rfl rfl (by decide) (Nat.le_of_ble_eq_true rfl) (n := 110) rfl (fun s12 => ?_)
    refine x_iconst 1 dX2_takesName_110 rfl (n := 111) rfl ?_
    exact tw_zreturn rfl dX2_takesName_111
  · refine x_aload_nr 0 dX2_takesName_61 rfl rfl (n := 62) rfl ?_
    refine tw_getA fl_X2_26 rfl (by decide) dX2_takesName_62 (n := 65) rfl ?_
    refine x_bipush 6 dX2_takesName_65 rfl (n := 67) rfl ?_
    refine x_iload_n 1 dX2_takesName_67 rfl rfl (n := 68) rfl ?_
    refine x_imul dX2_takesName_68 (n := 69) rfl ?_
    refine x_iload_n 2 dX2_takesName_69 rfl rfl (n := 70) rfl ?_
    refine x_iadd dX2_takesName_70 (n := 71) rfl ?_
    refine x_aload_nr 0 dX2_takesName_71 rfl rfl (n := 72) rfl ?_
    refine tw_getI fl_X2_73 rfl (by decide) dX2_takesName_72 (n := 75) rfl ?_
    refine x_iload_n 2 dX2_takesName_75 rfl rfl (n := 76) rfl ?_
    refine x_iadd dX2_takesName_76 (n := 77) rfl ?_
    refine x_aload_nr 0 dX2_takesName_77 rfl rfl (n := 78) rfl ?_
    refine tw_getI fl_X2_66 rfl (by decide) dX2_takesName_78 (n := 81) rfl ?_
    refine tw_icmp_ge dX2_takesName_81 (t := 98) (by decide) (n := 84) rfl ?_ ?_
    · refine x_iconst 0 dX2_takesName_98 rfl (n := 99) rfl ?_
      exact T_takesName_99_ok hO hE hk55 v1 v2 ((6 * v1) + v2) 0 s0
    · refine x_aload_nr 0 dX2_takesName_84 rfl rfl (n := 85) rfl ?_
      refine tw_getA fl_X2_13 rfl (by decide) dX2_takesName_85 (n := 88) rfl ?_
      refine x_aload_nr 0 dX2_takesName_88 rfl rfl (n := 89) rfl ?_
      refine tw_getI fl_X2_73 rfl (by decide) dX2_takesName_89 (n := 92) rfl ?_
      refine x_iload_n 2 dX2_takesName_92 rfl rfl (n := 93) rfl ?_
      refine x_iadd dX2_takesName_93 (n := 94) rfl ?_
      refine tw_iald hE (by decide) dX2_takesName_94 (n := 95) rfl (fun x15 => ?_)
      refine x_goto dX2_takesName_95 (n := 99) (by decide) ?_
      exact T_takesName_99_ok hO hE hk55 v1 v2 ((6 * v1) + v2) x15 s0
theorem T_takesName_55_lp {G : xG} {E : TE} (hO : xOK G) (hE : tok E)   (n : Nat) (v1 : Int32) (v2 : Int32) (s0 : TS) : XT G E "ForestLegsModel" "takesName" cX2_takesName 3 (Option.some Jvm.ClassFile.FieldType.boolean) 6 55 [(0, .ref E.2.1), (1, .int v1), (2, .int v2)] [] s0 (lp (T_takesName_55F) n (v1, v2, s0)) :=
  lp_ok (W := fun p K => XT G E "ForestLegsModel" "takesName" cX2_takesName 3 (Option.some Jvm.ClassFile.FieldType.boolean) 6 55 [(0, .ref E.2.1), (1, .int p.1), (2, .int p.2.1)] [] p.2.2 K) (fun _ => tw_no) (fun k hk => fun (v1, v2, s0) => T_takesName_55F_ok hO hE (fun v1 v2 s0 => hk (v1, v2, s0)) v1 v2 s0) n (v1, v2, s0)
theorem T_takesName_ok {G : xG} {E : TE} (hO : xOK G) (hE : tok E) (s0 : TS) (a1 : Int32) : CTT G E 6 yX2_takesName cX2_takesName 3 (Option.some Jvm.ClassFile.FieldType.boolean) [.ref E.2.1, .int a1] s0 (T_takesName s0 a1) := by
  refine CT_of hO (by decide +kernel) (by decide +kernel) (Nat.le_of_ble_eq_true rfl) ?_
  show XT G E "ForestLegsModel" "takesName" cX2_takesName 3 (Option.some Jvm.ClassFile.FieldType.boolean) 6 0 [(0, .ref E.2.1), (1, .int a1)] [] s0 (T_takesName s0 a1)
  refine x_aload_nr 0 dX2_takesName_0 rfl rfl (n := 1) rfl ?_
  refine tw_callV_V [] [] (T_goesOn_ok hO hE s0 ) md_X2_goesOn q3030 q3032 qs65 dX2_takesName_1 rfl rfl (by decide) (Nat.le_of_ble_eq_true rfl) (n := 4) rfl (fun s1 => ?_)
  refine x_aload_nr 0 dX2_takesName_4 rfl rfl (n := 5) rfl ?_
  refine tw_callV_I [] [] (T_isName_ok hO hE s1 ) md_X2_isName q3071 q3073 qs72 dX2_takesName_5 rfl rfl (by decide) (Nat.le_of_ble_eq_true rfl) (n := 8) rfl (fun x3 s2 => ?_)
  refine tw_if_ne dX2_takesName_8 (t := 17) (by decide) (n := 11) rfl ?_ ?_
  · refine x_aload_nr 0 dX2_takesName_17 rfl rfl (n := 18) rfl ?_
    refine x_iconst 0 dX2_takesName_18 rfl (n := 19) rfl ?_
    refine x_aload_nr 0 dX2_takesName_19 rfl rfl (n := 20) rfl ?_
    refine tw_getA fl_X2_20 rfl (by decide) dX2_takesName_20 (n := 23) rfl ?_
    refine x_iconst 0 dX2_takesName_23 rfl (n := 24) rfl ?_
    refine tw_iald hE (by decide) dX2_takesName_24 (n := 25) rfl (fun x4 => ?_)
    refine tw_callV_I [.int 0, .int x4] [] (T_namedHere_ok hO hE s2 0 x4) md_X2_namedHere q3078 q3080 qs73 dX2_takesName_25 rfl rfl (by decide) (Nat.le_of_ble_eq_true rfl) (n := 28) rfl (fun x6 s5 => ?_)
    refine x_iconst (-1) dX2_takesName_28 rfl (n := 29) rfl ?_
    refine tw_icmp_ne dX2_takesName_29 (t := 47) (by decide) (n := 32) rfl ?_ ?_
    · refine x_sub [0] [(0, .ref E.2.1)] rfl ?_
      exact T_takesName_47_ok hO hE  s5
    · refine x_aload_nr 0 dX2_takesName_32 rfl rfl (n := 33) rfl ?_
      refine x_iconst 3 dX2_takesName_33 rfl (n := 34) rfl ?_
      refine x_aload_nr 0 dX2_takesName_34 rfl rfl (n := 35) rfl ?_
      refine tw_getA fl_X2_20 rfl (by decide) dX2_takesName_35 (n := 38) rfl ?_
      refine x_iconst 1 dX2_takesName_38 rfl (n := 39) rfl ?_
      refine tw_iald hE (by decide) dX2_takesName_39 (n := 40) rfl (fun x9 => ?_)
      refine tw_callV_I [.int 3, .int x9] [] (T_namedHere_ok hO hE s5 3 x9) md_X2_namedHere q3078 q3080 qs73 dX2_takesName_40 rfl rfl (by decide) (Nat.le_of_ble_eq_true rfl) (n := 43) rfl (fun x11 s10 => ?_)
      refine x_iconst (-1) dX2_takesName_43 rfl (n := 44) rfl ?_
      refine tw_icmp_eq dX2_takesName_44 (t := 53) (by decide) (n := 47) rfl ?_ ?_
      · refine x_iconst 0 dX2_takesName_53 rfl (n := 54) rfl ?_
        refine x_istore_n [(2, .int 0), (0, .ref E.2.1), (1, .int a1)] dX2_takesName_54 rfl (by decide) rfl (n := 55) rfl ?_
        refine x_sub [1, 2, 0] [(0, .ref E.2.1), (1, .int a1), (2, .int 0)] rfl ?_
        exact T_takesName_55_lp hO hE FU a1 0 s10
      · refine x_sub [0] [(0, .ref E.2.1)] rfl ?_
        exact T_takesName_47_ok hO hE  s10
  · refine x_aload_nr 0 dX2_takesName_11 rfl rfl (n := 12) rfl ?_
    refine x_iconst 1 dX2_takesName_12 rfl (n := 13) rfl ?_
    refine tw_callV_I [.int 1] [] (T_errs_ok hO hE s2 1) md_X2_errs q3063 q3065 qs70 dX2_takesName_13 rfl rfl (by decide) (Nat.le_of_ble_eq_true rfl) (n := 16) rfl (fun x17 s16 => ?_)
    exact tw_zreturn rfl dX2_takesName_16
abbrev cX2_readCourse : ByteArray := prog_14_method_19_code
def yX2_readCourse : MethodName := ⟨RX2, "readCourse", "()Z"⟩
def dkwX2_readCourse_7 : List UInt8 := [7, 27, 96, 28, 79, 42, 180, 0, 20, 3, 92, 46, 4, 96, 79, 4, 172]
abbrev dktX2_readCourse_7 : List UInt8 := dkwX2_readCourse_7 ++ []
def dkwX2_readCourse_6 : List UInt8 := [160, 0, 7, 4, 167, 0, 4, 3, 62, 29, 153, 255, 139, 42, 182, 0, 118, 167, 255, 132, 42, 180, 0, 20]
abbrev dktX2_readCourse_6 : List UInt8 := dkwX2_readCourse_6 ++ dktX2_readCourse_7
def dkwX2_readCourse_5 : List UInt8 := [27, 104, 96, 28, 96, 42, 180, 0, 83, 79, 132, 2, 1, 42, 182, 0, 118, 42, 180, 0, 76, 16, 44]
abbrev dktX2_readCourse_5 : List UInt8 := dkwX2_readCourse_5 ++ dktX2_readCourse_6
def dkwX2_readCourse_4 : List UInt8 := [182, 0, 125, 172, 28, 16, 10, 160, 0, 9, 42, 7, 182, 0, 125, 172, 42, 180, 0, 20, 16, 7, 16, 10]
abbrev dktX2_readCourse_4 : List UInt8 := dkwX2_readCourse_4 ++ dktX2_readCourse_5
def dkwX2_readCourse_3 : List UInt8 := [180, 0, 83, 42, 180, 0, 20, 16, 7, 16, 10, 27, 104, 96, 28, 96, 4, 100, 46, 160, 0, 9, 42, 5]
abbrev dktX2_readCourse_3 : List UInt8 := dkwX2_readCourse_3 ++ dktX2_readCourse_4
def dkwX2_readCourse_2 : List UInt8 := [182, 0, 125, 172, 42, 180, 0, 83, 4, 16, 99, 184, 0, 79, 153, 0, 30, 28, 158, 0, 32, 42]
abbrev dktX2_readCourse_2 : List UInt8 := dkwX2_readCourse_2 ++ dktX2_readCourse_3
def dkwX2_readCourse_1 : List UInt8 := [154, 0, 5, 3, 172, 3, 61, 4, 62, 29, 153, 0, 126, 42, 180, 0, 76, 6, 159, 0, 9, 42, 4]
abbrev dktX2_readCourse_1 : List UInt8 := dkwX2_readCourse_1 ++ dktX2_readCourse_2
def dkwX2_readCourse_0 : List UInt8 := [42, 180, 0, 20, 3, 46, 60, 27, 6, 160, 0, 9, 42, 7, 182, 0, 125, 172, 42, 27, 182, 0, 133]
abbrev dktX2_readCourse_0 : List UInt8 := dkwX2_readCourse_0 ++ dktX2_readCourse_1
theorem dksX2_readCourse_0 : cX2_readCourse.data.toList.drop 0 = dktX2_readCourse_0 := by decide +kernel
theorem dksX2_readCourse_1 : cX2_readCourse.data.toList.drop 23 = dktX2_readCourse_1 := dk_seg dksX2_readCourse_0 23 rfl rfl
theorem dksX2_readCourse_2 : cX2_readCourse.data.toList.drop 46 = dktX2_readCourse_2 := dk_seg dksX2_readCourse_1 23 rfl rfl
theorem dksX2_readCourse_3 : cX2_readCourse.data.toList.drop 68 = dktX2_readCourse_3 := dk_seg dksX2_readCourse_2 22 rfl rfl
theorem dksX2_readCourse_4 : cX2_readCourse.data.toList.drop 92 = dktX2_readCourse_4 := dk_seg dksX2_readCourse_3 24 rfl rfl
theorem dksX2_readCourse_5 : cX2_readCourse.data.toList.drop 116 = dktX2_readCourse_5 := dk_seg dksX2_readCourse_4 24 rfl rfl
theorem dksX2_readCourse_6 : cX2_readCourse.data.toList.drop 139 = dktX2_readCourse_6 := dk_seg dksX2_readCourse_5 23 rfl rfl
theorem dksX2_readCourse_7 : cX2_readCourse.data.toList.drop 163 = dktX2_readCourse_7 := dk_seg dksX2_readCourse_6 24 rfl rfl
theorem dX2_readCourse_0 : decode cX2_readCourse 0 = .ok (.aload_n 0, 1) := dk_42 (dk_at dksX2_readCourse_0 0 rfl rfl)
theorem dX2_readCourse_1 : decode cX2_readCourse 1 = .ok (.getfield 20, 3) := dk_180 0 20 (dk_at dksX2_readCourse_0 1 rfl rfl)
theorem dX2_readCourse_4 : decode cX2_readCourse 4 = .ok (.iconst 0, 1) := dk_3 (dk_at dksX2_readCourse_0 4 rfl rfl)
theorem dX2_readCourse_5 : decode cX2_readCourse 5 = .ok (.iaload, 1) := dk_46 (dk_at dksX2_readCourse_0 5 rfl rfl)
theorem dX2_readCourse_6 : decode cX2_readCourse 6 = .ok (.istore_n 1, 1) := dk_60 (dk_at dksX2_readCourse_0 6 rfl rfl)
theorem dX2_readCourse_7 : decode cX2_readCourse 7 = .ok (.iload_n 1, 1) := dk_27 (dk_at dksX2_readCourse_0 7 rfl rfl)
theorem dX2_readCourse_8 : decode cX2_readCourse 8 = .ok (.iconst 3, 1) := dk_6 (dk_at dksX2_readCourse_0 8 rfl rfl)
theorem dX2_readCourse_9 : decode cX2_readCourse 9 = .ok (.if_icmp .ne 9, 3) := dk_160 0 9 (dk_at dksX2_readCourse_0 9 rfl rfl)
theorem dX2_readCourse_12 : decode cX2_readCourse 12 = .ok (.aload_n 0, 1) := dk_42 (dk_at dksX2_readCourse_0 12 rfl rfl)
theorem dX2_readCourse_13 : decode cX2_readCourse 13 = .ok (.iconst 4, 1) := dk_7 (dk_at dksX2_readCourse_0 13 rfl rfl)
theorem dX2_readCourse_14 : decode cX2_readCourse 14 = .ok (.invokevirtual 125, 3) := dk_182 0 125 (dk_at dksX2_readCourse_0 14 rfl rfl)
theorem dX2_readCourse_17 : decode cX2_readCourse 17 = .ok (.ireturn, 1) := dk_172 (dk_at dksX2_readCourse_0 17 rfl rfl)
theorem dX2_readCourse_18 : decode cX2_readCourse 18 = .ok (.aload_n 0, 1) := dk_42 (dk_at dksX2_readCourse_0 18 rfl rfl)
theorem dX2_readCourse_19 : decode cX2_readCourse 19 = .ok (.iload_n 1, 1) := dk_27 (dk_at dksX2_readCourse_0 19 rfl rfl)
theorem dX2_readCourse_20 : decode cX2_readCourse 20 = .ok (.invokevirtual 133, 3) := dk_182 0 133 (dk_at dksX2_readCourse_0 20 rfl rfl)
theorem dX2_readCourse_23 : decode cX2_readCourse 23 = .ok (.ifCond .ne 5, 3) := dk_154 0 5 (dk_at dksX2_readCourse_1 0 rfl rfl)
theorem dX2_readCourse_26 : decode cX2_readCourse 26 = .ok (.iconst 0, 1) := dk_3 (dk_at dksX2_readCourse_1 3 rfl rfl)
theorem dX2_readCourse_27 : decode cX2_readCourse 27 = .ok (.ireturn, 1) := dk_172 (dk_at dksX2_readCourse_1 4 rfl rfl)
theorem dX2_readCourse_28 : decode cX2_readCourse 28 = .ok (.iconst 0, 1) := dk_3 (dk_at dksX2_readCourse_1 5 rfl rfl)
theorem dX2_readCourse_29 : decode cX2_readCourse 29 = .ok (.istore_n 2, 1) := dk_61 (dk_at dksX2_readCourse_1 6 rfl rfl)
theorem dX2_readCourse_30 : decode cX2_readCourse 30 = .ok (.iconst 1, 1) := dk_4 (dk_at dksX2_readCourse_1 7 rfl rfl)
theorem dX2_readCourse_31 : decode cX2_readCourse 31 = .ok (.istore_n 3, 1) := dk_62 (dk_at dksX2_readCourse_1 8 rfl rfl)
theorem dX2_readCourse_32 : decode cX2_readCourse 32 = .ok (.iload_n 3, 1) := dk_29 (dk_at dksX2_readCourse_1 9 rfl rfl)
theorem dX2_readCourse_33 : decode cX2_readCourse 33 = .ok (.ifCond .eq 126, 3) := dk_153 0 126 (dk_at dksX2_readCourse_1 10 rfl rfl)
theorem dX2_readCourse_36 : decode cX2_readCourse 36 = .ok (.aload_n 0, 1) := dk_42 (dk_at dksX2_readCourse_1 13 rfl rfl)
theorem dX2_readCourse_37 : decode cX2_readCourse 37 = .ok (.getfield 76, 3) := dk_180 0 76 (dk_at dksX2_readCourse_1 14 rfl rfl)
theorem dX2_readCourse_40 : decode cX2_readCourse 40 = .ok (.iconst 3, 1) := dk_6 (dk_at dksX2_readCourse_1 17 rfl rfl)
theorem dX2_readCourse_41 : decode cX2_readCourse 41 = .ok (.if_icmp .eq 9, 3) := dk_159 0 9 (dk_at dksX2_readCourse_1 18 rfl rfl)
theorem dX2_readCourse_44 : decode cX2_readCourse 44 = .ok (.aload_n 0, 1) := dk_42 (dk_at dksX2_readCourse_1 21 rfl rfl)
theorem dX2_readCourse_45 : decode cX2_readCourse 45 = .ok (.iconst 1, 1) := dk_4 (dk_at dksX2_readCourse_1 22 rfl rfl)
theorem dX2_readCourse_46 : decode cX2_readCourse 46 = .ok (.invokevirtual 125, 3) := dk_182 0 125 (dk_at dksX2_readCourse_2 0 rfl rfl)
theorem dX2_readCourse_49 : decode cX2_readCourse 49 = .ok (.ireturn, 1) := dk_172 (dk_at dksX2_readCourse_2 3 rfl rfl)
theorem dX2_readCourse_50 : decode cX2_readCourse 50 = .ok (.aload_n 0, 1) := dk_42 (dk_at dksX2_readCourse_2 4 rfl rfl)
theorem dX2_readCourse_51 : decode cX2_readCourse 51 = .ok (.getfield 83, 3) := dk_180 0 83 (dk_at dksX2_readCourse_2 5 rfl rfl)
theorem dX2_readCourse_54 : decode cX2_readCourse 54 = .ok (.iconst 1, 1) := dk_4 (dk_at dksX2_readCourse_2 8 rfl rfl)
theorem dX2_readCourse_55 : decode cX2_readCourse 55 = .ok (.bipush 99, 2) := dk_16 99 (dk_at dksX2_readCourse_2 9 rfl rfl)
theorem dX2_readCourse_57 : decode cX2_readCourse 57 = .ok (.invokestatic 79, 3) := dk_184 0 79 (dk_at dksX2_readCourse_2 11 rfl rfl)
theorem dX2_readCourse_60 : decode cX2_readCourse 60 = .ok (.ifCond .eq 30, 3) := dk_153 0 30 (dk_at dksX2_readCourse_2 14 rfl rfl)
theorem dX2_readCourse_63 : decode cX2_readCourse 63 = .ok (.iload_n 2, 1) := dk_28 (dk_at dksX2_readCourse_2 17 rfl rfl)
theorem dX2_readCourse_64 : decode cX2_readCourse 64 = .ok (.ifCond .le 32, 3) := dk_158 0 32 (dk_at dksX2_readCourse_2 18 rfl rfl)
theorem dX2_readCourse_67 : decode cX2_readCourse 67 = .ok (.aload_n 0, 1) := dk_42 (dk_at dksX2_readCourse_2 21 rfl rfl)
theorem dX2_readCourse_68 : decode cX2_readCourse 68 = .ok (.getfield 83, 3) := dk_180 0 83 (dk_at dksX2_readCourse_3 0 rfl rfl)
theorem dX2_readCourse_71 : decode cX2_readCourse 71 = .ok (.aload_n 0, 1) := dk_42 (dk_at dksX2_readCourse_3 3 rfl rfl)
theorem dX2_readCourse_72 : decode cX2_readCourse 72 = .ok (.getfield 20, 3) := dk_180 0 20 (dk_at dksX2_readCourse_3 4 rfl rfl)
theorem dX2_readCourse_75 : decode cX2_readCourse 75 = .ok (.bipush 7, 2) := dk_16 7 (dk_at dksX2_readCourse_3 7 rfl rfl)
theorem dX2_readCourse_77 : decode cX2_readCourse 77 = .ok (.bipush 10, 2) := dk_16 10 (dk_at dksX2_readCourse_3 9 rfl rfl)
theorem dX2_readCourse_79 : decode cX2_readCourse 79 = .ok (.iload_n 1, 1) := dk_27 (dk_at dksX2_readCourse_3 11 rfl rfl)
theorem dX2_readCourse_80 : decode cX2_readCourse 80 = .ok (.imul, 1) := dk_104 (dk_at dksX2_readCourse_3 12 rfl rfl)
theorem dX2_readCourse_81 : decode cX2_readCourse 81 = .ok (.iadd, 1) := dk_96 (dk_at dksX2_readCourse_3 13 rfl rfl)
theorem dX2_readCourse_82 : decode cX2_readCourse 82 = .ok (.iload_n 2, 1) := dk_28 (dk_at dksX2_readCourse_3 14 rfl rfl)
theorem dX2_readCourse_83 : decode cX2_readCourse 83 = .ok (.iadd, 1) := dk_96 (dk_at dksX2_readCourse_3 15 rfl rfl)
theorem dX2_readCourse_84 : decode cX2_readCourse 84 = .ok (.iconst 1, 1) := dk_4 (dk_at dksX2_readCourse_3 16 rfl rfl)
theorem dX2_readCourse_85 : decode cX2_readCourse 85 = .ok (.isub, 1) := dk_100 (dk_at dksX2_readCourse_3 17 rfl rfl)
theorem dX2_readCourse_86 : decode cX2_readCourse 86 = .ok (.iaload, 1) := dk_46 (dk_at dksX2_readCourse_3 18 rfl rfl)
theorem dX2_readCourse_87 : decode cX2_readCourse 87 = .ok (.if_icmp .ne 9, 3) := dk_160 0 9 (dk_at dksX2_readCourse_3 19 rfl rfl)
theorem dX2_readCourse_90 : decode cX2_readCourse 90 = .ok (.aload_n 0, 1) := dk_42 (dk_at dksX2_readCourse_3 22 rfl rfl)
theorem dX2_readCourse_91 : decode cX2_readCourse 91 = .ok (.iconst 2, 1) := dk_5 (dk_at dksX2_readCourse_3 23 rfl rfl)
theorem dX2_readCourse_92 : decode cX2_readCourse 92 = .ok (.invokevirtual 125, 3) := dk_182 0 125 (dk_at dksX2_readCourse_4 0 rfl rfl)
theorem dX2_readCourse_95 : decode cX2_readCourse 95 = .ok (.ireturn, 1) := dk_172 (dk_at dksX2_readCourse_4 3 rfl rfl)
theorem dX2_readCourse_96 : decode cX2_readCourse 96 = .ok (.iload_n 2, 1) := dk_28 (dk_at dksX2_readCourse_4 4 rfl rfl)
theorem dX2_readCourse_97 : decode cX2_readCourse 97 = .ok (.bipush 10, 2) := dk_16 10 (dk_at dksX2_readCourse_4 5 rfl rfl)
theorem dX2_readCourse_99 : decode cX2_readCourse 99 = .ok (.if_icmp .ne 9, 3) := dk_160 0 9 (dk_at dksX2_readCourse_4 7 rfl rfl)
theorem dX2_readCourse_102 : decode cX2_readCourse 102 = .ok (.aload_n 0, 1) := dk_42 (dk_at dksX2_readCourse_4 10 rfl rfl)
theorem dX2_readCourse_103 : decode cX2_readCourse 103 = .ok (.iconst 4, 1) := dk_7 (dk_at dksX2_readCourse_4 11 rfl rfl)
theorem dX2_readCourse_104 : decode cX2_readCourse 104 = .ok (.invokevirtual 125, 3) := dk_182 0 125 (dk_at dksX2_readCourse_4 12 rfl rfl)
theorem dX2_readCourse_107 : decode cX2_readCourse 107 = .ok (.ireturn, 1) := dk_172 (dk_at dksX2_readCourse_4 15 rfl rfl)
theorem dX2_readCourse_108 : decode cX2_readCourse 108 = .ok (.aload_n 0, 1) := dk_42 (dk_at dksX2_readCourse_4 16 rfl rfl)
theorem dX2_readCourse_109 : decode cX2_readCourse 109 = .ok (.getfield 20, 3) := dk_180 0 20 (dk_at dksX2_readCourse_4 17 rfl rfl)
theorem dX2_readCourse_112 : decode cX2_readCourse 112 = .ok (.bipush 7, 2) := dk_16 7 (dk_at dksX2_readCourse_4 20 rfl rfl)
theorem dX2_readCourse_114 : decode cX2_readCourse 114 = .ok (.bipush 10, 2) := dk_16 10 (dk_at dksX2_readCourse_4 22 rfl rfl)
theorem dX2_readCourse_116 : decode cX2_readCourse 116 = .ok (.iload_n 1, 1) := dk_27 (dk_at dksX2_readCourse_5 0 rfl rfl)
theorem dX2_readCourse_117 : decode cX2_readCourse 117 = .ok (.imul, 1) := dk_104 (dk_at dksX2_readCourse_5 1 rfl rfl)
theorem dX2_readCourse_118 : decode cX2_readCourse 118 = .ok (.iadd, 1) := dk_96 (dk_at dksX2_readCourse_5 2 rfl rfl)
theorem dX2_readCourse_119 : decode cX2_readCourse 119 = .ok (.iload_n 2, 1) := dk_28 (dk_at dksX2_readCourse_5 3 rfl rfl)
theorem dX2_readCourse_120 : decode cX2_readCourse 120 = .ok (.iadd, 1) := dk_96 (dk_at dksX2_readCourse_5 4 rfl rfl)
theorem dX2_readCourse_121 : decode cX2_readCourse 121 = .ok (.aload_n 0, 1) := dk_42 (dk_at dksX2_readCourse_5 5 rfl rfl)
theorem dX2_readCourse_122 : decode cX2_readCourse 122 = .ok (.getfield 83, 3) := dk_180 0 83 (dk_at dksX2_readCourse_5 6 rfl rfl)
theorem dX2_readCourse_125 : decode cX2_readCourse 125 = .ok (.iastore, 1) := dk_79 (dk_at dksX2_readCourse_5 9 rfl rfl)
theorem dX2_readCourse_126 : decode cX2_readCourse 126 = .ok (.iinc 2 1, 3) := dk_132 2 1 (dk_at dksX2_readCourse_5 10 rfl rfl)
theorem dX2_readCourse_129 : decode cX2_readCourse 129 = .ok (.aload_n 0, 1) := dk_42 (dk_at dksX2_readCourse_5 13 rfl rfl)
theorem dX2_readCourse_130 : decode cX2_readCourse 130 = .ok (.invokevirtual 118, 3) := dk_182 0 118 (dk_at dksX2_readCourse_5 14 rfl rfl)
theorem dX2_readCourse_133 : decode cX2_readCourse 133 = .ok (.aload_n 0, 1) := dk_42 (dk_at dksX2_readCourse_5 17 rfl rfl)
theorem dX2_readCourse_134 : decode cX2_readCourse 134 = .ok (.getfield 76, 3) := dk_180 0 76 (dk_at dksX2_readCourse_5 18 rfl rfl)
theorem dX2_readCourse_137 : decode cX2_readCourse 137 = .ok (.bipush 44, 2) := dk_16 44 (dk_at dksX2_readCourse_5 21 rfl rfl)
theorem dX2_readCourse_139 : decode cX2_readCourse 139 = .ok (.if_icmp .ne 7, 3) := dk_160 0 7 (dk_at dksX2_readCourse_6 0 rfl rfl)
theorem dX2_readCourse_142 : decode cX2_readCourse 142 = .ok (.iconst 1, 1) := dk_4 (dk_at dksX2_readCourse_6 3 rfl rfl)
theorem dX2_readCourse_143 : decode cX2_readCourse 143 = .ok (.goto 4, 3) := dk_167 0 4 (dk_at dksX2_readCourse_6 4 rfl rfl)
theorem dX2_readCourse_146 : decode cX2_readCourse 146 = .ok (.iconst 0, 1) := dk_3 (dk_at dksX2_readCourse_6 7 rfl rfl)
theorem dX2_readCourse_147 : decode cX2_readCourse 147 = .ok (.istore_n 3, 1) := dk_62 (dk_at dksX2_readCourse_6 8 rfl rfl)
theorem dX2_readCourse_148 : decode cX2_readCourse 148 = .ok (.iload_n 3, 1) := dk_29 (dk_at dksX2_readCourse_6 9 rfl rfl)
theorem dX2_readCourse_149 : decode cX2_readCourse 149 = .ok (.ifCond .eq (-117), 3) := dk_153 255 139 (dk_at dksX2_readCourse_6 10 rfl rfl)
theorem dX2_readCourse_152 : decode cX2_readCourse 152 = .ok (.aload_n 0, 1) := dk_42 (dk_at dksX2_readCourse_6 13 rfl rfl)
theorem dX2_readCourse_153 : decode cX2_readCourse 153 = .ok (.invokevirtual 118, 3) := dk_182 0 118 (dk_at dksX2_readCourse_6 14 rfl rfl)
theorem dX2_readCourse_156 : decode cX2_readCourse 156 = .ok (.goto (-124), 3) := dk_167 255 132 (dk_at dksX2_readCourse_6 17 rfl rfl)
theorem dX2_readCourse_159 : decode cX2_readCourse 159 = .ok (.aload_n 0, 1) := dk_42 (dk_at dksX2_readCourse_6 20 rfl rfl)
theorem dX2_readCourse_160 : decode cX2_readCourse 160 = .ok (.getfield 20, 3) := dk_180 0 20 (dk_at dksX2_readCourse_6 21 rfl rfl)
theorem dX2_readCourse_163 : decode cX2_readCourse 163 = .ok (.iconst 4, 1) := dk_7 (dk_at dksX2_readCourse_7 0 rfl rfl)
theorem dX2_readCourse_164 : decode cX2_readCourse 164 = .ok (.iload_n 1, 1) := dk_27 (dk_at dksX2_readCourse_7 1 rfl rfl)
theorem dX2_readCourse_165 : decode cX2_readCourse 165 = .ok (.iadd, 1) := dk_96 (dk_at dksX2_readCourse_7 2 rfl rfl)
theorem dX2_readCourse_166 : decode cX2_readCourse 166 = .ok (.iload_n 2, 1) := dk_28 (dk_at dksX2_readCourse_7 3 rfl rfl)
theorem dX2_readCourse_167 : decode cX2_readCourse 167 = .ok (.iastore, 1) := dk_79 (dk_at dksX2_readCourse_7 4 rfl rfl)
theorem dX2_readCourse_168 : decode cX2_readCourse 168 = .ok (.aload_n 0, 1) := dk_42 (dk_at dksX2_readCourse_7 5 rfl rfl)
theorem dX2_readCourse_169 : decode cX2_readCourse 169 = .ok (.getfield 20, 3) := dk_180 0 20 (dk_at dksX2_readCourse_7 6 rfl rfl)
theorem dX2_readCourse_172 : decode cX2_readCourse 172 = .ok (.iconst 0, 1) := dk_3 (dk_at dksX2_readCourse_7 9 rfl rfl)
theorem dX2_readCourse_173 : decode cX2_readCourse 173 = .ok (.dup2, 1) := dk_92 (dk_at dksX2_readCourse_7 10 rfl rfl)
theorem dX2_readCourse_174 : decode cX2_readCourse 174 = .ok (.iaload, 1) := dk_46 (dk_at dksX2_readCourse_7 11 rfl rfl)
theorem dX2_readCourse_175 : decode cX2_readCourse 175 = .ok (.iconst 1, 1) := dk_4 (dk_at dksX2_readCourse_7 12 rfl rfl)
theorem dX2_readCourse_176 : decode cX2_readCourse 176 = .ok (.iadd, 1) := dk_96 (dk_at dksX2_readCourse_7 13 rfl rfl)
theorem dX2_readCourse_177 : decode cX2_readCourse 177 = .ok (.iastore, 1) := dk_79 (dk_at dksX2_readCourse_7 14 rfl rfl)
theorem dX2_readCourse_178 : decode cX2_readCourse 178 = .ok (.iconst 1, 1) := dk_4 (dk_at dksX2_readCourse_7 15 rfl rfl)
theorem dX2_readCourse_179 : decode cX2_readCourse 179 = .ok (.ireturn, 1) := dk_172 (dk_at dksX2_readCourse_7 16 rfl rfl)
theorem md_X2_readCourse : xMd yX2_readCourse cX2_readCourse 4 (Option.some Jvm.ClassFile.FieldType.boolean) 0 := ⟨q3062, q126, by decide, by decide +kernel, by decide +kernel, by decide +kernel⟩
def T_readCourse_90    (s0 : TS) : Option (xO × TS) :=
  (xcI (T_errs s0 2) fun x10 s9 =>
  (if vp_nar .boolean x10 = x10 then rI x10 s9 else none))
def T_readCourse_147  (k32 : Int32 × Int32 × Int32 × TS → Option (xO × TS)) (v1 : Int32) (v2 : Int32) (w0 : Int32) (s0 : TS) : Option (xO × TS) :=
  (if w0 = 0 then
  (k32 (v1, v2, w0, s0)) else
  (xcV (T_goesOn s0 ) fun s14 =>
  (k32 (v1, v2, w0, s14))))
def T_readCourse_96  (k32 : Int32 × Int32 × Int32 × TS → Option (xO × TS)) (v1 : Int32) (v2 : Int32) (s0 : TS) : Option (xO × TS) :=
  (if v2 = 10 then
  (xcI (T_errs s0 4) fun x16 s15 =>
  (if vp_nar .boolean x16 = x16 then rI x16 s15 else none)) else
  (tast s0 8 ((7 + (10 * v1)) + v2) (s0.1 15) fun s11 =>
  (bnd (v2 + 1) fun x12 =>
  (xcV (T_goesOn s11 ) fun s13 =>
  (if (s13.1 14) = 44 then
  (T_readCourse_147 k32 v1 x12 1 s13) else
  (T_readCourse_147 k32 v1 x12 0 s13))))))
def T_readCourse_32F   (k32 : Int32 × Int32 × Int32 × TS → Option (xO × TS)) (p : Int32 × Int32 × Int32 × TS) : Option (xO × TS) := match p with
  | (v1, v2, v3, s0) => (if v3 = 0 then
  (tast s0 8 (4 + v1) v2 fun s4 =>
  (tald s4 8 0 fun x5 =>
  (tast s4 8 0 (x5 + 1) fun s6 =>
  (if vp_nar .boolean 1 = 1 then rI 1 s6 else none)))) else
  (if (s0.1 14) = 3 then
  (xcI (T_in s0 (s0.1 15) 1 99) fun x8 s7 =>
  (if x8 = 0 then
  (T_readCourse_90  s7) else
  (if v2 ≤ 0 then
  (T_readCourse_96 k32 v1 v2 s7) else
  (tald s7 8 (((7 + (10 * v1)) + v2) - 1) fun x17 =>
  (if (s7.1 15) = x17 then
  (T_readCourse_90  s7) else
  (T_readCourse_96 k32 v1 v2 s7)))))) else
  (xcI (T_errs s0 1) fun x19 s18 =>
  (if vp_nar .boolean x19 = x19 then rI x19 s18 else none))))
def T_readCourse (s0 : TS)  : Option (xO × TS) :=
  (tald s0 8 0 fun x1 =>
  (if x1 = 3 then
  (xcI (T_errs s0 4) fun x21 s20 =>
  (if vp_nar .boolean x21 = x21 then rI x21 s20 else none)) else
  (xcI (T_takesName s0 x1) fun x3 s2 =>
  (if x3 = 0 then
  (if vp_nar .boolean 0 = 0 then rI 0 s2 else none) else
  (lp (T_readCourse_32F) FU (x1, 0, 1, s2))))))
theorem T_readCourse_90_ok {G : xG} {E : TE} (hO : xOK G) (hE : tok E)    (s0 : TS) : XT G E "ForestLegsModel" "readCourse" cX2_readCourse 4 (Option.some Jvm.ClassFile.FieldType.boolean) 7 90 [(0, .ref E.2.1)] [] s0 (T_readCourse_90  s0) := by
  unfold T_readCourse_90
  refine x_aload_nr 0 dX2_readCourse_90 rfl rfl (n := 91) rfl ?_
  refine x_iconst 2 dX2_readCourse_91 rfl (n := 92) rfl ?_
  refine tw_callV_I [.int 2] [] (T_errs_ok hO hE s0 2) md_X2_errs q3063 q3065 qs70 dX2_readCourse_92 rfl rfl (by decide) (Nat.le_of_ble_eq_true rfl) (n := 95) rfl (fun x10 s9 => ?_)
  exact tw_zreturn rfl dX2_readCourse_95
theorem T_readCourse_147_ok {G : xG} {E : TE} (hO : xOK G) (hE : tok E)  {k32 : Int32 × Int32 × Int32 × TS → Option (xO × TS)} (hk32 : ∀ (v1 : Int32) (v2 : Int32) (v3 : Int32) (s0 : TS), XT G E "ForestLegsModel" "readCourse" cX2_readCourse 4 (Option.some Jvm.ClassFile.FieldType.boolean) 7 32 [(0, .ref E.2.1), (1, .int v1), (2, .int v2), (3, .int v3)] [] s0 (k32 (v1, v2, v3, s0))) (v1 : Int32) (v2 : Int32) (w0 : Int32) (s0 : TS) : XT G E "ForestLegsModel" "readCourse" cX2_readCourse 4 (Option.some Jvm.ClassFile.FieldType.boolean) 7 147 [(0, .ref E.2.1), (1, .int v1), (2, .int v2)] [.int w0] s0 (T_readCourse_147 k32 v1 v2 w0 s0) := by
  unfold T_readCourse_147
  refine x_istore_n [(3, .int w0), (0, .ref E.2.1), (1, .int v1), (2, .int v2)] dX2_readCourse_147 rfl (by decide) rfl (n := 148) rfl ?_
  refine x_iload_n 0 dX2_readCourse_148 rfl rfl (n := 149) rfl ?_
  refine tw_if_eq dX2_readCourse_149 (t := 32) (by decide) (n := 152) rfl ?_ ?_
  · refine x_sub [1, 2, 3, 0] [(0, .ref E.2.1), (1, .int v1), (2, .int v2), (3, .int w0)] rfl ?_
    exact hk32 v1 v2 w0 s0
  · refine x_aload_nr 1 dX2_readCourse_152 rfl rfl (n := 153) rfl ?_
    refine tw_callV_V [] [] (T_goesOn_ok hO hE s0 ) md_X2_goesOn q3030 q3032 qs65 dX2_readCourse_153 rfl rfl (by decide) (Nat.le_of_ble_eq_true rfl) (n := 156) rfl (fun s14 => ?_)
    refine x_goto dX2_readCourse_156 (n := 32) (by decide) ?_
    refine x_sub [1, 2, 3, 0] [(0, .ref E.2.1), (1, .int v1), (2, .int v2), (3, .int w0)] rfl ?_
    exact hk32 v1 v2 w0 s14
theorem T_readCourse_96_ok {G : xG} {E : TE} (hO : xOK G) (hE : tok E)  {k32 : Int32 × Int32 × Int32 × TS → Option (xO × TS)} (hk32 : ∀ (v1 : Int32) (v2 : Int32) (v3 : Int32) (s0 : TS), XT G E "ForestLegsModel" "readCourse" cX2_readCourse 4 (Option.some Jvm.ClassFile.FieldType.boolean) 7 32 [(0, .ref E.2.1), (1, .int v1), (2, .int v2), (3, .int v3)] [] s0 (k32 (v1, v2, v3, s0))) (v1 : Int32) (v2 : Int32) (s0 : TS) : XT G E "ForestLegsModel" "readCourse" cX2_readCourse 4 (Option.some Jvm.ClassFile.FieldType.boolean) 7 96 [(0, .ref E.2.1), (1, .int v1), (2, .int v2)] [] s0 (T_readCourse_96 k32 v1 v2 s0) := by
  unfold T_readCourse_96
  refine x_iload_n 2 dX2_readCourse_96 rfl rfl (n := 97) rfl ?_
  refine x_bipush 10 dX2_readCourse_97 rfl (n := 99) rfl ?_
  refine tw_icmp_ne dX2_readCourse_99 (t := 108) (by decide) (n := 102) rfl ?_ ?_
  · refine x_aload_nr 0 dX2_readCourse_108 rfl rfl (n := 109) rfl ?_
    refine tw_getA fl_X2_20 rfl (by decide) dX2_readCourse_109 (n := 112) rfl ?_
    refine x_bipush 7 dX2_readCourse_112 rfl (n := 114) rfl ?_
    refine x_bipush 10 dX2_readCourse_114 rfl (n := 116) rfl ?_
    refine x_iload_n 1 dX2_readCourse_116 rfl rfl (n := 117) rfl ?_
    refine x_imul dX2_readCourse_117 (n := 118) rfl ?_
    refine x_iadd dX2_readCourse_118 (n := 119) rfl ?_
    refine x_iload_n 2 dX2_readCourse_119 rfl rfl (n := 120) rfl ?_
    refine x_iadd dX2_readCourse_120 (n := 121) rfl ?_
    refine x_aload_nr 0 dX2_readCourse_121 rfl rfl (n := 122) rfl ?_
    refine tw_getI fl_X2_83 rfl (by decide) dX2_readCourse_122 (n := 125) rfl ?_
    refine tw_iast hE (by decide) dX2_readCourse_125 (n := 126) rfl (fun s11 => ?_)
    refine tw_iinc 2 (fun x12 => [(2, .int x12), (0, .ref E.2.1), (1, .int v1)]) dX2_readCourse_126 rfl rfl (by decide) (fun _ => rfl) (n := 129) rfl (fun x12 => ?_)
    refine x_aload_nr 1 dX2_readCourse_129 rfl rfl (n := 130) rfl ?_
    refine tw_callV_V [] [] (T_goesOn_ok hO hE s11 ) md_X2_goesOn q3030 q3032 qs65 dX2_readCourse_130 rfl rfl (by decide) (Nat.le_of_ble_eq_true rfl) (n := 133) rfl (fun s13 => ?_)
    refine x_aload_nr 1 dX2_readCourse_133 rfl rfl (n := 134) rfl ?_
    refine tw_getI fl_X2_76 rfl (by decide) dX2_readCourse_134 (n := 137) rfl ?_
    refine x_bipush 44 dX2_readCourse_137 rfl (n := 139) rfl ?_
    refine tw_icmp_ne dX2_readCourse_139 (t := 146) (by decide) (n := 142) rfl ?_ ?_
    · refine x_iconst 0 dX2_readCourse_146 rfl (n := 147) rfl ?_
      refine x_sub [1, 2, 0] [(0, .ref E.2.1), (1, .int v1), (2, .int x12)] rfl ?_
      exact T_readCourse_147_ok hO hE hk32 v1 x12 0 s13
    · refine x_iconst 1 dX2_readCourse_142 rfl (n := 143) rfl ?_
      refine x_goto dX2_readCourse_143 (n := 147) (by decide) ?_
      refine x_sub [1, 2, 0] [(0, .ref E.2.1), (1, .int v1), (2, .int x12)] rfl ?_
      exact T_readCourse_147_ok hO hE hk32 v1 x12 1 s13
  · refine x_aload_nr 0 dX2_readCourse_102 rfl rfl (n := 103) rfl ?_
    refine x_iconst 4 dX2_readCourse_103 rfl (n := 104) rfl ?_
    refine tw_callV_I [.int 4] [] (T_errs_ok hO hE s0 4) md_X2_errs q3063 q3065 qs70 dX2_readCourse_104 rfl rfl (by decide) (Nat.le_of_ble_eq_true rfl) (n := 107) rfl (fun x16 s15 => ?_)
    exact tw_zreturn rfl dX2_readCourse_107
theorem T_readCourse_32F_ok {G : xG} {E : TE} (hO : xOK G) (hE : tok E)   {k32 : Int32 × Int32 × Int32 × TS → Option (xO × TS)} (hk32 : ∀ (v1 : Int32) (v2 : Int32) (v3 : Int32) (s0 : TS), XT G E "ForestLegsModel" "readCourse" cX2_readCourse 4 (Option.some Jvm.ClassFile.FieldType.boolean) 7 32 [(0, .ref E.2.1), (1, .int v1), (2, .int v2), (3, .int v3)] [] s0 (k32 (v1, v2, v3, s0))) (v1 : Int32) (v2 : Int32) (v3 : Int32) (s0 : TS) : XT G E "ForestLegsModel" "readCourse" cX2_readCourse 4 (Option.some Jvm.ClassFile.FieldType.boolean) 7 32 [(0, .ref E.2.1), (1, .int v1), (2, .int v2), (3, .int v3)] [] s0 (T_readCourse_32F k32 (v1, v2, v3, s0)) := by
  unfold T_readCourse_32F
  refine x_iload_n 3 dX2_readCourse_32 rfl rfl (n := 33) rfl ?_
  refine tw_if_eq dX2_readCourse_33 (t := 159) (by decide) (n := 36) rfl ?_ ?_
  · refine x_aload_nr 0 dX2_readCourse_159 rfl rfl (n := 160) rfl ?_
    refine tw_getA fl_X2_20 rfl (by decide) dX2_readCourse_160 (n := 163) rfl ?_
    refine x_iconst 4 dX2_readCourse_163 rfl (n := 164) rfl ?_
    refine x_iload_n 1 dX2_readCourse_164 rfl rfl (n := 165) rfl ?_
    refine x_iadd dX2_readCourse_165 (n := 166) rfl ?_
    refine x_iload_n 2 dX2_readCourse_166 rfl rfl (n := 167) rfl ?_
    refine tw_iast hE (by decide) dX2_readCourse_167 (n := 168) rfl (fun s4 => ?_)
    refine x_aload_nr 0 dX2_readCourse_168 rfl rfl (n := 169) rfl ?_
    refine tw_getA fl_X2_20 rfl (by decide) dX2_readCourse_169 (n := 172) rfl ?_
    refine x_iconst 0 dX2_readCourse_172 rfl (n := 173) rfl ?_
    refine x_dup2 dX2_readCourse_173 rfl rfl (n := 174) rfl ?_
    refine tw_iald hE (by decide) dX2_readCourse_174 (n := 175) rfl (fun x5 => ?_)
    refine x_iconst 1 dX2_readCourse_175 rfl (n := 176) rfl ?_
    refine x_iadd dX2_readCourse_176 (n := 177) rfl ?_
    refine tw_iast hE (by decide) dX2_readCourse_177 (n := 178) rfl (fun s6 => ?_)
    refine x_iconst 1 dX2_readCourse_178 rfl (n := 179) rfl ?_
    exact tw_zreturn rfl dX2_readCourse_179
  · refine x_aload_nr 0 dX2_readCourse_36 rfl rfl (n := 37) rfl ?_
    refine tw_getI fl_X2_76 rfl (by decide) dX2_readCourse_37 (n := 40) rfl ?_
    refine x_iconst 3 dX2_readCourse_40 rfl (n := 41) rfl ?_
    refine tw_icmp_eq dX2_readCourse_41 (t := 50) (by decide) (n := 44) rfl ?_ ?_
    · refine x_aload_nr 0 dX2_readCourse_50 rfl rfl (n := 51) rfl ?_
      refine tw_getI fl_X2_83 rfl (by decide) dX2_readCourse_51 (n := 54) rfl ?_
      refine x_iconst 1 dX2_readCourse_54 rfl (n := 55) rfl ?_
      refine x_bipush 99 dX2_readCourse_55 rfl (n := 57) rfl ?_
      refine tw_callS_I [.int (s0.1 15), .int 1, .int 99] [] (T_in_ok hO hE s0 (s0.1 15) 1 99) md_X2_in q3016 q3017 dX2_readCourse_57 rfl rfl (by decide) (Nat.le_of_ble_eq_true rfl) (n := 60) rfl (fun x8 s7 => ?_)
      refine tw_if_eq dX2_readCourse_60 (t := 90) (by decide) (n := 63) rfl ?_ ?_
      · refine x_sub [0] [(0, .ref E.2.1)] rfl ?_
        exact T_readCourse_90_ok hO hE  s7
      · refine x_iload_n 2 dX2_readCourse_63 rfl rfl (n := 64) rfl ?_
        refine tw_if_le dX2_readCourse_64 (t := 96) (by decide) (n := 67) rfl ?_ ?_
        · refine x_sub [0, 1, 2] [(0, .ref E.2.1), (1, .int v1), (2, .int v2)] rfl ?_
          exact T_readCourse_96_ok hO hE hk32 v1 v2 s7
        · refine x_aload_nr 0 dX2_readCourse_67 rfl rfl (n := 68) rfl ?_
          refine tw_getI fl_X2_83 rfl (by decide) dX2_readCourse_68 (n := 71) rfl ?_
          refine x_aload_nr 0 dX2_readCourse_71 rfl rfl (n := 72) rfl ?_
          refine tw_getA fl_X2_20 rfl (by decide) dX2_readCourse_72 (n := 75) rfl ?_
          refine x_bipush 7 dX2_readCourse_75 rfl (n := 77) rfl ?_
          refine x_bipush 10 dX2_readCourse_77 rfl (n := 79) rfl ?_
          refine x_iload_n 1 dX2_readCourse_79 rfl rfl (n := 80) rfl ?_
          refine x_imul dX2_readCourse_80 (n := 81) rfl ?_
          refine x_iadd dX2_readCourse_81 (n := 82) rfl ?_
          refine x_iload_n 2 dX2_readCourse_82 rfl rfl (n := 83) rfl ?_
          refine x_iadd dX2_readCourse_83 (n := 84) rfl ?_
          refine x_iconst 1 dX2_readCourse_84 rfl (n := 85) rfl ?_
          refine x_isub dX2_readCourse_85 (n := 86) rfl ?_
          refine tw_iald hE (by decide) dX2_readCourse_86 (n := 87) rfl (fun x17 => ?_)
          refine tw_icmp_ne dX2_readCourse_87 (t := 96) (by decide) (n := 90) rfl ?_ ?_
          · refine x_sub [0, 1, 2] [(0, .ref E.2.1), (1, .int v1), (2, .int v2)] rfl ?_
            exact T_readCourse_96_ok hO hE hk32 v1 v2 s7
          · refine x_sub [0] [(0, .ref E.2.1)] rfl ?_
            exact T_readCourse_90_ok hO hE  s7
    · refine x_aload_nr 0 dX2_readCourse_44 rfl rfl (n := 45) rfl ?_
      refine x_iconst 1 dX2_readCourse_45 rfl (n := 46) rfl ?_
      refine tw_callV_I [.int 1] [] (T_errs_ok hO hE s0 1) md_X2_errs q3063 q3065 qs70 dX2_readCourse_46 rfl rfl (by decide) (Nat.le_of_ble_eq_true rfl) (n := 49) rfl (fun x19 s18 => ?_)
      exact tw_zreturn rfl dX2_readCourse_49
theorem T_readCourse_32_lp {G : xG} {E : TE} (hO : xOK G) (hE : tok E)   (n : Nat) (v1 : Int32) (v2 : Int32) (v3 : Int32) (s0 : TS) : XT G E "ForestLegsModel" "readCourse" cX2_readCourse 4 (Option.some Jvm.ClassFile.FieldType.boolean) 7 32 [(0, .ref E.2.1), (1, .int v1), (2, .int v2), (3, .int v3)] [] s0 (lp (T_readCourse_32F) n (v1, v2, v3, s0)) :=
  lp_ok (W := fun p K => XT G E "ForestLegsModel" "readCourse" cX2_readCourse 4 (Option.some Jvm.ClassFile.FieldType.boolean) 7 32 [(0, .ref E.2.1), (1, .int p.1), (2, .int p.2.1), (3, .int p.2.2.1)] [] p.2.2.2 K) (fun _ => tw_no) (fun k hk => fun (v1, v2, v3, s0) => T_readCourse_32F_ok hO hE (fun v1 v2 v3 s0 => hk (v1, v2, v3, s0)) v1 v2 v3 s0) n (v1, v2, v3, s0)
theorem T_readCourse_ok {G : xG} {E : TE} (hO : xOK G) (hE : tok E) (s0 : TS)  : CTT G E 7 yX2_readCourse cX2_readCourse 4 (Option.some Jvm.ClassFile.FieldType.boolean) [.ref E.2.1] s0 (T_readCourse s0 ) := by
  refine CT_of hO (by decide +kernel) (by decide +kernel) (Nat.le_of_ble_eq_true rfl) ?_
  show XT G E "ForestLegsModel" "readCourse" cX2_readCourse 4 (Option.some Jvm.ClassFile.FieldType.boolean) 7 0 [(0, .ref E.2.1)] [] s0 (T_readCourse s0 )
  refine x_aload_nr 0 dX2_readCourse_0 rfl rfl (n := 1) rfl ?_
  refine tw_getA fl_X2_20 rfl (by decide) dX2_readCourse_1 (n := 4) rfl ?_
  refine x_iconst 0 dX2_readCourse_4 rfl (n := 5) rfl ?_
  refine tw_iald hE (by decide) dX2_readCourse_5 (n := 6) rfl (fun x1 => ?_)
  refine x_istore_n [(1, .int x1), (0, .ref E.2.1)] dX2_readCourse_6 rfl (by decide) rfl (n := 7) rfl ?_
  refine x_iload_n 0 dX2_readCourse_7 rfl rfl (n := 8) rfl ?_
  refine x_iconst 3 dX2_readCourse_8 rfl (n := 9) rfl ?_
  refine tw_icmp_ne dX2_readCourse_9 (t := 18) (by decide) (n := 12) rfl ?_ ?_
  · refine x_aload_nr 1 dX2_readCourse_18 rfl rfl (n := 19) rfl ?_
    refine x_iload_n 0 dX2_readCourse_19 rfl rfl (n := 20) rfl ?_
    refine tw_callV_I [.int x1] [] (T_takesName_ok hO hE s0 x1) md_X2_takesName q3067 q3069 qs71 dX2_readCourse_20 rfl rfl (by decide) (Nat.le_of_ble_eq_true rfl) (n := 23) rfl (fun x3 s2 => ?_)
    refine tw_if_ne dX2_readCourse_23 (t := 28) (by decide) (n := 26) rfl ?_ ?_
    · refine x_iconst 0 dX2_readCourse_28 rfl (n := 29) rfl ?_
      refine x_istore_n [(2, .int 0), (1, .int x1), (0, .ref E.2.1)] dX2_readCourse_29 rfl (by decide) rfl (n := 30) rfl ?_
      refine x_iconst 1 dX2_readCourse_30 rfl (n := 31) rfl ?_
      refine x_istore_n [(3, .int 1), (2, .int 0), (1, .int x1), (0, .ref E.2.1)] dX2_readCourse_31 rfl (by decide) rfl (n := 32) rfl ?_
      refine x_sub [3, 2, 1, 0] [(0, .ref E.2.1), (1, .int x1), (2, .int 0), (3, .int 1)] rfl ?_
      exact T_readCourse_32_lp hO hE FU x1 0 1 s2
    · refine x_iconst 0 dX2_readCourse_26 rfl (n := 27) rfl ?_
      exact tw_zreturn rfl dX2_readCourse_27
  · refine x_aload_nr 1 dX2_readCourse_12 rfl rfl (n := 13) rfl ?_
    refine x_iconst 4 dX2_readCourse_13 rfl (n := 14) rfl ?_
    refine tw_callV_I [.int 4] [] (T_errs_ok hO hE s0 4) md_X2_errs q3063 q3065 qs70 dX2_readCourse_14 rfl rfl (by decide) (Nat.le_of_ble_eq_true rfl) (n := 17) rfl (fun x21 s20 => ?_)
    exact tw_zreturn rfl dX2_readCourse_17
abbrev cX2_takes : ByteArray := prog_14_method_18_code
def yX2_takes : MethodName := ⟨RX2, "takes", "(III)Z"⟩
def dkwX2_takes_2 : List UInt8 := [172]
abbrev dktX2_takes_2 : List UInt8 := dkwX2_takes_2 ++ []
def dkwX2_takes_1 : List UInt8 := [154, 0, 9, 42, 5, 182, 0, 125, 172, 42, 180, 0, 20, 27, 42, 180, 0, 83, 79, 42, 182, 0, 118, 4]
abbrev dktX2_takes_1 : List UInt8 := dkwX2_takes_1 ++ dktX2_takes_2
def dkwX2_takes_0 : List UInt8 := [42, 180, 0, 76, 6, 159, 0, 9, 42, 4, 182, 0, 125, 172, 42, 180, 0, 83, 28, 29, 184, 0, 79]
abbrev dktX2_takes_0 : List UInt8 := dkwX2_takes_0 ++ dktX2_takes_1
theorem dksX2_takes_0 : cX2_takes.data.toList.drop 0 = dktX2_takes_0 := by decide +kernel
theorem dksX2_takes_1 : cX2_takes.data.toList.drop 23 = dktX2_takes_1 := dk_seg dksX2_takes_0 23 rfl rfl
theorem dksX2_takes_2 : cX2_takes.data.toList.drop 47 = dktX2_takes_2 := dk_seg dksX2_takes_1 24 rfl rfl
theorem dX2_takes_0 : decode cX2_takes 0 = .ok (.aload_n 0, 1) := dk_42 (dk_at dksX2_takes_0 0 rfl rfl)
theorem dX2_takes_1 : decode cX2_takes 1 = .ok (.getfield 76, 3) := dk_180 0 76 (dk_at dksX2_takes_0 1 rfl rfl)
theorem dX2_takes_4 : decode cX2_takes 4 = .ok (.iconst 3, 1) := dk_6 (dk_at dksX2_takes_0 4 rfl rfl)
theorem dX2_takes_5 : decode cX2_takes 5 = .ok (.if_icmp .eq 9, 3) := dk_159 0 9 (dk_at dksX2_takes_0 5 rfl rfl)
theorem dX2_takes_8 : decode cX2_takes 8 = .ok (.aload_n 0, 1) := dk_42 (dk_at dksX2_takes_0 8 rfl rfl)
theorem dX2_takes_9 : decode cX2_takes 9 = .ok (.iconst 1, 1) := dk_4 (dk_at dksX2_takes_0 9 rfl rfl)
theorem dX2_takes_10 : decode cX2_takes 10 = .ok (.invokevirtual 125, 3) := dk_182 0 125 (dk_at dksX2_takes_0 10 rfl rfl)
theorem dX2_takes_13 : decode cX2_takes 13 = .ok (.ireturn, 1) := dk_172 (dk_at dksX2_takes_0 13 rfl rfl)
theorem dX2_takes_14 : decode cX2_takes 14 = .ok (.aload_n 0, 1) := dk_42 (dk_at dksX2_takes_0 14 rfl rfl)
theorem dX2_takes_15 : decode cX2_takes 15 = .ok (.getfield 83, 3) := dk_180 0 83 (dk_at dksX2_takes_0 15 rfl rfl)
theorem dX2_takes_18 : decode cX2_takes 18 = .ok (.iload_n 2, 1) := dk_28 (dk_at dksX2_takes_0 18 rfl rfl)
theorem dX2_takes_19 : decode cX2_takes 19 = .ok (.iload_n 3, 1) := dk_29 (dk_at dksX2_takes_0 19 rfl rfl)
theorem dX2_takes_20 : decode cX2_takes 20 = .ok (.invokestatic 79, 3) := dk_184 0 79 (dk_at dksX2_takes_0 20 rfl rfl)
theorem dX2_takes_23 : decode cX2_takes 23 = .ok (.ifCond .ne 9, 3) := dk_154 0 9 (dk_at dksX2_takes_1 0 rfl rfl)
theorem dX2_takes_26 : decode cX2_takes 26 = .ok (.aload_n 0, 1) := dk_42 (dk_at dksX2_takes_1 3 rfl rfl)
theorem dX2_takes_27 : decode cX2_takes 27 = .ok (.iconst 2, 1) := dk_5 (dk_at dksX2_takes_1 4 rfl rfl)
theorem dX2_takes_28 : decode cX2_takes 28 = .ok (.invokevirtual 125, 3) := dk_182 0 125 (dk_at dksX2_takes_1 5 rfl rfl)
theorem dX2_takes_31 : decode cX2_takes 31 = .ok (.ireturn, 1) := dk_172 (dk_at dksX2_takes_1 8 rfl rfl)
theorem dX2_takes_32 : decode cX2_takes 32 = .ok (.aload_n 0, 1) := dk_42 (dk_at dksX2_takes_1 9 rfl rfl)
theorem dX2_takes_33 : decode cX2_takes 33 = .ok (.getfield 20, 3) := dk_180 0 20 (dk_at dksX2_takes_1 10 rfl rfl)
theorem dX2_takes_36 : decode cX2_takes 36 = .ok (.iload_n 1, 1) := dk_27 (dk_at dksX2_takes_1 13 rfl rfl)
theorem dX2_takes_37 : decode cX2_takes 37 = .ok (.aload_n 0, 1) := dk_42 (dk_at dksX2_takes_1 14 rfl rfl)
theorem dX2_takes_38 : decode cX2_takes 38 = .ok (.getfield 83, 3) := dk_180 0 83 (dk_at dksX2_takes_1 15 rfl rfl)
theorem dX2_takes_41 : decode cX2_takes 41 = .ok (.iastore, 1) := dk_79 (dk_at dksX2_takes_1 18 rfl rfl)
theorem dX2_takes_42 : decode cX2_takes 42 = .ok (.aload_n 0, 1) := dk_42 (dk_at dksX2_takes_1 19 rfl rfl)
theorem dX2_takes_43 : decode cX2_takes 43 = .ok (.invokevirtual 118, 3) := dk_182 0 118 (dk_at dksX2_takes_1 20 rfl rfl)
theorem dX2_takes_46 : decode cX2_takes 46 = .ok (.iconst 1, 1) := dk_4 (dk_at dksX2_takes_1 23 rfl rfl)
theorem dX2_takes_47 : decode cX2_takes 47 = .ok (.ireturn, 1) := dk_172 (dk_at dksX2_takes_2 0 rfl rfl)
theorem md_X2_takes : xMd yX2_takes cX2_takes 4 (Option.some Jvm.ClassFile.FieldType.boolean) 3 := ⟨q3093, q126, by decide, by decide +kernel, by decide +kernel, by decide +kernel⟩
def T_takes (s0 : TS) (a1 : Int32) (a2 : Int32) (a3 : Int32) : Option (xO × TS) :=
  (if (s0.1 14) = 3 then
  (xcI (T_in s0 (s0.1 15) a2 a3) fun x2 s1 =>
  (if x2 = 0 then
  (xcI (T_errs s1 2) fun x6 s5 =>
  (if vp_nar .boolean x6 = x6 then rI x6 s5 else none)) else
  (tast s1 8 a1 (s1.1 15) fun s3 =>
  (xcV (T_goesOn s3 ) fun s4 =>
  (if vp_nar .boolean 1 = 1 then rI 1 s4 else none))))) else
  (xcI (T_errs s0 1) fun x8 s7 =>
  (if vp_nar .boolean x8 = x8 then rI x8 s7 else none)))
theorem T_takes_ok {G : xG} {E : TE} (hO : xOK G) (hE : tok E) (s0 : TS) (a1 : Int32) (a2 : Int32) (a3 : Int32) : CTT G E 2 yX2_takes cX2_takes 4 (Option.some Jvm.ClassFile.FieldType.boolean) [.ref E.2.1, .int a1, .int a2, .int a3] s0 (T_takes s0 a1 a2 a3) := by
  refine CT_of hO (by decide +kernel) (by decide +kernel) (Nat.le_of_ble_eq_true rfl) ?_
  show XT G E "ForestLegsModel" "takes" cX2_takes 4 (Option.some Jvm.ClassFile.FieldType.boolean) 2 0 [(0, .ref E.2.1), (1, .int a1), (2, .int a2), (3, .int a3)] [] s0 (T_takes s0 a1 a2 a3)
  refine x_aload_nr 0 dX2_takes_0 rfl rfl (n := 1) rfl ?_
  refine tw_getI fl_X2_76 rfl (by decide) dX2_takes_1 (n := 4) rfl ?_
  refine x_iconst 3 dX2_takes_4 rfl (n := 5) rfl ?_
  refine tw_icmp_eq dX2_takes_5 (t := 14) (by decide) (n := 8) rfl ?_ ?_
  · refine x_aload_nr 0 dX2_takes_14 rfl rfl (n := 15) rfl ?_
    refine tw_getI fl_X2_83 rfl (by decide) dX2_takes_15 (n := 18) rfl ?_
    refine x_iload_n 2 dX2_takes_18 rfl rfl (n := 19) rfl ?_
    refine x_iload_n 3 dX2_takes_19 rfl rfl (n := 20) rfl ?_
    refine tw_callS_I [.int (s0.1 15), .int a2, .int a3] [] (T_in_ok hO hE s0 (s0.1 15) a2 a3) md_X2_in q3016 q3017 dX2_takes_20 rfl rfl (by decide) (Nat.le_of_ble_eq_true rfl) (n := 23) rfl (fun x2 s1 => ?_)
    refine tw_if_ne dX2_takes_23 (t := 32) (by decide) (n := 26) rfl ?_ ?_
    · refine x_aload_nr 0 dX2_takes_32 rfl rfl (n := 33) rfl ?_
      refine tw_getA fl_X2_20 rfl (by decide) dX2_takes_33 (n := 36) rfl ?_
      refine x_iload_n 1 dX2_takes_36 rfl rfl (n := 37) rfl ?_
      refine x_aload_nr 0 dX2_takes_37 rfl rfl (n := 38) rfl ?_
      refine tw_getI fl_X2_83 rfl (by decide) dX2_takes_38 (n := 41) rfl ?_
      refine tw_iast hE (by decide) dX2_takes_41 (n := 42) rfl (fun s3 => ?_)
      refine x_aload_nr 0 dX2_takes_42 rfl rfl (n := 43) rfl ?_
      refine tw_callV_V [] [] (T_goesOn_ok hO hE s3 ) md_X2_goesOn q3030 q3032 qs65 dX2_takes_43 rfl rfl (by decide) (Nat.le_of_ble_eq_true rfl) (n := 46) rfl (fun s4 => ?_)
      refine x_iconst 1 dX2_takes_46 rfl (n := 47) rfl ?_
      exact tw_zreturn rfl dX2_takes_47
    · refine x_aload_nr 0 dX2_takes_26 rfl rfl (n := 27) rfl ?_
      refine x_iconst 2 dX2_takes_27 rfl (n := 28) rfl ?_
      refine tw_callV_I [.int 2] [] (T_errs_ok hO hE s1 2) md_X2_errs q3063 q3065 qs70 dX2_takes_28 rfl rfl (by decide) (Nat.le_of_ble_eq_true rfl) (n := 31) rfl (fun x6 s5 => ?_)
      exact tw_zreturn rfl dX2_takes_31
  · refine x_aload_nr 0 dX2_takes_8 rfl rfl (n := 9) rfl ?_
    refine x_iconst 1 dX2_takes_9 rfl (n := 10) rfl ?_
    refine tw_callV_I [.int 1] [] (T_errs_ok hO hE s0 1) md_X2_errs q3063 q3065 qs70 dX2_takes_10 rfl rfl (by decide) (Nat.le_of_ble_eq_true rfl) (n := 13) rfl (fun x8 s7 => ?_)
    exact tw_zreturn rfl dX2_takes_13
abbrev cX2_readPunch : ByteArray := prog_14_method_21_code
def yX2_readPunch : MethodName := ⟨RX2, "readPunch", "(I)Z"⟩
def dkwX2_readPunch_6 : List UInt8 := [92, 46, 4, 96, 79, 4, 172]
abbrev dktX2_readPunch_6 : List UInt8 := dkwX2_readPunch_6 ++ []
def dkwX2_readPunch_5 : List UInt8 := [180, 0, 20, 16, 57, 27, 96, 46, 182, 0, 136, 154, 0, 5, 3, 172, 42, 180, 0, 20, 16, 67, 27, 96]
abbrev dktX2_readPunch_5 : List UInt8 := dkwX2_readPunch_5 ++ dktX2_readPunch_6
def dkwX2_readPunch_4 : List UInt8 := [16, 77, 29, 96, 4, 16, 99, 182, 0, 136, 153, 0, 26, 42, 17, 0, 237, 29, 96, 21, 4, 42]
abbrev dktX2_readPunch_4 : List UInt8 := dkwX2_readPunch_4 ++ dktX2_readPunch_5
def dkwX2_readPunch_3 : List UInt8 := [16, 47, 27, 96, 46, 167, 0, 15, 42, 180, 0, 20, 17, 0, 237, 29, 96, 4, 100, 46, 54, 4, 42]
abbrev dktX2_readPunch_3 : List UInt8 := dkwX2_readPunch_3 ++ dktX2_readPunch_4
def dkwX2_readPunch_2 : List UInt8 := [160, 0, 9, 42, 7, 182, 0, 125, 172, 16, 16, 27, 104, 28, 96, 62, 28, 154, 0, 15, 42, 180, 0, 20]
abbrev dktX2_readPunch_2 : List UInt8 := dkwX2_readPunch_2 ++ dktX2_readPunch_3
def dkwX2_readPunch_1 : List UInt8 := [42, 180, 0, 83, 4, 16, 99, 184, 0, 79, 154, 0, 9, 42, 5, 182, 0, 125, 172, 28, 16, 16]
abbrev dktX2_readPunch_1 : List UInt8 := dkwX2_readPunch_1 ++ dktX2_readPunch_2
def dkwX2_readPunch_0 : List UInt8 := [42, 180, 0, 20, 16, 67, 27, 96, 46, 61, 42, 180, 0, 76, 6, 159, 0, 9, 42, 4, 182, 0, 125, 172]
abbrev dktX2_readPunch_0 : List UInt8 := dkwX2_readPunch_0 ++ dktX2_readPunch_1
theorem dksX2_readPunch_0 : cX2_readPunch.data.toList.drop 0 = dktX2_readPunch_0 := by decide +kernel
theorem dksX2_readPunch_1 : cX2_readPunch.data.toList.drop 24 = dktX2_readPunch_1 := dk_seg dksX2_readPunch_0 24 rfl rfl
theorem dksX2_readPunch_2 : cX2_readPunch.data.toList.drop 46 = dktX2_readPunch_2 := dk_seg dksX2_readPunch_1 22 rfl rfl
theorem dksX2_readPunch_3 : cX2_readPunch.data.toList.drop 70 = dktX2_readPunch_3 := dk_seg dksX2_readPunch_2 24 rfl rfl
theorem dksX2_readPunch_4 : cX2_readPunch.data.toList.drop 93 = dktX2_readPunch_4 := dk_seg dksX2_readPunch_3 23 rfl rfl
theorem dksX2_readPunch_5 : cX2_readPunch.data.toList.drop 115 = dktX2_readPunch_5 := dk_seg dksX2_readPunch_4 22 rfl rfl
theorem dksX2_readPunch_6 : cX2_readPunch.data.toList.drop 139 = dktX2_readPunch_6 := dk_seg dksX2_readPunch_5 24 rfl rfl
theorem dX2_readPunch_0 : decode cX2_readPunch 0 = .ok (.aload_n 0, 1) := dk_42 (dk_at dksX2_readPunch_0 0 rfl rfl)
theorem dX2_readPunch_1 : decode cX2_readPunch 1 = .ok (.getfield 20, 3) := dk_180 0 20 (dk_at dksX2_readPunch_0 1 rfl rfl)
theorem dX2_readPunch_4 : decode cX2_readPunch 4 = .ok (.bipush 67, 2) := dk_16 67 (dk_at dksX2_readPunch_0 4 rfl rfl)
theorem dX2_readPunch_6 : decode cX2_readPunch 6 = .ok (.iload_n 1, 1) := dk_27 (dk_at dksX2_readPunch_0 6 rfl rfl)
theorem dX2_readPunch_7 : decode cX2_readPunch 7 = .ok (.iadd, 1) := dk_96 (dk_at dksX2_readPunch_0 7 rfl rfl)
theorem dX2_readPunch_8 : decode cX2_readPunch 8 = .ok (.iaload, 1) := dk_46 (dk_at dksX2_readPunch_0 8 rfl rfl)
theorem dX2_readPunch_9 : decode cX2_readPunch 9 = .ok (.istore_n 2, 1) := dk_61 (dk_at dksX2_readPunch_0 9 rfl rfl)
theorem dX2_readPunch_10 : decode cX2_readPunch 10 = .ok (.aload_n 0, 1) := dk_42 (dk_at dksX2_readPunch_0 10 rfl rfl)
theorem dX2_readPunch_11 : decode cX2_readPunch 11 = .ok (.getfield 76, 3) := dk_180 0 76 (dk_at dksX2_readPunch_0 11 rfl rfl)
theorem dX2_readPunch_14 : decode cX2_readPunch 14 = .ok (.iconst 3, 1) := dk_6 (dk_at dksX2_readPunch_0 14 rfl rfl)
theorem dX2_readPunch_15 : decode cX2_readPunch 15 = .ok (.if_icmp .eq 9, 3) := dk_159 0 9 (dk_at dksX2_readPunch_0 15 rfl rfl)
theorem dX2_readPunch_18 : decode cX2_readPunch 18 = .ok (.aload_n 0, 1) := dk_42 (dk_at dksX2_readPunch_0 18 rfl rfl)
theorem dX2_readPunch_19 : decode cX2_readPunch 19 = .ok (.iconst 1, 1) := dk_4 (dk_at dksX2_readPunch_0 19 rfl rfl)
theorem dX2_readPunch_20 : decode cX2_readPunch 20 = .ok (.invokevirtual 125, 3) := dk_182 0 125 (dk_at dksX2_readPunch_0 20 rfl rfl)
theorem dX2_readPunch_23 : decode cX2_readPunch 23 = .ok (.ireturn, 1) := dk_172 (dk_at dksX2_readPunch_0 23 rfl rfl)
theorem dX2_readPunch_24 : decode cX2_readPunch 24 = .ok (.aload_n 0, 1) := dk_42 (dk_at dksX2_readPunch_1 0 rfl rfl)
theorem dX2_readPunch_25 : decode cX2_readPunch 25 = .ok (.getfield 83, 3) := dk_180 0 83 (dk_at dksX2_readPunch_1 1 rfl rfl)
theorem dX2_readPunch_28 : decode cX2_readPunch 28 = .ok (.iconst 1, 1) := dk_4 (dk_at dksX2_readPunch_1 4 rfl rfl)
theorem dX2_readPunch_29 : decode cX2_readPunch 29 = .ok (.bipush 99, 2) := dk_16 99 (dk_at dksX2_readPunch_1 5 rfl rfl)
theorem dX2_readPunch_31 : decode cX2_readPunch 31 = .ok (.invokestatic 79, 3) := dk_184 0 79 (dk_at dksX2_readPunch_1 7 rfl rfl)
theorem dX2_readPunch_34 : decode cX2_readPunch 34 = .ok (.ifCond .ne 9, 3) := dk_154 0 9 (dk_at dksX2_readPunch_1 10 rfl rfl)
theorem dX2_readPunch_37 : decode cX2_readPunch 37 = .ok (.aload_n 0, 1) := dk_42 (dk_at dksX2_readPunch_1 13 rfl rfl)
theorem dX2_readPunch_38 : decode cX2_readPunch 38 = .ok (.iconst 2, 1) := dk_5 (dk_at dksX2_readPunch_1 14 rfl rfl)
theorem dX2_readPunch_39 : decode cX2_readPunch 39 = .ok (.invokevirtual 125, 3) := dk_182 0 125 (dk_at dksX2_readPunch_1 15 rfl rfl)
theorem dX2_readPunch_42 : decode cX2_readPunch 42 = .ok (.ireturn, 1) := dk_172 (dk_at dksX2_readPunch_1 18 rfl rfl)
theorem dX2_readPunch_43 : decode cX2_readPunch 43 = .ok (.iload_n 2, 1) := dk_28 (dk_at dksX2_readPunch_1 19 rfl rfl)
theorem dX2_readPunch_44 : decode cX2_readPunch 44 = .ok (.bipush 16, 2) := dk_16 16 (dk_at dksX2_readPunch_1 20 rfl rfl)
theorem dX2_readPunch_46 : decode cX2_readPunch 46 = .ok (.if_icmp .ne 9, 3) := dk_160 0 9 (dk_at dksX2_readPunch_2 0 rfl rfl)
theorem dX2_readPunch_49 : decode cX2_readPunch 49 = .ok (.aload_n 0, 1) := dk_42 (dk_at dksX2_readPunch_2 3 rfl rfl)
theorem dX2_readPunch_50 : decode cX2_readPunch 50 = .ok (.iconst 4, 1) := dk_7 (dk_at dksX2_readPunch_2 4 rfl rfl)
theorem dX2_readPunch_51 : decode cX2_readPunch 51 = .ok (.invokevirtual 125, 3) := dk_182 0 125 (dk_at dksX2_readPunch_2 5 rfl rfl)
theorem dX2_readPunch_54 : decode cX2_readPunch 54 = .ok (.ireturn, 1) := dk_172 (dk_at dksX2_readPunch_2 8 rfl rfl)
theorem dX2_readPunch_55 : decode cX2_readPunch 55 = .ok (.bipush 16, 2) := dk_16 16 (dk_at dksX2_readPunch_2 9 rfl rfl)
theorem dX2_readPunch_57 : decode cX2_readPunch 57 = .ok (.iload_n 1, 1) := dk_27 (dk_at dksX2_readPunch_2 11 rfl rfl)
theorem dX2_readPunch_58 : decode cX2_readPunch 58 = .ok (.imul, 1) := dk_104 (dk_at dksX2_readPunch_2 12 rfl rfl)
theorem dX2_readPunch_59 : decode cX2_readPunch 59 = .ok (.iload_n 2, 1) := dk_28 (dk_at dksX2_readPunch_2 13 rfl rfl)
theorem dX2_readPunch_60 : decode cX2_readPunch 60 = .ok (.iadd, 1) := dk_96 (dk_at dksX2_readPunch_2 14 rfl rfl)
theorem dX2_readPunch_61 : decode cX2_readPunch 61 = .ok (.istore_n 3, 1) := dk_62 (dk_at dksX2_readPunch_2 15 rfl rfl)
theorem dX2_readPunch_62 : decode cX2_readPunch 62 = .ok (.iload_n 2, 1) := dk_28 (dk_at dksX2_readPunch_2 16 rfl rfl)
theorem dX2_readPunch_63 : decode cX2_readPunch 63 = .ok (.ifCond .ne 15, 3) := dk_154 0 15 (dk_at dksX2_readPunch_2 17 rfl rfl)
theorem dX2_readPunch_66 : decode cX2_readPunch 66 = .ok (.aload_n 0, 1) := dk_42 (dk_at dksX2_readPunch_2 20 rfl rfl)
theorem dX2_readPunch_67 : decode cX2_readPunch 67 = .ok (.getfield 20, 3) := dk_180 0 20 (dk_at dksX2_readPunch_2 21 rfl rfl)
theorem dX2_readPunch_70 : decode cX2_readPunch 70 = .ok (.bipush 47, 2) := dk_16 47 (dk_at dksX2_readPunch_3 0 rfl rfl)
theorem dX2_readPunch_72 : decode cX2_readPunch 72 = .ok (.iload_n 1, 1) := dk_27 (dk_at dksX2_readPunch_3 2 rfl rfl)
theorem dX2_readPunch_73 : decode cX2_readPunch 73 = .ok (.iadd, 1) := dk_96 (dk_at dksX2_readPunch_3 3 rfl rfl)
theorem dX2_readPunch_74 : decode cX2_readPunch 74 = .ok (.iaload, 1) := dk_46 (dk_at dksX2_readPunch_3 4 rfl rfl)
theorem dX2_readPunch_75 : decode cX2_readPunch 75 = .ok (.goto 15, 3) := dk_167 0 15 (dk_at dksX2_readPunch_3 5 rfl rfl)
theorem dX2_readPunch_78 : decode cX2_readPunch 78 = .ok (.aload_n 0, 1) := dk_42 (dk_at dksX2_readPunch_3 8 rfl rfl)
theorem dX2_readPunch_79 : decode cX2_readPunch 79 = .ok (.getfield 20, 3) := dk_180 0 20 (dk_at dksX2_readPunch_3 9 rfl rfl)
theorem dX2_readPunch_82 : decode cX2_readPunch 82 = .ok (.sipush 237, 3) := dk_17 0 237 (dk_at dksX2_readPunch_3 12 rfl rfl)
theorem dX2_readPunch_85 : decode cX2_readPunch 85 = .ok (.iload_n 3, 1) := dk_29 (dk_at dksX2_readPunch_3 15 rfl rfl)
theorem dX2_readPunch_86 : decode cX2_readPunch 86 = .ok (.iadd, 1) := dk_96 (dk_at dksX2_readPunch_3 16 rfl rfl)
theorem dX2_readPunch_87 : decode cX2_readPunch 87 = .ok (.iconst 1, 1) := dk_4 (dk_at dksX2_readPunch_3 17 rfl rfl)
theorem dX2_readPunch_88 : decode cX2_readPunch 88 = .ok (.isub, 1) := dk_100 (dk_at dksX2_readPunch_3 18 rfl rfl)
theorem dX2_readPunch_89 : decode cX2_readPunch 89 = .ok (.iaload, 1) := dk_46 (dk_at dksX2_readPunch_3 19 rfl rfl)
theorem dX2_readPunch_90 : decode cX2_readPunch 90 = .ok (.istore 4, 2) := dk_54 4 (dk_at dksX2_readPunch_3 20 rfl rfl)
theorem dX2_readPunch_92 : decode cX2_readPunch 92 = .ok (.aload_n 0, 1) := dk_42 (dk_at dksX2_readPunch_3 22 rfl rfl)
theorem dX2_readPunch_93 : decode cX2_readPunch 93 = .ok (.bipush 77, 2) := dk_16 77 (dk_at dksX2_readPunch_4 0 rfl rfl)
theorem dX2_readPunch_95 : decode cX2_readPunch 95 = .ok (.iload_n 3, 1) := dk_29 (dk_at dksX2_readPunch_4 2 rfl rfl)
theorem dX2_readPunch_96 : decode cX2_readPunch 96 = .ok (.iadd, 1) := dk_96 (dk_at dksX2_readPunch_4 3 rfl rfl)
theorem dX2_readPunch_97 : decode cX2_readPunch 97 = .ok (.iconst 1, 1) := dk_4 (dk_at dksX2_readPunch_4 4 rfl rfl)
theorem dX2_readPunch_98 : decode cX2_readPunch 98 = .ok (.bipush 99, 2) := dk_16 99 (dk_at dksX2_readPunch_4 5 rfl rfl)
theorem dX2_readPunch_100 : decode cX2_readPunch 100 = .ok (.invokevirtual 136, 3) := dk_182 0 136 (dk_at dksX2_readPunch_4 7 rfl rfl)
theorem dX2_readPunch_103 : decode cX2_readPunch 103 = .ok (.ifCond .eq 26, 3) := dk_153 0 26 (dk_at dksX2_readPunch_4 10 rfl rfl)
theorem dX2_readPunch_106 : decode cX2_readPunch 106 = .ok (.aload_n 0, 1) := dk_42 (dk_at dksX2_readPunch_4 13 rfl rfl)
theorem dX2_readPunch_107 : decode cX2_readPunch 107 = .ok (.sipush 237, 3) := dk_17 0 237 (dk_at dksX2_readPunch_4 14 rfl rfl)
theorem dX2_readPunch_110 : decode cX2_readPunch 110 = .ok (.iload_n 3, 1) := dk_29 (dk_at dksX2_readPunch_4 17 rfl rfl)
theorem dX2_readPunch_111 : decode cX2_readPunch 111 = .ok (.iadd, 1) := dk_96 (dk_at dksX2_readPunch_4 18 rfl rfl)
theorem dX2_readPunch_112 : decode cX2_readPunch 112 = .ok (.iload 4, 2) := dk_21 4 (dk_at dksX2_readPunch_4 19 rfl rfl)
theorem dX2_readPunch_114 : decode cX2_readPunch 114 = .ok (.aload_n 0, 1) := dk_42 (dk_at dksX2_readPunch_4 21 rfl rfl)
theorem dX2_readPunch_115 : decode cX2_readPunch 115 = .ok (.getfield 20, 3) := dk_180 0 20 (dk_at dksX2_readPunch_5 0 rfl rfl)
theorem dX2_readPunch_118 : decode cX2_readPunch 118 = .ok (.bipush 57, 2) := dk_16 57 (dk_at dksX2_readPunch_5 3 rfl rfl)
theorem dX2_readPunch_120 : decode cX2_readPunch 120 = .ok (.iload_n 1, 1) := dk_27 (dk_at dksX2_readPunch_5 5 rfl rfl)
theorem dX2_readPunch_121 : decode cX2_readPunch 121 = .ok (.iadd, 1) := dk_96 (dk_at dksX2_readPunch_5 6 rfl rfl)
theorem dX2_readPunch_122 : decode cX2_readPunch 122 = .ok (.iaload, 1) := dk_46 (dk_at dksX2_readPunch_5 7 rfl rfl)
theorem dX2_readPunch_123 : decode cX2_readPunch 123 = .ok (.invokevirtual 136, 3) := dk_182 0 136 (dk_at dksX2_readPunch_5 8 rfl rfl)
theorem dX2_readPunch_126 : decode cX2_readPunch 126 = .ok (.ifCond .ne 5, 3) := dk_154 0 5 (dk_at dksX2_readPunch_5 11 rfl rfl)
theorem dX2_readPunch_129 : decode cX2_readPunch 129 = .ok (.iconst 0, 1) := dk_3 (dk_at dksX2_readPunch_5 14 rfl rfl)
theorem dX2_readPunch_130 : decode cX2_readPunch 130 = .ok (.ireturn, 1) := dk_172 (dk_at dksX2_readPunch_5 15 rfl rfl)
theorem dX2_readPunch_131 : decode cX2_readPunch 131 = .ok (.aload_n 0, 1) := dk_42 (dk_at dksX2_readPunch_5 16 rfl rfl)
theorem dX2_readPunch_132 : decode cX2_readPunch 132 = .ok (.getfield 20, 3) := dk_180 0 20 (dk_at dksX2_readPunch_5 17 rfl rfl)
theorem dX2_readPunch_135 : decode cX2_readPunch 135 = .ok (.bipush 67, 2) := dk_16 67 (dk_at dksX2_readPunch_5 20 rfl rfl)
theorem dX2_readPunch_137 : decode cX2_readPunch 137 = .ok (.iload_n 1, 1) := dk_27 (dk_at dksX2_readPunch_5 22 rfl rfl)
theorem dX2_readPunch_138 : decode cX2_readPunch 138 = .ok (.iadd, 1) := dk_96 (dk_at dksX2_readPunch_5 23 rfl rfl)
theorem dX2_readPunch_139 : decode cX2_readPunch 139 = .ok (.dup2, 1) := dk_92 (dk_at dksX2_readPunch_6 0 rfl rfl)
theorem dX2_readPunch_140 : decode cX2_readPunch 140 = .ok (.iaload, 1) := dk_46 (dk_at dksX2_readPunch_6 1 rfl rfl)
theorem dX2_readPunch_141 : decode cX2_readPunch 141 = .ok (.iconst 1, 1) := dk_4 (dk_at dksX2_readPunch_6 2 rfl rfl)
theorem dX2_readPunch_142 : decode cX2_readPunch 142 = .ok (.iadd, 1) := dk_96 (dk_at dksX2_readPunch_6 3 rfl rfl)
theorem dX2_readPunch_143 : decode cX2_readPunch 143 = .ok (.iastore, 1) := dk_79 (dk_at dksX2_readPunch_6 4 rfl rfl)
theorem dX2_readPunch_144 : decode cX2_readPunch 144 = .ok (.iconst 1, 1) := dk_4 (dk_at dksX2_readPunch_6 5 rfl rfl)
theorem dX2_readPunch_145 : decode cX2_readPunch 145 = .ok (.ireturn, 1) := dk_172 (dk_at dksX2_readPunch_6 6 rfl rfl)
theorem md_X2_readPunch : xMd yX2_readPunch cX2_readPunch 5 (Option.some Jvm.ClassFile.FieldType.boolean) 1 := ⟨q3097, q126, by decide, by decide +kernel, by decide +kernel, by decide +kernel⟩
def T_readPunch_90   (v1 : Int32) (v3 : Int32) (w0 : Int32) (s0 : TS) : Option (xO × TS) :=
  (xcI (T_takes s0 (77 + v3) 1 99) fun x7 s6 =>
  (if x7 = 0 then
  (if vp_nar .boolean 0 = 0 then rI 0 s6 else none) else
  (tald s6 8 (57 + v1) fun x8 =>
  (xcI (T_takes s6 (237 + v3) w0 x8) fun x10 s9 =>
  (if x10 = 0 then
  (if vp_nar .boolean 0 = 0 then rI 0 s9 else none) else
  (bnd (67 + v1) fun x11 =>
  (tald s9 8 x11 fun x12 =>
  (tast s9 8 x11 (x12 + 1) fun s13 =>
  (if vp_nar .boolean 1 = 1 then rI 1 s13 else none)))))))))
def T_readPunch (s0 : TS) (a1 : Int32) : Option (xO × TS) :=
  (tald s0 8 (67 + a1) fun x1 =>
  (if (s0.1 14) = 3 then
  (xcI (T_in s0 (s0.1 15) 1 99) fun x3 s2 =>
  (if x3 = 0 then
  (xcI (T_errs s2 2) fun x18 s17 =>
  (if vp_nar .boolean x18 = x18 then rI x18 s17 else none)) else
  (if x1 = 16 then
  (xcI (T_errs s2 4) fun x16 s15 =>
  (if vp_nar .boolean x16 = x16 then rI x16 s15 else none)) else
  (bnd ((16 * a1) + x1) fun x4 =>
  (if x1 = 0 then
  (tald s2 8 (47 + a1) fun x14 =>
  (T_readPunch_90 a1 x4 x14 s2)) else
  (tald s2 8 ((237 + x4) - 1) fun x5 =>
  (T_readPunch_90 a1 x4 x5 s2))))))) else
  (xcI (T_errs s0 1) fun x20 s19 =>
  (if vp_nar .boolean x20 = x20 then rI x20 s19 else none))))
theorem T_readPunch_90_ok {G : xG} {E : TE} (hO : xOK G) (hE : tok E)   (v1 : Int32) (v3 : Int32) (w0 : Int32) (s0 : TS) : XT G E "ForestLegsModel" "readPunch" cX2_readPunch 5 (Option.some Jvm.ClassFile.FieldType.boolean) 3 90 [(0, .ref E.2.1), (1, .int v1), (3, .int v3)] [.int w0] s0 (T_readPunch_90 v1 v3 w0 s0) := by
  unfold T_readPunch_90
  refine x_istore [(4, .int w0), (0, .ref E.2.1), (1, .int v1), (3, .int v3)] dX2_readPunch_90 (by decide) rfl (n := 92) rfl ?_
  refine x_aload_nr 1 dX2_readPunch_92 rfl rfl (n := 93) rfl ?_
  refine x_bipush 77 dX2_readPunch_93 rfl (n := 95) rfl ?_
  refine x_iload_n 3 dX2_readPunch_95 rfl rfl (n := 96) rfl ?_
  refine x_iadd dX2_readPunch_96 (n := 97) rfl ?_
  refine x_iconst 1 dX2_readPunch_97 rfl (n := 98) rfl ?_
  refine x_bipush 99 dX2_readPunch_98 rfl (n := 100) rfl ?_
  refine tw_callV_I [.int (77 + v3), .int 1, .int 99] [] (T_takes_ok hO hE s0 (77 + v3) 1 99) md_X2_takes q3090 q3092 qs76 dX2_readPunch_100 rfl rfl (by decide) (Nat.le_of_ble_eq_true rfl) (n := 103) rfl (fun x7 s6 => ?_)
  refine tw_if_eq dX2_readPunch_103 (t := 129) (by decide) (n := 106) rfl ?_ ?_
  · refine x_iconst 0 dX2_readPunch_129 rfl (n := 130) rfl ?_
    exact tw_zreturn rfl dX2_readPunch_130
  · refine x_aload_nr 1 dX2_readPunch_106 rfl rfl (n := 107) rfl ?_
    refine x_sipush 237 dX2_readPunch_107 rfl (n := 110) rfl ?_
    refine x_iload_n 3 dX2_readPunch_110 rfl rfl (n := 111) rfl ?_
    refine x_iadd dX2_readPunch_111 (n := 112) rfl ?_
    refine x_iload 0 dX2_readPunch_112 rfl (n := 114) rfl ?_
    refine x_aload_nr 1 dX2_readPunch_114 rfl rfl (n := 115) rfl ?_
    refine tw_getA fl_X2_20 rfl (by decide) dX2_readPunch_115 (n := 118) rfl ?_
    refine x_bipush 57 dX2_readPunch_118 rfl (n := 120) rfl ?_
    refine x_iload_n 2 dX2_readPunch_120 rfl rfl (n := 121) rfl ?_
    refine x_iadd dX2_readPunch_121 (n := 122) rfl ?_
    refine tw_iald hE (by decide) dX2_readPunch_122 (n := 123) rfl (fun x8 => ?_)
    refine tw_callV_I [.int (237 + v3), .int w0, .int x8] [] (T_takes_ok hO hE s6 (237 + v3) w0 x8) md_X2_takes q3090 q3092 qs76 dX2_readPunch_123 rfl rfl (by decide) (Nat.le_of_ble_eq_true rfl) (n := 126) rfl (fun x10 s9 => ?_)
    refine tw_if_ne dX2_readPunch_126 (t := 131) (by decide) (n := 129) rfl ?_ ?_
    · refine x_aload_nr 1 dX2_readPunch_131 rfl rfl (n := 132) rfl ?_
      refine tw_getA fl_X2_20 rfl (by decide) dX2_readPunch_132 (n := 135) rfl ?_
      refine x_bipush 67 dX2_readPunch_135 rfl (n := 137) rfl ?_
      refine x_iload_n 2 dX2_readPunch_137 rfl rfl (n := 138) rfl ?_
      refine x_iadd dX2_readPunch_138 (n := 139) rfl ?_
      refine tw_nm (fun x11 => ?_)
      refine x_dup2 dX2_readPunch_139 rfl rfl (n := 140) rfl ?_
      refine tw_iald hE (by decide) dX2_readPunch_140 (n := 141) rfl (fun x12 => ?_)
      refine x_iconst 1 dX2_readPunch_141 rfl (n := 142) rfl ?_
      refine x_iadd dX2_readPunch_142 (n := 143) rfl ?_
      refine tw_iast hE (by decide) dX2_readPunch_143 (n := 144) rfl (fun s13 => ?_)
      refine x_iconst 1 dX2_readPunch_144 rfl (n := 145) rfl ?_
      exact tw_zreturn rfl dX2_readPunch_145
    · refine x_iconst 0 dX2_readPunch_129 rfl (n := 130) rfl ?_
      exact tw_zreturn rfl dX2_readPunch_130
theorem T_readPunch_ok {G : xG} {E : TE} (hO : xOK G) (hE : tok E) (s0 : TS) (a1 : Int32) : CTT G E 3 yX2_readPunch cX2_readPunch 5 (Option.some Jvm.ClassFile.FieldType.boolean) [.ref E.2.1, .int a1] s0 (T_readPunch s0 a1) := by
  refine CT_of hO (by decide +kernel) (by decide +kernel) (Nat.le_of_ble_eq_true rfl) ?_
  show XT G E "ForestLegsModel" "readPunch" cX2_readPunch 5 (Option.some Jvm.ClassFile.FieldType.boolean) 3 0 [(0, .ref E.2.1), (1, .int a1)] [] s0 (T_readPunch s0 a1)
  refine x_aload_nr 0 dX2_readPunch_0 rfl rfl (n := 1) rfl ?_
  refine tw_getA fl_X2_20 rfl (by decide) dX2_readPunch_1 (n := 4) rfl ?_
  refine x_bipush 67 dX2_readPunch_4 rfl (n := 6) rfl ?_
  refine x_iload_n 1 dX2_readPunch_6 rfl rfl (n := 7) rfl ?_
  refine x_iadd dX2_readPunch_7 (n := 8) rfl ?_
  refine tw_iald hE (by decide) dX2_readPunch_8 (n := 9) rfl (fun x1 => ?_)
  refine x_istore_n [(2, .int x1), (0, .ref E.2.1), (1, .int a1)] dX2_readPunch_9 rfl (by decide) rfl (n := 10) rfl ?_
  refine x_aload_nr 1 dX2_readPunch_10 rfl rfl (n := 11) rfl ?_
  refine tw_getI fl_X2_76 rfl (by decide) dX2_readPunch_11 (n := 14) rfl ?_
  refine x_iconst 3 dX2_readPunch_14 rfl (n := 15) rfl ?_
  refine tw_icmp_eq dX2_readPunch_15 (t := 24) (by decide) (n := 18) rfl ?_ ?_
  · refine x_aload_nr 1 dX2_readPunch_24 rfl rfl (n := 25) rfl ?_
    refine tw_getI fl_X2_83 rfl (by decide) dX2_readPunch_25 (n := 28) rfl ?_
    refine x_iconst 1 dX2_readPunch_28 rfl (n := 29) rfl ?_
    refine x_bipush 99 dX2_readPunch_29 rfl (n := 31) rfl ?_
    refine tw_callS_I [.int (s0.1 15), .int 1, .int 99] [] (T_in_ok hO hE s0 (s0.1 15) 1 99) md_X2_in q3016 q3017 dX2_readPunch_31 rfl rfl (by decide) (Nat.le_of_ble_eq_true rfl) (n := 34) rfl (fun x3 s2 => ?_)
    refine tw_if_ne dX2_readPunch_34 (t := 43) (by decide) (n := 37) rfl ?_ ?_
    · refine x_iload_n 0 dX2_readPunch_43 rfl rfl (n := 44) rfl ?_
      refine x_bipush 16 dX2_readPunch_44 rfl (n := 46) rfl ?_
      refine tw_icmp_ne dX2_readPunch_46 (t := 55) (by decide) (n := 49) rfl ?_ ?_
      · refine x_bipush 16 dX2_readPunch_55 rfl (n := 57) rfl ?_
        refine x_iload_n 2 dX2_readPunch_57 rfl rfl (n := 58) rfl ?_
        refine x_imul dX2_readPunch_58 (n := 59) rfl ?_
        refine x_iload_n 0 dX2_readPunch_59 rfl rfl (n := 60) rfl ?_
        refine x_iadd dX2_readPunch_60 (n := 61) rfl ?_
        refine tw_nm (fun x4 => ?_)
        refine x_istore_n [(3, .int x4), (2, .int x1), (0, .ref E.2.1), (1, .int a1)] dX2_readPunch_61 rfl (by decide) rfl (n := 62) rfl ?_
        refine x_iload_n 1 dX2_readPunch_62 rfl rfl (n := 63) rfl ?_
        refine tw_if_ne dX2_readPunch_63 (t := 78) (by decide) (n := 66) rfl ?_ ?_
        · refine x_aload_nr 2 dX2_readPunch_78 rfl rfl (n := 79) rfl ?_
          refine tw_getA fl_X2_20 rfl (by decide) dX2_readPunch_79 (n := 82) rfl ?_
          refine x_sipush 237 dX2_readPunch_82 rfl (n := 85) rfl ?_
          refine x_iload_n 0 dX2_readPunch_85 rfl rfl (n := 86) rfl ?_
          refine x_iadd dX2_readPunch_86 (n := 87) rfl ?_
          refine x_iconst 1 dX2_readPunch_87 rfl (n := 88) rfl ?_
          refine x_isub dX2_readPunch_88 (n := 89) rfl ?_
          refine tw_iald hE (by decide) dX2_readPunch_89 (n := 90) rfl (fun x5 => ?_)
          refine x_sub [2, 3, 0] [(0, .ref E.2.1), (1, .int a1), (3, .int x4)] rfl ?_
          exact T_readPunch_90_ok hO hE a1 x4 x5 s2
        · refine x_aload_nr 2 dX2_readPunch_66 rfl rfl (n := 67) rfl ?_
          refine tw_getA fl_X2_20 rfl (by decide) dX2_readPunch_67 (n := 70) rfl ?_
          refine x_bipush 47 dX2_readPunch_70 rfl (n := 72) rfl ?_
          refine x_iload_n 3 dX2_readPunch_72 rfl rfl (n := 73) rfl ?_
          refine x_iadd dX2_readPunch_73 (n := 74) rfl ?_
          refine tw_iald hE (by decide) dX2_readPunch_74 (n := 75) rfl (fun x14 => ?_)
          refine x_goto dX2_readPunch_75 (n := 90) (by decide) ?_
          refine x_sub [2, 3, 0] [(0, .ref E.2.1), (1, .int a1), (3, .int x4)] rfl ?_
          exact T_readPunch_90_ok hO hE a1 x4 x14 s2
      · refine x_aload_nr 1 dX2_readPunch_49 rfl rfl (n := 50) rfl ?_
        refine x_iconst 4 dX2_readPunch_50 rfl (n := 51) rfl ?_
        refine tw_callV_I [.int 4] [] (T_errs_ok hO hE s2 4) md_X2_errs q3063 q3065 qs70 dX2_readPunch_51 rfl rfl (by decide) (Nat.le_of_ble_eq_true rfl) (n := 54) rfl (fun x16 s15 => ?_)
        exact tw_zreturn rfl dX2_readPunch_54
    · refine x_aload_nr 1 dX2_readPunch_37 rfl rfl (n := 38) rfl ?_
      refine x_iconst 2 dX2_readPunch_38 rfl (n := 39) rfl ?_
      refine tw_callV_I [.int 2] [] (T_errs_ok hO hE s2 2) md_X2_errs q3063 q3065 qs70 dX2_readPunch_39 rfl rfl (by decide) (Nat.le_of_ble_eq_true rfl) (n := 42) rfl (fun x18 s17 => ?_)
      exact tw_zreturn rfl dX2_readPunch_42
  · refine x_aload_nr 1 dX2_readPunch_18 rfl rfl (n := 19) rfl ?_
    refine x_iconst 1 dX2_readPunch_19 rfl (n := 20) rfl ?_
    refine tw_callV_I [.int 1] [] (T_errs_ok hO hE s0 1) md_X2_errs q3063 q3065 qs70 dX2_readPunch_20 rfl rfl (by decide) (Nat.le_of_ble_eq_true rfl) (n := 23) rfl (fun x20 s19 => ?_)
    exact tw_zreturn rfl dX2_readPunch_23
abbrev cX2_readRunner : ByteArray := prog_14_method_20_code
def yX2_readRunner : MethodName := ⟨RX2, "readRunner", "()Z"⟩
def dkwX2_readRunner_8 : List UInt8 := [167, 255, 223, 42, 180, 0, 20, 4, 92, 46, 4, 96, 79, 4, 172]
abbrev dktX2_readRunner_8 : List UInt8 := dkwX2_readRunner_8 ++ []
def dkwX2_readRunner_7 : List UInt8 := [182, 0, 139, 154, 0, 5, 3, 172, 42, 180, 0, 76, 16, 44, 160, 0, 7, 4, 167, 0, 4, 3, 61]
abbrev dktX2_readRunner_7 : List UInt8 := dkwX2_readRunner_7 ++ dktX2_readRunner_8
def dkwX2_readRunner_6 : List UInt8 := [180, 0, 76, 16, 58, 160, 0, 7, 4, 167, 0, 4, 3, 61, 28, 153, 0, 35, 42, 182, 0, 118, 42, 27]
abbrev dktX2_readRunner_6 : List UInt8 := dkwX2_readRunner_6 ++ dktX2_readRunner_7
def dkwX2_readRunner_5 : List UInt8 := [4, 96, 17, 39, 15, 182, 0, 136, 154, 0, 5, 3, 172, 42, 180, 0, 20, 16, 67, 27, 96, 3, 79, 42]
abbrev dktX2_readRunner_5 : List UInt8 := dkwX2_readRunner_5 ++ dktX2_readRunner_6
def dkwX2_readRunner_4 : List UInt8 := [3, 17, 39, 14, 182, 0, 136, 153, 0, 28, 42, 16, 57, 27, 96, 42, 180, 0, 20, 16, 47, 27, 96, 46]
abbrev dktX2_readRunner_4 : List UInt8 := dkwX2_readRunner_4 ++ dktX2_readRunner_5
def dkwX2_readRunner_3 : List UInt8 := [16, 37, 27, 96, 46, 2, 160, 0, 9, 42, 6, 182, 0, 125, 172, 42, 182, 0, 118, 42, 16, 47, 27, 96]
abbrev dktX2_readRunner_3 : List UInt8 := dkwX2_readRunner_3 ++ dktX2_readRunner_4
def dkwX2_readRunner_2 : List UInt8 := [180, 0, 20, 16, 37, 27, 96, 42, 3, 42, 180, 0, 20, 3, 46, 182, 0, 129, 79, 42, 180, 0, 20]
abbrev dktX2_readRunner_2 : List UInt8 := dkwX2_readRunner_2 ++ dktX2_readRunner_3
def dkwX2_readRunner_1 : List UInt8 := [182, 0, 133, 154, 0, 5, 3, 172, 42, 182, 0, 121, 154, 0, 9, 42, 4, 182, 0, 125, 172, 42]
abbrev dktX2_readRunner_1 : List UInt8 := dkwX2_readRunner_1 ++ dktX2_readRunner_2
def dkwX2_readRunner_0 : List UInt8 := [42, 180, 0, 20, 4, 46, 60, 27, 16, 10, 160, 0, 9, 42, 7, 182, 0, 125, 172, 42, 6, 27, 96]
abbrev dktX2_readRunner_0 : List UInt8 := dkwX2_readRunner_0 ++ dktX2_readRunner_1
theorem dksX2_readRunner_0 : cX2_readRunner.data.toList.drop 0 = dktX2_readRunner_0 := by decide +kernel
theorem dksX2_readRunner_1 : cX2_readRunner.data.toList.drop 23 = dktX2_readRunner_1 := dk_seg dksX2_readRunner_0 23 rfl rfl
theorem dksX2_readRunner_2 : cX2_readRunner.data.toList.drop 45 = dktX2_readRunner_2 := dk_seg dksX2_readRunner_1 22 rfl rfl
theorem dksX2_readRunner_3 : cX2_readRunner.data.toList.drop 68 = dktX2_readRunner_3 := dk_seg dksX2_readRunner_2 23 rfl rfl
theorem dksX2_readRunner_4 : cX2_readRunner.data.toList.drop 92 = dktX2_readRunner_4 := dk_seg dksX2_readRunner_3 24 rfl rfl
theorem dksX2_readRunner_5 : cX2_readRunner.data.toList.drop 116 = dktX2_readRunner_5 := dk_seg dksX2_readRunner_4 24 rfl rfl
theorem dksX2_readRunner_6 : cX2_readRunner.data.toList.drop 140 = dktX2_readRunner_6 := dk_seg dksX2_readRunner_5 24 rfl rfl
theorem dksX2_readRunner_7 : cX2_readRunner.data.toList.drop 164 = dktX2_readRunner_7 := dk_seg dksX2_readRunner_6 24 rfl rfl
theorem dksX2_readRunner_8 : cX2_readRunner.data.toList.drop 187 = dktX2_readRunner_8 := dk_seg dksX2_readRunner_7 23 rfl rfl
theorem dX2_readRunner_0 : decode cX2_readRunner 0 = .ok (.aload_n 0, 1) := dk_42 (dk_at dksX2_readRunner_0 0 rfl rfl)
theorem dX2_readRunner_1 : decode cX2_readRunner 1 = .ok (.getfield 20, 3) := dk_180 0 20 (dk_at dksX2_readRunner_0 1 rfl rfl)
theorem dX2_readRunner_4 : decode cX2_readRunner 4 = .ok (.iconst 1, 1) := dk_4 (dk_at dksX2_readRunner_0 4 rfl rfl)
theorem dX2_readRunner_5 : decode cX2_readRunner 5 = .ok (.iaload, 1) := dk_46 (dk_at dksX2_readRunner_0 5 rfl rfl)
theorem dX2_readRunner_6 : decode cX2_readRunner 6 = .ok (.istore_n 1, 1) := dk_60 (dk_at dksX2_readRunner_0 6 rfl rfl)
theorem dX2_readRunner_7 : decode cX2_readRunner 7 = .ok (.iload_n 1, 1) := dk_27 (dk_at dksX2_readRunner_0 7 rfl rfl)
theorem dX2_readRunner_8 : decode cX2_readRunner 8 = .ok (.bipush 10, 2) := dk_16 10 (dk_at dksX2_readRunner_0 8 rfl rfl)
theorem dX2_readRunner_10 : decode cX2_readRunner 10 = .ok (.if_icmp .ne 9, 3) := dk_160 0 9 (dk_at dksX2_readRunner_0 10 rfl rfl)
theorem dX2_readRunner_13 : decode cX2_readRunner 13 = .ok (.aload_n 0, 1) := dk_42 (dk_at dksX2_readRunner_0 13 rfl rfl)
theorem dX2_readRunner_14 : decode cX2_readRunner 14 = .ok (.iconst 4, 1) := dk_7 (dk_at dksX2_readRunner_0 14 rfl rfl)
theorem dX2_readRunner_15 : decode cX2_readRunner 15 = .ok (.invokevirtual 125, 3) := dk_182 0 125 (dk_at dksX2_readRunner_0 15 rfl rfl)
theorem dX2_readRunner_18 : decode cX2_readRunner 18 = .ok (.ireturn, 1) := dk_172 (dk_at dksX2_readRunner_0 18 rfl rfl)
theorem dX2_readRunner_19 : decode cX2_readRunner 19 = .ok (.aload_n 0, 1) := dk_42 (dk_at dksX2_readRunner_0 19 rfl rfl)
theorem dX2_readRunner_20 : decode cX2_readRunner 20 = .ok (.iconst 3, 1) := dk_6 (dk_at dksX2_readRunner_0 20 rfl rfl)
theorem dX2_readRunner_21 : decode cX2_readRunner 21 = .ok (.iload_n 1, 1) := dk_27 (dk_at dksX2_readRunner_0 21 rfl rfl)
theorem dX2_readRunner_22 : decode cX2_readRunner 22 = .ok (.iadd, 1) := dk_96 (dk_at dksX2_readRunner_0 22 rfl rfl)
theorem dX2_readRunner_23 : decode cX2_readRunner 23 = .ok (.invokevirtual 133, 3) := dk_182 0 133 (dk_at dksX2_readRunner_1 0 rfl rfl)
theorem dX2_readRunner_26 : decode cX2_readRunner 26 = .ok (.ifCond .ne 5, 3) := dk_154 0 5 (dk_at dksX2_readRunner_1 3 rfl rfl)
theorem dX2_readRunner_29 : decode cX2_readRunner 29 = .ok (.iconst 0, 1) := dk_3 (dk_at dksX2_readRunner_1 6 rfl rfl)
theorem dX2_readRunner_30 : decode cX2_readRunner 30 = .ok (.ireturn, 1) := dk_172 (dk_at dksX2_readRunner_1 7 rfl rfl)
theorem dX2_readRunner_31 : decode cX2_readRunner 31 = .ok (.aload_n 0, 1) := dk_42 (dk_at dksX2_readRunner_1 8 rfl rfl)
theorem dX2_readRunner_32 : decode cX2_readRunner 32 = .ok (.invokevirtual 121, 3) := dk_182 0 121 (dk_at dksX2_readRunner_1 9 rfl rfl)
theorem dX2_readRunner_35 : decode cX2_readRunner 35 = .ok (.ifCond .ne 9, 3) := dk_154 0 9 (dk_at dksX2_readRunner_1 12 rfl rfl)
theorem dX2_readRunner_38 : decode cX2_readRunner 38 = .ok (.aload_n 0, 1) := dk_42 (dk_at dksX2_readRunner_1 15 rfl rfl)
theorem dX2_readRunner_39 : decode cX2_readRunner 39 = .ok (.iconst 1, 1) := dk_4 (dk_at dksX2_readRunner_1 16 rfl rfl)
theorem dX2_readRunner_40 : decode cX2_readRunner 40 = .ok (.invokevirtual 125, 3) := dk_182 0 125 (dk_at dksX2_readRunner_1 17 rfl rfl)
theorem dX2_readRunner_43 : decode cX2_readRunner 43 = .ok (.ireturn, 1) := dk_172 (dk_at dksX2_readRunner_1 20 rfl rfl)
theorem dX2_readRunner_44 : decode cX2_readRunner 44 = .ok (.aload_n 0, 1) := dk_42 (dk_at dksX2_readRunner_1 21 rfl rfl)
theorem dX2_readRunner_45 : decode cX2_readRunner 45 = .ok (.getfield 20, 3) := dk_180 0 20 (dk_at dksX2_readRunner_2 0 rfl rfl)
theorem dX2_readRunner_48 : decode cX2_readRunner 48 = .ok (.bipush 37, 2) := dk_16 37 (dk_at dksX2_readRunner_2 3 rfl rfl)
theorem dX2_readRunner_50 : decode cX2_readRunner 50 = .ok (.iload_n 1, 1) := dk_27 (dk_at dksX2_readRunner_2 5 rfl rfl)
theorem dX2_readRunner_51 : decode cX2_readRunner 51 = .ok (.iadd, 1) := dk_96 (dk_at dksX2_readRunner_2 6 rfl rfl)
theorem dX2_readRunner_52 : decode cX2_readRunner 52 = .ok (.aload_n 0, 1) := dk_42 (dk_at dksX2_readRunner_2 7 rfl rfl)
theorem dX2_readRunner_53 : decode cX2_readRunner 53 = .ok (.iconst 0, 1) := dk_3 (dk_at dksX2_readRunner_2 8 rfl rfl)
theorem dX2_readRunner_54 : decode cX2_readRunner 54 = .ok (.aload_n 0, 1) := dk_42 (dk_at dksX2_readRunner_2 9 rfl rfl)
theorem dX2_readRunner_55 : decode cX2_readRunner 55 = .ok (.getfield 20, 3) := dk_180 0 20 (dk_at dksX2_readRunner_2 10 rfl rfl)
theorem dX2_readRunner_58 : decode cX2_readRunner 58 = .ok (.iconst 0, 1) := dk_3 (dk_at dksX2_readRunner_2 13 rfl rfl)
theorem dX2_readRunner_59 : decode cX2_readRunner 59 = .ok (.iaload, 1) := dk_46 (dk_at dksX2_readRunner_2 14 rfl rfl)
theorem dX2_readRunner_60 : decode cX2_readRunner 60 = .ok (.invokevirtual 129, 3) := dk_182 0 129 (dk_at dksX2_readRunner_2 15 rfl rfl)
theorem dX2_readRunner_63 : decode cX2_readRunner 63 = .ok (.iastore, 1) := dk_79 (dk_at dksX2_readRunner_2 18 rfl rfl)
theorem dX2_readRunner_64 : decode cX2_readRunner 64 = .ok (.aload_n 0, 1) := dk_42 (dk_at dksX2_readRunner_2 19 rfl rfl)
theorem dX2_readRunner_65 : decode cX2_readRunner 65 = .ok (.getfield 20, 3) := dk_180 0 20 (dk_at dksX2_readRunner_2 20 rfl rfl)
theorem dX2_readRunner_68 : decode cX2_readRunner 68 = .ok (.bipush 37, 2) := dk_16 37 (dk_at dksX2_readRunner_3 0 rfl rfl)
theorem dX2_readRunner_70 : decode cX2_readRunner 70 = .ok (.iload_n 1, 1) := dk_27 (dk_at dksX2_readRunner_3 2 rfl rfl)
theorem dX2_readRunner_71 : decode cX2_readRunner 71 = .ok (.iadd, 1) := dk_96 (dk_at dksX2_readRunner_3 3 rfl rfl)
theorem dX2_readRunner_72 : decode cX2_readRunner 72 = .ok (.iaload, 1) := dk_46 (dk_at dksX2_readRunner_3 4 rfl rfl)
theorem dX2_readRunner_73 : decode cX2_readRunner 73 = .ok (.iconst (-1), 1) := dk_2 (dk_at dksX2_readRunner_3 5 rfl rfl)
theorem dX2_readRunner_74 : decode cX2_readRunner 74 = .ok (.if_icmp .ne 9, 3) := dk_160 0 9 (dk_at dksX2_readRunner_3 6 rfl rfl)
theorem dX2_readRunner_77 : decode cX2_readRunner 77 = .ok (.aload_n 0, 1) := dk_42 (dk_at dksX2_readRunner_3 9 rfl rfl)
theorem dX2_readRunner_78 : decode cX2_readRunner 78 = .ok (.iconst 3, 1) := dk_6 (dk_at dksX2_readRunner_3 10 rfl rfl)
theorem dX2_readRunner_79 : decode cX2_readRunner 79 = .ok (.invokevirtual 125, 3) := dk_182 0 125 (dk_at dksX2_readRunner_3 11 rfl rfl)
theorem dX2_readRunner_82 : decode cX2_readRunner 82 = .ok (.ireturn, 1) := dk_172 (dk_at dksX2_readRunner_3 14 rfl rfl)
theorem dX2_readRunner_83 : decode cX2_readRunner 83 = .ok (.aload_n 0, 1) := dk_42 (dk_at dksX2_readRunner_3 15 rfl rfl)
theorem dX2_readRunner_84 : decode cX2_readRunner 84 = .ok (.invokevirtual 118, 3) := dk_182 0 118 (dk_at dksX2_readRunner_3 16 rfl rfl)
theorem dX2_readRunner_87 : decode cX2_readRunner 87 = .ok (.aload_n 0, 1) := dk_42 (dk_at dksX2_readRunner_3 19 rfl rfl)
theorem dX2_readRunner_88 : decode cX2_readRunner 88 = .ok (.bipush 47, 2) := dk_16 47 (dk_at dksX2_readRunner_3 20 rfl rfl)
theorem dX2_readRunner_90 : decode cX2_readRunner 90 = .ok (.iload_n 1, 1) := dk_27 (dk_at dksX2_readRunner_3 22 rfl rfl)
theorem dX2_readRunner_91 : decode cX2_readRunner 91 = .ok (.iadd, 1) := dk_96 (dk_at dksX2_readRunner_3 23 rfl rfl)
theorem dX2_readRunner_92 : decode cX2_readRunner 92 = .ok (.iconst 0, 1) := dk_3 (dk_at dksX2_readRunner_4 0 rfl rfl)
theorem dX2_readRunner_93 : decode cX2_readRunner 93 = .ok (.sipush 9998, 3) := dk_17 39 14 (dk_at dksX2_readRunner_4 1 rfl rfl)
theorem dX2_readRunner_96 : decode cX2_readRunner 96 = .ok (.invokevirtual 136, 3) := dk_182 0 136 (dk_at dksX2_readRunner_4 4 rfl rfl)
theorem dX2_readRunner_99 : decode cX2_readRunner 99 = .ok (.ifCond .eq 28, 3) := dk_153 0 28 (dk_at dksX2_readRunner_4 7 rfl rfl)
theorem dX2_readRunner_102 : decode cX2_readRunner 102 = .ok (.aload_n 0, 1) := dk_42 (dk_at dksX2_readRunner_4 10 rfl rfl)
theorem dX2_readRunner_103 : decode cX2_readRunner 103 = .ok (.bipush 57, 2) := dk_16 57 (dk_at dksX2_readRunner_4 11 rfl rfl)
theorem dX2_readRunner_105 : decode cX2_readRunner 105 = .ok (.iload_n 1, 1) := dk_27 (dk_at dksX2_readRunner_4 13 rfl rfl)
theorem dX2_readRunner_106 : decode cX2_readRunner 106 = .ok (.iadd, 1) := dk_96 (dk_at dksX2_readRunner_4 14 rfl rfl)
theorem dX2_readRunner_107 : decode cX2_readRunner 107 = .ok (.aload_n 0, 1) := dk_42 (dk_at dksX2_readRunner_4 15 rfl rfl)
theorem dX2_readRunner_108 : decode cX2_readRunner 108 = .ok (.getfield 20, 3) := dk_180 0 20 (dk_at dksX2_readRunner_4 16 rfl rfl)
theorem dX2_readRunner_111 : decode cX2_readRunner 111 = .ok (.bipush 47, 2) := dk_16 47 (dk_at dksX2_readRunner_4 19 rfl rfl)
theorem dX2_readRunner_113 : decode cX2_readRunner 113 = .ok (.iload_n 1, 1) := dk_27 (dk_at dksX2_readRunner_4 21 rfl rfl)
theorem dX2_readRunner_114 : decode cX2_readRunner 114 = .ok (.iadd, 1) := dk_96 (dk_at dksX2_readRunner_4 22 rfl rfl)
theorem dX2_readRunner_115 : decode cX2_readRunner 115 = .ok (.iaload, 1) := dk_46 (dk_at dksX2_readRunner_4 23 rfl rfl)
theorem dX2_readRunner_116 : decode cX2_readRunner 116 = .ok (.iconst 1, 1) := dk_4 (dk_at dksX2_readRunner_5 0 rfl rfl)
theorem dX2_readRunner_117 : decode cX2_readRunner 117 = .ok (.iadd, 1) := dk_96 (dk_at dksX2_readRunner_5 1 rfl rfl)
theorem dX2_readRunner_118 : decode cX2_readRunner 118 = .ok (.sipush 9999, 3) := dk_17 39 15 (dk_at dksX2_readRunner_5 2 rfl rfl)
theorem dX2_readRunner_121 : decode cX2_readRunner 121 = .ok (.invokevirtual 136, 3) := dk_182 0 136 (dk_at dksX2_readRunner_5 5 rfl rfl)
theorem dX2_readRunner_124 : decode cX2_readRunner 124 = .ok (.ifCond .ne 5, 3) := dk_154 0 5 (dk_at dksX2_readRunner_5 8 rfl rfl)
theorem dX2_readRunner_127 : decode cX2_readRunner 127 = .ok (.iconst 0, 1) := dk_3 (dk_at dksX2_readRunner_5 11 rfl rfl)
theorem dX2_readRunner_128 : decode cX2_readRunner 128 = .ok (.ireturn, 1) := dk_172 (dk_at dksX2_readRunner_5 12 rfl rfl)
theorem dX2_readRunner_129 : decode cX2_readRunner 129 = .ok (.aload_n 0, 1) := dk_42 (dk_at dksX2_readRunner_5 13 rfl rfl)
theorem dX2_readRunner_130 : decode cX2_readRunner 130 = .ok (.getfield 20, 3) := dk_180 0 20 (dk_at dksX2_readRunner_5 14 rfl rfl)
theorem dX2_readRunner_133 : decode cX2_readRunner 133 = .ok (.bipush 67, 2) := dk_16 67 (dk_at dksX2_readRunner_5 17 rfl rfl)
theorem dX2_readRunner_135 : decode cX2_readRunner 135 = .ok (.iload_n 1, 1) := dk_27 (dk_at dksX2_readRunner_5 19 rfl rfl)
theorem dX2_readRunner_136 : decode cX2_readRunner 136 = .ok (.iadd, 1) := dk_96 (dk_at dksX2_readRunner_5 20 rfl rfl)
theorem dX2_readRunner_137 : decode cX2_readRunner 137 = .ok (.iconst 0, 1) := dk_3 (dk_at dksX2_readRunner_5 21 rfl rfl)
theorem dX2_readRunner_138 : decode cX2_readRunner 138 = .ok (.iastore, 1) := dk_79 (dk_at dksX2_readRunner_5 22 rfl rfl)
theorem dX2_readRunner_139 : decode cX2_readRunner 139 = .ok (.aload_n 0, 1) := dk_42 (dk_at dksX2_readRunner_5 23 rfl rfl)
theorem dX2_readRunner_140 : decode cX2_readRunner 140 = .ok (.getfield 76, 3) := dk_180 0 76 (dk_at dksX2_readRunner_6 0 rfl rfl)
theorem dX2_readRunner_143 : decode cX2_readRunner 143 = .ok (.bipush 58, 2) := dk_16 58 (dk_at dksX2_readRunner_6 3 rfl rfl)
theorem dX2_readRunner_145 : decode cX2_readRunner 145 = .ok (.if_icmp .ne 7, 3) := dk_160 0 7 (dk_at dksX2_readRunner_6 5 rfl rfl)
theorem dX2_readRunner_148 : decode cX2_readRunner 148 = .ok (.iconst 1, 1) := dk_4 (dk_at dksX2_readRunner_6 8 rfl rfl)
theorem dX2_readRunner_149 : decode cX2_readRunner 149 = .ok (.goto 4, 3) := dk_167 0 4 (dk_at dksX2_readRunner_6 9 rfl rfl)
theorem dX2_readRunner_152 : decode cX2_readRunner 152 = .ok (.iconst 0, 1) := dk_3 (dk_at dksX2_readRunner_6 12 rfl rfl)
theorem dX2_readRunner_153 : decode cX2_readRunner 153 = .ok (.istore_n 2, 1) := dk_61 (dk_at dksX2_readRunner_6 13 rfl rfl)
theorem dX2_readRunner_154 : decode cX2_readRunner 154 = .ok (.iload_n 2, 1) := dk_28 (dk_at dksX2_readRunner_6 14 rfl rfl)
theorem dX2_readRunner_155 : decode cX2_readRunner 155 = .ok (.ifCond .eq 35, 3) := dk_153 0 35 (dk_at dksX2_readRunner_6 15 rfl rfl)
theorem dX2_readRunner_158 : decode cX2_readRunner 158 = .ok (.aload_n 0, 1) := dk_42 (dk_at dksX2_readRunner_6 18 rfl rfl)
theorem dX2_readRunner_159 : decode cX2_readRunner 159 = .ok (.invokevirtual 118, 3) := dk_182 0 118 (dk_at dksX2_readRunner_6 19 rfl rfl)
theorem dX2_readRunner_162 : decode cX2_readRunner 162 = .ok (.aload_n 0, 1) := dk_42 (dk_at dksX2_readRunner_6 22 rfl rfl)
theorem dX2_readRunner_163 : decode cX2_readRunner 163 = .ok (.iload_n 1, 1) := dk_27 (dk_at dksX2_readRunner_6 23 rfl rfl)
theorem dX2_readRunner_164 : decode cX2_readRunner 164 = .ok (.invokevirtual 139, 3) := dk_182 0 139 (dk_at dksX2_readRunner_7 0 rfl rfl)
theorem dX2_readRunner_167 : decode cX2_readRunner 167 = .ok (.ifCond .ne 5, 3) := dk_154 0 5 (dk_at dksX2_readRunner_7 3 rfl rfl)
theorem dX2_readRunner_170 : decode cX2_readRunner 170 = .ok (.iconst 0, 1) := dk_3 (dk_at dksX2_readRunner_7 6 rfl rfl)
theorem dX2_readRunner_171 : decode cX2_readRunner 171 = .ok (.ireturn, 1) := dk_172 (dk_at dksX2_readRunner_7 7 rfl rfl)
theorem dX2_readRunner_172 : decode cX2_readRunner 172 = .ok (.aload_n 0, 1) := dk_42 (dk_at dksX2_readRunner_7 8 rfl rfl)
theorem dX2_readRunner_173 : decode cX2_readRunner 173 = .ok (.getfield 76, 3) := dk_180 0 76 (dk_at dksX2_readRunner_7 9 rfl rfl)
theorem dX2_readRunner_176 : decode cX2_readRunner 176 = .ok (.bipush 44, 2) := dk_16 44 (dk_at dksX2_readRunner_7 12 rfl rfl)
theorem dX2_readRunner_178 : decode cX2_readRunner 178 = .ok (.if_icmp .ne 7, 3) := dk_160 0 7 (dk_at dksX2_readRunner_7 14 rfl rfl)
theorem dX2_readRunner_181 : decode cX2_readRunner 181 = .ok (.iconst 1, 1) := dk_4 (dk_at dksX2_readRunner_7 17 rfl rfl)
theorem dX2_readRunner_182 : decode cX2_readRunner 182 = .ok (.goto 4, 3) := dk_167 0 4 (dk_at dksX2_readRunner_7 18 rfl rfl)
theorem dX2_readRunner_185 : decode cX2_readRunner 185 = .ok (.iconst 0, 1) := dk_3 (dk_at dksX2_readRunner_7 21 rfl rfl)
theorem dX2_readRunner_186 : decode cX2_readRunner 186 = .ok (.istore_n 2, 1) := dk_61 (dk_at dksX2_readRunner_7 22 rfl rfl)
theorem dX2_readRunner_187 : decode cX2_readRunner 187 = .ok (.goto (-33), 3) := dk_167 255 223 (dk_at dksX2_readRunner_8 0 rfl rfl)
theorem dX2_readRunner_190 : decode cX2_readRunner 190 = .ok (.aload_n 0, 1) := dk_42 (dk_at dksX2_readRunner_8 3 rfl rfl)
theorem dX2_readRunner_191 : decode cX2_readRunner 191 = .ok (.getfield 20, 3) := dk_180 0 20 (dk_at dksX2_readRunner_8 4 rfl rfl)
theorem dX2_readRunner_194 : decode cX2_readRunner 194 = .ok (.iconst 1, 1) := dk_4 (dk_at dksX2_readRunner_8 7 rfl rfl)
theorem dX2_readRunner_195 : decode cX2_readRunner 195 = .ok (.dup2, 1) := dk_92 (dk_at dksX2_readRunner_8 8 rfl rfl)
theorem dX2_readRunner_196 : decode cX2_readRunner 196 = .ok (.iaload, 1) := dk_46 (dk_at dksX2_readRunner_8 9 rfl rfl)
theorem dX2_readRunner_197 : decode cX2_readRunner 197 = .ok (.iconst 1, 1) := dk_4 (dk_at dksX2_readRunner_8 10 rfl rfl)
theorem dX2_readRunner_198 : decode cX2_readRunner 198 = .ok (.iadd, 1) := dk_96 (dk_at dksX2_readRunner_8 11 rfl rfl)
theorem dX2_readRunner_199 : decode cX2_readRunner 199 = .ok (.iastore, 1) := dk_79 (dk_at dksX2_readRunner_8 12 rfl rfl)
theorem dX2_readRunner_200 : decode cX2_readRunner 200 = .ok (.iconst 1, 1) := dk_4 (dk_at dksX2_readRunner_8 13 rfl rfl)
theorem dX2_readRunner_201 : decode cX2_readRunner 201 = .ok (.ireturn, 1) := dk_172 (dk_at dksX2_readRunner_8 14 rfl rfl)
theorem md_X2_readRunner : xMd yX2_readRunner cX2_readRunner 3 (Option.some Jvm.ClassFile.FieldType.boolean) 0 := ⟨q3089, q126, by decide, by decide +kernel, by decide +kernel, by decide +kernel⟩
def T_readRunner_186  (k154 : Int32 × Int32 × TS → Option (xO × TS)) (v1 : Int32) (w0 : Int32) (s0 : TS) : Option (xO × TS) :=
  (k154 (v1, w0, s0))
def T_readRunner_154F   (k154 : Int32 × Int32 × TS → Option (xO × TS)) (p : Int32 × Int32 × TS) : Option (xO × TS) := match p with
  | (v1, v2, s0) => (if v2 = 0 then
  (tald s0 8 1 fun x18 =>
  (tast s0 8 1 (x18 + 1) fun s19 =>
  (if vp_nar .boolean 1 = 1 then rI 1 s19 else none))) else
  (xcV (T_goesOn s0 ) fun s20 =>
  (xcI (T_readPunch s20 v1) fun x22 s21 =>
  (if x22 = 0 then
  (if vp_nar .boolean 0 = 0 then rI 0 s21 else none) else
  (if (s21.1 14) = 44 then
  (T_readRunner_186 k154 v1 1 s21) else
  (T_readRunner_186 k154 v1 0 s21))))))
def T_readRunner_153   (v1 : Int32) (w0 : Int32) (s0 : TS) : Option (xO × TS) :=
  (lp (T_readRunner_154F) FU (v1, w0, s0))
def T_readRunner (s0 : TS)  : Option (xO × TS) :=
  (tald s0 8 1 fun x1 =>
  (if x1 = 10 then
  (xcI (T_errs s0 4) fun x28 s27 =>
  (if vp_nar .boolean x28 = x28 then rI x28 s27 else none)) else
  (xcI (T_takesName s0 (3 + x1)) fun x3 s2 =>
  (if x3 = 0 then
  (if vp_nar .boolean 0 = 0 then rI 0 s2 else none) else
  (xcI (T_isName s2 ) fun x5 s4 =>
  (if x5 = 0 then
  (xcI (T_errs s4 1) fun x26 s25 =>
  (if vp_nar .boolean x26 = x26 then rI x26 s25 else none)) else
  (tald s4 8 0 fun x6 =>
  (xcI (T_namedHere s4 0 x6) fun x8 s7 =>
  (tast s7 8 (37 + x1) x8 fun s9 =>
  (tald s9 8 (37 + x1) fun x10 =>
  (if x10 = (-1) then
  (xcI (T_errs s9 3) fun x24 s23 =>
  (if vp_nar .boolean x24 = x24 then rI x24 s23 else none)) else
  (xcV (T_goesOn s9 ) fun s11 =>
  (xcI (T_takes s11 (47 + x1) 0 9998) fun x13 s12 =>
  (if x13 = 0 then
  (if vp_nar .boolean 0 = 0 then rI 0 s12 else none) else
  (tald s12 8 (47 + x1) fun x14 =>
  (xcI (T_takes s12 (57 + x1) (x14 + 1) 9999) fun x16 s15 =>
  (if x16 = 0 then
  (if vp_nar .boolean 0 = 0 then rI 0 s15 else none) else
  (tast s15 8 (67 + x1) 0 fun s17 =>
  (if (s17.1 14) = 58 then
  (T_readRunner_153 x1 1 s17) else
  (T_readRunner_153 x1 0 s17))))))))))))))))))))
theorem T_readRunner_186_ok {G : xG} {E : TE} (hO : xOK G) (hE : tok E)  {k154 : Int32 × Int32 × TS → Option (xO × TS)} (hk154 : ∀ (v1 : Int32) (v2 : Int32) (s0 : TS), XT G E "ForestLegsModel" "readRunner" cX2_readRunner 3 (Option.some Jvm.ClassFile.FieldType.boolean) 7 154 [(0, .ref E.2.1), (1, .int v1), (2, .int v2)] [] s0 (k154 (v1, v2, s0))) (v1 : Int32) (w0 : Int32) (s0 : TS) : XT G E "ForestLegsModel" "readRunner" cX2_readRunner 3 (Option.some Jvm.ClassFile.FieldType.boolean) 7 186 [(0, .ref E.2.1), (1, .int v1)] [.int w0] s0 (T_readRunner_186 k154 v1 w0 s0) := by
  unfold T_readRunner_186
  refine x_istore_n [(2, .int w0), (0, .ref E.2.1), (1, .int v1)] dX2_readRunner_186 rfl (by decide) rfl (n := 187) rfl ?_
  refine x_goto dX2_readRunner_187 (n := 154) (by decide) ?_
  refine x_sub [1, 2, 0] [(0, .ref E.2.1), (1, .int v1), (2, .int w0)] rfl ?_
  exact hk154 v1 w0 s0
theorem T_readRunner_154F_ok {G : xG} {E : TE} (hO : xOK G) (hE : tok E)   {k154 : Int32 × Int32 × TS → Option (xO × TS)} (hk154 : ∀ (v1 : Int32) (v2 : Int32) (s0 : TS), XT G E "ForestLegsModel" "readRunner" cX2_readRunner 3 (Option.some Jvm.ClassFile.FieldType.boolean) 7 154 [(0, .ref E.2.1), (1, .int v1), (2, .int v2)] [] s0 (k154 (v1, v2, s0))) (v1 : Int32) (v2 : Int32) (s0 : TS) : XT G E "ForestLegsModel" "readRunner" cX2_readRunner 3 (Option.some Jvm.ClassFile.FieldType.boolean) 7 154 [(0, .ref E.2.1), (1, .int v1), (2, .int v2)] [] s0 (T_readRunner_154F k154 (v1, v2, s0)) := by
  unfold T_readRunner_154F
  refine x_iload_n 2 dX2_readRunner_154 rfl rfl (n := 155) rfl ?_
  refine tw_if_eq dX2_readRunner_155 (t := 190) (by decide) (n := 158) rfl ?_ ?_
  · refine x_aload_nr 0 dX2_readRunner_190 rfl rfl (n := 191) rfl ?_
    refine tw_getA fl_X2_20 rfl (by decide) dX2_readRunner_191 (n := 194) rfl ?_
    refine x_iconst 1 dX2_readRunner_194 rfl (n := 195) rfl ?_
    refine x_dup2 dX2_readRunner_195 rfl rfl (n := 196) rfl ?_
    refine tw_iald hE (by decide) dX2_readRunner_196 (n := 197) rfl (fun x18 => ?_)
    refine x_iconst 1 dX2_readRunner_197 rfl (n := 198) rfl ?_
    refine x_iadd dX2_readRunner_198 (n := 199) rfl ?_
    refine tw_iast hE (by decide) dX2_readRunner_199 (n := 200) rfl (fun s19 => ?_)
    refine x_iconst 1 dX2_readRunner_200 rfl (n := 201) rfl ?_
    exact tw_zreturn rfl dX2_readRunner_201
  · refine x_aload_nr 0 dX2_readRunner_158 rfl rfl (n := 159) rfl ?_
    refine tw_callV_V [] [] (T_goesOn_ok hO hE s0 ) md_X2_goesOn q3030 q3032 qs65 dX2_readRunner_159 rfl rfl (by decide) (Nat.le_of_ble_eq_true rfl) (n := 162) rfl (fun s20 => ?_)
    refine x_aload_nr 0 dX2_readRunner_162 rfl rfl (n := 163) rfl ?_
    refine x_iload_n 1 dX2_readRunner_163 rfl rfl (n := 164) rfl ?_
    refine tw_callV_I [.int v1] [] (T_readPunch_ok hO hE s20 v1) md_X2_readPunch q3094 q3096 qs77 dX2_readRunner_164 rfl rfl (by decide) (Nat.le_of_ble_eq_true rfl) (n := 167) rfl (fun x22 s21 => ?_)
    refine tw_if_ne dX2_readRunner_167 (t := 172) (by decide) (n := 170) rfl ?_ ?_
    · refine x_aload_nr 0 dX2_readRunner_172 rfl rfl (n := 173) rfl ?_
      refine tw_getI fl_X2_76 rfl (by decide) dX2_readRunner_173 (n := 176) rfl ?_
      refine x_bipush 44 dX2_readRunner_176 rfl (n := 178) rfl ?_
      refine tw_icmp_ne dX2_readRunner_178 (t := 185) (by decide) (n := 181) rfl ?_ ?_
      · refine x_iconst 0 dX2_readRunner_185 rfl (n := 186) rfl ?_
        refine x_sub [0, 1] [(0, .ref E.2.1), (1, .int v1)] rfl ?_
        exact T_readRunner_186_ok hO hE hk154 v1 0 s21
      · refine x_iconst 1 dX2_readRunner_181 rfl (n := 182) rfl ?_
        refine x_goto dX2_readRunner_182 (n := 186) (by decide) ?_
        refine x_sub [0, 1] [(0, .ref E.2.1), (1, .int v1)] rfl ?_
        exact T_readRunner_186_ok hO hE hk154 v1 1 s21
    · refine x_iconst 0 dX2_readRunner_170 rfl (n := 171) rfl ?_
      exact tw_zreturn rfl dX2_readRunner_171
theorem T_readRunner_154_lp {G : xG} {E : TE} (hO : xOK G) (hE : tok E)   (n : Nat) (v1 : Int32) (v2 : Int32) (s0 : TS) : XT G E "ForestLegsModel" "readRunner" cX2_readRunner 3 (Option.some Jvm.ClassFile.FieldType.boolean) 7 154 [(0, .ref E.2.1), (1, .int v1), (2, .int v2)] [] s0 (lp (T_readRunner_154F) n (v1, v2, s0)) :=
  lp_ok (W := fun p K => XT G E "ForestLegsModel" "readRunner" cX2_readRunner 3 (Option.some Jvm.ClassFile.FieldType.boolean) 7 154 [(0, .ref E.2.1), (1, .int p.1), (2, .int p.2.1)] [] p.2.2 K) (fun _ => tw_no) (fun k hk => fun (v1, v2, s0) => T_readRunner_154F_ok hO hE (fun v1 v2 s0 => hk (v1, v2, s0)) v1 v2 s0) n (v1, v2, s0)
theorem T_readRunner_153_ok {G : xG} {E : TE} (hO : xOK G) (hE : tok E)   (v1 : Int32) (w0 : Int32) (s0 : TS) : XT G E "ForestLegsModel" "readRunner" cX2_readRunner 3 (Option.some Jvm.ClassFile.FieldType.boolean) 7 153 [(0, .ref E.2.1), (1, .int v1)] [.int w0] s0 (T_readRunner_153 v1 w0 s0) := by
  unfold T_readRunner_153
  refine x_istore_n [(2, .int w0), (0, .ref E.2.1), (1, .int v1)] dX2_readRunner_153 rfl (by decide) rfl (n := 154) rfl ?_
  refine x_sub [1, 2, 0] [(0, .ref E.2.1), (1, .int v1), (2, .int w0)] rfl ?_
  exact T_readRunner_154_lp hO hE FU v1 w0 s0
theorem T_readRunner_ok {G : xG} {E : TE} (hO : xOK G) (hE : tok E) (s0 : TS)  : CTT G E 7 yX2_readRunner cX2_readRunner 3 (Option.some Jvm.ClassFile.FieldType.boolean) [.ref E.2.1] s0 (T_readRunner s0 ) := by
  refine CT_of hO (by decide +kernel) (by decide +kernel) (Nat.le_of_ble_eq_true rfl) ?_
  show XT G E "ForestLegsModel" "readRunner" cX2_readRunner 3 (Option.some Jvm.ClassFile.FieldType.boolean) 7 0 [(0, .ref E.2.1)] [] s0 (T_readRunner s0 )
  refine x_aload_nr 0 dX2_readRunner_0 rfl rfl (n := 1) rfl ?_
  refine tw_getA fl_X2_20 rfl (by decide) dX2_readRunner_1 (n := 4) rfl ?_
  refine x_iconst 1 dX2_readRunner_4 rfl (n := 5) rfl ?_
  refine tw_iald hE (by decide) dX2_readRunner_5 (n := 6) rfl (fun x1 => ?_)
  refine x_istore_n [(1, .int x1), (0, .ref E.2.1)] dX2_readRunner_6 rfl (by decide) rfl (n := 7) rfl ?_
  refine x_iload_n 0 dX2_readRunner_7 rfl rfl (n := 8) rfl ?_
  refine x_bipush 10 dX2_readRunner_8 rfl (n := 10) rfl ?_
  refine tw_icmp_ne dX2_readRunner_10 (t := 19) (by decide) (n := 13) rfl ?_ ?_
  · refine x_aload_nr 1 dX2_readRunner_19 rfl rfl (n := 20) rfl ?_
    refine x_iconst 3 dX2_readRunner_20 rfl (n := 21) rfl ?_
    refine x_iload_n 0 dX2_readRunner_21 rfl rfl (n := 22) rfl ?_
    refine x_iadd dX2_readRunner_22 (n := 23) rfl ?_
    refine tw_callV_I [.int (3 + x1)] [] (T_takesName_ok hO hE s0 (3 + x1)) md_X2_takesName q3067 q3069 qs71 dX2_readRunner_23 rfl rfl (by decide) (Nat.le_of_ble_eq_true rfl) (n := 26) rfl (fun x3 s2 => ?_)
    refine tw_if_ne dX2_readRunner_26 (t := 31) (by decide) (n := 29) rfl ?_ ?_
    · refine x_aload_nr 1 dX2_readRunner_31 rfl rfl (n := 32) rfl ?_
      refine tw_callV_I [] [] (T_isName_ok hO hE s2 ) md_X2_isName q3071 q3073 qs72 dX2_readRunner_32 rfl rfl (by decide) (Nat.le_of_ble_eq_true rfl) (n := 35) rfl (fun x5 s4 => ?_)
      refine tw_if_ne dX2_readRunner_35 (t := 44) (by decide) (n := 38) rfl ?_ ?_
      · refine x_aload_nr 1 dX2_readRunner_44 rfl rfl (n := 45) rfl ?_
        refine tw_getA fl_X2_20 rfl (by decide) dX2_readRunner_45 (n := 48) rfl ?_
        refine x_bipush 37 dX2_readRunner_48 rfl (n := 50) rfl ?_
        refine x_iload_n 0 dX2_readRunner_50 rfl rfl (n := 51) rfl ?_
        refine x_iadd dX2_readRunner_51 (n := 52) rfl ?_
        refine x_aload_nr 1 dX2_readRunner_52 rfl rfl (n := 53) rfl ?_
        refine x_iconst 0 dX2_readRunner_53 rfl (n := 54) rfl ?_
        refine x_aload_nr 1 dX2_readRunner_54 rfl rfl (n := 55) rfl ?_
        refine tw_getA fl_X2_20 rfl (by decide) dX2_readRunner_55 (n := 58) rfl ?_
        refine x_iconst 0 dX2_readRunner_58 rfl (n := 59) rfl ?_
        refine tw_iald hE (by decide) dX2_readRunner_59 (n := 60) rfl (fun x6 => ?_)
        refine tw_callV_I [.int 0, .int x6] [.int (37 + x1), .ref (E.2.2 8)] (T_namedHere_ok hO hE s4 0 x6) md_X2_namedHere q3078 q3080 qs73 dX2_readRunner_60 rfl rfl (by decide) (Nat.le_of_ble_eq_true rfl) (n := 63) rfl (fun x8 s7 => ?_)
        refine tw_iast hE (by decide) dX2_readRunner_63 (n := 64) rfl (fun s9 => ?_)
        refine x_aload_nr 1 dX2_readRunner_64 rfl rfl (n := 65) rfl ?_
        refine tw_getA fl_X2_20 rfl (by decide) dX2_readRunner_65 (n := 68) rfl ?_
        refine x_bipush 37 dX2_readRunner_68 rfl (n := 70) rfl ?_
        refine x_iload_n 0 dX2_readRunner_70 rfl rfl (n := 71) rfl ?_
        refine x_iadd dX2_readRunner_71 (n := 72) rfl ?_
        refine tw_iald hE (by decide) dX2_readRunner_72 (n := 73) rfl (fun x10 => ?_)
        refine x_iconst (-1) dX2_readRunner_73 rfl (n := 74) rfl ?_
        refine tw_icmp_ne dX2_readRunner_74 (t := 83) (by decide) (n := 77) rfl ?_ ?_
        · refine x_aload_nr 1 dX2_readRunner_83 rfl rfl (n := 84) rfl ?_
          refine tw_callV_V [] [] (T_goesOn_ok hO hE s9 ) md_X2_goesOn q3030 q3032 qs65 dX2_readRunner_84 rfl rfl (by decide) (Nat.le_of_ble_eq_true rfl) (n := 87) rfl (fun s11 => ?_)
          refine x_aload_nr 1 dX2_readRunner_87 rfl rfl (n := 88) rfl ?_
          refine x_bipush 47 dX2_readRunner_88 rfl (n := 90) rfl ?_
          refine x_iload_n 0 dX2_readRunner_90 rfl rfl (n := 91) rfl ?_
          refine x_iadd dX2_readRunner_91 (n := 92) rfl ?_
          refine x_iconst 0 dX2_readRunner_92 rfl (n := 93) rfl ?_
          refine x_sipush 9998 dX2_readRunner_93 rfl (n := 96) rfl ?_
          refine tw_callV_I [.int (47 + x1), .int 0, .int 9998] [] (T_takes_ok hO hE s11 (47 + x1) 0 9998) md_X2_takes q3090 q3092 qs76 dX2_readRunner_96 rfl rfl (by decide) (Nat.le_of_ble_eq_true rfl) (n := 99) rfl (fun x13 s12 => ?_)
          refine tw_if_eq dX2_readRunner_99 (t := 127) (by decide) (n := 102) rfl ?_ ?_
          · refine x_iconst 0 dX2_readRunner_127 rfl (n := 128) rfl ?_
            exact tw_zreturn rfl dX2_readRunner_128
          · refine x_aload_nr 1 dX2_readRunner_102 rfl rfl (n := 103) rfl ?_
            refine x_bipush 57 dX2_readRunner_103 rfl (n := 105) rfl ?_
            refine x_iload_n 0 dX2_readRunner_105 rfl rfl (n := 106) rfl ?_
            refine x_iadd dX2_readRunner_106 (n := 107) rfl ?_
            refine x_aload_nr 1 dX2_readRunner_107 rfl rfl (n := 108) rfl ?_
            refine tw_getA fl_X2_20 rfl (by decide) dX2_readRunner_108 (n := 111) rfl ?_
            refine x_bipush 47 dX2_readRunner_111 rfl (n := 113) rfl ?_
            refine x_iload_n 0 dX2_readRunner_113 rfl rfl (n := 114) rfl ?_
            refine x_iadd dX2_readRunner_114 (n := 115) rfl ?_
            refine tw_iald hE (by decide) dX2_readRunner_115 (n := 116) rfl (fun x14 => ?_)
            refine x_iconst 1 dX2_readRunner_116 rfl (n := 117) rfl ?_
            refine x_iadd dX2_readRunner_117 (n := 118) rfl ?_
            refine x_sipush 9999 dX2_readRunner_118 rfl (n := 121) rfl ?_
            refine tw_callV_I [.int (57 + x1), .int (x14 + 1), .int 9999] [] (T_takes_ok hO hE s12 (57 + x1) (x14 + 1) 9999) md_X2_takes q3090 q3092 qs76 dX2_readRunner_121 rfl rfl (by decide) (Nat.le_of_ble_eq_true rfl) (n := 124) rfl (fun x16 s15 => ?_)
            refine tw_if_ne dX2_readRunner_124 (t := 129) (by decide) (n := 127) rfl ?_ ?_
            · refine x_aload_nr 1 dX2_readRunner_129 rfl rfl (n := 130) rfl ?_
              refine tw_getA fl_X2_20 rfl (by decide) dX2_readRunner_130 (n := 133) rfl ?_
              refine x_bipush 67 dX2_readRunner_133 rfl (n := 135) rfl ?_
              refine x_iload_n 0 dX2_readRunner_135 rfl rfl (n := 136) rfl ?_
              refine x_iadd dX2_readRunner_136 (n := 137) rfl ?_
              refine x_iconst 0 dX2_readRunner_137 rfl (n := 138) rfl ?_
              refine tw_iast hE (by decide) dX2_readRunner_138 (n := 139) rfl (fun s17 => ?_)
              refine x_aload_nr 1 dX2_readRunner_139 rfl rfl (n := 140) rfl ?_
              refine tw_getI fl_X2_76 rfl (by decide) dX2_readRunner_140 (n := 143) rfl ?_
              refine x_bipush 58 dX2_readRunner_143 rfl (n := 145) rfl ?_
              refine tw_icmp_ne dX2_readRunner_145 (t := 152) (by decide) (n := 148) rfl ?_ ?_
              · refine x_iconst 0 dX2_readRunner_152 rfl (n := 153) rfl ?_
                refine x_sub [1, 0] [(0, .ref E.2.1), (1, .int x1)] rfl ?_
                exact T_readRunner_153_ok hO hE x1 0 s17
              · refine x_iconst 1 dX2_readRunner_148 rfl (n := 149) rfl ?_
                refine x_goto dX2_readRunner_149 (n := 153) (by decide) ?_
                refine x_sub [1, 0] [(0, .ref E.2.1), (1, .int x1)] rfl ?_
                exact T_readRunner_153_ok hO hE x1 1 s17
            · refine x_iconst 0 dX2_readRunner_127 rfl (n := 128) rfl ?_
              exact tw_zreturn rfl dX2_readRunner_128
        · refine x_aload_nr 1 dX2_readRunner_77 rfl rfl (n := 78) rfl ?_
          refine x_iconst 3 dX2_readRunner_78 rfl (n := 79) rfl ?_
          refine tw_callV_I [.int 3] [] (T_errs_ok hO hE s9 3) md_X2_errs q3063 q3065 qs70 dX2_readRunner_79 rfl rfl (by decide) (Nat.le_of_ble_eq_true rfl) (n := 82) rfl (fun x24 s23 => ?_)
          exact tw_zreturn rfl dX2_readRunner_82
      · refine x_aload_nr 1 dX2_readRunner_38 rfl rfl (n := 39) rfl ?_
        refine x_iconst 1 dX2_readRunner_39 rfl (n := 40) rfl ?_
        refine tw_callV_I [.int 1] [] (T_errs_ok hO hE s4 1) md_X2_errs q3063 q3065 qs70 dX2_readRunner_40 rfl rfl (by decide) (Nat.le_of_ble_eq_true rfl) (n := 43) rfl (fun x26 s25 => ?_)
        exact tw_zreturn rfl dX2_readRunner_43
    · refine x_iconst 0 dX2_readRunner_29 rfl (n := 30) rfl ?_
      exact tw_zreturn rfl dX2_readRunner_30
  · refine x_aload_nr 1 dX2_readRunner_13 rfl rfl (n := 14) rfl ?_
    refine x_iconst 4 dX2_readRunner_14 rfl (n := 15) rfl ?_
    refine tw_callV_I [.int 4] [] (T_errs_ok hO hE s0 4) md_X2_errs q3063 q3065 qs70 dX2_readRunner_15 rfl rfl (by decide) (Nat.le_of_ble_eq_true rfl) (n := 18) rfl (fun x28 s27 => ?_)
    exact tw_zreturn rfl dX2_readRunner_18
abbrev cX2_readOnce : ByteArray := prog_14_method_22_code
def yX2_readOnce : MethodName := ⟨RX2, "readOnce", "(I)Z"⟩
def dkwX2_readOnce_1 : List UInt8 := [27, 120, 128, 181, 0, 142, 42, 182, 0, 118, 42, 27, 3, 17, 2, 88, 182, 0, 136, 172]
abbrev dktX2_readOnce_1 : List UInt8 := dkwX2_readOnce_1 ++ []
def dkwX2_readOnce_0 : List UInt8 := [42, 180, 0, 142, 27, 122, 4, 126, 4, 160, 0, 9, 42, 6, 182, 0, 125, 172, 42, 89, 180, 0, 142, 4]
abbrev dktX2_readOnce_0 : List UInt8 := dkwX2_readOnce_0 ++ dktX2_readOnce_1
theorem dksX2_readOnce_0 : cX2_readOnce.data.toList.drop 0 = dktX2_readOnce_0 := by decide +kernel
theorem dksX2_readOnce_1 : cX2_readOnce.data.toList.drop 24 = dktX2_readOnce_1 := dk_seg dksX2_readOnce_0 24 rfl rfl
theorem dX2_readOnce_0 : decode cX2_readOnce 0 = .ok (.aload_n 0, 1) := dk_42 (dk_at dksX2_readOnce_0 0 rfl rfl)
theorem dX2_readOnce_1 : decode cX2_readOnce 1 = .ok (.getfield 142, 3) := dk_180 0 142 (dk_at dksX2_readOnce_0 1 rfl rfl)
theorem dX2_readOnce_4 : decode cX2_readOnce 4 = .ok (.iload_n 1, 1) := dk_27 (dk_at dksX2_readOnce_0 4 rfl rfl)
theorem dX2_readOnce_5 : decode cX2_readOnce 5 = .ok (.ishr, 1) := dk_122 (dk_at dksX2_readOnce_0 5 rfl rfl)
theorem dX2_readOnce_6 : decode cX2_readOnce 6 = .ok (.iconst 1, 1) := dk_4 (dk_at dksX2_readOnce_0 6 rfl rfl)
theorem dX2_readOnce_7 : decode cX2_readOnce 7 = .ok (.iand, 1) := dk_126 (dk_at dksX2_readOnce_0 7 rfl rfl)
theorem dX2_readOnce_8 : decode cX2_readOnce 8 = .ok (.iconst 1, 1) := dk_4 (dk_at dksX2_readOnce_0 8 rfl rfl)
theorem dX2_readOnce_9 : decode cX2_readOnce 9 = .ok (.if_icmp .ne 9, 3) := dk_160 0 9 (dk_at dksX2_readOnce_0 9 rfl rfl)
theorem dX2_readOnce_12 : decode cX2_readOnce 12 = .ok (.aload_n 0, 1) := dk_42 (dk_at dksX2_readOnce_0 12 rfl rfl)
theorem dX2_readOnce_13 : decode cX2_readOnce 13 = .ok (.iconst 3, 1) := dk_6 (dk_at dksX2_readOnce_0 13 rfl rfl)
theorem dX2_readOnce_14 : decode cX2_readOnce 14 = .ok (.invokevirtual 125, 3) := dk_182 0 125 (dk_at dksX2_readOnce_0 14 rfl rfl)
theorem dX2_readOnce_17 : decode cX2_readOnce 17 = .ok (.ireturn, 1) := dk_172 (dk_at dksX2_readOnce_0 17 rfl rfl)
theorem dX2_readOnce_18 : decode cX2_readOnce 18 = .ok (.aload_n 0, 1) := dk_42 (dk_at dksX2_readOnce_0 18 rfl rfl)
theorem dX2_readOnce_19 : decode cX2_readOnce 19 = .ok (.dup, 1) := dk_89 (dk_at dksX2_readOnce_0 19 rfl rfl)
theorem dX2_readOnce_20 : decode cX2_readOnce 20 = .ok (.getfield 142, 3) := dk_180 0 142 (dk_at dksX2_readOnce_0 20 rfl rfl)
theorem dX2_readOnce_23 : decode cX2_readOnce 23 = .ok (.iconst 1, 1) := dk_4 (dk_at dksX2_readOnce_0 23 rfl rfl)
theorem dX2_readOnce_24 : decode cX2_readOnce 24 = .ok (.iload_n 1, 1) := dk_27 (dk_at dksX2_readOnce_1 0 rfl rfl)
theorem dX2_readOnce_25 : decode cX2_readOnce 25 = .ok (.ishl, 1) := dk_120 (dk_at dksX2_readOnce_1 1 rfl rfl)
theorem dX2_readOnce_26 : decode cX2_readOnce 26 = .ok (.ior, 1) := dk_128 (dk_at dksX2_readOnce_1 2 rfl rfl)
theorem dX2_readOnce_27 : decode cX2_readOnce 27 = .ok (.putfield 142, 3) := dk_181 0 142 (dk_at dksX2_readOnce_1 3 rfl rfl)
theorem dX2_readOnce_30 : decode cX2_readOnce 30 = .ok (.aload_n 0, 1) := dk_42 (dk_at dksX2_readOnce_1 6 rfl rfl)
theorem dX2_readOnce_31 : decode cX2_readOnce 31 = .ok (.invokevirtual 118, 3) := dk_182 0 118 (dk_at dksX2_readOnce_1 7 rfl rfl)
theorem dX2_readOnce_34 : decode cX2_readOnce 34 = .ok (.aload_n 0, 1) := dk_42 (dk_at dksX2_readOnce_1 10 rfl rfl)
theorem dX2_readOnce_35 : decode cX2_readOnce 35 = .ok (.iload_n 1, 1) := dk_27 (dk_at dksX2_readOnce_1 11 rfl rfl)
theorem dX2_readOnce_36 : decode cX2_readOnce 36 = .ok (.iconst 0, 1) := dk_3 (dk_at dksX2_readOnce_1 12 rfl rfl)
theorem dX2_readOnce_37 : decode cX2_readOnce 37 = .ok (.sipush 600, 3) := dk_17 2 88 (dk_at dksX2_readOnce_1 13 rfl rfl)
theorem dX2_readOnce_40 : decode cX2_readOnce 40 = .ok (.invokevirtual 136, 3) := dk_182 0 136 (dk_at dksX2_readOnce_1 16 rfl rfl)
theorem dX2_readOnce_43 : decode cX2_readOnce 43 = .ok (.ireturn, 1) := dk_172 (dk_at dksX2_readOnce_1 19 rfl rfl)
theorem md_X2_readOnce : xMd yX2_readOnce cX2_readOnce 2 (Option.some Jvm.ClassFile.FieldType.boolean) 1 := ⟨q3101, q126, by decide, by decide +kernel, by decide +kernel, by decide +kernel⟩
def T_readOnce (s0 : TS) (a1 : Int32) : Option (xO × TS) :=
  (if (((s0.1 16) >>> (a1 &&& 31)) &&& 1) = 1 then
  (xcI (T_errs s0 3) fun x6 s5 =>
  (if vp_nar .boolean x6 = x6 then rI x6 s5 else none)) else
  (bnd (tI s0 16 ((s0.1 16) ||| (1 <<< (a1 &&& 31)))) fun s1 =>
  (xcV (T_goesOn s1 ) fun s2 =>
  (xcI (T_takes s2 a1 0 600) fun x4 s3 =>
  (if vp_nar .boolean x4 = x4 then rI x4 s3 else none)))))
theorem T_readOnce_ok {G : xG} {E : TE} (hO : xOK G) (hE : tok E) (s0 : TS) (a1 : Int32) : CTT G E 3 yX2_readOnce cX2_readOnce 2 (Option.some Jvm.ClassFile.FieldType.boolean) [.ref E.2.1, .int a1] s0 (T_readOnce s0 a1) := by
  refine CT_of hO (by decide +kernel) (by decide +kernel) (Nat.le_of_ble_eq_true rfl) ?_
  show XT G E "ForestLegsModel" "readOnce" cX2_readOnce 2 (Option.some Jvm.ClassFile.FieldType.boolean) 3 0 [(0, .ref E.2.1), (1, .int a1)] [] s0 (T_readOnce s0 a1)
  refine x_aload_nr 0 dX2_readOnce_0 rfl rfl (n := 1) rfl ?_
  refine tw_getI fl_X2_142 rfl (by decide) dX2_readOnce_1 (n := 4) rfl ?_
  refine x_iload_n 1 dX2_readOnce_4 rfl rfl (n := 5) rfl ?_
  refine x_ishr dX2_readOnce_5 (n := 6) rfl ?_
  refine x_iconst 1 dX2_readOnce_6 rfl (n := 7) rfl ?_
  refine x_iand dX2_readOnce_7 (n := 8) rfl ?_
  refine x_iconst 1 dX2_readOnce_8 rfl (n := 9) rfl ?_
  refine tw_icmp_ne dX2_readOnce_9 (t := 18) (by decide) (n := 12) rfl ?_ ?_
  · refine x_aload_nr 0 dX2_readOnce_18 rfl rfl (n := 19) rfl ?_
    refine x_dup dX2_readOnce_19 rfl (n := 20) rfl ?_
    refine tw_getI fl_X2_142 rfl (by decide) dX2_readOnce_20 (n := 23) rfl ?_
    refine x_iconst 1 dX2_readOnce_23 rfl (n := 24) rfl ?_
    refine x_iload_n 1 dX2_readOnce_24 rfl rfl (n := 25) rfl ?_
    refine x_ishl dX2_readOnce_25 (n := 26) rfl ?_
    refine x_ior dX2_readOnce_26 (n := 27) rfl ?_
    refine tw_put (pl_X2_142 _ _ ⟨rfl, rfl⟩) rfl (by decide) dX2_readOnce_27 (n := 30) rfl (fun s1 => ?_)
    refine x_aload_nr 0 dX2_readOnce_30 rfl rfl (n := 31) rfl ?_
    refine tw_callV_V [] [] (T_goesOn_ok hO hE s1 ) md_X2_goesOn q3030 q3032 qs65 dX2_readOnce_31 rfl rfl (by decide) (Nat.le_of_ble_eq_true rfl) (n := 34) rfl (fun s2 => ?_)
    refine x_aload_nr 0 dX2_readOnce_34 rfl rfl (n := 35) rfl ?_
    refine x_iload_n 1 dX2_readOnce_35 rfl rfl (n := 36) rfl ?_
    refine x_iconst 0 dX2_readOnce_36 rfl (n := 37) rfl ?_
    refine x_sipush 600 dX2_readOnce_37 rfl (n := 40) rfl ?_
    refine tw_callV_I [.int a1, .int 0, .int 600] [] (T_takes_ok hO hE s2 a1 0 600) md_X2_takes q3090 q3092 qs76 dX2_readOnce_40 rfl rfl (by decide) (Nat.le_of_ble_eq_true rfl) (n := 43) rfl (fun x4 s3 => ?_)
    exact tw_zreturn rfl dX2_readOnce_43
  · refine x_aload_nr 0 dX2_readOnce_12 rfl rfl (n := 13) rfl ?_
    refine x_iconst 3 dX2_readOnce_13 rfl (n := 14) rfl ?_
    refine tw_callV_I [.int 3] [] (T_errs_ok hO hE s0 3) md_X2_errs q3063 q3065 qs70 dX2_readOnce_14 rfl rfl (by decide) (Nat.le_of_ble_eq_true rfl) (n := 17) rfl (fun x6 s5 => ?_)
    exact tw_zreturn rfl dX2_readOnce_17
abbrev cX2_readLine : ByteArray := prog_14_method_23_code
def yX2_readLine : MethodName := ⟨RX2, "readLine", "()Z"⟩
def dkwX2_readLine_2 : List UInt8 := [182, 0, 104, 153, 0, 11, 42, 6, 182, 0, 151, 167, 0, 8, 42, 4, 182, 0, 125, 172]
abbrev dktX2_readLine_2 : List UInt8 := dkwX2_readLine_2 ++ []
def dkwX2_readLine_1 : List UInt8 := [182, 0, 148, 172, 42, 18, 110, 182, 0, 104, 153, 0, 11, 42, 5, 182, 0, 151, 167, 0, 25, 42, 18, 112]
abbrev dktX2_readLine_1 : List UInt8 := dkwX2_readLine_1 ++ dktX2_readLine_2
def dkwX2_readLine_0 : List UInt8 := [42, 18, 102, 182, 0, 104, 153, 0, 8, 42, 182, 0, 145, 172, 42, 18, 108, 182, 0, 104, 153, 0, 8, 42]
abbrev dktX2_readLine_0 : List UInt8 := dkwX2_readLine_0 ++ dktX2_readLine_1
theorem dksX2_readLine_0 : cX2_readLine.data.toList.drop 0 = dktX2_readLine_0 := by decide +kernel
theorem dksX2_readLine_1 : cX2_readLine.data.toList.drop 24 = dktX2_readLine_1 := dk_seg dksX2_readLine_0 24 rfl rfl
theorem dksX2_readLine_2 : cX2_readLine.data.toList.drop 48 = dktX2_readLine_2 := dk_seg dksX2_readLine_1 24 rfl rfl
theorem dX2_readLine_0 : decode cX2_readLine 0 = .ok (.aload_n 0, 1) := dk_42 (dk_at dksX2_readLine_0 0 rfl rfl)
theorem dX2_readLine_1 : decode cX2_readLine 1 = .ok (.ldc 102, 2) := dk_18 102 (dk_at dksX2_readLine_0 1 rfl rfl)
theorem dX2_readLine_3 : decode cX2_readLine 3 = .ok (.invokevirtual 104, 3) := dk_182 0 104 (dk_at dksX2_readLine_0 3 rfl rfl)
theorem dX2_readLine_6 : decode cX2_readLine 6 = .ok (.ifCond .eq 8, 3) := dk_153 0 8 (dk_at dksX2_readLine_0 6 rfl rfl)
theorem dX2_readLine_9 : decode cX2_readLine 9 = .ok (.aload_n 0, 1) := dk_42 (dk_at dksX2_readLine_0 9 rfl rfl)
theorem dX2_readLine_10 : decode cX2_readLine 10 = .ok (.invokevirtual 145, 3) := dk_182 0 145 (dk_at dksX2_readLine_0 10 rfl rfl)
theorem dX2_readLine_13 : decode cX2_readLine 13 = .ok (.ireturn, 1) := dk_172 (dk_at dksX2_readLine_0 13 rfl rfl)
theorem dX2_readLine_14 : decode cX2_readLine 14 = .ok (.aload_n 0, 1) := dk_42 (dk_at dksX2_readLine_0 14 rfl rfl)
theorem dX2_readLine_15 : decode cX2_readLine 15 = .ok (.ldc 108, 2) := dk_18 108 (dk_at dksX2_readLine_0 15 rfl rfl)
theorem dX2_readLine_17 : decode cX2_readLine 17 = .ok (.invokevirtual 104, 3) := dk_182 0 104 (dk_at dksX2_readLine_0 17 rfl rfl)
theorem dX2_readLine_20 : decode cX2_readLine 20 = .ok (.ifCond .eq 8, 3) := dk_153 0 8 (dk_at dksX2_readLine_0 20 rfl rfl)
theorem dX2_readLine_23 : decode cX2_readLine 23 = .ok (.aload_n 0, 1) := dk_42 (dk_at dksX2_readLine_0 23 rfl rfl)
theorem dX2_readLine_24 : decode cX2_readLine 24 = .ok (.invokevirtual 148, 3) := dk_182 0 148 (dk_at dksX2_readLine_1 0 rfl rfl)
theorem dX2_readLine_27 : decode cX2_readLine 27 = .ok (.ireturn, 1) := dk_172 (dk_at dksX2_readLine_1 3 rfl rfl)
theorem dX2_readLine_28 : decode cX2_readLine 28 = .ok (.aload_n 0, 1) := dk_42 (dk_at dksX2_readLine_1 4 rfl rfl)
theorem dX2_readLine_29 : decode cX2_readLine 29 = .ok (.ldc 110, 2) := dk_18 110 (dk_at dksX2_readLine_1 5 rfl rfl)
theorem dX2_readLine_31 : decode cX2_readLine 31 = .ok (.invokevirtual 104, 3) := dk_182 0 104 (dk_at dksX2_readLine_1 7 rfl rfl)
theorem dX2_readLine_34 : decode cX2_readLine 34 = .ok (.ifCond .eq 11, 3) := dk_153 0 11 (dk_at dksX2_readLine_1 10 rfl rfl)
theorem dX2_readLine_37 : decode cX2_readLine 37 = .ok (.aload_n 0, 1) := dk_42 (dk_at dksX2_readLine_1 13 rfl rfl)
theorem dX2_readLine_38 : decode cX2_readLine 38 = .ok (.iconst 2, 1) := dk_5 (dk_at dksX2_readLine_1 14 rfl rfl)
theorem dX2_readLine_39 : decode cX2_readLine 39 = .ok (.invokevirtual 151, 3) := dk_182 0 151 (dk_at dksX2_readLine_1 15 rfl rfl)
theorem dX2_readLine_42 : decode cX2_readLine 42 = .ok (.goto 25, 3) := dk_167 0 25 (dk_at dksX2_readLine_1 18 rfl rfl)
theorem dX2_readLine_45 : decode cX2_readLine 45 = .ok (.aload_n 0, 1) := dk_42 (dk_at dksX2_readLine_1 21 rfl rfl)
theorem dX2_readLine_46 : decode cX2_readLine 46 = .ok (.ldc 112, 2) := dk_18 112 (dk_at dksX2_readLine_1 22 rfl rfl)
theorem dX2_readLine_48 : decode cX2_readLine 48 = .ok (.invokevirtual 104, 3) := dk_182 0 104 (dk_at dksX2_readLine_2 0 rfl rfl)
theorem dX2_readLine_51 : decode cX2_readLine 51 = .ok (.ifCond .eq 11, 3) := dk_153 0 11 (dk_at dksX2_readLine_2 3 rfl rfl)
theorem dX2_readLine_54 : decode cX2_readLine 54 = .ok (.aload_n 0, 1) := dk_42 (dk_at dksX2_readLine_2 6 rfl rfl)
theorem dX2_readLine_55 : decode cX2_readLine 55 = .ok (.iconst 3, 1) := dk_6 (dk_at dksX2_readLine_2 7 rfl rfl)
theorem dX2_readLine_56 : decode cX2_readLine 56 = .ok (.invokevirtual 151, 3) := dk_182 0 151 (dk_at dksX2_readLine_2 8 rfl rfl)
theorem dX2_readLine_59 : decode cX2_readLine 59 = .ok (.goto 8, 3) := dk_167 0 8 (dk_at dksX2_readLine_2 11 rfl rfl)
theorem dX2_readLine_62 : decode cX2_readLine 62 = .ok (.aload_n 0, 1) := dk_42 (dk_at dksX2_readLine_2 14 rfl rfl)
theorem dX2_readLine_63 : decode cX2_readLine 63 = .ok (.iconst 1, 1) := dk_4 (dk_at dksX2_readLine_2 15 rfl rfl)
theorem dX2_readLine_64 : decode cX2_readLine 64 = .ok (.invokevirtual 125, 3) := dk_182 0 125 (dk_at dksX2_readLine_2 16 rfl rfl)
theorem dX2_readLine_67 : decode cX2_readLine 67 = .ok (.ireturn, 1) := dk_172 (dk_at dksX2_readLine_2 19 rfl rfl)
theorem md_X2_readLine : xMd yX2_readLine cX2_readLine 1 (Option.some Jvm.ClassFile.FieldType.boolean) 0 := ⟨q3041, q126, by decide, by decide +kernel, by decide +kernel, by decide +kernel⟩
def T_readLine (s0 : TS)  : Option (xO × TS) :=
  (xcI (T_isWord s0 0) fun x2 s1 =>
  (if x2 = 0 then
  (xcI (T_isWord s1 1) fun x4 s3 =>
  (if x4 = 0 then
  (xcI (T_isWord s3 2) fun x6 s5 =>
  (if x6 = 0 then
  (xcI (T_isWord s5 3) fun x8 s7 =>
  (if x8 = 0 then
  (xcI (T_errs s7 1) fun x10 s9 =>
  (if vp_nar .boolean x10 = x10 then rI x10 s9 else none)) else
  (xcI (T_readOnce s7 3) fun x12 s11 =>
  (if vp_nar .boolean x12 = x12 then rI x12 s11 else none)))) else
  (xcI (T_readOnce s5 2) fun x14 s13 =>
  (if vp_nar .boolean x14 = x14 then rI x14 s13 else none)))) else
  (xcI (T_readRunner s3 ) fun x16 s15 =>
  (if vp_nar .boolean x16 = x16 then rI x16 s15 else none)))) else
  (xcI (T_readCourse s1 ) fun x18 s17 =>
  (if vp_nar .boolean x18 = x18 then rI x18 s17 else none))))
theorem T_readLine_ok {G : xG} {E : TE} (hO : xOK G) (hE : tok E) (s0 : TS)  : CTT G E 8 yX2_readLine cX2_readLine 1 (Option.some Jvm.ClassFile.FieldType.boolean) [.ref E.2.1] s0 (T_readLine s0 ) := by
  refine CT_of hO (by decide +kernel) (by decide +kernel) (Nat.le_of_ble_eq_true rfl) ?_
  show XT G E "ForestLegsModel" "readLine" cX2_readLine 1 (Option.some Jvm.ClassFile.FieldType.boolean) 8 0 [(0, .ref E.2.1)] [] s0 (T_readLine s0 )
  refine x_aload_nr 0 dX2_readLine_0 rfl rfl (n := 1) rfl ?_
  refine tw_ldcS (j := 0) rfl dX2_readLine_1 (n := 3) rfl ?_
  refine tw_callV_I [va_rf (E.1.2.2.2 (10 + 0))] [] (T_isWord_ok hO hE s0 0) md_X2_isWord q3043 q3045 qs68 dX2_readLine_3 rfl rfl (by decide) (Nat.le_of_ble_eq_true rfl) (n := 6) rfl (fun x2 s1 => ?_)
  refine tw_if_eq dX2_readLine_6 (t := 14) (by decide) (n := 9) rfl ?_ ?_
  · refine x_aload_nr 0 dX2_readLine_14 rfl rfl (n := 15) rfl ?_
    refine tw_ldcS (j := 1) rfl dX2_readLine_15 (n := 17) rfl ?_
    refine tw_callV_I [va_rf (E.1.2.2.2 (10 + 1))] [] (T_isWord_ok hO hE s1 1) md_X2_isWord q3043 q3045 qs68 dX2_readLine_17 rfl rfl (by decide) (Nat.le_of_ble_eq_true rfl) (n := 20) rfl (fun x4 s3 => ?_)
    refine tw_if_eq dX2_readLine_20 (t := 28) (by decide) (n := 23) rfl ?_ ?_
    · refine x_aload_nr 0 dX2_readLine_28 rfl rfl (n := 29) rfl ?_
      refine tw_ldcS (j := 2) rfl dX2_readLine_29 (n := 31) rfl ?_
      refine tw_callV_I [va_rf (E.1.2.2.2 (10 + 2))] [] (T_isWord_ok hO hE s3 2) md_X2_isWord q3043 q3045 qs68 dX2_readLine_31 rfl rfl (by decide) (Nat.le_of_ble_eq_true rfl) (n := 34) rfl (fun x6 s5 => ?_)
      refine tw_if_eq dX2_readLine_34 (t := 45) (by decide) (n := 37) rfl ?_ ?_
      · refine x_aload_nr 0 dX2_readLine_45 rfl rfl (n := 46) rfl ?_
        refine tw_ldcS (j := 3) rfl dX2_readLine_46 (n := 48) rfl ?_
        refine tw_callV_I [va_rf (E.1.2.2.2 (10 + 3))] [] (T_isWord_ok hO hE s5 3) md_X2_isWord q3043 q3045 qs68 dX2_readLine_48 rfl rfl (by decide) (Nat.le_of_ble_eq_true rfl) (n := 51) rfl (fun x8 s7 => ?_)
        refine tw_if_eq dX2_readLine_51 (t := 62) (by decide) (n := 54) rfl ?_ ?_
        · refine x_aload_nr 0 dX2_readLine_62 rfl rfl (n := 63) rfl ?_
          refine x_iconst 1 dX2_readLine_63 rfl (n := 64) rfl ?_
          refine tw_callV_I [.int 1] [] (T_errs_ok hO hE s7 1) md_X2_errs q3063 q3065 qs70 dX2_readLine_64 rfl rfl (by decide) (Nat.le_of_ble_eq_true rfl) (n := 67) rfl (fun x10 s9 => ?_)
          exact tw_zreturn rfl dX2_readLine_67
        · refine x_aload_nr 0 dX2_readLine_54 rfl rfl (n := 55) rfl ?_
          refine x_iconst 3 dX2_readLine_55 rfl (n := 56) rfl ?_
          refine tw_callV_I [.int 3] [] (T_readOnce_ok hO hE s7 3) md_X2_readOnce q3098 q3100 qs78 dX2_readLine_56 rfl rfl (by decide) (Nat.le_of_ble_eq_true rfl) (n := 59) rfl (fun x12 s11 => ?_)
          refine x_goto dX2_readLine_59 (n := 67) (by decide) ?_
          exact tw_zreturn rfl dX2_readLine_67
      · refine x_aload_nr 0 dX2_readLine_37 rfl rfl (n := 38) rfl ?_
        refine x_iconst 2 dX2_readLine_38 rfl (n := 39) rfl ?_
        refine tw_callV_I [.int 2] [] (T_readOnce_ok hO hE s5 2) md_X2_readOnce q3098 q3100 qs78 dX2_readLine_39 rfl rfl (by decide) (Nat.le_of_ble_eq_true rfl) (n := 42) rfl (fun x14 s13 => ?_)
        refine x_goto dX2_readLine_42 (n := 67) (by decide) ?_
        exact tw_zreturn rfl dX2_readLine_67
    · refine x_aload_nr 0 dX2_readLine_23 rfl rfl (n := 24) rfl ?_
      refine tw_callV_I [] [] (T_readRunner_ok hO hE s3 ) md_X2_readRunner q3086 q3088 qs75 dX2_readLine_24 rfl rfl (by decide) (Nat.le_of_ble_eq_true rfl) (n := 27) rfl (fun x16 s15 => ?_)
      exact tw_zreturn rfl dX2_readLine_27
  · refine x_aload_nr 0 dX2_readLine_9 rfl rfl (n := 10) rfl ?_
    refine tw_callV_I [] [] (T_readCourse_ok hO hE s1 ) md_X2_readCourse q3059 q3061 qs69 dX2_readLine_10 rfl rfl (by decide) (Nat.le_of_ble_eq_true rfl) (n := 13) rfl (fun x18 s17 => ?_)
    exact tw_zreturn rfl dX2_readLine_13
abbrev cX2_readAll : ByteArray := prog_14_method_24_code
def yX2_readAll : MethodName := ⟨RX2, "readAll", "(I)Z"⟩
def dkwX2_readAll_5 : List UInt8 := [182, 0, 125, 153, 0, 7, 4, 167, 0, 4, 3, 172]
abbrev dktX2_readAll_5 : List UInt8 := dkwX2_readAll_5 ++ []
def dkwX2_readAll_4 : List UInt8 := [180, 0, 76, 153, 0, 9, 42, 4, 182, 0, 125, 172, 42, 180, 0, 20, 3, 46, 157, 0, 11, 42, 8]
abbrev dktX2_readAll_4 : List UInt8 := dkwX2_readAll_4 ++ dktX2_readAll_5
def dkwX2_readAll_3 : List UInt8 := [42, 180, 0, 76, 16, 59, 160, 0, 16, 42, 182, 0, 118, 42, 182, 0, 154, 154, 255, 239, 3, 172, 42]
abbrev dktX2_readAll_3 : List UInt8 := dkwX2_readAll_3 ++ dktX2_readAll_4
def dkwX2_readAll_2 : List UInt8 := [167, 0, 4, 3, 79, 132, 2, 1, 167, 255, 219, 42, 182, 0, 118, 42, 182, 0, 154, 154, 0, 5, 3, 172]
abbrev dktX2_readAll_2 : List UInt8 := dkwX2_readAll_2 ++ dktX2_readAll_3
def dkwX2_readAll_1 : List UInt8 := [42, 180, 0, 20, 28, 28, 5, 160, 0, 8, 16, 10, 167, 0, 14, 28, 6, 160, 0, 8, 16, 20]
abbrev dktX2_readAll_1 : List UInt8 := dkwX2_readAll_1 ++ dktX2_readAll_2
def dkwX2_readAll_0 : List UInt8 := [42, 27, 181, 0, 63, 42, 3, 181, 0, 66, 42, 3, 181, 0, 142, 3, 61, 28, 17, 1, 141, 162, 0, 36]
abbrev dktX2_readAll_0 : List UInt8 := dkwX2_readAll_0 ++ dktX2_readAll_1
theorem dksX2_readAll_0 : cX2_readAll.data.toList.drop 0 = dktX2_readAll_0 := by decide +kernel
theorem dksX2_readAll_1 : cX2_readAll.data.toList.drop 24 = dktX2_readAll_1 := dk_seg dksX2_readAll_0 24 rfl rfl
theorem dksX2_readAll_2 : cX2_readAll.data.toList.drop 46 = dktX2_readAll_2 := dk_seg dksX2_readAll_1 22 rfl rfl
theorem dksX2_readAll_3 : cX2_readAll.data.toList.drop 70 = dktX2_readAll_3 := dk_seg dksX2_readAll_2 24 rfl rfl
theorem dksX2_readAll_4 : cX2_readAll.data.toList.drop 93 = dktX2_readAll_4 := dk_seg dksX2_readAll_3 23 rfl rfl
theorem dksX2_readAll_5 : cX2_readAll.data.toList.drop 116 = dktX2_readAll_5 := dk_seg dksX2_readAll_4 23 rfl rfl
theorem dX2_readAll_0 : decode cX2_readAll 0 = .ok (.aload_n 0, 1) := dk_42 (dk_at dksX2_readAll_0 0 rfl rfl)
theorem dX2_readAll_1 : decode cX2_readAll 1 = .ok (.iload_n 1, 1) := dk_27 (dk_at dksX2_readAll_0 1 rfl rfl)
theorem dX2_readAll_2 : decode cX2_readAll 2 = .ok (.putfield 63, 3) := dk_181 0 63 (dk_at dksX2_readAll_0 2 rfl rfl)
theorem dX2_readAll_5 : decode cX2_readAll 5 = .ok (.aload_n 0, 1) := dk_42 (dk_at dksX2_readAll_0 5 rfl rfl)
theorem dX2_readAll_6 : decode cX2_readAll 6 = .ok (.iconst 0, 1) := dk_3 (dk_at dksX2_readAll_0 6 rfl rfl)
theorem dX2_readAll_7 : decode cX2_readAll 7 = .ok (.putfield 66, 3) := dk_181 0 66 (dk_at dksX2_readAll_0 7 rfl rfl)
theorem dX2_readAll_10 : decode cX2_readAll 10 = .ok (.aload_n 0, 1) := dk_42 (dk_at dksX2_readAll_0 10 rfl rfl)
theorem dX2_readAll_11 : decode cX2_readAll 11 = .ok (.iconst 0, 1) := dk_3 (dk_at dksX2_readAll_0 11 rfl rfl)
theorem dX2_readAll_12 : decode cX2_readAll 12 = .ok (.putfield 142, 3) := dk_181 0 142 (dk_at dksX2_readAll_0 12 rfl rfl)
theorem dX2_readAll_15 : decode cX2_readAll 15 = .ok (.iconst 0, 1) := dk_3 (dk_at dksX2_readAll_0 15 rfl rfl)
theorem dX2_readAll_16 : decode cX2_readAll 16 = .ok (.istore_n 2, 1) := dk_61 (dk_at dksX2_readAll_0 16 rfl rfl)
theorem dX2_readAll_17 : decode cX2_readAll 17 = .ok (.iload_n 2, 1) := dk_28 (dk_at dksX2_readAll_0 17 rfl rfl)
theorem dX2_readAll_18 : decode cX2_readAll 18 = .ok (.sipush 397, 3) := dk_17 1 141 (dk_at dksX2_readAll_0 18 rfl rfl)
theorem dX2_readAll_21 : decode cX2_readAll 21 = .ok (.if_icmp .ge 36, 3) := dk_162 0 36 (dk_at dksX2_readAll_0 21 rfl rfl)
theorem dX2_readAll_24 : decode cX2_readAll 24 = .ok (.aload_n 0, 1) := dk_42 (dk_at dksX2_readAll_1 0 rfl rfl)
theorem dX2_readAll_25 : decode cX2_readAll 25 = .ok (.getfield 20, 3) := dk_180 0 20 (dk_at dksX2_readAll_1 1 rfl rfl)
theorem dX2_readAll_28 : decode cX2_readAll 28 = .ok (.iload_n 2, 1) := dk_28 (dk_at dksX2_readAll_1 4 rfl rfl)
theorem dX2_readAll_29 : decode cX2_readAll 29 = .ok (.iload_n 2, 1) := dk_28 (dk_at dksX2_readAll_1 5 rfl rfl)
theorem dX2_readAll_30 : decode cX2_readAll 30 = .ok (.iconst 2, 1) := dk_5 (dk_at dksX2_readAll_1 6 rfl rfl)
theorem dX2_readAll_31 : decode cX2_readAll 31 = .ok (.if_icmp .ne 8, 3) := dk_160 0 8 (dk_at dksX2_readAll_1 7 rfl rfl)
theorem dX2_readAll_34 : decode cX2_readAll 34 = .ok (.bipush 10, 2) := dk_16 10 (dk_at dksX2_readAll_1 10 rfl rfl)
theorem dX2_readAll_36 : decode cX2_readAll 36 = .ok (.goto 14, 3) := dk_167 0 14 (dk_at dksX2_readAll_1 12 rfl rfl)
theorem dX2_readAll_39 : decode cX2_readAll 39 = .ok (.iload_n 2, 1) := dk_28 (dk_at dksX2_readAll_1 15 rfl rfl)
theorem dX2_readAll_40 : decode cX2_readAll 40 = .ok (.iconst 3, 1) := dk_6 (dk_at dksX2_readAll_1 16 rfl rfl)
theorem dX2_readAll_41 : decode cX2_readAll 41 = .ok (.if_icmp .ne 8, 3) := dk_160 0 8 (dk_at dksX2_readAll_1 17 rfl rfl)
theorem dX2_readAll_44 : decode cX2_readAll 44 = .ok (.bipush 20, 2) := dk_16 20 (dk_at dksX2_readAll_1 20 rfl rfl)
theorem dX2_readAll_46 : decode cX2_readAll 46 = .ok (.goto 4, 3) := dk_167 0 4 (dk_at dksX2_readAll_2 0 rfl rfl)
theorem dX2_readAll_49 : decode cX2_readAll 49 = .ok (.iconst 0, 1) := dk_3 (dk_at dksX2_readAll_2 3 rfl rfl)
theorem dX2_readAll_50 : decode cX2_readAll 50 = .ok (.iastore, 1) := dk_79 (dk_at dksX2_readAll_2 4 rfl rfl)
theorem dX2_readAll_51 : decode cX2_readAll 51 = .ok (.iinc 2 1, 3) := dk_132 2 1 (dk_at dksX2_readAll_2 5 rfl rfl)
theorem dX2_readAll_54 : decode cX2_readAll 54 = .ok (.goto (-37), 3) := dk_167 255 219 (dk_at dksX2_readAll_2 8 rfl rfl)
theorem dX2_readAll_57 : decode cX2_readAll 57 = .ok (.aload_n 0, 1) := dk_42 (dk_at dksX2_readAll_2 11 rfl rfl)
theorem dX2_readAll_58 : decode cX2_readAll 58 = .ok (.invokevirtual 118, 3) := dk_182 0 118 (dk_at dksX2_readAll_2 12 rfl rfl)
theorem dX2_readAll_61 : decode cX2_readAll 61 = .ok (.aload_n 0, 1) := dk_42 (dk_at dksX2_readAll_2 15 rfl rfl)
theorem dX2_readAll_62 : decode cX2_readAll 62 = .ok (.invokevirtual 154, 3) := dk_182 0 154 (dk_at dksX2_readAll_2 16 rfl rfl)
theorem dX2_readAll_65 : decode cX2_readAll 65 = .ok (.ifCond .ne 5, 3) := dk_154 0 5 (dk_at dksX2_readAll_2 19 rfl rfl)
theorem dX2_readAll_68 : decode cX2_readAll 68 = .ok (.iconst 0, 1) := dk_3 (dk_at dksX2_readAll_2 22 rfl rfl)
theorem dX2_readAll_69 : decode cX2_readAll 69 = .ok (.ireturn, 1) := dk_172 (dk_at dksX2_readAll_2 23 rfl rfl)
theorem dX2_readAll_70 : decode cX2_readAll 70 = .ok (.aload_n 0, 1) := dk_42 (dk_at dksX2_readAll_3 0 rfl rfl)
theorem dX2_readAll_71 : decode cX2_readAll 71 = .ok (.getfield 76, 3) := dk_180 0 76 (dk_at dksX2_readAll_3 1 rfl rfl)
theorem dX2_readAll_74 : decode cX2_readAll 74 = .ok (.bipush 59, 2) := dk_16 59 (dk_at dksX2_readAll_3 4 rfl rfl)
theorem dX2_readAll_76 : decode cX2_readAll 76 = .ok (.if_icmp .ne 16, 3) := dk_160 0 16 (dk_at dksX2_readAll_3 6 rfl rfl)
theorem dX2_readAll_79 : decode cX2_readAll 79 = .ok (.aload_n 0, 1) := dk_42 (dk_at dksX2_readAll_3 9 rfl rfl)
theorem dX2_readAll_80 : decode cX2_readAll 80 = .ok (.invokevirtual 118, 3) := dk_182 0 118 (dk_at dksX2_readAll_3 10 rfl rfl)
theorem dX2_readAll_83 : decode cX2_readAll 83 = .ok (.aload_n 0, 1) := dk_42 (dk_at dksX2_readAll_3 13 rfl rfl)
theorem dX2_readAll_84 : decode cX2_readAll 84 = .ok (.invokevirtual 154, 3) := dk_182 0 154 (dk_at dksX2_readAll_3 14 rfl rfl)
theorem dX2_readAll_87 : decode cX2_readAll 87 = .ok (.ifCond .ne (-17), 3) := dk_154 255 239 (dk_at dksX2_readAll_3 17 rfl rfl)
theorem dX2_readAll_90 : decode cX2_readAll 90 = .ok (.iconst 0, 1) := dk_3 (dk_at dksX2_readAll_3 20 rfl rfl)
theorem dX2_readAll_91 : decode cX2_readAll 91 = .ok (.ireturn, 1) := dk_172 (dk_at dksX2_readAll_3 21 rfl rfl)
theorem dX2_readAll_92 : decode cX2_readAll 92 = .ok (.aload_n 0, 1) := dk_42 (dk_at dksX2_readAll_3 22 rfl rfl)
theorem dX2_readAll_93 : decode cX2_readAll 93 = .ok (.getfield 76, 3) := dk_180 0 76 (dk_at dksX2_readAll_4 0 rfl rfl)
theorem dX2_readAll_96 : decode cX2_readAll 96 = .ok (.ifCond .eq 9, 3) := dk_153 0 9 (dk_at dksX2_readAll_4 3 rfl rfl)
theorem dX2_readAll_99 : decode cX2_readAll 99 = .ok (.aload_n 0, 1) := dk_42 (dk_at dksX2_readAll_4 6 rfl rfl)
theorem dX2_readAll_100 : decode cX2_readAll 100 = .ok (.iconst 1, 1) := dk_4 (dk_at dksX2_readAll_4 7 rfl rfl)
theorem dX2_readAll_101 : decode cX2_readAll 101 = .ok (.invokevirtual 125, 3) := dk_182 0 125 (dk_at dksX2_readAll_4 8 rfl rfl)
theorem dX2_readAll_104 : decode cX2_readAll 104 = .ok (.ireturn, 1) := dk_172 (dk_at dksX2_readAll_4 11 rfl rfl)
theorem dX2_readAll_105 : decode cX2_readAll 105 = .ok (.aload_n 0, 1) := dk_42 (dk_at dksX2_readAll_4 12 rfl rfl)
theorem dX2_readAll_106 : decode cX2_readAll 106 = .ok (.getfield 20, 3) := dk_180 0 20 (dk_at dksX2_readAll_4 13 rfl rfl)
theorem dX2_readAll_109 : decode cX2_readAll 109 = .ok (.iconst 0, 1) := dk_3 (dk_at dksX2_readAll_4 16 rfl rfl)
theorem dX2_readAll_110 : decode cX2_readAll 110 = .ok (.iaload, 1) := dk_46 (dk_at dksX2_readAll_4 17 rfl rfl)
theorem dX2_readAll_111 : decode cX2_readAll 111 = .ok (.ifCond .gt 11, 3) := dk_157 0 11 (dk_at dksX2_readAll_4 18 rfl rfl)
theorem dX2_readAll_114 : decode cX2_readAll 114 = .ok (.aload_n 0, 1) := dk_42 (dk_at dksX2_readAll_4 21 rfl rfl)
theorem dX2_readAll_115 : decode cX2_readAll 115 = .ok (.iconst 5, 1) := dk_8 (dk_at dksX2_readAll_4 22 rfl rfl)
theorem dX2_readAll_116 : decode cX2_readAll 116 = .ok (.invokevirtual 125, 3) := dk_182 0 125 (dk_at dksX2_readAll_5 0 rfl rfl)
theorem dX2_readAll_119 : decode cX2_readAll 119 = .ok (.ifCond .eq 7, 3) := dk_153 0 7 (dk_at dksX2_readAll_5 3 rfl rfl)
theorem dX2_readAll_122 : decode cX2_readAll 122 = .ok (.iconst 1, 1) := dk_4 (dk_at dksX2_readAll_5 6 rfl rfl)
theorem dX2_readAll_123 : decode cX2_readAll 123 = .ok (.goto 4, 3) := dk_167 0 4 (dk_at dksX2_readAll_5 7 rfl rfl)
theorem dX2_readAll_126 : decode cX2_readAll 126 = .ok (.iconst 0, 1) := dk_3 (dk_at dksX2_readAll_5 10 rfl rfl)
theorem dX2_readAll_127 : decode cX2_readAll 127 = .ok (.ireturn, 1) := dk_172 (dk_at dksX2_readAll_5 11 rfl rfl)
theorem md_X2_readAll : xMd yX2_readAll cX2_readAll 3 (Option.some Jvm.ClassFile.FieldType.boolean) 1 := ⟨q3029, q126, by decide, by decide +kernel, by decide +kernel, by decide +kernel⟩
def T_readAll_70F   (k70 : TS → Option (xO × TS)) (p : TS) : Option (xO × TS) := match p with
  | s0 => (if (s0.1 14) = 59 then
  (xcV (T_goesOn s0 ) fun s12 =>
  (xcI (T_readLine s12 ) fun x14 s13 =>
  (if x14 = 0 then
  (if vp_nar .boolean 0 = 0 then rI 0 s13 else none) else
  (k70 s13)))) else
  (if (s0.1 14) = 0 then
  (tald s0 8 0 fun x7 =>
  (if 0 < x7 then
  (if vp_nar .boolean 1 = 1 then rI 1 s0 else none) else
  (xcI (T_errs s0 5) fun x9 s8 =>
  (if x9 = 0 then
  (if vp_nar .boolean 0 = 0 then rI 0 s8 else none) else
  (if vp_nar .boolean 1 = 1 then rI 1 s8 else none))))) else
  (xcI (T_errs s0 1) fun x11 s10 =>
  (if vp_nar .boolean x11 = x11 then rI x11 s10 else none))))
def T_readAll_50  (k17 : Int32 × TS → Option (xO × TS)) (v2 : Int32) (w1 : Int32) (w2 : Int32) (s0 : TS) : Option (xO × TS) :=
  (tast s0 8 w1 w2 fun s15 =>
  (bnd (v2 + 1) fun x16 =>
  (k17 (x16, s15))))
def T_readAll_17F   (k17 : Int32 × TS → Option (xO × TS)) (p : Int32 × TS) : Option (xO × TS) := match p with
  | (v2, s0) => (if 397 ≤ v2 then
  (xcV (T_goesOn s0 ) fun s4 =>
  (xcI (T_readLine s4 ) fun x6 s5 =>
  (if x6 = 0 then
  (if vp_nar .boolean 0 = 0 then rI 0 s5 else none) else
  (lp (T_readAll_70F) FU s5)))) else
  (if v2 = 2 then
  (T_readAll_50 k17 v2 v2 10 s0) else
  (if v2 = 3 then
  (T_readAll_50 k17 v2 v2 20 s0) else
  (T_readAll_50 k17 v2 v2 0 s0))))
def T_readAll (s0 : TS) (a1 : Int32) : Option (xO × TS) :=
  (bnd (tI s0 11 a1) fun s1 =>
  (bnd (tI s1 13 0) fun s2 =>
  (bnd (tI s2 16 0) fun s3 =>
  (lp (T_readAll_17F) FU (0, s3)))))
theorem T_readAll_70F_ok {G : xG} {E : TE} (hO : xOK G) (hE : tok E)   {k70 : TS → Option (xO × TS)} (hk70 : ∀  (s0 : TS), XT G E "ForestLegsModel" "readAll" cX2_readAll 3 (Option.some Jvm.ClassFile.FieldType.boolean) 9 70 [(0, .ref E.2.1)] [] s0 (k70 (s0)))  (s0 : TS) : XT G E "ForestLegsModel" "readAll" cX2_readAll 3 (Option.some Jvm.ClassFile.FieldType.boolean) 9 70 [(0, .ref E.2.1)] [] s0 (T_readAll_70F k70 s0) := by
  unfold T_readAll_70F
  refine x_aload_nr 0 dX2_readAll_70 rfl rfl (n := 71) rfl ?_
  refine tw_getI fl_X2_76 rfl (by decide) dX2_readAll_71 (n := 74) rfl ?_
  refine x_bipush 59 dX2_readAll_74 rfl (n := 76) rfl ?_
  refine tw_icmp_ne dX2_readAll_76 (t := 92) (by decide) (n := 79) rfl ?_ ?_
  · refine x_aload_nr 0 dX2_readAll_92 rfl rfl (n := 93) rfl ?_
    refine tw_getI fl_X2_76 rfl (by decide) dX2_readAll_93 (n := 96) rfl ?_
    refine tw_if_eq dX2_readAll_96 (t := 105) (by decide) (n := 99) rfl ?_ ?_
    · refine x_aload_nr 0 dX2_readAll_105 rfl rfl (n := 106) rfl ?_
      refine tw_getA fl_X2_20 rfl (by decide) dX2_readAll_106 (n := 109) rfl ?_
      refine x_iconst 0 dX2_readAll_109 rfl (n := 110) rfl ?_
      refine tw_iald hE (by decide) dX2_readAll_110 (n := 111) rfl (fun x7 => ?_)
      refine tw_if_gt dX2_readAll_111 (t := 122) (by decide) (n := 114) rfl ?_ ?_
      · refine x_iconst 1 dX2_readAll_122 rfl (n := 123) rfl ?_
        refine x_goto dX2_readAll_123 (n := 127) (by decide) ?_
        exact tw_zreturn rfl dX2_readAll_127
      · refine x_aload_nr 0 dX2_readAll_114 rfl rfl (n := 115) rfl ?_
        refine x_iconst 5 dX2_readAll_115 rfl (n := 116) rfl ?_
        refine tw_callV_I [.int 5] [] (T_errs_ok hO hE s0 5) md_X2_errs q3063 q3065 qs70 dX2_readAll_116 rfl rfl (by decide) (Nat.le_of_ble_eq_true rfl) (n := 119) rfl (fun x9 s8 => ?_)
        refine tw_if_eq dX2_readAll_119 (t := 126) (by decide) (n := 122) rfl ?_ ?_
        · refine x_iconst 0 dX2_readAll_126 rfl (n := 127) rfl ?_
          exact tw_zreturn rfl dX2_readAll_127
        · refine x_iconst 1 dX2_readAll_122 rfl (n := 123) rfl ?_
          refine x_goto dX2_readAll_123 (n := 127) (by decide) ?_
          exact tw_zreturn rfl dX2_readAll_127
    · refine x_aload_nr 0 dX2_readAll_99 rfl rfl (n := 100) rfl ?_
      refine x_iconst 1 dX2_readAll_100 rfl (n := 101) rfl ?_
      refine tw_callV_I [.int 1] [] (T_errs_ok hO hE s0 1) md_X2_errs q3063 q3065 qs70 dX2_readAll_101 rfl rfl (by decide) (Nat.le_of_ble_eq_true rfl) (n := 104) rfl (fun x11 s10 => ?_)
      exact tw_zreturn rfl dX2_readAll_104
  · refine x_aload_nr 0 dX2_readAll_79 rfl rfl (n := 80) rfl ?_
    refine tw_callV_V [] [] (T_goesOn_ok hO hE s0 ) md_X2_goesOn q3030 q3032 qs65 dX2_readAll_80 rfl rfl (by decide) (Nat.le_of_ble_eq_true rfl) (n := 83) rfl (fun s12 => ?_)
    refine x_aload_nr 0 dX2_readAll_83 rfl rfl (n := 84) rfl ?_
    refine tw_callV_I [] [] (T_readLine_ok hO hE s12 ) md_X2_readLine q3038 q3040 qs67 dX2_readAll_84 rfl rfl (by decide) (Nat.le_of_ble_eq_true rfl) (n := 87) rfl (fun x14 s13 => ?_)
    refine tw_if_ne dX2_readAll_87 (t := 70) (by decide) (n := 90) rfl ?_ ?_
    · exact hk70  s13
    · refine x_iconst 0 dX2_readAll_90 rfl (n := 91) rfl ?_
      exact tw_zreturn rfl dX2_readAll_91
theorem T_readAll_70_lp {G : xG} {E : TE} (hO : xOK G) (hE : tok E)   (n : Nat)  (s0 : TS) : XT G E "ForestLegsModel" "readAll" cX2_readAll 3 (Option.some Jvm.ClassFile.FieldType.boolean) 9 70 [(0, .ref E.2.1)] [] s0 (lp (T_readAll_70F) n s0) :=
  lp_ok (W := fun p K => XT G E "ForestLegsModel" "readAll" cX2_readAll 3 (Option.some Jvm.ClassFile.FieldType.boolean) 9 70 [(0, .ref E.2.1)] [] p K) (fun _ => tw_no) (fun k hk => fun s0 => T_readAll_70F_ok hO hE (fun  s0 => hk s0)  s0) n s0
theorem T_readAll_50_ok {G : xG} {E : TE} (hO : xOK G) (hE : tok E)  {k17 : Int32 × TS → Option (xO × TS)} (hk17 : ∀ (v2 : Int32) (s0 : TS), XT G E "ForestLegsModel" "readAll" cX2_readAll 3 (Option.some Jvm.ClassFile.FieldType.boolean) 9 17 [(0, .ref E.2.1), (2, .int v2)] [] s0 (k17 (v2, s0))) (v2 : Int32) (w1 : Int32) (w2 : Int32) (s0 : TS) : XT G E "ForestLegsModel" "readAll" cX2_readAll 3 (Option.some Jvm.ClassFile.FieldType.boolean) 9 50 [(0, .ref E.2.1), (2, .int v2)] [.int w2, .int w1, .ref (E.2.2 8)] s0 (T_readAll_50 k17 v2 w1 w2 s0) := by
  unfold T_readAll_50
  refine tw_iast hE (by decide) dX2_readAll_50 (n := 51) rfl (fun s15 => ?_)
  refine tw_iinc 1 (fun x16 => [(2, .int x16), (0, .ref E.2.1)]) dX2_readAll_51 rfl rfl (by decide) (fun _ => rfl) (n := 54) rfl (fun x16 => ?_)
  refine x_goto dX2_readAll_54 (n := 17) (by decide) ?_
  refine x_sub [1, 0] [(0, .ref E.2.1), (2, .int x16)] rfl ?_
  exact hk17 x16 s15
theorem T_readAll_17F_ok {G : xG} {E : TE} (hO : xOK G) (hE : tok E)   {k17 : Int32 × TS → Option (xO × TS)} (hk17 : ∀ (v2 : Int32) (s0 : TS), XT G E "ForestLegsModel" "readAll" cX2_readAll 3 (Option.some Jvm.ClassFile.FieldType.boolean) 9 17 [(0, .ref E.2.1), (2, .int v2)] [] s0 (k17 (v2, s0))) (v2 : Int32) (s0 : TS) : XT G E "ForestLegsModel" "readAll" cX2_readAll 3 (Option.some Jvm.ClassFile.FieldType.boolean) 9 17 [(0, .ref E.2.1), (2, .int v2)] [] s0 (T_readAll_17F k17 (v2, s0)) := by
  unfold T_readAll_17F
  refine x_iload_n 1 dX2_readAll_17 rfl rfl (n := 18) rfl ?_
  refine x_sipush 397 dX2_readAll_18 rfl (n := 21) rfl ?_
  refine tw_icmp_ge dX2_readAll_21 (t := 57) (by decide) (n := 24) rfl ?_ ?_
  · refine x_aload_nr 0 dX2_readAll_57 rfl rfl (n := 58) rfl ?_
    refine tw_callV_V [] [] (T_goesOn_ok hO hE s0 ) md_X2_goesOn q3030 q3032 qs65 dX2_readAll_58 rfl rfl (by decide) (Nat.le_of_ble_eq_true rfl) (n := 61) rfl (fun s4 => ?_)
    refine x_aload_nr 0 dX2_readAll_61 rfl rfl (n := 62) rfl ?_
    refine tw_callV_I [] [] (T_readLine_ok hO hE s4 ) md_X2_readLine q3038 q3040 qs67 dX2_readAll_62 rfl rfl (by decide) (Nat.le_of_ble_eq_true rfl) (n := 65) rfl (fun x6 s5 => ?_)
    refine tw_if_ne dX2_readAll_65 (t := 70) (by decide) (n := 68) rfl ?_ ?_
    · refine x_sub [0] [(0, .ref E.2.1)] rfl ?_
      exact T_readAll_70_lp hO hE FU  s5
    · refine x_iconst 0 dX2_readAll_68 rfl (n := 69) rfl ?_
      exact tw_zreturn rfl dX2_readAll_69
  · refine x_aload_nr 0 dX2_readAll_24 rfl rfl (n := 25) rfl ?_
    refine tw_getA fl_X2_20 rfl (by decide) dX2_readAll_25 (n := 28) rfl ?_
    refine x_iload_n 1 dX2_readAll_28 rfl rfl (n := 29) rfl ?_
    refine x_iload_n 1 dX2_readAll_29 rfl rfl (n := 30) rfl ?_
    refine x_iconst 2 dX2_readAll_30 rfl (n := 31) rfl ?_
    refine tw_icmp_ne dX2_readAll_31 (t := 39) (by decide) (n := 34) rfl ?_ ?_
    · refine x_iload_n 1 dX2_readAll_39 rfl rfl (n := 40) rfl ?_
      refine x_iconst 3 dX2_readAll_40 rfl (n := 41) rfl ?_
      refine tw_icmp_ne dX2_readAll_41 (t := 49) (by decide) (n := 44) rfl ?_ ?_
      · refine x_iconst 0 dX2_readAll_49 rfl (n := 50) rfl ?_
        exact T_readAll_50_ok hO hE hk17 v2 v2 0 s0
      · refine x_bipush 20 dX2_readAll_44 rfl (n := 46) rfl ?_
        refine x_goto dX2_readAll_46 (n := 50) (by decide) ?_
        exact T_readAll_50_ok hO hE hk17 v2 v2 20 s0
    · refine x_bipush 10 dX2_readAll_34 rfl (n := 36) rfl ?_
      refine x_goto dX2_readAll_36 (n := 50) (by decide) ?_
      exact T_readAll_50_ok hO hE hk17 v2 v2 10 s0
theorem T_readAll_17_lp {G : xG} {E : TE} (hO : xOK G) (hE : tok E)   (n : Nat) (v2 : Int32) (s0 : TS) : XT G E "ForestLegsModel" "readAll" cX2_readAll 3 (Option.some Jvm.ClassFile.FieldType.boolean) 9 17 [(0, .ref E.2.1), (2, .int v2)] [] s0 (lp (T_readAll_17F) n (v2, s0)) :=
  lp_ok (W := fun p K => XT G E "ForestLegsModel" "readAll" cX2_readAll 3 (Option.some Jvm.ClassFile.FieldType.boolean) 9 17 [(0, .ref E.2.1), (2, .int p.1)] [] p.2 K) (fun _ => tw_no) (fun k hk => fun (v2, s0) => T_readAll_17F_ok hO hE (fun v2 s0 => hk (v2, s0)) v2 s0) n (v2, s0)
theorem T_readAll_ok {G : xG} {E : TE} (hO : xOK G) (hE : tok E) (s0 : TS) (a1 : Int32) : CTT G E 9 yX2_readAll cX2_readAll 3 (Option.some Jvm.ClassFile.FieldType.boolean) [.ref E.2.1, .int a1] s0 (T_readAll s0 a1) := by
  refine CT_of hO (by decide +kernel) (by decide +kernel) (Nat.le_of_ble_eq_true rfl) ?_
  show XT G E "ForestLegsModel" "readAll" cX2_readAll 3 (Option.some Jvm.ClassFile.FieldType.boolean) 9 0 [(0, .ref E.2.1), (1, .int a1)] [] s0 (T_readAll s0 a1)
  refine x_aload_nr 0 dX2_readAll_0 rfl rfl (n := 1) rfl ?_
  refine x_iload_n 1 dX2_readAll_1 rfl rfl (n := 2) rfl ?_
  refine tw_put (pl_X2_63 _ _ ⟨rfl, rfl⟩) rfl (by decide) dX2_readAll_2 (n := 5) rfl (fun s1 => ?_)
  refine x_aload_nr 0 dX2_readAll_5 rfl rfl (n := 6) rfl ?_
  refine x_iconst 0 dX2_readAll_6 rfl (n := 7) rfl ?_
  refine tw_put (pl_X2_66 _ _ ⟨rfl, rfl⟩) rfl (by decide) dX2_readAll_7 (n := 10) rfl (fun s2 => ?_)
  refine x_aload_nr 0 dX2_readAll_10 rfl rfl (n := 11) rfl ?_
  refine x_iconst 0 dX2_readAll_11 rfl (n := 12) rfl ?_
  refine tw_put (pl_X2_142 _ _ ⟨rfl, rfl⟩) rfl (by decide) dX2_readAll_12 (n := 15) rfl (fun s3 => ?_)
  refine x_iconst 0 dX2_readAll_15 rfl (n := 16) rfl ?_
  refine x_istore_n [(2, .int 0), (0, .ref E.2.1), (1, .int a1)] dX2_readAll_16 rfl (by decide) rfl (n := 17) rfl ?_
  refine x_sub [1, 0] [(0, .ref E.2.1), (2, .int 0)] rfl ?_
  exact T_readAll_17_lp hO hE FU 0 s3
abbrev cX2_no : ByteArray := prog_14_method_4_code
def yX2_no : MethodName := ⟨RX2, "no", "(I)I"⟩
def dkwX2_no_0 : List UInt8 := [42, 27, 181, 0, 53, 2, 172]
abbrev dktX2_no_0 : List UInt8 := dkwX2_no_0 ++ []
theorem dksX2_no_0 : cX2_no.data.toList.drop 0 = dktX2_no_0 := by decide +kernel
theorem dX2_no_0 : decode cX2_no 0 = .ok (.aload_n 0, 1) := dk_42 (dk_at dksX2_no_0 0 rfl rfl)
theorem dX2_no_1 : decode cX2_no 1 = .ok (.iload_n 1, 1) := dk_27 (dk_at dksX2_no_0 1 rfl rfl)
theorem dX2_no_2 : decode cX2_no 2 = .ok (.putfield 53, 3) := dk_181 0 53 (dk_at dksX2_no_0 2 rfl rfl)
theorem dX2_no_5 : decode cX2_no 5 = .ok (.iconst (-1), 1) := dk_2 (dk_at dksX2_no_0 5 rfl rfl)
theorem dX2_no_6 : decode cX2_no 6 = .ok (.ireturn, 1) := dk_172 (dk_at dksX2_no_0 6 rfl rfl)
theorem md_X2_no : xMd yX2_no cX2_no 2 (Option.some Jvm.ClassFile.FieldType.int) 1 := ⟨q3105, q126, by decide, by decide +kernel, by decide +kernel, by decide +kernel⟩
def T_no (s0 : TS) (a1 : Int32) : Option (xO × TS) :=
  (bnd (tI s0 1 a1) fun s1 =>
  (rI (-1) s1))
theorem T_no_ok {G : xG} {E : TE} (hO : xOK G) (hE : tok E) (s0 : TS) (a1 : Int32) : CTT G E 0 yX2_no cX2_no 2 (Option.some Jvm.ClassFile.FieldType.int) [.ref E.2.1, .int a1] s0 (T_no s0 a1) := by
  refine CT_of hO (by decide +kernel) (by decide +kernel) (Nat.le_of_ble_eq_true rfl) ?_
  show XT G E "ForestLegsModel" "no" cX2_no 2 (Option.some Jvm.ClassFile.FieldType.int) 0 0 [(0, .ref E.2.1), (1, .int a1)] [] s0 (T_no s0 a1)
  refine x_aload_nr 0 dX2_no_0 rfl rfl (n := 1) rfl ?_
  refine x_iload_n 1 dX2_no_1 rfl rfl (n := 2) rfl ?_
  refine tw_put (pl_X2_53 _ _ ⟨rfl, rfl⟩) rfl (by decide) dX2_no_2 (n := 5) rfl (fun s1 => ?_)
  refine x_iconst (-1) dX2_no_5 rfl (n := 6) rfl ?_
  exact tw_ireturn dX2_no_6
abbrev cX2_lays : ByteArray := prog_14_method_25_code
def yX2_lays : MethodName := ⟨RX2, "lays", "([II[III)V"⟩
def dkwX2_lays_1 : List UInt8 := [132, 5, 1, 167, 255, 234, 177]
abbrev dktX2_lays_1 : List UInt8 := dkwX2_lays_1 ++ []
def dkwX2_lays_0 : List UInt8 := [3, 54, 5, 21, 5, 21, 4, 162, 0, 21, 42, 27, 21, 5, 96, 44, 29, 21, 5, 96, 46, 79]
abbrev dktX2_lays_0 : List UInt8 := dkwX2_lays_0 ++ dktX2_lays_1
theorem dksX2_lays_0 : cX2_lays.data.toList.drop 0 = dktX2_lays_0 := by decide +kernel
theorem dksX2_lays_1 : cX2_lays.data.toList.drop 22 = dktX2_lays_1 := dk_seg dksX2_lays_0 22 rfl rfl
theorem dX2_lays_0 : decode cX2_lays 0 = .ok (.iconst 0, 1) := dk_3 (dk_at dksX2_lays_0 0 rfl rfl)
theorem dX2_lays_1 : decode cX2_lays 1 = .ok (.istore 5, 2) := dk_54 5 (dk_at dksX2_lays_0 1 rfl rfl)
theorem dX2_lays_3 : decode cX2_lays 3 = .ok (.iload 5, 2) := dk_21 5 (dk_at dksX2_lays_0 3 rfl rfl)
theorem dX2_lays_5 : decode cX2_lays 5 = .ok (.iload 4, 2) := dk_21 4 (dk_at dksX2_lays_0 5 rfl rfl)
theorem dX2_lays_7 : decode cX2_lays 7 = .ok (.if_icmp .ge 21, 3) := dk_162 0 21 (dk_at dksX2_lays_0 7 rfl rfl)
theorem dX2_lays_10 : decode cX2_lays 10 = .ok (.aload_n 0, 1) := dk_42 (dk_at dksX2_lays_0 10 rfl rfl)
theorem dX2_lays_11 : decode cX2_lays 11 = .ok (.iload_n 1, 1) := dk_27 (dk_at dksX2_lays_0 11 rfl rfl)
theorem dX2_lays_12 : decode cX2_lays 12 = .ok (.iload 5, 2) := dk_21 5 (dk_at dksX2_lays_0 12 rfl rfl)
theorem dX2_lays_14 : decode cX2_lays 14 = .ok (.iadd, 1) := dk_96 (dk_at dksX2_lays_0 14 rfl rfl)
theorem dX2_lays_15 : decode cX2_lays 15 = .ok (.aload_n 2, 1) := dk_44 (dk_at dksX2_lays_0 15 rfl rfl)
theorem dX2_lays_16 : decode cX2_lays 16 = .ok (.iload_n 3, 1) := dk_29 (dk_at dksX2_lays_0 16 rfl rfl)
theorem dX2_lays_17 : decode cX2_lays 17 = .ok (.iload 5, 2) := dk_21 5 (dk_at dksX2_lays_0 17 rfl rfl)
theorem dX2_lays_19 : decode cX2_lays 19 = .ok (.iadd, 1) := dk_96 (dk_at dksX2_lays_0 19 rfl rfl)
theorem dX2_lays_20 : decode cX2_lays 20 = .ok (.iaload, 1) := dk_46 (dk_at dksX2_lays_0 20 rfl rfl)
theorem dX2_lays_21 : decode cX2_lays 21 = .ok (.iastore, 1) := dk_79 (dk_at dksX2_lays_0 21 rfl rfl)
theorem dX2_lays_22 : decode cX2_lays 22 = .ok (.iinc 5 1, 3) := dk_132 5 1 (dk_at dksX2_lays_1 0 rfl rfl)
theorem dX2_lays_25 : decode cX2_lays 25 = .ok (.goto (-22), 3) := dk_167 255 234 (dk_at dksX2_lays_1 3 rfl rfl)
theorem dX2_lays_28 : decode cX2_lays 28 = .ok (.return_, 1) := dk_177 (dk_at dksX2_lays_1 6 rfl rfl)
theorem md_X2_lays : xMd yX2_lays cX2_lays 6 (Option.none : Option Jvm.ClassFile.FieldType) 5 := ⟨q3108, q126, by decide, by decide +kernel, by decide +kernel, by decide +kernel⟩
def T_lays_3F (a0 : Nat) (a2 : Nat)  (k3 : Int32 × Int32 × Int32 × Int32 × TS → Option (xO × TS)) (p : Int32 × Int32 × Int32 × Int32 × TS) : Option (xO × TS) := match p with
  | (v1, v3, v4, v5, s0) => (if v4 ≤ v5 then
  (rV s0) else
  (tald s0 a2 (v3 + v5) fun x1 =>
  (tast s0 a0 (v1 + v5) x1 fun s2 =>
  (bnd (v5 + 1) fun x3 =>
  (k3 (v1, v3, v4, x3, s2))))))
def T_lays (s0 : TS) (a0 : Nat) (a1 : Int32) (a2 : Nat) (a3 : Int32) (a4 : Int32) : Option (xO × TS) :=
  (lp (T_lays_3F a0 a2) FU (a1, a3, a4, 0, s0))
theorem T_lays_3F_ok {G : xG} {E : TE} (hO : xOK G) (hE : tok E) (a0 : Nat) (a2 : Nat) (ha0 : a0 ∈ tarrs) (ha2 : a2 ∈ tarrs)  {k3 : Int32 × Int32 × Int32 × Int32 × TS → Option (xO × TS)} (hk3 : ∀ (v1 : Int32) (v3 : Int32) (v4 : Int32) (v5 : Int32) (s0 : TS), XT G E "ForestLegsModel" "lays" cX2_lays 6 (Option.none : Option Jvm.ClassFile.FieldType) 0 3 [(0, .ref (E.2.2 a0)), (1, .int v1), (2, .ref (E.2.2 a2)), (3, .int v3), (4, .int v4), (5, .int v5)] [] s0 (k3 (v1, v3, v4, v5, s0))) (v1 : Int32) (v3 : Int32) (v4 : Int32) (v5 : Int32) (s0 : TS) : XT G E "ForestLegsModel" "lays" cX2_lays 6 (Option.none : Option Jvm.ClassFile.FieldType) 0 3 [(0, .ref (E.2.2 a0)), (1, .int v1), (2, .ref (E.2.2 a2)), (3, .int v3), (4, .int v4), (5, .int v5)] [] s0 (T_lays_3F a0 a2 k3 (v1, v3, v4, v5, s0)) := by
  unfold T_lays_3F
  refine x_iload 5 dX2_lays_3 rfl (n := 5) rfl ?_
  refine x_iload 4 dX2_lays_5 rfl (n := 7) rfl ?_
  refine tw_icmp_ge dX2_lays_7 (t := 28) (by decide) (n := 10) rfl ?_ ?_
  · exact tw_return dX2_lays_28
  · refine x_aload_nr 0 dX2_lays_10 rfl rfl (n := 11) rfl ?_
    refine x_iload_n 1 dX2_lays_11 rfl rfl (n := 12) rfl ?_
    refine x_iload 5 dX2_lays_12 rfl (n := 14) rfl ?_
    refine x_iadd dX2_lays_14 (n := 15) rfl ?_
    refine x_aload_nr 2 dX2_lays_15 rfl rfl (n := 16) rfl ?_
    refine x_iload_n 3 dX2_lays_16 rfl rfl (n := 17) rfl ?_
    refine x_iload 5 dX2_lays_17 rfl (n := 19) rfl ?_
    refine x_iadd dX2_lays_19 (n := 20) rfl ?_
    refine tw_iald hE ha2 dX2_lays_20 (n := 21) rfl (fun x1 => ?_)
    refine tw_iast hE ha0 dX2_lays_21 (n := 22) rfl (fun s2 => ?_)
    refine tw_iinc 5 (fun x3 => [(5, .int x3), (0, .ref (E.2.2 a0)), (1, .int v1), (2, .ref (E.2.2 a2)), (3, .int v3), (4, .int v4)]) dX2_lays_22 rfl rfl (by decide) (fun _ => rfl) (n := 25) rfl (fun x3 => ?_)
    refine x_goto dX2_lays_25 (n := 3) (by decide) ?_
    refine x_sub [1, 2, 3, 4, 5, 0] [(0, .ref (E.2.2 a0)), (1, .int v1), (2, .ref (E.2.2 a2)), (3, .int v3), (4, .int v4), (5, .int x3)] rfl ?_
    exact hk3 v1 v3 v4 x3 s2
theorem T_lays_3_lp {G : xG} {E : TE} (hO : xOK G) (hE : tok E) (a0 : Nat) (a2 : Nat) (ha0 : a0 ∈ tarrs) (ha2 : a2 ∈ tarrs)  (n : Nat) (v1 : Int32) (v3 : Int32) (v4 : Int32) (v5 : Int32) (s0 : TS) : XT G E "ForestLegsModel" "lays" cX2_lays 6 (Option.none : Option Jvm.ClassFile.FieldType) 0 3 [(0, .ref (E.2.2 a0)), (1, .int v1), (2, .ref (E.2.2 a2)), (3, .int v3), (4, .int v4), (5, .int v5)] [] s0 (lp (T_lays_3F a0 a2) n (v1, v3, v4, v5, s0)) :=
  lp_ok (W := fun p K => XT G E "ForestLegsModel" "lays" cX2_lays 6 (Option.none : Option Jvm.ClassFile.FieldType) 0 3 [(0, .ref (E.2.2 a0)), (1, .int p.1), (2, .ref (E.2.2 a2)), (3, .int p.2.1), (4, .int p.2.2.1), (5, .int p.2.2.2.1)] [] p.2.2.2.2 K) (fun _ => tw_no) (fun k hk => fun (v1, v3, v4, v5, s0) => T_lays_3F_ok hO hE a0 a2 ha0 ha2 (fun v1 v3 v4 v5 s0 => hk (v1, v3, v4, v5, s0)) v1 v3 v4 v5 s0) n (v1, v3, v4, v5, s0)
theorem T_lays_ok {G : xG} {E : TE} (hO : xOK G) (hE : tok E) (s0 : TS) (a0 : Nat) (a1 : Int32) (a2 : Nat) (a3 : Int32) (a4 : Int32) (ha0 : a0 ∈ tarrs) (ha2 : a2 ∈ tarrs) : CTT G E 0 yX2_lays cX2_lays 6 (Option.none : Option Jvm.ClassFile.FieldType) [.ref (E.2.2 a0), .int a1, .ref (E.2.2 a2), .int a3, .int a4] s0 (T_lays s0 a0 a1 a2 a3 a4) := by
  refine CT_of hO (by decide +kernel) (by decide +kernel) (Nat.le_of_ble_eq_true rfl) ?_
  show XT G E "ForestLegsModel" "lays" cX2_lays 6 (Option.none : Option Jvm.ClassFile.FieldType) 0 0 [(0, .ref (E.2.2 a0)), (1, .int a1), (2, .ref (E.2.2 a2)), (3, .int a3), (4, .int a4)] [] s0 (T_lays s0 a0 a1 a2 a3 a4)
  refine x_iconst 0 dX2_lays_0 rfl (n := 1) rfl ?_
  refine x_istore [(5, .int 0), (0, .ref (E.2.2 a0)), (1, .int a1), (2, .ref (E.2.2 a2)), (3, .int a3), (4, .int a4)] dX2_lays_1 (by decide) rfl (n := 3) rfl ?_
  refine x_sub [1, 2, 3, 4, 5, 0] [(0, .ref (E.2.2 a0)), (1, .int a1), (2, .ref (E.2.2 a2)), (3, .int a3), (4, .int a4), (5, .int 0)] rfl ?_
  exact T_lays_3_lp hO hE a0 a2 ha0 ha2 FU a1 a3 a4 0 s0
abbrev cX2_text : ByteArray := prog_14_method_26_code
def yX2_text : MethodName := ⟨RX2, "text", "(I)I"⟩
def dkwX2_text_4 : List UInt8 := [180, 0, 26, 3, 16, 78, 184, 0, 180, 42, 180, 0, 17, 4, 46, 172]
abbrev dktX2_text_4 : List UInt8 := dkwX2_text_4 ++ []
def dkwX2_text_3 : List UInt8 := [42, 180, 0, 17, 3, 42, 180, 0, 20, 3, 17, 1, 141, 184, 0, 180, 42, 180, 0, 23, 3, 42]
abbrev dktX2_text_3 : List UInt8 := dkwX2_text_3 ++ dktX2_text_4
def dkwX2_text_2 : List UInt8 := [42, 42, 180, 0, 99, 181, 0, 9, 42, 7, 182, 0, 170, 172, 42, 4, 181, 0, 173, 42, 3, 181, 0, 177]
abbrev dktX2_text_2 : List UInt8 := dkwX2_text_2 ++ dktX2_text_3
def dkwX2_text_1 : List UInt8 := [181, 0, 56, 42, 3, 181, 0, 164, 42, 27, 182, 0, 167, 154, 0, 25, 42, 42, 180, 0, 96, 181, 0, 164]
abbrev dktX2_text_1 : List UInt8 := dkwX2_text_1 ++ dktX2_text_2
def dkwX2_text_0 : List UInt8 := [42, 4, 27, 3, 42, 180, 0, 56, 184, 0, 79, 184, 0, 157, 182, 0, 161, 153, 0, 5, 2, 172, 42, 3]
abbrev dktX2_text_0 : List UInt8 := dkwX2_text_0 ++ dktX2_text_1
theorem dksX2_text_0 : cX2_text.data.toList.drop 0 = dktX2_text_0 := by decide +kernel
theorem dksX2_text_1 : cX2_text.data.toList.drop 24 = dktX2_text_1 := dk_seg dksX2_text_0 24 rfl rfl
theorem dksX2_text_2 : cX2_text.data.toList.drop 48 = dktX2_text_2 := dk_seg dksX2_text_1 24 rfl rfl
theorem dksX2_text_3 : cX2_text.data.toList.drop 72 = dktX2_text_3 := dk_seg dksX2_text_2 24 rfl rfl
theorem dksX2_text_4 : cX2_text.data.toList.drop 94 = dktX2_text_4 := dk_seg dksX2_text_3 22 rfl rfl
theorem dX2_text_0 : decode cX2_text 0 = .ok (.aload_n 0, 1) := dk_42 (dk_at dksX2_text_0 0 rfl rfl)
theorem dX2_text_1 : decode cX2_text 1 = .ok (.iconst 1, 1) := dk_4 (dk_at dksX2_text_0 1 rfl rfl)
theorem dX2_text_2 : decode cX2_text 2 = .ok (.iload_n 1, 1) := dk_27 (dk_at dksX2_text_0 2 rfl rfl)
theorem dX2_text_3 : decode cX2_text 3 = .ok (.iconst 0, 1) := dk_3 (dk_at dksX2_text_0 3 rfl rfl)
theorem dX2_text_4 : decode cX2_text 4 = .ok (.aload_n 0, 1) := dk_42 (dk_at dksX2_text_0 4 rfl rfl)
theorem dX2_text_5 : decode cX2_text 5 = .ok (.getfield 56, 3) := dk_180 0 56 (dk_at dksX2_text_0 5 rfl rfl)
theorem dX2_text_8 : decode cX2_text 8 = .ok (.invokestatic 79, 3) := dk_184 0 79 (dk_at dksX2_text_0 8 rfl rfl)
theorem dX2_text_11 : decode cX2_text 11 = .ok (.invokestatic 157, 3) := dk_184 0 157 (dk_at dksX2_text_0 11 rfl rfl)
theorem dX2_text_14 : decode cX2_text 14 = .ok (.invokevirtual 161, 3) := dk_182 0 161 (dk_at dksX2_text_0 14 rfl rfl)
theorem dX2_text_17 : decode cX2_text 17 = .ok (.ifCond .eq 5, 3) := dk_153 0 5 (dk_at dksX2_text_0 17 rfl rfl)
theorem dX2_text_20 : decode cX2_text 20 = .ok (.iconst (-1), 1) := dk_2 (dk_at dksX2_text_0 20 rfl rfl)
theorem dX2_text_21 : decode cX2_text 21 = .ok (.ireturn, 1) := dk_172 (dk_at dksX2_text_0 21 rfl rfl)
theorem dX2_text_22 : decode cX2_text 22 = .ok (.aload_n 0, 1) := dk_42 (dk_at dksX2_text_0 22 rfl rfl)
theorem dX2_text_23 : decode cX2_text 23 = .ok (.iconst 0, 1) := dk_3 (dk_at dksX2_text_0 23 rfl rfl)
theorem dX2_text_24 : decode cX2_text 24 = .ok (.putfield 56, 3) := dk_181 0 56 (dk_at dksX2_text_1 0 rfl rfl)
theorem dX2_text_27 : decode cX2_text 27 = .ok (.aload_n 0, 1) := dk_42 (dk_at dksX2_text_1 3 rfl rfl)
theorem dX2_text_28 : decode cX2_text 28 = .ok (.iconst 0, 1) := dk_3 (dk_at dksX2_text_1 4 rfl rfl)
theorem dX2_text_29 : decode cX2_text 29 = .ok (.putfield 164, 3) := dk_181 0 164 (dk_at dksX2_text_1 5 rfl rfl)
theorem dX2_text_32 : decode cX2_text 32 = .ok (.aload_n 0, 1) := dk_42 (dk_at dksX2_text_1 8 rfl rfl)
theorem dX2_text_33 : decode cX2_text 33 = .ok (.iload_n 1, 1) := dk_27 (dk_at dksX2_text_1 9 rfl rfl)
theorem dX2_text_34 : decode cX2_text 34 = .ok (.invokevirtual 167, 3) := dk_182 0 167 (dk_at dksX2_text_1 10 rfl rfl)
theorem dX2_text_37 : decode cX2_text 37 = .ok (.ifCond .ne 25, 3) := dk_154 0 25 (dk_at dksX2_text_1 13 rfl rfl)
theorem dX2_text_40 : decode cX2_text 40 = .ok (.aload_n 0, 1) := dk_42 (dk_at dksX2_text_1 16 rfl rfl)
theorem dX2_text_41 : decode cX2_text 41 = .ok (.aload_n 0, 1) := dk_42 (dk_at dksX2_text_1 17 rfl rfl)
theorem dX2_text_42 : decode cX2_text 42 = .ok (.getfield 96, 3) := dk_180 0 96 (dk_at dksX2_text_1 18 rfl rfl)
theorem dX2_text_45 : decode cX2_text 45 = .ok (.putfield 164, 3) := dk_181 0 164 (dk_at dksX2_text_1 21 rfl rfl)
theorem dX2_text_48 : decode cX2_text 48 = .ok (.aload_n 0, 1) := dk_42 (dk_at dksX2_text_2 0 rfl rfl)
theorem dX2_text_49 : decode cX2_text 49 = .ok (.aload_n 0, 1) := dk_42 (dk_at dksX2_text_2 1 rfl rfl)
theorem dX2_text_50 : decode cX2_text 50 = .ok (.getfield 99, 3) := dk_180 0 99 (dk_at dksX2_text_2 2 rfl rfl)
theorem dX2_text_53 : decode cX2_text 53 = .ok (.putfield 9, 3) := dk_181 0 9 (dk_at dksX2_text_2 5 rfl rfl)
theorem dX2_text_56 : decode cX2_text 56 = .ok (.aload_n 0, 1) := dk_42 (dk_at dksX2_text_2 8 rfl rfl)
theorem dX2_text_57 : decode cX2_text 57 = .ok (.iconst 4, 1) := dk_7 (dk_at dksX2_text_2 9 rfl rfl)
theorem dX2_text_58 : decode cX2_text 58 = .ok (.invokevirtual 170, 3) := dk_182 0 170 (dk_at dksX2_text_2 10 rfl rfl)
theorem dX2_text_61 : decode cX2_text 61 = .ok (.ireturn, 1) := dk_172 (dk_at dksX2_text_2 13 rfl rfl)
theorem dX2_text_62 : decode cX2_text 62 = .ok (.aload_n 0, 1) := dk_42 (dk_at dksX2_text_2 14 rfl rfl)
theorem dX2_text_63 : decode cX2_text 63 = .ok (.iconst 1, 1) := dk_4 (dk_at dksX2_text_2 15 rfl rfl)
theorem dX2_text_64 : decode cX2_text 64 = .ok (.putfield 173, 3) := dk_181 0 173 (dk_at dksX2_text_2 16 rfl rfl)
theorem dX2_text_67 : decode cX2_text 67 = .ok (.aload_n 0, 1) := dk_42 (dk_at dksX2_text_2 19 rfl rfl)
theorem dX2_text_68 : decode cX2_text 68 = .ok (.iconst 0, 1) := dk_3 (dk_at dksX2_text_2 20 rfl rfl)
theorem dX2_text_69 : decode cX2_text 69 = .ok (.putfield 177, 3) := dk_181 0 177 (dk_at dksX2_text_2 21 rfl rfl)
theorem dX2_text_72 : decode cX2_text 72 = .ok (.aload_n 0, 1) := dk_42 (dk_at dksX2_text_3 0 rfl rfl)
theorem dX2_text_73 : decode cX2_text 73 = .ok (.getfield 17, 3) := dk_180 0 17 (dk_at dksX2_text_3 1 rfl rfl)
theorem dX2_text_76 : decode cX2_text 76 = .ok (.iconst 0, 1) := dk_3 (dk_at dksX2_text_3 4 rfl rfl)
theorem dX2_text_77 : decode cX2_text 77 = .ok (.aload_n 0, 1) := dk_42 (dk_at dksX2_text_3 5 rfl rfl)
theorem dX2_text_78 : decode cX2_text 78 = .ok (.getfield 20, 3) := dk_180 0 20 (dk_at dksX2_text_3 6 rfl rfl)
theorem dX2_text_81 : decode cX2_text 81 = .ok (.iconst 0, 1) := dk_3 (dk_at dksX2_text_3 9 rfl rfl)
theorem dX2_text_82 : decode cX2_text 82 = .ok (.sipush 397, 3) := dk_17 1 141 (dk_at dksX2_text_3 10 rfl rfl)
theorem dX2_text_85 : decode cX2_text 85 = .ok (.invokestatic 180, 3) := dk_184 0 180 (dk_at dksX2_text_3 13 rfl rfl)
theorem dX2_text_88 : decode cX2_text 88 = .ok (.aload_n 0, 1) := dk_42 (dk_at dksX2_text_3 16 rfl rfl)
theorem dX2_text_89 : decode cX2_text 89 = .ok (.getfield 23, 3) := dk_180 0 23 (dk_at dksX2_text_3 17 rfl rfl)
theorem dX2_text_92 : decode cX2_text 92 = .ok (.iconst 0, 1) := dk_3 (dk_at dksX2_text_3 20 rfl rfl)
theorem dX2_text_93 : decode cX2_text 93 = .ok (.aload_n 0, 1) := dk_42 (dk_at dksX2_text_3 21 rfl rfl)
theorem dX2_text_94 : decode cX2_text 94 = .ok (.getfield 26, 3) := dk_180 0 26 (dk_at dksX2_text_4 0 rfl rfl)
theorem dX2_text_97 : decode cX2_text 97 = .ok (.iconst 0, 1) := dk_3 (dk_at dksX2_text_4 3 rfl rfl)
theorem dX2_text_98 : decode cX2_text 98 = .ok (.bipush 78, 2) := dk_16 78 (dk_at dksX2_text_4 4 rfl rfl)
theorem dX2_text_100 : decode cX2_text 100 = .ok (.invokestatic 180, 3) := dk_184 0 180 (dk_at dksX2_text_4 6 rfl rfl)
theorem dX2_text_103 : decode cX2_text 103 = .ok (.aload_n 0, 1) := dk_42 (dk_at dksX2_text_4 9 rfl rfl)
theorem dX2_text_104 : decode cX2_text 104 = .ok (.getfield 17, 3) := dk_180 0 17 (dk_at dksX2_text_4 10 rfl rfl)
theorem dX2_text_107 : decode cX2_text 107 = .ok (.iconst 1, 1) := dk_4 (dk_at dksX2_text_4 13 rfl rfl)
theorem dX2_text_108 : decode cX2_text 108 = .ok (.iaload, 1) := dk_46 (dk_at dksX2_text_4 14 rfl rfl)
theorem dX2_text_109 : decode cX2_text 109 = .ok (.ireturn, 1) := dk_172 (dk_at dksX2_text_4 15 rfl rfl)
theorem md_X2_text : xMd yX2_text cX2_text 2 (Option.some Jvm.ClassFile.FieldType.int) 1 := ⟨q3015, q126, by decide, by decide +kernel, by decide +kernel, by decide +kernel⟩
def T_text (s0 : TS) (a1 : Int32) : Option (xO × TS) :=
  (xcI (T_in s0 a1 0 (s0.1 5)) fun x2 s1 =>
  (xcI (T_unless s1 1 x2) fun x4 s3 =>
  (xcI (T_isRefused s3 x4) fun x6 s5 =>
  (if x6 = 0 then
  (bnd (tI s5 5 0) fun s7 =>
  (bnd (tI s7 2 0) fun s8 =>
  (xcI (T_readAll s8 a1) fun x10 s9 =>
  (if x10 = 0 then
  (bnd (tI s9 2 (s9.1 17)) fun s16 =>
  (bnd (tI s16 3 (s16.1 18)) fun s17 =>
  (xcI (T_no s17 4) fun x19 s18 =>
  (rI x19 s18)))) else
  (bnd (tI s9 6 1) fun s11 =>
  (bnd (tI s11 30 0) fun s12 =>
  (xcV (T_lays s12 7 0 8 0 397) fun s13 =>
  (xcV (T_lays s13 9 0 10 0 78) fun s14 =>
  (tald s14 7 1 fun x15 =>
  (rI x15 s14)))))))))) else
  (rI (-1) s5)))))
theorem T_text_ok {G : xG} {E : TE} (hO : xOK G) (hE : tok E) (s0 : TS) (a1 : Int32) : CTT G E 10 yX2_text cX2_text 2 (Option.some Jvm.ClassFile.FieldType.int) [.ref E.2.1, .int a1] s0 (T_text s0 a1) := by
  refine CT_of hO (by decide +kernel) (by decide +kernel) (Nat.le_of_ble_eq_true rfl) ?_
  show XT G E "ForestLegsModel" "text" cX2_text 2 (Option.some Jvm.ClassFile.FieldType.int) 10 0 [(0, .ref E.2.1), (1, .int a1)] [] s0 (T_text s0 a1)
  refine x_aload_nr 0 dX2_text_0 rfl rfl (n := 1) rfl ?_
  refine x_iconst 1 dX2_text_1 rfl (n := 2) rfl ?_
  refine x_iload_n 1 dX2_text_2 rfl rfl (n := 3) rfl ?_
  refine x_iconst 0 dX2_text_3 rfl (n := 4) rfl ?_
  refine x_aload_nr 0 dX2_text_4 rfl rfl (n := 5) rfl ?_
  refine tw_getI fl_X2_56 rfl (by decide) dX2_text_5 (n := 8) rfl ?_
  refine tw_callS_I [.int a1, .int 0, .int (s0.1 5)] [.int 1, .ref E.2.1] (T_in_ok hO hE s0 a1 0 (s0.1 5)) md_X2_in q3016 q3017 dX2_text_8 rfl rfl (by decide) (Nat.le_of_ble_eq_true rfl) (n := 11) rfl (fun x2 s1 => ?_)
  refine tw_callS_I [.int 1, .int x2] [.ref E.2.1] (T_unless_ok hO hE s1 1 x2) md_X2_unless q3019 q3020 dX2_text_11 rfl rfl (by decide) (Nat.le_of_ble_eq_true rfl) (n := 14) rfl (fun x4 s3 => ?_)
  refine tw_callV_I [.int x4] [] (T_isRefused_ok hO hE s3 x4) md_X2_isRefused q3022 q3024 qs63 dX2_text_14 rfl rfl (by decide) (Nat.le_of_ble_eq_true rfl) (n := 17) rfl (fun x6 s5 => ?_)
  refine tw_if_eq dX2_text_17 (t := 22) (by decide) (n := 20) rfl ?_ ?_
  · refine x_aload_nr 0 dX2_text_22 rfl rfl (n := 23) rfl ?_
    refine x_iconst 0 dX2_text_23 rfl (n := 24) rfl ?_
    refine tw_put (pl_X2_56 _ _ ⟨rfl, rfl⟩) rfl (by decide) dX2_text_24 (n := 27) rfl (fun s7 => ?_)
    refine x_aload_nr 0 dX2_text_27 rfl rfl (n := 28) rfl ?_
    refine x_iconst 0 dX2_text_28 rfl (n := 29) rfl ?_
    refine tw_put (pl_X2_164 _ _ ⟨rfl, rfl⟩) rfl (by decide) dX2_text_29 (n := 32) rfl (fun s8 => ?_)
    refine x_aload_nr 0 dX2_text_32 rfl rfl (n := 33) rfl ?_
    refine x_iload_n 1 dX2_text_33 rfl rfl (n := 34) rfl ?_
    refine tw_callV_I [.int a1] [] (T_readAll_ok hO hE s8 a1) md_X2_readAll q3026 q3028 qs64 dX2_text_34 rfl rfl (by decide) (Nat.le_of_ble_eq_true rfl) (n := 37) rfl (fun x10 s9 => ?_)
    refine tw_if_ne dX2_text_37 (t := 62) (by decide) (n := 40) rfl ?_ ?_
    · refine x_aload_nr 0 dX2_text_62 rfl rfl (n := 63) rfl ?_
      refine x_iconst 1 dX2_text_63 rfl (n := 64) rfl ?_
      refine tw_put (pl_X2_173 _ _ ⟨rfl, rfl⟩) rfl (by decide) dX2_text_64 (n := 67) rfl (fun s11 => ?_)
      refine x_aload_nr 0 dX2_text_67 rfl rfl (n := 68) rfl ?_
      refine x_iconst 0 dX2_text_68 rfl (n := 69) rfl ?_
      refine tw_put (pl_X2_177 _ _ ⟨rfl, rfl⟩) rfl (by decide) dX2_text_69 (n := 72) rfl (fun s12 => ?_)
      refine x_aload_nr 0 dX2_text_72 rfl rfl (n := 73) rfl ?_
      refine tw_getA fl_X2_17 rfl (by decide) dX2_text_73 (n := 76) rfl ?_
      refine x_iconst 0 dX2_text_76 rfl (n := 77) rfl ?_
      refine x_aload_nr 0 dX2_text_77 rfl rfl (n := 78) rfl ?_
      refine tw_getA fl_X2_20 rfl (by decide) dX2_text_78 (n := 81) rfl ?_
      refine x_iconst 0 dX2_text_81 rfl (n := 82) rfl ?_
      refine x_sipush 397 dX2_text_82 rfl (n := 85) rfl ?_
      refine tw_callS_V [.ref (E.2.2 7), .int 0, .ref (E.2.2 8), .int 0, .int 397] [] (T_lays_ok hO hE s12 7 0 8 0 397 (by decide) (by decide)) md_X2_lays q3106 q3107 dX2_text_85 rfl rfl (by decide) (Nat.le_of_ble_eq_true rfl) (n := 88) rfl (fun s13 => ?_)
      refine x_aload_nr 0 dX2_text_88 rfl rfl (n := 89) rfl ?_
      refine tw_getA fl_X2_23 rfl (by decide) dX2_text_89 (n := 92) rfl ?_
      refine x_iconst 0 dX2_text_92 rfl (n := 93) rfl ?_
      refine x_aload_nr 0 dX2_text_93 rfl rfl (n := 94) rfl ?_
      refine tw_getA fl_X2_26 rfl (by decide) dX2_text_94 (n := 97) rfl ?_
      refine x_iconst 0 dX2_text_97 rfl (n := 98) rfl ?_
      refine x_bipush 78 dX2_text_98 rfl (n := 100) rfl ?_
      refine tw_callS_V [.ref (E.2.2 9), .int 0, .ref (E.2.2 10), .int 0, .int 78] [] (T_lays_ok hO hE s13 9 0 10 0 78 (by decide) (by decide)) md_X2_lays q3106 q3107 dX2_text_100 rfl rfl (by decide) (Nat.le_of_ble_eq_true rfl) (n := 103) rfl (fun s14 => ?_)
      refine x_aload_nr 0 dX2_text_103 rfl rfl (n := 104) rfl ?_
      refine tw_getA fl_X2_17 rfl (by decide) dX2_text_104 (n := 107) rfl ?_
      refine x_iconst 1 dX2_text_107 rfl (n := 108) rfl ?_
      refine tw_iald hE (by decide) dX2_text_108 (n := 109) rfl (fun x15 => ?_)
      exact tw_ireturn dX2_text_109
    · refine x_aload_nr 0 dX2_text_40 rfl rfl (n := 41) rfl ?_
      refine x_aload_nr 0 dX2_text_41 rfl rfl (n := 42) rfl ?_
      refine tw_getI fl_X2_96 rfl (by decide) dX2_text_42 (n := 45) rfl ?_
      refine tw_put (pl_X2_164 _ _ ⟨rfl, rfl⟩) rfl (by decide) dX2_text_45 (n := 48) rfl (fun s16 => ?_)
      refine x_aload_nr 0 dX2_text_48 rfl rfl (n := 49) rfl ?_
      refine x_aload_nr 0 dX2_text_49 rfl rfl (n := 50) rfl ?_
      refine tw_getI fl_X2_99 rfl (by decide) dX2_text_50 (n := 53) rfl ?_
      refine tw_put (pl_X2_9 _ _ ⟨rfl, rfl⟩) rfl (by decide) dX2_text_53 (n := 56) rfl (fun s17 => ?_)
      refine x_aload_nr 0 dX2_text_56 rfl rfl (n := 57) rfl ?_
      refine x_iconst 4 dX2_text_57 rfl (n := 58) rfl ?_
      refine tw_callV_I [.int 4] [] (T_no_ok hO hE s17 4) md_X2_no q3102 q3104 qs79 dX2_text_58 rfl rfl (by decide) (Nat.le_of_ble_eq_true rfl) (n := 61) rfl (fun x19 s18 => ?_)
      exact tw_ireturn dX2_text_61
  · refine x_iconst (-1) dX2_text_20 rfl (n := 21) rfl ?_
    exact tw_ireturn dX2_text_21
abbrev cX2_fault : ByteArray := prog_14_method_27_code
def yX2_fault : MethodName := ⟨RX2, "fault", "()I"⟩
def dkwX2_fault_0 : List UInt8 := [42, 3, 181, 0, 50, 42, 180, 0, 164, 172]
abbrev dktX2_fault_0 : List UInt8 := dkwX2_fault_0 ++ []
theorem dksX2_fault_0 : cX2_fault.data.toList.drop 0 = dktX2_fault_0 := by decide +kernel
theorem dX2_fault_0 : decode cX2_fault 0 = .ok (.aload_n 0, 1) := dk_42 (dk_at dksX2_fault_0 0 rfl rfl)
theorem dX2_fault_1 : decode cX2_fault 1 = .ok (.iconst 0, 1) := dk_3 (dk_at dksX2_fault_0 1 rfl rfl)
theorem dX2_fault_2 : decode cX2_fault 2 = .ok (.putfield 50, 3) := dk_181 0 50 (dk_at dksX2_fault_0 2 rfl rfl)
theorem dX2_fault_5 : decode cX2_fault 5 = .ok (.aload_n 0, 1) := dk_42 (dk_at dksX2_fault_0 5 rfl rfl)
theorem dX2_fault_6 : decode cX2_fault 6 = .ok (.getfield 164, 3) := dk_180 0 164 (dk_at dksX2_fault_0 6 rfl rfl)
theorem dX2_fault_9 : decode cX2_fault 9 = .ok (.ireturn, 1) := dk_172 (dk_at dksX2_fault_0 9 rfl rfl)
theorem md_X2_fault : xMd yX2_fault cX2_fault 1 (Option.some Jvm.ClassFile.FieldType.int) 0 := ⟨q3112, q126, by decide, by decide +kernel, by decide +kernel, by decide +kernel⟩
def T_fault (s0 : TS)  : Option (xO × TS) :=
  (bnd (tI s0 0 0) fun s1 =>
  (rI (s1.1 2) s1))
theorem T_fault_ok {G : xG} {E : TE} (hO : xOK G) (hE : tok E) (s0 : TS)  : CTT G E 0 yX2_fault cX2_fault 1 (Option.some Jvm.ClassFile.FieldType.int) [.ref E.2.1] s0 (T_fault s0 ) := by
  refine CT_of hO (by decide +kernel) (by decide +kernel) (Nat.le_of_ble_eq_true rfl) ?_
  show XT G E "ForestLegsModel" "fault" cX2_fault 1 (Option.some Jvm.ClassFile.FieldType.int) 0 0 [(0, .ref E.2.1)] [] s0 (T_fault s0 )
  refine x_aload_nr 0 dX2_fault_0 rfl rfl (n := 1) rfl ?_
  refine x_iconst 0 dX2_fault_1 rfl (n := 2) rfl ?_
  refine tw_put (pl_X2_50 _ _ ⟨rfl, rfl⟩) rfl (by decide) dX2_fault_2 (n := 5) rfl (fun s1 => ?_)
  refine x_aload_nr 0 dX2_fault_5 rfl rfl (n := 6) rfl ?_
  refine tw_getI fl_X2_164 rfl (by decide) dX2_fault_6 (n := 9) rfl ?_
  exact tw_ireturn dX2_fault_9
abbrev cX2_where : ByteArray := prog_14_method_28_code
def yX2_where : MethodName := ⟨RX2, "where", "()I"⟩
def dkwX2_where_0 : List UInt8 := [42, 3, 181, 0, 50, 42, 180, 0, 53, 7, 160, 0, 10, 42, 180, 0, 9, 167, 0, 4, 2, 172]
abbrev dktX2_where_0 : List UInt8 := dkwX2_where_0 ++ []
theorem dksX2_where_0 : cX2_where.data.toList.drop 0 = dktX2_where_0 := by decide +kernel
theorem dX2_where_0 : decode cX2_where 0 = .ok (.aload_n 0, 1) := dk_42 (dk_at dksX2_where_0 0 rfl rfl)
theorem dX2_where_1 : decode cX2_where 1 = .ok (.iconst 0, 1) := dk_3 (dk_at dksX2_where_0 1 rfl rfl)
theorem dX2_where_2 : decode cX2_where 2 = .ok (.putfield 50, 3) := dk_181 0 50 (dk_at dksX2_where_0 2 rfl rfl)
theorem dX2_where_5 : decode cX2_where 5 = .ok (.aload_n 0, 1) := dk_42 (dk_at dksX2_where_0 5 rfl rfl)
theorem dX2_where_6 : decode cX2_where 6 = .ok (.getfield 53, 3) := dk_180 0 53 (dk_at dksX2_where_0 6 rfl rfl)
theorem dX2_where_9 : decode cX2_where 9 = .ok (.iconst 4, 1) := dk_7 (dk_at dksX2_where_0 9 rfl rfl)
theorem dX2_where_10 : decode cX2_where 10 = .ok (.if_icmp .ne 10, 3) := dk_160 0 10 (dk_at dksX2_where_0 10 rfl rfl)
theorem dX2_where_13 : decode cX2_where 13 = .ok (.aload_n 0, 1) := dk_42 (dk_at dksX2_where_0 13 rfl rfl)
theorem dX2_where_14 : decode cX2_where 14 = .ok (.getfield 9, 3) := dk_180 0 9 (dk_at dksX2_where_0 14 rfl rfl)
theorem dX2_where_17 : decode cX2_where 17 = .ok (.goto 4, 3) := dk_167 0 4 (dk_at dksX2_where_0 17 rfl rfl)
theorem dX2_where_20 : decode cX2_where 20 = .ok (.iconst (-1), 1) := dk_2 (dk_at dksX2_where_0 20 rfl rfl)
theorem dX2_where_21 : decode cX2_where 21 = .ok (.ireturn, 1) := dk_172 (dk_at dksX2_where_0 21 rfl rfl)
theorem md_X2_where : xMd yX2_where cX2_where 1 (Option.some Jvm.ClassFile.FieldType.int) 0 := ⟨q3116, q126, by decide, by decide +kernel, by decide +kernel, by decide +kernel⟩
def T_where (s0 : TS)  : Option (xO × TS) :=
  (bnd (tI s0 0 0) fun s1 =>
  (if (s1.1 1) = 4 then
  (rI (s1.1 3) s1) else
  (rI (-1) s1)))
theorem T_where_ok {G : xG} {E : TE} (hO : xOK G) (hE : tok E) (s0 : TS)  : CTT G E 0 yX2_where cX2_where 1 (Option.some Jvm.ClassFile.FieldType.int) [.ref E.2.1] s0 (T_where s0 ) := by
  refine CT_of hO (by decide +kernel) (by decide +kernel) (Nat.le_of_ble_eq_true rfl) ?_
  show XT G E "ForestLegsModel" "where" cX2_where 1 (Option.some Jvm.ClassFile.FieldType.int) 0 0 [(0, .ref E.2.1)] [] s0 (T_where s0 )
  refine x_aload_nr 0 dX2_where_0 rfl rfl (n := 1) rfl ?_
  refine x_iconst 0 dX2_where_1 rfl (n := 2) rfl ?_
  refine tw_put (pl_X2_50 _ _ ⟨rfl, rfl⟩) rfl (by decide) dX2_where_2 (n := 5) rfl (fun s1 => ?_)
  refine x_aload_nr 0 dX2_where_5 rfl rfl (n := 6) rfl ?_
  refine tw_getI fl_X2_53 rfl (by decide) dX2_where_6 (n := 9) rfl ?_
  refine x_iconst 4 dX2_where_9 rfl (n := 10) rfl ?_
  refine tw_icmp_ne dX2_where_10 (t := 20) (by decide) (n := 13) rfl ?_ ?_
  · refine x_iconst (-1) dX2_where_20 rfl (n := 21) rfl ?_
    exact tw_ireturn dX2_where_21
  · refine x_aload_nr 0 dX2_where_13 rfl rfl (n := 14) rfl ?_
    refine tw_getI fl_X2_9 rfl (by decide) dX2_where_14 (n := 17) rfl ?_
    refine x_goto dX2_where_17 (n := 21) (by decide) ?_
    exact tw_ireturn dX2_where_21
abbrev cX2_unless_2 : ByteArray := prog_14_method_6_code
def yX2_unless_2 : MethodName := ⟨RX2, "unless", "(Z)I"⟩
def dkwX2_unless_2_0 : List UInt8 := [26, 153, 0, 7, 3, 167, 0, 4, 4, 172]
abbrev dktX2_unless_2_0 : List UInt8 := dkwX2_unless_2_0 ++ []
theorem dksX2_unless_2_0 : cX2_unless_2.data.toList.drop 0 = dktX2_unless_2_0 := by decide +kernel
theorem dX2_unless_2_0 : decode cX2_unless_2 0 = .ok (.iload_n 0, 1) := dk_26 (dk_at dksX2_unless_2_0 0 rfl rfl)
theorem dX2_unless_2_1 : decode cX2_unless_2 1 = .ok (.ifCond .eq 7, 3) := dk_153 0 7 (dk_at dksX2_unless_2_0 1 rfl rfl)
theorem dX2_unless_2_4 : decode cX2_unless_2 4 = .ok (.iconst 0, 1) := dk_3 (dk_at dksX2_unless_2_0 4 rfl rfl)
theorem dX2_unless_2_5 : decode cX2_unless_2 5 = .ok (.goto 4, 3) := dk_167 0 4 (dk_at dksX2_unless_2_0 5 rfl rfl)
theorem dX2_unless_2_8 : decode cX2_unless_2 8 = .ok (.iconst 1, 1) := dk_4 (dk_at dksX2_unless_2_0 8 rfl rfl)
theorem dX2_unless_2_9 : decode cX2_unless_2 9 = .ok (.ireturn, 1) := dk_172 (dk_at dksX2_unless_2_0 9 rfl rfl)
theorem md_X2_unless_2 : xMd yX2_unless_2 cX2_unless_2 1 (Option.some Jvm.ClassFile.FieldType.int) 1 := ⟨q3123, q126, by decide, by decide +kernel, by decide +kernel, by decide +kernel⟩
def T_unless_2 (s0 : TS) (a0 : Int32) : Option (xO × TS) :=
  (if a0 = 0 then
  (rI 1 s0) else
  (rI 0 s0))
theorem T_unless_2_ok {G : xG} {E : TE} (hO : xOK G) (hE : tok E) (s0 : TS) (a0 : Int32) : CTT G E 0 yX2_unless_2 cX2_unless_2 1 (Option.some Jvm.ClassFile.FieldType.int) [.int a0] s0 (T_unless_2 s0 a0) := by
  refine CT_of hO (by decide +kernel) (by decide +kernel) (Nat.le_of_ble_eq_true rfl) ?_
  show XT G E "ForestLegsModel" "unless" cX2_unless_2 1 (Option.some Jvm.ClassFile.FieldType.int) 0 0 [(0, .int a0)] [] s0 (T_unless_2 s0 a0)
  refine x_iload_n 0 dX2_unless_2_0 rfl rfl (n := 1) rfl ?_
  refine tw_if_eq dX2_unless_2_1 (t := 8) (by decide) (n := 4) rfl ?_ ?_
  · refine x_iconst 1 dX2_unless_2_8 rfl (n := 9) rfl ?_
    exact tw_ireturn dX2_unless_2_9
  · refine x_iconst 0 dX2_unless_2_4 rfl (n := 5) rfl ?_
    refine x_goto dX2_unless_2_5 (n := 9) (by decide) ?_
    exact tw_ireturn dX2_unless_2_9
abbrev cX2_punchesOfAll : ByteArray := prog_14_method_51_code
def yX2_punchesOfAll : MethodName := ⟨RX2, "punchesOfAll", "()I"⟩
def dkwX2_punchesOfAll_1 : List UInt8 := [96, 60, 132, 2, 1, 167, 255, 231, 27, 172]
abbrev dktX2_punchesOfAll_1 : List UInt8 := dkwX2_punchesOfAll_1 ++ []
def dkwX2_punchesOfAll_0 : List UInt8 := [3, 60, 3, 61, 28, 42, 180, 0, 17, 4, 46, 162, 0, 21, 27, 42, 180, 0, 17, 16, 67, 28, 96, 46]
abbrev dktX2_punchesOfAll_0 : List UInt8 := dkwX2_punchesOfAll_0 ++ dktX2_punchesOfAll_1
theorem dksX2_punchesOfAll_0 : cX2_punchesOfAll.data.toList.drop 0 = dktX2_punchesOfAll_0 := by decide +kernel
theorem dksX2_punchesOfAll_1 : cX2_punchesOfAll.data.toList.drop 24 = dktX2_punchesOfAll_1 := dk_seg dksX2_punchesOfAll_0 24 rfl rfl
theorem dX2_punchesOfAll_0 : decode cX2_punchesOfAll 0 = .ok (.iconst 0, 1) := dk_3 (dk_at dksX2_punchesOfAll_0 0 rfl rfl)
theorem dX2_punchesOfAll_1 : decode cX2_punchesOfAll 1 = .ok (.istore_n 1, 1) := dk_60 (dk_at dksX2_punchesOfAll_0 1 rfl rfl)
theorem dX2_punchesOfAll_2 : decode cX2_punchesOfAll 2 = .ok (.iconst 0, 1) := dk_3 (dk_at dksX2_punchesOfAll_0 2 rfl rfl)
theorem dX2_punchesOfAll_3 : decode cX2_punchesOfAll 3 = .ok (.istore_n 2, 1) := dk_61 (dk_at dksX2_punchesOfAll_0 3 rfl rfl)
theorem dX2_punchesOfAll_4 : decode cX2_punchesOfAll 4 = .ok (.iload_n 2, 1) := dk_28 (dk_at dksX2_punchesOfAll_0 4 rfl rfl)
theorem dX2_punchesOfAll_5 : decode cX2_punchesOfAll 5 = .ok (.aload_n 0, 1) := dk_42 (dk_at dksX2_punchesOfAll_0 5 rfl rfl)
theorem dX2_punchesOfAll_6 : decode cX2_punchesOfAll 6 = .ok (.getfield 17, 3) := dk_180 0 17 (dk_at dksX2_punchesOfAll_0 6 rfl rfl)
theorem dX2_punchesOfAll_9 : decode cX2_punchesOfAll 9 = .ok (.iconst 1, 1) := dk_4 (dk_at dksX2_punchesOfAll_0 9 rfl rfl)
theorem dX2_punchesOfAll_10 : decode cX2_punchesOfAll 10 = .ok (.iaload, 1) := dk_46 (dk_at dksX2_punchesOfAll_0 10 rfl rfl)
theorem dX2_punchesOfAll_11 : decode cX2_punchesOfAll 11 = .ok (.if_icmp .ge 21, 3) := dk_162 0 21 (dk_at dksX2_punchesOfAll_0 11 rfl rfl)
theorem dX2_punchesOfAll_14 : decode cX2_punchesOfAll 14 = .ok (.iload_n 1, 1) := dk_27 (dk_at dksX2_punchesOfAll_0 14 rfl rfl)
theorem dX2_punchesOfAll_15 : decode cX2_punchesOfAll 15 = .ok (.aload_n 0, 1) := dk_42 (dk_at dksX2_punchesOfAll_0 15 rfl rfl)
theorem dX2_punchesOfAll_16 : decode cX2_punchesOfAll 16 = .ok (.getfield 17, 3) := dk_180 0 17 (dk_at dksX2_punchesOfAll_0 16 rfl rfl)
theorem dX2_punchesOfAll_19 : decode cX2_punchesOfAll 19 = .ok (.bipush 67, 2) := dk_16 67 (dk_at dksX2_punchesOfAll_0 19 rfl rfl)
theorem dX2_punchesOfAll_21 : decode cX2_punchesOfAll 21 = .ok (.iload_n 2, 1) := dk_28 (dk_at dksX2_punchesOfAll_0 21 rfl rfl)
theorem dX2_punchesOfAll_22 : decode cX2_punchesOfAll 22 = .ok (.iadd, 1) := dk_96 (dk_at dksX2_punchesOfAll_0 22 rfl rfl)
theorem dX2_punchesOfAll_23 : decode cX2_punchesOfAll 23 = .ok (.iaload, 1) := dk_46 (dk_at dksX2_punchesOfAll_0 23 rfl rfl)
theorem dX2_punchesOfAll_24 : decode cX2_punchesOfAll 24 = .ok (.iadd, 1) := dk_96 (dk_at dksX2_punchesOfAll_1 0 rfl rfl)
theorem dX2_punchesOfAll_25 : decode cX2_punchesOfAll 25 = .ok (.istore_n 1, 1) := dk_60 (dk_at dksX2_punchesOfAll_1 1 rfl rfl)
theorem dX2_punchesOfAll_26 : decode cX2_punchesOfAll 26 = .ok (.iinc 2 1, 3) := dk_132 2 1 (dk_at dksX2_punchesOfAll_1 2 rfl rfl)
theorem dX2_punchesOfAll_29 : decode cX2_punchesOfAll 29 = .ok (.goto (-25), 3) := dk_167 255 231 (dk_at dksX2_punchesOfAll_1 5 rfl rfl)
theorem dX2_punchesOfAll_32 : decode cX2_punchesOfAll 32 = .ok (.iload_n 1, 1) := dk_27 (dk_at dksX2_punchesOfAll_1 8 rfl rfl)
theorem dX2_punchesOfAll_33 : decode cX2_punchesOfAll 33 = .ok (.ireturn, 1) := dk_172 (dk_at dksX2_punchesOfAll_1 9 rfl rfl)
theorem md_X2_punchesOfAll : xMd yX2_punchesOfAll cX2_punchesOfAll 3 (Option.some Jvm.ClassFile.FieldType.int) 0 := ⟨q3127, q126, by decide, by decide +kernel, by decide +kernel, by decide +kernel⟩
def T_punchesOfAll_4F   (k4 : Int32 × Int32 × TS → Option (xO × TS)) (p : Int32 × Int32 × TS) : Option (xO × TS) := match p with
  | (v1, v2, s0) => (tald s0 7 1 fun x1 =>
  (if x1 ≤ v2 then
  (rI v1 s0) else
  (tald s0 7 (67 + v2) fun x2 =>
  (bnd (v1 + x2) fun x3 =>
  (bnd (v2 + 1) fun x4 =>
  (k4 (x3, x4, s0)))))))
def T_punchesOfAll (s0 : TS)  : Option (xO × TS) :=
  (lp (T_punchesOfAll_4F) FU (0, 0, s0))
theorem T_punchesOfAll_4F_ok {G : xG} {E : TE} (hO : xOK G) (hE : tok E)   {k4 : Int32 × Int32 × TS → Option (xO × TS)} (hk4 : ∀ (v1 : Int32) (v2 : Int32) (s0 : TS), XT G E "ForestLegsModel" "punchesOfAll" cX2_punchesOfAll 3 (Option.some Jvm.ClassFile.FieldType.int) 0 4 [(0, .ref E.2.1), (1, .int v1), (2, .int v2)] [] s0 (k4 (v1, v2, s0))) (v1 : Int32) (v2 : Int32) (s0 : TS) : XT G E "ForestLegsModel" "punchesOfAll" cX2_punchesOfAll 3 (Option.some Jvm.ClassFile.FieldType.int) 0 4 [(0, .ref E.2.1), (1, .int v1), (2, .int v2)] [] s0 (T_punchesOfAll_4F k4 (v1, v2, s0)) := by
  unfold T_punchesOfAll_4F
  refine x_iload_n 2 dX2_punchesOfAll_4 rfl rfl (n := 5) rfl ?_
  refine x_aload_nr 0 dX2_punchesOfAll_5 rfl rfl (n := 6) rfl ?_
  refine tw_getA fl_X2_17 rfl (by decide) dX2_punchesOfAll_6 (n := 9) rfl ?_
  refine x_iconst 1 dX2_punchesOfAll_9 rfl (n := 10) rfl ?_
  refine tw_iald hE (by decide) dX2_punchesOfAll_10 (n := 11) rfl (fun x1 => ?_)
  refine tw_icmp_ge dX2_punchesOfAll_11 (t := 32) (by decide) (n := 14) rfl ?_ ?_
  · refine x_iload_n 1 dX2_punchesOfAll_32 rfl rfl (n := 33) rfl ?_
    exact tw_ireturn dX2_punchesOfAll_33
  · refine x_iload_n 1 dX2_punchesOfAll_14 rfl rfl (n := 15) rfl ?_
    refine x_aload_nr 0 dX2_punchesOfAll_15 rfl rfl (n := 16) rfl ?_
    refine tw_getA fl_X2_17 rfl (by decide) dX2_punchesOfAll_16 (n := 19) rfl ?_
    refine x_bipush 67 dX2_punchesOfAll_19 rfl (n := 21) rfl ?_
    refine x_iload_n 2 dX2_punchesOfAll_21 rfl rfl (n := 22) rfl ?_
    refine x_iadd dX2_punchesOfAll_22 (n := 23) rfl ?_
    refine tw_iald hE (by decide) dX2_punchesOfAll_23 (n := 24) rfl (fun x2 => ?_)
    refine x_iadd dX2_punchesOfAll_24 (n := 25) rfl ?_
    refine tw_nm (fun x3 => ?_)
    refine x_istore_n [(1, .int x3), (0, .ref E.2.1), (2, .int v2)] dX2_punchesOfAll_25 rfl (by decide) rfl (n := 26) rfl ?_
    refine tw_iinc 2 (fun x4 => [(2, .int x4), (1, .int x3), (0, .ref E.2.1)]) dX2_punchesOfAll_26 rfl rfl (by decide) (fun _ => rfl) (n := 29) rfl (fun x4 => ?_)
    refine x_goto dX2_punchesOfAll_29 (n := 4) (by decide) ?_
    refine x_sub [2, 1, 0] [(0, .ref E.2.1), (1, .int x3), (2, .int x4)] rfl ?_
    exact hk4 x3 x4 s0
theorem T_punchesOfAll_4_lp {G : xG} {E : TE} (hO : xOK G) (hE : tok E)   (n : Nat) (v1 : Int32) (v2 : Int32) (s0 : TS) : XT G E "ForestLegsModel" "punchesOfAll" cX2_punchesOfAll 3 (Option.some Jvm.ClassFile.FieldType.int) 0 4 [(0, .ref E.2.1), (1, .int v1), (2, .int v2)] [] s0 (lp (T_punchesOfAll_4F) n (v1, v2, s0)) :=
  lp_ok (W := fun p K => XT G E "ForestLegsModel" "punchesOfAll" cX2_punchesOfAll 3 (Option.some Jvm.ClassFile.FieldType.int) 0 4 [(0, .ref E.2.1), (1, .int p.1), (2, .int p.2.1)] [] p.2.2 K) (fun _ => tw_no) (fun k hk => fun (v1, v2, s0) => T_punchesOfAll_4F_ok hO hE (fun v1 v2 s0 => hk (v1, v2, s0)) v1 v2 s0) n (v1, v2, s0)
theorem T_punchesOfAll_ok {G : xG} {E : TE} (hO : xOK G) (hE : tok E) (s0 : TS)  : CTT G E 0 yX2_punchesOfAll cX2_punchesOfAll 3 (Option.some Jvm.ClassFile.FieldType.int) [.ref E.2.1] s0 (T_punchesOfAll s0 ) := by
  refine CT_of hO (by decide +kernel) (by decide +kernel) (Nat.le_of_ble_eq_true rfl) ?_
  show XT G E "ForestLegsModel" "punchesOfAll" cX2_punchesOfAll 3 (Option.some Jvm.ClassFile.FieldType.int) 0 0 [(0, .ref E.2.1)] [] s0 (T_punchesOfAll s0 )
  refine x_iconst 0 dX2_punchesOfAll_0 rfl (n := 1) rfl ?_
  refine x_istore_n [(1, .int 0), (0, .ref E.2.1)] dX2_punchesOfAll_1 rfl (by decide) rfl (n := 2) rfl ?_
  refine x_iconst 0 dX2_punchesOfAll_2 rfl (n := 3) rfl ?_
  refine x_istore_n [(2, .int 0), (1, .int 0), (0, .ref E.2.1)] dX2_punchesOfAll_3 rfl (by decide) rfl (n := 4) rfl ?_
  refine x_sub [2, 1, 0] [(0, .ref E.2.1), (1, .int 0), (2, .int 0)] rfl ?_
  exact T_punchesOfAll_4_lp hO hE FU 0 0 s0
abbrev cX2_cell : ByteArray := prog_14_method_34_code
def yX2_cell : MethodName := ⟨RX2, "cell", "(II)I"⟩
def dkwX2_cell_0 : List UInt8 := [16, 17, 26, 104, 27, 96, 172]
abbrev dktX2_cell_0 : List UInt8 := dkwX2_cell_0 ++ []
theorem dksX2_cell_0 : cX2_cell.data.toList.drop 0 = dktX2_cell_0 := by decide +kernel
theorem dX2_cell_0 : decode cX2_cell 0 = .ok (.bipush 17, 2) := dk_16 17 (dk_at dksX2_cell_0 0 rfl rfl)
theorem dX2_cell_2 : decode cX2_cell 2 = .ok (.iload_n 0, 1) := dk_26 (dk_at dksX2_cell_0 2 rfl rfl)
theorem dX2_cell_3 : decode cX2_cell 3 = .ok (.imul, 1) := dk_104 (dk_at dksX2_cell_0 3 rfl rfl)
theorem dX2_cell_4 : decode cX2_cell 4 = .ok (.iload_n 1, 1) := dk_27 (dk_at dksX2_cell_0 4 rfl rfl)
theorem dX2_cell_5 : decode cX2_cell 5 = .ok (.iadd, 1) := dk_96 (dk_at dksX2_cell_0 5 rfl rfl)
theorem dX2_cell_6 : decode cX2_cell 6 = .ok (.ireturn, 1) := dk_172 (dk_at dksX2_cell_0 6 rfl rfl)
theorem md_X2_cell : xMd yX2_cell cX2_cell 2 (Option.some Jvm.ClassFile.FieldType.int) 2 := ⟨q3146, q126, by decide, by decide +kernel, by decide +kernel, by decide +kernel⟩
def T_cell (s0 : TS) (a0 : Int32) (a1 : Int32) : Option (xO × TS) :=
  (rI ((17 * a0) + a1) s0)
theorem T_cell_ok {G : xG} {E : TE} (hO : xOK G) (hE : tok E) (s0 : TS) (a0 : Int32) (a1 : Int32) : CTT G E 0 yX2_cell cX2_cell 2 (Option.some Jvm.ClassFile.FieldType.int) [.int a0, .int a1] s0 (T_cell s0 a0 a1) := by
  refine CT_of hO (by decide +kernel) (by decide +kernel) (Nat.le_of_ble_eq_true rfl) ?_
  show XT G E "ForestLegsModel" "cell" cX2_cell 2 (Option.some Jvm.ClassFile.FieldType.int) 0 0 [(0, .int a0), (1, .int a1)] [] s0 (T_cell s0 a0 a1)
  refine x_bipush 17 dX2_cell_0 rfl (n := 2) rfl ?_
  refine x_iload_n 0 dX2_cell_2 rfl rfl (n := 3) rfl ?_
  refine x_imul dX2_cell_3 (n := 4) rfl ?_
  refine x_iload_n 1 dX2_cell_4 rfl rfl (n := 5) rfl ?_
  refine x_iadd dX2_cell_5 (n := 6) rfl ?_
  exact tw_ireturn dX2_cell_6
abbrev cX2_codeOf : ByteArray := prog_14_method_35_code
def yX2_codeOf : MethodName := ⟨RX2, "codeOf", "(II)I"⟩
def dkwX2_codeOf_0 : List UInt8 := [42, 180, 0, 17, 16, 7, 16, 10, 27, 104, 96, 28, 96, 46, 172]
abbrev dktX2_codeOf_0 : List UInt8 := dkwX2_codeOf_0 ++ []
theorem dksX2_codeOf_0 : cX2_codeOf.data.toList.drop 0 = dktX2_codeOf_0 := by decide +kernel
theorem dX2_codeOf_0 : decode cX2_codeOf 0 = .ok (.aload_n 0, 1) := dk_42 (dk_at dksX2_codeOf_0 0 rfl rfl)
theorem dX2_codeOf_1 : decode cX2_codeOf 1 = .ok (.getfield 17, 3) := dk_180 0 17 (dk_at dksX2_codeOf_0 1 rfl rfl)
theorem dX2_codeOf_4 : decode cX2_codeOf 4 = .ok (.bipush 7, 2) := dk_16 7 (dk_at dksX2_codeOf_0 4 rfl rfl)
theorem dX2_codeOf_6 : decode cX2_codeOf 6 = .ok (.bipush 10, 2) := dk_16 10 (dk_at dksX2_codeOf_0 6 rfl rfl)
theorem dX2_codeOf_8 : decode cX2_codeOf 8 = .ok (.iload_n 1, 1) := dk_27 (dk_at dksX2_codeOf_0 8 rfl rfl)
theorem dX2_codeOf_9 : decode cX2_codeOf 9 = .ok (.imul, 1) := dk_104 (dk_at dksX2_codeOf_0 9 rfl rfl)
theorem dX2_codeOf_10 : decode cX2_codeOf 10 = .ok (.iadd, 1) := dk_96 (dk_at dksX2_codeOf_0 10 rfl rfl)
theorem dX2_codeOf_11 : decode cX2_codeOf 11 = .ok (.iload_n 2, 1) := dk_28 (dk_at dksX2_codeOf_0 11 rfl rfl)
theorem dX2_codeOf_12 : decode cX2_codeOf 12 = .ok (.iadd, 1) := dk_96 (dk_at dksX2_codeOf_0 12 rfl rfl)
theorem dX2_codeOf_13 : decode cX2_codeOf 13 = .ok (.iaload, 1) := dk_46 (dk_at dksX2_codeOf_0 13 rfl rfl)
theorem dX2_codeOf_14 : decode cX2_codeOf 14 = .ok (.ireturn, 1) := dk_172 (dk_at dksX2_codeOf_0 14 rfl rfl)
theorem md_X2_codeOf : xMd yX2_codeOf cX2_codeOf 3 (Option.some Jvm.ClassFile.FieldType.int) 2 := ⟨q3150, q126, by decide, by decide +kernel, by decide +kernel, by decide +kernel⟩
def T_codeOf (s0 : TS) (a1 : Int32) (a2 : Int32) : Option (xO × TS) :=
  (tald s0 7 ((7 + (10 * a1)) + a2) fun x1 =>
  (rI x1 s0))
theorem T_codeOf_ok {G : xG} {E : TE} (hO : xOK G) (hE : tok E) (s0 : TS) (a1 : Int32) (a2 : Int32) : CTT G E 0 yX2_codeOf cX2_codeOf 3 (Option.some Jvm.ClassFile.FieldType.int) [.ref E.2.1, .int a1, .int a2] s0 (T_codeOf s0 a1 a2) := by
  refine CT_of hO (by decide +kernel) (by decide +kernel) (Nat.le_of_ble_eq_true rfl) ?_
  show XT G E "ForestLegsModel" "codeOf" cX2_codeOf 3 (Option.some Jvm.ClassFile.FieldType.int) 0 0 [(0, .ref E.2.1), (1, .int a1), (2, .int a2)] [] s0 (T_codeOf s0 a1 a2)
  refine x_aload_nr 0 dX2_codeOf_0 rfl rfl (n := 1) rfl ?_
  refine tw_getA fl_X2_17 rfl (by decide) dX2_codeOf_1 (n := 4) rfl ?_
  refine x_bipush 7 dX2_codeOf_4 rfl (n := 6) rfl ?_
  refine x_bipush 10 dX2_codeOf_6 rfl (n := 8) rfl ?_
  refine x_iload_n 1 dX2_codeOf_8 rfl rfl (n := 9) rfl ?_
  refine x_imul dX2_codeOf_9 (n := 10) rfl ?_
  refine x_iadd dX2_codeOf_10 (n := 11) rfl ?_
  refine x_iload_n 2 dX2_codeOf_11 rfl rfl (n := 12) rfl ?_
  refine x_iadd dX2_codeOf_12 (n := 13) rfl ?_
  refine tw_iald hE (by decide) dX2_codeOf_13 (n := 14) rfl (fun x1 => ?_)
  exact tw_ireturn dX2_codeOf_14
abbrev cX2_punchCode : ByteArray := prog_14_method_36_code
def yX2_punchCode : MethodName := ⟨RX2, "punchCode", "(II)I"⟩
def dkwX2_punchCode_0 : List UInt8 := [42, 180, 0, 17, 16, 77, 16, 16, 27, 104, 96, 28, 96, 46, 172]
abbrev dktX2_punchCode_0 : List UInt8 := dkwX2_punchCode_0 ++ []
theorem dksX2_punchCode_0 : cX2_punchCode.data.toList.drop 0 = dktX2_punchCode_0 := by decide +kernel
theorem dX2_punchCode_0 : decode cX2_punchCode 0 = .ok (.aload_n 0, 1) := dk_42 (dk_at dksX2_punchCode_0 0 rfl rfl)
theorem dX2_punchCode_1 : decode cX2_punchCode 1 = .ok (.getfield 17, 3) := dk_180 0 17 (dk_at dksX2_punchCode_0 1 rfl rfl)
theorem dX2_punchCode_4 : decode cX2_punchCode 4 = .ok (.bipush 77, 2) := dk_16 77 (dk_at dksX2_punchCode_0 4 rfl rfl)
theorem dX2_punchCode_6 : decode cX2_punchCode 6 = .ok (.bipush 16, 2) := dk_16 16 (dk_at dksX2_punchCode_0 6 rfl rfl)
theorem dX2_punchCode_8 : decode cX2_punchCode 8 = .ok (.iload_n 1, 1) := dk_27 (dk_at dksX2_punchCode_0 8 rfl rfl)
theorem dX2_punchCode_9 : decode cX2_punchCode 9 = .ok (.imul, 1) := dk_104 (dk_at dksX2_punchCode_0 9 rfl rfl)
theorem dX2_punchCode_10 : decode cX2_punchCode 10 = .ok (.iadd, 1) := dk_96 (dk_at dksX2_punchCode_0 10 rfl rfl)
theorem dX2_punchCode_11 : decode cX2_punchCode 11 = .ok (.iload_n 2, 1) := dk_28 (dk_at dksX2_punchCode_0 11 rfl rfl)
theorem dX2_punchCode_12 : decode cX2_punchCode 12 = .ok (.iadd, 1) := dk_96 (dk_at dksX2_punchCode_0 12 rfl rfl)
theorem dX2_punchCode_13 : decode cX2_punchCode 13 = .ok (.iaload, 1) := dk_46 (dk_at dksX2_punchCode_0 13 rfl rfl)
theorem dX2_punchCode_14 : decode cX2_punchCode 14 = .ok (.ireturn, 1) := dk_172 (dk_at dksX2_punchCode_0 14 rfl rfl)
theorem md_X2_punchCode : xMd yX2_punchCode cX2_punchCode 3 (Option.some Jvm.ClassFile.FieldType.int) 2 := ⟨q3154, q126, by decide, by decide +kernel, by decide +kernel, by decide +kernel⟩
def T_punchCode (s0 : TS) (a1 : Int32) (a2 : Int32) : Option (xO × TS) :=
  (tald s0 7 ((77 + (16 * a1)) + a2) fun x1 =>
  (rI x1 s0))
theorem T_punchCode_ok {G : xG} {E : TE} (hO : xOK G) (hE : tok E) (s0 : TS) (a1 : Int32) (a2 : Int32) : CTT G E 0 yX2_punchCode cX2_punchCode 3 (Option.some Jvm.ClassFile.FieldType.int) [.ref E.2.1, .int a1, .int a2] s0 (T_punchCode s0 a1 a2) := by
  refine CT_of hO (by decide +kernel) (by decide +kernel) (Nat.le_of_ble_eq_true rfl) ?_
  show XT G E "ForestLegsModel" "punchCode" cX2_punchCode 3 (Option.some Jvm.ClassFile.FieldType.int) 0 0 [(0, .ref E.2.1), (1, .int a1), (2, .int a2)] [] s0 (T_punchCode s0 a1 a2)
  refine x_aload_nr 0 dX2_punchCode_0 rfl rfl (n := 1) rfl ?_
  refine tw_getA fl_X2_17 rfl (by decide) dX2_punchCode_1 (n := 4) rfl ?_
  refine x_bipush 77 dX2_punchCode_4 rfl (n := 6) rfl ?_
  refine x_bipush 16 dX2_punchCode_6 rfl (n := 8) rfl ?_
  refine x_iload_n 1 dX2_punchCode_8 rfl rfl (n := 9) rfl ?_
  refine x_imul dX2_punchCode_9 (n := 10) rfl ?_
  refine x_iadd dX2_punchCode_10 (n := 11) rfl ?_
  refine x_iload_n 2 dX2_punchCode_11 rfl rfl (n := 12) rfl ?_
  refine x_iadd dX2_punchCode_12 (n := 13) rfl ?_
  refine tw_iald hE (by decide) dX2_punchCode_13 (n := 14) rfl (fun x1 => ?_)
  exact tw_ireturn dX2_punchCode_14
abbrev cX2_matches : ByteArray := prog_14_method_38_code
def yX2_matches : MethodName := ⟨RX2, "matches", "(II)I"⟩
def dkwX2_matches_14 : List UInt8 := [160, 0, 7, 4, 167, 0, 4, 3, 96, 54, 6, 132, 7, 1, 167, 255, 104, 21, 6, 172]
abbrev dktX2_matches_14 : List UInt8 := dkwX2_matches_14 ++ []
def dkwX2_matches_13 : List UInt8 := [167, 0, 12, 42, 180, 0, 32, 21, 7, 46, 4, 96, 54, 5, 21, 6, 42, 180, 0, 32, 21, 7, 46, 2]
abbrev dktX2_matches_13 : List UInt8 := dkwX2_matches_13 ++ dktX2_matches_14
def dkwX2_matches_12 : List UInt8 := [21, 7, 21, 8, 79, 132, 8, 1, 167, 255, 176, 42, 180, 0, 32, 21, 7, 46, 2, 160, 0, 8, 21, 5]
abbrev dktX2_matches_12 : List UInt8 := dkwX2_matches_12 ++ dktX2_matches_13
def dkwX2_matches_11 : List UInt8 := [184, 0, 194, 46, 96, 42, 180, 0, 29, 21, 7, 21, 5, 184, 0, 194, 46, 160, 0, 12, 42, 180, 0, 32]
abbrev dktX2_matches_11 : List UInt8 := dkwX2_matches_11 ++ dktX2_matches_12
def dkwX2_matches_10 : List UInt8 := [27, 21, 8, 182, 0, 200, 160, 0, 45, 4, 42, 180, 0, 29, 21, 7, 4, 96, 21, 8, 4, 96]
abbrev dktX2_matches_10 : List UInt8 := dkwX2_matches_10 ++ dktX2_matches_11
def dkwX2_matches_9 : List UInt8 := [21, 4, 162, 0, 79, 42, 180, 0, 32, 21, 7, 46, 2, 160, 0, 68, 42, 28, 21, 7, 182, 0, 197, 42]
abbrev dktX2_matches_9 : List UInt8 := dkwX2_matches_9 ++ dktX2_matches_10
def dkwX2_matches_8 : List UInt8 := [3, 54, 7, 21, 7, 29, 162, 0, 152, 42, 180, 0, 32, 21, 7, 2, 79, 21, 5, 54, 8, 21, 8]
abbrev dktX2_matches_8 : List UInt8 := dkwX2_matches_8 ++ dktX2_matches_9
def dkwX2_matches_7 : List UInt8 := [184, 0, 194, 21, 7, 79, 132, 6, 255, 167, 255, 113, 132, 5, 255, 167, 255, 98, 3, 54, 5, 3, 54, 6]
abbrev dktX2_matches_7 : List UInt8 := dkwX2_matches_7 ++ dktX2_matches_8
def dkwX2_matches_6 : List UInt8 := [21, 10, 21, 7, 164, 0, 8, 21, 10, 167, 0, 5, 21, 7, 54, 7, 42, 180, 0, 29, 21, 5, 21, 6]
abbrev dktX2_matches_6 : List UInt8 := dkwX2_matches_6 ++ dktX2_matches_7
def dkwX2_matches_5 : List UInt8 := [4, 42, 180, 0, 29, 21, 5, 4, 96, 21, 6, 4, 96, 184, 0, 194, 46, 96, 167, 0, 4, 3, 54, 10]
abbrev dktX2_matches_5 : List UInt8 := dkwX2_matches_5 ++ dktX2_matches_6
def dkwX2_matches_4 : List UInt8 := [167, 0, 5, 21, 9, 54, 7, 42, 28, 21, 5, 182, 0, 197, 42, 27, 21, 6, 182, 0, 200, 160, 0, 24]
abbrev dktX2_matches_4 : List UInt8 := dkwX2_matches_4 ++ dktX2_matches_5
def dkwX2_matches_3 : List UInt8 := [180, 0, 29, 21, 5, 21, 6, 4, 96, 184, 0, 194, 46, 54, 9, 21, 8, 21, 9, 164, 0, 8, 21, 8]
abbrev dktX2_matches_3 : List UInt8 := dkwX2_matches_3 ++ dktX2_matches_4
def dkwX2_matches_2 : List UInt8 := [21, 6, 21, 4, 162, 0, 108, 42, 180, 0, 29, 21, 5, 4, 96, 21, 6, 184, 0, 194, 46, 54, 8, 42]
abbrev dktX2_matches_2 : List UInt8 := dkwX2_matches_2 ++ dktX2_matches_3
def dkwX2_matches_1 : List UInt8 := [21, 5, 155, 0, 159, 21, 4, 54, 6, 21, 6, 155, 0, 144, 3, 54, 7, 21, 5, 29, 162, 0, 115]
abbrev dktX2_matches_1 : List UInt8 := dkwX2_matches_1 ++ dktX2_matches_2
def dkwX2_matches_0 : List UInt8 := [42, 180, 0, 17, 7, 28, 96, 46, 62, 42, 180, 0, 17, 16, 67, 27, 96, 46, 54, 4, 29, 54, 5]
abbrev dktX2_matches_0 : List UInt8 := dkwX2_matches_0 ++ dktX2_matches_1
theorem dksX2_matches_0 : cX2_matches.data.toList.drop 0 = dktX2_matches_0 := by decide +kernel
theorem dksX2_matches_1 : cX2_matches.data.toList.drop 23 = dktX2_matches_1 := dk_seg dksX2_matches_0 23 rfl rfl
theorem dksX2_matches_2 : cX2_matches.data.toList.drop 46 = dktX2_matches_2 := dk_seg dksX2_matches_1 23 rfl rfl
theorem dksX2_matches_3 : cX2_matches.data.toList.drop 70 = dktX2_matches_3 := dk_seg dksX2_matches_2 24 rfl rfl
theorem dksX2_matches_4 : cX2_matches.data.toList.drop 94 = dktX2_matches_4 := dk_seg dksX2_matches_3 24 rfl rfl
theorem dksX2_matches_5 : cX2_matches.data.toList.drop 118 = dktX2_matches_5 := dk_seg dksX2_matches_4 24 rfl rfl
theorem dksX2_matches_6 : cX2_matches.data.toList.drop 142 = dktX2_matches_6 := dk_seg dksX2_matches_5 24 rfl rfl
theorem dksX2_matches_7 : cX2_matches.data.toList.drop 166 = dktX2_matches_7 := dk_seg dksX2_matches_6 24 rfl rfl
theorem dksX2_matches_8 : cX2_matches.data.toList.drop 190 = dktX2_matches_8 := dk_seg dksX2_matches_7 24 rfl rfl
theorem dksX2_matches_9 : cX2_matches.data.toList.drop 213 = dktX2_matches_9 := dk_seg dksX2_matches_8 23 rfl rfl
theorem dksX2_matches_10 : cX2_matches.data.toList.drop 237 = dktX2_matches_10 := dk_seg dksX2_matches_9 24 rfl rfl
theorem dksX2_matches_11 : cX2_matches.data.toList.drop 259 = dktX2_matches_11 := dk_seg dksX2_matches_10 22 rfl rfl
theorem dksX2_matches_12 : cX2_matches.data.toList.drop 283 = dktX2_matches_12 := dk_seg dksX2_matches_11 24 rfl rfl
theorem dksX2_matches_13 : cX2_matches.data.toList.drop 307 = dktX2_matches_13 := dk_seg dksX2_matches_12 24 rfl rfl
theorem dksX2_matches_14 : cX2_matches.data.toList.drop 331 = dktX2_matches_14 := dk_seg dksX2_matches_13 24 rfl rfl
theorem dX2_matches_0 : decode cX2_matches 0 = .ok (.aload_n 0, 1) := dk_42 (dk_at dksX2_matches_0 0 rfl rfl)
theorem dX2_matches_1 : decode cX2_matches 1 = .ok (.getfield 17, 3) := dk_180 0 17 (dk_at dksX2_matches_0 1 rfl rfl)
theorem dX2_matches_4 : decode cX2_matches 4 = .ok (.iconst 4, 1) := dk_7 (dk_at dksX2_matches_0 4 rfl rfl)
theorem dX2_matches_5 : decode cX2_matches 5 = .ok (.iload_n 2, 1) := dk_28 (dk_at dksX2_matches_0 5 rfl rfl)
theorem dX2_matches_6 : decode cX2_matches 6 = .ok (.iadd, 1) := dk_96 (dk_at dksX2_matches_0 6 rfl rfl)
theorem dX2_matches_7 : decode cX2_matches 7 = .ok (.iaload, 1) := dk_46 (dk_at dksX2_matches_0 7 rfl rfl)
theorem dX2_matches_8 : decode cX2_matches 8 = .ok (.istore_n 3, 1) := dk_62 (dk_at dksX2_matches_0 8 rfl rfl)
theorem dX2_matches_9 : decode cX2_matches 9 = .ok (.aload_n 0, 1) := dk_42 (dk_at dksX2_matches_0 9 rfl rfl)
theorem dX2_matches_10 : decode cX2_matches 10 = .ok (.getfield 17, 3) := dk_180 0 17 (dk_at dksX2_matches_0 10 rfl rfl)
theorem dX2_matches_13 : decode cX2_matches 13 = .ok (.bipush 67, 2) := dk_16 67 (dk_at dksX2_matches_0 13 rfl rfl)
theorem dX2_matches_15 : decode cX2_matches 15 = .ok (.iload_n 1, 1) := dk_27 (dk_at dksX2_matches_0 15 rfl rfl)
theorem dX2_matches_16 : decode cX2_matches 16 = .ok (.iadd, 1) := dk_96 (dk_at dksX2_matches_0 16 rfl rfl)
theorem dX2_matches_17 : decode cX2_matches 17 = .ok (.iaload, 1) := dk_46 (dk_at dksX2_matches_0 17 rfl rfl)
theorem dX2_matches_18 : decode cX2_matches 18 = .ok (.istore 4, 2) := dk_54 4 (dk_at dksX2_matches_0 18 rfl rfl)
theorem dX2_matches_20 : decode cX2_matches 20 = .ok (.iload_n 3, 1) := dk_29 (dk_at dksX2_matches_0 20 rfl rfl)
theorem dX2_matches_21 : decode cX2_matches 21 = .ok (.istore 5, 2) := dk_54 5 (dk_at dksX2_matches_0 21 rfl rfl)
theorem dX2_matches_23 : decode cX2_matches 23 = .ok (.iload 5, 2) := dk_21 5 (dk_at dksX2_matches_1 0 rfl rfl)
theorem dX2_matches_25 : decode cX2_matches 25 = .ok (.ifCond .lt 159, 3) := dk_155 0 159 (dk_at dksX2_matches_1 2 rfl rfl)
theorem dX2_matches_28 : decode cX2_matches 28 = .ok (.iload 4, 2) := dk_21 4 (dk_at dksX2_matches_1 5 rfl rfl)
theorem dX2_matches_30 : decode cX2_matches 30 = .ok (.istore 6, 2) := dk_54 6 (dk_at dksX2_matches_1 7 rfl rfl)
theorem dX2_matches_32 : decode cX2_matches 32 = .ok (.iload 6, 2) := dk_21 6 (dk_at dksX2_matches_1 9 rfl rfl)
theorem dX2_matches_34 : decode cX2_matches 34 = .ok (.ifCond .lt 144, 3) := dk_155 0 144 (dk_at dksX2_matches_1 11 rfl rfl)
theorem dX2_matches_37 : decode cX2_matches 37 = .ok (.iconst 0, 1) := dk_3 (dk_at dksX2_matches_1 14 rfl rfl)
theorem dX2_matches_38 : decode cX2_matches 38 = .ok (.istore 7, 2) := dk_54 7 (dk_at dksX2_matches_1 15 rfl rfl)
theorem dX2_matches_40 : decode cX2_matches 40 = .ok (.iload 5, 2) := dk_21 5 (dk_at dksX2_matches_1 17 rfl rfl)
theorem dX2_matches_42 : decode cX2_matches 42 = .ok (.iload_n 3, 1) := dk_29 (dk_at dksX2_matches_1 19 rfl rfl)
theorem dX2_matches_43 : decode cX2_matches 43 = .ok (.if_icmp .ge 115, 3) := dk_162 0 115 (dk_at dksX2_matches_1 20 rfl rfl)
theorem dX2_matches_46 : decode cX2_matches 46 = .ok (.iload 6, 2) := dk_21 6 (dk_at dksX2_matches_2 0 rfl rfl)
theorem dX2_matches_48 : decode cX2_matches 48 = .ok (.iload 4, 2) := dk_21 4 (dk_at dksX2_matches_2 2 rfl rfl)
theorem dX2_matches_50 : decode cX2_matches 50 = .ok (.if_icmp .ge 108, 3) := dk_162 0 108 (dk_at dksX2_matches_2 4 rfl rfl)
theorem dX2_matches_53 : decode cX2_matches 53 = .ok (.aload_n 0, 1) := dk_42 (dk_at dksX2_matches_2 7 rfl rfl)
theorem dX2_matches_54 : decode cX2_matches 54 = .ok (.getfield 29, 3) := dk_180 0 29 (dk_at dksX2_matches_2 8 rfl rfl)
theorem dX2_matches_57 : decode cX2_matches 57 = .ok (.iload 5, 2) := dk_21 5 (dk_at dksX2_matches_2 11 rfl rfl)
theorem dX2_matches_59 : decode cX2_matches 59 = .ok (.iconst 1, 1) := dk_4 (dk_at dksX2_matches_2 13 rfl rfl)
theorem dX2_matches_60 : decode cX2_matches 60 = .ok (.iadd, 1) := dk_96 (dk_at dksX2_matches_2 14 rfl rfl)
theorem dX2_matches_61 : decode cX2_matches 61 = .ok (.iload 6, 2) := dk_21 6 (dk_at dksX2_matches_2 15 rfl rfl)
theorem dX2_matches_63 : decode cX2_matches 63 = .ok (.invokestatic 194, 3) := dk_184 0 194 (dk_at dksX2_matches_2 17 rfl rfl)
theorem dX2_matches_66 : decode cX2_matches 66 = .ok (.iaload, 1) := dk_46 (dk_at dksX2_matches_2 20 rfl rfl)
theorem dX2_matches_67 : decode cX2_matches 67 = .ok (.istore 8, 2) := dk_54 8 (dk_at dksX2_matches_2 21 rfl rfl)
theorem dX2_matches_69 : decode cX2_matches 69 = .ok (.aload_n 0, 1) := dk_42 (dk_at dksX2_matches_2 23 rfl rfl)
theorem dX2_matches_70 : decode cX2_matches 70 = .ok (.getfield 29, 3) := dk_180 0 29 (dk_at dksX2_matches_3 0 rfl rfl)
theorem dX2_matches_73 : decode cX2_matches 73 = .ok (.iload 5, 2) := dk_21 5 (dk_at dksX2_matches_3 3 rfl rfl)
theorem dX2_matches_75 : decode cX2_matches 75 = .ok (.iload 6, 2) := dk_21 6 (dk_at dksX2_matches_3 5 rfl rfl)
theorem dX2_matches_77 : decode cX2_matches 77 = .ok (.iconst 1, 1) := dk_4 (dk_at dksX2_matches_3 7 rfl rfl)
theorem dX2_matches_78 : decode cX2_matches 78 = .ok (.iadd, 1) := dk_96 (dk_at dksX2_matches_3 8 rfl rfl)
theorem dX2_matches_79 : decode cX2_matches 79 = .ok (.invokestatic 194, 3) := dk_184 0 194 (dk_at dksX2_matches_3 9 rfl rfl)
theorem dX2_matches_82 : decode cX2_matches 82 = .ok (.iaload, 1) := dk_46 (dk_at dksX2_matches_3 12 rfl rfl)
theorem dX2_matches_83 : decode cX2_matches 83 = .ok (.istore 9, 2) := dk_54 9 (dk_at dksX2_matches_3 13 rfl rfl)
theorem dX2_matches_85 : decode cX2_matches 85 = .ok (.iload 8, 2) := dk_21 8 (dk_at dksX2_matches_3 15 rfl rfl)
theorem dX2_matches_87 : decode cX2_matches 87 = .ok (.iload 9, 2) := dk_21 9 (dk_at dksX2_matches_3 17 rfl rfl)
theorem dX2_matches_89 : decode cX2_matches 89 = .ok (.if_icmp .le 8, 3) := dk_164 0 8 (dk_at dksX2_matches_3 19 rfl rfl)
theorem dX2_matches_92 : decode cX2_matches 92 = .ok (.iload 8, 2) := dk_21 8 (dk_at dksX2_matches_3 22 rfl rfl)
theorem dX2_matches_94 : decode cX2_matches 94 = .ok (.goto 5, 3) := dk_167 0 5 (dk_at dksX2_matches_4 0 rfl rfl)
theorem dX2_matches_97 : decode cX2_matches 97 = .ok (.iload 9, 2) := dk_21 9 (dk_at dksX2_matches_4 3 rfl rfl)
theorem dX2_matches_99 : decode cX2_matches 99 = .ok (.istore 7, 2) := dk_54 7 (dk_at dksX2_matches_4 5 rfl rfl)
theorem dX2_matches_101 : decode cX2_matches 101 = .ok (.aload_n 0, 1) := dk_42 (dk_at dksX2_matches_4 7 rfl rfl)
theorem dX2_matches_102 : decode cX2_matches 102 = .ok (.iload_n 2, 1) := dk_28 (dk_at dksX2_matches_4 8 rfl rfl)
theorem dX2_matches_103 : decode cX2_matches 103 = .ok (.iload 5, 2) := dk_21 5 (dk_at dksX2_matches_4 9 rfl rfl)
theorem dX2_matches_105 : decode cX2_matches 105 = .ok (.invokevirtual 197, 3) := dk_182 0 197 (dk_at dksX2_matches_4 11 rfl rfl)
theorem dX2_matches_108 : decode cX2_matches 108 = .ok (.aload_n 0, 1) := dk_42 (dk_at dksX2_matches_4 14 rfl rfl)
theorem dX2_matches_109 : decode cX2_matches 109 = .ok (.iload_n 1, 1) := dk_27 (dk_at dksX2_matches_4 15 rfl rfl)
theorem dX2_matches_110 : decode cX2_matches 110 = .ok (.iload 6, 2) := dk_21 6 (dk_at dksX2_matches_4 16 rfl rfl)
theorem dX2_matches_112 : decode cX2_matches 112 = .ok (.invokevirtual 200, 3) := dk_182 0 200 (dk_at dksX2_matches_4 18 rfl rfl)
theorem dX2_matches_115 : decode cX2_matches 115 = .ok (.if_icmp .ne 24, 3) := dk_160 0 24 (dk_at dksX2_matches_4 21 rfl rfl)
theorem dX2_matches_118 : decode cX2_matches 118 = .ok (.iconst 1, 1) := dk_4 (dk_at dksX2_matches_5 0 rfl rfl)
theorem dX2_matches_119 : decode cX2_matches 119 = .ok (.aload_n 0, 1) := dk_42 (dk_at dksX2_matches_5 1 rfl rfl)
theorem dX2_matches_120 : decode cX2_matches 120 = .ok (.getfield 29, 3) := dk_180 0 29 (dk_at dksX2_matches_5 2 rfl rfl)
theorem dX2_matches_123 : decode cX2_matches 123 = .ok (.iload 5, 2) := dk_21 5 (dk_at dksX2_matches_5 5 rfl rfl)
theorem dX2_matches_125 : decode cX2_matches 125 = .ok (.iconst 1, 1) := dk_4 (dk_at dksX2_matches_5 7 rfl rfl)
theorem dX2_matches_126 : decode cX2_matches 126 = .ok (.iadd, 1) := dk_96 (dk_at dksX2_matches_5 8 rfl rfl)
theorem dX2_matches_127 : decode cX2_matches 127 = .ok (.iload 6, 2) := dk_21 6 (dk_at dksX2_matches_5 9 rfl rfl)
theorem dX2_matches_129 : decode cX2_matches 129 = .ok (.iconst 1, 1) := dk_4 (dk_at dksX2_matches_5 11 rfl rfl)
theorem dX2_matches_130 : decode cX2_matches 130 = .ok (.iadd, 1) := dk_96 (dk_at dksX2_matches_5 12 rfl rfl)
theorem dX2_matches_131 : decode cX2_matches 131 = .ok (.invokestatic 194, 3) := dk_184 0 194 (dk_at dksX2_matches_5 13 rfl rfl)
theorem dX2_matches_134 : decode cX2_matches 134 = .ok (.iaload, 1) := dk_46 (dk_at dksX2_matches_5 16 rfl rfl)
theorem dX2_matches_135 : decode cX2_matches 135 = .ok (.iadd, 1) := dk_96 (dk_at dksX2_matches_5 17 rfl rfl)
theorem dX2_matches_136 : decode cX2_matches 136 = .ok (.goto 4, 3) := dk_167 0 4 (dk_at dksX2_matches_5 18 rfl rfl)
theorem dX2_matches_139 : decode cX2_matches 139 = .ok (.iconst 0, 1) := dk_3 (dk_at dksX2_matches_5 21 rfl rfl)
theorem dX2_matches_140 : decode cX2_matches 140 = .ok (.istore 10, 2) := dk_54 10 (dk_at dksX2_matches_5 22 rfl rfl)
theorem dX2_matches_142 : decode cX2_matches 142 = .ok (.iload 10, 2) := dk_21 10 (dk_at dksX2_matches_6 0 rfl rfl)
theorem dX2_matches_144 : decode cX2_matches 144 = .ok (.iload 7, 2) := dk_21 7 (dk_at dksX2_matches_6 2 rfl rfl)
theorem dX2_matches_146 : decode cX2_matches 146 = .ok (.if_icmp .le 8, 3) := dk_164 0 8 (dk_at dksX2_matches_6 4 rfl rfl)
theorem dX2_matches_149 : decode cX2_matches 149 = .ok (.iload 10, 2) := dk_21 10 (dk_at dksX2_matches_6 7 rfl rfl)
theorem dX2_matches_151 : decode cX2_matches 151 = .ok (.goto 5, 3) := dk_167 0 5 (dk_at dksX2_matches_6 9 rfl rfl)
theorem dX2_matches_154 : decode cX2_matches 154 = .ok (.iload 7, 2) := dk_21 7 (dk_at dksX2_matches_6 12 rfl rfl)
theorem dX2_matches_156 : decode cX2_matches 156 = .ok (.istore 7, 2) := dk_54 7 (dk_at dksX2_matches_6 14 rfl rfl)
theorem dX2_matches_158 : decode cX2_matches 158 = .ok (.aload_n 0, 1) := dk_42 (dk_at dksX2_matches_6 16 rfl rfl)
theorem dX2_matches_159 : decode cX2_matches 159 = .ok (.getfield 29, 3) := dk_180 0 29 (dk_at dksX2_matches_6 17 rfl rfl)
theorem dX2_matches_162 : decode cX2_matches 162 = .ok (.iload 5, 2) := dk_21 5 (dk_at dksX2_matches_6 20 rfl rfl)
theorem dX2_matches_164 : decode cX2_matches 164 = .ok (.iload 6, 2) := dk_21 6 (dk_at dksX2_matches_6 22 rfl rfl)
theorem dX2_matches_166 : decode cX2_matches 166 = .ok (.invokestatic 194, 3) := dk_184 0 194 (dk_at dksX2_matches_7 0 rfl rfl)
theorem dX2_matches_169 : decode cX2_matches 169 = .ok (.iload 7, 2) := dk_21 7 (dk_at dksX2_matches_7 3 rfl rfl)
theorem dX2_matches_171 : decode cX2_matches 171 = .ok (.iastore, 1) := dk_79 (dk_at dksX2_matches_7 5 rfl rfl)
theorem dX2_matches_172 : decode cX2_matches 172 = .ok (.iinc 6 (-1), 3) := dk_132 6 255 (dk_at dksX2_matches_7 6 rfl rfl)
theorem dX2_matches_175 : decode cX2_matches 175 = .ok (.goto (-143), 3) := dk_167 255 113 (dk_at dksX2_matches_7 9 rfl rfl)
theorem dX2_matches_178 : decode cX2_matches 178 = .ok (.iinc 5 (-1), 3) := dk_132 5 255 (dk_at dksX2_matches_7 12 rfl rfl)
theorem dX2_matches_181 : decode cX2_matches 181 = .ok (.goto (-158), 3) := dk_167 255 98 (dk_at dksX2_matches_7 15 rfl rfl)
theorem dX2_matches_184 : decode cX2_matches 184 = .ok (.iconst 0, 1) := dk_3 (dk_at dksX2_matches_7 18 rfl rfl)
theorem dX2_matches_185 : decode cX2_matches 185 = .ok (.istore 5, 2) := dk_54 5 (dk_at dksX2_matches_7 19 rfl rfl)
theorem dX2_matches_187 : decode cX2_matches 187 = .ok (.iconst 0, 1) := dk_3 (dk_at dksX2_matches_7 21 rfl rfl)
theorem dX2_matches_188 : decode cX2_matches 188 = .ok (.istore 6, 2) := dk_54 6 (dk_at dksX2_matches_7 22 rfl rfl)
theorem dX2_matches_190 : decode cX2_matches 190 = .ok (.iconst 0, 1) := dk_3 (dk_at dksX2_matches_8 0 rfl rfl)
theorem dX2_matches_191 : decode cX2_matches 191 = .ok (.istore 7, 2) := dk_54 7 (dk_at dksX2_matches_8 1 rfl rfl)
theorem dX2_matches_193 : decode cX2_matches 193 = .ok (.iload 7, 2) := dk_21 7 (dk_at dksX2_matches_8 3 rfl rfl)
theorem dX2_matches_195 : decode cX2_matches 195 = .ok (.iload_n 3, 1) := dk_29 (dk_at dksX2_matches_8 5 rfl rfl)
theorem dX2_matches_196 : decode cX2_matches 196 = .ok (.if_icmp .ge 152, 3) := dk_162 0 152 (dk_at dksX2_matches_8 6 rfl rfl)
theorem dX2_matches_199 : decode cX2_matches 199 = .ok (.aload_n 0, 1) := dk_42 (dk_at dksX2_matches_8 9 rfl rfl)
theorem dX2_matches_200 : decode cX2_matches 200 = .ok (.getfield 32, 3) := dk_180 0 32 (dk_at dksX2_matches_8 10 rfl rfl)
theorem dX2_matches_203 : decode cX2_matches 203 = .ok (.iload 7, 2) := dk_21 7 (dk_at dksX2_matches_8 13 rfl rfl)
theorem dX2_matches_205 : decode cX2_matches 205 = .ok (.iconst (-1), 1) := dk_2 (dk_at dksX2_matches_8 15 rfl rfl)
theorem dX2_matches_206 : decode cX2_matches 206 = .ok (.iastore, 1) := dk_79 (dk_at dksX2_matches_8 16 rfl rfl)
theorem dX2_matches_207 : decode cX2_matches 207 = .ok (.iload 5, 2) := dk_21 5 (dk_at dksX2_matches_8 17 rfl rfl)
theorem dX2_matches_209 : decode cX2_matches 209 = .ok (.istore 8, 2) := dk_54 8 (dk_at dksX2_matches_8 19 rfl rfl)
theorem dX2_matches_211 : decode cX2_matches 211 = .ok (.iload 8, 2) := dk_21 8 (dk_at dksX2_matches_8 21 rfl rfl)
theorem dX2_matches_213 : decode cX2_matches 213 = .ok (.iload 4, 2) := dk_21 4 (dk_at dksX2_matches_9 0 rfl rfl)
theorem dX2_matches_215 : decode cX2_matches 215 = .ok (.if_icmp .ge 79, 3) := dk_162 0 79 (dk_at dksX2_matches_9 2 rfl rfl)
theorem dX2_matches_218 : decode cX2_matches 218 = .ok (.aload_n 0, 1) := dk_42 (dk_at dksX2_matches_9 5 rfl rfl)
theorem dX2_matches_219 : decode cX2_matches 219 = .ok (.getfield 32, 3) := dk_180 0 32 (dk_at dksX2_matches_9 6 rfl rfl)
theorem dX2_matches_222 : decode cX2_matches 222 = .ok (.iload 7, 2) := dk_21 7 (dk_at dksX2_matches_9 9 rfl rfl)
theorem dX2_matches_224 : decode cX2_matches 224 = .ok (.iaload, 1) := dk_46 (dk_at dksX2_matches_9 11 rfl rfl)
theorem dX2_matches_225 : decode cX2_matches 225 = .ok (.iconst (-1), 1) := dk_2 (dk_at dksX2_matches_9 12 rfl rfl)
theorem dX2_matches_226 : decode cX2_matches 226 = .ok (.if_icmp .ne 68, 3) := dk_160 0 68 (dk_at dksX2_matches_9 13 rfl rfl)
theorem dX2_matches_229 : decode cX2_matches 229 = .ok (.aload_n 0, 1) := dk_42 (dk_at dksX2_matches_9 16 rfl rfl)
theorem dX2_matches_230 : decode cX2_matches 230 = .ok (.iload_n 2, 1) := dk_28 (dk_at dksX2_matches_9 17 rfl rfl)
theorem dX2_matches_231 : decode cX2_matches 231 = .ok (.iload 7, 2) := dk_21 7 (dk_at dksX2_matches_9 18 rfl rfl)
theorem dX2_matches_233 : decode cX2_matches 233 = .ok (.invokevirtual 197, 3) := dk_182 0 197 (dk_at dksX2_matches_9 20 rfl rfl)
theorem dX2_matches_236 : decode cX2_matches 236 = .ok (.aload_n 0, 1) := dk_42 (dk_at dksX2_matches_9 23 rfl rfl)
theorem dX2_matches_237 : decode cX2_matches 237 = .ok (.iload_n 1, 1) := dk_27 (dk_at dksX2_matches_10 0 rfl rfl)
theorem dX2_matches_238 : decode cX2_matches 238 = .ok (.iload 8, 2) := dk_21 8 (dk_at dksX2_matches_10 1 rfl rfl)
theorem dX2_matches_240 : decode cX2_matches 240 = .ok (.invokevirtual 200, 3) := dk_182 0 200 (dk_at dksX2_matches_10 3 rfl rfl)
theorem dX2_matches_243 : decode cX2_matches 243 = .ok (.if_icmp .ne 45, 3) := dk_160 0 45 (dk_at dksX2_matches_10 6 rfl rfl)
theorem dX2_matches_246 : decode cX2_matches 246 = .ok (.iconst 1, 1) := dk_4 (dk_at dksX2_matches_10 9 rfl rfl)
theorem dX2_matches_247 : decode cX2_matches 247 = .ok (.aload_n 0, 1) := dk_42 (dk_at dksX2_matches_10 10 rfl rfl)
theorem dX2_matches_248 : decode cX2_matches 248 = .ok (.getfield 29, 3) := dk_180 0 29 (dk_at dksX2_matches_10 11 rfl rfl)
theorem dX2_matches_251 : decode cX2_matches 251 = .ok (.iload 7, 2) := dk_21 7 (dk_at dksX2_matches_10 14 rfl rfl)
theorem dX2_matches_253 : decode cX2_matches 253 = .ok (.iconst 1, 1) := dk_4 (dk_at dksX2_matches_10 16 rfl rfl)
theorem dX2_matches_254 : decode cX2_matches 254 = .ok (.iadd, 1) := dk_96 (dk_at dksX2_matches_10 17 rfl rfl)
theorem dX2_matches_255 : decode cX2_matches 255 = .ok (.iload 8, 2) := dk_21 8 (dk_at dksX2_matches_10 18 rfl rfl)
theorem dX2_matches_257 : decode cX2_matches 257 = .ok (.iconst 1, 1) := dk_4 (dk_at dksX2_matches_10 20 rfl rfl)
theorem dX2_matches_258 : decode cX2_matches 258 = .ok (.iadd, 1) := dk_96 (dk_at dksX2_matches_10 21 rfl rfl)
theorem dX2_matches_259 : decode cX2_matches 259 = .ok (.invokestatic 194, 3) := dk_184 0 194 (dk_at dksX2_matches_11 0 rfl rfl)
theorem dX2_matches_262 : decode cX2_matches 262 = .ok (.iaload, 1) := dk_46 (dk_at dksX2_matches_11 3 rfl rfl)
theorem dX2_matches_263 : decode cX2_matches 263 = .ok (.iadd, 1) := dk_96 (dk_at dksX2_matches_11 4 rfl rfl)
theorem dX2_matches_264 : decode cX2_matches 264 = .ok (.aload_n 0, 1) := dk_42 (dk_at dksX2_matches_11 5 rfl rfl)
theorem dX2_matches_265 : decode cX2_matches 265 = .ok (.getfield 29, 3) := dk_180 0 29 (dk_at dksX2_matches_11 6 rfl rfl)
theorem dX2_matches_268 : decode cX2_matches 268 = .ok (.iload 7, 2) := dk_21 7 (dk_at dksX2_matches_11 9 rfl rfl)
theorem dX2_matches_270 : decode cX2_matches 270 = .ok (.iload 5, 2) := dk_21 5 (dk_at dksX2_matches_11 11 rfl rfl)
theorem dX2_matches_272 : decode cX2_matches 272 = .ok (.invokestatic 194, 3) := dk_184 0 194 (dk_at dksX2_matches_11 13 rfl rfl)
theorem dX2_matches_275 : decode cX2_matches 275 = .ok (.iaload, 1) := dk_46 (dk_at dksX2_matches_11 16 rfl rfl)
theorem dX2_matches_276 : decode cX2_matches 276 = .ok (.if_icmp .ne 12, 3) := dk_160 0 12 (dk_at dksX2_matches_11 17 rfl rfl)
theorem dX2_matches_279 : decode cX2_matches 279 = .ok (.aload_n 0, 1) := dk_42 (dk_at dksX2_matches_11 20 rfl rfl)
theorem dX2_matches_280 : decode cX2_matches 280 = .ok (.getfield 32, 3) := dk_180 0 32 (dk_at dksX2_matches_11 21 rfl rfl)
theorem dX2_matches_283 : decode cX2_matches 283 = .ok (.iload 7, 2) := dk_21 7 (dk_at dksX2_matches_12 0 rfl rfl)
theorem dX2_matches_285 : decode cX2_matches 285 = .ok (.iload 8, 2) := dk_21 8 (dk_at dksX2_matches_12 2 rfl rfl)
theorem dX2_matches_287 : decode cX2_matches 287 = .ok (.iastore, 1) := dk_79 (dk_at dksX2_matches_12 4 rfl rfl)
theorem dX2_matches_288 : decode cX2_matches 288 = .ok (.iinc 8 1, 3) := dk_132 8 1 (dk_at dksX2_matches_12 5 rfl rfl)
theorem dX2_matches_291 : decode cX2_matches 291 = .ok (.goto (-80), 3) := dk_167 255 176 (dk_at dksX2_matches_12 8 rfl rfl)
theorem dX2_matches_294 : decode cX2_matches 294 = .ok (.aload_n 0, 1) := dk_42 (dk_at dksX2_matches_12 11 rfl rfl)
theorem dX2_matches_295 : decode cX2_matches 295 = .ok (.getfield 32, 3) := dk_180 0 32 (dk_at dksX2_matches_12 12 rfl rfl)
theorem dX2_matches_298 : decode cX2_matches 298 = .ok (.iload 7, 2) := dk_21 7 (dk_at dksX2_matches_12 15 rfl rfl)
theorem dX2_matches_300 : decode cX2_matches 300 = .ok (.iaload, 1) := dk_46 (dk_at dksX2_matches_12 17 rfl rfl)
theorem dX2_matches_301 : decode cX2_matches 301 = .ok (.iconst (-1), 1) := dk_2 (dk_at dksX2_matches_12 18 rfl rfl)
theorem dX2_matches_302 : decode cX2_matches 302 = .ok (.if_icmp .ne 8, 3) := dk_160 0 8 (dk_at dksX2_matches_12 19 rfl rfl)
theorem dX2_matches_305 : decode cX2_matches 305 = .ok (.iload 5, 2) := dk_21 5 (dk_at dksX2_matches_12 22 rfl rfl)
theorem dX2_matches_307 : decode cX2_matches 307 = .ok (.goto 12, 3) := dk_167 0 12 (dk_at dksX2_matches_13 0 rfl rfl)
theorem dX2_matches_310 : decode cX2_matches 310 = .ok (.aload_n 0, 1) := dk_42 (dk_at dksX2_matches_13 3 rfl rfl)
theorem dX2_matches_311 : decode cX2_matches 311 = .ok (.getfield 32, 3) := dk_180 0 32 (dk_at dksX2_matches_13 4 rfl rfl)
theorem dX2_matches_314 : decode cX2_matches 314 = .ok (.iload 7, 2) := dk_21 7 (dk_at dksX2_matches_13 7 rfl rfl)
theorem dX2_matches_316 : decode cX2_matches 316 = .ok (.iaload, 1) := dk_46 (dk_at dksX2_matches_13 9 rfl rfl)
theorem dX2_matches_317 : decode cX2_matches 317 = .ok (.iconst 1, 1) := dk_4 (dk_at dksX2_matches_13 10 rfl rfl)
theorem dX2_matches_318 : decode cX2_matches 318 = .ok (.iadd, 1) := dk_96 (dk_at dksX2_matches_13 11 rfl rfl)
theorem dX2_matches_319 : decode cX2_matches 319 = .ok (.istore 5, 2) := dk_54 5 (dk_at dksX2_matches_13 12 rfl rfl)
theorem dX2_matches_321 : decode cX2_matches 321 = .ok (.iload 6, 2) := dk_21 6 (dk_at dksX2_matches_13 14 rfl rfl)
theorem dX2_matches_323 : decode cX2_matches 323 = .ok (.aload_n 0, 1) := dk_42 (dk_at dksX2_matches_13 16 rfl rfl)
theorem dX2_matches_324 : decode cX2_matches 324 = .ok (.getfield 32, 3) := dk_180 0 32 (dk_at dksX2_matches_13 17 rfl rfl)
theorem dX2_matches_327 : decode cX2_matches 327 = .ok (.iload 7, 2) := dk_21 7 (dk_at dksX2_matches_13 20 rfl rfl)
theorem dX2_matches_329 : decode cX2_matches 329 = .ok (.iaload, 1) := dk_46 (dk_at dksX2_matches_13 22 rfl rfl)
theorem dX2_matches_330 : decode cX2_matches 330 = .ok (.iconst (-1), 1) := dk_2 (dk_at dksX2_matches_13 23 rfl rfl)
theorem dX2_matches_331 : decode cX2_matches 331 = .ok (.if_icmp .ne 7, 3) := dk_160 0 7 (dk_at dksX2_matches_14 0 rfl rfl)
theorem dX2_matches_334 : decode cX2_matches 334 = .ok (.iconst 1, 1) := dk_4 (dk_at dksX2_matches_14 3 rfl rfl)
theorem dX2_matches_335 : decode cX2_matches 335 = .ok (.goto 4, 3) := dk_167 0 4 (dk_at dksX2_matches_14 4 rfl rfl)
theorem dX2_matches_338 : decode cX2_matches 338 = .ok (.iconst 0, 1) := dk_3 (dk_at dksX2_matches_14 7 rfl rfl)
theorem dX2_matches_339 : decode cX2_matches 339 = .ok (.iadd, 1) := dk_96 (dk_at dksX2_matches_14 8 rfl rfl)
theorem dX2_matches_340 : decode cX2_matches 340 = .ok (.istore 6, 2) := dk_54 6 (dk_at dksX2_matches_14 9 rfl rfl)
theorem dX2_matches_342 : decode cX2_matches 342 = .ok (.iinc 7 1, 3) := dk_132 7 1 (dk_at dksX2_matches_14 11 rfl rfl)
theorem dX2_matches_345 : decode cX2_matches 345 = .ok (.goto (-152), 3) := dk_167 255 104 (dk_at dksX2_matches_14 14 rfl rfl)
theorem dX2_matches_348 : decode cX2_matches 348 = .ok (.iload 6, 2) := dk_21 6 (dk_at dksX2_matches_14 17 rfl rfl)
theorem dX2_matches_350 : decode cX2_matches 350 = .ok (.ireturn, 1) := dk_172 (dk_at dksX2_matches_14 19 rfl rfl)
theorem md_X2_matches : xMd yX2_matches cX2_matches 11 (Option.some Jvm.ClassFile.FieldType.int) 2 := ⟨q3143, q126, by decide, by decide +kernel, by decide +kernel, by decide +kernel⟩
def T_matches_339  (k193 : Int32 × Int32 × Int32 × Int32 × Int32 × Int32 × Int32 × TS → Option (xO × TS)) (v1 : Int32) (v2 : Int32) (v3 : Int32) (v4 : Int32) (v5 : Int32) (v7 : Int32) (w0 : Int32) (w1 : Int32) (s0 : TS) : Option (xO × TS) :=
  (bnd (w0 + w1) fun x7 =>
  (bnd (v7 + 1) fun x8 =>
  (k193 (v1, v2, v3, v4, v5, x7, x8, s0))))
def T_matches_319  (k193 : Int32 × Int32 × Int32 × Int32 × Int32 × Int32 × Int32 × TS → Option (xO × TS)) (v1 : Int32) (v2 : Int32) (v3 : Int32) (v4 : Int32) (v6 : Int32) (v7 : Int32) (w0 : Int32) (s0 : TS) : Option (xO × TS) :=
  (tald s0 20 v7 fun x6 =>
  (if x6 = (-1) then
  (T_matches_339 k193 v1 v2 v3 v4 w0 v7 v6 1 s0) else
  (T_matches_339 k193 v1 v2 v3 v4 w0 v7 v6 0 s0)))
def T_matches_294  (k193 : Int32 × Int32 × Int32 × Int32 × Int32 × Int32 × Int32 × TS → Option (xO × TS)) (v1 : Int32) (v2 : Int32) (v3 : Int32) (v4 : Int32) (v5 : Int32) (v6 : Int32) (v7 : Int32) (s0 : TS) : Option (xO × TS) :=
  (tald s0 20 v7 fun x4 =>
  (if x4 = (-1) then
  (T_matches_319 k193 v1 v2 v3 v4 v6 v7 v5 s0) else
  (tald s0 20 v7 fun x5 =>
  (T_matches_319 k193 v1 v2 v3 v4 v6 v7 (x5 + 1) s0))))
def T_matches_288  (k211 : Int32 × Int32 × Int32 × Int32 × Int32 × Int32 × Int32 × Int32 × TS → Option (xO × TS)) (v1 : Int32) (v2 : Int32) (v3 : Int32) (v4 : Int32) (v5 : Int32) (v6 : Int32) (v7 : Int32) (v8 : Int32) (s0 : TS) : Option (xO × TS) :=
  (bnd (v8 + 1) fun x14 =>
  (k211 (v1, v2, v3, v4, v5, v6, v7, x14, s0)))
def T_matches_211F  (k193 : Int32 × Int32 × Int32 × Int32 × Int32 × Int32 × Int32 × TS → Option (xO × TS)) (k211 : Int32 × Int32 × Int32 × Int32 × Int32 × Int32 × Int32 × Int32 × TS → Option (xO × TS)) (p : Int32 × Int32 × Int32 × Int32 × Int32 × Int32 × Int32 × Int32 × TS) : Option (xO × TS) := match p with
  | (v1, v2, v3, v4, v5, v6, v7, v8, s0) => (if v4 ≤ v8 then
  (T_matches_294 k193 v1 v2 v3 v4 v5 v6 v7 s0) else
  (tald s0 20 v7 fun x9 =>
  (if x9 = (-1) then
  (xcI (T_codeOf s0 v2 v7) fun x11 s10 =>
  (xcI (T_punchCode s10 v1 v8) fun x13 s12 =>
  (if x11 = x13 then
  (xcI (T_cell s12 (v7 + 1) (v8 + 1)) fun x16 s15 =>
  (tald s15 19 x16 fun x17 =>
  (xcI (T_cell s15 v7 v5) fun x19 s18 =>
  (tald s18 19 x19 fun x20 =>
  (if (1 + x17) = x20 then
  (tast s18 20 v7 v8 fun s21 =>
  (T_matches_288 k211 v1 v2 v3 v4 v5 v6 v7 v8 s21)) else
  (T_matches_288 k211 v1 v2 v3 v4 v5 v6 v7 v8 s18)))))) else
  (T_matches_288 k211 v1 v2 v3 v4 v5 v6 v7 v8 s12)))) else
  (T_matches_294 k193 v1 v2 v3 v4 v5 v6 v7 s0))))
def T_matches_193F   (k193 : Int32 × Int32 × Int32 × Int32 × Int32 × Int32 × Int32 × TS → Option (xO × TS)) (p : Int32 × Int32 × Int32 × Int32 × Int32 × Int32 × Int32 × TS) : Option (xO × TS) := match p with
  | (v1, v2, v3, v4, v5, v6, v7, s0) => (if v3 ≤ v7 then
  (rI v6 s0) else
  (tast s0 20 v7 (-1) fun s3 =>
  (lp (T_matches_211F k193) FU (v1, v2, v3, v4, v5, v6, v7, v5, s3))))
def T_matches_158  (k32 : Int32 × Int32 × Int32 × Int32 × Int32 × Int32 × TS → Option (xO × TS)) (v1 : Int32) (v2 : Int32) (v3 : Int32) (v4 : Int32) (v5 : Int32) (v6 : Int32) (v7 : Int32) (s0 : TS) : Option (xO × TS) :=
  (xcI (T_cell s0 v5 v6) fun x24 s23 =>
  (tast s23 19 x24 v7 fun s25 =>
  (bnd (v6 + (-1)) fun x26 =>
  (k32 (v1, v2, v3, v4, v5, x26, s25)))))
def T_matches_156  (k32 : Int32 × Int32 × Int32 × Int32 × Int32 × Int32 × TS → Option (xO × TS)) (v1 : Int32) (v2 : Int32) (v3 : Int32) (v4 : Int32) (v5 : Int32) (v6 : Int32) (w0 : Int32) (s0 : TS) : Option (xO × TS) :=
  (T_matches_158 k32 v1 v2 v3 v4 v5 v6 w0 s0)
def T_matches_140  (k32 : Int32 × Int32 × Int32 × Int32 × Int32 × Int32 × TS → Option (xO × TS)) (v1 : Int32) (v2 : Int32) (v3 : Int32) (v4 : Int32) (v5 : Int32) (v6 : Int32) (v7 : Int32) (w0 : Int32) (s0 : TS) : Option (xO × TS) :=
  (if w0 ≤ v7 then
  (T_matches_156 k32 v1 v2 v3 v4 v5 v6 v7 s0) else
  (T_matches_156 k32 v1 v2 v3 v4 v5 v6 w0 s0))
def T_matches_99  (k32 : Int32 × Int32 × Int32 × Int32 × Int32 × Int32 × TS → Option (xO × TS)) (v1 : Int32) (v2 : Int32) (v3 : Int32) (v4 : Int32) (v5 : Int32) (v6 : Int32) (w0 : Int32) (s0 : TS) : Option (xO × TS) :=
  (xcI (T_codeOf s0 v2 v5) fun x34 s33 =>
  (xcI (T_punchCode s33 v1 v6) fun x36 s35 =>
  (if x34 = x36 then
  (xcI (T_cell s35 (v5 + 1) (v6 + 1)) fun x38 s37 =>
  (tald s37 19 x38 fun x39 =>
  (T_matches_140 k32 v1 v2 v3 v4 v5 v6 w0 (1 + x39) s37))) else
  (T_matches_140 k32 v1 v2 v3 v4 v5 v6 w0 0 s35))))
def T_matches_32F  (k23 : Int32 × Int32 × Int32 × Int32 × Int32 × TS → Option (xO × TS)) (k32 : Int32 × Int32 × Int32 × Int32 × Int32 × Int32 × TS → Option (xO × TS)) (p : Int32 × Int32 × Int32 × Int32 × Int32 × Int32 × TS) : Option (xO × TS) := match p with
  | (v1, v2, v3, v4, v5, v6, s0) => (if v6 < 0 then
  (bnd (v5 + (-1)) fun x22 =>
  (k23 (v1, v2, v3, v4, x22, s0))) else
  (if v3 ≤ v5 then
  (T_matches_158 k32 v1 v2 v3 v4 v5 v6 0 s0) else
  (if v4 ≤ v6 then
  (T_matches_158 k32 v1 v2 v3 v4 v5 v6 0 s0) else
  (xcI (T_cell s0 (v5 + 1) v6) fun x28 s27 =>
  (tald s27 19 x28 fun x29 =>
  (xcI (T_cell s27 v5 (v6 + 1)) fun x31 s30 =>
  (tald s30 19 x31 fun x32 =>
  (if x29 ≤ x32 then
  (T_matches_99 k32 v1 v2 v3 v4 v5 v6 x32 s30) else
  (T_matches_99 k32 v1 v2 v3 v4 v5 v6 x29 s30)))))))))
def T_matches_23F   (k23 : Int32 × Int32 × Int32 × Int32 × Int32 × TS → Option (xO × TS)) (p : Int32 × Int32 × Int32 × Int32 × Int32 × TS) : Option (xO × TS) := match p with
  | (v1, v2, v3, v4, v5, s0) => (if v5 < 0 then
  (lp (T_matches_193F) FU (v1, v2, v3, v4, 0, 0, 0, s0)) else
  (lp (T_matches_32F k23) FU (v1, v2, v3, v4, v5, v4, s0)))
def T_matches (s0 : TS) (a1 : Int32) (a2 : Int32) : Option (xO × TS) :=
  (tald s0 7 (4 + a2) fun x1 =>
  (tald s0 7 (67 + a1) fun x2 =>
  (lp (T_matches_23F) FU (a1, a2, x1, x2, x1, s0))))
theorem T_matches_339_ok {G : xG} {E : TE} (hO : xOK G) (hE : tok E)  {k193 : Int32 × Int32 × Int32 × Int32 × Int32 × Int32 × Int32 × TS → Option (xO × TS)} (hk193 : ∀ (v1 : Int32) (v2 : Int32) (v3 : Int32) (v4 : Int32) (v5 : Int32) (v6 : Int32) (v7 : Int32) (s0 : TS), XT G E "ForestLegsModel" "matches" cX2_matches 11 (Option.some Jvm.ClassFile.FieldType.int) 1 193 [(0, .ref E.2.1), (1, .int v1), (2, .int v2), (3, .int v3), (4, .int v4), (5, .int v5), (6, .int v6), (7, .int v7)] [] s0 (k193 (v1, v2, v3, v4, v5, v6, v7, s0))) (v1 : Int32) (v2 : Int32) (v3 : Int32) (v4 : Int32) (v5 : Int32) (v7 : Int32) (w0 : Int32) (w1 : Int32) (s0 : TS) : XT G E "ForestLegsModel" "matches" cX2_matches 11 (Option.some Jvm.ClassFile.FieldType.int) 1 339 [(0, .ref E.2.1), (1, .int v1), (2, .int v2), (3, .int v3), (4, .int v4), (5, .int v5), (7, .int v7)] [.int w1, .int w0] s0 (T_matches_339 k193 v1 v2 v3 v4 v5 v7 w0 w1 s0) := by
  unfold T_matches_339
  refine x_iadd dX2_matches_339 (n := 340) rfl ?_
  refine tw_nm (fun x7 => ?_)
  refine x_istore [(6, .int x7), (0, .ref E.2.1), (1, .int v1), (2, .int v2), (3, .int v3), (4, .int v4), (5, .int v5), (7, .int v7)] dX2_matches_340 (by decide) rfl (n := 342) rfl ?_
  refine tw_iinc 7 (fun x8 => [(7, .int x8), (6, .int x7), (0, .ref E.2.1), (1, .int v1), (2, .int v2), (3, .int v3), (4, .int v4), (5, .int v5)]) dX2_matches_342 rfl rfl (by decide) (fun _ => rfl) (n := 345) rfl (fun x8 => ?_)
  refine x_goto dX2_matches_345 (n := 193) (by decide) ?_
  refine x_sub [2, 3, 4, 5, 6, 7, 1, 0] [(0, .ref E.2.1), (1, .int v1), (2, .int v2), (3, .int v3), (4, .int v4), (5, .int v5), (6, .int x7), (7, .int x8)] rfl ?_
  exact hk193 v1 v2 v3 v4 v5 x7 x8 s0
theorem T_matches_319_ok {G : xG} {E : TE} (hO : xOK G) (hE : tok E)  {k193 : Int32 × Int32 × Int32 × Int32 × Int32 × Int32 × Int32 × TS → Option (xO × TS)} (hk193 : ∀ (v1 : Int32) (v2 : Int32) (v3 : Int32) (v4 : Int32) (v5 : Int32) (v6 : Int32) (v7 : Int32) (s0 : TS), XT G E "ForestLegsModel" "matches" cX2_matches 11 (Option.some Jvm.ClassFile.FieldType.int) 1 193 [(0, .ref E.2.1), (1, .int v1), (2, .int v2), (3, .int v3), (4, .int v4), (5, .int v5), (6, .int v6), (7, .int v7)] [] s0 (k193 (v1, v2, v3, v4, v5, v6, v7, s0))) (v1 : Int32) (v2 : Int32) (v3 : Int32) (v4 : Int32) (v6 : Int32) (v7 : Int32) (w0 : Int32) (s0 : TS) : XT G E "ForestLegsModel" "matches" cX2_matches 11 (Option.some Jvm.ClassFile.FieldType.int) 1 319 [(0, .ref E.2.1), (1, .int v1), (2, .int v2), (3, .int v3), (4, .int v4), (6, .int v6), (7, .int v7)] [.int w0] s0 (T_matches_319 k193 v1 v2 v3 v4 v6 v7 w0 s0) := by
  unfold T_matches_319
  refine x_istore [(5, .int w0), (0, .ref E.2.1), (1, .int v1), (2, .int v2), (3, .int v3), (4, .int v4), (6, .int v6), (7, .int v7)] dX2_matches_319 (by decide) rfl (n := 321) rfl ?_
  refine x_iload 6 dX2_matches_321 rfl (n := 323) rfl ?_
  refine x_aload_nr 1 dX2_matches_323 rfl rfl (n := 324) rfl ?_
  refine tw_getA fl_X2_32 rfl (by decide) dX2_matches_324 (n := 327) rfl ?_
  refine x_iload 7 dX2_matches_327 rfl (n := 329) rfl ?_
  refine tw_iald hE (by decide) dX2_matches_329 (n := 330) rfl (fun x6 => ?_)
  refine x_iconst (-1) dX2_matches_330 rfl (n := 331) rfl ?_
  refine tw_icmp_ne dX2_matches_331 (t := 338) (by decide) (n := 334) rfl ?_ ?_
  · refine x_iconst 0 dX2_matches_338 rfl (n := 339) rfl ?_
    refine x_sub [1, 2, 3, 4, 5, 0, 7] [(0, .ref E.2.1), (1, .int v1), (2, .int v2), (3, .int v3), (4, .int v4), (5, .int w0), (7, .int v7)] rfl ?_
    exact T_matches_339_ok hO hE hk193 v1 v2 v3 v4 w0 v7 v6 0 s0
  · refine x_iconst 1 dX2_matches_334 rfl (n := 335) rfl ?_
    refine x_goto dX2_matches_335 (n := 339) (by decide) ?_
    refine x_sub [1, 2, 3, 4, 5, 0, 7] [(0, .ref E.2.1), (1, .int v1), (2, .int v2), (3, .int v3), (4, .int v4), (5, .int w0), (7, .int v7)] rfl ?_
    exact T_matches_339_ok hO hE hk193 v1 v2 v3 v4 w0 v7 v6 1 s0
theorem T_matches_294_ok {G : xG} {E : TE} (hO : xOK G) (hE : tok E)  {k193 : Int32 × Int32 × Int32 × Int32 × Int32 × Int32 × Int32 × TS → Option (xO × TS)} (hk193 : ∀ (v1 : Int32) (v2 : Int32) (v3 : Int32) (v4 : Int32) (v5 : Int32) (v6 : Int32) (v7 : Int32) (s0 : TS), XT G E "ForestLegsModel" "matches" cX2_matches 11 (Option.some Jvm.ClassFile.FieldType.int) 1 193 [(0, .ref E.2.1), (1, .int v1), (2, .int v2), (3, .int v3), (4, .int v4), (5, .int v5), (6, .int v6), (7, .int v7)] [] s0 (k193 (v1, v2, v3, v4, v5, v6, v7, s0))) (v1 : Int32) (v2 : Int32) (v3 : Int32) (v4 : Int32) (v5 : Int32) (v6 : Int32) (v7 : Int32) (s0 : TS) : XT G E "ForestLegsModel" "matches" cX2_matches 11 (Option.some Jvm.ClassFile.FieldType.int) 1 294 [(0, .ref E.2.1), (1, .int v1), (2, .int v2), (3, .int v3), (4, .int v4), (5, .int v5), (6, .int v6), (7, .int v7)] [] s0 (T_matches_294 k193 v1 v2 v3 v4 v5 v6 v7 s0) := by
  unfold T_matches_294
  refine x_aload_nr 0 dX2_matches_294 rfl rfl (n := 295) rfl ?_
  refine tw_getA fl_X2_32 rfl (by decide) dX2_matches_295 (n := 298) rfl ?_
  refine x_iload 7 dX2_matches_298 rfl (n := 300) rfl ?_
  refine tw_iald hE (by decide) dX2_matches_300 (n := 301) rfl (fun x4 => ?_)
  refine x_iconst (-1) dX2_matches_301 rfl (n := 302) rfl ?_
  refine tw_icmp_ne dX2_matches_302 (t := 310) (by decide) (n := 305) rfl ?_ ?_
  · refine x_aload_nr 0 dX2_matches_310 rfl rfl (n := 311) rfl ?_
    refine tw_getA fl_X2_32 rfl (by decide) dX2_matches_311 (n := 314) rfl ?_
    refine x_iload 7 dX2_matches_314 rfl (n := 316) rfl ?_
    refine tw_iald hE (by decide) dX2_matches_316 (n := 317) rfl (fun x5 => ?_)
    refine x_iconst 1 dX2_matches_317 rfl (n := 318) rfl ?_
    refine x_iadd dX2_matches_318 (n := 319) rfl ?_
    refine x_sub [0, 1, 2, 3, 4, 6, 7] [(0, .ref E.2.1), (1, .int v1), (2, .int v2), (3, .int v3), (4, .int v4), (6, .int v6), (7, .int v7)] rfl ?_
    exact T_matches_319_ok hO hE hk193 v1 v2 v3 v4 v6 v7 (x5 + 1) s0
  · refine x_iload 5 dX2_matches_305 rfl (n := 307) rfl ?_
    refine x_goto dX2_matches_307 (n := 319) (by decide) ?_
    refine x_sub [0, 1, 2, 3, 4, 6, 7] [(0, .ref E.2.1), (1, .int v1), (2, .int v2), (3, .int v3), (4, .int v4), (6, .int v6), (7, .int v7)] rfl ?_
    exact T_matches_319_ok hO hE hk193 v1 v2 v3 v4 v6 v7 v5 s0
theorem T_matches_288_ok {G : xG} {E : TE} (hO : xOK G) (hE : tok E)  {k211 : Int32 × Int32 × Int32 × Int32 × Int32 × Int32 × Int32 × Int32 × TS → Option (xO × TS)} (hk211 : ∀ (v1 : Int32) (v2 : Int32) (v3 : Int32) (v4 : Int32) (v5 : Int32) (v6 : Int32) (v7 : Int32) (v8 : Int32) (s0 : TS), XT G E "ForestLegsModel" "matches" cX2_matches 11 (Option.some Jvm.ClassFile.FieldType.int) 1 211 [(0, .ref E.2.1), (1, .int v1), (2, .int v2), (3, .int v3), (4, .int v4), (5, .int v5), (6, .int v6), (7, .int v7), (8, .int v8)] [] s0 (k211 (v1, v2, v3, v4, v5, v6, v7, v8, s0))) (v1 : Int32) (v2 : Int32) (v3 : Int32) (v4 : Int32) (v5 : Int32) (v6 : Int32) (v7 : Int32) (v8 : Int32) (s0 : TS) : XT G E "ForestLegsModel" "matches" cX2_matches 11 (Option.some Jvm.ClassFile.FieldType.int) 1 288 [(0, .ref E.2.1), (1, .int v1), (2, .int v2), (3, .int v3), (4, .int v4), (5, .int v5), (6, .int v6), (7, .int v7), (8, .int v8)] [] s0 (T_matches_288 k211 v1 v2 v3 v4 v5 v6 v7 v8 s0) := by
  unfold T_matches_288
  refine tw_iinc 8 (fun x14 => [(8, .int x14), (0, .ref E.2.1), (1, .int v1), (2, .int v2), (3, .int v3), (4, .int v4), (5, .int v5), (6, .int v6), (7, .int v7)]) dX2_matches_288 rfl rfl (by decide) (fun _ => rfl) (n := 291) rfl (fun x14 => ?_)
  refine x_goto dX2_matches_291 (n := 211) (by decide) ?_
  refine x_sub [1, 2, 3, 4, 5, 6, 7, 8, 0] [(0, .ref E.2.1), (1, .int v1), (2, .int v2), (3, .int v3), (4, .int v4), (5, .int v5), (6, .int v6), (7, .int v7), (8, .int x14)] rfl ?_
  exact hk211 v1 v2 v3 v4 v5 v6 v7 x14 s0
theorem T_matches_211F_ok {G : xG} {E : TE} (hO : xOK G) (hE : tok E)  {k193 : Int32 × Int32 × Int32 × Int32 × Int32 × Int32 × Int32 × TS → Option (xO × TS)} (hk193 : ∀ (v1 : Int32) (v2 : Int32) (v3 : Int32) (v4 : Int32) (v5 : Int32) (v6 : Int32) (v7 : Int32) (s0 : TS), XT G E "ForestLegsModel" "matches" cX2_matches 11 (Option.some Jvm.ClassFile.FieldType.int) 1 193 [(0, .ref E.2.1), (1, .int v1), (2, .int v2), (3, .int v3), (4, .int v4), (5, .int v5), (6, .int v6), (7, .int v7)] [] s0 (k193 (v1, v2, v3, v4, v5, v6, v7, s0))) {k211 : Int32 × Int32 × Int32 × Int32 × Int32 × Int32 × Int32 × Int32 × TS → Option (xO × TS)} (hk211 : ∀ (v1 : Int32) (v2 : Int32) (v3 : Int32) (v4 : Int32) (v5 : Int32) (v6 : Int32) (v7 : Int32) (v8 : Int32) (s0 : TS), XT G E "ForestLegsModel" "matches" cX2_matches 11 (Option.some Jvm.ClassFile.FieldType.int) 1 211 [(0, .ref E.2.1), (1, .int v1), (2, .int v2), (3, .int v3), (4, .int v4), (5, .int v5), (6, .int v6), (7, .int v7), (8, .int v8)] [] s0 (k211 (v1, v2, v3, v4, v5, v6, v7, v8, s0))) (v1 : Int32) (v2 : Int32) (v3 : Int32) (v4 : Int32) (v5 : Int32) (v6 : Int32) (v7 : Int32) (v8 : Int32) (s0 : TS) : XT G E "ForestLegsModel" "matches" cX2_matches 11 (Option.some Jvm.ClassFile.FieldType.int) 1 211 [(0, .ref E.2.1), (1, .int v1), (2, .int v2), (3, .int v3), (4, .int v4), (5, .int v5), (6, .int v6), (7, .int v7), (8, .int v8)] [] s0 (T_matches_211F k193 k211 (v1, v2, v3, v4, v5, v6, v7, v8, s0)) := by
  unfold T_matches_211F
  refine x_iload 8 dX2_matches_211 rfl (n := 213) rfl ?_
  refine x_iload 4 dX2_matches_213 rfl (n := 215) rfl ?_
  refine tw_icmp_ge dX2_matches_215 (t := 294) (by decide) (n := 218) rfl ?_ ?_
  · refine x_sub [0, 1, 2, 3, 4, 5, 6, 7] [(0, .ref E.2.1), (1, .int v1), (2, .int v2), (3, .int v3), (4, .int v4), (5, .int v5), (6, .int v6), (7, .int v7)] rfl ?_
    exact T_matches_294_ok hO hE hk193 v1 v2 v3 v4 v5 v6 v7 s0
  · refine x_aload_nr 0 dX2_matches_218 rfl rfl (n := 219) rfl ?_
    refine tw_getA fl_X2_32 rfl (by decide) dX2_matches_219 (n := 222) rfl ?_
    refine x_iload 7 dX2_matches_222 rfl (n := 224) rfl ?_
    refine tw_iald hE (by decide) dX2_matches_224 (n := 225) rfl (fun x9 => ?_)
    refine x_iconst (-1) dX2_matches_225 rfl (n := 226) rfl ?_
    refine tw_icmp_ne dX2_matches_226 (t := 294) (by decide) (n := 229) rfl ?_ ?_
    · refine x_sub [0, 1, 2, 3, 4, 5, 6, 7] [(0, .ref E.2.1), (1, .int v1), (2, .int v2), (3, .int v3), (4, .int v4), (5, .int v5), (6, .int v6), (7, .int v7)] rfl ?_
      exact T_matches_294_ok hO hE hk193 v1 v2 v3 v4 v5 v6 v7 s0
    · refine x_aload_nr 0 dX2_matches_229 rfl rfl (n := 230) rfl ?_
      refine x_iload_n 2 dX2_matches_230 rfl rfl (n := 231) rfl ?_
      refine x_iload 7 dX2_matches_231 rfl (n := 233) rfl ?_
      refine tw_callV_I [.int v2, .int v7] [] (T_codeOf_ok hO hE s0 v2 v7) md_X2_codeOf q3147 q3149 qs85 dX2_matches_233 rfl rfl (by decide) (Nat.le_of_ble_eq_true rfl) (n := 236) rfl (fun x11 s10 => ?_)
      refine x_aload_nr 0 dX2_matches_236 rfl rfl (n := 237) rfl ?_
      refine x_iload_n 1 dX2_matches_237 rfl rfl (n := 238) rfl ?_
      refine x_iload 8 dX2_matches_238 rfl (n := 240) rfl ?_
      refine tw_callV_I [.int v1, .int v8] [.int x11] (T_punchCode_ok hO hE s10 v1 v8) md_X2_punchCode q3151 q3153 qs86 dX2_matches_240 rfl rfl (by decide) (Nat.le_of_ble_eq_true rfl) (n := 243) rfl (fun x13 s12 => ?_)
      refine tw_icmp_ne dX2_matches_243 (t := 288) (by decide) (n := 246) rfl ?_ ?_
      · exact T_matches_288_ok hO hE hk211 v1 v2 v3 v4 v5 v6 v7 v8 s12
      · refine x_iconst 1 dX2_matches_246 rfl (n := 247) rfl ?_
        refine x_aload_nr 0 dX2_matches_247 rfl rfl (n := 248) rfl ?_
        refine tw_getA fl_X2_29 rfl (by decide) dX2_matches_248 (n := 251) rfl ?_
        refine x_iload 7 dX2_matches_251 rfl (n := 253) rfl ?_
        refine x_iconst 1 dX2_matches_253 rfl (n := 254) rfl ?_
        refine x_iadd dX2_matches_254 (n := 255) rfl ?_
        refine x_iload 8 dX2_matches_255 rfl (n := 257) rfl ?_
        refine x_iconst 1 dX2_matches_257 rfl (n := 258) rfl ?_
        refine x_iadd dX2_matches_258 (n := 259) rfl ?_
        refine tw_callS_I [.int (v7 + 1), .int (v8 + 1)] [.ref (E.2.2 19), .int 1] (T_cell_ok hO hE s12 (v7 + 1) (v8 + 1)) md_X2_cell q3144 q3145 dX2_matches_259 rfl rfl (by decide) (Nat.le_of_ble_eq_true rfl) (n := 262) rfl (fun x16 s15 => ?_)
        refine tw_iald hE (by decide) dX2_matches_262 (n := 263) rfl (fun x17 => ?_)
        refine x_iadd dX2_matches_263 (n := 264) rfl ?_
        refine x_aload_nr 0 dX2_matches_264 rfl rfl (n := 265) rfl ?_
        refine tw_getA fl_X2_29 rfl (by decide) dX2_matches_265 (n := 268) rfl ?_
        refine x_iload 7 dX2_matches_268 rfl (n := 270) rfl ?_
        refine x_iload 5 dX2_matches_270 rfl (n := 272) rfl ?_
        refine tw_callS_I [.int v7, .int v5] [.ref (E.2.2 19), .int (1 + x17)] (T_cell_ok hO hE s15 v7 v5) md_X2_cell q3144 q3145 dX2_matches_272 rfl rfl (by decide) (Nat.le_of_ble_eq_true rfl) (n := 275) rfl (fun x19 s18 => ?_)
        refine tw_iald hE (by decide) dX2_matches_275 (n := 276) rfl (fun x20 => ?_)
        refine tw_icmp_ne dX2_matches_276 (t := 288) (by decide) (n := 279) rfl ?_ ?_
        · exact T_matches_288_ok hO hE hk211 v1 v2 v3 v4 v5 v6 v7 v8 s18
        · refine x_aload_nr 0 dX2_matches_279 rfl rfl (n := 280) rfl ?_
          refine tw_getA fl_X2_32 rfl (by decide) dX2_matches_280 (n := 283) rfl ?_
          refine x_iload 7 dX2_matches_283 rfl (n := 285) rfl ?_
          refine x_iload 8 dX2_matches_285 rfl (n := 287) rfl ?_
          refine tw_iast hE (by decide) dX2_matches_287 (n := 288) rfl (fun s21 => ?_)
          exact T_matches_288_ok hO hE hk211 v1 v2 v3 v4 v5 v6 v7 v8 s21
theorem T_matches_211_lp {G : xG} {E : TE} (hO : xOK G) (hE : tok E)  {k193 : Int32 × Int32 × Int32 × Int32 × Int32 × Int32 × Int32 × TS → Option (xO × TS)} (hk193 : ∀ (v1 : Int32) (v2 : Int32) (v3 : Int32) (v4 : Int32) (v5 : Int32) (v6 : Int32) (v7 : Int32) (s0 : TS), XT G E "ForestLegsModel" "matches" cX2_matches 11 (Option.some Jvm.ClassFile.FieldType.int) 1 193 [(0, .ref E.2.1), (1, .int v1), (2, .int v2), (3, .int v3), (4, .int v4), (5, .int v5), (6, .int v6), (7, .int v7)] [] s0 (k193 (v1, v2, v3, v4, v5, v6, v7, s0))) (n : Nat) (v1 : Int32) (v2 : Int32) (v3 : Int32) (v4 : Int32) (v5 : Int32) (v6 : Int32) (v7 : Int32) (v8 : Int32) (s0 : TS) : XT G E "ForestLegsModel" "matches" cX2_matches 11 (Option.some Jvm.ClassFile.FieldType.int) 1 211 [(0, .ref E.2.1), (1, .int v1), (2, .int v2), (3, .int v3), (4, .int v4), (5, .int v5), (6, .int v6), (7, .int v7), (8, .int v8)] [] s0 (lp (T_matches_211F k193) n (v1, v2, v3, v4, v5, v6, v7, v8, s0)) :=
  lp_ok (W := fun p K => XT G E "ForestLegsModel" "matches" cX2_matches 11 (Option.some Jvm.ClassFile.FieldType.int) 1 211 [(0, .ref E.2.1), (1, .int p.1), (2, .int p.2.1), (3, .int p.2.2.1), (4, .int p.2.2.2.1), (5, .int p.2.2.2.2.1), (6, .int p.2.2.2.2.2.1), (7, .int p.2.2.2.2.2.2.1), (8, .int p.2.2.2.2.2.2.2.1)] [] p.2.2.2.2.2.2.2.2 K) (fun _ => tw_no) (fun k hk => fun (v1, v2, v3, v4, v5, v6, v7, v8, s0) => T_matches_211F_ok hO hE hk193 (fun v1 v2 v3 v4 v5 v6 v7 v8 s0 => hk (v1, v2, v3, v4, v5, v6, v7, v8, s0)) v1 v2 v3 v4 v5 v6 v7 v8 s0) n (v1, v2, v3, v4, v5, v6, v7, v8, s0)
theorem T_matches_193F_ok {G : xG} {E : TE} (hO : xOK G) (hE : tok E)   {k193 : Int32 × Int32 × Int32 × Int32 × Int32 × Int32 × Int32 × TS → Option (xO × TS)} (hk193 : ∀ (v1 : Int32) (v2 : Int32) (v3 : Int32) (v4 : Int32) (v5 : Int32) (v6 : Int32) (v7 : Int32) (s0 : TS), XT G E "ForestLegsModel" "matches" cX2_matches 11 (Option.some Jvm.ClassFile.FieldType.int) 1 193 [(0, .ref E.2.1), (1, .int v1), (2, .int v2), (3, .int v3), (4, .int v4), (5, .int v5), (6, .int v6), (7, .int v7)] [] s0 (k193 (v1, v2, v3, v4, v5, v6, v7, s0))) (v1 : Int32) (v2 : Int32) (v3 : Int32) (v4 : Int32) (v5 : Int32) (v6 : Int32) (v7 : Int32) (s0 : TS) : XT G E "ForestLegsModel" "matches" cX2_matches 11 (Option.some Jvm.ClassFile.FieldType.int) 1 193 [(0, .ref E.2.1), (1, .int v1), (2, .int v2), (3, .int v3), (4, .int v4), (5, .int v5), (6, .int v6), (7, .int v7)] [] s0 (T_matches_193F k193 (v1, v2, v3, v4, v5, v6, v7, s0)) := by
  unfold T_matches_193F
  refine x_iload 7 dX2_matches_193 rfl (n := 195) rfl ?_
  refine x_iload_n 3 dX2_matches_195 rfl rfl (n := 196) rfl ?_
  refine tw_icmp_ge dX2_matches_196 (t := 348) (by decide) (n := 199) rfl ?_ ?_
  · refine x_iload 6 dX2_matches_348 rfl (n := 350) rfl ?_
    exact tw_ireturn dX2_matches_350
  · refine x_aload_nr 0 dX2_matches_199 rfl rfl (n := 200) rfl ?_
    refine tw_getA fl_X2_32 rfl (by decide) dX2_matches_200 (n := 203) rfl ?_
    refine x_iload 7 dX2_matches_203 rfl (n := 205) rfl ?_
    refine x_iconst (-1) dX2_matches_205 rfl (n := 206) rfl ?_
    refine tw_iast hE (by decide) dX2_matches_206 (n := 207) rfl (fun s3 => ?_)
    refine x_iload 5 dX2_matches_207 rfl (n := 209) rfl ?_
    refine x_istore [(8, .int v5), (0, .ref E.2.1), (1, .int v1), (2, .int v2), (3, .int v3), (4, .int v4), (5, .int v5), (6, .int v6), (7, .int v7)] dX2_matches_209 (by decide) rfl (n := 211) rfl ?_
    refine x_sub [1, 2, 3, 4, 5, 6, 7, 8, 0] [(0, .ref E.2.1), (1, .int v1), (2, .int v2), (3, .int v3), (4, .int v4), (5, .int v5), (6, .int v6), (7, .int v7), (8, .int v5)] rfl ?_
    exact T_matches_211_lp hO hE hk193 FU v1 v2 v3 v4 v5 v6 v7 v5 s3
theorem T_matches_193_lp {G : xG} {E : TE} (hO : xOK G) (hE : tok E)   (n : Nat) (v1 : Int32) (v2 : Int32) (v3 : Int32) (v4 : Int32) (v5 : Int32) (v6 : Int32) (v7 : Int32) (s0 : TS) : XT G E "ForestLegsModel" "matches" cX2_matches 11 (Option.some Jvm.ClassFile.FieldType.int) 1 193 [(0, .ref E.2.1), (1, .int v1), (2, .int v2), (3, .int v3), (4, .int v4), (5, .int v5), (6, .int v6), (7, .int v7)] [] s0 (lp (T_matches_193F) n (v1, v2, v3, v4, v5, v6, v7, s0)) :=
  lp_ok (W := fun p K => XT G E "ForestLegsModel" "matches" cX2_matches 11 (Option.some Jvm.ClassFile.FieldType.int) 1 193 [(0, .ref E.2.1), (1, .int p.1), (2, .int p.2.1), (3, .int p.2.2.1), (4, .int p.2.2.2.1), (5, .int p.2.2.2.2.1), (6, .int p.2.2.2.2.2.1), (7, .int p.2.2.2.2.2.2.1)] [] p.2.2.2.2.2.2.2 K) (fun _ => tw_no) (fun k hk => fun (v1, v2, v3, v4, v5, v6, v7, s0) => T_matches_193F_ok hO hE (fun v1 v2 v3 v4 v5 v6 v7 s0 => hk (v1, v2, v3, v4, v5, v6, v7, s0)) v1 v2 v3 v4 v5 v6 v7 s0) n (v1, v2, v3, v4, v5, v6, v7, s0)
theorem T_matches_158_ok {G : xG} {E : TE} (hO : xOK G) (hE : tok E)  {k32 : Int32 × Int32 × Int32 × Int32 × Int32 × Int32 × TS → Option (xO × TS)} (hk32 : ∀ (v1 : Int32) (v2 : Int32) (v3 : Int32) (v4 : Int32) (v5 : Int32) (v6 : Int32) (s0 : TS), XT G E "ForestLegsModel" "matches" cX2_matches 11 (Option.some Jvm.ClassFile.FieldType.int) 1 32 [(0, .ref E.2.1), (1, .int v1), (2, .int v2), (3, .int v3), (4, .int v4), (5, .int v5), (6, .int v6)] [] s0 (k32 (v1, v2, v3, v4, v5, v6, s0))) (v1 : Int32) (v2 : Int32) (v3 : Int32) (v4 : Int32) (v5 : Int32) (v6 : Int32) (v7 : Int32) (s0 : TS) : XT G E "ForestLegsModel" "matches" cX2_matches 11 (Option.some Jvm.ClassFile.FieldType.int) 1 158 [(0, .ref E.2.1), (1, .int v1), (2, .int v2), (3, .int v3), (4, .int v4), (5, .int v5), (6, .int v6), (7, .int v7)] [] s0 (T_matches_158 k32 v1 v2 v3 v4 v5 v6 v7 s0) := by
  unfold T_matches_158
  refine x_aload_nr 0 dX2_matches_158 rfl rfl (n := 159) rfl ?_
  refine tw_getA fl_X2_29 rfl (by decide) dX2_matches_159 (n := 162) rfl ?_
  refine x_iload 5 dX2_matches_162 rfl (n := 164) rfl ?_
  refine x_iload 6 dX2_matches_164 rfl (n := 166) rfl ?_
  refine tw_callS_I [.int v5, .int v6] [.ref (E.2.2 19)] (T_cell_ok hO hE s0 v5 v6) md_X2_cell q3144 q3145 dX2_matches_166 rfl rfl (by decide) (Nat.le_of_ble_eq_true rfl) (n := 169) rfl (fun x24 s23 => ?_)
  refine x_iload 7 dX2_matches_169 rfl (n := 171) rfl ?_
  refine tw_iast hE (by decide) dX2_matches_171 (n := 172) rfl (fun s25 => ?_)
  refine tw_iinc 6 (fun x26 => [(6, .int x26), (0, .ref E.2.1), (1, .int v1), (2, .int v2), (3, .int v3), (4, .int v4), (5, .int v5), (7, .int v7)]) dX2_matches_172 rfl rfl (by decide) (fun _ => rfl) (n := 175) rfl (fun x26 => ?_)
  refine x_goto dX2_matches_175 (n := 32) (by decide) ?_
  refine x_sub [1, 2, 3, 4, 5, 6, 0] [(0, .ref E.2.1), (1, .int v1), (2, .int v2), (3, .int v3), (4, .int v4), (5, .int v5), (6, .int x26)] rfl ?_
  exact hk32 v1 v2 v3 v4 v5 x26 s25
theorem T_matches_156_ok {G : xG} {E : TE} (hO : xOK G) (hE : tok E)  {k32 : Int32 × Int32 × Int32 × Int32 × Int32 × Int32 × TS → Option (xO × TS)} (hk32 : ∀ (v1 : Int32) (v2 : Int32) (v3 : Int32) (v4 : Int32) (v5 : Int32) (v6 : Int32) (s0 : TS), XT G E "ForestLegsModel" "matches" cX2_matches 11 (Option.some Jvm.ClassFile.FieldType.int) 1 32 [(0, .ref E.2.1), (1, .int v1), (2, .int v2), (3, .int v3), (4, .int v4), (5, .int v5), (6, .int v6)] [] s0 (k32 (v1, v2, v3, v4, v5, v6, s0))) (v1 : Int32) (v2 : Int32) (v3 : Int32) (v4 : Int32) (v5 : Int32) (v6 : Int32) (w0 : Int32) (s0 : TS) : XT G E "ForestLegsModel" "matches" cX2_matches 11 (Option.some Jvm.ClassFile.FieldType.int) 1 156 [(0, .ref E.2.1), (1, .int v1), (2, .int v2), (3, .int v3), (4, .int v4), (5, .int v5), (6, .int v6)] [.int w0] s0 (T_matches_156 k32 v1 v2 v3 v4 v5 v6 w0 s0) := by
  unfold T_matches_156
  refine x_istore [(7, .int w0), (0, .ref E.2.1), (1, .int v1), (2, .int v2), (3, .int v3), (4, .int v4), (5, .int v5), (6, .int v6)] dX2_matches_156 (by decide) rfl (n := 158) rfl ?_
  refine x_sub [1, 2, 3, 4, 5, 6, 7, 0] [(0, .ref E.2.1), (1, .int v1), (2, .int v2), (3, .int v3), (4, .int v4), (5, .int v5), (6, .int v6), (7, .int w0)] rfl ?_
  exact T_matches_158_ok hO hE hk32 v1 v2 v3 v4 v5 v6 w0 s0
theorem T_matches_140_ok {G : xG} {E : TE} (hO : xOK G) (hE : tok E)  {k32 : Int32 × Int32 × Int32 × Int32 × Int32 × Int32 × TS → Option (xO × TS)} (hk32 : ∀ (v1 : Int32) (v2 : Int32) (v3 : Int32) (v4 : Int32) (v5 : Int32) (v6 : Int32) (s0 : TS), XT G E "ForestLegsModel" "matches" cX2_matches 11 (Option.some Jvm.ClassFile.FieldType.int) 1 32 [(0, .ref E.2.1), (1, .int v1), (2, .int v2), (3, .int v3), (4, .int v4), (5, .int v5), (6, .int v6)] [] s0 (k32 (v1, v2, v3, v4, v5, v6, s0))) (v1 : Int32) (v2 : Int32) (v3 : Int32) (v4 : Int32) (v5 : Int32) (v6 : Int32) (v7 : Int32) (w0 : Int32) (s0 : TS) : XT G E "ForestLegsModel" "matches" cX2_matches 11 (Option.some Jvm.ClassFile.FieldType.int) 1 140 [(0, .ref E.2.1), (1, .int v1), (2, .int v2), (3, .int v3), (4, .int v4), (5, .int v5), (6, .int v6), (7, .int v7)] [.int w0] s0 (T_matches_140 k32 v1 v2 v3 v4 v5 v6 v7 w0 s0) := by
  unfold T_matches_140
  refine x_istore [(10, .int w0), (0, .ref E.2.1), (1, .int v1), (2, .int v2), (3, .int v3), (4, .int v4), (5, .int v5), (6, .int v6), (7, .int v7)] dX2_matches_140 (by decide) rfl (n := 142) rfl ?_
  refine x_iload 0 dX2_matches_142 rfl (n := 144) rfl ?_
  refine x_iload 8 dX2_matches_144 rfl (n := 146) rfl ?_
  refine tw_icmp_le dX2_matches_146 (t := 154) (by decide) (n := 149) rfl ?_ ?_
  · refine x_iload 8 dX2_matches_154 rfl (n := 156) rfl ?_
    refine x_sub [1, 2, 3, 4, 5, 6, 7] [(0, .ref E.2.1), (1, .int v1), (2, .int v2), (3, .int v3), (4, .int v4), (5, .int v5), (6, .int v6)] rfl ?_
    exact T_matches_156_ok hO hE hk32 v1 v2 v3 v4 v5 v6 v7 s0
  · refine x_iload 0 dX2_matches_149 rfl (n := 151) rfl ?_
    refine x_goto dX2_matches_151 (n := 156) (by decide) ?_
    refine x_sub [1, 2, 3, 4, 5, 6, 7] [(0, .ref E.2.1), (1, .int v1), (2, .int v2), (3, .int v3), (4, .int v4), (5, .int v5), (6, .int v6)] rfl ?_
    exact T_matches_156_ok hO hE hk32 v1 v2 v3 v4 v5 v6 w0 s0
theorem T_matches_99_ok {G : xG} {E : TE} (hO : xOK G) (hE : tok E)  {k32 : Int32 × Int32 × Int32 × Int32 × Int32 × Int32 × TS → Option (xO × TS)} (hk32 : ∀ (v1 : Int32) (v2 : Int32) (v3 : Int32) (v4 : Int32) (v5 : Int32) (v6 : Int32) (s0 : TS), XT G E "ForestLegsModel" "matches" cX2_matches 11 (Option.some Jvm.ClassFile.FieldType.int) 1 32 [(0, .ref E.2.1), (1, .int v1), (2, .int v2), (3, .int v3), (4, .int v4), (5, .int v5), (6, .int v6)] [] s0 (k32 (v1, v2, v3, v4, v5, v6, s0))) (v1 : Int32) (v2 : Int32) (v3 : Int32) (v4 : Int32) (v5 : Int32) (v6 : Int32) (w0 : Int32) (s0 : TS) : XT G E "ForestLegsModel" "matches" cX2_matches 11 (Option.some Jvm.ClassFile.FieldType.int) 1 99 [(0, .ref E.2.1), (1, .int v1), (2, .int v2), (3, .int v3), (4, .int v4), (5, .int v5), (6, .int v6)] [.int w0] s0 (T_matches_99 k32 v1 v2 v3 v4 v5 v6 w0 s0) := by
  unfold T_matches_99
  refine x_istore [(7, .int w0), (0, .ref E.2.1), (1, .int v1), (2, .int v2), (3, .int v3), (4, .int v4), (5, .int v5), (6, .int v6)] dX2_matches_99 (by decide) rfl (n := 101) rfl ?_
  refine x_aload_nr 1 dX2_matches_101 rfl rfl (n := 102) rfl ?_
  refine x_iload_n 3 dX2_matches_102 rfl rfl (n := 103) rfl ?_
  refine x_iload 6 dX2_matches_103 rfl (n := 105) rfl ?_
  refine tw_callV_I [.int v2, .int v5] [] (T_codeOf_ok hO hE s0 v2 v5) md_X2_codeOf q3147 q3149 qs85 dX2_matches_105 rfl rfl (by decide) (Nat.le_of_ble_eq_true rfl) (n := 108) rfl (fun x34 s33 => ?_)
  refine x_aload_nr 1 dX2_matches_108 rfl rfl (n := 109) rfl ?_
  refine x_iload_n 2 dX2_matches_109 rfl rfl (n := 110) rfl ?_
  refine x_iload 7 dX2_matches_110 rfl (n := 112) rfl ?_
  refine tw_callV_I [.int v1, .int v6] [.int x34] (T_punchCode_ok hO hE s33 v1 v6) md_X2_punchCode q3151 q3153 qs86 dX2_matches_112 rfl rfl (by decide) (Nat.le_of_ble_eq_true rfl) (n := 115) rfl (fun x36 s35 => ?_)
  refine tw_icmp_ne dX2_matches_115 (t := 139) (by decide) (n := 118) rfl ?_ ?_
  · refine x_iconst 0 dX2_matches_139 rfl (n := 140) rfl ?_
    refine x_sub [1, 2, 3, 4, 5, 6, 7, 0] [(0, .ref E.2.1), (1, .int v1), (2, .int v2), (3, .int v3), (4, .int v4), (5, .int v5), (6, .int v6), (7, .int w0)] rfl ?_
    exact T_matches_140_ok hO hE hk32 v1 v2 v3 v4 v5 v6 w0 0 s35
  · refine x_iconst 1 dX2_matches_118 rfl (n := 119) rfl ?_
    refine x_aload_nr 1 dX2_matches_119 rfl rfl (n := 120) rfl ?_
    refine tw_getA fl_X2_29 rfl (by decide) dX2_matches_120 (n := 123) rfl ?_
    refine x_iload 6 dX2_matches_123 rfl (n := 125) rfl ?_
    refine x_iconst 1 dX2_matches_125 rfl (n := 126) rfl ?_
    refine x_iadd dX2_matches_126 (n := 127) rfl ?_
    refine x_iload 7 dX2_matches_127 rfl (n := 129) rfl ?_
    refine x_iconst 1 dX2_matches_129 rfl (n := 130) rfl ?_
    refine x_iadd dX2_matches_130 (n := 131) rfl ?_
    refine tw_callS_I [.int (v5 + 1), .int (v6 + 1)] [.ref (E.2.2 19), .int 1] (T_cell_ok hO hE s35 (v5 + 1) (v6 + 1)) md_X2_cell q3144 q3145 dX2_matches_131 rfl rfl (by decide) (Nat.le_of_ble_eq_true rfl) (n := 134) rfl (fun x38 s37 => ?_)
    refine tw_iald hE (by decide) dX2_matches_134 (n := 135) rfl (fun x39 => ?_)
    refine x_iadd dX2_matches_135 (n := 136) rfl ?_
    refine x_goto dX2_matches_136 (n := 140) (by decide) ?_
    refine x_sub [1, 2, 3, 4, 5, 6, 7, 0] [(0, .ref E.2.1), (1, .int v1), (2, .int v2), (3, .int v3), (4, .int v4), (5, .int v5), (6, .int v6), (7, .int w0)] rfl ?_
    exact T_matches_140_ok hO hE hk32 v1 v2 v3 v4 v5 v6 w0 (1 + x39) s37
theorem T_matches_32F_ok {G : xG} {E : TE} (hO : xOK G) (hE : tok E)  {k23 : Int32 × Int32 × Int32 × Int32 × Int32 × TS → Option (xO × TS)} (hk23 : ∀ (v1 : Int32) (v2 : Int32) (v3 : Int32) (v4 : Int32) (v5 : Int32) (s0 : TS), XT G E "ForestLegsModel" "matches" cX2_matches 11 (Option.some Jvm.ClassFile.FieldType.int) 1 23 [(0, .ref E.2.1), (1, .int v1), (2, .int v2), (3, .int v3), (4, .int v4), (5, .int v5)] [] s0 (k23 (v1, v2, v3, v4, v5, s0))) {k32 : Int32 × Int32 × Int32 × Int32 × Int32 × Int32 × TS → Option (xO × TS)} (hk32 : ∀ (v1 : Int32) (v2 : Int32) (v3 : Int32) (v4 : Int32) (v5 : Int32) (v6 : Int32) (s0 : TS), XT G E "ForestLegsModel" "matches" cX2_matches 11 (Option.some Jvm.ClassFile.FieldType.int) 1 32 [(0, .ref E.2.1), (1, .int v1), (2, .int v2), (3, .int v3), (4, .int v4), (5, .int v5), (6, .int v6)] [] s0 (k32 (v1, v2, v3, v4, v5, v6, s0))) (v1 : Int32) (v2 : Int32) (v3 : Int32) (v4 : Int32) (v5 : Int32) (v6 : Int32) (s0 : TS) : XT G E "ForestLegsModel" "matches" cX2_matches 11 (Option.some Jvm.ClassFile.FieldType.int) 1 32 [(0, .ref E.2.1), (1, .int v1), (2, .int v2), (3, .int v3), (4, .int v4), (5, .int v5), (6, .int v6)] [] s0 (T_matches_32F k23 k32 (v1, v2, v3, v4, v5, v6, s0)) := by
  unfold T_matches_32F
  refine x_iload 6 dX2_matches_32 rfl (n := 34) rfl ?_
  refine tw_if_lt dX2_matches_34 (t := 178) (by decide) (n := 37) rfl ?_ ?_
  · refine tw_iinc 5 (fun x22 => [(5, .int x22), (0, .ref E.2.1), (1, .int v1), (2, .int v2), (3, .int v3), (4, .int v4), (6, .int v6)]) dX2_matches_178 rfl rfl (by decide) (fun _ => rfl) (n := 181) rfl (fun x22 => ?_)
    refine x_goto dX2_matches_181 (n := 23) (by decide) ?_
    refine x_sub [1, 2, 3, 4, 5, 0] [(0, .ref E.2.1), (1, .int v1), (2, .int v2), (3, .int v3), (4, .int v4), (5, .int x22)] rfl ?_
    exact hk23 v1 v2 v3 v4 x22 s0
  · refine x_iconst 0 dX2_matches_37 rfl (n := 38) rfl ?_
    refine x_istore [(7, .int 0), (0, .ref E.2.1), (1, .int v1), (2, .int v2), (3, .int v3), (4, .int v4), (5, .int v5), (6, .int v6)] dX2_matches_38 (by decide) rfl (n := 40) rfl ?_
    refine x_iload 6 dX2_matches_40 rfl (n := 42) rfl ?_
    refine x_iload_n 4 dX2_matches_42 rfl rfl (n := 43) rfl ?_
    refine tw_icmp_ge dX2_matches_43 (t := 158) (by decide) (n := 46) rfl ?_ ?_
    · refine x_sub [1, 2, 3, 4, 5, 6, 7, 0] [(0, .ref E.2.1), (1, .int v1), (2, .int v2), (3, .int v3), (4, .int v4), (5, .int v5), (6, .int v6), (7, .int 0)] rfl ?_
      exact T_matches_158_ok hO hE hk32 v1 v2 v3 v4 v5 v6 0 s0
    · refine x_iload 7 dX2_matches_46 rfl (n := 48) rfl ?_
      refine x_iload 5 dX2_matches_48 rfl (n := 50) rfl ?_
      refine tw_icmp_ge dX2_matches_50 (t := 158) (by decide) (n := 53) rfl ?_ ?_
      · refine x_sub [1, 2, 3, 4, 5, 6, 7, 0] [(0, .ref E.2.1), (1, .int v1), (2, .int v2), (3, .int v3), (4, .int v4), (5, .int v5), (6, .int v6), (7, .int 0)] rfl ?_
        exact T_matches_158_ok hO hE hk32 v1 v2 v3 v4 v5 v6 0 s0
      · refine x_aload_nr 1 dX2_matches_53 rfl rfl (n := 54) rfl ?_
        refine tw_getA fl_X2_29 rfl (by decide) dX2_matches_54 (n := 57) rfl ?_
        refine x_iload 6 dX2_matches_57 rfl (n := 59) rfl ?_
        refine x_iconst 1 dX2_matches_59 rfl (n := 60) rfl ?_
        refine x_iadd dX2_matches_60 (n := 61) rfl ?_
        refine x_iload 7 dX2_matches_61 rfl (n := 63) rfl ?_
        refine tw_callS_I [.int (v5 + 1), .int v6] [.ref (E.2.2 19)] (T_cell_ok hO hE s0 (v5 + 1) v6) md_X2_cell q3144 q3145 dX2_matches_63 rfl rfl (by decide) (Nat.le_of_ble_eq_true rfl) (n := 66) rfl (fun x28 s27 => ?_)
        refine tw_iald hE (by decide) dX2_matches_66 (n := 67) rfl (fun x29 => ?_)
        refine x_istore [(8, .int x29), (7, .int 0), (0, .ref E.2.1), (1, .int v1), (2, .int v2), (3, .int v3), (4, .int v4), (5, .int v5), (6, .int v6)] dX2_matches_67 (by decide) rfl (n := 69) rfl ?_
        refine x_aload_nr 2 dX2_matches_69 rfl rfl (n := 70) rfl ?_
        refine tw_getA fl_X2_29 rfl (by decide) dX2_matches_70 (n := 73) rfl ?_
        refine x_iload 7 dX2_matches_73 rfl (n := 75) rfl ?_
        refine x_iload 8 dX2_matches_75 rfl (n := 77) rfl ?_
        refine x_iconst 1 dX2_matches_77 rfl (n := 78) rfl ?_
        refine x_iadd dX2_matches_78 (n := 79) rfl ?_
        refine tw_callS_I [.int v5, .int (v6 + 1)] [.ref (E.2.2 19)] (T_cell_ok hO hE s27 v5 (v6 + 1)) md_X2_cell q3144 q3145 dX2_matches_79 rfl rfl (by decide) (Nat.le_of_ble_eq_true rfl) (n := 82) rfl (fun x31 s30 => ?_)
        refine tw_iald hE (by decide) dX2_matches_82 (n := 83) rfl (fun x32 => ?_)
        refine x_istore [(9, .int x32), (8, .int x29), (7, .int 0), (0, .ref E.2.1), (1, .int v1), (2, .int v2), (3, .int v3), (4, .int v4), (5, .int v5), (6, .int v6)] dX2_matches_83 (by decide) rfl (n := 85) rfl ?_
        refine x_iload 1 dX2_matches_85 rfl (n := 87) rfl ?_
        refine x_iload 0 dX2_matches_87 rfl (n := 89) rfl ?_
        refine tw_icmp_le dX2_matches_89 (t := 97) (by decide) (n := 92) rfl ?_ ?_
        · refine x_iload 0 dX2_matches_97 rfl (n := 99) rfl ?_
          refine x_sub [3, 4, 5, 6, 7, 8, 9] [(0, .ref E.2.1), (1, .int v1), (2, .int v2), (3, .int v3), (4, .int v4), (5, .int v5), (6, .int v6)] rfl ?_
          exact T_matches_99_ok hO hE hk32 v1 v2 v3 v4 v5 v6 x32 s30
        · refine x_iload 1 dX2_matches_92 rfl (n := 94) rfl ?_
          refine x_goto dX2_matches_94 (n := 99) (by decide) ?_
          refine x_sub [3, 4, 5, 6, 7, 8, 9] [(0, .ref E.2.1), (1, .int v1), (2, .int v2), (3, .int v3), (4, .int v4), (5, .int v5), (6, .int v6)] rfl ?_
          exact T_matches_99_ok hO hE hk32 v1 v2 v3 v4 v5 v6 x29 s30
theorem T_matches_32_lp {G : xG} {E : TE} (hO : xOK G) (hE : tok E)  {k23 : Int32 × Int32 × Int32 × Int32 × Int32 × TS → Option (xO × TS)} (hk23 : ∀ (v1 : Int32) (v2 : Int32) (v3 : Int32) (v4 : Int32) (v5 : Int32) (s0 : TS), XT G E "ForestLegsModel" "matches" cX2_matches 11 (Option.some Jvm.ClassFile.FieldType.int) 1 23 [(0, .ref E.2.1), (1, .int v1), (2, .int v2), (3, .int v3), (4, .int v4), (5, .int v5)] [] s0 (k23 (v1, v2, v3, v4, v5, s0))) (n : Nat) (v1 : Int32) (v2 : Int32) (v3 : Int32) (v4 : Int32) (v5 : Int32) (v6 : Int32) (s0 : TS) : XT G E "ForestLegsModel" "matches" cX2_matches 11 (Option.some Jvm.ClassFile.FieldType.int) 1 32 [(0, .ref E.2.1), (1, .int v1), (2, .int v2), (3, .int v3), (4, .int v4), (5, .int v5), (6, .int v6)] [] s0 (lp (T_matches_32F k23) n (v1, v2, v3, v4, v5, v6, s0)) :=
  lp_ok (W := fun p K => XT G E "ForestLegsModel" "matches" cX2_matches 11 (Option.some Jvm.ClassFile.FieldType.int) 1 32 [(0, .ref E.2.1), (1, .int p.1), (2, .int p.2.1), (3, .int p.2.2.1), (4, .int p.2.2.2.1), (5, .int p.2.2.2.2.1), (6, .int p.2.2.2.2.2.1)] [] p.2.2.2.2.2.2 K) (fun _ => tw_no) (fun k hk => fun (v1, v2, v3, v4, v5, v6, s0) => T_matches_32F_ok hO hE hk23 (fun v1 v2 v3 v4 v5 v6 s0 => hk (v1, v2, v3, v4, v5, v6, s0)) v1 v2 v3 v4 v5 v6 s0) n (v1, v2, v3, v4, v5, v6, s0)
theorem T_matches_23F_ok {G : xG} {E : TE} (hO : xOK G) (hE : tok E)   {k23 : Int32 × Int32 × Int32 × Int32 × Int32 × TS → Option (xO × TS)} (hk23 : ∀ (v1 : Int32) (v2 : Int32) (v3 : Int32) (v4 : Int32) (v5 : Int32) (s0 : TS), XT G E "ForestLegsModel" "matches" cX2_matches 11 (Option.some Jvm.ClassFile.FieldType.int) 1 23 [(0, .ref E.2.1), (1, .int v1), (2, .int v2), (3, .int v3), (4, .int v4), (5, .int v5)] [] s0 (k23 (v1, v2, v3, v4, v5, s0))) (v1 : Int32) (v2 : Int32) (v3 : Int32) (v4 : Int32) (v5 : Int32) (s0 : TS) : XT G E "ForestLegsModel" "matches" cX2_matches 11 (Option.some Jvm.ClassFile.FieldType.int) 1 23 [(0, .ref E.2.1), (1, .int v1), (2, .int v2), (3, .int v3), (4, .int v4), (5, .int v5)] [] s0 (T_matches_23F k23 (v1, v2, v3, v4, v5, s0)) := by
  unfold T_matches_23F
  refine x_iload 5 dX2_matches_23 rfl (n := 25) rfl ?_
  refine tw_if_lt dX2_matches_25 (t := 184) (by decide) (n := 28) rfl ?_ ?_
  · refine x_iconst 0 dX2_matches_184 rfl (n := 185) rfl ?_
    refine x_istore [(5, .int 0), (0, .ref E.2.1), (1, .int v1), (2, .int v2), (3, .int v3), (4, .int v4)] dX2_matches_185 (by decide) rfl (n := 187) rfl ?_
    refine x_iconst 0 dX2_matches_187 rfl (n := 188) rfl ?_
    refine x_istore [(6, .int 0), (5, .int 0), (0, .ref E.2.1), (1, .int v1), (2, .int v2), (3, .int v3), (4, .int v4)] dX2_matches_188 (by decide) rfl (n := 190) rfl ?_
    refine x_iconst 0 dX2_matches_190 rfl (n := 191) rfl ?_
    refine x_istore [(7, .int 0), (6, .int 0), (5, .int 0), (0, .ref E.2.1), (1, .int v1), (2, .int v2), (3, .int v3), (4, .int v4)] dX2_matches_191 (by decide) rfl (n := 193) rfl ?_
    refine x_sub [3, 4, 5, 6, 7, 2, 1, 0] [(0, .ref E.2.1), (1, .int v1), (2, .int v2), (3, .int v3), (4, .int v4), (5, .int 0), (6, .int 0), (7, .int 0)] rfl ?_
    exact T_matches_193_lp hO hE FU v1 v2 v3 v4 0 0 0 s0
  · refine x_iload 4 dX2_matches_28 rfl (n := 30) rfl ?_
    refine x_istore [(6, .int v4), (0, .ref E.2.1), (1, .int v1), (2, .int v2), (3, .int v3), (4, .int v4), (5, .int v5)] dX2_matches_30 (by decide) rfl (n := 32) rfl ?_
    refine x_sub [1, 2, 3, 4, 5, 6, 0] [(0, .ref E.2.1), (1, .int v1), (2, .int v2), (3, .int v3), (4, .int v4), (5, .int v5), (6, .int v4)] rfl ?_
    exact T_matches_32_lp hO hE hk23 FU v1 v2 v3 v4 v5 v4 s0
theorem T_matches_23_lp {G : xG} {E : TE} (hO : xOK G) (hE : tok E)   (n : Nat) (v1 : Int32) (v2 : Int32) (v3 : Int32) (v4 : Int32) (v5 : Int32) (s0 : TS) : XT G E "ForestLegsModel" "matches" cX2_matches 11 (Option.some Jvm.ClassFile.FieldType.int) 1 23 [(0, .ref E.2.1), (1, .int v1), (2, .int v2), (3, .int v3), (4, .int v4), (5, .int v5)] [] s0 (lp (T_matches_23F) n (v1, v2, v3, v4, v5, s0)) :=
  lp_ok (W := fun p K => XT G E "ForestLegsModel" "matches" cX2_matches 11 (Option.some Jvm.ClassFile.FieldType.int) 1 23 [(0, .ref E.2.1), (1, .int p.1), (2, .int p.2.1), (3, .int p.2.2.1), (4, .int p.2.2.2.1), (5, .int p.2.2.2.2.1)] [] p.2.2.2.2.2 K) (fun _ => tw_no) (fun k hk => fun (v1, v2, v3, v4, v5, s0) => T_matches_23F_ok hO hE (fun v1 v2 v3 v4 v5 s0 => hk (v1, v2, v3, v4, v5, s0)) v1 v2 v3 v4 v5 s0) n (v1, v2, v3, v4, v5, s0)
theorem T_matches_ok {G : xG} {E : TE} (hO : xOK G) (hE : tok E) (s0 : TS) (a1 : Int32) (a2 : Int32) : CTT G E 1 yX2_matches cX2_matches 11 (Option.some Jvm.ClassFile.FieldType.int) [.ref E.2.1, .int a1, .int a2] s0 (T_matches s0 a1 a2) := by
  refine CT_of hO (by decide +kernel) (by decide +kernel) (Nat.le_of_ble_eq_true rfl) ?_
  show XT G E "ForestLegsModel" "matches" cX2_matches 11 (Option.some Jvm.ClassFile.FieldType.int) 1 0 [(0, .ref E.2.1), (1, .int a1), (2, .int a2)] [] s0 (T_matches s0 a1 a2)
  refine x_aload_nr 0 dX2_matches_0 rfl rfl (n := 1) rfl ?_
  refine tw_getA fl_X2_17 rfl (by decide) dX2_matches_1 (n := 4) rfl ?_
  refine x_iconst 4 dX2_matches_4 rfl (n := 5) rfl ?_
  refine x_iload_n 2 dX2_matches_5 rfl rfl (n := 6) rfl ?_
  refine x_iadd dX2_matches_6 (n := 7) rfl ?_
  refine tw_iald hE (by decide) dX2_matches_7 (n := 8) rfl (fun x1 => ?_)
  refine x_istore_n [(3, .int x1), (0, .ref E.2.1), (1, .int a1), (2, .int a2)] dX2_matches_8 rfl (by decide) rfl (n := 9) rfl ?_
  refine x_aload_nr 1 dX2_matches_9 rfl rfl (n := 10) rfl ?_
  refine tw_getA fl_X2_17 rfl (by decide) dX2_matches_10 (n := 13) rfl ?_
  refine x_bipush 67 dX2_matches_13 rfl (n := 15) rfl ?_
  refine x_iload_n 2 dX2_matches_15 rfl rfl (n := 16) rfl ?_
  refine x_iadd dX2_matches_16 (n := 17) rfl ?_
  refine tw_iald hE (by decide) dX2_matches_17 (n := 18) rfl (fun x2 => ?_)
  refine x_istore [(4, .int x2), (3, .int x1), (0, .ref E.2.1), (1, .int a1), (2, .int a2)] dX2_matches_18 (by decide) rfl (n := 20) rfl ?_
  refine x_iload_n 1 dX2_matches_20 rfl rfl (n := 21) rfl ?_
  refine x_istore [(5, .int x1), (4, .int x2), (3, .int x1), (0, .ref E.2.1), (1, .int a1), (2, .int a2)] dX2_matches_21 (by decide) rfl (n := 23) rfl ?_
  refine x_sub [3, 4, 5, 2, 1, 0] [(0, .ref E.2.1), (1, .int a1), (2, .int a2), (3, .int x1), (4, .int x2), (5, .int x1)] rfl ?_
  exact T_matches_23_lp hO hE FU a1 a2 x1 x2 x1 s0
abbrev cX2_missedBy : ByteArray := prog_14_method_39_code
def yX2_missedBy : MethodName := ⟨RX2, "missedBy", "(I)I"⟩
def dkwX2_missedBy_0 : List UInt8 := [42, 27, 42, 180, 0, 17, 16, 37, 27, 96, 46, 182, 0, 203, 172]
abbrev dktX2_missedBy_0 : List UInt8 := dkwX2_missedBy_0 ++ []
theorem dksX2_missedBy_0 : cX2_missedBy.data.toList.drop 0 = dktX2_missedBy_0 := by decide +kernel
theorem dX2_missedBy_0 : decode cX2_missedBy 0 = .ok (.aload_n 0, 1) := dk_42 (dk_at dksX2_missedBy_0 0 rfl rfl)
theorem dX2_missedBy_1 : decode cX2_missedBy 1 = .ok (.iload_n 1, 1) := dk_27 (dk_at dksX2_missedBy_0 1 rfl rfl)
theorem dX2_missedBy_2 : decode cX2_missedBy 2 = .ok (.aload_n 0, 1) := dk_42 (dk_at dksX2_missedBy_0 2 rfl rfl)
theorem dX2_missedBy_3 : decode cX2_missedBy 3 = .ok (.getfield 17, 3) := dk_180 0 17 (dk_at dksX2_missedBy_0 3 rfl rfl)
theorem dX2_missedBy_6 : decode cX2_missedBy 6 = .ok (.bipush 37, 2) := dk_16 37 (dk_at dksX2_missedBy_0 6 rfl rfl)
theorem dX2_missedBy_8 : decode cX2_missedBy 8 = .ok (.iload_n 1, 1) := dk_27 (dk_at dksX2_missedBy_0 8 rfl rfl)
theorem dX2_missedBy_9 : decode cX2_missedBy 9 = .ok (.iadd, 1) := dk_96 (dk_at dksX2_missedBy_0 9 rfl rfl)
theorem dX2_missedBy_10 : decode cX2_missedBy 10 = .ok (.iaload, 1) := dk_46 (dk_at dksX2_missedBy_0 10 rfl rfl)
theorem dX2_missedBy_11 : decode cX2_missedBy 11 = .ok (.invokevirtual 203, 3) := dk_182 0 203 (dk_at dksX2_missedBy_0 11 rfl rfl)
theorem dX2_missedBy_14 : decode cX2_missedBy 14 = .ok (.ireturn, 1) := dk_172 (dk_at dksX2_missedBy_0 14 rfl rfl)
theorem md_X2_missedBy : xMd yX2_missedBy cX2_missedBy 2 (Option.some Jvm.ClassFile.FieldType.int) 1 := ⟨q3139, q126, by decide, by decide +kernel, by decide +kernel, by decide +kernel⟩
def T_missedBy (s0 : TS) (a1 : Int32) : Option (xO × TS) :=
  (tald s0 7 (37 + a1) fun x1 =>
  (xcI (T_matches s0 a1 x1) fun x3 s2 =>
  (rI x3 s2)))
theorem T_missedBy_ok {G : xG} {E : TE} (hO : xOK G) (hE : tok E) (s0 : TS) (a1 : Int32) : CTT G E 2 yX2_missedBy cX2_missedBy 2 (Option.some Jvm.ClassFile.FieldType.int) [.ref E.2.1, .int a1] s0 (T_missedBy s0 a1) := by
  refine CT_of hO (by decide +kernel) (by decide +kernel) (Nat.le_of_ble_eq_true rfl) ?_
  show XT G E "ForestLegsModel" "missedBy" cX2_missedBy 2 (Option.some Jvm.ClassFile.FieldType.int) 2 0 [(0, .ref E.2.1), (1, .int a1)] [] s0 (T_missedBy s0 a1)
  refine x_aload_nr 0 dX2_missedBy_0 rfl rfl (n := 1) rfl ?_
  refine x_iload_n 1 dX2_missedBy_1 rfl rfl (n := 2) rfl ?_
  refine x_aload_nr 0 dX2_missedBy_2 rfl rfl (n := 3) rfl ?_
  refine tw_getA fl_X2_17 rfl (by decide) dX2_missedBy_3 (n := 6) rfl ?_
  refine x_bipush 37 dX2_missedBy_6 rfl (n := 8) rfl ?_
  refine x_iload_n 1 dX2_missedBy_8 rfl rfl (n := 9) rfl ?_
  refine x_iadd dX2_missedBy_9 (n := 10) rfl ?_
  refine tw_iald hE (by decide) dX2_missedBy_10 (n := 11) rfl (fun x1 => ?_)
  refine tw_callV_I [.int a1, .int x1] [] (T_matches_ok hO hE s0 a1 x1) md_X2_matches q3140 q3142 qs84 dX2_missedBy_11 rfl rfl (by decide) (Nat.le_of_ble_eq_true rfl) (n := 14) rfl (fun x3 s2 => ?_)
  exact tw_ireturn dX2_missedBy_14
abbrev cX2_isValid : ByteArray := prog_14_method_40_code
def yX2_isValid : MethodName := ⟨RX2, "isValid", "(I)Z"⟩
def dkwX2_isValid_0 : List UInt8 := [42, 27, 182, 0, 206, 154, 0, 7, 4, 167, 0, 4, 3, 172]
abbrev dktX2_isValid_0 : List UInt8 := dkwX2_isValid_0 ++ []
theorem dksX2_isValid_0 : cX2_isValid.data.toList.drop 0 = dktX2_isValid_0 := by decide +kernel
theorem dX2_isValid_0 : decode cX2_isValid 0 = .ok (.aload_n 0, 1) := dk_42 (dk_at dksX2_isValid_0 0 rfl rfl)
theorem dX2_isValid_1 : decode cX2_isValid 1 = .ok (.iload_n 1, 1) := dk_27 (dk_at dksX2_isValid_0 1 rfl rfl)
theorem dX2_isValid_2 : decode cX2_isValid 2 = .ok (.invokevirtual 206, 3) := dk_182 0 206 (dk_at dksX2_isValid_0 2 rfl rfl)
theorem dX2_isValid_5 : decode cX2_isValid 5 = .ok (.ifCond .ne 7, 3) := dk_154 0 7 (dk_at dksX2_isValid_0 5 rfl rfl)
theorem dX2_isValid_8 : decode cX2_isValid 8 = .ok (.iconst 1, 1) := dk_4 (dk_at dksX2_isValid_0 8 rfl rfl)
theorem dX2_isValid_9 : decode cX2_isValid 9 = .ok (.goto 4, 3) := dk_167 0 4 (dk_at dksX2_isValid_0 9 rfl rfl)
theorem dX2_isValid_12 : decode cX2_isValid 12 = .ok (.iconst 0, 1) := dk_3 (dk_at dksX2_isValid_0 12 rfl rfl)
theorem dX2_isValid_13 : decode cX2_isValid 13 = .ok (.ireturn, 1) := dk_172 (dk_at dksX2_isValid_0 13 rfl rfl)
theorem md_X2_isValid : xMd yX2_isValid cX2_isValid 2 (Option.some Jvm.ClassFile.FieldType.boolean) 1 := ⟨q3135, q126, by decide, by decide +kernel, by decide +kernel, by decide +kernel⟩
def T_isValid (s0 : TS) (a1 : Int32) : Option (xO × TS) :=
  (xcI (T_missedBy s0 a1) fun x2 s1 =>
  (if x2 = 0 then
  (if vp_nar .boolean 1 = 1 then rI 1 s1 else none) else
  (if vp_nar .boolean 0 = 0 then rI 0 s1 else none)))
theorem T_isValid_ok {G : xG} {E : TE} (hO : xOK G) (hE : tok E) (s0 : TS) (a1 : Int32) : CTT G E 3 yX2_isValid cX2_isValid 2 (Option.some Jvm.ClassFile.FieldType.boolean) [.ref E.2.1, .int a1] s0 (T_isValid s0 a1) := by
  refine CT_of hO (by decide +kernel) (by decide +kernel) (Nat.le_of_ble_eq_true rfl) ?_
  show XT G E "ForestLegsModel" "isValid" cX2_isValid 2 (Option.some Jvm.ClassFile.FieldType.boolean) 3 0 [(0, .ref E.2.1), (1, .int a1)] [] s0 (T_isValid s0 a1)
  refine x_aload_nr 0 dX2_isValid_0 rfl rfl (n := 1) rfl ?_
  refine x_iload_n 1 dX2_isValid_1 rfl rfl (n := 2) rfl ?_
  refine tw_callV_I [.int a1] [] (T_missedBy_ok hO hE s0 a1) md_X2_missedBy q3136 q3138 qs83 dX2_isValid_2 rfl rfl (by decide) (Nat.le_of_ble_eq_true rfl) (n := 5) rfl (fun x2 s1 => ?_)
  refine tw_if_ne dX2_isValid_5 (t := 12) (by decide) (n := 8) rfl ?_ ?_
  · refine x_iconst 0 dX2_isValid_12 rfl (n := 13) rfl ?_
    exact tw_zreturn rfl dX2_isValid_13
  · refine x_iconst 1 dX2_isValid_8 rfl (n := 9) rfl ?_
    refine x_goto dX2_isValid_9 (n := 13) (by decide) ?_
    exact tw_zreturn rfl dX2_isValid_13
abbrev cX2_validOf : ByteArray := prog_14_method_45_code
def yX2_validOf : MethodName := ⟨RX2, "validOf", "(I)I"⟩
def dkwX2_validOf_2 : List UInt8 := [132, 3, 1, 167, 255, 209, 28, 172]
abbrev dktX2_validOf_2 : List UInt8 := dkwX2_validOf_2 ++ []
def dkwX2_validOf_1 : List UInt8 := [16, 37, 29, 96, 46, 27, 160, 0, 15, 42, 29, 182, 0, 215, 153, 0, 7, 4, 167, 0, 4, 3, 96, 61]
abbrev dktX2_validOf_1 : List UInt8 := dkwX2_validOf_1 ++ dktX2_validOf_2
def dkwX2_validOf_0 : List UInt8 := [3, 61, 3, 62, 29, 42, 180, 0, 17, 4, 46, 162, 0, 43, 28, 27, 2, 159, 0, 16, 42, 180, 0, 17]
abbrev dktX2_validOf_0 : List UInt8 := dkwX2_validOf_0 ++ dktX2_validOf_1
theorem dksX2_validOf_0 : cX2_validOf.data.toList.drop 0 = dktX2_validOf_0 := by decide +kernel
theorem dksX2_validOf_1 : cX2_validOf.data.toList.drop 24 = dktX2_validOf_1 := dk_seg dksX2_validOf_0 24 rfl rfl
theorem dksX2_validOf_2 : cX2_validOf.data.toList.drop 48 = dktX2_validOf_2 := dk_seg dksX2_validOf_1 24 rfl rfl
theorem dX2_validOf_0 : decode cX2_validOf 0 = .ok (.iconst 0, 1) := dk_3 (dk_at dksX2_validOf_0 0 rfl rfl)
theorem dX2_validOf_1 : decode cX2_validOf 1 = .ok (.istore_n 2, 1) := dk_61 (dk_at dksX2_validOf_0 1 rfl rfl)
theorem dX2_validOf_2 : decode cX2_validOf 2 = .ok (.iconst 0, 1) := dk_3 (dk_at dksX2_validOf_0 2 rfl rfl)
theorem dX2_validOf_3 : decode cX2_validOf 3 = .ok (.istore_n 3, 1) := dk_62 (dk_at dksX2_validOf_0 3 rfl rfl)
theorem dX2_validOf_4 : decode cX2_validOf 4 = .ok (.iload_n 3, 1) := dk_29 (dk_at dksX2_validOf_0 4 rfl rfl)
theorem dX2_validOf_5 : decode cX2_validOf 5 = .ok (.aload_n 0, 1) := dk_42 (dk_at dksX2_validOf_0 5 rfl rfl)
theorem dX2_validOf_6 : decode cX2_validOf 6 = .ok (.getfield 17, 3) := dk_180 0 17 (dk_at dksX2_validOf_0 6 rfl rfl)
theorem dX2_validOf_9 : decode cX2_validOf 9 = .ok (.iconst 1, 1) := dk_4 (dk_at dksX2_validOf_0 9 rfl rfl)
theorem dX2_validOf_10 : decode cX2_validOf 10 = .ok (.iaload, 1) := dk_46 (dk_at dksX2_validOf_0 10 rfl rfl)
theorem dX2_validOf_11 : decode cX2_validOf 11 = .ok (.if_icmp .ge 43, 3) := dk_162 0 43 (dk_at dksX2_validOf_0 11 rfl rfl)
theorem dX2_validOf_14 : decode cX2_validOf 14 = .ok (.iload_n 2, 1) := dk_28 (dk_at dksX2_validOf_0 14 rfl rfl)
theorem dX2_validOf_15 : decode cX2_validOf 15 = .ok (.iload_n 1, 1) := dk_27 (dk_at dksX2_validOf_0 15 rfl rfl)
theorem dX2_validOf_16 : decode cX2_validOf 16 = .ok (.iconst (-1), 1) := dk_2 (dk_at dksX2_validOf_0 16 rfl rfl)
theorem dX2_validOf_17 : decode cX2_validOf 17 = .ok (.if_icmp .eq 16, 3) := dk_159 0 16 (dk_at dksX2_validOf_0 17 rfl rfl)
theorem dX2_validOf_20 : decode cX2_validOf 20 = .ok (.aload_n 0, 1) := dk_42 (dk_at dksX2_validOf_0 20 rfl rfl)
theorem dX2_validOf_21 : decode cX2_validOf 21 = .ok (.getfield 17, 3) := dk_180 0 17 (dk_at dksX2_validOf_0 21 rfl rfl)
theorem dX2_validOf_24 : decode cX2_validOf 24 = .ok (.bipush 37, 2) := dk_16 37 (dk_at dksX2_validOf_1 0 rfl rfl)
theorem dX2_validOf_26 : decode cX2_validOf 26 = .ok (.iload_n 3, 1) := dk_29 (dk_at dksX2_validOf_1 2 rfl rfl)
theorem dX2_validOf_27 : decode cX2_validOf 27 = .ok (.iadd, 1) := dk_96 (dk_at dksX2_validOf_1 3 rfl rfl)
theorem dX2_validOf_28 : decode cX2_validOf 28 = .ok (.iaload, 1) := dk_46 (dk_at dksX2_validOf_1 4 rfl rfl)
theorem dX2_validOf_29 : decode cX2_validOf 29 = .ok (.iload_n 1, 1) := dk_27 (dk_at dksX2_validOf_1 5 rfl rfl)
theorem dX2_validOf_30 : decode cX2_validOf 30 = .ok (.if_icmp .ne 15, 3) := dk_160 0 15 (dk_at dksX2_validOf_1 6 rfl rfl)
theorem dX2_validOf_33 : decode cX2_validOf 33 = .ok (.aload_n 0, 1) := dk_42 (dk_at dksX2_validOf_1 9 rfl rfl)
theorem dX2_validOf_34 : decode cX2_validOf 34 = .ok (.iload_n 3, 1) := dk_29 (dk_at dksX2_validOf_1 10 rfl rfl)
theorem dX2_validOf_35 : decode cX2_validOf 35 = .ok (.invokevirtual 215, 3) := dk_182 0 215 (dk_at dksX2_validOf_1 11 rfl rfl)
theorem dX2_validOf_38 : decode cX2_validOf 38 = .ok (.ifCond .eq 7, 3) := dk_153 0 7 (dk_at dksX2_validOf_1 14 rfl rfl)
theorem dX2_validOf_41 : decode cX2_validOf 41 = .ok (.iconst 1, 1) := dk_4 (dk_at dksX2_validOf_1 17 rfl rfl)
theorem dX2_validOf_42 : decode cX2_validOf 42 = .ok (.goto 4, 3) := dk_167 0 4 (dk_at dksX2_validOf_1 18 rfl rfl)
theorem dX2_validOf_45 : decode cX2_validOf 45 = .ok (.iconst 0, 1) := dk_3 (dk_at dksX2_validOf_1 21 rfl rfl)
theorem dX2_validOf_46 : decode cX2_validOf 46 = .ok (.iadd, 1) := dk_96 (dk_at dksX2_validOf_1 22 rfl rfl)
theorem dX2_validOf_47 : decode cX2_validOf 47 = .ok (.istore_n 2, 1) := dk_61 (dk_at dksX2_validOf_1 23 rfl rfl)
theorem dX2_validOf_48 : decode cX2_validOf 48 = .ok (.iinc 3 1, 3) := dk_132 3 1 (dk_at dksX2_validOf_2 0 rfl rfl)
theorem dX2_validOf_51 : decode cX2_validOf 51 = .ok (.goto (-47), 3) := dk_167 255 209 (dk_at dksX2_validOf_2 3 rfl rfl)
theorem dX2_validOf_54 : decode cX2_validOf 54 = .ok (.iload_n 2, 1) := dk_28 (dk_at dksX2_validOf_2 6 rfl rfl)
theorem dX2_validOf_55 : decode cX2_validOf 55 = .ok (.ireturn, 1) := dk_172 (dk_at dksX2_validOf_2 7 rfl rfl)
theorem md_X2_validOf : xMd yX2_validOf cX2_validOf 4 (Option.some Jvm.ClassFile.FieldType.int) 1 := ⟨q3131, q126, by decide, by decide +kernel, by decide +kernel, by decide +kernel⟩
def T_validOf_46  (k4 : Int32 × Int32 × Int32 × TS → Option (xO × TS)) (v1 : Int32) (v3 : Int32) (w0 : Int32) (w1 : Int32) (s0 : TS) : Option (xO × TS) :=
  (bnd (w0 + w1) fun x4 =>
  (bnd (v3 + 1) fun x5 =>
  (k4 (v1, x4, x5, s0))))
def T_validOf_45  (k4 : Int32 × Int32 × Int32 × TS → Option (xO × TS)) (v1 : Int32) (v3 : Int32) (w0 : Int32) (s0 : TS) : Option (xO × TS) :=
  (T_validOf_46 k4 v1 v3 w0 0 s0)
def T_validOf_33  (k4 : Int32 × Int32 × Int32 × TS → Option (xO × TS)) (v1 : Int32) (v3 : Int32) (w0 : Int32) (s0 : TS) : Option (xO × TS) :=
  (xcI (T_isValid s0 v3) fun x3 s2 =>
  (if x3 = 0 then
  (T_validOf_45 k4 v1 v3 w0 s2) else
  (T_validOf_46 k4 v1 v3 w0 1 s2)))
def T_validOf_4F   (k4 : Int32 × Int32 × Int32 × TS → Option (xO × TS)) (p : Int32 × Int32 × Int32 × TS) : Option (xO × TS) := match p with
  | (v1, v2, v3, s0) => (tald s0 7 1 fun x1 =>
  (if x1 ≤ v3 then
  (rI v2 s0) else
  (if v1 = (-1) then
  (T_validOf_33 k4 v1 v3 v2 s0) else
  (tald s0 7 (37 + v3) fun x6 =>
  (if x6 = v1 then
  (T_validOf_33 k4 v1 v3 v2 s0) else
  (T_validOf_45 k4 v1 v3 v2 s0))))))
def T_validOf (s0 : TS) (a1 : Int32) : Option (xO × TS) :=
  (lp (T_validOf_4F) FU (a1, 0, 0, s0))
theorem T_validOf_46_ok {G : xG} {E : TE} (hO : xOK G) (hE : tok E)  {k4 : Int32 × Int32 × Int32 × TS → Option (xO × TS)} (hk4 : ∀ (v1 : Int32) (v2 : Int32) (v3 : Int32) (s0 : TS), XT G E "ForestLegsModel" "validOf" cX2_validOf 4 (Option.some Jvm.ClassFile.FieldType.int) 4 4 [(0, .ref E.2.1), (1, .int v1), (2, .int v2), (3, .int v3)] [] s0 (k4 (v1, v2, v3, s0))) (v1 : Int32) (v3 : Int32) (w0 : Int32) (w1 : Int32) (s0 : TS) : XT G E "ForestLegsModel" "validOf" cX2_validOf 4 (Option.some Jvm.ClassFile.FieldType.int) 4 46 [(0, .ref E.2.1), (1, .int v1), (3, .int v3)] [.int w1, .int w0] s0 (T_validOf_46 k4 v1 v3 w0 w1 s0) := by
  unfold T_validOf_46
  refine x_iadd dX2_validOf_46 (n := 47) rfl ?_
  refine tw_nm (fun x4 => ?_)
  refine x_istore_n [(2, .int x4), (0, .ref E.2.1), (1, .int v1), (3, .int v3)] dX2_validOf_47 rfl (by decide) rfl (n := 48) rfl ?_
  refine tw_iinc 3 (fun x5 => [(3, .int x5), (2, .int x4), (0, .ref E.2.1), (1, .int v1)]) dX2_validOf_48 rfl rfl (by decide) (fun _ => rfl) (n := 51) rfl (fun x5 => ?_)
  refine x_goto dX2_validOf_51 (n := 4) (by decide) ?_
  refine x_sub [2, 3, 1, 0] [(0, .ref E.2.1), (1, .int v1), (2, .int x4), (3, .int x5)] rfl ?_
  exact hk4 v1 x4 x5 s0
theorem T_validOf_45_ok {G : xG} {E : TE} (hO : xOK G) (hE : tok E)  {k4 : Int32 × Int32 × Int32 × TS → Option (xO × TS)} (hk4 : ∀ (v1 : Int32) (v2 : Int32) (v3 : Int32) (s0 : TS), XT G E "ForestLegsModel" "validOf" cX2_validOf 4 (Option.some Jvm.ClassFile.FieldType.int) 4 4 [(0, .ref E.2.1), (1, .int v1), (2, .int v2), (3, .int v3)] [] s0 (k4 (v1, v2, v3, s0))) (v1 : Int32) (v3 : Int32) (w0 : Int32) (s0 : TS) : XT G E "ForestLegsModel" "validOf" cX2_validOf 4 (Option.some Jvm.ClassFile.FieldType.int) 4 45 [(0, .ref E.2.1), (1, .int v1), (3, .int v3)] [.int w0] s0 (T_validOf_45 k4 v1 v3 w0 s0) := by
  unfold T_validOf_45
  refine x_iconst 0 dX2_validOf_45 rfl (n := 46) rfl ?_
  exact T_validOf_46_ok hO hE hk4 v1 v3 w0 0 s0
theorem T_validOf_33_ok {G : xG} {E : TE} (hO : xOK G) (hE : tok E)  {k4 : Int32 × Int32 × Int32 × TS → Option (xO × TS)} (hk4 : ∀ (v1 : Int32) (v2 : Int32) (v3 : Int32) (s0 : TS), XT G E "ForestLegsModel" "validOf" cX2_validOf 4 (Option.some Jvm.ClassFile.FieldType.int) 4 4 [(0, .ref E.2.1), (1, .int v1), (2, .int v2), (3, .int v3)] [] s0 (k4 (v1, v2, v3, s0))) (v1 : Int32) (v3 : Int32) (w0 : Int32) (s0 : TS) : XT G E "ForestLegsModel" "validOf" cX2_validOf 4 (Option.some Jvm.ClassFile.FieldType.int) 4 33 [(0, .ref E.2.1), (1, .int v1), (3, .int v3)] [.int w0] s0 (T_validOf_33 k4 v1 v3 w0 s0) := by
  unfold T_validOf_33
  refine x_aload_nr 0 dX2_validOf_33 rfl rfl (n := 34) rfl ?_
  refine x_iload_n 2 dX2_validOf_34 rfl rfl (n := 35) rfl ?_
  refine tw_callV_I [.int v3] [.int w0] (T_isValid_ok hO hE s0 v3) md_X2_isValid q3132 q3134 qs82 dX2_validOf_35 rfl rfl (by decide) (Nat.le_of_ble_eq_true rfl) (n := 38) rfl (fun x3 s2 => ?_)
  refine tw_if_eq dX2_validOf_38 (t := 45) (by decide) (n := 41) rfl ?_ ?_
  · exact T_validOf_45_ok hO hE hk4 v1 v3 w0 s2
  · refine x_iconst 1 dX2_validOf_41 rfl (n := 42) rfl ?_
    refine x_goto dX2_validOf_42 (n := 46) (by decide) ?_
    exact T_validOf_46_ok hO hE hk4 v1 v3 w0 1 s2
theorem T_validOf_4F_ok {G : xG} {E : TE} (hO : xOK G) (hE : tok E)   {k4 : Int32 × Int32 × Int32 × TS → Option (xO × TS)} (hk4 : ∀ (v1 : Int32) (v2 : Int32) (v3 : Int32) (s0 : TS), XT G E "ForestLegsModel" "validOf" cX2_validOf 4 (Option.some Jvm.ClassFile.FieldType.int) 4 4 [(0, .ref E.2.1), (1, .int v1), (2, .int v2), (3, .int v3)] [] s0 (k4 (v1, v2, v3, s0))) (v1 : Int32) (v2 : Int32) (v3 : Int32) (s0 : TS) : XT G E "ForestLegsModel" "validOf" cX2_validOf 4 (Option.some Jvm.ClassFile.FieldType.int) 4 4 [(0, .ref E.2.1), (1, .int v1), (2, .int v2), (3, .int v3)] [] s0 (T_validOf_4F k4 (v1, v2, v3, s0)) := by
  unfold T_validOf_4F
  refine x_iload_n 3 dX2_validOf_4 rfl rfl (n := 5) rfl ?_
  refine x_aload_nr 0 dX2_validOf_5 rfl rfl (n := 6) rfl ?_
  refine tw_getA fl_X2_17 rfl (by decide) dX2_validOf_6 (n := 9) rfl ?_
  refine x_iconst 1 dX2_validOf_9 rfl (n := 10) rfl ?_
  refine tw_iald hE (by decide) dX2_validOf_10 (n := 11) rfl (fun x1 => ?_)
  refine tw_icmp_ge dX2_validOf_11 (t := 54) (by decide) (n := 14) rfl ?_ ?_
  · refine x_iload_n 2 dX2_validOf_54 rfl rfl (n := 55) rfl ?_
    exact tw_ireturn dX2_validOf_55
  · refine x_iload_n 2 dX2_validOf_14 rfl rfl (n := 15) rfl ?_
    refine x_iload_n 1 dX2_validOf_15 rfl rfl (n := 16) rfl ?_
    refine x_iconst (-1) dX2_validOf_16 rfl (n := 17) rfl ?_
    refine tw_icmp_eq dX2_validOf_17 (t := 33) (by decide) (n := 20) rfl ?_ ?_
    · refine x_sub [0, 1, 3] [(0, .ref E.2.1), (1, .int v1), (3, .int v3)] rfl ?_
      exact T_validOf_33_ok hO hE hk4 v1 v3 v2 s0
    · refine x_aload_nr 0 dX2_validOf_20 rfl rfl (n := 21) rfl ?_
      refine tw_getA fl_X2_17 rfl (by decide) dX2_validOf_21 (n := 24) rfl ?_
      refine x_bipush 37 dX2_validOf_24 rfl (n := 26) rfl ?_
      refine x_iload_n 3 dX2_validOf_26 rfl rfl (n := 27) rfl ?_
      refine x_iadd dX2_validOf_27 (n := 28) rfl ?_
      refine tw_iald hE (by decide) dX2_validOf_28 (n := 29) rfl (fun x6 => ?_)
      refine x_iload_n 1 dX2_validOf_29 rfl rfl (n := 30) rfl ?_
      refine tw_icmp_ne dX2_validOf_30 (t := 45) (by decide) (n := 33) rfl ?_ ?_
      · refine x_sub [0, 1, 3] [(0, .ref E.2.1), (1, .int v1), (3, .int v3)] rfl ?_
        exact T_validOf_45_ok hO hE hk4 v1 v3 v2 s0
      · refine x_sub [0, 1, 3] [(0, .ref E.2.1), (1, .int v1), (3, .int v3)] rfl ?_
        exact T_validOf_33_ok hO hE hk4 v1 v3 v2 s0
theorem T_validOf_4_lp {G : xG} {E : TE} (hO : xOK G) (hE : tok E)   (n : Nat) (v1 : Int32) (v2 : Int32) (v3 : Int32) (s0 : TS) : XT G E "ForestLegsModel" "validOf" cX2_validOf 4 (Option.some Jvm.ClassFile.FieldType.int) 4 4 [(0, .ref E.2.1), (1, .int v1), (2, .int v2), (3, .int v3)] [] s0 (lp (T_validOf_4F) n (v1, v2, v3, s0)) :=
  lp_ok (W := fun p K => XT G E "ForestLegsModel" "validOf" cX2_validOf 4 (Option.some Jvm.ClassFile.FieldType.int) 4 4 [(0, .ref E.2.1), (1, .int p.1), (2, .int p.2.1), (3, .int p.2.2.1)] [] p.2.2.2 K) (fun _ => tw_no) (fun k hk => fun (v1, v2, v3, s0) => T_validOf_4F_ok hO hE (fun v1 v2 v3 s0 => hk (v1, v2, v3, s0)) v1 v2 v3 s0) n (v1, v2, v3, s0)
theorem T_validOf_ok {G : xG} {E : TE} (hO : xOK G) (hE : tok E) (s0 : TS) (a1 : Int32) : CTT G E 4 yX2_validOf cX2_validOf 4 (Option.some Jvm.ClassFile.FieldType.int) [.ref E.2.1, .int a1] s0 (T_validOf s0 a1) := by
  refine CT_of hO (by decide +kernel) (by decide +kernel) (Nat.le_of_ble_eq_true rfl) ?_
  show XT G E "ForestLegsModel" "validOf" cX2_validOf 4 (Option.some Jvm.ClassFile.FieldType.int) 4 0 [(0, .ref E.2.1), (1, .int a1)] [] s0 (T_validOf s0 a1)
  refine x_iconst 0 dX2_validOf_0 rfl (n := 1) rfl ?_
  refine x_istore_n [(2, .int 0), (0, .ref E.2.1), (1, .int a1)] dX2_validOf_1 rfl (by decide) rfl (n := 2) rfl ?_
  refine x_iconst 0 dX2_validOf_2 rfl (n := 3) rfl ?_
  refine x_istore_n [(3, .int 0), (2, .int 0), (0, .ref E.2.1), (1, .int a1)] dX2_validOf_3 rfl (by decide) rfl (n := 4) rfl ?_
  refine x_sub [2, 3, 1, 0] [(0, .ref E.2.1), (1, .int a1), (2, .int 0), (3, .int 0)] rfl ?_
  exact T_validOf_4_lp hO hE FU a1 0 0 s0
abbrev cX2_about : ByteArray := prog_14_method_52_code
def yX2_about : MethodName := ⟨RX2, "about", "(I)I"⟩
def dkwX2_about_4 : List UInt8 := [180, 0, 17, 6, 46, 172, 42, 182, 0, 237, 172, 42, 2, 182, 0, 240, 172, 42, 180, 0, 177, 172]
abbrev dktX2_about_4 : List UInt8 := dkwX2_about_4 ++ []
def dkwX2_about_3 : List UInt8 := [42, 180, 0, 17, 3, 46, 172, 42, 180, 0, 17, 4, 46, 172, 42, 180, 0, 17, 5, 46, 172, 42]
abbrev dktX2_about_3 : List UInt8 := dkwX2_about_3 ++ dktX2_about_4
def dkwX2_about_2 : List UInt8 := [170, 0, 0, 0, 76, 0, 0, 0, 0, 0, 0, 0, 5, 0, 0, 0, 37, 0, 0, 0, 44, 0, 0, 0, 51, 0, 0, 0, 58, 0, 0, 0, 65, 0, 0, 0, 70]
abbrev dktX2_about_2 : List UInt8 := dkwX2_about_2 ++ dktX2_about_3
def dkwX2_about_1 : List UInt8 := [184, 0, 234, 182, 0, 161, 153, 0, 5, 2, 172, 27]
abbrev dktX2_about_1 : List UInt8 := dkwX2_about_1 ++ dktX2_about_2
def dkwX2_about_0 : List UInt8 := [42, 42, 180, 0, 173, 153, 0, 17, 27, 3, 16, 6, 184, 0, 79, 153, 0, 7, 4, 167, 0, 4, 3]
abbrev dktX2_about_0 : List UInt8 := dkwX2_about_0 ++ dktX2_about_1
theorem dksX2_about_0 : cX2_about.data.toList.drop 0 = dktX2_about_0 := by decide +kernel
theorem dksX2_about_1 : cX2_about.data.toList.drop 23 = dktX2_about_1 := dk_seg dksX2_about_0 23 rfl rfl
theorem dksX2_about_2 : cX2_about.data.toList.drop 35 = dktX2_about_2 := dk_seg dksX2_about_1 12 rfl rfl
theorem dksX2_about_3 : cX2_about.data.toList.drop 72 = dktX2_about_3 := dk_seg dksX2_about_2 37 rfl rfl
theorem dksX2_about_4 : cX2_about.data.toList.drop 94 = dktX2_about_4 := dk_seg dksX2_about_3 22 rfl rfl
theorem dX2_about_0 : decode cX2_about 0 = .ok (.aload_n 0, 1) := dk_42 (dk_at dksX2_about_0 0 rfl rfl)
theorem dX2_about_1 : decode cX2_about 1 = .ok (.aload_n 0, 1) := dk_42 (dk_at dksX2_about_0 1 rfl rfl)
theorem dX2_about_2 : decode cX2_about 2 = .ok (.getfield 173, 3) := dk_180 0 173 (dk_at dksX2_about_0 2 rfl rfl)
theorem dX2_about_5 : decode cX2_about 5 = .ok (.ifCond .eq 17, 3) := dk_153 0 17 (dk_at dksX2_about_0 5 rfl rfl)
theorem dX2_about_8 : decode cX2_about 8 = .ok (.iload_n 1, 1) := dk_27 (dk_at dksX2_about_0 8 rfl rfl)
theorem dX2_about_9 : decode cX2_about 9 = .ok (.iconst 0, 1) := dk_3 (dk_at dksX2_about_0 9 rfl rfl)
theorem dX2_about_10 : decode cX2_about 10 = .ok (.bipush 6, 2) := dk_16 6 (dk_at dksX2_about_0 10 rfl rfl)
theorem dX2_about_12 : decode cX2_about 12 = .ok (.invokestatic 79, 3) := dk_184 0 79 (dk_at dksX2_about_0 12 rfl rfl)
theorem dX2_about_15 : decode cX2_about 15 = .ok (.ifCond .eq 7, 3) := dk_153 0 7 (dk_at dksX2_about_0 15 rfl rfl)
theorem dX2_about_18 : decode cX2_about 18 = .ok (.iconst 1, 1) := dk_4 (dk_at dksX2_about_0 18 rfl rfl)
theorem dX2_about_19 : decode cX2_about 19 = .ok (.goto 4, 3) := dk_167 0 4 (dk_at dksX2_about_0 19 rfl rfl)
theorem dX2_about_22 : decode cX2_about 22 = .ok (.iconst 0, 1) := dk_3 (dk_at dksX2_about_0 22 rfl rfl)
theorem dX2_about_23 : decode cX2_about 23 = .ok (.invokestatic 234, 3) := dk_184 0 234 (dk_at dksX2_about_1 0 rfl rfl)
theorem dX2_about_26 : decode cX2_about 26 = .ok (.invokevirtual 161, 3) := dk_182 0 161 (dk_at dksX2_about_1 3 rfl rfl)
theorem dX2_about_29 : decode cX2_about 29 = .ok (.ifCond .eq 5, 3) := dk_153 0 5 (dk_at dksX2_about_1 6 rfl rfl)
theorem dX2_about_32 : decode cX2_about 32 = .ok (.iconst (-1), 1) := dk_2 (dk_at dksX2_about_1 9 rfl rfl)
theorem dX2_about_33 : decode cX2_about 33 = .ok (.ireturn, 1) := dk_172 (dk_at dksX2_about_1 10 rfl rfl)
theorem dX2_about_34 : decode cX2_about 34 = .ok (.iload_n 1, 1) := dk_27 (dk_at dksX2_about_1 11 rfl rfl)
theorem dX2_about_35 : decode cX2_about 35 = .ok (.tableswitch 76 0 5 #[37, 44, 51, 58, 65, 70], 37) := by decide +kernel
theorem dX2_about_72 : decode cX2_about 72 = .ok (.aload_n 0, 1) := dk_42 (dk_at dksX2_about_3 0 rfl rfl)
theorem dX2_about_73 : decode cX2_about 73 = .ok (.getfield 17, 3) := dk_180 0 17 (dk_at dksX2_about_3 1 rfl rfl)
theorem dX2_about_76 : decode cX2_about 76 = .ok (.iconst 0, 1) := dk_3 (dk_at dksX2_about_3 4 rfl rfl)
theorem dX2_about_77 : decode cX2_about 77 = .ok (.iaload, 1) := dk_46 (dk_at dksX2_about_3 5 rfl rfl)
theorem dX2_about_78 : decode cX2_about 78 = .ok (.ireturn, 1) := dk_172 (dk_at dksX2_about_3 6 rfl rfl)
theorem dX2_about_79 : decode cX2_about 79 = .ok (.aload_n 0, 1) := dk_42 (dk_at dksX2_about_3 7 rfl rfl)
theorem dX2_about_80 : decode cX2_about 80 = .ok (.getfield 17, 3) := dk_180 0 17 (dk_at dksX2_about_3 8 rfl rfl)
theorem dX2_about_83 : decode cX2_about 83 = .ok (.iconst 1, 1) := dk_4 (dk_at dksX2_about_3 11 rfl rfl)
theorem dX2_about_84 : decode cX2_about 84 = .ok (.iaload, 1) := dk_46 (dk_at dksX2_about_3 12 rfl rfl)
theorem dX2_about_85 : decode cX2_about 85 = .ok (.ireturn, 1) := dk_172 (dk_at dksX2_about_3 13 rfl rfl)
theorem dX2_about_86 : decode cX2_about 86 = .ok (.aload_n 0, 1) := dk_42 (dk_at dksX2_about_3 14 rfl rfl)
theorem dX2_about_87 : decode cX2_about 87 = .ok (.getfield 17, 3) := dk_180 0 17 (dk_at dksX2_about_3 15 rfl rfl)
theorem dX2_about_90 : decode cX2_about 90 = .ok (.iconst 2, 1) := dk_5 (dk_at dksX2_about_3 18 rfl rfl)
theorem dX2_about_91 : decode cX2_about 91 = .ok (.iaload, 1) := dk_46 (dk_at dksX2_about_3 19 rfl rfl)
theorem dX2_about_92 : decode cX2_about 92 = .ok (.ireturn, 1) := dk_172 (dk_at dksX2_about_3 20 rfl rfl)
theorem dX2_about_93 : decode cX2_about 93 = .ok (.aload_n 0, 1) := dk_42 (dk_at dksX2_about_3 21 rfl rfl)
theorem dX2_about_94 : decode cX2_about 94 = .ok (.getfield 17, 3) := dk_180 0 17 (dk_at dksX2_about_4 0 rfl rfl)
theorem dX2_about_97 : decode cX2_about 97 = .ok (.iconst 3, 1) := dk_6 (dk_at dksX2_about_4 3 rfl rfl)
theorem dX2_about_98 : decode cX2_about 98 = .ok (.iaload, 1) := dk_46 (dk_at dksX2_about_4 4 rfl rfl)
theorem dX2_about_99 : decode cX2_about 99 = .ok (.ireturn, 1) := dk_172 (dk_at dksX2_about_4 5 rfl rfl)
theorem dX2_about_100 : decode cX2_about 100 = .ok (.aload_n 0, 1) := dk_42 (dk_at dksX2_about_4 6 rfl rfl)
theorem dX2_about_101 : decode cX2_about 101 = .ok (.invokevirtual 237, 3) := dk_182 0 237 (dk_at dksX2_about_4 7 rfl rfl)
theorem dX2_about_104 : decode cX2_about 104 = .ok (.ireturn, 1) := dk_172 (dk_at dksX2_about_4 10 rfl rfl)
theorem dX2_about_105 : decode cX2_about 105 = .ok (.aload_n 0, 1) := dk_42 (dk_at dksX2_about_4 11 rfl rfl)
theorem dX2_about_106 : decode cX2_about 106 = .ok (.iconst (-1), 1) := dk_2 (dk_at dksX2_about_4 12 rfl rfl)
theorem dX2_about_107 : decode cX2_about 107 = .ok (.invokevirtual 240, 3) := dk_182 0 240 (dk_at dksX2_about_4 13 rfl rfl)
theorem dX2_about_110 : decode cX2_about 110 = .ok (.ireturn, 1) := dk_172 (dk_at dksX2_about_4 16 rfl rfl)
theorem dX2_about_111 : decode cX2_about 111 = .ok (.aload_n 0, 1) := dk_42 (dk_at dksX2_about_4 17 rfl rfl)
theorem dX2_about_112 : decode cX2_about 112 = .ok (.getfield 177, 3) := dk_180 0 177 (dk_at dksX2_about_4 18 rfl rfl)
theorem dX2_about_115 : decode cX2_about 115 = .ok (.ireturn, 1) := dk_172 (dk_at dksX2_about_4 21 rfl rfl)
theorem md_X2_about : xMd yX2_about cX2_about 2 (Option.some Jvm.ClassFile.FieldType.int) 1 := ⟨q3120, q126, by decide, by decide +kernel, by decide +kernel, by decide +kernel⟩
def T_about_23   (v1 : Int32) (w1 : Int32) (s0 : TS) : Option (xO × TS) :=
  (xcI (T_unless_2 s0 w1) fun x2 s1 =>
  (xcI (T_isRefused s1 x2) fun x4 s3 =>
  (if x4 = 0 then
  (xtab v1 0 [
  (tald s3 7 0 fun x5 =>
  (rI x5 s3)),
  (tald s3 7 1 fun x6 =>
  (rI x6 s3)),
  (tald s3 7 2 fun x7 =>
  (rI x7 s3)),
  (tald s3 7 3 fun x8 =>
  (rI x8 s3)),
  (xcI (T_punchesOfAll s3 ) fun x10 s9 =>
  (rI x10 s9)),
  (xcI (T_validOf s3 (-1)) fun x12 s11 =>
  (rI x12 s11))]
  (rI (s3.1 30) s3)) else
  (rI (-1) s3))))
def T_about_22   (v1 : Int32) (s0 : TS) : Option (xO × TS) :=
  (T_about_23 v1 0 s0)
def T_about (s0 : TS) (a1 : Int32) : Option (xO × TS) :=
  (if (s0.1 6) = 0 then
  (T_about_22 a1 s0) else
  (xcI (T_in s0 a1 0 6) fun x14 s13 =>
  (if x14 = 0 then
  (T_about_22 a1 s13) else
  (T_about_23 a1 1 s13))))
theorem T_about_23_ok {G : xG} {E : TE} (hO : xOK G) (hE : tok E)   (v1 : Int32) (w1 : Int32) (s0 : TS) : XT G E "ForestLegsModel" "about" cX2_about 2 (Option.some Jvm.ClassFile.FieldType.int) 5 23 [(0, .ref E.2.1), (1, .int v1)] [.int w1, .ref E.2.1] s0 (T_about_23 v1 w1 s0) := by
  unfold T_about_23
  refine tw_callS_I [.int w1] [.ref E.2.1] (T_unless_2_ok hO hE s0 w1) md_X2_unless_2 q3121 q3122 dX2_about_23 rfl rfl (by decide) (Nat.le_of_ble_eq_true rfl) (n := 26) rfl (fun x2 s1 => ?_)
  refine tw_callV_I [.int x2] [] (T_isRefused_ok hO hE s1 x2) md_X2_isRefused q3022 q3024 qs63 dX2_about_26 rfl rfl (by decide) (Nat.le_of_ble_eq_true rfl) (n := 29) rfl (fun x4 s3 => ?_)
  refine tw_if_eq dX2_about_29 (t := 34) (by decide) (n := 32) rfl ?_ ?_
  · refine x_iload_n 1 dX2_about_34 rfl rfl (n := 35) rfl ?_
    refine tw_tab [72, 79, 86, 93, 100, 105] dX2_about_35 rfl rfl (td := 111) (by decide) ?_ ⟨?_, ?_, ?_, ?_, ?_, ?_, trivial⟩
    · refine x_aload_nr 0 dX2_about_111 rfl rfl (n := 112) rfl ?_
      refine tw_getI fl_X2_177 rfl (by decide) dX2_about_112 (n := 115) rfl ?_
      exact tw_ireturn dX2_about_115
    · refine x_aload_nr 0 dX2_about_72 rfl rfl (n := 73) rfl ?_
      refine tw_getA fl_X2_17 rfl (by decide) dX2_about_73 (n := 76) rfl ?_
      refine x_iconst 0 dX2_about_76 rfl (n := 77) rfl ?_
      refine tw_iald hE (by decide) dX2_about_77 (n := 78) rfl (fun x5 => ?_)
      exact tw_ireturn dX2_about_78
    · refine x_aload_nr 0 dX2_about_79 rfl rfl (n := 80) rfl ?_
      refine tw_getA fl_X2_17 rfl (by decide) dX2_about_80 (n := 83) rfl ?_
      refine x_iconst 1 dX2_about_83 rfl (n := 84) rfl ?_
      refine tw_iald hE (by decide) dX2_about_84 (n := 85) rfl (fun x6 => ?_)
      exact tw_ireturn dX2_about_85
    · refine x_aload_nr 0 dX2_about_86 rfl rfl (n := 87) rfl ?_
      refine tw_getA fl_X2_17 rfl (by decide) dX2_about_87 (n := 90) rfl ?_
      refine x_iconst 2 dX2_about_90 rfl (n := 91) rfl ?_
      refine tw_iald hE (by decide) dX2_about_91 (n := 92) rfl (fun x7 => ?_)
      exact tw_ireturn dX2_about_92
    · refine x_aload_nr 0 dX2_about_93 rfl rfl (n := 94) rfl ?_
      refine tw_getA fl_X2_17 rfl (by decide) dX2_about_94 (n := 97) rfl ?_
      refine x_iconst 3 dX2_about_97 rfl (n := 98) rfl ?_
      refine tw_iald hE (by decide) dX2_about_98 (n := 99) rfl (fun x8 => ?_)
      exact tw_ireturn dX2_about_99
    · refine x_aload_nr 0 dX2_about_100 rfl rfl (n := 101) rfl ?_
      refine tw_callV_I [] [] (T_punchesOfAll_ok hO hE s3 ) md_X2_punchesOfAll q3124 q3126 qs80 dX2_about_101 rfl rfl (by decide) (Nat.le_of_ble_eq_true rfl) (n := 104) rfl (fun x10 s9 => ?_)
      exact tw_ireturn dX2_about_104
    · refine x_aload_nr 0 dX2_about_105 rfl rfl (n := 106) rfl ?_
      refine x_iconst (-1) dX2_about_106 rfl (n := 107) rfl ?_
      refine tw_callV_I [.int (-1)] [] (T_validOf_ok hO hE s3 (-1)) md_X2_validOf q3128 q3130 qs81 dX2_about_107 rfl rfl (by decide) (Nat.le_of_ble_eq_true rfl) (n := 110) rfl (fun x12 s11 => ?_)
      exact tw_ireturn dX2_about_110
  · refine x_iconst (-1) dX2_about_32 rfl (n := 33) rfl ?_
    exact tw_ireturn dX2_about_33
theorem T_about_22_ok {G : xG} {E : TE} (hO : xOK G) (hE : tok E)   (v1 : Int32) (s0 : TS) : XT G E "ForestLegsModel" "about" cX2_about 2 (Option.some Jvm.ClassFile.FieldType.int) 5 22 [(0, .ref E.2.1), (1, .int v1)] [.ref E.2.1] s0 (T_about_22 v1 s0) := by
  unfold T_about_22
  refine x_iconst 0 dX2_about_22 rfl (n := 23) rfl ?_
  exact T_about_23_ok hO hE v1 0 s0
theorem T_about_ok {G : xG} {E : TE} (hO : xOK G) (hE : tok E) (s0 : TS) (a1 : Int32) : CTT G E 5 yX2_about cX2_about 2 (Option.some Jvm.ClassFile.FieldType.int) [.ref E.2.1, .int a1] s0 (T_about s0 a1) := by
  refine CT_of hO (by decide +kernel) (by decide +kernel) (Nat.le_of_ble_eq_true rfl) ?_
  show XT G E "ForestLegsModel" "about" cX2_about 2 (Option.some Jvm.ClassFile.FieldType.int) 5 0 [(0, .ref E.2.1), (1, .int a1)] [] s0 (T_about s0 a1)
  refine x_aload_nr 0 dX2_about_0 rfl rfl (n := 1) rfl ?_
  refine x_aload_nr 0 dX2_about_1 rfl rfl (n := 2) rfl ?_
  refine tw_getI fl_X2_173 rfl (by decide) dX2_about_2 (n := 5) rfl ?_
  refine tw_if_eq dX2_about_5 (t := 22) (by decide) (n := 8) rfl ?_ ?_
  · exact T_about_22_ok hO hE a1 s0
  · refine x_iload_n 1 dX2_about_8 rfl rfl (n := 9) rfl ?_
    refine x_iconst 0 dX2_about_9 rfl (n := 10) rfl ?_
    refine x_bipush 6 dX2_about_10 rfl (n := 12) rfl ?_
    refine tw_callS_I [.int a1, .int 0, .int 6] [.ref E.2.1] (T_in_ok hO hE s0 a1 0 6) md_X2_in q3016 q3017 dX2_about_12 rfl rfl (by decide) (Nat.le_of_ble_eq_true rfl) (n := 15) rfl (fun x14 s13 => ?_)
    refine tw_if_eq dX2_about_15 (t := 22) (by decide) (n := 18) rfl ?_ ?_
    · exact T_about_22_ok hO hE a1 s13
    · refine x_iconst 1 dX2_about_18 rfl (n := 19) rfl ?_
      refine x_goto dX2_about_19 (n := 23) (by decide) ?_
      exact T_about_23_ok hO hE a1 1 s13
abbrev cX2_isCourse : ByteArray := prog_14_method_29_code
def yX2_isCourse : MethodName := ⟨RX2, "isCourse", "(I)Z"⟩
def dkwX2_isCourse_0 : List UInt8 := [27, 3, 42, 180, 0, 17, 3, 46, 4, 100, 184, 0, 79, 172]
abbrev dktX2_isCourse_0 : List UInt8 := dkwX2_isCourse_0 ++ []
theorem dksX2_isCourse_0 : cX2_isCourse.data.toList.drop 0 = dktX2_isCourse_0 := by decide +kernel
theorem dX2_isCourse_0 : decode cX2_isCourse 0 = .ok (.iload_n 1, 1) := dk_27 (dk_at dksX2_isCourse_0 0 rfl rfl)
theorem dX2_isCourse_1 : decode cX2_isCourse 1 = .ok (.iconst 0, 1) := dk_3 (dk_at dksX2_isCourse_0 1 rfl rfl)
theorem dX2_isCourse_2 : decode cX2_isCourse 2 = .ok (.aload_n 0, 1) := dk_42 (dk_at dksX2_isCourse_0 2 rfl rfl)
theorem dX2_isCourse_3 : decode cX2_isCourse 3 = .ok (.getfield 17, 3) := dk_180 0 17 (dk_at dksX2_isCourse_0 3 rfl rfl)
theorem dX2_isCourse_6 : decode cX2_isCourse 6 = .ok (.iconst 0, 1) := dk_3 (dk_at dksX2_isCourse_0 6 rfl rfl)
theorem dX2_isCourse_7 : decode cX2_isCourse 7 = .ok (.iaload, 1) := dk_46 (dk_at dksX2_isCourse_0 7 rfl rfl)
theorem dX2_isCourse_8 : decode cX2_isCourse 8 = .ok (.iconst 1, 1) := dk_4 (dk_at dksX2_isCourse_0 8 rfl rfl)
theorem dX2_isCourse_9 : decode cX2_isCourse 9 = .ok (.isub, 1) := dk_100 (dk_at dksX2_isCourse_0 9 rfl rfl)
theorem dX2_isCourse_10 : decode cX2_isCourse 10 = .ok (.invokestatic 79, 3) := dk_184 0 79 (dk_at dksX2_isCourse_0 10 rfl rfl)
theorem dX2_isCourse_13 : decode cX2_isCourse 13 = .ok (.ireturn, 1) := dk_172 (dk_at dksX2_isCourse_0 13 rfl rfl)
theorem md_X2_isCourse : xMd yX2_isCourse cX2_isCourse 2 (Option.some Jvm.ClassFile.FieldType.boolean) 1 := ⟨q3162, q126, by decide, by decide +kernel, by decide +kernel, by decide +kernel⟩
def T_isCourse (s0 : TS) (a1 : Int32) : Option (xO × TS) :=
  (tald s0 7 0 fun x1 =>
  (xcI (T_in s0 a1 0 (x1 - 1)) fun x3 s2 =>
  (if vp_nar .boolean x3 = x3 then rI x3 s2 else none)))
theorem T_isCourse_ok {G : xG} {E : TE} (hO : xOK G) (hE : tok E) (s0 : TS) (a1 : Int32) : CTT G E 1 yX2_isCourse cX2_isCourse 2 (Option.some Jvm.ClassFile.FieldType.boolean) [.ref E.2.1, .int a1] s0 (T_isCourse s0 a1) := by
  refine CT_of hO (by decide +kernel) (by decide +kernel) (Nat.le_of_ble_eq_true rfl) ?_
  show XT G E "ForestLegsModel" "isCourse" cX2_isCourse 2 (Option.some Jvm.ClassFile.FieldType.boolean) 1 0 [(0, .ref E.2.1), (1, .int a1)] [] s0 (T_isCourse s0 a1)
  refine x_iload_n 1 dX2_isCourse_0 rfl rfl (n := 1) rfl ?_
  refine x_iconst 0 dX2_isCourse_1 rfl (n := 2) rfl ?_
  refine x_aload_nr 0 dX2_isCourse_2 rfl rfl (n := 3) rfl ?_
  refine tw_getA fl_X2_17 rfl (by decide) dX2_isCourse_3 (n := 6) rfl ?_
  refine x_iconst 0 dX2_isCourse_6 rfl (n := 7) rfl ?_
  refine tw_iald hE (by decide) dX2_isCourse_7 (n := 8) rfl (fun x1 => ?_)
  refine x_iconst 1 dX2_isCourse_8 rfl (n := 9) rfl ?_
  refine x_isub dX2_isCourse_9 (n := 10) rfl ?_
  refine tw_callS_I [.int a1, .int 0, .int (x1 - 1)] [] (T_in_ok hO hE s0 a1 0 (x1 - 1)) md_X2_in q3016 q3017 dX2_isCourse_10 rfl rfl (by decide) (Nat.le_of_ble_eq_true rfl) (n := 13) rfl (fun x3 s2 => ?_)
  exact tw_zreturn rfl dX2_isCourse_13
abbrev cX2_runnersOf : ByteArray := prog_14_method_46_code
def yX2_runnersOf : MethodName := ⟨RX2, "runnersOf", "(I)I"⟩
def dkwX2_runnersOf_1 : List UInt8 := [27, 160, 0, 7, 4, 167, 0, 4, 3, 96, 61, 132, 3, 1, 167, 255, 222, 28, 172]
abbrev dktX2_runnersOf_1 : List UInt8 := dkwX2_runnersOf_1 ++ []
def dkwX2_runnersOf_0 : List UInt8 := [3, 61, 3, 62, 29, 42, 180, 0, 17, 4, 46, 162, 0, 30, 28, 42, 180, 0, 17, 16, 37, 29, 96, 46]
abbrev dktX2_runnersOf_0 : List UInt8 := dkwX2_runnersOf_0 ++ dktX2_runnersOf_1
theorem dksX2_runnersOf_0 : cX2_runnersOf.data.toList.drop 0 = dktX2_runnersOf_0 := by decide +kernel
theorem dksX2_runnersOf_1 : cX2_runnersOf.data.toList.drop 24 = dktX2_runnersOf_1 := dk_seg dksX2_runnersOf_0 24 rfl rfl
theorem dX2_runnersOf_0 : decode cX2_runnersOf 0 = .ok (.iconst 0, 1) := dk_3 (dk_at dksX2_runnersOf_0 0 rfl rfl)
theorem dX2_runnersOf_1 : decode cX2_runnersOf 1 = .ok (.istore_n 2, 1) := dk_61 (dk_at dksX2_runnersOf_0 1 rfl rfl)
theorem dX2_runnersOf_2 : decode cX2_runnersOf 2 = .ok (.iconst 0, 1) := dk_3 (dk_at dksX2_runnersOf_0 2 rfl rfl)
theorem dX2_runnersOf_3 : decode cX2_runnersOf 3 = .ok (.istore_n 3, 1) := dk_62 (dk_at dksX2_runnersOf_0 3 rfl rfl)
theorem dX2_runnersOf_4 : decode cX2_runnersOf 4 = .ok (.iload_n 3, 1) := dk_29 (dk_at dksX2_runnersOf_0 4 rfl rfl)
theorem dX2_runnersOf_5 : decode cX2_runnersOf 5 = .ok (.aload_n 0, 1) := dk_42 (dk_at dksX2_runnersOf_0 5 rfl rfl)
theorem dX2_runnersOf_6 : decode cX2_runnersOf 6 = .ok (.getfield 17, 3) := dk_180 0 17 (dk_at dksX2_runnersOf_0 6 rfl rfl)
theorem dX2_runnersOf_9 : decode cX2_runnersOf 9 = .ok (.iconst 1, 1) := dk_4 (dk_at dksX2_runnersOf_0 9 rfl rfl)
theorem dX2_runnersOf_10 : decode cX2_runnersOf 10 = .ok (.iaload, 1) := dk_46 (dk_at dksX2_runnersOf_0 10 rfl rfl)
theorem dX2_runnersOf_11 : decode cX2_runnersOf 11 = .ok (.if_icmp .ge 30, 3) := dk_162 0 30 (dk_at dksX2_runnersOf_0 11 rfl rfl)
theorem dX2_runnersOf_14 : decode cX2_runnersOf 14 = .ok (.iload_n 2, 1) := dk_28 (dk_at dksX2_runnersOf_0 14 rfl rfl)
theorem dX2_runnersOf_15 : decode cX2_runnersOf 15 = .ok (.aload_n 0, 1) := dk_42 (dk_at dksX2_runnersOf_0 15 rfl rfl)
theorem dX2_runnersOf_16 : decode cX2_runnersOf 16 = .ok (.getfield 17, 3) := dk_180 0 17 (dk_at dksX2_runnersOf_0 16 rfl rfl)
theorem dX2_runnersOf_19 : decode cX2_runnersOf 19 = .ok (.bipush 37, 2) := dk_16 37 (dk_at dksX2_runnersOf_0 19 rfl rfl)
theorem dX2_runnersOf_21 : decode cX2_runnersOf 21 = .ok (.iload_n 3, 1) := dk_29 (dk_at dksX2_runnersOf_0 21 rfl rfl)
theorem dX2_runnersOf_22 : decode cX2_runnersOf 22 = .ok (.iadd, 1) := dk_96 (dk_at dksX2_runnersOf_0 22 rfl rfl)
theorem dX2_runnersOf_23 : decode cX2_runnersOf 23 = .ok (.iaload, 1) := dk_46 (dk_at dksX2_runnersOf_0 23 rfl rfl)
theorem dX2_runnersOf_24 : decode cX2_runnersOf 24 = .ok (.iload_n 1, 1) := dk_27 (dk_at dksX2_runnersOf_1 0 rfl rfl)
theorem dX2_runnersOf_25 : decode cX2_runnersOf 25 = .ok (.if_icmp .ne 7, 3) := dk_160 0 7 (dk_at dksX2_runnersOf_1 1 rfl rfl)
theorem dX2_runnersOf_28 : decode cX2_runnersOf 28 = .ok (.iconst 1, 1) := dk_4 (dk_at dksX2_runnersOf_1 4 rfl rfl)
theorem dX2_runnersOf_29 : decode cX2_runnersOf 29 = .ok (.goto 4, 3) := dk_167 0 4 (dk_at dksX2_runnersOf_1 5 rfl rfl)
theorem dX2_runnersOf_32 : decode cX2_runnersOf 32 = .ok (.iconst 0, 1) := dk_3 (dk_at dksX2_runnersOf_1 8 rfl rfl)
theorem dX2_runnersOf_33 : decode cX2_runnersOf 33 = .ok (.iadd, 1) := dk_96 (dk_at dksX2_runnersOf_1 9 rfl rfl)
theorem dX2_runnersOf_34 : decode cX2_runnersOf 34 = .ok (.istore_n 2, 1) := dk_61 (dk_at dksX2_runnersOf_1 10 rfl rfl)
theorem dX2_runnersOf_35 : decode cX2_runnersOf 35 = .ok (.iinc 3 1, 3) := dk_132 3 1 (dk_at dksX2_runnersOf_1 11 rfl rfl)
theorem dX2_runnersOf_38 : decode cX2_runnersOf 38 = .ok (.goto (-34), 3) := dk_167 255 222 (dk_at dksX2_runnersOf_1 14 rfl rfl)
theorem dX2_runnersOf_41 : decode cX2_runnersOf 41 = .ok (.iload_n 2, 1) := dk_28 (dk_at dksX2_runnersOf_1 17 rfl rfl)
theorem dX2_runnersOf_42 : decode cX2_runnersOf 42 = .ok (.ireturn, 1) := dk_172 (dk_at dksX2_runnersOf_1 18 rfl rfl)
theorem md_X2_runnersOf : xMd yX2_runnersOf cX2_runnersOf 4 (Option.some Jvm.ClassFile.FieldType.int) 1 := ⟨q3166, q126, by decide, by decide +kernel, by decide +kernel, by decide +kernel⟩
def T_runnersOf_33  (k4 : Int32 × Int32 × Int32 × TS → Option (xO × TS)) (v1 : Int32) (v3 : Int32) (w0 : Int32) (w1 : Int32) (s0 : TS) : Option (xO × TS) :=
  (bnd (w0 + w1) fun x3 =>
  (bnd (v3 + 1) fun x4 =>
  (k4 (v1, x3, x4, s0))))
def T_runnersOf_4F   (k4 : Int32 × Int32 × Int32 × TS → Option (xO × TS)) (p : Int32 × Int32 × Int32 × TS) : Option (xO × TS) := match p with
  | (v1, v2, v3, s0) => (tald s0 7 1 fun x1 =>
  (if x1 ≤ v3 then
  (rI v2 s0) else
  (tald s0 7 (37 + v3) fun x2 =>
  (if x2 = v1 then
  (T_runnersOf_33 k4 v1 v3 v2 1 s0) else
  (T_runnersOf_33 k4 v1 v3 v2 0 s0)))))
def T_runnersOf (s0 : TS) (a1 : Int32) : Option (xO × TS) :=
  (lp (T_runnersOf_4F) FU (a1, 0, 0, s0))
theorem T_runnersOf_33_ok {G : xG} {E : TE} (hO : xOK G) (hE : tok E)  {k4 : Int32 × Int32 × Int32 × TS → Option (xO × TS)} (hk4 : ∀ (v1 : Int32) (v2 : Int32) (v3 : Int32) (s0 : TS), XT G E "ForestLegsModel" "runnersOf" cX2_runnersOf 4 (Option.some Jvm.ClassFile.FieldType.int) 0 4 [(0, .ref E.2.1), (1, .int v1), (2, .int v2), (3, .int v3)] [] s0 (k4 (v1, v2, v3, s0))) (v1 : Int32) (v3 : Int32) (w0 : Int32) (w1 : Int32) (s0 : TS) : XT G E "ForestLegsModel" "runnersOf" cX2_runnersOf 4 (Option.some Jvm.ClassFile.FieldType.int) 0 33 [(0, .ref E.2.1), (1, .int v1), (3, .int v3)] [.int w1, .int w0] s0 (T_runnersOf_33 k4 v1 v3 w0 w1 s0) := by
  unfold T_runnersOf_33
  refine x_iadd dX2_runnersOf_33 (n := 34) rfl ?_
  refine tw_nm (fun x3 => ?_)
  refine x_istore_n [(2, .int x3), (0, .ref E.2.1), (1, .int v1), (3, .int v3)] dX2_runnersOf_34 rfl (by decide) rfl (n := 35) rfl ?_
  refine tw_iinc 3 (fun x4 => [(3, .int x4), (2, .int x3), (0, .ref E.2.1), (1, .int v1)]) dX2_runnersOf_35 rfl rfl (by decide) (fun _ => rfl) (n := 38) rfl (fun x4 => ?_)
  refine x_goto dX2_runnersOf_38 (n := 4) (by decide) ?_
  refine x_sub [2, 3, 1, 0] [(0, .ref E.2.1), (1, .int v1), (2, .int x3), (3, .int x4)] rfl ?_
  exact hk4 v1 x3 x4 s0
theorem T_runnersOf_4F_ok {G : xG} {E : TE} (hO : xOK G) (hE : tok E)   {k4 : Int32 × Int32 × Int32 × TS → Option (xO × TS)} (hk4 : ∀ (v1 : Int32) (v2 : Int32) (v3 : Int32) (s0 : TS), XT G E "ForestLegsModel" "runnersOf" cX2_runnersOf 4 (Option.some Jvm.ClassFile.FieldType.int) 0 4 [(0, .ref E.2.1), (1, .int v1), (2, .int v2), (3, .int v3)] [] s0 (k4 (v1, v2, v3, s0))) (v1 : Int32) (v2 : Int32) (v3 : Int32) (s0 : TS) : XT G E "ForestLegsModel" "runnersOf" cX2_runnersOf 4 (Option.some Jvm.ClassFile.FieldType.int) 0 4 [(0, .ref E.2.1), (1, .int v1), (2, .int v2), (3, .int v3)] [] s0 (T_runnersOf_4F k4 (v1, v2, v3, s0)) := by
  unfold T_runnersOf_4F
  refine x_iload_n 3 dX2_runnersOf_4 rfl rfl (n := 5) rfl ?_
  refine x_aload_nr 0 dX2_runnersOf_5 rfl rfl (n := 6) rfl ?_
  refine tw_getA fl_X2_17 rfl (by decide) dX2_runnersOf_6 (n := 9) rfl ?_
  refine x_iconst 1 dX2_runnersOf_9 rfl (n := 10) rfl ?_
  refine tw_iald hE (by decide) dX2_runnersOf_10 (n := 11) rfl (fun x1 => ?_)
  refine tw_icmp_ge dX2_runnersOf_11 (t := 41) (by decide) (n := 14) rfl ?_ ?_
  · refine x_iload_n 2 dX2_runnersOf_41 rfl rfl (n := 42) rfl ?_
    exact tw_ireturn dX2_runnersOf_42
  · refine x_iload_n 2 dX2_runnersOf_14 rfl rfl (n := 15) rfl ?_
    refine x_aload_nr 0 dX2_runnersOf_15 rfl rfl (n := 16) rfl ?_
    refine tw_getA fl_X2_17 rfl (by decide) dX2_runnersOf_16 (n := 19) rfl ?_
    refine x_bipush 37 dX2_runnersOf_19 rfl (n := 21) rfl ?_
    refine x_iload_n 3 dX2_runnersOf_21 rfl rfl (n := 22) rfl ?_
    refine x_iadd dX2_runnersOf_22 (n := 23) rfl ?_
    refine tw_iald hE (by decide) dX2_runnersOf_23 (n := 24) rfl (fun x2 => ?_)
    refine x_iload_n 1 dX2_runnersOf_24 rfl rfl (n := 25) rfl ?_
    refine tw_icmp_ne dX2_runnersOf_25 (t := 32) (by decide) (n := 28) rfl ?_ ?_
    · refine x_iconst 0 dX2_runnersOf_32 rfl (n := 33) rfl ?_
      refine x_sub [0, 1, 3] [(0, .ref E.2.1), (1, .int v1), (3, .int v3)] rfl ?_
      exact T_runnersOf_33_ok hO hE hk4 v1 v3 v2 0 s0
    · refine x_iconst 1 dX2_runnersOf_28 rfl (n := 29) rfl ?_
      refine x_goto dX2_runnersOf_29 (n := 33) (by decide) ?_
      refine x_sub [0, 1, 3] [(0, .ref E.2.1), (1, .int v1), (3, .int v3)] rfl ?_
      exact T_runnersOf_33_ok hO hE hk4 v1 v3 v2 1 s0
theorem T_runnersOf_4_lp {G : xG} {E : TE} (hO : xOK G) (hE : tok E)   (n : Nat) (v1 : Int32) (v2 : Int32) (v3 : Int32) (s0 : TS) : XT G E "ForestLegsModel" "runnersOf" cX2_runnersOf 4 (Option.some Jvm.ClassFile.FieldType.int) 0 4 [(0, .ref E.2.1), (1, .int v1), (2, .int v2), (3, .int v3)] [] s0 (lp (T_runnersOf_4F) n (v1, v2, v3, s0)) :=
  lp_ok (W := fun p K => XT G E "ForestLegsModel" "runnersOf" cX2_runnersOf 4 (Option.some Jvm.ClassFile.FieldType.int) 0 4 [(0, .ref E.2.1), (1, .int p.1), (2, .int p.2.1), (3, .int p.2.2.1)] [] p.2.2.2 K) (fun _ => tw_no) (fun k hk => fun (v1, v2, v3, s0) => T_runnersOf_4F_ok hO hE (fun v1 v2 v3 s0 => hk (v1, v2, v3, s0)) v1 v2 v3 s0) n (v1, v2, v3, s0)
theorem T_runnersOf_ok {G : xG} {E : TE} (hO : xOK G) (hE : tok E) (s0 : TS) (a1 : Int32) : CTT G E 0 yX2_runnersOf cX2_runnersOf 4 (Option.some Jvm.ClassFile.FieldType.int) [.ref E.2.1, .int a1] s0 (T_runnersOf s0 a1) := by
  refine CT_of hO (by decide +kernel) (by decide +kernel) (Nat.le_of_ble_eq_true rfl) ?_
  show XT G E "ForestLegsModel" "runnersOf" cX2_runnersOf 4 (Option.some Jvm.ClassFile.FieldType.int) 0 0 [(0, .ref E.2.1), (1, .int a1)] [] s0 (T_runnersOf s0 a1)
  refine x_iconst 0 dX2_runnersOf_0 rfl (n := 1) rfl ?_
  refine x_istore_n [(2, .int 0), (0, .ref E.2.1), (1, .int a1)] dX2_runnersOf_1 rfl (by decide) rfl (n := 2) rfl ?_
  refine x_iconst 0 dX2_runnersOf_2 rfl (n := 3) rfl ?_
  refine x_istore_n [(3, .int 0), (2, .int 0), (0, .ref E.2.1), (1, .int a1)] dX2_runnersOf_3 rfl (by decide) rfl (n := 4) rfl ?_
  refine x_sub [2, 3, 1, 0] [(0, .ref E.2.1), (1, .int a1), (2, .int 0), (3, .int 0)] rfl ?_
  exact T_runnersOf_4_lp hO hE FU a1 0 0 s0
abbrev cX2_punchTime : ByteArray := prog_14_method_37_code
def yX2_punchTime : MethodName := ⟨RX2, "punchTime", "(II)I"⟩
def dkwX2_punchTime_0 : List UInt8 := [42, 180, 0, 17, 17, 0, 237, 16, 16, 27, 104, 96, 28, 96, 46, 172]
abbrev dktX2_punchTime_0 : List UInt8 := dkwX2_punchTime_0 ++ []
theorem dksX2_punchTime_0 : cX2_punchTime.data.toList.drop 0 = dktX2_punchTime_0 := by decide +kernel
theorem dX2_punchTime_0 : decode cX2_punchTime 0 = .ok (.aload_n 0, 1) := dk_42 (dk_at dksX2_punchTime_0 0 rfl rfl)
theorem dX2_punchTime_1 : decode cX2_punchTime 1 = .ok (.getfield 17, 3) := dk_180 0 17 (dk_at dksX2_punchTime_0 1 rfl rfl)
theorem dX2_punchTime_4 : decode cX2_punchTime 4 = .ok (.sipush 237, 3) := dk_17 0 237 (dk_at dksX2_punchTime_0 4 rfl rfl)
theorem dX2_punchTime_7 : decode cX2_punchTime 7 = .ok (.bipush 16, 2) := dk_16 16 (dk_at dksX2_punchTime_0 7 rfl rfl)
theorem dX2_punchTime_9 : decode cX2_punchTime 9 = .ok (.iload_n 1, 1) := dk_27 (dk_at dksX2_punchTime_0 9 rfl rfl)
theorem dX2_punchTime_10 : decode cX2_punchTime 10 = .ok (.imul, 1) := dk_104 (dk_at dksX2_punchTime_0 10 rfl rfl)
theorem dX2_punchTime_11 : decode cX2_punchTime 11 = .ok (.iadd, 1) := dk_96 (dk_at dksX2_punchTime_0 11 rfl rfl)
theorem dX2_punchTime_12 : decode cX2_punchTime 12 = .ok (.iload_n 2, 1) := dk_28 (dk_at dksX2_punchTime_0 12 rfl rfl)
theorem dX2_punchTime_13 : decode cX2_punchTime 13 = .ok (.iadd, 1) := dk_96 (dk_at dksX2_punchTime_0 13 rfl rfl)
theorem dX2_punchTime_14 : decode cX2_punchTime 14 = .ok (.iaload, 1) := dk_46 (dk_at dksX2_punchTime_0 14 rfl rfl)
theorem dX2_punchTime_15 : decode cX2_punchTime 15 = .ok (.ireturn, 1) := dk_172 (dk_at dksX2_punchTime_0 15 rfl rfl)
theorem md_X2_punchTime : xMd yX2_punchTime cX2_punchTime 3 (Option.some Jvm.ClassFile.FieldType.int) 2 := ⟨q3190, q126, by decide, by decide +kernel, by decide +kernel, by decide +kernel⟩
def T_punchTime (s0 : TS) (a1 : Int32) (a2 : Int32) : Option (xO × TS) :=
  (tald s0 7 ((237 + (16 * a1)) + a2) fun x1 =>
  (rI x1 s0))
theorem T_punchTime_ok {G : xG} {E : TE} (hO : xOK G) (hE : tok E) (s0 : TS) (a1 : Int32) (a2 : Int32) : CTT G E 0 yX2_punchTime cX2_punchTime 3 (Option.some Jvm.ClassFile.FieldType.int) [.ref E.2.1, .int a1, .int a2] s0 (T_punchTime s0 a1 a2) := by
  refine CT_of hO (by decide +kernel) (by decide +kernel) (Nat.le_of_ble_eq_true rfl) ?_
  show XT G E "ForestLegsModel" "punchTime" cX2_punchTime 3 (Option.some Jvm.ClassFile.FieldType.int) 0 0 [(0, .ref E.2.1), (1, .int a1), (2, .int a2)] [] s0 (T_punchTime s0 a1 a2)
  refine x_aload_nr 0 dX2_punchTime_0 rfl rfl (n := 1) rfl ?_
  refine tw_getA fl_X2_17 rfl (by decide) dX2_punchTime_1 (n := 4) rfl ?_
  refine x_sipush 237 dX2_punchTime_4 rfl (n := 7) rfl ?_
  refine x_bipush 16 dX2_punchTime_7 rfl (n := 9) rfl ?_
  refine x_iload_n 1 dX2_punchTime_9 rfl rfl (n := 10) rfl ?_
  refine x_imul dX2_punchTime_10 (n := 11) rfl ?_
  refine x_iadd dX2_punchTime_11 (n := 12) rfl ?_
  refine x_iload_n 2 dX2_punchTime_12 rfl rfl (n := 13) rfl ?_
  refine x_iadd dX2_punchTime_13 (n := 14) rfl ?_
  refine tw_iald hE (by decide) dX2_punchTime_14 (n := 15) rfl (fun x1 => ?_)
  exact tw_ireturn dX2_punchTime_15
abbrev cX2_timeAt : ByteArray := prog_14_method_42_code
def yX2_timeAt : MethodName := ⟨RX2, "timeAt", "(II)I"⟩
def dkwX2_timeAt_3 : List UInt8 := [167, 0, 14, 42, 27, 42, 180, 0, 32, 28, 46, 182, 0, 209, 172]
abbrev dktX2_timeAt_3 : List UInt8 := dkwX2_timeAt_3 ++ []
def dkwX2_timeAt_2 : List UInt8 := [16, 57, 27, 96, 46, 172, 42, 27, 182, 0, 206, 87, 42, 180, 0, 32, 28, 46, 2, 160, 0, 7, 2]
abbrev dktX2_timeAt_2 : List UInt8 := dkwX2_timeAt_2 ++ dktX2_timeAt_3
def dkwX2_timeAt_1 : List UInt8 := [160, 0, 29, 28, 156, 0, 15, 42, 180, 0, 17, 16, 47, 27, 96, 46, 167, 0, 12, 42, 180, 0, 17]
abbrev dktX2_timeAt_1 : List UInt8 := dkwX2_timeAt_1 ++ dktX2_timeAt_2
def dkwX2_timeAt_0 : List UInt8 := [42, 180, 0, 17, 16, 37, 27, 96, 46, 62, 28, 155, 0, 15, 28, 42, 180, 0, 17, 7, 29, 96, 46]
abbrev dktX2_timeAt_0 : List UInt8 := dkwX2_timeAt_0 ++ dktX2_timeAt_1
theorem dksX2_timeAt_0 : cX2_timeAt.data.toList.drop 0 = dktX2_timeAt_0 := by decide +kernel
theorem dksX2_timeAt_1 : cX2_timeAt.data.toList.drop 23 = dktX2_timeAt_1 := dk_seg dksX2_timeAt_0 23 rfl rfl
theorem dksX2_timeAt_2 : cX2_timeAt.data.toList.drop 46 = dktX2_timeAt_2 := dk_seg dksX2_timeAt_1 23 rfl rfl
theorem dksX2_timeAt_3 : cX2_timeAt.data.toList.drop 69 = dktX2_timeAt_3 := dk_seg dksX2_timeAt_2 23 rfl rfl
theorem dX2_timeAt_0 : decode cX2_timeAt 0 = .ok (.aload_n 0, 1) := dk_42 (dk_at dksX2_timeAt_0 0 rfl rfl)
theorem dX2_timeAt_1 : decode cX2_timeAt 1 = .ok (.getfield 17, 3) := dk_180 0 17 (dk_at dksX2_timeAt_0 1 rfl rfl)
theorem dX2_timeAt_4 : decode cX2_timeAt 4 = .ok (.bipush 37, 2) := dk_16 37 (dk_at dksX2_timeAt_0 4 rfl rfl)
theorem dX2_timeAt_6 : decode cX2_timeAt 6 = .ok (.iload_n 1, 1) := dk_27 (dk_at dksX2_timeAt_0 6 rfl rfl)
theorem dX2_timeAt_7 : decode cX2_timeAt 7 = .ok (.iadd, 1) := dk_96 (dk_at dksX2_timeAt_0 7 rfl rfl)
theorem dX2_timeAt_8 : decode cX2_timeAt 8 = .ok (.iaload, 1) := dk_46 (dk_at dksX2_timeAt_0 8 rfl rfl)
theorem dX2_timeAt_9 : decode cX2_timeAt 9 = .ok (.istore_n 3, 1) := dk_62 (dk_at dksX2_timeAt_0 9 rfl rfl)
theorem dX2_timeAt_10 : decode cX2_timeAt 10 = .ok (.iload_n 2, 1) := dk_28 (dk_at dksX2_timeAt_0 10 rfl rfl)
theorem dX2_timeAt_11 : decode cX2_timeAt 11 = .ok (.ifCond .lt 15, 3) := dk_155 0 15 (dk_at dksX2_timeAt_0 11 rfl rfl)
theorem dX2_timeAt_14 : decode cX2_timeAt 14 = .ok (.iload_n 2, 1) := dk_28 (dk_at dksX2_timeAt_0 14 rfl rfl)
theorem dX2_timeAt_15 : decode cX2_timeAt 15 = .ok (.aload_n 0, 1) := dk_42 (dk_at dksX2_timeAt_0 15 rfl rfl)
theorem dX2_timeAt_16 : decode cX2_timeAt 16 = .ok (.getfield 17, 3) := dk_180 0 17 (dk_at dksX2_timeAt_0 16 rfl rfl)
theorem dX2_timeAt_19 : decode cX2_timeAt 19 = .ok (.iconst 4, 1) := dk_7 (dk_at dksX2_timeAt_0 19 rfl rfl)
theorem dX2_timeAt_20 : decode cX2_timeAt 20 = .ok (.iload_n 3, 1) := dk_29 (dk_at dksX2_timeAt_0 20 rfl rfl)
theorem dX2_timeAt_21 : decode cX2_timeAt 21 = .ok (.iadd, 1) := dk_96 (dk_at dksX2_timeAt_0 21 rfl rfl)
theorem dX2_timeAt_22 : decode cX2_timeAt 22 = .ok (.iaload, 1) := dk_46 (dk_at dksX2_timeAt_0 22 rfl rfl)
theorem dX2_timeAt_23 : decode cX2_timeAt 23 = .ok (.if_icmp .ne 29, 3) := dk_160 0 29 (dk_at dksX2_timeAt_1 0 rfl rfl)
theorem dX2_timeAt_26 : decode cX2_timeAt 26 = .ok (.iload_n 2, 1) := dk_28 (dk_at dksX2_timeAt_1 3 rfl rfl)
theorem dX2_timeAt_27 : decode cX2_timeAt 27 = .ok (.ifCond .ge 15, 3) := dk_156 0 15 (dk_at dksX2_timeAt_1 4 rfl rfl)
theorem dX2_timeAt_30 : decode cX2_timeAt 30 = .ok (.aload_n 0, 1) := dk_42 (dk_at dksX2_timeAt_1 7 rfl rfl)
theorem dX2_timeAt_31 : decode cX2_timeAt 31 = .ok (.getfield 17, 3) := dk_180 0 17 (dk_at dksX2_timeAt_1 8 rfl rfl)
theorem dX2_timeAt_34 : decode cX2_timeAt 34 = .ok (.bipush 47, 2) := dk_16 47 (dk_at dksX2_timeAt_1 11 rfl rfl)
theorem dX2_timeAt_36 : decode cX2_timeAt 36 = .ok (.iload_n 1, 1) := dk_27 (dk_at dksX2_timeAt_1 13 rfl rfl)
theorem dX2_timeAt_37 : decode cX2_timeAt 37 = .ok (.iadd, 1) := dk_96 (dk_at dksX2_timeAt_1 14 rfl rfl)
theorem dX2_timeAt_38 : decode cX2_timeAt 38 = .ok (.iaload, 1) := dk_46 (dk_at dksX2_timeAt_1 15 rfl rfl)
theorem dX2_timeAt_39 : decode cX2_timeAt 39 = .ok (.goto 12, 3) := dk_167 0 12 (dk_at dksX2_timeAt_1 16 rfl rfl)
theorem dX2_timeAt_42 : decode cX2_timeAt 42 = .ok (.aload_n 0, 1) := dk_42 (dk_at dksX2_timeAt_1 19 rfl rfl)
theorem dX2_timeAt_43 : decode cX2_timeAt 43 = .ok (.getfield 17, 3) := dk_180 0 17 (dk_at dksX2_timeAt_1 20 rfl rfl)
theorem dX2_timeAt_46 : decode cX2_timeAt 46 = .ok (.bipush 57, 2) := dk_16 57 (dk_at dksX2_timeAt_2 0 rfl rfl)
theorem dX2_timeAt_48 : decode cX2_timeAt 48 = .ok (.iload_n 1, 1) := dk_27 (dk_at dksX2_timeAt_2 2 rfl rfl)
theorem dX2_timeAt_49 : decode cX2_timeAt 49 = .ok (.iadd, 1) := dk_96 (dk_at dksX2_timeAt_2 3 rfl rfl)
theorem dX2_timeAt_50 : decode cX2_timeAt 50 = .ok (.iaload, 1) := dk_46 (dk_at dksX2_timeAt_2 4 rfl rfl)
theorem dX2_timeAt_51 : decode cX2_timeAt 51 = .ok (.ireturn, 1) := dk_172 (dk_at dksX2_timeAt_2 5 rfl rfl)
theorem dX2_timeAt_52 : decode cX2_timeAt 52 = .ok (.aload_n 0, 1) := dk_42 (dk_at dksX2_timeAt_2 6 rfl rfl)
theorem dX2_timeAt_53 : decode cX2_timeAt 53 = .ok (.iload_n 1, 1) := dk_27 (dk_at dksX2_timeAt_2 7 rfl rfl)
theorem dX2_timeAt_54 : decode cX2_timeAt 54 = .ok (.invokevirtual 206, 3) := dk_182 0 206 (dk_at dksX2_timeAt_2 8 rfl rfl)
theorem dX2_timeAt_57 : decode cX2_timeAt 57 = .ok (.pop, 1) := dk_87 (dk_at dksX2_timeAt_2 11 rfl rfl)
theorem dX2_timeAt_58 : decode cX2_timeAt 58 = .ok (.aload_n 0, 1) := dk_42 (dk_at dksX2_timeAt_2 12 rfl rfl)
theorem dX2_timeAt_59 : decode cX2_timeAt 59 = .ok (.getfield 32, 3) := dk_180 0 32 (dk_at dksX2_timeAt_2 13 rfl rfl)
theorem dX2_timeAt_62 : decode cX2_timeAt 62 = .ok (.iload_n 2, 1) := dk_28 (dk_at dksX2_timeAt_2 16 rfl rfl)
theorem dX2_timeAt_63 : decode cX2_timeAt 63 = .ok (.iaload, 1) := dk_46 (dk_at dksX2_timeAt_2 17 rfl rfl)
theorem dX2_timeAt_64 : decode cX2_timeAt 64 = .ok (.iconst (-1), 1) := dk_2 (dk_at dksX2_timeAt_2 18 rfl rfl)
theorem dX2_timeAt_65 : decode cX2_timeAt 65 = .ok (.if_icmp .ne 7, 3) := dk_160 0 7 (dk_at dksX2_timeAt_2 19 rfl rfl)
theorem dX2_timeAt_68 : decode cX2_timeAt 68 = .ok (.iconst (-1), 1) := dk_2 (dk_at dksX2_timeAt_2 22 rfl rfl)
theorem dX2_timeAt_69 : decode cX2_timeAt 69 = .ok (.goto 14, 3) := dk_167 0 14 (dk_at dksX2_timeAt_3 0 rfl rfl)
theorem dX2_timeAt_72 : decode cX2_timeAt 72 = .ok (.aload_n 0, 1) := dk_42 (dk_at dksX2_timeAt_3 3 rfl rfl)
theorem dX2_timeAt_73 : decode cX2_timeAt 73 = .ok (.iload_n 1, 1) := dk_27 (dk_at dksX2_timeAt_3 4 rfl rfl)
theorem dX2_timeAt_74 : decode cX2_timeAt 74 = .ok (.aload_n 0, 1) := dk_42 (dk_at dksX2_timeAt_3 5 rfl rfl)
theorem dX2_timeAt_75 : decode cX2_timeAt 75 = .ok (.getfield 32, 3) := dk_180 0 32 (dk_at dksX2_timeAt_3 6 rfl rfl)
theorem dX2_timeAt_78 : decode cX2_timeAt 78 = .ok (.iload_n 2, 1) := dk_28 (dk_at dksX2_timeAt_3 9 rfl rfl)
theorem dX2_timeAt_79 : decode cX2_timeAt 79 = .ok (.iaload, 1) := dk_46 (dk_at dksX2_timeAt_3 10 rfl rfl)
theorem dX2_timeAt_80 : decode cX2_timeAt 80 = .ok (.invokevirtual 209, 3) := dk_182 0 209 (dk_at dksX2_timeAt_3 11 rfl rfl)
theorem dX2_timeAt_83 : decode cX2_timeAt 83 = .ok (.ireturn, 1) := dk_172 (dk_at dksX2_timeAt_3 14 rfl rfl)
theorem md_X2_timeAt : xMd yX2_timeAt cX2_timeAt 4 (Option.some Jvm.ClassFile.FieldType.int) 2 := ⟨q3186, q126, by decide, by decide +kernel, by decide +kernel, by decide +kernel⟩
def T_timeAt_26   (v1 : Int32) (v2 : Int32) (s0 : TS) : Option (xO × TS) :=
  (if 0 ≤ v2 then
  (tald s0 7 (57 + v1) fun x2 =>
  (rI x2 s0)) else
  (tald s0 7 (47 + v1) fun x3 =>
  (rI x3 s0)))
def T_timeAt (s0 : TS) (a1 : Int32) (a2 : Int32) : Option (xO × TS) :=
  (tald s0 7 (37 + a1) fun x1 =>
  (if a2 < 0 then
  (T_timeAt_26 a1 a2 s0) else
  (tald s0 7 (4 + x1) fun x4 =>
  (if a2 = x4 then
  (T_timeAt_26 a1 a2 s0) else
  (xcI (T_missedBy s0 a1) fun x6 s5 =>
  (tald s5 20 a2 fun x7 =>
  (if x7 = (-1) then
  (rI (-1) s5) else
  (tald s5 20 a2 fun x8 =>
  (xcI (T_punchTime s5 a1 x8) fun x10 s9 =>
  (rI x10 s9))))))))))
theorem T_timeAt_26_ok {G : xG} {E : TE} (hO : xOK G) (hE : tok E)   (v1 : Int32) (v2 : Int32) (s0 : TS) : XT G E "ForestLegsModel" "timeAt" cX2_timeAt 4 (Option.some Jvm.ClassFile.FieldType.int) 3 26 [(0, .ref E.2.1), (1, .int v1), (2, .int v2)] [] s0 (T_timeAt_26 v1 v2 s0) := by
  unfold T_timeAt_26
  refine x_iload_n 2 dX2_timeAt_26 rfl rfl (n := 27) rfl ?_
  refine tw_if_ge dX2_timeAt_27 (t := 42) (by decide) (n := 30) rfl ?_ ?_
  · refine x_aload_nr 0 dX2_timeAt_42 rfl rfl (n := 43) rfl ?_
    refine tw_getA fl_X2_17 rfl (by decide) dX2_timeAt_43 (n := 46) rfl ?_
    refine x_bipush 57 dX2_timeAt_46 rfl (n := 48) rfl ?_
    refine x_iload_n 1 dX2_timeAt_48 rfl rfl (n := 49) rfl ?_
    refine x_iadd dX2_timeAt_49 (n := 50) rfl ?_
    refine tw_iald hE (by decide) dX2_timeAt_50 (n := 51) rfl (fun x2 => ?_)
    exact tw_ireturn dX2_timeAt_51
  · refine x_aload_nr 0 dX2_timeAt_30 rfl rfl (n := 31) rfl ?_
    refine tw_getA fl_X2_17 rfl (by decide) dX2_timeAt_31 (n := 34) rfl ?_
    refine x_bipush 47 dX2_timeAt_34 rfl (n := 36) rfl ?_
    refine x_iload_n 1 dX2_timeAt_36 rfl rfl (n := 37) rfl ?_
    refine x_iadd dX2_timeAt_37 (n := 38) rfl ?_
    refine tw_iald hE (by decide) dX2_timeAt_38 (n := 39) rfl (fun x3 => ?_)
    refine x_goto dX2_timeAt_39 (n := 51) (by decide) ?_
    exact tw_ireturn dX2_timeAt_51
theorem T_timeAt_ok {G : xG} {E : TE} (hO : xOK G) (hE : tok E) (s0 : TS) (a1 : Int32) (a2 : Int32) : CTT G E 3 yX2_timeAt cX2_timeAt 4 (Option.some Jvm.ClassFile.FieldType.int) [.ref E.2.1, .int a1, .int a2] s0 (T_timeAt s0 a1 a2) := by
  refine CT_of hO (by decide +kernel) (by decide +kernel) (Nat.le_of_ble_eq_true rfl) ?_
  show XT G E "ForestLegsModel" "timeAt" cX2_timeAt 4 (Option.some Jvm.ClassFile.FieldType.int) 3 0 [(0, .ref E.2.1), (1, .int a1), (2, .int a2)] [] s0 (T_timeAt s0 a1 a2)
  refine x_aload_nr 0 dX2_timeAt_0 rfl rfl (n := 1) rfl ?_
  refine tw_getA fl_X2_17 rfl (by decide) dX2_timeAt_1 (n := 4) rfl ?_
  refine x_bipush 37 dX2_timeAt_4 rfl (n := 6) rfl ?_
  refine x_iload_n 1 dX2_timeAt_6 rfl rfl (n := 7) rfl ?_
  refine x_iadd dX2_timeAt_7 (n := 8) rfl ?_
  refine tw_iald hE (by decide) dX2_timeAt_8 (n := 9) rfl (fun x1 => ?_)
  refine x_istore_n [(3, .int x1), (0, .ref E.2.1), (1, .int a1), (2, .int a2)] dX2_timeAt_9 rfl (by decide) rfl (n := 10) rfl ?_
  refine x_iload_n 3 dX2_timeAt_10 rfl rfl (n := 11) rfl ?_
  refine tw_if_lt dX2_timeAt_11 (t := 26) (by decide) (n := 14) rfl ?_ ?_
  · refine x_sub [1, 2, 3] [(0, .ref E.2.1), (1, .int a1), (2, .int a2)] rfl ?_
    exact T_timeAt_26_ok hO hE a1 a2 s0
  · refine x_iload_n 3 dX2_timeAt_14 rfl rfl (n := 15) rfl ?_
    refine x_aload_nr 1 dX2_timeAt_15 rfl rfl (n := 16) rfl ?_
    refine tw_getA fl_X2_17 rfl (by decide) dX2_timeAt_16 (n := 19) rfl ?_
    refine x_iconst 4 dX2_timeAt_19 rfl (n := 20) rfl ?_
    refine x_iload_n 0 dX2_timeAt_20 rfl rfl (n := 21) rfl ?_
    refine x_iadd dX2_timeAt_21 (n := 22) rfl ?_
    refine tw_iald hE (by decide) dX2_timeAt_22 (n := 23) rfl (fun x4 => ?_)
    refine tw_icmp_ne dX2_timeAt_23 (t := 52) (by decide) (n := 26) rfl ?_ ?_
    · refine x_aload_nr 1 dX2_timeAt_52 rfl rfl (n := 53) rfl ?_
      refine x_iload_n 2 dX2_timeAt_53 rfl rfl (n := 54) rfl ?_
      refine tw_callV_I [.int a1] [] (T_missedBy_ok hO hE s0 a1) md_X2_missedBy q3136 q3138 qs83 dX2_timeAt_54 rfl rfl (by decide) (Nat.le_of_ble_eq_true rfl) (n := 57) rfl (fun x6 s5 => ?_)
      refine x_pop dX2_timeAt_57 rfl (n := 58) rfl ?_
      refine x_aload_nr 1 dX2_timeAt_58 rfl rfl (n := 59) rfl ?_
      refine tw_getA fl_X2_32 rfl (by decide) dX2_timeAt_59 (n := 62) rfl ?_
      refine x_iload_n 3 dX2_timeAt_62 rfl rfl (n := 63) rfl ?_
      refine tw_iald hE (by decide) dX2_timeAt_63 (n := 64) rfl (fun x7 => ?_)
      refine x_iconst (-1) dX2_timeAt_64 rfl (n := 65) rfl ?_
      refine tw_icmp_ne dX2_timeAt_65 (t := 72) (by decide) (n := 68) rfl ?_ ?_
      · refine x_aload_nr 1 dX2_timeAt_72 rfl rfl (n := 73) rfl ?_
        refine x_iload_n 2 dX2_timeAt_73 rfl rfl (n := 74) rfl ?_
        refine x_aload_nr 1 dX2_timeAt_74 rfl rfl (n := 75) rfl ?_
        refine tw_getA fl_X2_32 rfl (by decide) dX2_timeAt_75 (n := 78) rfl ?_
        refine x_iload_n 3 dX2_timeAt_78 rfl rfl (n := 79) rfl ?_
        refine tw_iald hE (by decide) dX2_timeAt_79 (n := 80) rfl (fun x8 => ?_)
        refine tw_callV_I [.int a1, .int x8] [] (T_punchTime_ok hO hE s5 a1 x8) md_X2_punchTime q3187 q3189 qs94 dX2_timeAt_80 rfl rfl (by decide) (Nat.le_of_ble_eq_true rfl) (n := 83) rfl (fun x10 s9 => ?_)
        exact tw_ireturn dX2_timeAt_83
      · refine x_iconst (-1) dX2_timeAt_68 rfl (n := 69) rfl ?_
        refine x_goto dX2_timeAt_69 (n := 83) (by decide) ?_
        exact tw_ireturn dX2_timeAt_83
    · refine x_sub [1, 2, 3] [(0, .ref E.2.1), (1, .int a1), (2, .int a2)] rfl ?_
      exact T_timeAt_26_ok hO hE a1 a2 s0
abbrev cX2_legOf : ByteArray := prog_14_method_44_code
def yX2_legOf : MethodName := ⟨RX2, "legOf", "(II)I"⟩
def dkwX2_legOf_1 : List UInt8 := [2, 160, 0, 8, 16, 254, 167, 0, 7, 21, 4, 29, 100, 172]
abbrev dktX2_legOf_1 : List UInt8 := dkwX2_legOf_1 ++ []
def dkwX2_legOf_0 : List UInt8 := [42, 27, 28, 4, 100, 182, 0, 212, 62, 42, 27, 28, 182, 0, 212, 54, 4, 29, 2, 159, 0, 9, 21, 4]
abbrev dktX2_legOf_0 : List UInt8 := dkwX2_legOf_0 ++ dktX2_legOf_1
theorem dksX2_legOf_0 : cX2_legOf.data.toList.drop 0 = dktX2_legOf_0 := by decide +kernel
theorem dksX2_legOf_1 : cX2_legOf.data.toList.drop 24 = dktX2_legOf_1 := dk_seg dksX2_legOf_0 24 rfl rfl
theorem dX2_legOf_0 : decode cX2_legOf 0 = .ok (.aload_n 0, 1) := dk_42 (dk_at dksX2_legOf_0 0 rfl rfl)
theorem dX2_legOf_1 : decode cX2_legOf 1 = .ok (.iload_n 1, 1) := dk_27 (dk_at dksX2_legOf_0 1 rfl rfl)
theorem dX2_legOf_2 : decode cX2_legOf 2 = .ok (.iload_n 2, 1) := dk_28 (dk_at dksX2_legOf_0 2 rfl rfl)
theorem dX2_legOf_3 : decode cX2_legOf 3 = .ok (.iconst 1, 1) := dk_4 (dk_at dksX2_legOf_0 3 rfl rfl)
theorem dX2_legOf_4 : decode cX2_legOf 4 = .ok (.isub, 1) := dk_100 (dk_at dksX2_legOf_0 4 rfl rfl)
theorem dX2_legOf_5 : decode cX2_legOf 5 = .ok (.invokevirtual 212, 3) := dk_182 0 212 (dk_at dksX2_legOf_0 5 rfl rfl)
theorem dX2_legOf_8 : decode cX2_legOf 8 = .ok (.istore_n 3, 1) := dk_62 (dk_at dksX2_legOf_0 8 rfl rfl)
theorem dX2_legOf_9 : decode cX2_legOf 9 = .ok (.aload_n 0, 1) := dk_42 (dk_at dksX2_legOf_0 9 rfl rfl)
theorem dX2_legOf_10 : decode cX2_legOf 10 = .ok (.iload_n 1, 1) := dk_27 (dk_at dksX2_legOf_0 10 rfl rfl)
theorem dX2_legOf_11 : decode cX2_legOf 11 = .ok (.iload_n 2, 1) := dk_28 (dk_at dksX2_legOf_0 11 rfl rfl)
theorem dX2_legOf_12 : decode cX2_legOf 12 = .ok (.invokevirtual 212, 3) := dk_182 0 212 (dk_at dksX2_legOf_0 12 rfl rfl)
theorem dX2_legOf_15 : decode cX2_legOf 15 = .ok (.istore 4, 2) := dk_54 4 (dk_at dksX2_legOf_0 15 rfl rfl)
theorem dX2_legOf_17 : decode cX2_legOf 17 = .ok (.iload_n 3, 1) := dk_29 (dk_at dksX2_legOf_0 17 rfl rfl)
theorem dX2_legOf_18 : decode cX2_legOf 18 = .ok (.iconst (-1), 1) := dk_2 (dk_at dksX2_legOf_0 18 rfl rfl)
theorem dX2_legOf_19 : decode cX2_legOf 19 = .ok (.if_icmp .eq 9, 3) := dk_159 0 9 (dk_at dksX2_legOf_0 19 rfl rfl)
theorem dX2_legOf_22 : decode cX2_legOf 22 = .ok (.iload 4, 2) := dk_21 4 (dk_at dksX2_legOf_0 22 rfl rfl)
theorem dX2_legOf_24 : decode cX2_legOf 24 = .ok (.iconst (-1), 1) := dk_2 (dk_at dksX2_legOf_1 0 rfl rfl)
theorem dX2_legOf_25 : decode cX2_legOf 25 = .ok (.if_icmp .ne 8, 3) := dk_160 0 8 (dk_at dksX2_legOf_1 1 rfl rfl)
theorem dX2_legOf_28 : decode cX2_legOf 28 = .ok (.bipush (-2), 2) := dk_16 254 (dk_at dksX2_legOf_1 4 rfl rfl)
theorem dX2_legOf_30 : decode cX2_legOf 30 = .ok (.goto 7, 3) := dk_167 0 7 (dk_at dksX2_legOf_1 6 rfl rfl)
theorem dX2_legOf_33 : decode cX2_legOf 33 = .ok (.iload 4, 2) := dk_21 4 (dk_at dksX2_legOf_1 9 rfl rfl)
theorem dX2_legOf_35 : decode cX2_legOf 35 = .ok (.iload_n 3, 1) := dk_29 (dk_at dksX2_legOf_1 11 rfl rfl)
theorem dX2_legOf_36 : decode cX2_legOf 36 = .ok (.isub, 1) := dk_100 (dk_at dksX2_legOf_1 12 rfl rfl)
theorem dX2_legOf_37 : decode cX2_legOf 37 = .ok (.ireturn, 1) := dk_172 (dk_at dksX2_legOf_1 13 rfl rfl)
theorem md_X2_legOf : xMd yX2_legOf cX2_legOf 5 (Option.some Jvm.ClassFile.FieldType.int) 2 := ⟨q3182, q126, by decide, by decide +kernel, by decide +kernel, by decide +kernel⟩
def T_legOf (s0 : TS) (a1 : Int32) (a2 : Int32) : Option (xO × TS) :=
  (xcI (T_timeAt s0 a1 (a2 - 1)) fun x2 s1 =>
  (xcI (T_timeAt s1 a1 a2) fun x4 s3 =>
  (if x2 = (-1) then
  (rI (-2) s3) else
  (if x4 = (-1) then
  (rI (-2) s3) else
  (rI (x4 - x2) s3)))))
theorem T_legOf_ok {G : xG} {E : TE} (hO : xOK G) (hE : tok E) (s0 : TS) (a1 : Int32) (a2 : Int32) : CTT G E 4 yX2_legOf cX2_legOf 5 (Option.some Jvm.ClassFile.FieldType.int) [.ref E.2.1, .int a1, .int a2] s0 (T_legOf s0 a1 a2) := by
  refine CT_of hO (by decide +kernel) (by decide +kernel) (Nat.le_of_ble_eq_true rfl) ?_
  show XT G E "ForestLegsModel" "legOf" cX2_legOf 5 (Option.some Jvm.ClassFile.FieldType.int) 4 0 [(0, .ref E.2.1), (1, .int a1), (2, .int a2)] [] s0 (T_legOf s0 a1 a2)
  refine x_aload_nr 0 dX2_legOf_0 rfl rfl (n := 1) rfl ?_
  refine x_iload_n 1 dX2_legOf_1 rfl rfl (n := 2) rfl ?_
  refine x_iload_n 2 dX2_legOf_2 rfl rfl (n := 3) rfl ?_
  refine x_iconst 1 dX2_legOf_3 rfl (n := 4) rfl ?_
  refine x_isub dX2_legOf_4 (n := 5) rfl ?_
  refine tw_callV_I [.int a1, .int (a2 - 1)] [] (T_timeAt_ok hO hE s0 a1 (a2 - 1)) md_X2_timeAt q3183 q3185 qs93 dX2_legOf_5 rfl rfl (by decide) (Nat.le_of_ble_eq_true rfl) (n := 8) rfl (fun x2 s1 => ?_)
  refine x_istore_n [(3, .int x2), (0, .ref E.2.1), (1, .int a1), (2, .int a2)] dX2_legOf_8 rfl (by decide) rfl (n := 9) rfl ?_
  refine x_aload_nr 1 dX2_legOf_9 rfl rfl (n := 10) rfl ?_
  refine x_iload_n 2 dX2_legOf_10 rfl rfl (n := 11) rfl ?_
  refine x_iload_n 3 dX2_legOf_11 rfl rfl (n := 12) rfl ?_
  refine tw_callV_I [.int a1, .int a2] [] (T_timeAt_ok hO hE s1 a1 a2) md_X2_timeAt q3183 q3185 qs93 dX2_legOf_12 rfl rfl (by decide) (Nat.le_of_ble_eq_true rfl) (n := 15) rfl (fun x4 s3 => ?_)
  refine x_istore [(4, .int x4), (3, .int x2), (0, .ref E.2.1), (1, .int a1), (2, .int a2)] dX2_legOf_15 (by decide) rfl (n := 17) rfl ?_
  refine x_iload_n 1 dX2_legOf_17 rfl rfl (n := 18) rfl ?_
  refine x_iconst (-1) dX2_legOf_18 rfl (n := 19) rfl ?_
  refine tw_icmp_eq dX2_legOf_19 (t := 28) (by decide) (n := 22) rfl ?_ ?_
  · refine x_bipush (-2) dX2_legOf_28 rfl (n := 30) rfl ?_
    refine x_goto dX2_legOf_30 (n := 37) (by decide) ?_
    exact tw_ireturn dX2_legOf_37
  · refine x_iload 0 dX2_legOf_22 rfl (n := 24) rfl ?_
    refine x_iconst (-1) dX2_legOf_24 rfl (n := 25) rfl ?_
    refine tw_icmp_ne dX2_legOf_25 (t := 33) (by decide) (n := 28) rfl ?_ ?_
    · refine x_iload 0 dX2_legOf_33 rfl (n := 35) rfl ?_
      refine x_iload_n 1 dX2_legOf_35 rfl rfl (n := 36) rfl ?_
      refine x_isub dX2_legOf_36 (n := 37) rfl ?_
      exact tw_ireturn dX2_legOf_37
    · refine x_bipush (-2) dX2_legOf_28 rfl (n := 30) rfl ?_
      refine x_goto dX2_legOf_30 (n := 37) (by decide) ?_
      exact tw_ireturn dX2_legOf_37
abbrev cX2_splitOf : ByteArray := prog_14_method_43_code
def yX2_splitOf : MethodName := ⟨RX2, "splitOf", "(II)I"⟩
def dkwX2_splitOf_1 : List UInt8 := [27, 96, 46, 100, 172]
abbrev dktX2_splitOf_1 : List UInt8 := dkwX2_splitOf_1 ++ []
def dkwX2_splitOf_0 : List UInt8 := [42, 27, 28, 182, 0, 212, 62, 29, 2, 160, 0, 8, 16, 254, 167, 0, 14, 29, 42, 180, 0, 17, 16, 47]
abbrev dktX2_splitOf_0 : List UInt8 := dkwX2_splitOf_0 ++ dktX2_splitOf_1
theorem dksX2_splitOf_0 : cX2_splitOf.data.toList.drop 0 = dktX2_splitOf_0 := by decide +kernel
theorem dksX2_splitOf_1 : cX2_splitOf.data.toList.drop 24 = dktX2_splitOf_1 := dk_seg dksX2_splitOf_0 24 rfl rfl
theorem dX2_splitOf_0 : decode cX2_splitOf 0 = .ok (.aload_n 0, 1) := dk_42 (dk_at dksX2_splitOf_0 0 rfl rfl)
theorem dX2_splitOf_1 : decode cX2_splitOf 1 = .ok (.iload_n 1, 1) := dk_27 (dk_at dksX2_splitOf_0 1 rfl rfl)
theorem dX2_splitOf_2 : decode cX2_splitOf 2 = .ok (.iload_n 2, 1) := dk_28 (dk_at dksX2_splitOf_0 2 rfl rfl)
theorem dX2_splitOf_3 : decode cX2_splitOf 3 = .ok (.invokevirtual 212, 3) := dk_182 0 212 (dk_at dksX2_splitOf_0 3 rfl rfl)
theorem dX2_splitOf_6 : decode cX2_splitOf 6 = .ok (.istore_n 3, 1) := dk_62 (dk_at dksX2_splitOf_0 6 rfl rfl)
theorem dX2_splitOf_7 : decode cX2_splitOf 7 = .ok (.iload_n 3, 1) := dk_29 (dk_at dksX2_splitOf_0 7 rfl rfl)
theorem dX2_splitOf_8 : decode cX2_splitOf 8 = .ok (.iconst (-1), 1) := dk_2 (dk_at dksX2_splitOf_0 8 rfl rfl)
theorem dX2_splitOf_9 : decode cX2_splitOf 9 = .ok (.if_icmp .ne 8, 3) := dk_160 0 8 (dk_at dksX2_splitOf_0 9 rfl rfl)
theorem dX2_splitOf_12 : decode cX2_splitOf 12 = .ok (.bipush (-2), 2) := dk_16 254 (dk_at dksX2_splitOf_0 12 rfl rfl)
theorem dX2_splitOf_14 : decode cX2_splitOf 14 = .ok (.goto 14, 3) := dk_167 0 14 (dk_at dksX2_splitOf_0 14 rfl rfl)
theorem dX2_splitOf_17 : decode cX2_splitOf 17 = .ok (.iload_n 3, 1) := dk_29 (dk_at dksX2_splitOf_0 17 rfl rfl)
theorem dX2_splitOf_18 : decode cX2_splitOf 18 = .ok (.aload_n 0, 1) := dk_42 (dk_at dksX2_splitOf_0 18 rfl rfl)
theorem dX2_splitOf_19 : decode cX2_splitOf 19 = .ok (.getfield 17, 3) := dk_180 0 17 (dk_at dksX2_splitOf_0 19 rfl rfl)
theorem dX2_splitOf_22 : decode cX2_splitOf 22 = .ok (.bipush 47, 2) := dk_16 47 (dk_at dksX2_splitOf_0 22 rfl rfl)
theorem dX2_splitOf_24 : decode cX2_splitOf 24 = .ok (.iload_n 1, 1) := dk_27 (dk_at dksX2_splitOf_1 0 rfl rfl)
theorem dX2_splitOf_25 : decode cX2_splitOf 25 = .ok (.iadd, 1) := dk_96 (dk_at dksX2_splitOf_1 1 rfl rfl)
theorem dX2_splitOf_26 : decode cX2_splitOf 26 = .ok (.iaload, 1) := dk_46 (dk_at dksX2_splitOf_1 2 rfl rfl)
theorem dX2_splitOf_27 : decode cX2_splitOf 27 = .ok (.isub, 1) := dk_100 (dk_at dksX2_splitOf_1 3 rfl rfl)
theorem dX2_splitOf_28 : decode cX2_splitOf 28 = .ok (.ireturn, 1) := dk_172 (dk_at dksX2_splitOf_1 4 rfl rfl)
theorem md_X2_splitOf : xMd yX2_splitOf cX2_splitOf 4 (Option.some Jvm.ClassFile.FieldType.int) 2 := ⟨q3194, q126, by decide, by decide +kernel, by decide +kernel, by decide +kernel⟩
def T_splitOf (s0 : TS) (a1 : Int32) (a2 : Int32) : Option (xO × TS) :=
  (xcI (T_timeAt s0 a1 a2) fun x2 s1 =>
  (if x2 = (-1) then
  (rI (-2) s1) else
  (tald s1 7 (47 + a1) fun x3 =>
  (rI (x2 - x3) s1))))
theorem T_splitOf_ok {G : xG} {E : TE} (hO : xOK G) (hE : tok E) (s0 : TS) (a1 : Int32) (a2 : Int32) : CTT G E 4 yX2_splitOf cX2_splitOf 4 (Option.some Jvm.ClassFile.FieldType.int) [.ref E.2.1, .int a1, .int a2] s0 (T_splitOf s0 a1 a2) := by
  refine CT_of hO (by decide +kernel) (by decide +kernel) (Nat.le_of_ble_eq_true rfl) ?_
  show XT G E "ForestLegsModel" "splitOf" cX2_splitOf 4 (Option.some Jvm.ClassFile.FieldType.int) 4 0 [(0, .ref E.2.1), (1, .int a1), (2, .int a2)] [] s0 (T_splitOf s0 a1 a2)
  refine x_aload_nr 0 dX2_splitOf_0 rfl rfl (n := 1) rfl ?_
  refine x_iload_n 1 dX2_splitOf_1 rfl rfl (n := 2) rfl ?_
  refine x_iload_n 2 dX2_splitOf_2 rfl rfl (n := 3) rfl ?_
  refine tw_callV_I [.int a1, .int a2] [] (T_timeAt_ok hO hE s0 a1 a2) md_X2_timeAt q3183 q3185 qs93 dX2_splitOf_3 rfl rfl (by decide) (Nat.le_of_ble_eq_true rfl) (n := 6) rfl (fun x2 s1 => ?_)
  refine x_istore_n [(3, .int x2), (0, .ref E.2.1), (1, .int a1), (2, .int a2)] dX2_splitOf_6 rfl (by decide) rfl (n := 7) rfl ?_
  refine x_iload_n 0 dX2_splitOf_7 rfl rfl (n := 8) rfl ?_
  refine x_iconst (-1) dX2_splitOf_8 rfl (n := 9) rfl ?_
  refine tw_icmp_ne dX2_splitOf_9 (t := 17) (by decide) (n := 12) rfl ?_ ?_
  · refine x_iload_n 0 dX2_splitOf_17 rfl rfl (n := 18) rfl ?_
    refine x_aload_nr 1 dX2_splitOf_18 rfl rfl (n := 19) rfl ?_
    refine tw_getA fl_X2_17 rfl (by decide) dX2_splitOf_19 (n := 22) rfl ?_
    refine x_bipush 47 dX2_splitOf_22 rfl (n := 24) rfl ?_
    refine x_iload_n 2 dX2_splitOf_24 rfl rfl (n := 25) rfl ?_
    refine x_iadd dX2_splitOf_25 (n := 26) rfl ?_
    refine tw_iald hE (by decide) dX2_splitOf_26 (n := 27) rfl (fun x3 => ?_)
    refine x_isub dX2_splitOf_27 (n := 28) rfl ?_
    exact tw_ireturn dX2_splitOf_28
  · refine x_bipush (-2) dX2_splitOf_12 rfl (n := 14) rfl ?_
    refine x_goto dX2_splitOf_14 (n := 28) (by decide) ?_
    exact tw_ireturn dX2_splitOf_28
abbrev cX2_bestRunner : ByteArray := prog_14_method_48_code
def yX2_bestRunner : MethodName := ⟨RX2, "bestRunner", "(IIZ)I"⟩
def dkwX2_bestRunner_4 : List UInt8 := [54, 5, 132, 6, 1, 167, 255, 171, 21, 4, 172]
abbrev dktX2_bestRunner_4 : List UInt8 := dkwX2_bestRunner_4 ++ []
def dkwX2_bestRunner_3 : List UInt8 := [159, 0, 25, 21, 4, 16, 254, 159, 0, 10, 21, 7, 21, 5, 162, 0, 11, 21, 6, 54, 4, 21, 7]
abbrev dktX2_bestRunner_3 : List UInt8 := dkwX2_bestRunner_3 ++ dktX2_bestRunner_4
def dkwX2_bestRunner_2 : List UInt8 := [21, 6, 28, 182, 0, 221, 167, 0, 10, 42, 21, 6, 28, 182, 0, 224, 54, 7, 21, 7, 16, 254]
abbrev dktX2_bestRunner_2 : List UInt8 := dkwX2_bestRunner_2 ++ dktX2_bestRunner_3
def dkwX2_bestRunner_1 : List UInt8 := [180, 0, 17, 16, 37, 21, 6, 96, 46, 27, 159, 0, 8, 16, 254, 167, 0, 24, 29, 153, 0, 13, 42]
abbrev dktX2_bestRunner_1 : List UInt8 := dkwX2_bestRunner_1 ++ dktX2_bestRunner_2
def dkwX2_bestRunner_0 : List UInt8 := [16, 254, 54, 4, 3, 54, 5, 3, 54, 6, 21, 6, 42, 180, 0, 17, 4, 46, 162, 0, 80, 42]
abbrev dktX2_bestRunner_0 : List UInt8 := dkwX2_bestRunner_0 ++ dktX2_bestRunner_1
theorem dksX2_bestRunner_0 : cX2_bestRunner.data.toList.drop 0 = dktX2_bestRunner_0 := by decide +kernel
theorem dksX2_bestRunner_1 : cX2_bestRunner.data.toList.drop 22 = dktX2_bestRunner_1 := dk_seg dksX2_bestRunner_0 22 rfl rfl
theorem dksX2_bestRunner_2 : cX2_bestRunner.data.toList.drop 45 = dktX2_bestRunner_2 := dk_seg dksX2_bestRunner_1 23 rfl rfl
theorem dksX2_bestRunner_3 : cX2_bestRunner.data.toList.drop 67 = dktX2_bestRunner_3 := dk_seg dksX2_bestRunner_2 22 rfl rfl
theorem dksX2_bestRunner_4 : cX2_bestRunner.data.toList.drop 90 = dktX2_bestRunner_4 := dk_seg dksX2_bestRunner_3 23 rfl rfl
theorem dX2_bestRunner_0 : decode cX2_bestRunner 0 = .ok (.bipush (-2), 2) := dk_16 254 (dk_at dksX2_bestRunner_0 0 rfl rfl)
theorem dX2_bestRunner_2 : decode cX2_bestRunner 2 = .ok (.istore 4, 2) := dk_54 4 (dk_at dksX2_bestRunner_0 2 rfl rfl)
theorem dX2_bestRunner_4 : decode cX2_bestRunner 4 = .ok (.iconst 0, 1) := dk_3 (dk_at dksX2_bestRunner_0 4 rfl rfl)
theorem dX2_bestRunner_5 : decode cX2_bestRunner 5 = .ok (.istore 5, 2) := dk_54 5 (dk_at dksX2_bestRunner_0 5 rfl rfl)
theorem dX2_bestRunner_7 : decode cX2_bestRunner 7 = .ok (.iconst 0, 1) := dk_3 (dk_at dksX2_bestRunner_0 7 rfl rfl)
theorem dX2_bestRunner_8 : decode cX2_bestRunner 8 = .ok (.istore 6, 2) := dk_54 6 (dk_at dksX2_bestRunner_0 8 rfl rfl)
theorem dX2_bestRunner_10 : decode cX2_bestRunner 10 = .ok (.iload 6, 2) := dk_21 6 (dk_at dksX2_bestRunner_0 10 rfl rfl)
theorem dX2_bestRunner_12 : decode cX2_bestRunner 12 = .ok (.aload_n 0, 1) := dk_42 (dk_at dksX2_bestRunner_0 12 rfl rfl)
theorem dX2_bestRunner_13 : decode cX2_bestRunner 13 = .ok (.getfield 17, 3) := dk_180 0 17 (dk_at dksX2_bestRunner_0 13 rfl rfl)
theorem dX2_bestRunner_16 : decode cX2_bestRunner 16 = .ok (.iconst 1, 1) := dk_4 (dk_at dksX2_bestRunner_0 16 rfl rfl)
theorem dX2_bestRunner_17 : decode cX2_bestRunner 17 = .ok (.iaload, 1) := dk_46 (dk_at dksX2_bestRunner_0 17 rfl rfl)
theorem dX2_bestRunner_18 : decode cX2_bestRunner 18 = .ok (.if_icmp .ge 80, 3) := dk_162 0 80 (dk_at dksX2_bestRunner_0 18 rfl rfl)
theorem dX2_bestRunner_21 : decode cX2_bestRunner 21 = .ok (.aload_n 0, 1) := dk_42 (dk_at dksX2_bestRunner_0 21 rfl rfl)
theorem dX2_bestRunner_22 : decode cX2_bestRunner 22 = .ok (.getfield 17, 3) := dk_180 0 17 (dk_at dksX2_bestRunner_1 0 rfl rfl)
theorem dX2_bestRunner_25 : decode cX2_bestRunner 25 = .ok (.bipush 37, 2) := dk_16 37 (dk_at dksX2_bestRunner_1 3 rfl rfl)
theorem dX2_bestRunner_27 : decode cX2_bestRunner 27 = .ok (.iload 6, 2) := dk_21 6 (dk_at dksX2_bestRunner_1 5 rfl rfl)
theorem dX2_bestRunner_29 : decode cX2_bestRunner 29 = .ok (.iadd, 1) := dk_96 (dk_at dksX2_bestRunner_1 7 rfl rfl)
theorem dX2_bestRunner_30 : decode cX2_bestRunner 30 = .ok (.iaload, 1) := dk_46 (dk_at dksX2_bestRunner_1 8 rfl rfl)
theorem dX2_bestRunner_31 : decode cX2_bestRunner 31 = .ok (.iload_n 1, 1) := dk_27 (dk_at dksX2_bestRunner_1 9 rfl rfl)
theorem dX2_bestRunner_32 : decode cX2_bestRunner 32 = .ok (.if_icmp .eq 8, 3) := dk_159 0 8 (dk_at dksX2_bestRunner_1 10 rfl rfl)
theorem dX2_bestRunner_35 : decode cX2_bestRunner 35 = .ok (.bipush (-2), 2) := dk_16 254 (dk_at dksX2_bestRunner_1 13 rfl rfl)
theorem dX2_bestRunner_37 : decode cX2_bestRunner 37 = .ok (.goto 24, 3) := dk_167 0 24 (dk_at dksX2_bestRunner_1 15 rfl rfl)
theorem dX2_bestRunner_40 : decode cX2_bestRunner 40 = .ok (.iload_n 3, 1) := dk_29 (dk_at dksX2_bestRunner_1 18 rfl rfl)
theorem dX2_bestRunner_41 : decode cX2_bestRunner 41 = .ok (.ifCond .eq 13, 3) := dk_153 0 13 (dk_at dksX2_bestRunner_1 19 rfl rfl)
theorem dX2_bestRunner_44 : decode cX2_bestRunner 44 = .ok (.aload_n 0, 1) := dk_42 (dk_at dksX2_bestRunner_1 22 rfl rfl)
theorem dX2_bestRunner_45 : decode cX2_bestRunner 45 = .ok (.iload 6, 2) := dk_21 6 (dk_at dksX2_bestRunner_2 0 rfl rfl)
theorem dX2_bestRunner_47 : decode cX2_bestRunner 47 = .ok (.iload_n 2, 1) := dk_28 (dk_at dksX2_bestRunner_2 2 rfl rfl)
theorem dX2_bestRunner_48 : decode cX2_bestRunner 48 = .ok (.invokevirtual 221, 3) := dk_182 0 221 (dk_at dksX2_bestRunner_2 3 rfl rfl)
theorem dX2_bestRunner_51 : decode cX2_bestRunner 51 = .ok (.goto 10, 3) := dk_167 0 10 (dk_at dksX2_bestRunner_2 6 rfl rfl)
theorem dX2_bestRunner_54 : decode cX2_bestRunner 54 = .ok (.aload_n 0, 1) := dk_42 (dk_at dksX2_bestRunner_2 9 rfl rfl)
theorem dX2_bestRunner_55 : decode cX2_bestRunner 55 = .ok (.iload 6, 2) := dk_21 6 (dk_at dksX2_bestRunner_2 10 rfl rfl)
theorem dX2_bestRunner_57 : decode cX2_bestRunner 57 = .ok (.iload_n 2, 1) := dk_28 (dk_at dksX2_bestRunner_2 12 rfl rfl)
theorem dX2_bestRunner_58 : decode cX2_bestRunner 58 = .ok (.invokevirtual 224, 3) := dk_182 0 224 (dk_at dksX2_bestRunner_2 13 rfl rfl)
theorem dX2_bestRunner_61 : decode cX2_bestRunner 61 = .ok (.istore 7, 2) := dk_54 7 (dk_at dksX2_bestRunner_2 16 rfl rfl)
theorem dX2_bestRunner_63 : decode cX2_bestRunner 63 = .ok (.iload 7, 2) := dk_21 7 (dk_at dksX2_bestRunner_2 18 rfl rfl)
theorem dX2_bestRunner_65 : decode cX2_bestRunner 65 = .ok (.bipush (-2), 2) := dk_16 254 (dk_at dksX2_bestRunner_2 20 rfl rfl)
theorem dX2_bestRunner_67 : decode cX2_bestRunner 67 = .ok (.if_icmp .eq 25, 3) := dk_159 0 25 (dk_at dksX2_bestRunner_3 0 rfl rfl)
theorem dX2_bestRunner_70 : decode cX2_bestRunner 70 = .ok (.iload 4, 2) := dk_21 4 (dk_at dksX2_bestRunner_3 3 rfl rfl)
theorem dX2_bestRunner_72 : decode cX2_bestRunner 72 = .ok (.bipush (-2), 2) := dk_16 254 (dk_at dksX2_bestRunner_3 5 rfl rfl)
theorem dX2_bestRunner_74 : decode cX2_bestRunner 74 = .ok (.if_icmp .eq 10, 3) := dk_159 0 10 (dk_at dksX2_bestRunner_3 7 rfl rfl)
theorem dX2_bestRunner_77 : decode cX2_bestRunner 77 = .ok (.iload 7, 2) := dk_21 7 (dk_at dksX2_bestRunner_3 10 rfl rfl)
theorem dX2_bestRunner_79 : decode cX2_bestRunner 79 = .ok (.iload 5, 2) := dk_21 5 (dk_at dksX2_bestRunner_3 12 rfl rfl)
theorem dX2_bestRunner_81 : decode cX2_bestRunner 81 = .ok (.if_icmp .ge 11, 3) := dk_162 0 11 (dk_at dksX2_bestRunner_3 14 rfl rfl)
theorem dX2_bestRunner_84 : decode cX2_bestRunner 84 = .ok (.iload 6, 2) := dk_21 6 (dk_at dksX2_bestRunner_3 17 rfl rfl)
theorem dX2_bestRunner_86 : decode cX2_bestRunner 86 = .ok (.istore 4, 2) := dk_54 4 (dk_at dksX2_bestRunner_3 19 rfl rfl)
theorem dX2_bestRunner_88 : decode cX2_bestRunner 88 = .ok (.iload 7, 2) := dk_21 7 (dk_at dksX2_bestRunner_3 21 rfl rfl)
theorem dX2_bestRunner_90 : decode cX2_bestRunner 90 = .ok (.istore 5, 2) := dk_54 5 (dk_at dksX2_bestRunner_4 0 rfl rfl)
theorem dX2_bestRunner_92 : decode cX2_bestRunner 92 = .ok (.iinc 6 1, 3) := dk_132 6 1 (dk_at dksX2_bestRunner_4 2 rfl rfl)
theorem dX2_bestRunner_95 : decode cX2_bestRunner 95 = .ok (.goto (-85), 3) := dk_167 255 171 (dk_at dksX2_bestRunner_4 5 rfl rfl)
theorem dX2_bestRunner_98 : decode cX2_bestRunner 98 = .ok (.iload 4, 2) := dk_21 4 (dk_at dksX2_bestRunner_4 8 rfl rfl)
theorem dX2_bestRunner_100 : decode cX2_bestRunner 100 = .ok (.ireturn, 1) := dk_172 (dk_at dksX2_bestRunner_4 10 rfl rfl)
theorem md_X2_bestRunner : xMd yX2_bestRunner cX2_bestRunner 8 (Option.some Jvm.ClassFile.FieldType.int) 3 := ⟨q3178, q126, by decide, by decide +kernel, by decide +kernel, by decide +kernel⟩
def T_bestRunner_92  (k10 : Int32 × Int32 × Int32 × Int32 × Int32 × Int32 × TS → Option (xO × TS)) (v1 : Int32) (v2 : Int32) (v3 : Int32) (v4 : Int32) (v5 : Int32) (v6 : Int32) (s0 : TS) : Option (xO × TS) :=
  (bnd (v6 + 1) fun x5 =>
  (k10 (v1, v2, v3, v4, v5, x5, s0)))
def T_bestRunner_84  (k10 : Int32 × Int32 × Int32 × Int32 × Int32 × Int32 × TS → Option (xO × TS)) (v1 : Int32) (v2 : Int32) (v3 : Int32) (v6 : Int32) (v7 : Int32) (s0 : TS) : Option (xO × TS) :=
  (T_bestRunner_92 k10 v1 v2 v3 v6 v7 v6 s0)
def T_bestRunner_61  (k10 : Int32 × Int32 × Int32 × Int32 × Int32 × Int32 × TS → Option (xO × TS)) (v1 : Int32) (v2 : Int32) (v3 : Int32) (v4 : Int32) (v5 : Int32) (v6 : Int32) (w0 : Int32) (s0 : TS) : Option (xO × TS) :=
  (if w0 = (-2) then
  (T_bestRunner_92 k10 v1 v2 v3 v4 v5 v6 s0) else
  (if v4 = (-2) then
  (T_bestRunner_84 k10 v1 v2 v3 v6 w0 s0) else
  (if v5 ≤ w0 then
  (T_bestRunner_92 k10 v1 v2 v3 v4 v5 v6 s0) else
  (T_bestRunner_84 k10 v1 v2 v3 v6 w0 s0))))
def T_bestRunner_10F   (k10 : Int32 × Int32 × Int32 × Int32 × Int32 × Int32 × TS → Option (xO × TS)) (p : Int32 × Int32 × Int32 × Int32 × Int32 × Int32 × TS) : Option (xO × TS) := match p with
  | (v1, v2, v3, v4, v5, v6, s0) => (tald s0 7 1 fun x1 =>
  (if x1 ≤ v6 then
  (rI v4 s0) else
  (tald s0 7 (37 + v6) fun x2 =>
  (if x2 = v1 then
  (if v3 = 0 then
  (xcI (T_splitOf s0 v6 v2) fun x4 s3 =>
  (T_bestRunner_61 k10 v1 v2 v3 v4 v5 v6 x4 s3)) else
  (xcI (T_legOf s0 v6 v2) fun x7 s6 =>
  (T_bestRunner_61 k10 v1 v2 v3 v4 v5 v6 x7 s6))) else
  (T_bestRunner_61 k10 v1 v2 v3 v4 v5 v6 (-2) s0)))))
def T_bestRunner (s0 : TS) (a1 : Int32) (a2 : Int32) (a3 : Int32) : Option (xO × TS) :=
  (lp (T_bestRunner_10F) FU (a1, a2, a3, (-2), 0, 0, s0))
theorem T_bestRunner_92_ok {G : xG} {E : TE} (hO : xOK G) (hE : tok E)  {k10 : Int32 × Int32 × Int32 × Int32 × Int32 × Int32 × TS → Option (xO × TS)} (hk10 : ∀ (v1 : Int32) (v2 : Int32) (v3 : Int32) (v4 : Int32) (v5 : Int32) (v6 : Int32) (s0 : TS), XT G E "ForestLegsModel" "bestRunner" cX2_bestRunner 8 (Option.some Jvm.ClassFile.FieldType.int) 5 10 [(0, .ref E.2.1), (1, .int v1), (2, .int v2), (3, .int v3), (4, .int v4), (5, .int v5), (6, .int v6)] [] s0 (k10 (v1, v2, v3, v4, v5, v6, s0))) (v1 : Int32) (v2 : Int32) (v3 : Int32) (v4 : Int32) (v5 : Int32) (v6 : Int32) (s0 : TS) : XT G E "ForestLegsModel" "bestRunner" cX2_bestRunner 8 (Option.some Jvm.ClassFile.FieldType.int) 5 92 [(0, .ref E.2.1), (1, .int v1), (2, .int v2), (3, .int v3), (4, .int v4), (5, .int v5), (6, .int v6)] [] s0 (T_bestRunner_92 k10 v1 v2 v3 v4 v5 v6 s0) := by
  unfold T_bestRunner_92
  refine tw_iinc 6 (fun x5 => [(6, .int x5), (0, .ref E.2.1), (1, .int v1), (2, .int v2), (3, .int v3), (4, .int v4), (5, .int v5)]) dX2_bestRunner_92 rfl rfl (by decide) (fun _ => rfl) (n := 95) rfl (fun x5 => ?_)
  refine x_goto dX2_bestRunner_95 (n := 10) (by decide) ?_
  refine x_sub [1, 2, 3, 4, 5, 6, 0] [(0, .ref E.2.1), (1, .int v1), (2, .int v2), (3, .int v3), (4, .int v4), (5, .int v5), (6, .int x5)] rfl ?_
  exact hk10 v1 v2 v3 v4 v5 x5 s0
theorem T_bestRunner_84_ok {G : xG} {E : TE} (hO : xOK G) (hE : tok E)  {k10 : Int32 × Int32 × Int32 × Int32 × Int32 × Int32 × TS → Option (xO × TS)} (hk10 : ∀ (v1 : Int32) (v2 : Int32) (v3 : Int32) (v4 : Int32) (v5 : Int32) (v6 : Int32) (s0 : TS), XT G E "ForestLegsModel" "bestRunner" cX2_bestRunner 8 (Option.some Jvm.ClassFile.FieldType.int) 5 10 [(0, .ref E.2.1), (1, .int v1), (2, .int v2), (3, .int v3), (4, .int v4), (5, .int v5), (6, .int v6)] [] s0 (k10 (v1, v2, v3, v4, v5, v6, s0))) (v1 : Int32) (v2 : Int32) (v3 : Int32) (v6 : Int32) (v7 : Int32) (s0 : TS) : XT G E "ForestLegsModel" "bestRunner" cX2_bestRunner 8 (Option.some Jvm.ClassFile.FieldType.int) 5 84 [(0, .ref E.2.1), (1, .int v1), (2, .int v2), (3, .int v3), (6, .int v6), (7, .int v7)] [] s0 (T_bestRunner_84 k10 v1 v2 v3 v6 v7 s0) := by
  unfold T_bestRunner_84
  refine x_iload 4 dX2_bestRunner_84 rfl (n := 86) rfl ?_
  refine x_istore [(4, .int v6), (0, .ref E.2.1), (1, .int v1), (2, .int v2), (3, .int v3), (6, .int v6), (7, .int v7)] dX2_bestRunner_86 (by decide) rfl (n := 88) rfl ?_
  refine x_iload 6 dX2_bestRunner_88 rfl (n := 90) rfl ?_
  refine x_istore [(5, .int v7), (4, .int v6), (0, .ref E.2.1), (1, .int v1), (2, .int v2), (3, .int v3), (6, .int v6), (7, .int v7)] dX2_bestRunner_90 (by decide) rfl (n := 92) rfl ?_
  refine x_sub [2, 3, 4, 5, 1, 0, 6] [(0, .ref E.2.1), (1, .int v1), (2, .int v2), (3, .int v3), (4, .int v6), (5, .int v7), (6, .int v6)] rfl ?_
  exact T_bestRunner_92_ok hO hE hk10 v1 v2 v3 v6 v7 v6 s0
theorem T_bestRunner_61_ok {G : xG} {E : TE} (hO : xOK G) (hE : tok E)  {k10 : Int32 × Int32 × Int32 × Int32 × Int32 × Int32 × TS → Option (xO × TS)} (hk10 : ∀ (v1 : Int32) (v2 : Int32) (v3 : Int32) (v4 : Int32) (v5 : Int32) (v6 : Int32) (s0 : TS), XT G E "ForestLegsModel" "bestRunner" cX2_bestRunner 8 (Option.some Jvm.ClassFile.FieldType.int) 5 10 [(0, .ref E.2.1), (1, .int v1), (2, .int v2), (3, .int v3), (4, .int v4), (5, .int v5), (6, .int v6)] [] s0 (k10 (v1, v2, v3, v4, v5, v6, s0))) (v1 : Int32) (v2 : Int32) (v3 : Int32) (v4 : Int32) (v5 : Int32) (v6 : Int32) (w0 : Int32) (s0 : TS) : XT G E "ForestLegsModel" "bestRunner" cX2_bestRunner 8 (Option.some Jvm.ClassFile.FieldType.int) 5 61 [(0, .ref E.2.1), (1, .int v1), (2, .int v2), (3, .int v3), (4, .int v4), (5, .int v5), (6, .int v6)] [.int w0] s0 (T_bestRunner_61 k10 v1 v2 v3 v4 v5 v6 w0 s0) := by
  unfold T_bestRunner_61
  refine x_istore [(7, .int w0), (0, .ref E.2.1), (1, .int v1), (2, .int v2), (3, .int v3), (4, .int v4), (5, .int v5), (6, .int v6)] dX2_bestRunner_61 (by decide) rfl (n := 63) rfl ?_
  refine x_iload 0 dX2_bestRunner_63 rfl (n := 65) rfl ?_
  refine x_bipush (-2) dX2_bestRunner_65 rfl (n := 67) rfl ?_
  refine tw_icmp_eq dX2_bestRunner_67 (t := 92) (by decide) (n := 70) rfl ?_ ?_
  · refine x_sub [1, 2, 3, 4, 5, 6, 7] [(0, .ref E.2.1), (1, .int v1), (2, .int v2), (3, .int v3), (4, .int v4), (5, .int v5), (6, .int v6)] rfl ?_
    exact T_bestRunner_92_ok hO hE hk10 v1 v2 v3 v4 v5 v6 s0
  · refine x_iload 5 dX2_bestRunner_70 rfl (n := 72) rfl ?_
    refine x_bipush (-2) dX2_bestRunner_72 rfl (n := 74) rfl ?_
    refine tw_icmp_eq dX2_bestRunner_74 (t := 84) (by decide) (n := 77) rfl ?_ ?_
    · refine x_sub [1, 2, 3, 4, 7, 0] [(0, .ref E.2.1), (1, .int v1), (2, .int v2), (3, .int v3), (6, .int v6), (7, .int w0)] rfl ?_
      exact T_bestRunner_84_ok hO hE hk10 v1 v2 v3 v6 w0 s0
    · refine x_iload 0 dX2_bestRunner_77 rfl (n := 79) rfl ?_
      refine x_iload 6 dX2_bestRunner_79 rfl (n := 81) rfl ?_
      refine tw_icmp_ge dX2_bestRunner_81 (t := 92) (by decide) (n := 84) rfl ?_ ?_
      · refine x_sub [1, 2, 3, 4, 5, 6, 7] [(0, .ref E.2.1), (1, .int v1), (2, .int v2), (3, .int v3), (4, .int v4), (5, .int v5), (6, .int v6)] rfl ?_
        exact T_bestRunner_92_ok hO hE hk10 v1 v2 v3 v4 v5 v6 s0
      · refine x_sub [1, 2, 3, 4, 7, 0] [(0, .ref E.2.1), (1, .int v1), (2, .int v2), (3, .int v3), (6, .int v6), (7, .int w0)] rfl ?_
        exact T_bestRunner_84_ok hO hE hk10 v1 v2 v3 v6 w0 s0
theorem T_bestRunner_10F_ok {G : xG} {E : TE} (hO : xOK G) (hE : tok E)   {k10 : Int32 × Int32 × Int32 × Int32 × Int32 × Int32 × TS → Option (xO × TS)} (hk10 : ∀ (v1 : Int32) (v2 : Int32) (v3 : Int32) (v4 : Int32) (v5 : Int32) (v6 : Int32) (s0 : TS), XT G E "ForestLegsModel" "bestRunner" cX2_bestRunner 8 (Option.some Jvm.ClassFile.FieldType.int) 5 10 [(0, .ref E.2.1), (1, .int v1), (2, .int v2), (3, .int v3), (4, .int v4), (5, .int v5), (6, .int v6)] [] s0 (k10 (v1, v2, v3, v4, v5, v6, s0))) (v1 : Int32) (v2 : Int32) (v3 : Int32) (v4 : Int32) (v5 : Int32) (v6 : Int32) (s0 : TS) : XT G E "ForestLegsModel" "bestRunner" cX2_bestRunner 8 (Option.some Jvm.ClassFile.FieldType.int) 5 10 [(0, .ref E.2.1), (1, .int v1), (2, .int v2), (3, .int v3), (4, .int v4), (5, .int v5), (6, .int v6)] [] s0 (T_bestRunner_10F k10 (v1, v2, v3, v4, v5, v6, s0)) := by
  unfold T_bestRunner_10F
  refine x_iload 6 dX2_bestRunner_10 rfl (n := 12) rfl ?_
  refine x_aload_nr 0 dX2_bestRunner_12 rfl rfl (n := 13) rfl ?_
  refine tw_getA fl_X2_17 rfl (by decide) dX2_bestRunner_13 (n := 16) rfl ?_
  refine x_iconst 1 dX2_bestRunner_16 rfl (n := 17) rfl ?_
  refine tw_iald hE (by decide) dX2_bestRunner_17 (n := 18) rfl (fun x1 => ?_)
  refine tw_icmp_ge dX2_bestRunner_18 (t := 98) (by decide) (n := 21) rfl ?_ ?_
  · refine x_iload 4 dX2_bestRunner_98 rfl (n := 100) rfl ?_
    exact tw_ireturn dX2_bestRunner_100
  · refine x_aload_nr 0 dX2_bestRunner_21 rfl rfl (n := 22) rfl ?_
    refine tw_getA fl_X2_17 rfl (by decide) dX2_bestRunner_22 (n := 25) rfl ?_
    refine x_bipush 37 dX2_bestRunner_25 rfl (n := 27) rfl ?_
    refine x_iload 6 dX2_bestRunner_27 rfl (n := 29) rfl ?_
    refine x_iadd dX2_bestRunner_29 (n := 30) rfl ?_
    refine tw_iald hE (by decide) dX2_bestRunner_30 (n := 31) rfl (fun x2 => ?_)
    refine x_iload_n 1 dX2_bestRunner_31 rfl rfl (n := 32) rfl ?_
    refine tw_icmp_eq dX2_bestRunner_32 (t := 40) (by decide) (n := 35) rfl ?_ ?_
    · refine x_iload_n 3 dX2_bestRunner_40 rfl rfl (n := 41) rfl ?_
      refine tw_if_eq dX2_bestRunner_41 (t := 54) (by decide) (n := 44) rfl ?_ ?_
      · refine x_aload_nr 0 dX2_bestRunner_54 rfl rfl (n := 55) rfl ?_
        refine x_iload 6 dX2_bestRunner_55 rfl (n := 57) rfl ?_
        refine x_iload_n 2 dX2_bestRunner_57 rfl rfl (n := 58) rfl ?_
        refine tw_callV_I [.int v6, .int v2] [] (T_splitOf_ok hO hE s0 v6 v2) md_X2_splitOf q3191 q3193 qs95 dX2_bestRunner_58 rfl rfl (by decide) (Nat.le_of_ble_eq_true rfl) (n := 61) rfl (fun x4 s3 => ?_)
        exact T_bestRunner_61_ok hO hE hk10 v1 v2 v3 v4 v5 v6 x4 s3
      · refine x_aload_nr 0 dX2_bestRunner_44 rfl rfl (n := 45) rfl ?_
        refine x_iload 6 dX2_bestRunner_45 rfl (n := 47) rfl ?_
        refine x_iload_n 2 dX2_bestRunner_47 rfl rfl (n := 48) rfl ?_
        refine tw_callV_I [.int v6, .int v2] [] (T_legOf_ok hO hE s0 v6 v2) md_X2_legOf q3179 q3181 qs92 dX2_bestRunner_48 rfl rfl (by decide) (Nat.le_of_ble_eq_true rfl) (n := 51) rfl (fun x7 s6 => ?_)
        refine x_goto dX2_bestRunner_51 (n := 61) (by decide) ?_
        exact T_bestRunner_61_ok hO hE hk10 v1 v2 v3 v4 v5 v6 x7 s6
    · refine x_bipush (-2) dX2_bestRunner_35 rfl (n := 37) rfl ?_
      refine x_goto dX2_bestRunner_37 (n := 61) (by decide) ?_
      exact T_bestRunner_61_ok hO hE hk10 v1 v2 v3 v4 v5 v6 (-2) s0
theorem T_bestRunner_10_lp {G : xG} {E : TE} (hO : xOK G) (hE : tok E)   (n : Nat) (v1 : Int32) (v2 : Int32) (v3 : Int32) (v4 : Int32) (v5 : Int32) (v6 : Int32) (s0 : TS) : XT G E "ForestLegsModel" "bestRunner" cX2_bestRunner 8 (Option.some Jvm.ClassFile.FieldType.int) 5 10 [(0, .ref E.2.1), (1, .int v1), (2, .int v2), (3, .int v3), (4, .int v4), (5, .int v5), (6, .int v6)] [] s0 (lp (T_bestRunner_10F) n (v1, v2, v3, v4, v5, v6, s0)) :=
  lp_ok (W := fun p K => XT G E "ForestLegsModel" "bestRunner" cX2_bestRunner 8 (Option.some Jvm.ClassFile.FieldType.int) 5 10 [(0, .ref E.2.1), (1, .int p.1), (2, .int p.2.1), (3, .int p.2.2.1), (4, .int p.2.2.2.1), (5, .int p.2.2.2.2.1), (6, .int p.2.2.2.2.2.1)] [] p.2.2.2.2.2.2 K) (fun _ => tw_no) (fun k hk => fun (v1, v2, v3, v4, v5, v6, s0) => T_bestRunner_10F_ok hO hE (fun v1 v2 v3 v4 v5 v6 s0 => hk (v1, v2, v3, v4, v5, v6, s0)) v1 v2 v3 v4 v5 v6 s0) n (v1, v2, v3, v4, v5, v6, s0)
theorem T_bestRunner_ok {G : xG} {E : TE} (hO : xOK G) (hE : tok E) (s0 : TS) (a1 : Int32) (a2 : Int32) (a3 : Int32) : CTT G E 5 yX2_bestRunner cX2_bestRunner 8 (Option.some Jvm.ClassFile.FieldType.int) [.ref E.2.1, .int a1, .int a2, .int a3] s0 (T_bestRunner s0 a1 a2 a3) := by
  refine CT_of hO (by decide +kernel) (by decide +kernel) (Nat.le_of_ble_eq_true rfl) ?_
  show XT G E "ForestLegsModel" "bestRunner" cX2_bestRunner 8 (Option.some Jvm.ClassFile.FieldType.int) 5 0 [(0, .ref E.2.1), (1, .int a1), (2, .int a2), (3, .int a3)] [] s0 (T_bestRunner s0 a1 a2 a3)
  refine x_bipush (-2) dX2_bestRunner_0 rfl (n := 2) rfl ?_
  refine x_istore [(4, .int (-2)), (0, .ref E.2.1), (1, .int a1), (2, .int a2), (3, .int a3)] dX2_bestRunner_2 (by decide) rfl (n := 4) rfl ?_
  refine x_iconst 0 dX2_bestRunner_4 rfl (n := 5) rfl ?_
  refine x_istore [(5, .int 0), (4, .int (-2)), (0, .ref E.2.1), (1, .int a1), (2, .int a2), (3, .int a3)] dX2_bestRunner_5 (by decide) rfl (n := 7) rfl ?_
  refine x_iconst 0 dX2_bestRunner_7 rfl (n := 8) rfl ?_
  refine x_istore [(6, .int 0), (5, .int 0), (4, .int (-2)), (0, .ref E.2.1), (1, .int a1), (2, .int a2), (3, .int a3)] dX2_bestRunner_8 (by decide) rfl (n := 10) rfl ?_
  refine x_sub [3, 4, 5, 6, 2, 1, 0] [(0, .ref E.2.1), (1, .int a1), (2, .int a2), (3, .int a3), (4, .int (-2)), (5, .int 0), (6, .int 0)] rfl ?_
  exact T_bestRunner_10_lp hO hE FU a1 a2 a3 (-2) 0 0 s0
abbrev cX2_bestLeg : ByteArray := prog_14_method_49_code
def yX2_bestLeg : MethodName := ⟨RX2, "bestLeg", "(II)I"⟩
def dkwX2_bestLeg_1 : List UInt8 := [182, 0, 221, 172]
abbrev dktX2_bestLeg_1 : List UInt8 := dkwX2_bestLeg_1 ++ []
def dkwX2_bestLeg_0 : List UInt8 := [42, 27, 28, 4, 182, 0, 227, 62, 29, 16, 254, 160, 0, 8, 16, 254, 167, 0, 9, 42, 29, 28]
abbrev dktX2_bestLeg_0 : List UInt8 := dkwX2_bestLeg_0 ++ dktX2_bestLeg_1
theorem dksX2_bestLeg_0 : cX2_bestLeg.data.toList.drop 0 = dktX2_bestLeg_0 := by decide +kernel
theorem dksX2_bestLeg_1 : cX2_bestLeg.data.toList.drop 22 = dktX2_bestLeg_1 := dk_seg dksX2_bestLeg_0 22 rfl rfl
theorem dX2_bestLeg_0 : decode cX2_bestLeg 0 = .ok (.aload_n 0, 1) := dk_42 (dk_at dksX2_bestLeg_0 0 rfl rfl)
theorem dX2_bestLeg_1 : decode cX2_bestLeg 1 = .ok (.iload_n 1, 1) := dk_27 (dk_at dksX2_bestLeg_0 1 rfl rfl)
theorem dX2_bestLeg_2 : decode cX2_bestLeg 2 = .ok (.iload_n 2, 1) := dk_28 (dk_at dksX2_bestLeg_0 2 rfl rfl)
theorem dX2_bestLeg_3 : decode cX2_bestLeg 3 = .ok (.iconst 1, 1) := dk_4 (dk_at dksX2_bestLeg_0 3 rfl rfl)
theorem dX2_bestLeg_4 : decode cX2_bestLeg 4 = .ok (.invokevirtual 227, 3) := dk_182 0 227 (dk_at dksX2_bestLeg_0 4 rfl rfl)
theorem dX2_bestLeg_7 : decode cX2_bestLeg 7 = .ok (.istore_n 3, 1) := dk_62 (dk_at dksX2_bestLeg_0 7 rfl rfl)
theorem dX2_bestLeg_8 : decode cX2_bestLeg 8 = .ok (.iload_n 3, 1) := dk_29 (dk_at dksX2_bestLeg_0 8 rfl rfl)
theorem dX2_bestLeg_9 : decode cX2_bestLeg 9 = .ok (.bipush (-2), 2) := dk_16 254 (dk_at dksX2_bestLeg_0 9 rfl rfl)
theorem dX2_bestLeg_11 : decode cX2_bestLeg 11 = .ok (.if_icmp .ne 8, 3) := dk_160 0 8 (dk_at dksX2_bestLeg_0 11 rfl rfl)
theorem dX2_bestLeg_14 : decode cX2_bestLeg 14 = .ok (.bipush (-2), 2) := dk_16 254 (dk_at dksX2_bestLeg_0 14 rfl rfl)
theorem dX2_bestLeg_16 : decode cX2_bestLeg 16 = .ok (.goto 9, 3) := dk_167 0 9 (dk_at dksX2_bestLeg_0 16 rfl rfl)
theorem dX2_bestLeg_19 : decode cX2_bestLeg 19 = .ok (.aload_n 0, 1) := dk_42 (dk_at dksX2_bestLeg_0 19 rfl rfl)
theorem dX2_bestLeg_20 : decode cX2_bestLeg 20 = .ok (.iload_n 3, 1) := dk_29 (dk_at dksX2_bestLeg_0 20 rfl rfl)
theorem dX2_bestLeg_21 : decode cX2_bestLeg 21 = .ok (.iload_n 2, 1) := dk_28 (dk_at dksX2_bestLeg_0 21 rfl rfl)
theorem dX2_bestLeg_22 : decode cX2_bestLeg 22 = .ok (.invokevirtual 221, 3) := dk_182 0 221 (dk_at dksX2_bestLeg_1 0 rfl rfl)
theorem dX2_bestLeg_25 : decode cX2_bestLeg 25 = .ok (.ireturn, 1) := dk_172 (dk_at dksX2_bestLeg_1 3 rfl rfl)
theorem md_X2_bestLeg : xMd yX2_bestLeg cX2_bestLeg 4 (Option.some Jvm.ClassFile.FieldType.int) 2 := ⟨q3174, q126, by decide, by decide +kernel, by decide +kernel, by decide +kernel⟩
def T_bestLeg (s0 : TS) (a1 : Int32) (a2 : Int32) : Option (xO × TS) :=
  (xcI (T_bestRunner s0 a1 a2 1) fun x2 s1 =>
  (if x2 = (-2) then
  (rI (-2) s1) else
  (xcI (T_legOf s1 x2 a2) fun x4 s3 =>
  (rI x4 s3))))
theorem T_bestLeg_ok {G : xG} {E : TE} (hO : xOK G) (hE : tok E) (s0 : TS) (a1 : Int32) (a2 : Int32) : CTT G E 6 yX2_bestLeg cX2_bestLeg 4 (Option.some Jvm.ClassFile.FieldType.int) [.ref E.2.1, .int a1, .int a2] s0 (T_bestLeg s0 a1 a2) := by
  refine CT_of hO (by decide +kernel) (by decide +kernel) (Nat.le_of_ble_eq_true rfl) ?_
  show XT G E "ForestLegsModel" "bestLeg" cX2_bestLeg 4 (Option.some Jvm.ClassFile.FieldType.int) 6 0 [(0, .ref E.2.1), (1, .int a1), (2, .int a2)] [] s0 (T_bestLeg s0 a1 a2)
  refine x_aload_nr 0 dX2_bestLeg_0 rfl rfl (n := 1) rfl ?_
  refine x_iload_n 1 dX2_bestLeg_1 rfl rfl (n := 2) rfl ?_
  refine x_iload_n 2 dX2_bestLeg_2 rfl rfl (n := 3) rfl ?_
  refine x_iconst 1 dX2_bestLeg_3 rfl (n := 4) rfl ?_
  refine tw_callV_I [.int a1, .int a2, .int 1] [] (T_bestRunner_ok hO hE s0 a1 a2 1) md_X2_bestRunner q3175 q3177 qs91 dX2_bestLeg_4 rfl rfl (by decide) (Nat.le_of_ble_eq_true rfl) (n := 7) rfl (fun x2 s1 => ?_)
  refine x_istore_n [(3, .int x2), (0, .ref E.2.1), (1, .int a1), (2, .int a2)] dX2_bestLeg_7 rfl (by decide) rfl (n := 8) rfl ?_
  refine x_iload_n 0 dX2_bestLeg_8 rfl rfl (n := 9) rfl ?_
  refine x_bipush (-2) dX2_bestLeg_9 rfl (n := 11) rfl ?_
  refine tw_icmp_ne dX2_bestLeg_11 (t := 19) (by decide) (n := 14) rfl ?_ ?_
  · refine x_aload_nr 1 dX2_bestLeg_19 rfl rfl (n := 20) rfl ?_
    refine x_iload_n 0 dX2_bestLeg_20 rfl rfl (n := 21) rfl ?_
    refine x_iload_n 3 dX2_bestLeg_21 rfl rfl (n := 22) rfl ?_
    refine tw_callV_I [.int x2, .int a2] [] (T_legOf_ok hO hE s1 x2 a2) md_X2_legOf q3179 q3181 qs92 dX2_bestLeg_22 rfl rfl (by decide) (Nat.le_of_ble_eq_true rfl) (n := 25) rfl (fun x4 s3 => ?_)
    exact tw_ireturn dX2_bestLeg_25
  · refine x_bipush (-2) dX2_bestLeg_14 rfl (n := 16) rfl ?_
    refine x_goto dX2_bestLeg_16 (n := 25) (by decide) ?_
    exact tw_ireturn dX2_bestLeg_25
abbrev cX2_idealOf : ByteArray := prog_14_method_50_code
def yX2_idealOf : MethodName := ⟨RX2, "idealOf", "(I)I"⟩
def dkwX2_idealOf_1 : List UInt8 := [21, 4, 16, 254, 160, 0, 6, 16, 254, 172, 28, 21, 4, 96, 61, 132, 3, 1, 167, 255, 218, 28, 172]
abbrev dktX2_idealOf_1 : List UInt8 := dkwX2_idealOf_1 ++ []
def dkwX2_idealOf_0 : List UInt8 := [3, 61, 3, 62, 29, 42, 180, 0, 17, 7, 27, 96, 46, 163, 0, 32, 42, 27, 29, 182, 0, 231, 54, 4]
abbrev dktX2_idealOf_0 : List UInt8 := dkwX2_idealOf_0 ++ dktX2_idealOf_1
theorem dksX2_idealOf_0 : cX2_idealOf.data.toList.drop 0 = dktX2_idealOf_0 := by decide +kernel
theorem dksX2_idealOf_1 : cX2_idealOf.data.toList.drop 24 = dktX2_idealOf_1 := dk_seg dksX2_idealOf_0 24 rfl rfl
theorem dX2_idealOf_0 : decode cX2_idealOf 0 = .ok (.iconst 0, 1) := dk_3 (dk_at dksX2_idealOf_0 0 rfl rfl)
theorem dX2_idealOf_1 : decode cX2_idealOf 1 = .ok (.istore_n 2, 1) := dk_61 (dk_at dksX2_idealOf_0 1 rfl rfl)
theorem dX2_idealOf_2 : decode cX2_idealOf 2 = .ok (.iconst 0, 1) := dk_3 (dk_at dksX2_idealOf_0 2 rfl rfl)
theorem dX2_idealOf_3 : decode cX2_idealOf 3 = .ok (.istore_n 3, 1) := dk_62 (dk_at dksX2_idealOf_0 3 rfl rfl)
theorem dX2_idealOf_4 : decode cX2_idealOf 4 = .ok (.iload_n 3, 1) := dk_29 (dk_at dksX2_idealOf_0 4 rfl rfl)
theorem dX2_idealOf_5 : decode cX2_idealOf 5 = .ok (.aload_n 0, 1) := dk_42 (dk_at dksX2_idealOf_0 5 rfl rfl)
theorem dX2_idealOf_6 : decode cX2_idealOf 6 = .ok (.getfield 17, 3) := dk_180 0 17 (dk_at dksX2_idealOf_0 6 rfl rfl)
theorem dX2_idealOf_9 : decode cX2_idealOf 9 = .ok (.iconst 4, 1) := dk_7 (dk_at dksX2_idealOf_0 9 rfl rfl)
theorem dX2_idealOf_10 : decode cX2_idealOf 10 = .ok (.iload_n 1, 1) := dk_27 (dk_at dksX2_idealOf_0 10 rfl rfl)
theorem dX2_idealOf_11 : decode cX2_idealOf 11 = .ok (.iadd, 1) := dk_96 (dk_at dksX2_idealOf_0 11 rfl rfl)
theorem dX2_idealOf_12 : decode cX2_idealOf 12 = .ok (.iaload, 1) := dk_46 (dk_at dksX2_idealOf_0 12 rfl rfl)
theorem dX2_idealOf_13 : decode cX2_idealOf 13 = .ok (.if_icmp .gt 32, 3) := dk_163 0 32 (dk_at dksX2_idealOf_0 13 rfl rfl)
theorem dX2_idealOf_16 : decode cX2_idealOf 16 = .ok (.aload_n 0, 1) := dk_42 (dk_at dksX2_idealOf_0 16 rfl rfl)
theorem dX2_idealOf_17 : decode cX2_idealOf 17 = .ok (.iload_n 1, 1) := dk_27 (dk_at dksX2_idealOf_0 17 rfl rfl)
theorem dX2_idealOf_18 : decode cX2_idealOf 18 = .ok (.iload_n 3, 1) := dk_29 (dk_at dksX2_idealOf_0 18 rfl rfl)
theorem dX2_idealOf_19 : decode cX2_idealOf 19 = .ok (.invokevirtual 231, 3) := dk_182 0 231 (dk_at dksX2_idealOf_0 19 rfl rfl)
theorem dX2_idealOf_22 : decode cX2_idealOf 22 = .ok (.istore 4, 2) := dk_54 4 (dk_at dksX2_idealOf_0 22 rfl rfl)
theorem dX2_idealOf_24 : decode cX2_idealOf 24 = .ok (.iload 4, 2) := dk_21 4 (dk_at dksX2_idealOf_1 0 rfl rfl)
theorem dX2_idealOf_26 : decode cX2_idealOf 26 = .ok (.bipush (-2), 2) := dk_16 254 (dk_at dksX2_idealOf_1 2 rfl rfl)
theorem dX2_idealOf_28 : decode cX2_idealOf 28 = .ok (.if_icmp .ne 6, 3) := dk_160 0 6 (dk_at dksX2_idealOf_1 4 rfl rfl)
theorem dX2_idealOf_31 : decode cX2_idealOf 31 = .ok (.bipush (-2), 2) := dk_16 254 (dk_at dksX2_idealOf_1 7 rfl rfl)
theorem dX2_idealOf_33 : decode cX2_idealOf 33 = .ok (.ireturn, 1) := dk_172 (dk_at dksX2_idealOf_1 9 rfl rfl)
theorem dX2_idealOf_34 : decode cX2_idealOf 34 = .ok (.iload_n 2, 1) := dk_28 (dk_at dksX2_idealOf_1 10 rfl rfl)
theorem dX2_idealOf_35 : decode cX2_idealOf 35 = .ok (.iload 4, 2) := dk_21 4 (dk_at dksX2_idealOf_1 11 rfl rfl)
theorem dX2_idealOf_37 : decode cX2_idealOf 37 = .ok (.iadd, 1) := dk_96 (dk_at dksX2_idealOf_1 13 rfl rfl)
theorem dX2_idealOf_38 : decode cX2_idealOf 38 = .ok (.istore_n 2, 1) := dk_61 (dk_at dksX2_idealOf_1 14 rfl rfl)
theorem dX2_idealOf_39 : decode cX2_idealOf 39 = .ok (.iinc 3 1, 3) := dk_132 3 1 (dk_at dksX2_idealOf_1 15 rfl rfl)
theorem dX2_idealOf_42 : decode cX2_idealOf 42 = .ok (.goto (-38), 3) := dk_167 255 218 (dk_at dksX2_idealOf_1 18 rfl rfl)
theorem dX2_idealOf_45 : decode cX2_idealOf 45 = .ok (.iload_n 2, 1) := dk_28 (dk_at dksX2_idealOf_1 21 rfl rfl)
theorem dX2_idealOf_46 : decode cX2_idealOf 46 = .ok (.ireturn, 1) := dk_172 (dk_at dksX2_idealOf_1 22 rfl rfl)
theorem md_X2_idealOf : xMd yX2_idealOf cX2_idealOf 5 (Option.some Jvm.ClassFile.FieldType.int) 1 := ⟨q3170, q126, by decide, by decide +kernel, by decide +kernel, by decide +kernel⟩
def T_idealOf_4F   (k4 : Int32 × Int32 × Int32 × TS → Option (xO × TS)) (p : Int32 × Int32 × Int32 × TS) : Option (xO × TS) := match p with
  | (v1, v2, v3, s0) => (tald s0 7 (4 + v1) fun x1 =>
  (if x1 < v3 then
  (rI v2 s0) else
  (xcI (T_bestLeg s0 v1 v3) fun x3 s2 =>
  (if x3 = (-2) then
  (rI (-2) s2) else
  (bnd (v2 + x3) fun x4 =>
  (bnd (v3 + 1) fun x5 =>
  (k4 (v1, x4, x5, s2))))))))
def T_idealOf (s0 : TS) (a1 : Int32) : Option (xO × TS) :=
  (lp (T_idealOf_4F) FU (a1, 0, 0, s0))
theorem T_idealOf_4F_ok {G : xG} {E : TE} (hO : xOK G) (hE : tok E)   {k4 : Int32 × Int32 × Int32 × TS → Option (xO × TS)} (hk4 : ∀ (v1 : Int32) (v2 : Int32) (v3 : Int32) (s0 : TS), XT G E "ForestLegsModel" "idealOf" cX2_idealOf 5 (Option.some Jvm.ClassFile.FieldType.int) 7 4 [(0, .ref E.2.1), (1, .int v1), (2, .int v2), (3, .int v3)] [] s0 (k4 (v1, v2, v3, s0))) (v1 : Int32) (v2 : Int32) (v3 : Int32) (s0 : TS) : XT G E "ForestLegsModel" "idealOf" cX2_idealOf 5 (Option.some Jvm.ClassFile.FieldType.int) 7 4 [(0, .ref E.2.1), (1, .int v1), (2, .int v2), (3, .int v3)] [] s0 (T_idealOf_4F k4 (v1, v2, v3, s0)) := by
  unfold T_idealOf_4F
  refine x_iload_n 3 dX2_idealOf_4 rfl rfl (n := 5) rfl ?_
  refine x_aload_nr 0 dX2_idealOf_5 rfl rfl (n := 6) rfl ?_
  refine tw_getA fl_X2_17 rfl (by decide) dX2_idealOf_6 (n := 9) rfl ?_
  refine x_iconst 4 dX2_idealOf_9 rfl (n := 10) rfl ?_
  refine x_iload_n 1 dX2_idealOf_10 rfl rfl (n := 11) rfl ?_
  refine x_iadd dX2_idealOf_11 (n := 12) rfl ?_
  refine tw_iald hE (by decide) dX2_idealOf_12 (n := 13) rfl (fun x1 => ?_)
  refine tw_icmp_gt dX2_idealOf_13 (t := 45) (by decide) (n := 16) rfl ?_ ?_
  · refine x_iload_n 2 dX2_idealOf_45 rfl rfl (n := 46) rfl ?_
    exact tw_ireturn dX2_idealOf_46
  · refine x_aload_nr 0 dX2_idealOf_16 rfl rfl (n := 17) rfl ?_
    refine x_iload_n 1 dX2_idealOf_17 rfl rfl (n := 18) rfl ?_
    refine x_iload_n 3 dX2_idealOf_18 rfl rfl (n := 19) rfl ?_
    refine tw_callV_I [.int v1, .int v3] [] (T_bestLeg_ok hO hE s0 v1 v3) md_X2_bestLeg q3171 q3173 qs90 dX2_idealOf_19 rfl rfl (by decide) (Nat.le_of_ble_eq_true rfl) (n := 22) rfl (fun x3 s2 => ?_)
    refine x_istore [(4, .int x3), (0, .ref E.2.1), (1, .int v1), (2, .int v2), (3, .int v3)] dX2_idealOf_22 (by decide) rfl (n := 24) rfl ?_
    refine x_iload 0 dX2_idealOf_24 rfl (n := 26) rfl ?_
    refine x_bipush (-2) dX2_idealOf_26 rfl (n := 28) rfl ?_
    refine tw_icmp_ne dX2_idealOf_28 (t := 34) (by decide) (n := 31) rfl ?_ ?_
    · refine x_iload_n 3 dX2_idealOf_34 rfl rfl (n := 35) rfl ?_
      refine x_iload 0 dX2_idealOf_35 rfl (n := 37) rfl ?_
      refine x_iadd dX2_idealOf_37 (n := 38) rfl ?_
      refine tw_nm (fun x4 => ?_)
      refine x_istore_n [(2, .int x4), (4, .int x3), (0, .ref E.2.1), (1, .int v1), (3, .int v3)] dX2_idealOf_38 rfl (by decide) rfl (n := 39) rfl ?_
      refine tw_iinc 4 (fun x5 => [(3, .int x5), (2, .int x4), (4, .int x3), (0, .ref E.2.1), (1, .int v1)]) dX2_idealOf_39 rfl rfl (by decide) (fun _ => rfl) (n := 42) rfl (fun x5 => ?_)
      refine x_goto dX2_idealOf_42 (n := 4) (by decide) ?_
      refine x_sub [3, 4, 1, 0] [(0, .ref E.2.1), (1, .int v1), (2, .int x4), (3, .int x5)] rfl ?_
      exact hk4 v1 x4 x5 s2
    · refine x_bipush (-2) dX2_idealOf_31 rfl (n := 33) rfl ?_
      exact tw_ireturn dX2_idealOf_33
theorem T_idealOf_4_lp {G : xG} {E : TE} (hO : xOK G) (hE : tok E)   (n : Nat) (v1 : Int32) (v2 : Int32) (v3 : Int32) (s0 : TS) : XT G E "ForestLegsModel" "idealOf" cX2_idealOf 5 (Option.some Jvm.ClassFile.FieldType.int) 7 4 [(0, .ref E.2.1), (1, .int v1), (2, .int v2), (3, .int v3)] [] s0 (lp (T_idealOf_4F) n (v1, v2, v3, s0)) :=
  lp_ok (W := fun p K => XT G E "ForestLegsModel" "idealOf" cX2_idealOf 5 (Option.some Jvm.ClassFile.FieldType.int) 7 4 [(0, .ref E.2.1), (1, .int p.1), (2, .int p.2.1), (3, .int p.2.2.1)] [] p.2.2.2 K) (fun _ => tw_no) (fun k hk => fun (v1, v2, v3, s0) => T_idealOf_4F_ok hO hE (fun v1 v2 v3 s0 => hk (v1, v2, v3, s0)) v1 v2 v3 s0) n (v1, v2, v3, s0)
theorem T_idealOf_ok {G : xG} {E : TE} (hO : xOK G) (hE : tok E) (s0 : TS) (a1 : Int32) : CTT G E 7 yX2_idealOf cX2_idealOf 5 (Option.some Jvm.ClassFile.FieldType.int) [.ref E.2.1, .int a1] s0 (T_idealOf s0 a1) := by
  refine CT_of hO (by decide +kernel) (by decide +kernel) (Nat.le_of_ble_eq_true rfl) ?_
  show XT G E "ForestLegsModel" "idealOf" cX2_idealOf 5 (Option.some Jvm.ClassFile.FieldType.int) 7 0 [(0, .ref E.2.1), (1, .int a1)] [] s0 (T_idealOf s0 a1)
  refine x_iconst 0 dX2_idealOf_0 rfl (n := 1) rfl ?_
  refine x_istore_n [(2, .int 0), (0, .ref E.2.1), (1, .int a1)] dX2_idealOf_1 rfl (by decide) rfl (n := 2) rfl ?_
  refine x_iconst 0 dX2_idealOf_2 rfl (n := 3) rfl ?_
  refine x_istore_n [(3, .int 0), (2, .int 0), (0, .ref E.2.1), (1, .int a1)] dX2_idealOf_3 rfl (by decide) rfl (n := 4) rfl ?_
  refine x_sub [2, 3, 1, 0] [(0, .ref E.2.1), (1, .int a1), (2, .int 0), (3, .int 0)] rfl ?_
  exact T_idealOf_4_lp hO hE FU a1 0 0 s0
abbrev cX2_totalOf : ByteArray := prog_14_method_41_code
def yX2_totalOf : MethodName := ⟨RX2, "totalOf", "(I)I"⟩
def dkwX2_totalOf_0 : List UInt8 := [42, 180, 0, 17, 16, 57, 27, 96, 46, 42, 180, 0, 17, 16, 47, 27, 96, 46, 100, 172]
abbrev dktX2_totalOf_0 : List UInt8 := dkwX2_totalOf_0 ++ []
theorem dksX2_totalOf_0 : cX2_totalOf.data.toList.drop 0 = dktX2_totalOf_0 := by decide +kernel
theorem dX2_totalOf_0 : decode cX2_totalOf 0 = .ok (.aload_n 0, 1) := dk_42 (dk_at dksX2_totalOf_0 0 rfl rfl)
theorem dX2_totalOf_1 : decode cX2_totalOf 1 = .ok (.getfield 17, 3) := dk_180 0 17 (dk_at dksX2_totalOf_0 1 rfl rfl)
theorem dX2_totalOf_4 : decode cX2_totalOf 4 = .ok (.bipush 57, 2) := dk_16 57 (dk_at dksX2_totalOf_0 4 rfl rfl)
theorem dX2_totalOf_6 : decode cX2_totalOf 6 = .ok (.iload_n 1, 1) := dk_27 (dk_at dksX2_totalOf_0 6 rfl rfl)
theorem dX2_totalOf_7 : decode cX2_totalOf 7 = .ok (.iadd, 1) := dk_96 (dk_at dksX2_totalOf_0 7 rfl rfl)
theorem dX2_totalOf_8 : decode cX2_totalOf 8 = .ok (.iaload, 1) := dk_46 (dk_at dksX2_totalOf_0 8 rfl rfl)
theorem dX2_totalOf_9 : decode cX2_totalOf 9 = .ok (.aload_n 0, 1) := dk_42 (dk_at dksX2_totalOf_0 9 rfl rfl)
theorem dX2_totalOf_10 : decode cX2_totalOf 10 = .ok (.getfield 17, 3) := dk_180 0 17 (dk_at dksX2_totalOf_0 10 rfl rfl)
theorem dX2_totalOf_13 : decode cX2_totalOf 13 = .ok (.bipush 47, 2) := dk_16 47 (dk_at dksX2_totalOf_0 13 rfl rfl)
theorem dX2_totalOf_15 : decode cX2_totalOf 15 = .ok (.iload_n 1, 1) := dk_27 (dk_at dksX2_totalOf_0 15 rfl rfl)
theorem dX2_totalOf_16 : decode cX2_totalOf 16 = .ok (.iadd, 1) := dk_96 (dk_at dksX2_totalOf_0 16 rfl rfl)
theorem dX2_totalOf_17 : decode cX2_totalOf 17 = .ok (.iaload, 1) := dk_46 (dk_at dksX2_totalOf_0 17 rfl rfl)
theorem dX2_totalOf_18 : decode cX2_totalOf 18 = .ok (.isub, 1) := dk_100 (dk_at dksX2_totalOf_0 18 rfl rfl)
theorem dX2_totalOf_19 : decode cX2_totalOf 19 = .ok (.ireturn, 1) := dk_172 (dk_at dksX2_totalOf_0 19 rfl rfl)
theorem md_X2_totalOf : xMd yX2_totalOf cX2_totalOf 2 (Option.some Jvm.ClassFile.FieldType.int) 1 := ⟨q3202, q126, by decide, by decide +kernel, by decide +kernel, by decide +kernel⟩
def T_totalOf (s0 : TS) (a1 : Int32) : Option (xO × TS) :=
  (tald s0 7 (57 + a1) fun x1 =>
  (tald s0 7 (47 + a1) fun x2 =>
  (rI (x1 - x2) s0)))
theorem T_totalOf_ok {G : xG} {E : TE} (hO : xOK G) (hE : tok E) (s0 : TS) (a1 : Int32) : CTT G E 0 yX2_totalOf cX2_totalOf 2 (Option.some Jvm.ClassFile.FieldType.int) [.ref E.2.1, .int a1] s0 (T_totalOf s0 a1) := by
  refine CT_of hO (by decide +kernel) (by decide +kernel) (Nat.le_of_ble_eq_true rfl) ?_
  show XT G E "ForestLegsModel" "totalOf" cX2_totalOf 2 (Option.some Jvm.ClassFile.FieldType.int) 0 0 [(0, .ref E.2.1), (1, .int a1)] [] s0 (T_totalOf s0 a1)
  refine x_aload_nr 0 dX2_totalOf_0 rfl rfl (n := 1) rfl ?_
  refine tw_getA fl_X2_17 rfl (by decide) dX2_totalOf_1 (n := 4) rfl ?_
  refine x_bipush 57 dX2_totalOf_4 rfl (n := 6) rfl ?_
  refine x_iload_n 1 dX2_totalOf_6 rfl rfl (n := 7) rfl ?_
  refine x_iadd dX2_totalOf_7 (n := 8) rfl ?_
  refine tw_iald hE (by decide) dX2_totalOf_8 (n := 9) rfl (fun x1 => ?_)
  refine x_aload_nr 0 dX2_totalOf_9 rfl rfl (n := 10) rfl ?_
  refine tw_getA fl_X2_17 rfl (by decide) dX2_totalOf_10 (n := 13) rfl ?_
  refine x_bipush 47 dX2_totalOf_13 rfl (n := 15) rfl ?_
  refine x_iload_n 1 dX2_totalOf_15 rfl rfl (n := 16) rfl ?_
  refine x_iadd dX2_totalOf_16 (n := 17) rfl ?_
  refine tw_iald hE (by decide) dX2_totalOf_17 (n := 18) rfl (fun x2 => ?_)
  refine x_isub dX2_totalOf_18 (n := 19) rfl ?_
  exact tw_ireturn dX2_totalOf_19
abbrev cX2_leastTotal : ByteArray := prog_14_method_47_code
def yX2_leastTotal : MethodName := ⟨RX2, "leastTotal", "(I)I"⟩
def dkwX2_leastTotal_2 : List UInt8 := [162, 0, 11, 42, 29, 182, 0, 218, 167, 0, 4, 28, 61, 132, 3, 1, 167, 255, 197, 28, 172]
abbrev dktX2_leastTotal_2 : List UInt8 := dkwX2_leastTotal_2 ++ []
def dkwX2_leastTotal_1 : List UInt8 := [27, 160, 0, 36, 42, 29, 182, 0, 215, 153, 0, 28, 28, 16, 254, 159, 0, 12, 42, 29, 182, 0, 218, 28]
abbrev dktX2_leastTotal_1 : List UInt8 := dkwX2_leastTotal_1 ++ dktX2_leastTotal_2
def dkwX2_leastTotal_0 : List UInt8 := [16, 254, 61, 3, 62, 29, 42, 180, 0, 17, 4, 46, 162, 0, 55, 42, 180, 0, 17, 16, 37, 29, 96, 46]
abbrev dktX2_leastTotal_0 : List UInt8 := dkwX2_leastTotal_0 ++ dktX2_leastTotal_1
theorem dksX2_leastTotal_0 : cX2_leastTotal.data.toList.drop 0 = dktX2_leastTotal_0 := by decide +kernel
theorem dksX2_leastTotal_1 : cX2_leastTotal.data.toList.drop 24 = dktX2_leastTotal_1 := dk_seg dksX2_leastTotal_0 24 rfl rfl
theorem dksX2_leastTotal_2 : cX2_leastTotal.data.toList.drop 48 = dktX2_leastTotal_2 := dk_seg dksX2_leastTotal_1 24 rfl rfl
theorem dX2_leastTotal_0 : decode cX2_leastTotal 0 = .ok (.bipush (-2), 2) := dk_16 254 (dk_at dksX2_leastTotal_0 0 rfl rfl)
theorem dX2_leastTotal_2 : decode cX2_leastTotal 2 = .ok (.istore_n 2, 1) := dk_61 (dk_at dksX2_leastTotal_0 2 rfl rfl)
theorem dX2_leastTotal_3 : decode cX2_leastTotal 3 = .ok (.iconst 0, 1) := dk_3 (dk_at dksX2_leastTotal_0 3 rfl rfl)
theorem dX2_leastTotal_4 : decode cX2_leastTotal 4 = .ok (.istore_n 3, 1) := dk_62 (dk_at dksX2_leastTotal_0 4 rfl rfl)
theorem dX2_leastTotal_5 : decode cX2_leastTotal 5 = .ok (.iload_n 3, 1) := dk_29 (dk_at dksX2_leastTotal_0 5 rfl rfl)
theorem dX2_leastTotal_6 : decode cX2_leastTotal 6 = .ok (.aload_n 0, 1) := dk_42 (dk_at dksX2_leastTotal_0 6 rfl rfl)
theorem dX2_leastTotal_7 : decode cX2_leastTotal 7 = .ok (.getfield 17, 3) := dk_180 0 17 (dk_at dksX2_leastTotal_0 7 rfl rfl)
theorem dX2_leastTotal_10 : decode cX2_leastTotal 10 = .ok (.iconst 1, 1) := dk_4 (dk_at dksX2_leastTotal_0 10 rfl rfl)
theorem dX2_leastTotal_11 : decode cX2_leastTotal 11 = .ok (.iaload, 1) := dk_46 (dk_at dksX2_leastTotal_0 11 rfl rfl)
theorem dX2_leastTotal_12 : decode cX2_leastTotal 12 = .ok (.if_icmp .ge 55, 3) := dk_162 0 55 (dk_at dksX2_leastTotal_0 12 rfl rfl)
theorem dX2_leastTotal_15 : decode cX2_leastTotal 15 = .ok (.aload_n 0, 1) := dk_42 (dk_at dksX2_leastTotal_0 15 rfl rfl)
theorem dX2_leastTotal_16 : decode cX2_leastTotal 16 = .ok (.getfield 17, 3) := dk_180 0 17 (dk_at dksX2_leastTotal_0 16 rfl rfl)
theorem dX2_leastTotal_19 : decode cX2_leastTotal 19 = .ok (.bipush 37, 2) := dk_16 37 (dk_at dksX2_leastTotal_0 19 rfl rfl)
theorem dX2_leastTotal_21 : decode cX2_leastTotal 21 = .ok (.iload_n 3, 1) := dk_29 (dk_at dksX2_leastTotal_0 21 rfl rfl)
theorem dX2_leastTotal_22 : decode cX2_leastTotal 22 = .ok (.iadd, 1) := dk_96 (dk_at dksX2_leastTotal_0 22 rfl rfl)
theorem dX2_leastTotal_23 : decode cX2_leastTotal 23 = .ok (.iaload, 1) := dk_46 (dk_at dksX2_leastTotal_0 23 rfl rfl)
theorem dX2_leastTotal_24 : decode cX2_leastTotal 24 = .ok (.iload_n 1, 1) := dk_27 (dk_at dksX2_leastTotal_1 0 rfl rfl)
theorem dX2_leastTotal_25 : decode cX2_leastTotal 25 = .ok (.if_icmp .ne 36, 3) := dk_160 0 36 (dk_at dksX2_leastTotal_1 1 rfl rfl)
theorem dX2_leastTotal_28 : decode cX2_leastTotal 28 = .ok (.aload_n 0, 1) := dk_42 (dk_at dksX2_leastTotal_1 4 rfl rfl)
theorem dX2_leastTotal_29 : decode cX2_leastTotal 29 = .ok (.iload_n 3, 1) := dk_29 (dk_at dksX2_leastTotal_1 5 rfl rfl)
theorem dX2_leastTotal_30 : decode cX2_leastTotal 30 = .ok (.invokevirtual 215, 3) := dk_182 0 215 (dk_at dksX2_leastTotal_1 6 rfl rfl)
theorem dX2_leastTotal_33 : decode cX2_leastTotal 33 = .ok (.ifCond .eq 28, 3) := dk_153 0 28 (dk_at dksX2_leastTotal_1 9 rfl rfl)
theorem dX2_leastTotal_36 : decode cX2_leastTotal 36 = .ok (.iload_n 2, 1) := dk_28 (dk_at dksX2_leastTotal_1 12 rfl rfl)
theorem dX2_leastTotal_37 : decode cX2_leastTotal 37 = .ok (.bipush (-2), 2) := dk_16 254 (dk_at dksX2_leastTotal_1 13 rfl rfl)
theorem dX2_leastTotal_39 : decode cX2_leastTotal 39 = .ok (.if_icmp .eq 12, 3) := dk_159 0 12 (dk_at dksX2_leastTotal_1 15 rfl rfl)
theorem dX2_leastTotal_42 : decode cX2_leastTotal 42 = .ok (.aload_n 0, 1) := dk_42 (dk_at dksX2_leastTotal_1 18 rfl rfl)
theorem dX2_leastTotal_43 : decode cX2_leastTotal 43 = .ok (.iload_n 3, 1) := dk_29 (dk_at dksX2_leastTotal_1 19 rfl rfl)
theorem dX2_leastTotal_44 : decode cX2_leastTotal 44 = .ok (.invokevirtual 218, 3) := dk_182 0 218 (dk_at dksX2_leastTotal_1 20 rfl rfl)
theorem dX2_leastTotal_47 : decode cX2_leastTotal 47 = .ok (.iload_n 2, 1) := dk_28 (dk_at dksX2_leastTotal_1 23 rfl rfl)
theorem dX2_leastTotal_48 : decode cX2_leastTotal 48 = .ok (.if_icmp .ge 11, 3) := dk_162 0 11 (dk_at dksX2_leastTotal_2 0 rfl rfl)
theorem dX2_leastTotal_51 : decode cX2_leastTotal 51 = .ok (.aload_n 0, 1) := dk_42 (dk_at dksX2_leastTotal_2 3 rfl rfl)
theorem dX2_leastTotal_52 : decode cX2_leastTotal 52 = .ok (.iload_n 3, 1) := dk_29 (dk_at dksX2_leastTotal_2 4 rfl rfl)
theorem dX2_leastTotal_53 : decode cX2_leastTotal 53 = .ok (.invokevirtual 218, 3) := dk_182 0 218 (dk_at dksX2_leastTotal_2 5 rfl rfl)
theorem dX2_leastTotal_56 : decode cX2_leastTotal 56 = .ok (.goto 4, 3) := dk_167 0 4 (dk_at dksX2_leastTotal_2 8 rfl rfl)
theorem dX2_leastTotal_59 : decode cX2_leastTotal 59 = .ok (.iload_n 2, 1) := dk_28 (dk_at dksX2_leastTotal_2 11 rfl rfl)
theorem dX2_leastTotal_60 : decode cX2_leastTotal 60 = .ok (.istore_n 2, 1) := dk_61 (dk_at dksX2_leastTotal_2 12 rfl rfl)
theorem dX2_leastTotal_61 : decode cX2_leastTotal 61 = .ok (.iinc 3 1, 3) := dk_132 3 1 (dk_at dksX2_leastTotal_2 13 rfl rfl)
theorem dX2_leastTotal_64 : decode cX2_leastTotal 64 = .ok (.goto (-59), 3) := dk_167 255 197 (dk_at dksX2_leastTotal_2 16 rfl rfl)
theorem dX2_leastTotal_67 : decode cX2_leastTotal 67 = .ok (.iload_n 2, 1) := dk_28 (dk_at dksX2_leastTotal_2 19 rfl rfl)
theorem dX2_leastTotal_68 : decode cX2_leastTotal 68 = .ok (.ireturn, 1) := dk_172 (dk_at dksX2_leastTotal_2 20 rfl rfl)
theorem md_X2_leastTotal : xMd yX2_leastTotal cX2_leastTotal 4 (Option.some Jvm.ClassFile.FieldType.int) 1 := ⟨q3198, q126, by decide, by decide +kernel, by decide +kernel, by decide +kernel⟩
def T_leastTotal_61  (k5 : Int32 × Int32 × Int32 × TS → Option (xO × TS)) (v1 : Int32) (v2 : Int32) (v3 : Int32) (s0 : TS) : Option (xO × TS) :=
  (bnd (v3 + 1) fun x3 =>
  (k5 (v1, v2, x3, s0)))
def T_leastTotal_60  (k5 : Int32 × Int32 × Int32 × TS → Option (xO × TS)) (v1 : Int32) (v3 : Int32) (w0 : Int32) (s0 : TS) : Option (xO × TS) :=
  (T_leastTotal_61 k5 v1 w0 v3 s0)
def T_leastTotal_51  (k5 : Int32 × Int32 × Int32 × TS → Option (xO × TS)) (v1 : Int32) (v3 : Int32) (s0 : TS) : Option (xO × TS) :=
  (xcI (T_totalOf s0 v3) fun x7 s6 =>
  (T_leastTotal_60 k5 v1 v3 x7 s6))
def T_leastTotal_5F   (k5 : Int32 × Int32 × Int32 × TS → Option (xO × TS)) (p : Int32 × Int32 × Int32 × TS) : Option (xO × TS) := match p with
  | (v1, v2, v3, s0) => (tald s0 7 1 fun x1 =>
  (if x1 ≤ v3 then
  (rI v2 s0) else
  (tald s0 7 (37 + v3) fun x2 =>
  (if x2 = v1 then
  (xcI (T_isValid s0 v3) fun x5 s4 =>
  (if x5 = 0 then
  (T_leastTotal_61 k5 v1 v2 v3 s4) else
  (if v2 = (-2) then
  (T_leastTotal_51 k5 v1 v3 s4) else
  (xcI (T_totalOf s4 v3) fun x9 s8 =>
  (if v2 ≤ x9 then
  (T_leastTotal_60 k5 v1 v3 v2 s8) else
  (T_leastTotal_51 k5 v1 v3 s8)))))) else
  (T_leastTotal_61 k5 v1 v2 v3 s0)))))
def T_leastTotal (s0 : TS) (a1 : Int32) : Option (xO × TS) :=
  (lp (T_leastTotal_5F) FU (a1, (-2), 0, s0))
theorem T_leastTotal_61_ok {G : xG} {E : TE} (hO : xOK G) (hE : tok E)  {k5 : Int32 × Int32 × Int32 × TS → Option (xO × TS)} (hk5 : ∀ (v1 : Int32) (v2 : Int32) (v3 : Int32) (s0 : TS), XT G E "ForestLegsModel" "leastTotal" cX2_leastTotal 4 (Option.some Jvm.ClassFile.FieldType.int) 4 5 [(0, .ref E.2.1), (1, .int v1), (2, .int v2), (3, .int v3)] [] s0 (k5 (v1, v2, v3, s0))) (v1 : Int32) (v2 : Int32) (v3 : Int32) (s0 : TS) : XT G E "ForestLegsModel" "leastTotal" cX2_leastTotal 4 (Option.some Jvm.ClassFile.FieldType.int) 4 61 [(0, .ref E.2.1), (1, .int v1), (2, .int v2), (3, .int v3)] [] s0 (T_leastTotal_61 k5 v1 v2 v3 s0) := by
  unfold T_leastTotal_61
  refine tw_iinc 3 (fun x3 => [(3, .int x3), (0, .ref E.2.1), (1, .int v1), (2, .int v2)]) dX2_leastTotal_61 rfl rfl (by decide) (fun _ => rfl) (n := 64) rfl (fun x3 => ?_)
  refine x_goto dX2_leastTotal_64 (n := 5) (by decide) ?_
  refine x_sub [1, 2, 3, 0] [(0, .ref E.2.1), (1, .int v1), (2, .int v2), (3, .int x3)] rfl ?_
  exact hk5 v1 v2 x3 s0
theorem T_leastTotal_60_ok {G : xG} {E : TE} (hO : xOK G) (hE : tok E)  {k5 : Int32 × Int32 × Int32 × TS → Option (xO × TS)} (hk5 : ∀ (v1 : Int32) (v2 : Int32) (v3 : Int32) (s0 : TS), XT G E "ForestLegsModel" "leastTotal" cX2_leastTotal 4 (Option.some Jvm.ClassFile.FieldType.int) 4 5 [(0, .ref E.2.1), (1, .int v1), (2, .int v2), (3, .int v3)] [] s0 (k5 (v1, v2, v3, s0))) (v1 : Int32) (v3 : Int32) (w0 : Int32) (s0 : TS) : XT G E "ForestLegsModel" "leastTotal" cX2_leastTotal 4 (Option.some Jvm.ClassFile.FieldType.int) 4 60 [(0, .ref E.2.1), (1, .int v1), (3, .int v3)] [.int w0] s0 (T_leastTotal_60 k5 v1 v3 w0 s0) := by
  unfold T_leastTotal_60
  refine x_istore_n [(2, .int w0), (0, .ref E.2.1), (1, .int v1), (3, .int v3)] dX2_leastTotal_60 rfl (by decide) rfl (n := 61) rfl ?_
  refine x_sub [1, 2, 0, 3] [(0, .ref E.2.1), (1, .int v1), (2, .int w0), (3, .int v3)] rfl ?_
  exact T_leastTotal_61_ok hO hE hk5 v1 w0 v3 s0
theorem T_leastTotal_51_ok {G : xG} {E : TE} (hO : xOK G) (hE : tok E)  {k5 : Int32 × Int32 × Int32 × TS → Option (xO × TS)} (hk5 : ∀ (v1 : Int32) (v2 : Int32) (v3 : Int32) (s0 : TS), XT G E "ForestLegsModel" "leastTotal" cX2_leastTotal 4 (Option.some Jvm.ClassFile.FieldType.int) 4 5 [(0, .ref E.2.1), (1, .int v1), (2, .int v2), (3, .int v3)] [] s0 (k5 (v1, v2, v3, s0))) (v1 : Int32) (v3 : Int32) (s0 : TS) : XT G E "ForestLegsModel" "leastTotal" cX2_leastTotal 4 (Option.some Jvm.ClassFile.FieldType.int) 4 51 [(0, .ref E.2.1), (1, .int v1), (3, .int v3)] [] s0 (T_leastTotal_51 k5 v1 v3 s0) := by
  unfold T_leastTotal_51
  refine x_aload_nr 0 dX2_leastTotal_51 rfl rfl (n := 52) rfl ?_
  refine x_iload_n 2 dX2_leastTotal_52 rfl rfl (n := 53) rfl ?_
  refine tw_callV_I [.int v3] [] (T_totalOf_ok hO hE s0 v3) md_X2_totalOf q3199 q3201 qs97 dX2_leastTotal_53 rfl rfl (by decide) (Nat.le_of_ble_eq_true rfl) (n := 56) rfl (fun x7 s6 => ?_)
  refine x_goto dX2_leastTotal_56 (n := 60) (by decide) ?_
  exact T_leastTotal_60_ok hO hE hk5 v1 v3 x7 s6
theorem T_leastTotal_5F_ok {G : xG} {E : TE} (hO : xOK G) (hE : tok E)   {k5 : Int32 × Int32 × Int32 × TS → Option (xO × TS)} (hk5 : ∀ (v1 : Int32) (v2 : Int32) (v3 : Int32) (s0 : TS), XT G E "ForestLegsModel" "leastTotal" cX2_leastTotal 4 (Option.some Jvm.ClassFile.FieldType.int) 4 5 [(0, .ref E.2.1), (1, .int v1), (2, .int v2), (3, .int v3)] [] s0 (k5 (v1, v2, v3, s0))) (v1 : Int32) (v2 : Int32) (v3 : Int32) (s0 : TS) : XT G E "ForestLegsModel" "leastTotal" cX2_leastTotal 4 (Option.some Jvm.ClassFile.FieldType.int) 4 5 [(0, .ref E.2.1), (1, .int v1), (2, .int v2), (3, .int v3)] [] s0 (T_leastTotal_5F k5 (v1, v2, v3, s0)) := by
  unfold T_leastTotal_5F
  refine x_iload_n 3 dX2_leastTotal_5 rfl rfl (n := 6) rfl ?_
  refine x_aload_nr 0 dX2_leastTotal_6 rfl rfl (n := 7) rfl ?_
  refine tw_getA fl_X2_17 rfl (by decide) dX2_leastTotal_7 (n := 10) rfl ?_
  refine x_iconst 1 dX2_leastTotal_10 rfl (n := 11) rfl ?_
  refine tw_iald hE (by decide) dX2_leastTotal_11 (n := 12) rfl (fun x1 => ?_)
  refine tw_icmp_ge dX2_leastTotal_12 (t := 67) (by decide) (n := 15) rfl ?_ ?_
  · refine x_iload_n 2 dX2_leastTotal_67 rfl rfl (n := 68) rfl ?_
    exact tw_ireturn dX2_leastTotal_68
  · refine x_aload_nr 0 dX2_leastTotal_15 rfl rfl (n := 16) rfl ?_
    refine tw_getA fl_X2_17 rfl (by decide) dX2_leastTotal_16 (n := 19) rfl ?_
    refine x_bipush 37 dX2_leastTotal_19 rfl (n := 21) rfl ?_
    refine x_iload_n 3 dX2_leastTotal_21 rfl rfl (n := 22) rfl ?_
    refine x_iadd dX2_leastTotal_22 (n := 23) rfl ?_
    refine tw_iald hE (by decide) dX2_leastTotal_23 (n := 24) rfl (fun x2 => ?_)
    refine x_iload_n 1 dX2_leastTotal_24 rfl rfl (n := 25) rfl ?_
    refine tw_icmp_ne dX2_leastTotal_25 (t := 61) (by decide) (n := 28) rfl ?_ ?_
    · exact T_leastTotal_61_ok hO hE hk5 v1 v2 v3 s0
    · refine x_aload_nr 0 dX2_leastTotal_28 rfl rfl (n := 29) rfl ?_
      refine x_iload_n 3 dX2_leastTotal_29 rfl rfl (n := 30) rfl ?_
      refine tw_callV_I [.int v3] [] (T_isValid_ok hO hE s0 v3) md_X2_isValid q3132 q3134 qs82 dX2_leastTotal_30 rfl rfl (by decide) (Nat.le_of_ble_eq_true rfl) (n := 33) rfl (fun x5 s4 => ?_)
      refine tw_if_eq dX2_leastTotal_33 (t := 61) (by decide) (n := 36) rfl ?_ ?_
      · exact T_leastTotal_61_ok hO hE hk5 v1 v2 v3 s4
      · refine x_iload_n 2 dX2_leastTotal_36 rfl rfl (n := 37) rfl ?_
        refine x_bipush (-2) dX2_leastTotal_37 rfl (n := 39) rfl ?_
        refine tw_icmp_eq dX2_leastTotal_39 (t := 51) (by decide) (n := 42) rfl ?_ ?_
        · refine x_sub [0, 1, 3] [(0, .ref E.2.1), (1, .int v1), (3, .int v3)] rfl ?_
          exact T_leastTotal_51_ok hO hE hk5 v1 v3 s4
        · refine x_aload_nr 0 dX2_leastTotal_42 rfl rfl (n := 43) rfl ?_
          refine x_iload_n 3 dX2_leastTotal_43 rfl rfl (n := 44) rfl ?_
          refine tw_callV_I [.int v3] [] (T_totalOf_ok hO hE s4 v3) md_X2_totalOf q3199 q3201 qs97 dX2_leastTotal_44 rfl rfl (by decide) (Nat.le_of_ble_eq_true rfl) (n := 47) rfl (fun x9 s8 => ?_)
          refine x_iload_n 2 dX2_leastTotal_47 rfl rfl (n := 48) rfl ?_
          refine tw_icmp_ge dX2_leastTotal_48 (t := 59) (by decide) (n := 51) rfl ?_ ?_
          · refine x_iload_n 2 dX2_leastTotal_59 rfl rfl (n := 60) rfl ?_
            refine x_sub [0, 1, 3] [(0, .ref E.2.1), (1, .int v1), (3, .int v3)] rfl ?_
            exact T_leastTotal_60_ok hO hE hk5 v1 v3 v2 s8
          · refine x_sub [0, 1, 3] [(0, .ref E.2.1), (1, .int v1), (3, .int v3)] rfl ?_
            exact T_leastTotal_51_ok hO hE hk5 v1 v3 s8
theorem T_leastTotal_5_lp {G : xG} {E : TE} (hO : xOK G) (hE : tok E)   (n : Nat) (v1 : Int32) (v2 : Int32) (v3 : Int32) (s0 : TS) : XT G E "ForestLegsModel" "leastTotal" cX2_leastTotal 4 (Option.some Jvm.ClassFile.FieldType.int) 4 5 [(0, .ref E.2.1), (1, .int v1), (2, .int v2), (3, .int v3)] [] s0 (lp (T_leastTotal_5F) n (v1, v2, v3, s0)) :=
  lp_ok (W := fun p K => XT G E "ForestLegsModel" "leastTotal" cX2_leastTotal 4 (Option.some Jvm.ClassFile.FieldType.int) 4 5 [(0, .ref E.2.1), (1, .int p.1), (2, .int p.2.1), (3, .int p.2.2.1)] [] p.2.2.2 K) (fun _ => tw_no) (fun k hk => fun (v1, v2, v3, s0) => T_leastTotal_5F_ok hO hE (fun v1 v2 v3 s0 => hk (v1, v2, v3, s0)) v1 v2 v3 s0) n (v1, v2, v3, s0)
theorem T_leastTotal_ok {G : xG} {E : TE} (hO : xOK G) (hE : tok E) (s0 : TS) (a1 : Int32) : CTT G E 4 yX2_leastTotal cX2_leastTotal 4 (Option.some Jvm.ClassFile.FieldType.int) [.ref E.2.1, .int a1] s0 (T_leastTotal s0 a1) := by
  refine CT_of hO (by decide +kernel) (by decide +kernel) (Nat.le_of_ble_eq_true rfl) ?_
  show XT G E "ForestLegsModel" "leastTotal" cX2_leastTotal 4 (Option.some Jvm.ClassFile.FieldType.int) 4 0 [(0, .ref E.2.1), (1, .int a1)] [] s0 (T_leastTotal s0 a1)
  refine x_bipush (-2) dX2_leastTotal_0 rfl (n := 2) rfl ?_
  refine x_istore_n [(2, .int (-2)), (0, .ref E.2.1), (1, .int a1)] dX2_leastTotal_2 rfl (by decide) rfl (n := 3) rfl ?_
  refine x_iconst 0 dX2_leastTotal_3 rfl (n := 4) rfl ?_
  refine x_istore_n [(3, .int 0), (2, .int (-2)), (0, .ref E.2.1), (1, .int a1)] dX2_leastTotal_4 rfl (by decide) rfl (n := 5) rfl ?_
  refine x_sub [2, 3, 1, 0] [(0, .ref E.2.1), (1, .int a1), (2, .int (-2)), (3, .int 0)] rfl ?_
  exact T_leastTotal_5_lp hO hE FU a1 (-2) 0 s0
abbrev cX2_course : ByteArray := prog_14_method_53_code
def yX2_course : MethodName := ⟨RX2, "course", "(II)I"⟩
def dkwX2_course_4 : List UInt8 := [182, 0, 246, 172, 42, 27, 182, 0, 249, 172]
abbrev dktX2_course_4 : List UInt8 := dkwX2_course_4 ++ []
def dkwX2_course_3 : List UInt8 := [42, 180, 0, 17, 7, 27, 96, 46, 172, 42, 27, 182, 0, 243, 172, 42, 27, 182, 0, 240, 172, 42, 27]
abbrev dktX2_course_3 : List UInt8 := dkwX2_course_3 ++ dktX2_course_4
def dkwX2_course_2 : List UInt8 := [170, 0, 0, 0, 56, 0, 0, 0, 0, 0, 0, 0, 3, 0, 0, 0, 29, 0, 0, 0, 38, 0, 0, 0, 44, 0, 0, 0, 50]
abbrev dktX2_course_2 : List UInt8 := dkwX2_course_2 ++ dktX2_course_3
def dkwX2_course_1 : List UInt8 := [184, 0, 234, 182, 0, 161, 153, 0, 5, 2, 172, 28]
abbrev dktX2_course_1 : List UInt8 := dkwX2_course_1 ++ dktX2_course_2
def dkwX2_course_0 : List UInt8 := [42, 42, 27, 182, 0, 184, 153, 0, 16, 28, 3, 7, 184, 0, 79, 153, 0, 7, 4, 167, 0, 4, 3]
abbrev dktX2_course_0 : List UInt8 := dkwX2_course_0 ++ dktX2_course_1
theorem dksX2_course_0 : cX2_course.data.toList.drop 0 = dktX2_course_0 := by decide +kernel
theorem dksX2_course_1 : cX2_course.data.toList.drop 23 = dktX2_course_1 := dk_seg dksX2_course_0 23 rfl rfl
theorem dksX2_course_2 : cX2_course.data.toList.drop 35 = dktX2_course_2 := dk_seg dksX2_course_1 12 rfl rfl
theorem dksX2_course_3 : cX2_course.data.toList.drop 64 = dktX2_course_3 := dk_seg dksX2_course_2 29 rfl rfl
theorem dksX2_course_4 : cX2_course.data.toList.drop 87 = dktX2_course_4 := dk_seg dksX2_course_3 23 rfl rfl
theorem dX2_course_0 : decode cX2_course 0 = .ok (.aload_n 0, 1) := dk_42 (dk_at dksX2_course_0 0 rfl rfl)
theorem dX2_course_1 : decode cX2_course 1 = .ok (.aload_n 0, 1) := dk_42 (dk_at dksX2_course_0 1 rfl rfl)
theorem dX2_course_2 : decode cX2_course 2 = .ok (.iload_n 1, 1) := dk_27 (dk_at dksX2_course_0 2 rfl rfl)
theorem dX2_course_3 : decode cX2_course 3 = .ok (.invokevirtual 184, 3) := dk_182 0 184 (dk_at dksX2_course_0 3 rfl rfl)
theorem dX2_course_6 : decode cX2_course 6 = .ok (.ifCond .eq 16, 3) := dk_153 0 16 (dk_at dksX2_course_0 6 rfl rfl)
theorem dX2_course_9 : decode cX2_course 9 = .ok (.iload_n 2, 1) := dk_28 (dk_at dksX2_course_0 9 rfl rfl)
theorem dX2_course_10 : decode cX2_course 10 = .ok (.iconst 0, 1) := dk_3 (dk_at dksX2_course_0 10 rfl rfl)
theorem dX2_course_11 : decode cX2_course 11 = .ok (.iconst 4, 1) := dk_7 (dk_at dksX2_course_0 11 rfl rfl)
theorem dX2_course_12 : decode cX2_course 12 = .ok (.invokestatic 79, 3) := dk_184 0 79 (dk_at dksX2_course_0 12 rfl rfl)
theorem dX2_course_15 : decode cX2_course 15 = .ok (.ifCond .eq 7, 3) := dk_153 0 7 (dk_at dksX2_course_0 15 rfl rfl)
theorem dX2_course_18 : decode cX2_course 18 = .ok (.iconst 1, 1) := dk_4 (dk_at dksX2_course_0 18 rfl rfl)
theorem dX2_course_19 : decode cX2_course 19 = .ok (.goto 4, 3) := dk_167 0 4 (dk_at dksX2_course_0 19 rfl rfl)
theorem dX2_course_22 : decode cX2_course 22 = .ok (.iconst 0, 1) := dk_3 (dk_at dksX2_course_0 22 rfl rfl)
theorem dX2_course_23 : decode cX2_course 23 = .ok (.invokestatic 234, 3) := dk_184 0 234 (dk_at dksX2_course_1 0 rfl rfl)
theorem dX2_course_26 : decode cX2_course 26 = .ok (.invokevirtual 161, 3) := dk_182 0 161 (dk_at dksX2_course_1 3 rfl rfl)
theorem dX2_course_29 : decode cX2_course 29 = .ok (.ifCond .eq 5, 3) := dk_153 0 5 (dk_at dksX2_course_1 6 rfl rfl)
theorem dX2_course_32 : decode cX2_course 32 = .ok (.iconst (-1), 1) := dk_2 (dk_at dksX2_course_1 9 rfl rfl)
theorem dX2_course_33 : decode cX2_course 33 = .ok (.ireturn, 1) := dk_172 (dk_at dksX2_course_1 10 rfl rfl)
theorem dX2_course_34 : decode cX2_course 34 = .ok (.iload_n 2, 1) := dk_28 (dk_at dksX2_course_1 11 rfl rfl)
theorem dX2_course_35 : decode cX2_course 35 = .ok (.tableswitch 56 0 3 #[29, 38, 44, 50], 29) := by decide +kernel
theorem dX2_course_64 : decode cX2_course 64 = .ok (.aload_n 0, 1) := dk_42 (dk_at dksX2_course_3 0 rfl rfl)
theorem dX2_course_65 : decode cX2_course 65 = .ok (.getfield 17, 3) := dk_180 0 17 (dk_at dksX2_course_3 1 rfl rfl)
theorem dX2_course_68 : decode cX2_course 68 = .ok (.iconst 4, 1) := dk_7 (dk_at dksX2_course_3 4 rfl rfl)
theorem dX2_course_69 : decode cX2_course 69 = .ok (.iload_n 1, 1) := dk_27 (dk_at dksX2_course_3 5 rfl rfl)
theorem dX2_course_70 : decode cX2_course 70 = .ok (.iadd, 1) := dk_96 (dk_at dksX2_course_3 6 rfl rfl)
theorem dX2_course_71 : decode cX2_course 71 = .ok (.iaload, 1) := dk_46 (dk_at dksX2_course_3 7 rfl rfl)
theorem dX2_course_72 : decode cX2_course 72 = .ok (.ireturn, 1) := dk_172 (dk_at dksX2_course_3 8 rfl rfl)
theorem dX2_course_73 : decode cX2_course 73 = .ok (.aload_n 0, 1) := dk_42 (dk_at dksX2_course_3 9 rfl rfl)
theorem dX2_course_74 : decode cX2_course 74 = .ok (.iload_n 1, 1) := dk_27 (dk_at dksX2_course_3 10 rfl rfl)
theorem dX2_course_75 : decode cX2_course 75 = .ok (.invokevirtual 243, 3) := dk_182 0 243 (dk_at dksX2_course_3 11 rfl rfl)
theorem dX2_course_78 : decode cX2_course 78 = .ok (.ireturn, 1) := dk_172 (dk_at dksX2_course_3 14 rfl rfl)
theorem dX2_course_79 : decode cX2_course 79 = .ok (.aload_n 0, 1) := dk_42 (dk_at dksX2_course_3 15 rfl rfl)
theorem dX2_course_80 : decode cX2_course 80 = .ok (.iload_n 1, 1) := dk_27 (dk_at dksX2_course_3 16 rfl rfl)
theorem dX2_course_81 : decode cX2_course 81 = .ok (.invokevirtual 240, 3) := dk_182 0 240 (dk_at dksX2_course_3 17 rfl rfl)
theorem dX2_course_84 : decode cX2_course 84 = .ok (.ireturn, 1) := dk_172 (dk_at dksX2_course_3 20 rfl rfl)
theorem dX2_course_85 : decode cX2_course 85 = .ok (.aload_n 0, 1) := dk_42 (dk_at dksX2_course_3 21 rfl rfl)
theorem dX2_course_86 : decode cX2_course 86 = .ok (.iload_n 1, 1) := dk_27 (dk_at dksX2_course_3 22 rfl rfl)
theorem dX2_course_87 : decode cX2_course 87 = .ok (.invokevirtual 246, 3) := dk_182 0 246 (dk_at dksX2_course_4 0 rfl rfl)
theorem dX2_course_90 : decode cX2_course 90 = .ok (.ireturn, 1) := dk_172 (dk_at dksX2_course_4 3 rfl rfl)
theorem dX2_course_91 : decode cX2_course 91 = .ok (.aload_n 0, 1) := dk_42 (dk_at dksX2_course_4 4 rfl rfl)
theorem dX2_course_92 : decode cX2_course 92 = .ok (.iload_n 1, 1) := dk_27 (dk_at dksX2_course_4 5 rfl rfl)
theorem dX2_course_93 : decode cX2_course 93 = .ok (.invokevirtual 249, 3) := dk_182 0 249 (dk_at dksX2_course_4 6 rfl rfl)
theorem dX2_course_96 : decode cX2_course 96 = .ok (.ireturn, 1) := dk_172 (dk_at dksX2_course_4 9 rfl rfl)
theorem md_X2_course : xMd yX2_course cX2_course 3 (Option.some Jvm.ClassFile.FieldType.int) 2 := ⟨q3158, q126, by decide, by decide +kernel, by decide +kernel, by decide +kernel⟩
def T_course_23   (v1 : Int32) (v2 : Int32) (w1 : Int32) (s0 : TS) : Option (xO × TS) :=
  (xcI (T_unless_2 s0 w1) fun x4 s3 =>
  (xcI (T_isRefused s3 x4) fun x6 s5 =>
  (if x6 = 0 then
  (xtab v2 0 [
  (tald s5 7 (4 + v1) fun x9 =>
  (rI x9 s5)),
  (xcI (T_runnersOf s5 v1) fun x11 s10 =>
  (rI x11 s10)),
  (xcI (T_validOf s5 v1) fun x13 s12 =>
  (rI x13 s12)),
  (xcI (T_idealOf s5 v1) fun x15 s14 =>
  (rI x15 s14))]
  (xcI (T_leastTotal s5 v1) fun x8 s7 =>
  (rI x8 s7))) else
  (rI (-1) s5))))
def T_course_22   (v1 : Int32) (v2 : Int32) (s0 : TS) : Option (xO × TS) :=
  (T_course_23 v1 v2 0 s0)
def T_course (s0 : TS) (a1 : Int32) (a2 : Int32) : Option (xO × TS) :=
  (xcI (T_isCourse s0 a1) fun x2 s1 =>
  (if x2 = 0 then
  (T_course_22 a1 a2 s1) else
  (xcI (T_in s1 a2 0 4) fun x17 s16 =>
  (if x17 = 0 then
  (T_course_22 a1 a2 s16) else
  (T_course_23 a1 a2 1 s16)))))
theorem T_course_23_ok {G : xG} {E : TE} (hO : xOK G) (hE : tok E)   (v1 : Int32) (v2 : Int32) (w1 : Int32) (s0 : TS) : XT G E "ForestLegsModel" "course" cX2_course 3 (Option.some Jvm.ClassFile.FieldType.int) 8 23 [(0, .ref E.2.1), (1, .int v1), (2, .int v2)] [.int w1, .ref E.2.1] s0 (T_course_23 v1 v2 w1 s0) := by
  unfold T_course_23
  refine tw_callS_I [.int w1] [.ref E.2.1] (T_unless_2_ok hO hE s0 w1) md_X2_unless_2 q3121 q3122 dX2_course_23 rfl rfl (by decide) (Nat.le_of_ble_eq_true rfl) (n := 26) rfl (fun x4 s3 => ?_)
  refine tw_callV_I [.int x4] [] (T_isRefused_ok hO hE s3 x4) md_X2_isRefused q3022 q3024 qs63 dX2_course_26 rfl rfl (by decide) (Nat.le_of_ble_eq_true rfl) (n := 29) rfl (fun x6 s5 => ?_)
  refine tw_if_eq dX2_course_29 (t := 34) (by decide) (n := 32) rfl ?_ ?_
  · refine x_iload_n 2 dX2_course_34 rfl rfl (n := 35) rfl ?_
    refine tw_tab [64, 73, 79, 85] dX2_course_35 rfl rfl (td := 91) (by decide) ?_ ⟨?_, ?_, ?_, ?_, trivial⟩
    · refine x_aload_nr 0 dX2_course_91 rfl rfl (n := 92) rfl ?_
      refine x_iload_n 1 dX2_course_92 rfl rfl (n := 93) rfl ?_
      refine tw_callV_I [.int v1] [] (T_leastTotal_ok hO hE s5 v1) md_X2_leastTotal q3195 q3197 qs96 dX2_course_93 rfl rfl (by decide) (Nat.le_of_ble_eq_true rfl) (n := 96) rfl (fun x8 s7 => ?_)
      exact tw_ireturn dX2_course_96
    · refine x_aload_nr 0 dX2_course_64 rfl rfl (n := 65) rfl ?_
      refine tw_getA fl_X2_17 rfl (by decide) dX2_course_65 (n := 68) rfl ?_
      refine x_iconst 4 dX2_course_68 rfl (n := 69) rfl ?_
      refine x_iload_n 1 dX2_course_69 rfl rfl (n := 70) rfl ?_
      refine x_iadd dX2_course_70 (n := 71) rfl ?_
      refine tw_iald hE (by decide) dX2_course_71 (n := 72) rfl (fun x9 => ?_)
      exact tw_ireturn dX2_course_72
    · refine x_aload_nr 0 dX2_course_73 rfl rfl (n := 74) rfl ?_
      refine x_iload_n 1 dX2_course_74 rfl rfl (n := 75) rfl ?_
      refine tw_callV_I [.int v1] [] (T_runnersOf_ok hO hE s5 v1) md_X2_runnersOf q3163 q3165 qs88 dX2_course_75 rfl rfl (by decide) (Nat.le_of_ble_eq_true rfl) (n := 78) rfl (fun x11 s10 => ?_)
      exact tw_ireturn dX2_course_78
    · refine x_aload_nr 0 dX2_course_79 rfl rfl (n := 80) rfl ?_
      refine x_iload_n 1 dX2_course_80 rfl rfl (n := 81) rfl ?_
      refine tw_callV_I [.int v1] [] (T_validOf_ok hO hE s5 v1) md_X2_validOf q3128 q3130 qs81 dX2_course_81 rfl rfl (by decide) (Nat.le_of_ble_eq_true rfl) (n := 84) rfl (fun x13 s12 => ?_)
      exact tw_ireturn dX2_course_84
    · refine x_aload_nr 0 dX2_course_85 rfl rfl (n := 86) rfl ?_
      refine x_iload_n 1 dX2_course_86 rfl rfl (n := 87) rfl ?_
      refine tw_callV_I [.int v1] [] (T_idealOf_ok hO hE s5 v1) md_X2_idealOf q3167 q3169 qs89 dX2_course_87 rfl rfl (by decide) (Nat.le_of_ble_eq_true rfl) (n := 90) rfl (fun x15 s14 => ?_)
      exact tw_ireturn dX2_course_90
  · refine x_iconst (-1) dX2_course_32 rfl (n := 33) rfl ?_
    exact tw_ireturn dX2_course_33
theorem T_course_22_ok {G : xG} {E : TE} (hO : xOK G) (hE : tok E)   (v1 : Int32) (v2 : Int32) (s0 : TS) : XT G E "ForestLegsModel" "course" cX2_course 3 (Option.some Jvm.ClassFile.FieldType.int) 8 22 [(0, .ref E.2.1), (1, .int v1), (2, .int v2)] [.ref E.2.1] s0 (T_course_22 v1 v2 s0) := by
  unfold T_course_22
  refine x_iconst 0 dX2_course_22 rfl (n := 23) rfl ?_
  exact T_course_23_ok hO hE v1 v2 0 s0
theorem T_course_ok {G : xG} {E : TE} (hO : xOK G) (hE : tok E) (s0 : TS) (a1 : Int32) (a2 : Int32) : CTT G E 8 yX2_course cX2_course 3 (Option.some Jvm.ClassFile.FieldType.int) [.ref E.2.1, .int a1, .int a2] s0 (T_course s0 a1 a2) := by
  refine CT_of hO (by decide +kernel) (by decide +kernel) (Nat.le_of_ble_eq_true rfl) ?_
  show XT G E "ForestLegsModel" "course" cX2_course 3 (Option.some Jvm.ClassFile.FieldType.int) 8 0 [(0, .ref E.2.1), (1, .int a1), (2, .int a2)] [] s0 (T_course s0 a1 a2)
  refine x_aload_nr 0 dX2_course_0 rfl rfl (n := 1) rfl ?_
  refine x_aload_nr 0 dX2_course_1 rfl rfl (n := 2) rfl ?_
  refine x_iload_n 1 dX2_course_2 rfl rfl (n := 3) rfl ?_
  refine tw_callV_I [.int a1] [.ref E.2.1] (T_isCourse_ok hO hE s0 a1) md_X2_isCourse q3159 q3161 qs87 dX2_course_3 rfl rfl (by decide) (Nat.le_of_ble_eq_true rfl) (n := 6) rfl (fun x2 s1 => ?_)
  refine tw_if_eq dX2_course_6 (t := 22) (by decide) (n := 9) rfl ?_ ?_
  · exact T_course_22_ok hO hE a1 a2 s1
  · refine x_iload_n 2 dX2_course_9 rfl rfl (n := 10) rfl ?_
    refine x_iconst 0 dX2_course_10 rfl (n := 11) rfl ?_
    refine x_iconst 4 dX2_course_11 rfl (n := 12) rfl ?_
    refine tw_callS_I [.int a2, .int 0, .int 4] [.ref E.2.1] (T_in_ok hO hE s1 a2 0 4) md_X2_in q3016 q3017 dX2_course_12 rfl rfl (by decide) (Nat.le_of_ble_eq_true rfl) (n := 15) rfl (fun x17 s16 => ?_)
    refine tw_if_eq dX2_course_15 (t := 22) (by decide) (n := 18) rfl ?_ ?_
    · exact T_course_22_ok hO hE a1 a2 s16
    · refine x_iconst 1 dX2_course_18 rfl (n := 19) rfl ?_
      refine x_goto dX2_course_19 (n := 23) (by decide) ?_
      exact T_course_23_ok hO hE a1 a2 1 s16
abbrev cX2_isControl : ByteArray := prog_14_method_31_code
def yX2_isControl : MethodName := ⟨RX2, "isControl", "(II)Z"⟩
def dkwX2_isControl_1 : List UInt8 := [153, 0, 7, 4, 167, 0, 4, 3, 172]
abbrev dktX2_isControl_1 : List UInt8 := dkwX2_isControl_1 ++ []
def dkwX2_isControl_0 : List UInt8 := [42, 27, 182, 0, 184, 153, 0, 25, 28, 3, 42, 180, 0, 17, 7, 27, 96, 46, 4, 100, 184, 0, 79]
abbrev dktX2_isControl_0 : List UInt8 := dkwX2_isControl_0 ++ dktX2_isControl_1
theorem dksX2_isControl_0 : cX2_isControl.data.toList.drop 0 = dktX2_isControl_0 := by decide +kernel
theorem dksX2_isControl_1 : cX2_isControl.data.toList.drop 23 = dktX2_isControl_1 := dk_seg dksX2_isControl_0 23 rfl rfl
theorem dX2_isControl_0 : decode cX2_isControl 0 = .ok (.aload_n 0, 1) := dk_42 (dk_at dksX2_isControl_0 0 rfl rfl)
theorem dX2_isControl_1 : decode cX2_isControl 1 = .ok (.iload_n 1, 1) := dk_27 (dk_at dksX2_isControl_0 1 rfl rfl)
theorem dX2_isControl_2 : decode cX2_isControl 2 = .ok (.invokevirtual 184, 3) := dk_182 0 184 (dk_at dksX2_isControl_0 2 rfl rfl)
theorem dX2_isControl_5 : decode cX2_isControl 5 = .ok (.ifCond .eq 25, 3) := dk_153 0 25 (dk_at dksX2_isControl_0 5 rfl rfl)
theorem dX2_isControl_8 : decode cX2_isControl 8 = .ok (.iload_n 2, 1) := dk_28 (dk_at dksX2_isControl_0 8 rfl rfl)
theorem dX2_isControl_9 : decode cX2_isControl 9 = .ok (.iconst 0, 1) := dk_3 (dk_at dksX2_isControl_0 9 rfl rfl)
theorem dX2_isControl_10 : decode cX2_isControl 10 = .ok (.aload_n 0, 1) := dk_42 (dk_at dksX2_isControl_0 10 rfl rfl)
theorem dX2_isControl_11 : decode cX2_isControl 11 = .ok (.getfield 17, 3) := dk_180 0 17 (dk_at dksX2_isControl_0 11 rfl rfl)
theorem dX2_isControl_14 : decode cX2_isControl 14 = .ok (.iconst 4, 1) := dk_7 (dk_at dksX2_isControl_0 14 rfl rfl)
theorem dX2_isControl_15 : decode cX2_isControl 15 = .ok (.iload_n 1, 1) := dk_27 (dk_at dksX2_isControl_0 15 rfl rfl)
theorem dX2_isControl_16 : decode cX2_isControl 16 = .ok (.iadd, 1) := dk_96 (dk_at dksX2_isControl_0 16 rfl rfl)
theorem dX2_isControl_17 : decode cX2_isControl 17 = .ok (.iaload, 1) := dk_46 (dk_at dksX2_isControl_0 17 rfl rfl)
theorem dX2_isControl_18 : decode cX2_isControl 18 = .ok (.iconst 1, 1) := dk_4 (dk_at dksX2_isControl_0 18 rfl rfl)
theorem dX2_isControl_19 : decode cX2_isControl 19 = .ok (.isub, 1) := dk_100 (dk_at dksX2_isControl_0 19 rfl rfl)
theorem dX2_isControl_20 : decode cX2_isControl 20 = .ok (.invokestatic 79, 3) := dk_184 0 79 (dk_at dksX2_isControl_0 20 rfl rfl)
theorem dX2_isControl_23 : decode cX2_isControl 23 = .ok (.ifCond .eq 7, 3) := dk_153 0 7 (dk_at dksX2_isControl_1 0 rfl rfl)
theorem dX2_isControl_26 : decode cX2_isControl 26 = .ok (.iconst 1, 1) := dk_4 (dk_at dksX2_isControl_1 3 rfl rfl)
theorem dX2_isControl_27 : decode cX2_isControl 27 = .ok (.goto 4, 3) := dk_167 0 4 (dk_at dksX2_isControl_1 4 rfl rfl)
theorem dX2_isControl_30 : decode cX2_isControl 30 = .ok (.iconst 0, 1) := dk_3 (dk_at dksX2_isControl_1 7 rfl rfl)
theorem dX2_isControl_31 : decode cX2_isControl 31 = .ok (.ireturn, 1) := dk_172 (dk_at dksX2_isControl_1 8 rfl rfl)
theorem md_X2_isControl : xMd yX2_isControl cX2_isControl 3 (Option.some Jvm.ClassFile.FieldType.boolean) 2 := ⟨q3210, q126, by decide, by decide +kernel, by decide +kernel, by decide +kernel⟩
def T_isControl (s0 : TS) (a1 : Int32) (a2 : Int32) : Option (xO × TS) :=
  (xcI (T_isCourse s0 a1) fun x2 s1 =>
  (if x2 = 0 then
  (if vp_nar .boolean 0 = 0 then rI 0 s1 else none) else
  (tald s1 7 (4 + a1) fun x3 =>
  (xcI (T_in s1 a2 0 (x3 - 1)) fun x5 s4 =>
  (if x5 = 0 then
  (if vp_nar .boolean 0 = 0 then rI 0 s4 else none) else
  (if vp_nar .boolean 1 = 1 then rI 1 s4 else none))))))
theorem T_isControl_ok {G : xG} {E : TE} (hO : xOK G) (hE : tok E) (s0 : TS) (a1 : Int32) (a2 : Int32) : CTT G E 2 yX2_isControl cX2_isControl 3 (Option.some Jvm.ClassFile.FieldType.boolean) [.ref E.2.1, .int a1, .int a2] s0 (T_isControl s0 a1 a2) := by
  refine CT_of hO (by decide +kernel) (by decide +kernel) (Nat.le_of_ble_eq_true rfl) ?_
  show XT G E "ForestLegsModel" "isControl" cX2_isControl 3 (Option.some Jvm.ClassFile.FieldType.boolean) 2 0 [(0, .ref E.2.1), (1, .int a1), (2, .int a2)] [] s0 (T_isControl s0 a1 a2)
  refine x_aload_nr 0 dX2_isControl_0 rfl rfl (n := 1) rfl ?_
  refine x_iload_n 1 dX2_isControl_1 rfl rfl (n := 2) rfl ?_
  refine tw_callV_I [.int a1] [] (T_isCourse_ok hO hE s0 a1) md_X2_isCourse q3159 q3161 qs87 dX2_isControl_2 rfl rfl (by decide) (Nat.le_of_ble_eq_true rfl) (n := 5) rfl (fun x2 s1 => ?_)
  refine tw_if_eq dX2_isControl_5 (t := 30) (by decide) (n := 8) rfl ?_ ?_
  · refine x_iconst 0 dX2_isControl_30 rfl (n := 31) rfl ?_
    exact tw_zreturn rfl dX2_isControl_31
  · refine x_iload_n 2 dX2_isControl_8 rfl rfl (n := 9) rfl ?_
    refine x_iconst 0 dX2_isControl_9 rfl (n := 10) rfl ?_
    refine x_aload_nr 0 dX2_isControl_10 rfl rfl (n := 11) rfl ?_
    refine tw_getA fl_X2_17 rfl (by decide) dX2_isControl_11 (n := 14) rfl ?_
    refine x_iconst 4 dX2_isControl_14 rfl (n := 15) rfl ?_
    refine x_iload_n 1 dX2_isControl_15 rfl rfl (n := 16) rfl ?_
    refine x_iadd dX2_isControl_16 (n := 17) rfl ?_
    refine tw_iald hE (by decide) dX2_isControl_17 (n := 18) rfl (fun x3 => ?_)
    refine x_iconst 1 dX2_isControl_18 rfl (n := 19) rfl ?_
    refine x_isub dX2_isControl_19 (n := 20) rfl ?_
    refine tw_callS_I [.int a2, .int 0, .int (x3 - 1)] [] (T_in_ok hO hE s1 a2 0 (x3 - 1)) md_X2_in q3016 q3017 dX2_isControl_20 rfl rfl (by decide) (Nat.le_of_ble_eq_true rfl) (n := 23) rfl (fun x5 s4 => ?_)
    refine tw_if_eq dX2_isControl_23 (t := 30) (by decide) (n := 26) rfl ?_ ?_
    · refine x_iconst 0 dX2_isControl_30 rfl (n := 31) rfl ?_
      exact tw_zreturn rfl dX2_isControl_31
    · refine x_iconst 1 dX2_isControl_26 rfl (n := 27) rfl ?_
      refine x_goto dX2_isControl_27 (n := 31) (by decide) ?_
      exact tw_zreturn rfl dX2_isControl_31
abbrev cX2_code : ByteArray := prog_14_method_54_code
def yX2_code : MethodName := ⟨RX2, "code", "(II)I"⟩
def dkwX2_code_1 : List UInt8 := [182, 0, 197, 172]
abbrev dktX2_code_1 : List UInt8 := dkwX2_code_1 ++ []
def dkwX2_code_0 : List UInt8 := [42, 42, 27, 28, 182, 0, 252, 184, 0, 234, 182, 0, 161, 153, 0, 7, 2, 167, 0, 9, 42, 27, 28]
abbrev dktX2_code_0 : List UInt8 := dkwX2_code_0 ++ dktX2_code_1
theorem dksX2_code_0 : cX2_code.data.toList.drop 0 = dktX2_code_0 := by decide +kernel
theorem dksX2_code_1 : cX2_code.data.toList.drop 23 = dktX2_code_1 := dk_seg dksX2_code_0 23 rfl rfl
theorem dX2_code_0 : decode cX2_code 0 = .ok (.aload_n 0, 1) := dk_42 (dk_at dksX2_code_0 0 rfl rfl)
theorem dX2_code_1 : decode cX2_code 1 = .ok (.aload_n 0, 1) := dk_42 (dk_at dksX2_code_0 1 rfl rfl)
theorem dX2_code_2 : decode cX2_code 2 = .ok (.iload_n 1, 1) := dk_27 (dk_at dksX2_code_0 2 rfl rfl)
theorem dX2_code_3 : decode cX2_code 3 = .ok (.iload_n 2, 1) := dk_28 (dk_at dksX2_code_0 3 rfl rfl)
theorem dX2_code_4 : decode cX2_code 4 = .ok (.invokevirtual 252, 3) := dk_182 0 252 (dk_at dksX2_code_0 4 rfl rfl)
theorem dX2_code_7 : decode cX2_code 7 = .ok (.invokestatic 234, 3) := dk_184 0 234 (dk_at dksX2_code_0 7 rfl rfl)
theorem dX2_code_10 : decode cX2_code 10 = .ok (.invokevirtual 161, 3) := dk_182 0 161 (dk_at dksX2_code_0 10 rfl rfl)
theorem dX2_code_13 : decode cX2_code 13 = .ok (.ifCond .eq 7, 3) := dk_153 0 7 (dk_at dksX2_code_0 13 rfl rfl)
theorem dX2_code_16 : decode cX2_code 16 = .ok (.iconst (-1), 1) := dk_2 (dk_at dksX2_code_0 16 rfl rfl)
theorem dX2_code_17 : decode cX2_code 17 = .ok (.goto 9, 3) := dk_167 0 9 (dk_at dksX2_code_0 17 rfl rfl)
theorem dX2_code_20 : decode cX2_code 20 = .ok (.aload_n 0, 1) := dk_42 (dk_at dksX2_code_0 20 rfl rfl)
theorem dX2_code_21 : decode cX2_code 21 = .ok (.iload_n 1, 1) := dk_27 (dk_at dksX2_code_0 21 rfl rfl)
theorem dX2_code_22 : decode cX2_code 22 = .ok (.iload_n 2, 1) := dk_28 (dk_at dksX2_code_0 22 rfl rfl)
theorem dX2_code_23 : decode cX2_code 23 = .ok (.invokevirtual 197, 3) := dk_182 0 197 (dk_at dksX2_code_1 0 rfl rfl)
theorem dX2_code_26 : decode cX2_code 26 = .ok (.ireturn, 1) := dk_172 (dk_at dksX2_code_1 3 rfl rfl)
theorem md_X2_code : xMd yX2_code cX2_code 3 (Option.some Jvm.ClassFile.FieldType.int) 2 := ⟨q3206, q126, by decide, by decide +kernel, by decide +kernel, by decide +kernel⟩
def T_code (s0 : TS) (a1 : Int32) (a2 : Int32) : Option (xO × TS) :=
  (xcI (T_isControl s0 a1 a2) fun x2 s1 =>
  (xcI (T_unless_2 s1 x2) fun x4 s3 =>
  (xcI (T_isRefused s3 x4) fun x6 s5 =>
  (if x6 = 0 then
  (xcI (T_codeOf s5 a1 a2) fun x8 s7 =>
  (rI x8 s7)) else
  (rI (-1) s5)))))
theorem T_code_ok {G : xG} {E : TE} (hO : xOK G) (hE : tok E) (s0 : TS) (a1 : Int32) (a2 : Int32) : CTT G E 3 yX2_code cX2_code 3 (Option.some Jvm.ClassFile.FieldType.int) [.ref E.2.1, .int a1, .int a2] s0 (T_code s0 a1 a2) := by
  refine CT_of hO (by decide +kernel) (by decide +kernel) (Nat.le_of_ble_eq_true rfl) ?_
  show XT G E "ForestLegsModel" "code" cX2_code 3 (Option.some Jvm.ClassFile.FieldType.int) 3 0 [(0, .ref E.2.1), (1, .int a1), (2, .int a2)] [] s0 (T_code s0 a1 a2)
  refine x_aload_nr 0 dX2_code_0 rfl rfl (n := 1) rfl ?_
  refine x_aload_nr 0 dX2_code_1 rfl rfl (n := 2) rfl ?_
  refine x_iload_n 1 dX2_code_2 rfl rfl (n := 3) rfl ?_
  refine x_iload_n 2 dX2_code_3 rfl rfl (n := 4) rfl ?_
  refine tw_callV_I [.int a1, .int a2] [.ref E.2.1] (T_isControl_ok hO hE s0 a1 a2) md_X2_isControl q3207 q3209 qs98 dX2_code_4 rfl rfl (by decide) (Nat.le_of_ble_eq_true rfl) (n := 7) rfl (fun x2 s1 => ?_)
  refine tw_callS_I [.int x2] [.ref E.2.1] (T_unless_2_ok hO hE s1 x2) md_X2_unless_2 q3121 q3122 dX2_code_7 rfl rfl (by decide) (Nat.le_of_ble_eq_true rfl) (n := 10) rfl (fun x4 s3 => ?_)
  refine tw_callV_I [.int x4] [] (T_isRefused_ok hO hE s3 x4) md_X2_isRefused q3022 q3024 qs63 dX2_code_10 rfl rfl (by decide) (Nat.le_of_ble_eq_true rfl) (n := 13) rfl (fun x6 s5 => ?_)
  refine tw_if_eq dX2_code_13 (t := 20) (by decide) (n := 16) rfl ?_ ?_
  · refine x_aload_nr 0 dX2_code_20 rfl rfl (n := 21) rfl ?_
    refine x_iload_n 1 dX2_code_21 rfl rfl (n := 22) rfl ?_
    refine x_iload_n 2 dX2_code_22 rfl rfl (n := 23) rfl ?_
    refine tw_callV_I [.int a1, .int a2] [] (T_codeOf_ok hO hE s5 a1 a2) md_X2_codeOf q3147 q3149 qs85 dX2_code_23 rfl rfl (by decide) (Nat.le_of_ble_eq_true rfl) (n := 26) rfl (fun x8 s7 => ?_)
    exact tw_ireturn dX2_code_26
  · refine x_iconst (-1) dX2_code_16 rfl (n := 17) rfl ?_
    refine x_goto dX2_code_17 (n := 26) (by decide) ?_
    exact tw_ireturn dX2_code_26
abbrev cX2_isRunner : ByteArray := prog_14_method_30_code
def yX2_isRunner : MethodName := ⟨RX2, "isRunner", "(I)Z"⟩
def dkwX2_isRunner_0 : List UInt8 := [27, 3, 42, 180, 0, 17, 4, 46, 4, 100, 184, 0, 79, 172]
abbrev dktX2_isRunner_0 : List UInt8 := dkwX2_isRunner_0 ++ []
theorem dksX2_isRunner_0 : cX2_isRunner.data.toList.drop 0 = dktX2_isRunner_0 := by decide +kernel
theorem dX2_isRunner_0 : decode cX2_isRunner 0 = .ok (.iload_n 1, 1) := dk_27 (dk_at dksX2_isRunner_0 0 rfl rfl)
theorem dX2_isRunner_1 : decode cX2_isRunner 1 = .ok (.iconst 0, 1) := dk_3 (dk_at dksX2_isRunner_0 1 rfl rfl)
theorem dX2_isRunner_2 : decode cX2_isRunner 2 = .ok (.aload_n 0, 1) := dk_42 (dk_at dksX2_isRunner_0 2 rfl rfl)
theorem dX2_isRunner_3 : decode cX2_isRunner 3 = .ok (.getfield 17, 3) := dk_180 0 17 (dk_at dksX2_isRunner_0 3 rfl rfl)
theorem dX2_isRunner_6 : decode cX2_isRunner 6 = .ok (.iconst 1, 1) := dk_4 (dk_at dksX2_isRunner_0 6 rfl rfl)
theorem dX2_isRunner_7 : decode cX2_isRunner 7 = .ok (.iaload, 1) := dk_46 (dk_at dksX2_isRunner_0 7 rfl rfl)
theorem dX2_isRunner_8 : decode cX2_isRunner 8 = .ok (.iconst 1, 1) := dk_4 (dk_at dksX2_isRunner_0 8 rfl rfl)
theorem dX2_isRunner_9 : decode cX2_isRunner 9 = .ok (.isub, 1) := dk_100 (dk_at dksX2_isRunner_0 9 rfl rfl)
theorem dX2_isRunner_10 : decode cX2_isRunner 10 = .ok (.invokestatic 79, 3) := dk_184 0 79 (dk_at dksX2_isRunner_0 10 rfl rfl)
theorem dX2_isRunner_13 : decode cX2_isRunner 13 = .ok (.ireturn, 1) := dk_172 (dk_at dksX2_isRunner_0 13 rfl rfl)
theorem md_X2_isRunner : xMd yX2_isRunner cX2_isRunner 2 (Option.some Jvm.ClassFile.FieldType.boolean) 1 := ⟨q3218, q126, by decide, by decide +kernel, by decide +kernel, by decide +kernel⟩
def T_isRunner (s0 : TS) (a1 : Int32) : Option (xO × TS) :=
  (tald s0 7 1 fun x1 =>
  (xcI (T_in s0 a1 0 (x1 - 1)) fun x3 s2 =>
  (if vp_nar .boolean x3 = x3 then rI x3 s2 else none)))
theorem T_isRunner_ok {G : xG} {E : TE} (hO : xOK G) (hE : tok E) (s0 : TS) (a1 : Int32) : CTT G E 1 yX2_isRunner cX2_isRunner 2 (Option.some Jvm.ClassFile.FieldType.boolean) [.ref E.2.1, .int a1] s0 (T_isRunner s0 a1) := by
  refine CT_of hO (by decide +kernel) (by decide +kernel) (Nat.le_of_ble_eq_true rfl) ?_
  show XT G E "ForestLegsModel" "isRunner" cX2_isRunner 2 (Option.some Jvm.ClassFile.FieldType.boolean) 1 0 [(0, .ref E.2.1), (1, .int a1)] [] s0 (T_isRunner s0 a1)
  refine x_iload_n 1 dX2_isRunner_0 rfl rfl (n := 1) rfl ?_
  refine x_iconst 0 dX2_isRunner_1 rfl (n := 2) rfl ?_
  refine x_aload_nr 0 dX2_isRunner_2 rfl rfl (n := 3) rfl ?_
  refine tw_getA fl_X2_17 rfl (by decide) dX2_isRunner_3 (n := 6) rfl ?_
  refine x_iconst 1 dX2_isRunner_6 rfl (n := 7) rfl ?_
  refine tw_iald hE (by decide) dX2_isRunner_7 (n := 8) rfl (fun x1 => ?_)
  refine x_iconst 1 dX2_isRunner_8 rfl (n := 9) rfl ?_
  refine x_isub dX2_isRunner_9 (n := 10) rfl ?_
  refine tw_callS_I [.int a1, .int 0, .int (x1 - 1)] [] (T_in_ok hO hE s0 a1 0 (x1 - 1)) md_X2_in q3016 q3017 dX2_isRunner_10 rfl rfl (by decide) (Nat.le_of_ble_eq_true rfl) (n := 13) rfl (fun x3 s2 => ?_)
  exact tw_zreturn rfl dX2_isRunner_13
abbrev cX2_placeOf : ByteArray := prog_14_method_55_code
def yX2_placeOf : MethodName := ⟨RX2, "placeOf", "(I)I"⟩
def dkwX2_placeOf_3 : List UInt8 := [28, 172]
abbrev dktX2_placeOf_3 : List UInt8 := dkwX2_placeOf_3 ++ []
def dkwX2_placeOf_2 : List UInt8 := [182, 0, 218, 42, 27, 182, 0, 218, 162, 0, 7, 4, 167, 0, 4, 3, 96, 61, 132, 3, 1, 167, 255, 193]
abbrev dktX2_placeOf_2 : List UInt8 := dkwX2_placeOf_2 ++ dktX2_placeOf_3
def dkwX2_placeOf_1 : List UInt8 := [42, 180, 0, 17, 16, 37, 27, 96, 46, 160, 0, 28, 42, 29, 182, 0, 215, 153, 0, 20, 42, 29]
abbrev dktX2_placeOf_1 : List UInt8 := dkwX2_placeOf_1 ++ dktX2_placeOf_2
def dkwX2_placeOf_0 : List UInt8 := [4, 61, 3, 62, 29, 42, 180, 0, 17, 4, 46, 162, 0, 59, 28, 42, 180, 0, 17, 16, 37, 29, 96, 46]
abbrev dktX2_placeOf_0 : List UInt8 := dkwX2_placeOf_0 ++ dktX2_placeOf_1
theorem dksX2_placeOf_0 : cX2_placeOf.data.toList.drop 0 = dktX2_placeOf_0 := by decide +kernel
theorem dksX2_placeOf_1 : cX2_placeOf.data.toList.drop 24 = dktX2_placeOf_1 := dk_seg dksX2_placeOf_0 24 rfl rfl
theorem dksX2_placeOf_2 : cX2_placeOf.data.toList.drop 46 = dktX2_placeOf_2 := dk_seg dksX2_placeOf_1 22 rfl rfl
theorem dksX2_placeOf_3 : cX2_placeOf.data.toList.drop 70 = dktX2_placeOf_3 := dk_seg dksX2_placeOf_2 24 rfl rfl
theorem dX2_placeOf_0 : decode cX2_placeOf 0 = .ok (.iconst 1, 1) := dk_4 (dk_at dksX2_placeOf_0 0 rfl rfl)
theorem dX2_placeOf_1 : decode cX2_placeOf 1 = .ok (.istore_n 2, 1) := dk_61 (dk_at dksX2_placeOf_0 1 rfl rfl)
theorem dX2_placeOf_2 : decode cX2_placeOf 2 = .ok (.iconst 0, 1) := dk_3 (dk_at dksX2_placeOf_0 2 rfl rfl)
theorem dX2_placeOf_3 : decode cX2_placeOf 3 = .ok (.istore_n 3, 1) := dk_62 (dk_at dksX2_placeOf_0 3 rfl rfl)
theorem dX2_placeOf_4 : decode cX2_placeOf 4 = .ok (.iload_n 3, 1) := dk_29 (dk_at dksX2_placeOf_0 4 rfl rfl)
theorem dX2_placeOf_5 : decode cX2_placeOf 5 = .ok (.aload_n 0, 1) := dk_42 (dk_at dksX2_placeOf_0 5 rfl rfl)
theorem dX2_placeOf_6 : decode cX2_placeOf 6 = .ok (.getfield 17, 3) := dk_180 0 17 (dk_at dksX2_placeOf_0 6 rfl rfl)
theorem dX2_placeOf_9 : decode cX2_placeOf 9 = .ok (.iconst 1, 1) := dk_4 (dk_at dksX2_placeOf_0 9 rfl rfl)
theorem dX2_placeOf_10 : decode cX2_placeOf 10 = .ok (.iaload, 1) := dk_46 (dk_at dksX2_placeOf_0 10 rfl rfl)
theorem dX2_placeOf_11 : decode cX2_placeOf 11 = .ok (.if_icmp .ge 59, 3) := dk_162 0 59 (dk_at dksX2_placeOf_0 11 rfl rfl)
theorem dX2_placeOf_14 : decode cX2_placeOf 14 = .ok (.iload_n 2, 1) := dk_28 (dk_at dksX2_placeOf_0 14 rfl rfl)
theorem dX2_placeOf_15 : decode cX2_placeOf 15 = .ok (.aload_n 0, 1) := dk_42 (dk_at dksX2_placeOf_0 15 rfl rfl)
theorem dX2_placeOf_16 : decode cX2_placeOf 16 = .ok (.getfield 17, 3) := dk_180 0 17 (dk_at dksX2_placeOf_0 16 rfl rfl)
theorem dX2_placeOf_19 : decode cX2_placeOf 19 = .ok (.bipush 37, 2) := dk_16 37 (dk_at dksX2_placeOf_0 19 rfl rfl)
theorem dX2_placeOf_21 : decode cX2_placeOf 21 = .ok (.iload_n 3, 1) := dk_29 (dk_at dksX2_placeOf_0 21 rfl rfl)
theorem dX2_placeOf_22 : decode cX2_placeOf 22 = .ok (.iadd, 1) := dk_96 (dk_at dksX2_placeOf_0 22 rfl rfl)
theorem dX2_placeOf_23 : decode cX2_placeOf 23 = .ok (.iaload, 1) := dk_46 (dk_at dksX2_placeOf_0 23 rfl rfl)
theorem dX2_placeOf_24 : decode cX2_placeOf 24 = .ok (.aload_n 0, 1) := dk_42 (dk_at dksX2_placeOf_1 0 rfl rfl)
theorem dX2_placeOf_25 : decode cX2_placeOf 25 = .ok (.getfield 17, 3) := dk_180 0 17 (dk_at dksX2_placeOf_1 1 rfl rfl)
theorem dX2_placeOf_28 : decode cX2_placeOf 28 = .ok (.bipush 37, 2) := dk_16 37 (dk_at dksX2_placeOf_1 4 rfl rfl)
theorem dX2_placeOf_30 : decode cX2_placeOf 30 = .ok (.iload_n 1, 1) := dk_27 (dk_at dksX2_placeOf_1 6 rfl rfl)
theorem dX2_placeOf_31 : decode cX2_placeOf 31 = .ok (.iadd, 1) := dk_96 (dk_at dksX2_placeOf_1 7 rfl rfl)
theorem dX2_placeOf_32 : decode cX2_placeOf 32 = .ok (.iaload, 1) := dk_46 (dk_at dksX2_placeOf_1 8 rfl rfl)
theorem dX2_placeOf_33 : decode cX2_placeOf 33 = .ok (.if_icmp .ne 28, 3) := dk_160 0 28 (dk_at dksX2_placeOf_1 9 rfl rfl)
theorem dX2_placeOf_36 : decode cX2_placeOf 36 = .ok (.aload_n 0, 1) := dk_42 (dk_at dksX2_placeOf_1 12 rfl rfl)
theorem dX2_placeOf_37 : decode cX2_placeOf 37 = .ok (.iload_n 3, 1) := dk_29 (dk_at dksX2_placeOf_1 13 rfl rfl)
theorem dX2_placeOf_38 : decode cX2_placeOf 38 = .ok (.invokevirtual 215, 3) := dk_182 0 215 (dk_at dksX2_placeOf_1 14 rfl rfl)
theorem dX2_placeOf_41 : decode cX2_placeOf 41 = .ok (.ifCond .eq 20, 3) := dk_153 0 20 (dk_at dksX2_placeOf_1 17 rfl rfl)
theorem dX2_placeOf_44 : decode cX2_placeOf 44 = .ok (.aload_n 0, 1) := dk_42 (dk_at dksX2_placeOf_1 20 rfl rfl)
theorem dX2_placeOf_45 : decode cX2_placeOf 45 = .ok (.iload_n 3, 1) := dk_29 (dk_at dksX2_placeOf_1 21 rfl rfl)
theorem dX2_placeOf_46 : decode cX2_placeOf 46 = .ok (.invokevirtual 218, 3) := dk_182 0 218 (dk_at dksX2_placeOf_2 0 rfl rfl)
theorem dX2_placeOf_49 : decode cX2_placeOf 49 = .ok (.aload_n 0, 1) := dk_42 (dk_at dksX2_placeOf_2 3 rfl rfl)
theorem dX2_placeOf_50 : decode cX2_placeOf 50 = .ok (.iload_n 1, 1) := dk_27 (dk_at dksX2_placeOf_2 4 rfl rfl)
theorem dX2_placeOf_51 : decode cX2_placeOf 51 = .ok (.invokevirtual 218, 3) := dk_182 0 218 (dk_at dksX2_placeOf_2 5 rfl rfl)
theorem dX2_placeOf_54 : decode cX2_placeOf 54 = .ok (.if_icmp .ge 7, 3) := dk_162 0 7 (dk_at dksX2_placeOf_2 8 rfl rfl)
theorem dX2_placeOf_57 : decode cX2_placeOf 57 = .ok (.iconst 1, 1) := dk_4 (dk_at dksX2_placeOf_2 11 rfl rfl)
theorem dX2_placeOf_58 : decode cX2_placeOf 58 = .ok (.goto 4, 3) := dk_167 0 4 (dk_at dksX2_placeOf_2 12 rfl rfl)
theorem dX2_placeOf_61 : decode cX2_placeOf 61 = .ok (.iconst 0, 1) := dk_3 (dk_at dksX2_placeOf_2 15 rfl rfl)
theorem dX2_placeOf_62 : decode cX2_placeOf 62 = .ok (.iadd, 1) := dk_96 (dk_at dksX2_placeOf_2 16 rfl rfl)
theorem dX2_placeOf_63 : decode cX2_placeOf 63 = .ok (.istore_n 2, 1) := dk_61 (dk_at dksX2_placeOf_2 17 rfl rfl)
theorem dX2_placeOf_64 : decode cX2_placeOf 64 = .ok (.iinc 3 1, 3) := dk_132 3 1 (dk_at dksX2_placeOf_2 18 rfl rfl)
theorem dX2_placeOf_67 : decode cX2_placeOf 67 = .ok (.goto (-63), 3) := dk_167 255 193 (dk_at dksX2_placeOf_2 21 rfl rfl)
theorem dX2_placeOf_70 : decode cX2_placeOf 70 = .ok (.iload_n 2, 1) := dk_28 (dk_at dksX2_placeOf_3 0 rfl rfl)
theorem dX2_placeOf_71 : decode cX2_placeOf 71 = .ok (.ireturn, 1) := dk_172 (dk_at dksX2_placeOf_3 1 rfl rfl)
theorem md_X2_placeOf : xMd yX2_placeOf cX2_placeOf 4 (Option.some Jvm.ClassFile.FieldType.int) 1 := ⟨q3222, q126, by decide, by decide +kernel, by decide +kernel, by decide +kernel⟩
def T_placeOf_62  (k4 : Int32 × Int32 × Int32 × TS → Option (xO × TS)) (v1 : Int32) (v3 : Int32) (w0 : Int32) (w1 : Int32) (s0 : TS) : Option (xO × TS) :=
  (bnd (w0 + w1) fun x4 =>
  (bnd (v3 + 1) fun x5 =>
  (k4 (v1, x4, x5, s0))))
def T_placeOf_61  (k4 : Int32 × Int32 × Int32 × TS → Option (xO × TS)) (v1 : Int32) (v3 : Int32) (w0 : Int32) (s0 : TS) : Option (xO × TS) :=
  (T_placeOf_62 k4 v1 v3 w0 0 s0)
def T_placeOf_4F   (k4 : Int32 × Int32 × Int32 × TS → Option (xO × TS)) (p : Int32 × Int32 × Int32 × TS) : Option (xO × TS) := match p with
  | (v1, v2, v3, s0) => (tald s0 7 1 fun x1 =>
  (if x1 ≤ v3 then
  (rI v2 s0) else
  (tald s0 7 (37 + v3) fun x2 =>
  (tald s0 7 (37 + v1) fun x3 =>
  (if x2 = x3 then
  (xcI (T_isValid s0 v3) fun x7 s6 =>
  (if x7 = 0 then
  (T_placeOf_61 k4 v1 v3 v2 s6) else
  (xcI (T_totalOf s6 v3) fun x9 s8 =>
  (xcI (T_totalOf s8 v1) fun x11 s10 =>
  (if x11 ≤ x9 then
  (T_placeOf_61 k4 v1 v3 v2 s10) else
  (T_placeOf_62 k4 v1 v3 v2 1 s10)))))) else
  (T_placeOf_61 k4 v1 v3 v2 s0))))))
def T_placeOf (s0 : TS) (a1 : Int32) : Option (xO × TS) :=
  (lp (T_placeOf_4F) FU (a1, 1, 0, s0))
theorem T_placeOf_62_ok {G : xG} {E : TE} (hO : xOK G) (hE : tok E)  {k4 : Int32 × Int32 × Int32 × TS → Option (xO × TS)} (hk4 : ∀ (v1 : Int32) (v2 : Int32) (v3 : Int32) (s0 : TS), XT G E "ForestLegsModel" "placeOf" cX2_placeOf 4 (Option.some Jvm.ClassFile.FieldType.int) 4 4 [(0, .ref E.2.1), (1, .int v1), (2, .int v2), (3, .int v3)] [] s0 (k4 (v1, v2, v3, s0))) (v1 : Int32) (v3 : Int32) (w0 : Int32) (w1 : Int32) (s0 : TS) : XT G E "ForestLegsModel" "placeOf" cX2_placeOf 4 (Option.some Jvm.ClassFile.FieldType.int) 4 62 [(0, .ref E.2.1), (1, .int v1), (3, .int v3)] [.int w1, .int w0] s0 (T_placeOf_62 k4 v1 v3 w0 w1 s0) := by
  unfold T_placeOf_62
  refine x_iadd dX2_placeOf_62 (n := 63) rfl ?_
  refine tw_nm (fun x4 => ?_)
  refine x_istore_n [(2, .int x4), (0, .ref E.2.1), (1, .int v1), (3, .int v3)] dX2_placeOf_63 rfl (by decide) rfl (n := 64) rfl ?_
  refine tw_iinc 3 (fun x5 => [(3, .int x5), (2, .int x4), (0, .ref E.2.1), (1, .int v1)]) dX2_placeOf_64 rfl rfl (by decide) (fun _ => rfl) (n := 67) rfl (fun x5 => ?_)
  refine x_goto dX2_placeOf_67 (n := 4) (by decide) ?_
  refine x_sub [2, 3, 1, 0] [(0, .ref E.2.1), (1, .int v1), (2, .int x4), (3, .int x5)] rfl ?_
  exact hk4 v1 x4 x5 s0
theorem T_placeOf_61_ok {G : xG} {E : TE} (hO : xOK G) (hE : tok E)  {k4 : Int32 × Int32 × Int32 × TS → Option (xO × TS)} (hk4 : ∀ (v1 : Int32) (v2 : Int32) (v3 : Int32) (s0 : TS), XT G E "ForestLegsModel" "placeOf" cX2_placeOf 4 (Option.some Jvm.ClassFile.FieldType.int) 4 4 [(0, .ref E.2.1), (1, .int v1), (2, .int v2), (3, .int v3)] [] s0 (k4 (v1, v2, v3, s0))) (v1 : Int32) (v3 : Int32) (w0 : Int32) (s0 : TS) : XT G E "ForestLegsModel" "placeOf" cX2_placeOf 4 (Option.some Jvm.ClassFile.FieldType.int) 4 61 [(0, .ref E.2.1), (1, .int v1), (3, .int v3)] [.int w0] s0 (T_placeOf_61 k4 v1 v3 w0 s0) := by
  unfold T_placeOf_61
  refine x_iconst 0 dX2_placeOf_61 rfl (n := 62) rfl ?_
  exact T_placeOf_62_ok hO hE hk4 v1 v3 w0 0 s0
theorem T_placeOf_4F_ok {G : xG} {E : TE} (hO : xOK G) (hE : tok E)   {k4 : Int32 × Int32 × Int32 × TS → Option (xO × TS)} (hk4 : ∀ (v1 : Int32) (v2 : Int32) (v3 : Int32) (s0 : TS), XT G E "ForestLegsModel" "placeOf" cX2_placeOf 4 (Option.some Jvm.ClassFile.FieldType.int) 4 4 [(0, .ref E.2.1), (1, .int v1), (2, .int v2), (3, .int v3)] [] s0 (k4 (v1, v2, v3, s0))) (v1 : Int32) (v2 : Int32) (v3 : Int32) (s0 : TS) : XT G E "ForestLegsModel" "placeOf" cX2_placeOf 4 (Option.some Jvm.ClassFile.FieldType.int) 4 4 [(0, .ref E.2.1), (1, .int v1), (2, .int v2), (3, .int v3)] [] s0 (T_placeOf_4F k4 (v1, v2, v3, s0)) := by
  unfold T_placeOf_4F
  refine x_iload_n 3 dX2_placeOf_4 rfl rfl (n := 5) rfl ?_
  refine x_aload_nr 0 dX2_placeOf_5 rfl rfl (n := 6) rfl ?_
  refine tw_getA fl_X2_17 rfl (by decide) dX2_placeOf_6 (n := 9) rfl ?_
  refine x_iconst 1 dX2_placeOf_9 rfl (n := 10) rfl ?_
  refine tw_iald hE (by decide) dX2_placeOf_10 (n := 11) rfl (fun x1 => ?_)
  refine tw_icmp_ge dX2_placeOf_11 (t := 70) (by decide) (n := 14) rfl ?_ ?_
  · refine x_iload_n 2 dX2_placeOf_70 rfl rfl (n := 71) rfl ?_
    exact tw_ireturn dX2_placeOf_71
  · refine x_iload_n 2 dX2_placeOf_14 rfl rfl (n := 15) rfl ?_
    refine x_aload_nr 0 dX2_placeOf_15 rfl rfl (n := 16) rfl ?_
    refine tw_getA fl_X2_17 rfl (by decide) dX2_placeOf_16 (n := 19) rfl ?_
    refine x_bipush 37 dX2_placeOf_19 rfl (n := 21) rfl ?_
    refine x_iload_n 3 dX2_placeOf_21 rfl rfl (n := 22) rfl ?_
    refine x_iadd dX2_placeOf_22 (n := 23) rfl ?_
    refine tw_iald hE (by decide) dX2_placeOf_23 (n := 24) rfl (fun x2 => ?_)
    refine x_aload_nr 0 dX2_placeOf_24 rfl rfl (n := 25) rfl ?_
    refine tw_getA fl_X2_17 rfl (by decide) dX2_placeOf_25 (n := 28) rfl ?_
    refine x_bipush 37 dX2_placeOf_28 rfl (n := 30) rfl ?_
    refine x_iload_n 1 dX2_placeOf_30 rfl rfl (n := 31) rfl ?_
    refine x_iadd dX2_placeOf_31 (n := 32) rfl ?_
    refine tw_iald hE (by decide) dX2_placeOf_32 (n := 33) rfl (fun x3 => ?_)
    refine tw_icmp_ne dX2_placeOf_33 (t := 61) (by decide) (n := 36) rfl ?_ ?_
    · refine x_sub [0, 1, 3] [(0, .ref E.2.1), (1, .int v1), (3, .int v3)] rfl ?_
      exact T_placeOf_61_ok hO hE hk4 v1 v3 v2 s0
    · refine x_aload_nr 0 dX2_placeOf_36 rfl rfl (n := 37) rfl ?_
      refine x_iload_n 3 dX2_placeOf_37 rfl rfl (n := 38) rfl ?_
      refine tw_callV_I [.int v3] [.int v2] (T_isValid_ok hO hE s0 v3) md_X2_isValid q3132 q3134 qs82 dX2_placeOf_38 rfl rfl (by decide) (Nat.le_of_ble_eq_true rfl) (n := 41) rfl (fun x7 s6 => ?_)
      refine tw_if_eq dX2_placeOf_41 (t := 61) (by decide) (n := 44) rfl ?_ ?_
      · refine x_sub [0, 1, 3] [(0, .ref E.2.1), (1, .int v1), (3, .int v3)] rfl ?_
        exact T_placeOf_61_ok hO hE hk4 v1 v3 v2 s6
      · refine x_aload_nr 0 dX2_placeOf_44 rfl rfl (n := 45) rfl ?_
        refine x_iload_n 3 dX2_placeOf_45 rfl rfl (n := 46) rfl ?_
        refine tw_callV_I [.int v3] [.int v2] (T_totalOf_ok hO hE s6 v3) md_X2_totalOf q3199 q3201 qs97 dX2_placeOf_46 rfl rfl (by decide) (Nat.le_of_ble_eq_true rfl) (n := 49) rfl (fun x9 s8 => ?_)
        refine x_aload_nr 0 dX2_placeOf_49 rfl rfl (n := 50) rfl ?_
        refine x_iload_n 1 dX2_placeOf_50 rfl rfl (n := 51) rfl ?_
        refine tw_callV_I [.int v1] [.int x9, .int v2] (T_totalOf_ok hO hE s8 v1) md_X2_totalOf q3199 q3201 qs97 dX2_placeOf_51 rfl rfl (by decide) (Nat.le_of_ble_eq_true rfl) (n := 54) rfl (fun x11 s10 => ?_)
        refine tw_icmp_ge dX2_placeOf_54 (t := 61) (by decide) (n := 57) rfl ?_ ?_
        · refine x_sub [0, 1, 3] [(0, .ref E.2.1), (1, .int v1), (3, .int v3)] rfl ?_
          exact T_placeOf_61_ok hO hE hk4 v1 v3 v2 s10
        · refine x_iconst 1 dX2_placeOf_57 rfl (n := 58) rfl ?_
          refine x_goto dX2_placeOf_58 (n := 62) (by decide) ?_
          refine x_sub [0, 1, 3] [(0, .ref E.2.1), (1, .int v1), (3, .int v3)] rfl ?_
          exact T_placeOf_62_ok hO hE hk4 v1 v3 v2 1 s10
theorem T_placeOf_4_lp {G : xG} {E : TE} (hO : xOK G) (hE : tok E)   (n : Nat) (v1 : Int32) (v2 : Int32) (v3 : Int32) (s0 : TS) : XT G E "ForestLegsModel" "placeOf" cX2_placeOf 4 (Option.some Jvm.ClassFile.FieldType.int) 4 4 [(0, .ref E.2.1), (1, .int v1), (2, .int v2), (3, .int v3)] [] s0 (lp (T_placeOf_4F) n (v1, v2, v3, s0)) :=
  lp_ok (W := fun p K => XT G E "ForestLegsModel" "placeOf" cX2_placeOf 4 (Option.some Jvm.ClassFile.FieldType.int) 4 4 [(0, .ref E.2.1), (1, .int p.1), (2, .int p.2.1), (3, .int p.2.2.1)] [] p.2.2.2 K) (fun _ => tw_no) (fun k hk => fun (v1, v2, v3, s0) => T_placeOf_4F_ok hO hE (fun v1 v2 v3 s0 => hk (v1, v2, v3, s0)) v1 v2 v3 s0) n (v1, v2, v3, s0)
theorem T_placeOf_ok {G : xG} {E : TE} (hO : xOK G) (hE : tok E) (s0 : TS) (a1 : Int32) : CTT G E 4 yX2_placeOf cX2_placeOf 4 (Option.some Jvm.ClassFile.FieldType.int) [.ref E.2.1, .int a1] s0 (T_placeOf s0 a1) := by
  refine CT_of hO (by decide +kernel) (by decide +kernel) (Nat.le_of_ble_eq_true rfl) ?_
  show XT G E "ForestLegsModel" "placeOf" cX2_placeOf 4 (Option.some Jvm.ClassFile.FieldType.int) 4 0 [(0, .ref E.2.1), (1, .int a1)] [] s0 (T_placeOf s0 a1)
  refine x_iconst 1 dX2_placeOf_0 rfl (n := 1) rfl ?_
  refine x_istore_n [(2, .int 1), (0, .ref E.2.1), (1, .int a1)] dX2_placeOf_1 rfl (by decide) rfl (n := 2) rfl ?_
  refine x_iconst 0 dX2_placeOf_2 rfl (n := 3) rfl ?_
  refine x_istore_n [(3, .int 0), (2, .int 1), (0, .ref E.2.1), (1, .int a1)] dX2_placeOf_3 rfl (by decide) rfl (n := 4) rfl ?_
  refine x_sub [2, 3, 1, 0] [(0, .ref E.2.1), (1, .int a1), (2, .int 1), (3, .int 0)] rfl ?_
  exact T_placeOf_4_lp hO hE FU a1 1 0 s0
abbrev cX2_runner : ByteArray := prog_14_method_56_code
def yX2_runner : MethodName := ⟨RX2, "runner", "(II)I"⟩
def dkwX2_runner_8 : List UInt8 := [46, 182, 0, 249, 100, 167, 0, 5, 16, 254, 172]
abbrev dktX2_runner_8 : List UInt8 := dkwX2_runner_8 ++ []
def dkwX2_runner_7 : List UInt8 := [167, 0, 5, 16, 254, 172, 29, 154, 0, 25, 42, 27, 182, 0, 218, 42, 42, 180, 0, 17, 16, 37, 27, 96]
abbrev dktX2_runner_7 : List UInt8 := dkwX2_runner_7 ++ dktX2_runner_8
def dkwX2_runner_6 : List UInt8 := [46, 29, 100, 100, 172, 29, 154, 0, 7, 4, 167, 0, 4, 3, 172, 29, 154, 0, 11, 42, 27, 182, 0, 255]
abbrev dktX2_runner_6 : List UInt8 := dkwX2_runner_6 ++ dktX2_runner_7
def dkwX2_runner_5 : List UInt8 := [42, 180, 0, 17, 16, 67, 27, 96, 46, 42, 180, 0, 17, 7, 42, 180, 0, 17, 16, 37, 27, 96, 46, 96]
abbrev dktX2_runner_5 : List UInt8 := dkwX2_runner_5 ++ dktX2_runner_6
def dkwX2_runner_4 : List UInt8 := [16, 57, 27, 96, 46, 172, 42, 27, 182, 0, 218, 172, 42, 180, 0, 17, 16, 67, 27, 96, 46, 172, 29, 172]
abbrev dktX2_runner_4 : List UInt8 := dkwX2_runner_4 ++ dktX2_runner_5
def dkwX2_runner_3 : List UInt8 := [42, 180, 0, 17, 16, 37, 27, 96, 46, 172, 42, 180, 0, 17, 16, 47, 27, 96, 46, 172, 42, 180, 0, 17]
abbrev dktX2_runner_3 : List UInt8 := dkwX2_runner_3 ++ dktX2_runner_4
def dkwX2_runner_2 : List UInt8 := [170, 0, 0, 0, 0, 152, 0, 0, 0, 0, 0, 0, 0, 8, 0, 0, 0, 50, 0, 0, 0, 60, 0, 0, 0, 70, 0, 0, 0, 80, 0, 0, 0, 86, 0, 0, 0, 96, 0, 0, 0, 98, 0, 0, 0, 127, 0, 0, 0, 137]
abbrev dktX2_runner_2 : List UInt8 := dkwX2_runner_2 ++ dktX2_runner_3
def dkwX2_runner_1 : List UInt8 := [184, 0, 234, 182, 0, 161, 153, 0, 5, 2, 172, 42, 27, 182, 0, 206, 62, 28]
abbrev dktX2_runner_1 : List UInt8 := dkwX2_runner_1 ++ dktX2_runner_2
def dkwX2_runner_0 : List UInt8 := [42, 42, 27, 182, 0, 187, 153, 0, 17, 28, 3, 16, 9, 184, 0, 79, 153, 0, 7, 4, 167, 0, 4, 3]
abbrev dktX2_runner_0 : List UInt8 := dkwX2_runner_0 ++ dktX2_runner_1
theorem dksX2_runner_0 : cX2_runner.data.toList.drop 0 = dktX2_runner_0 := by decide +kernel
theorem dksX2_runner_1 : cX2_runner.data.toList.drop 24 = dktX2_runner_1 := dk_seg dksX2_runner_0 24 rfl rfl
theorem dksX2_runner_2 : cX2_runner.data.toList.drop 42 = dktX2_runner_2 := dk_seg dksX2_runner_1 18 rfl rfl
theorem dksX2_runner_3 : cX2_runner.data.toList.drop 92 = dktX2_runner_3 := dk_seg dksX2_runner_2 50 rfl rfl
theorem dksX2_runner_4 : cX2_runner.data.toList.drop 116 = dktX2_runner_4 := dk_seg dksX2_runner_3 24 rfl rfl
theorem dksX2_runner_5 : cX2_runner.data.toList.drop 140 = dktX2_runner_5 := dk_seg dksX2_runner_4 24 rfl rfl
theorem dksX2_runner_6 : cX2_runner.data.toList.drop 164 = dktX2_runner_6 := dk_seg dksX2_runner_5 24 rfl rfl
theorem dksX2_runner_7 : cX2_runner.data.toList.drop 188 = dktX2_runner_7 := dk_seg dksX2_runner_6 24 rfl rfl
theorem dksX2_runner_8 : cX2_runner.data.toList.drop 212 = dktX2_runner_8 := dk_seg dksX2_runner_7 24 rfl rfl
theorem dX2_runner_0 : decode cX2_runner 0 = .ok (.aload_n 0, 1) := dk_42 (dk_at dksX2_runner_0 0 rfl rfl)
theorem dX2_runner_1 : decode cX2_runner 1 = .ok (.aload_n 0, 1) := dk_42 (dk_at dksX2_runner_0 1 rfl rfl)
theorem dX2_runner_2 : decode cX2_runner 2 = .ok (.iload_n 1, 1) := dk_27 (dk_at dksX2_runner_0 2 rfl rfl)
theorem dX2_runner_3 : decode cX2_runner 3 = .ok (.invokevirtual 187, 3) := dk_182 0 187 (dk_at dksX2_runner_0 3 rfl rfl)
theorem dX2_runner_6 : decode cX2_runner 6 = .ok (.ifCond .eq 17, 3) := dk_153 0 17 (dk_at dksX2_runner_0 6 rfl rfl)
theorem dX2_runner_9 : decode cX2_runner 9 = .ok (.iload_n 2, 1) := dk_28 (dk_at dksX2_runner_0 9 rfl rfl)
theorem dX2_runner_10 : decode cX2_runner 10 = .ok (.iconst 0, 1) := dk_3 (dk_at dksX2_runner_0 10 rfl rfl)
theorem dX2_runner_11 : decode cX2_runner 11 = .ok (.bipush 9, 2) := dk_16 9 (dk_at dksX2_runner_0 11 rfl rfl)
theorem dX2_runner_13 : decode cX2_runner 13 = .ok (.invokestatic 79, 3) := dk_184 0 79 (dk_at dksX2_runner_0 13 rfl rfl)
theorem dX2_runner_16 : decode cX2_runner 16 = .ok (.ifCond .eq 7, 3) := dk_153 0 7 (dk_at dksX2_runner_0 16 rfl rfl)
theorem dX2_runner_19 : decode cX2_runner 19 = .ok (.iconst 1, 1) := dk_4 (dk_at dksX2_runner_0 19 rfl rfl)
theorem dX2_runner_20 : decode cX2_runner 20 = .ok (.goto 4, 3) := dk_167 0 4 (dk_at dksX2_runner_0 20 rfl rfl)
theorem dX2_runner_23 : decode cX2_runner 23 = .ok (.iconst 0, 1) := dk_3 (dk_at dksX2_runner_0 23 rfl rfl)
theorem dX2_runner_24 : decode cX2_runner 24 = .ok (.invokestatic 234, 3) := dk_184 0 234 (dk_at dksX2_runner_1 0 rfl rfl)
theorem dX2_runner_27 : decode cX2_runner 27 = .ok (.invokevirtual 161, 3) := dk_182 0 161 (dk_at dksX2_runner_1 3 rfl rfl)
theorem dX2_runner_30 : decode cX2_runner 30 = .ok (.ifCond .eq 5, 3) := dk_153 0 5 (dk_at dksX2_runner_1 6 rfl rfl)
theorem dX2_runner_33 : decode cX2_runner 33 = .ok (.iconst (-1), 1) := dk_2 (dk_at dksX2_runner_1 9 rfl rfl)
theorem dX2_runner_34 : decode cX2_runner 34 = .ok (.ireturn, 1) := dk_172 (dk_at dksX2_runner_1 10 rfl rfl)
theorem dX2_runner_35 : decode cX2_runner 35 = .ok (.aload_n 0, 1) := dk_42 (dk_at dksX2_runner_1 11 rfl rfl)
theorem dX2_runner_36 : decode cX2_runner 36 = .ok (.iload_n 1, 1) := dk_27 (dk_at dksX2_runner_1 12 rfl rfl)
theorem dX2_runner_37 : decode cX2_runner 37 = .ok (.invokevirtual 206, 3) := dk_182 0 206 (dk_at dksX2_runner_1 13 rfl rfl)
theorem dX2_runner_40 : decode cX2_runner 40 = .ok (.istore_n 3, 1) := dk_62 (dk_at dksX2_runner_1 16 rfl rfl)
theorem dX2_runner_41 : decode cX2_runner 41 = .ok (.iload_n 2, 1) := dk_28 (dk_at dksX2_runner_1 17 rfl rfl)
theorem dX2_runner_42 : decode cX2_runner 42 = .ok (.tableswitch 152 0 8 #[50, 60, 70, 80, 86, 96, 98, 127, 137], 50) := by decide +kernel
theorem dX2_runner_92 : decode cX2_runner 92 = .ok (.aload_n 0, 1) := dk_42 (dk_at dksX2_runner_3 0 rfl rfl)
theorem dX2_runner_93 : decode cX2_runner 93 = .ok (.getfield 17, 3) := dk_180 0 17 (dk_at dksX2_runner_3 1 rfl rfl)
theorem dX2_runner_96 : decode cX2_runner 96 = .ok (.bipush 37, 2) := dk_16 37 (dk_at dksX2_runner_3 4 rfl rfl)
theorem dX2_runner_98 : decode cX2_runner 98 = .ok (.iload_n 1, 1) := dk_27 (dk_at dksX2_runner_3 6 rfl rfl)
theorem dX2_runner_99 : decode cX2_runner 99 = .ok (.iadd, 1) := dk_96 (dk_at dksX2_runner_3 7 rfl rfl)
theorem dX2_runner_100 : decode cX2_runner 100 = .ok (.iaload, 1) := dk_46 (dk_at dksX2_runner_3 8 rfl rfl)
theorem dX2_runner_101 : decode cX2_runner 101 = .ok (.ireturn, 1) := dk_172 (dk_at dksX2_runner_3 9 rfl rfl)
theorem dX2_runner_102 : decode cX2_runner 102 = .ok (.aload_n 0, 1) := dk_42 (dk_at dksX2_runner_3 10 rfl rfl)
theorem dX2_runner_103 : decode cX2_runner 103 = .ok (.getfield 17, 3) := dk_180 0 17 (dk_at dksX2_runner_3 11 rfl rfl)
theorem dX2_runner_106 : decode cX2_runner 106 = .ok (.bipush 47, 2) := dk_16 47 (dk_at dksX2_runner_3 14 rfl rfl)
theorem dX2_runner_108 : decode cX2_runner 108 = .ok (.iload_n 1, 1) := dk_27 (dk_at dksX2_runner_3 16 rfl rfl)
theorem dX2_runner_109 : decode cX2_runner 109 = .ok (.iadd, 1) := dk_96 (dk_at dksX2_runner_3 17 rfl rfl)
theorem dX2_runner_110 : decode cX2_runner 110 = .ok (.iaload, 1) := dk_46 (dk_at dksX2_runner_3 18 rfl rfl)
theorem dX2_runner_111 : decode cX2_runner 111 = .ok (.ireturn, 1) := dk_172 (dk_at dksX2_runner_3 19 rfl rfl)
theorem dX2_runner_112 : decode cX2_runner 112 = .ok (.aload_n 0, 1) := dk_42 (dk_at dksX2_runner_3 20 rfl rfl)
theorem dX2_runner_113 : decode cX2_runner 113 = .ok (.getfield 17, 3) := dk_180 0 17 (dk_at dksX2_runner_3 21 rfl rfl)
theorem dX2_runner_116 : decode cX2_runner 116 = .ok (.bipush 57, 2) := dk_16 57 (dk_at dksX2_runner_4 0 rfl rfl)
theorem dX2_runner_118 : decode cX2_runner 118 = .ok (.iload_n 1, 1) := dk_27 (dk_at dksX2_runner_4 2 rfl rfl)
theorem dX2_runner_119 : decode cX2_runner 119 = .ok (.iadd, 1) := dk_96 (dk_at dksX2_runner_4 3 rfl rfl)
theorem dX2_runner_120 : decode cX2_runner 120 = .ok (.iaload, 1) := dk_46 (dk_at dksX2_runner_4 4 rfl rfl)
theorem dX2_runner_121 : decode cX2_runner 121 = .ok (.ireturn, 1) := dk_172 (dk_at dksX2_runner_4 5 rfl rfl)
theorem dX2_runner_122 : decode cX2_runner 122 = .ok (.aload_n 0, 1) := dk_42 (dk_at dksX2_runner_4 6 rfl rfl)
theorem dX2_runner_123 : decode cX2_runner 123 = .ok (.iload_n 1, 1) := dk_27 (dk_at dksX2_runner_4 7 rfl rfl)
theorem dX2_runner_124 : decode cX2_runner 124 = .ok (.invokevirtual 218, 3) := dk_182 0 218 (dk_at dksX2_runner_4 8 rfl rfl)
theorem dX2_runner_127 : decode cX2_runner 127 = .ok (.ireturn, 1) := dk_172 (dk_at dksX2_runner_4 11 rfl rfl)
theorem dX2_runner_128 : decode cX2_runner 128 = .ok (.aload_n 0, 1) := dk_42 (dk_at dksX2_runner_4 12 rfl rfl)
theorem dX2_runner_129 : decode cX2_runner 129 = .ok (.getfield 17, 3) := dk_180 0 17 (dk_at dksX2_runner_4 13 rfl rfl)
theorem dX2_runner_132 : decode cX2_runner 132 = .ok (.bipush 67, 2) := dk_16 67 (dk_at dksX2_runner_4 16 rfl rfl)
theorem dX2_runner_134 : decode cX2_runner 134 = .ok (.iload_n 1, 1) := dk_27 (dk_at dksX2_runner_4 18 rfl rfl)
theorem dX2_runner_135 : decode cX2_runner 135 = .ok (.iadd, 1) := dk_96 (dk_at dksX2_runner_4 19 rfl rfl)
theorem dX2_runner_136 : decode cX2_runner 136 = .ok (.iaload, 1) := dk_46 (dk_at dksX2_runner_4 20 rfl rfl)
theorem dX2_runner_137 : decode cX2_runner 137 = .ok (.ireturn, 1) := dk_172 (dk_at dksX2_runner_4 21 rfl rfl)
theorem dX2_runner_138 : decode cX2_runner 138 = .ok (.iload_n 3, 1) := dk_29 (dk_at dksX2_runner_4 22 rfl rfl)
theorem dX2_runner_139 : decode cX2_runner 139 = .ok (.ireturn, 1) := dk_172 (dk_at dksX2_runner_4 23 rfl rfl)
theorem dX2_runner_140 : decode cX2_runner 140 = .ok (.aload_n 0, 1) := dk_42 (dk_at dksX2_runner_5 0 rfl rfl)
theorem dX2_runner_141 : decode cX2_runner 141 = .ok (.getfield 17, 3) := dk_180 0 17 (dk_at dksX2_runner_5 1 rfl rfl)
theorem dX2_runner_144 : decode cX2_runner 144 = .ok (.bipush 67, 2) := dk_16 67 (dk_at dksX2_runner_5 4 rfl rfl)
theorem dX2_runner_146 : decode cX2_runner 146 = .ok (.iload_n 1, 1) := dk_27 (dk_at dksX2_runner_5 6 rfl rfl)
theorem dX2_runner_147 : decode cX2_runner 147 = .ok (.iadd, 1) := dk_96 (dk_at dksX2_runner_5 7 rfl rfl)
theorem dX2_runner_148 : decode cX2_runner 148 = .ok (.iaload, 1) := dk_46 (dk_at dksX2_runner_5 8 rfl rfl)
theorem dX2_runner_149 : decode cX2_runner 149 = .ok (.aload_n 0, 1) := dk_42 (dk_at dksX2_runner_5 9 rfl rfl)
theorem dX2_runner_150 : decode cX2_runner 150 = .ok (.getfield 17, 3) := dk_180 0 17 (dk_at dksX2_runner_5 10 rfl rfl)
theorem dX2_runner_153 : decode cX2_runner 153 = .ok (.iconst 4, 1) := dk_7 (dk_at dksX2_runner_5 13 rfl rfl)
theorem dX2_runner_154 : decode cX2_runner 154 = .ok (.aload_n 0, 1) := dk_42 (dk_at dksX2_runner_5 14 rfl rfl)
theorem dX2_runner_155 : decode cX2_runner 155 = .ok (.getfield 17, 3) := dk_180 0 17 (dk_at dksX2_runner_5 15 rfl rfl)
theorem dX2_runner_158 : decode cX2_runner 158 = .ok (.bipush 37, 2) := dk_16 37 (dk_at dksX2_runner_5 18 rfl rfl)
theorem dX2_runner_160 : decode cX2_runner 160 = .ok (.iload_n 1, 1) := dk_27 (dk_at dksX2_runner_5 20 rfl rfl)
theorem dX2_runner_161 : decode cX2_runner 161 = .ok (.iadd, 1) := dk_96 (dk_at dksX2_runner_5 21 rfl rfl)
theorem dX2_runner_162 : decode cX2_runner 162 = .ok (.iaload, 1) := dk_46 (dk_at dksX2_runner_5 22 rfl rfl)
theorem dX2_runner_163 : decode cX2_runner 163 = .ok (.iadd, 1) := dk_96 (dk_at dksX2_runner_5 23 rfl rfl)
theorem dX2_runner_164 : decode cX2_runner 164 = .ok (.iaload, 1) := dk_46 (dk_at dksX2_runner_6 0 rfl rfl)
theorem dX2_runner_165 : decode cX2_runner 165 = .ok (.iload_n 3, 1) := dk_29 (dk_at dksX2_runner_6 1 rfl rfl)
theorem dX2_runner_166 : decode cX2_runner 166 = .ok (.isub, 1) := dk_100 (dk_at dksX2_runner_6 2 rfl rfl)
theorem dX2_runner_167 : decode cX2_runner 167 = .ok (.isub, 1) := dk_100 (dk_at dksX2_runner_6 3 rfl rfl)
theorem dX2_runner_168 : decode cX2_runner 168 = .ok (.ireturn, 1) := dk_172 (dk_at dksX2_runner_6 4 rfl rfl)
theorem dX2_runner_169 : decode cX2_runner 169 = .ok (.iload_n 3, 1) := dk_29 (dk_at dksX2_runner_6 5 rfl rfl)
theorem dX2_runner_170 : decode cX2_runner 170 = .ok (.ifCond .ne 7, 3) := dk_154 0 7 (dk_at dksX2_runner_6 6 rfl rfl)
theorem dX2_runner_173 : decode cX2_runner 173 = .ok (.iconst 1, 1) := dk_4 (dk_at dksX2_runner_6 9 rfl rfl)
theorem dX2_runner_174 : decode cX2_runner 174 = .ok (.goto 4, 3) := dk_167 0 4 (dk_at dksX2_runner_6 10 rfl rfl)
theorem dX2_runner_177 : decode cX2_runner 177 = .ok (.iconst 0, 1) := dk_3 (dk_at dksX2_runner_6 13 rfl rfl)
theorem dX2_runner_178 : decode cX2_runner 178 = .ok (.ireturn, 1) := dk_172 (dk_at dksX2_runner_6 14 rfl rfl)
theorem dX2_runner_179 : decode cX2_runner 179 = .ok (.iload_n 3, 1) := dk_29 (dk_at dksX2_runner_6 15 rfl rfl)
theorem dX2_runner_180 : decode cX2_runner 180 = .ok (.ifCond .ne 11, 3) := dk_154 0 11 (dk_at dksX2_runner_6 16 rfl rfl)
theorem dX2_runner_183 : decode cX2_runner 183 = .ok (.aload_n 0, 1) := dk_42 (dk_at dksX2_runner_6 19 rfl rfl)
theorem dX2_runner_184 : decode cX2_runner 184 = .ok (.iload_n 1, 1) := dk_27 (dk_at dksX2_runner_6 20 rfl rfl)
theorem dX2_runner_185 : decode cX2_runner 185 = .ok (.invokevirtual 255, 3) := dk_182 0 255 (dk_at dksX2_runner_6 21 rfl rfl)
theorem dX2_runner_188 : decode cX2_runner 188 = .ok (.goto 5, 3) := dk_167 0 5 (dk_at dksX2_runner_7 0 rfl rfl)
theorem dX2_runner_191 : decode cX2_runner 191 = .ok (.bipush (-2), 2) := dk_16 254 (dk_at dksX2_runner_7 3 rfl rfl)
theorem dX2_runner_193 : decode cX2_runner 193 = .ok (.ireturn, 1) := dk_172 (dk_at dksX2_runner_7 5 rfl rfl)
theorem dX2_runner_194 : decode cX2_runner 194 = .ok (.iload_n 3, 1) := dk_29 (dk_at dksX2_runner_7 6 rfl rfl)
theorem dX2_runner_195 : decode cX2_runner 195 = .ok (.ifCond .ne 25, 3) := dk_154 0 25 (dk_at dksX2_runner_7 7 rfl rfl)
theorem dX2_runner_198 : decode cX2_runner 198 = .ok (.aload_n 0, 1) := dk_42 (dk_at dksX2_runner_7 10 rfl rfl)
theorem dX2_runner_199 : decode cX2_runner 199 = .ok (.iload_n 1, 1) := dk_27 (dk_at dksX2_runner_7 11 rfl rfl)
theorem dX2_runner_200 : decode cX2_runner 200 = .ok (.invokevirtual 218, 3) := dk_182 0 218 (dk_at dksX2_runner_7 12 rfl rfl)
theorem dX2_runner_203 : decode cX2_runner 203 = .ok (.aload_n 0, 1) := dk_42 (dk_at dksX2_runner_7 15 rfl rfl)
theorem dX2_runner_204 : decode cX2_runner 204 = .ok (.aload_n 0, 1) := dk_42 (dk_at dksX2_runner_7 16 rfl rfl)
theorem dX2_runner_205 : decode cX2_runner 205 = .ok (.getfield 17, 3) := dk_180 0 17 (dk_at dksX2_runner_7 17 rfl rfl)
theorem dX2_runner_208 : decode cX2_runner 208 = .ok (.bipush 37, 2) := dk_16 37 (dk_at dksX2_runner_7 20 rfl rfl)
theorem dX2_runner_210 : decode cX2_runner 210 = .ok (.iload_n 1, 1) := dk_27 (dk_at dksX2_runner_7 22 rfl rfl)
theorem dX2_runner_211 : decode cX2_runner 211 = .ok (.iadd, 1) := dk_96 (dk_at dksX2_runner_7 23 rfl rfl)
theorem dX2_runner_212 : decode cX2_runner 212 = .ok (.iaload, 1) := dk_46 (dk_at dksX2_runner_8 0 rfl rfl)
theorem dX2_runner_213 : decode cX2_runner 213 = .ok (.invokevirtual 249, 3) := dk_182 0 249 (dk_at dksX2_runner_8 1 rfl rfl)
theorem dX2_runner_216 : decode cX2_runner 216 = .ok (.isub, 1) := dk_100 (dk_at dksX2_runner_8 4 rfl rfl)
theorem dX2_runner_217 : decode cX2_runner 217 = .ok (.goto 5, 3) := dk_167 0 5 (dk_at dksX2_runner_8 5 rfl rfl)
theorem dX2_runner_220 : decode cX2_runner 220 = .ok (.bipush (-2), 2) := dk_16 254 (dk_at dksX2_runner_8 8 rfl rfl)
theorem dX2_runner_222 : decode cX2_runner 222 = .ok (.ireturn, 1) := dk_172 (dk_at dksX2_runner_8 10 rfl rfl)
theorem md_X2_runner : xMd yX2_runner cX2_runner 4 (Option.some Jvm.ClassFile.FieldType.int) 2 := ⟨q3214, q126, by decide, by decide +kernel, by decide +kernel, by decide +kernel⟩
def T_runner_24   (v1 : Int32) (v2 : Int32) (w1 : Int32) (s0 : TS) : Option (xO × TS) :=
  (xcI (T_unless_2 s0 w1) fun x4 s3 =>
  (xcI (T_isRefused s3 x4) fun x6 s5 =>
  (if x6 = 0 then
  (xcI (T_missedBy s5 v1) fun x8 s7 =>
  (xtab v2 0 [
  (tald s7 7 (37 + v1) fun x14 =>
  (rI x14 s7)),
  (tald s7 7 (47 + v1) fun x15 =>
  (rI x15 s7)),
  (tald s7 7 (57 + v1) fun x16 =>
  (rI x16 s7)),
  (xcI (T_totalOf s7 v1) fun x18 s17 =>
  (rI x18 s17)),
  (tald s7 7 (67 + v1) fun x19 =>
  (rI x19 s7)),
  (rI x8 s7),
  (tald s7 7 (67 + v1) fun x20 =>
  (tald s7 7 (37 + v1) fun x21 =>
  (tald s7 7 (4 + x21) fun x22 =>
  (rI (x20 - (x22 - x8)) s7)))),
  (if x8 = 0 then
  (rI 1 s7) else
  (rI 0 s7)),
  (if x8 = 0 then
  (xcI (T_placeOf s7 v1) fun x24 s23 =>
  (rI x24 s23)) else
  (rI (-2) s7))]
  (if x8 = 0 then
  (xcI (T_totalOf s7 v1) fun x10 s9 =>
  (tald s9 7 (37 + v1) fun x11 =>
  (xcI (T_leastTotal s9 x11) fun x13 s12 =>
  (rI (x10 - x13) s12)))) else
  (rI (-2) s7)))) else
  (rI (-1) s5))))
def T_runner_23   (v1 : Int32) (v2 : Int32) (s0 : TS) : Option (xO × TS) :=
  (T_runner_24 v1 v2 0 s0)
def T_runner (s0 : TS) (a1 : Int32) (a2 : Int32) : Option (xO × TS) :=
  (xcI (T_isRunner s0 a1) fun x2 s1 =>
  (if x2 = 0 then
  (T_runner_23 a1 a2 s1) else
  (xcI (T_in s1 a2 0 9) fun x26 s25 =>
  (if x26 = 0 then
  (T_runner_23 a1 a2 s25) else
  (T_runner_24 a1 a2 1 s25)))))
theorem T_runner_24_ok {G : xG} {E : TE} (hO : xOK G) (hE : tok E)   (v1 : Int32) (v2 : Int32) (w1 : Int32) (s0 : TS) : XT G E "ForestLegsModel" "runner" cX2_runner 4 (Option.some Jvm.ClassFile.FieldType.int) 5 24 [(0, .ref E.2.1), (1, .int v1), (2, .int v2)] [.int w1, .ref E.2.1] s0 (T_runner_24 v1 v2 w1 s0) := by
  unfold T_runner_24
  refine tw_callS_I [.int w1] [.ref E.2.1] (T_unless_2_ok hO hE s0 w1) md_X2_unless_2 q3121 q3122 dX2_runner_24 rfl rfl (by decide) (Nat.le_of_ble_eq_true rfl) (n := 27) rfl (fun x4 s3 => ?_)
  refine tw_callV_I [.int x4] [] (T_isRefused_ok hO hE s3 x4) md_X2_isRefused q3022 q3024 qs63 dX2_runner_27 rfl rfl (by decide) (Nat.le_of_ble_eq_true rfl) (n := 30) rfl (fun x6 s5 => ?_)
  refine tw_if_eq dX2_runner_30 (t := 35) (by decide) (n := 33) rfl ?_ ?_
  · refine x_aload_nr 0 dX2_runner_35 rfl rfl (n := 36) rfl ?_
    refine x_iload_n 1 dX2_runner_36 rfl rfl (n := 37) rfl ?_
    refine tw_callV_I [.int v1] [] (T_missedBy_ok hO hE s5 v1) md_X2_missedBy q3136 q3138 qs83 dX2_runner_37 rfl rfl (by decide) (Nat.le_of_ble_eq_true rfl) (n := 40) rfl (fun x8 s7 => ?_)
    refine x_istore_n [(3, .int x8), (0, .ref E.2.1), (1, .int v1), (2, .int v2)] dX2_runner_40 rfl (by decide) rfl (n := 41) rfl ?_
    refine x_iload_n 3 dX2_runner_41 rfl rfl (n := 42) rfl ?_
    refine tw_tab [92, 102, 112, 122, 128, 138, 140, 169, 179] dX2_runner_42 rfl rfl (td := 194) (by decide) ?_ ⟨?_, ?_, ?_, ?_, ?_, ?_, ?_, ?_, ?_, trivial⟩
    · refine x_iload_n 0 dX2_runner_194 rfl rfl (n := 195) rfl ?_
      refine tw_if_ne dX2_runner_195 (t := 220) (by decide) (n := 198) rfl ?_ ?_
      · refine x_bipush (-2) dX2_runner_220 rfl (n := 222) rfl ?_
        exact tw_ireturn dX2_runner_222
      · refine x_aload_nr 1 dX2_runner_198 rfl rfl (n := 199) rfl ?_
        refine x_iload_n 2 dX2_runner_199 rfl rfl (n := 200) rfl ?_
        refine tw_callV_I [.int v1] [] (T_totalOf_ok hO hE s7 v1) md_X2_totalOf q3199 q3201 qs97 dX2_runner_200 rfl rfl (by decide) (Nat.le_of_ble_eq_true rfl) (n := 203) rfl (fun x10 s9 => ?_)
        refine x_aload_nr 1 dX2_runner_203 rfl rfl (n := 204) rfl ?_
        refine x_aload_nr 1 dX2_runner_204 rfl rfl (n := 205) rfl ?_
        refine tw_getA fl_X2_17 rfl (by decide) dX2_runner_205 (n := 208) rfl ?_
        refine x_bipush 37 dX2_runner_208 rfl (n := 210) rfl ?_
        refine x_iload_n 2 dX2_runner_210 rfl rfl (n := 211) rfl ?_
        refine x_iadd dX2_runner_211 (n := 212) rfl ?_
        refine tw_iald hE (by decide) dX2_runner_212 (n := 213) rfl (fun x11 => ?_)
        refine tw_callV_I [.int x11] [.int x10] (T_leastTotal_ok hO hE s9 x11) md_X2_leastTotal q3195 q3197 qs96 dX2_runner_213 rfl rfl (by decide) (Nat.le_of_ble_eq_true rfl) (n := 216) rfl (fun x13 s12 => ?_)
        refine x_isub dX2_runner_216 (n := 217) rfl ?_
        refine x_goto dX2_runner_217 (n := 222) (by decide) ?_
        exact tw_ireturn dX2_runner_222
    · refine x_aload_nr 1 dX2_runner_92 rfl rfl (n := 93) rfl ?_
      refine tw_getA fl_X2_17 rfl (by decide) dX2_runner_93 (n := 96) rfl ?_
      refine x_bipush 37 dX2_runner_96 rfl (n := 98) rfl ?_
      refine x_iload_n 2 dX2_runner_98 rfl rfl (n := 99) rfl ?_
      refine x_iadd dX2_runner_99 (n := 100) rfl ?_
      refine tw_iald hE (by decide) dX2_runner_100 (n := 101) rfl (fun x14 => ?_)
      exact tw_ireturn dX2_runner_101
    · refine x_aload_nr 1 dX2_runner_102 rfl rfl (n := 103) rfl ?_
      refine tw_getA fl_X2_17 rfl (by decide) dX2_runner_103 (n := 106) rfl ?_
      refine x_bipush 47 dX2_runner_106 rfl (n := 108) rfl ?_
      refine x_iload_n 2 dX2_runner_108 rfl rfl (n := 109) rfl ?_
      refine x_iadd dX2_runner_109 (n := 110) rfl ?_
      refine tw_iald hE (by decide) dX2_runner_110 (n := 111) rfl (fun x15 => ?_)
      exact tw_ireturn dX2_runner_111
    · refine x_aload_nr 1 dX2_runner_112 rfl rfl (n := 113) rfl ?_
      refine tw_getA fl_X2_17 rfl (by decide) dX2_runner_113 (n := 116) rfl ?_
      refine x_bipush 57 dX2_runner_116 rfl (n := 118) rfl ?_
      refine x_iload_n 2 dX2_runner_118 rfl rfl (n := 119) rfl ?_
      refine x_iadd dX2_runner_119 (n := 120) rfl ?_
      refine tw_iald hE (by decide) dX2_runner_120 (n := 121) rfl (fun x16 => ?_)
      exact tw_ireturn dX2_runner_121
    · refine x_aload_nr 1 dX2_runner_122 rfl rfl (n := 123) rfl ?_
      refine x_iload_n 2 dX2_runner_123 rfl rfl (n := 124) rfl ?_
      refine tw_callV_I [.int v1] [] (T_totalOf_ok hO hE s7 v1) md_X2_totalOf q3199 q3201 qs97 dX2_runner_124 rfl rfl (by decide) (Nat.le_of_ble_eq_true rfl) (n := 127) rfl (fun x18 s17 => ?_)
      exact tw_ireturn dX2_runner_127
    · refine x_aload_nr 1 dX2_runner_128 rfl rfl (n := 129) rfl ?_
      refine tw_getA fl_X2_17 rfl (by decide) dX2_runner_129 (n := 132) rfl ?_
      refine x_bipush 67 dX2_runner_132 rfl (n := 134) rfl ?_
      refine x_iload_n 2 dX2_runner_134 rfl rfl (n := 135) rfl ?_
      refine x_iadd dX2_runner_135 (n := 136) rfl ?_
      refine tw_iald hE (by decide) dX2_runner_136 (n := 137) rfl (fun x19 => ?_)
      exact tw_ireturn dX2_runner_137
    · refine x_iload_n 0 dX2_runner_138 rfl rfl (n := 139) rfl ?_
      exact tw_ireturn dX2_runner_139
    · refine x_aload_nr 1 dX2_runner_140 rfl rfl (n := 141) rfl ?_
      refine tw_getA fl_X2_17 rfl (by decide) dX2_runner_141 (n := 144) rfl ?_
      refine x_bipush 67 dX2_runner_144 rfl (n := 146) rfl ?_
      refine x_iload_n 2 dX2_runner_146 rfl rfl (n := 147) rfl ?_
      refine x_iadd dX2_runner_147 (n := 148) rfl ?_
      refine tw_iald hE (by decide) dX2_runner_148 (n := 149) rfl (fun x20 => ?_)
      refine x_aload_nr 1 dX2_runner_149 rfl rfl (n := 150) rfl ?_
      refine tw_getA fl_X2_17 rfl (by decide) dX2_runner_150 (n := 153) rfl ?_
      refine x_iconst 4 dX2_runner_153 rfl (n := 154) rfl ?_
      refine x_aload_nr 1 dX2_runner_154 rfl rfl (n := 155) rfl ?_
      refine tw_getA fl_X2_17 rfl (by decide) dX2_runner_155 (n := 158) rfl ?_
      refine x_bipush 37 dX2_runner_158 rfl (n := 160) rfl ?_
      refine x_iload_n 2 dX2_runner_160 rfl rfl (n := 161) rfl ?_
      refine x_iadd dX2_runner_161 (n := 162) rfl ?_
      refine tw_iald hE (by decide) dX2_runner_162 (n := 163) rfl (fun x21 => ?_)
      refine x_iadd dX2_runner_163 (n := 164) rfl ?_
      refine tw_iald hE (by decide) dX2_runner_164 (n := 165) rfl (fun x22 => ?_)
      refine x_iload_n 0 dX2_runner_165 rfl rfl (n := 166) rfl ?_
      refine x_isub dX2_runner_166 (n := 167) rfl ?_
      refine x_isub dX2_runner_167 (n := 168) rfl ?_
      exact tw_ireturn dX2_runner_168
    · refine x_iload_n 0 dX2_runner_169 rfl rfl (n := 170) rfl ?_
      refine tw_if_ne dX2_runner_170 (t := 177) (by decide) (n := 173) rfl ?_ ?_
      · refine x_iconst 0 dX2_runner_177 rfl (n := 178) rfl ?_
        exact tw_ireturn dX2_runner_178
      · refine x_iconst 1 dX2_runner_173 rfl (n := 174) rfl ?_
        refine x_goto dX2_runner_174 (n := 178) (by decide) ?_
        exact tw_ireturn dX2_runner_178
    · refine x_iload_n 0 dX2_runner_179 rfl rfl (n := 180) rfl ?_
      refine tw_if_ne dX2_runner_180 (t := 191) (by decide) (n := 183) rfl ?_ ?_
      · refine x_bipush (-2) dX2_runner_191 rfl (n := 193) rfl ?_
        exact tw_ireturn dX2_runner_193
      · refine x_aload_nr 1 dX2_runner_183 rfl rfl (n := 184) rfl ?_
        refine x_iload_n 2 dX2_runner_184 rfl rfl (n := 185) rfl ?_
        refine tw_callV_I [.int v1] [] (T_placeOf_ok hO hE s7 v1) md_X2_placeOf q3219 q3221 qs100 dX2_runner_185 rfl rfl (by decide) (Nat.le_of_ble_eq_true rfl) (n := 188) rfl (fun x24 s23 => ?_)
        refine x_goto dX2_runner_188 (n := 193) (by decide) ?_
        exact tw_ireturn dX2_runner_193
  · refine x_iconst (-1) dX2_runner_33 rfl (n := 34) rfl ?_
    exact tw_ireturn dX2_runner_34
theorem T_runner_23_ok {G : xG} {E : TE} (hO : xOK G) (hE : tok E)   (v1 : Int32) (v2 : Int32) (s0 : TS) : XT G E "ForestLegsModel" "runner" cX2_runner 4 (Option.some Jvm.ClassFile.FieldType.int) 5 23 [(0, .ref E.2.1), (1, .int v1), (2, .int v2)] [.ref E.2.1] s0 (T_runner_23 v1 v2 s0) := by
  unfold T_runner_23
  refine x_iconst 0 dX2_runner_23 rfl (n := 24) rfl ?_
  exact T_runner_24_ok hO hE v1 v2 0 s0
theorem T_runner_ok {G : xG} {E : TE} (hO : xOK G) (hE : tok E) (s0 : TS) (a1 : Int32) (a2 : Int32) : CTT G E 5 yX2_runner cX2_runner 4 (Option.some Jvm.ClassFile.FieldType.int) [.ref E.2.1, .int a1, .int a2] s0 (T_runner s0 a1 a2) := by
  refine CT_of hO (by decide +kernel) (by decide +kernel) (Nat.le_of_ble_eq_true rfl) ?_
  show XT G E "ForestLegsModel" "runner" cX2_runner 4 (Option.some Jvm.ClassFile.FieldType.int) 5 0 [(0, .ref E.2.1), (1, .int a1), (2, .int a2)] [] s0 (T_runner s0 a1 a2)
  refine x_aload_nr 0 dX2_runner_0 rfl rfl (n := 1) rfl ?_
  refine x_aload_nr 0 dX2_runner_1 rfl rfl (n := 2) rfl ?_
  refine x_iload_n 1 dX2_runner_2 rfl rfl (n := 3) rfl ?_
  refine tw_callV_I [.int a1] [.ref E.2.1] (T_isRunner_ok hO hE s0 a1) md_X2_isRunner q3215 q3217 qs99 dX2_runner_3 rfl rfl (by decide) (Nat.le_of_ble_eq_true rfl) (n := 6) rfl (fun x2 s1 => ?_)
  refine tw_if_eq dX2_runner_6 (t := 23) (by decide) (n := 9) rfl ?_ ?_
  · exact T_runner_23_ok hO hE a1 a2 s1
  · refine x_iload_n 2 dX2_runner_9 rfl rfl (n := 10) rfl ?_
    refine x_iconst 0 dX2_runner_10 rfl (n := 11) rfl ?_
    refine x_bipush 9 dX2_runner_11 rfl (n := 13) rfl ?_
    refine tw_callS_I [.int a2, .int 0, .int 9] [.ref E.2.1] (T_in_ok hO hE s1 a2 0 9) md_X2_in q3016 q3017 dX2_runner_13 rfl rfl (by decide) (Nat.le_of_ble_eq_true rfl) (n := 16) rfl (fun x26 s25 => ?_)
    refine tw_if_eq dX2_runner_16 (t := 23) (by decide) (n := 19) rfl ?_ ?_
    · exact T_runner_23_ok hO hE a1 a2 s25
    · refine x_iconst 1 dX2_runner_19 rfl (n := 20) rfl ?_
      refine x_goto dX2_runner_20 (n := 24) (by decide) ?_
      exact T_runner_24_ok hO hE a1 a2 1 s25
abbrev cX2_isPunch : ByteArray := prog_14_method_57_code
def yX2_isPunch : MethodName := ⟨RX2, "isPunch", "(II)Z"⟩
def dkwX2_isPunch_1 : List UInt8 := [153, 0, 7, 4, 167, 0, 4, 3, 172]
abbrev dktX2_isPunch_1 : List UInt8 := dkwX2_isPunch_1 ++ []
def dkwX2_isPunch_0 : List UInt8 := [42, 27, 182, 0, 187, 153, 0, 26, 28, 3, 42, 180, 0, 17, 16, 67, 27, 96, 46, 4, 100, 184, 0, 79]
abbrev dktX2_isPunch_0 : List UInt8 := dkwX2_isPunch_0 ++ dktX2_isPunch_1
theorem dksX2_isPunch_0 : cX2_isPunch.data.toList.drop 0 = dktX2_isPunch_0 := by decide +kernel
theorem dksX2_isPunch_1 : cX2_isPunch.data.toList.drop 24 = dktX2_isPunch_1 := dk_seg dksX2_isPunch_0 24 rfl rfl
theorem dX2_isPunch_0 : decode cX2_isPunch 0 = .ok (.aload_n 0, 1) := dk_42 (dk_at dksX2_isPunch_0 0 rfl rfl)
theorem dX2_isPunch_1 : decode cX2_isPunch 1 = .ok (.iload_n 1, 1) := dk_27 (dk_at dksX2_isPunch_0 1 rfl rfl)
theorem dX2_isPunch_2 : decode cX2_isPunch 2 = .ok (.invokevirtual 187, 3) := dk_182 0 187 (dk_at dksX2_isPunch_0 2 rfl rfl)
theorem dX2_isPunch_5 : decode cX2_isPunch 5 = .ok (.ifCond .eq 26, 3) := dk_153 0 26 (dk_at dksX2_isPunch_0 5 rfl rfl)
theorem dX2_isPunch_8 : decode cX2_isPunch 8 = .ok (.iload_n 2, 1) := dk_28 (dk_at dksX2_isPunch_0 8 rfl rfl)
theorem dX2_isPunch_9 : decode cX2_isPunch 9 = .ok (.iconst 0, 1) := dk_3 (dk_at dksX2_isPunch_0 9 rfl rfl)
theorem dX2_isPunch_10 : decode cX2_isPunch 10 = .ok (.aload_n 0, 1) := dk_42 (dk_at dksX2_isPunch_0 10 rfl rfl)
theorem dX2_isPunch_11 : decode cX2_isPunch 11 = .ok (.getfield 17, 3) := dk_180 0 17 (dk_at dksX2_isPunch_0 11 rfl rfl)
theorem dX2_isPunch_14 : decode cX2_isPunch 14 = .ok (.bipush 67, 2) := dk_16 67 (dk_at dksX2_isPunch_0 14 rfl rfl)
theorem dX2_isPunch_16 : decode cX2_isPunch 16 = .ok (.iload_n 1, 1) := dk_27 (dk_at dksX2_isPunch_0 16 rfl rfl)
theorem dX2_isPunch_17 : decode cX2_isPunch 17 = .ok (.iadd, 1) := dk_96 (dk_at dksX2_isPunch_0 17 rfl rfl)
theorem dX2_isPunch_18 : decode cX2_isPunch 18 = .ok (.iaload, 1) := dk_46 (dk_at dksX2_isPunch_0 18 rfl rfl)
theorem dX2_isPunch_19 : decode cX2_isPunch 19 = .ok (.iconst 1, 1) := dk_4 (dk_at dksX2_isPunch_0 19 rfl rfl)
theorem dX2_isPunch_20 : decode cX2_isPunch 20 = .ok (.isub, 1) := dk_100 (dk_at dksX2_isPunch_0 20 rfl rfl)
theorem dX2_isPunch_21 : decode cX2_isPunch 21 = .ok (.invokestatic 79, 3) := dk_184 0 79 (dk_at dksX2_isPunch_0 21 rfl rfl)
theorem dX2_isPunch_24 : decode cX2_isPunch 24 = .ok (.ifCond .eq 7, 3) := dk_153 0 7 (dk_at dksX2_isPunch_1 0 rfl rfl)
theorem dX2_isPunch_27 : decode cX2_isPunch 27 = .ok (.iconst 1, 1) := dk_4 (dk_at dksX2_isPunch_1 3 rfl rfl)
theorem dX2_isPunch_28 : decode cX2_isPunch 28 = .ok (.goto 4, 3) := dk_167 0 4 (dk_at dksX2_isPunch_1 4 rfl rfl)
theorem dX2_isPunch_31 : decode cX2_isPunch 31 = .ok (.iconst 0, 1) := dk_3 (dk_at dksX2_isPunch_1 7 rfl rfl)
theorem dX2_isPunch_32 : decode cX2_isPunch 32 = .ok (.ireturn, 1) := dk_172 (dk_at dksX2_isPunch_1 8 rfl rfl)
theorem md_X2_isPunch : xMd yX2_isPunch cX2_isPunch 3 (Option.some Jvm.ClassFile.FieldType.boolean) 2 := ⟨q3230, q126, by decide, by decide +kernel, by decide +kernel, by decide +kernel⟩
def T_isPunch (s0 : TS) (a1 : Int32) (a2 : Int32) : Option (xO × TS) :=
  (xcI (T_isRunner s0 a1) fun x2 s1 =>
  (if x2 = 0 then
  (if vp_nar .boolean 0 = 0 then rI 0 s1 else none) else
  (tald s1 7 (67 + a1) fun x3 =>
  (xcI (T_in s1 a2 0 (x3 - 1)) fun x5 s4 =>
  (if x5 = 0 then
  (if vp_nar .boolean 0 = 0 then rI 0 s4 else none) else
  (if vp_nar .boolean 1 = 1 then rI 1 s4 else none))))))
theorem T_isPunch_ok {G : xG} {E : TE} (hO : xOK G) (hE : tok E) (s0 : TS) (a1 : Int32) (a2 : Int32) : CTT G E 2 yX2_isPunch cX2_isPunch 3 (Option.some Jvm.ClassFile.FieldType.boolean) [.ref E.2.1, .int a1, .int a2] s0 (T_isPunch s0 a1 a2) := by
  refine CT_of hO (by decide +kernel) (by decide +kernel) (Nat.le_of_ble_eq_true rfl) ?_
  show XT G E "ForestLegsModel" "isPunch" cX2_isPunch 3 (Option.some Jvm.ClassFile.FieldType.boolean) 2 0 [(0, .ref E.2.1), (1, .int a1), (2, .int a2)] [] s0 (T_isPunch s0 a1 a2)
  refine x_aload_nr 0 dX2_isPunch_0 rfl rfl (n := 1) rfl ?_
  refine x_iload_n 1 dX2_isPunch_1 rfl rfl (n := 2) rfl ?_
  refine tw_callV_I [.int a1] [] (T_isRunner_ok hO hE s0 a1) md_X2_isRunner q3215 q3217 qs99 dX2_isPunch_2 rfl rfl (by decide) (Nat.le_of_ble_eq_true rfl) (n := 5) rfl (fun x2 s1 => ?_)
  refine tw_if_eq dX2_isPunch_5 (t := 31) (by decide) (n := 8) rfl ?_ ?_
  · refine x_iconst 0 dX2_isPunch_31 rfl (n := 32) rfl ?_
    exact tw_zreturn rfl dX2_isPunch_32
  · refine x_iload_n 2 dX2_isPunch_8 rfl rfl (n := 9) rfl ?_
    refine x_iconst 0 dX2_isPunch_9 rfl (n := 10) rfl ?_
    refine x_aload_nr 0 dX2_isPunch_10 rfl rfl (n := 11) rfl ?_
    refine tw_getA fl_X2_17 rfl (by decide) dX2_isPunch_11 (n := 14) rfl ?_
    refine x_bipush 67 dX2_isPunch_14 rfl (n := 16) rfl ?_
    refine x_iload_n 1 dX2_isPunch_16 rfl rfl (n := 17) rfl ?_
    refine x_iadd dX2_isPunch_17 (n := 18) rfl ?_
    refine tw_iald hE (by decide) dX2_isPunch_18 (n := 19) rfl (fun x3 => ?_)
    refine x_iconst 1 dX2_isPunch_19 rfl (n := 20) rfl ?_
    refine x_isub dX2_isPunch_20 (n := 21) rfl ?_
    refine tw_callS_I [.int a2, .int 0, .int (x3 - 1)] [] (T_in_ok hO hE s1 a2 0 (x3 - 1)) md_X2_in q3016 q3017 dX2_isPunch_21 rfl rfl (by decide) (Nat.le_of_ble_eq_true rfl) (n := 24) rfl (fun x5 s4 => ?_)
    refine tw_if_eq dX2_isPunch_24 (t := 31) (by decide) (n := 27) rfl ?_ ?_
    · refine x_iconst 0 dX2_isPunch_31 rfl (n := 32) rfl ?_
      exact tw_zreturn rfl dX2_isPunch_32
    · refine x_iconst 1 dX2_isPunch_27 rfl (n := 28) rfl ?_
      refine x_goto dX2_isPunch_28 (n := 32) (by decide) ?_
      exact tw_zreturn rfl dX2_isPunch_32
abbrev cX2_punch : ByteArray := prog_14_method_58_code
def yX2_punch : MethodName := ⟨RX2, "punch", "(III)I"⟩
def dkwX2_punch_4 : List UInt8 := [21, 4, 46, 28, 160, 0, 6, 21, 4, 172, 132, 4, 1, 167, 255, 218, 16, 254, 172]
abbrev dktX2_punch_4 : List UInt8 := dkwX2_punch_4 ++ []
def dkwX2_punch_3 : List UInt8 := [42, 180, 0, 17, 7, 42, 180, 0, 17, 16, 37, 27, 96, 46, 96, 46, 162, 0, 23, 42, 180, 0, 32]
abbrev dktX2_punch_3 : List UInt8 := dkwX2_punch_3 ++ dktX2_punch_4
def dkwX2_punch_2 : List UInt8 := [182, 0, 200, 167, 0, 9, 42, 27, 28, 182, 0, 209, 172, 42, 27, 182, 0, 206, 87, 3, 54, 4, 21, 4]
abbrev dktX2_punch_2 : List UInt8 := dkwX2_punch_2 ++ dktX2_punch_3
def dkwX2_punch_1 : List UInt8 := [184, 0, 234, 182, 0, 161, 153, 0, 5, 2, 172, 29, 5, 162, 0, 23, 29, 154, 0, 12, 42, 27, 28]
abbrev dktX2_punch_1 : List UInt8 := dkwX2_punch_1 ++ dktX2_punch_2
def dkwX2_punch_0 : List UInt8 := [42, 42, 27, 28, 182, 1, 2, 153, 0, 16, 29, 3, 5, 184, 0, 79, 153, 0, 7, 4, 167, 0, 4, 3]
abbrev dktX2_punch_0 : List UInt8 := dkwX2_punch_0 ++ dktX2_punch_1
theorem dksX2_punch_0 : cX2_punch.data.toList.drop 0 = dktX2_punch_0 := by decide +kernel
theorem dksX2_punch_1 : cX2_punch.data.toList.drop 24 = dktX2_punch_1 := dk_seg dksX2_punch_0 24 rfl rfl
theorem dksX2_punch_2 : cX2_punch.data.toList.drop 47 = dktX2_punch_2 := dk_seg dksX2_punch_1 23 rfl rfl
theorem dksX2_punch_3 : cX2_punch.data.toList.drop 71 = dktX2_punch_3 := dk_seg dksX2_punch_2 24 rfl rfl
theorem dksX2_punch_4 : cX2_punch.data.toList.drop 94 = dktX2_punch_4 := dk_seg dksX2_punch_3 23 rfl rfl
theorem dX2_punch_0 : decode cX2_punch 0 = .ok (.aload_n 0, 1) := dk_42 (dk_at dksX2_punch_0 0 rfl rfl)
theorem dX2_punch_1 : decode cX2_punch 1 = .ok (.aload_n 0, 1) := dk_42 (dk_at dksX2_punch_0 1 rfl rfl)
theorem dX2_punch_2 : decode cX2_punch 2 = .ok (.iload_n 1, 1) := dk_27 (dk_at dksX2_punch_0 2 rfl rfl)
theorem dX2_punch_3 : decode cX2_punch 3 = .ok (.iload_n 2, 1) := dk_28 (dk_at dksX2_punch_0 3 rfl rfl)
theorem dX2_punch_4 : decode cX2_punch 4 = .ok (.invokevirtual 258, 3) := dk_182 1 2 (dk_at dksX2_punch_0 4 rfl rfl)
theorem dX2_punch_7 : decode cX2_punch 7 = .ok (.ifCond .eq 16, 3) := dk_153 0 16 (dk_at dksX2_punch_0 7 rfl rfl)
theorem dX2_punch_10 : decode cX2_punch 10 = .ok (.iload_n 3, 1) := dk_29 (dk_at dksX2_punch_0 10 rfl rfl)
theorem dX2_punch_11 : decode cX2_punch 11 = .ok (.iconst 0, 1) := dk_3 (dk_at dksX2_punch_0 11 rfl rfl)
theorem dX2_punch_12 : decode cX2_punch 12 = .ok (.iconst 2, 1) := dk_5 (dk_at dksX2_punch_0 12 rfl rfl)
theorem dX2_punch_13 : decode cX2_punch 13 = .ok (.invokestatic 79, 3) := dk_184 0 79 (dk_at dksX2_punch_0 13 rfl rfl)
theorem dX2_punch_16 : decode cX2_punch 16 = .ok (.ifCond .eq 7, 3) := dk_153 0 7 (dk_at dksX2_punch_0 16 rfl rfl)
theorem dX2_punch_19 : decode cX2_punch 19 = .ok (.iconst 1, 1) := dk_4 (dk_at dksX2_punch_0 19 rfl rfl)
theorem dX2_punch_20 : decode cX2_punch 20 = .ok (.goto 4, 3) := dk_167 0 4 (dk_at dksX2_punch_0 20 rfl rfl)
theorem dX2_punch_23 : decode cX2_punch 23 = .ok (.iconst 0, 1) := dk_3 (dk_at dksX2_punch_0 23 rfl rfl)
theorem dX2_punch_24 : decode cX2_punch 24 = .ok (.invokestatic 234, 3) := dk_184 0 234 (dk_at dksX2_punch_1 0 rfl rfl)
theorem dX2_punch_27 : decode cX2_punch 27 = .ok (.invokevirtual 161, 3) := dk_182 0 161 (dk_at dksX2_punch_1 3 rfl rfl)
theorem dX2_punch_30 : decode cX2_punch 30 = .ok (.ifCond .eq 5, 3) := dk_153 0 5 (dk_at dksX2_punch_1 6 rfl rfl)
theorem dX2_punch_33 : decode cX2_punch 33 = .ok (.iconst (-1), 1) := dk_2 (dk_at dksX2_punch_1 9 rfl rfl)
theorem dX2_punch_34 : decode cX2_punch 34 = .ok (.ireturn, 1) := dk_172 (dk_at dksX2_punch_1 10 rfl rfl)
theorem dX2_punch_35 : decode cX2_punch 35 = .ok (.iload_n 3, 1) := dk_29 (dk_at dksX2_punch_1 11 rfl rfl)
theorem dX2_punch_36 : decode cX2_punch 36 = .ok (.iconst 2, 1) := dk_5 (dk_at dksX2_punch_1 12 rfl rfl)
theorem dX2_punch_37 : decode cX2_punch 37 = .ok (.if_icmp .ge 23, 3) := dk_162 0 23 (dk_at dksX2_punch_1 13 rfl rfl)
theorem dX2_punch_40 : decode cX2_punch 40 = .ok (.iload_n 3, 1) := dk_29 (dk_at dksX2_punch_1 16 rfl rfl)
theorem dX2_punch_41 : decode cX2_punch 41 = .ok (.ifCond .ne 12, 3) := dk_154 0 12 (dk_at dksX2_punch_1 17 rfl rfl)
theorem dX2_punch_44 : decode cX2_punch 44 = .ok (.aload_n 0, 1) := dk_42 (dk_at dksX2_punch_1 20 rfl rfl)
theorem dX2_punch_45 : decode cX2_punch 45 = .ok (.iload_n 1, 1) := dk_27 (dk_at dksX2_punch_1 21 rfl rfl)
theorem dX2_punch_46 : decode cX2_punch 46 = .ok (.iload_n 2, 1) := dk_28 (dk_at dksX2_punch_1 22 rfl rfl)
theorem dX2_punch_47 : decode cX2_punch 47 = .ok (.invokevirtual 200, 3) := dk_182 0 200 (dk_at dksX2_punch_2 0 rfl rfl)
theorem dX2_punch_50 : decode cX2_punch 50 = .ok (.goto 9, 3) := dk_167 0 9 (dk_at dksX2_punch_2 3 rfl rfl)
theorem dX2_punch_53 : decode cX2_punch 53 = .ok (.aload_n 0, 1) := dk_42 (dk_at dksX2_punch_2 6 rfl rfl)
theorem dX2_punch_54 : decode cX2_punch 54 = .ok (.iload_n 1, 1) := dk_27 (dk_at dksX2_punch_2 7 rfl rfl)
theorem dX2_punch_55 : decode cX2_punch 55 = .ok (.iload_n 2, 1) := dk_28 (dk_at dksX2_punch_2 8 rfl rfl)
theorem dX2_punch_56 : decode cX2_punch 56 = .ok (.invokevirtual 209, 3) := dk_182 0 209 (dk_at dksX2_punch_2 9 rfl rfl)
theorem dX2_punch_59 : decode cX2_punch 59 = .ok (.ireturn, 1) := dk_172 (dk_at dksX2_punch_2 12 rfl rfl)
theorem dX2_punch_60 : decode cX2_punch 60 = .ok (.aload_n 0, 1) := dk_42 (dk_at dksX2_punch_2 13 rfl rfl)
theorem dX2_punch_61 : decode cX2_punch 61 = .ok (.iload_n 1, 1) := dk_27 (dk_at dksX2_punch_2 14 rfl rfl)
theorem dX2_punch_62 : decode cX2_punch 62 = .ok (.invokevirtual 206, 3) := dk_182 0 206 (dk_at dksX2_punch_2 15 rfl rfl)
theorem dX2_punch_65 : decode cX2_punch 65 = .ok (.pop, 1) := dk_87 (dk_at dksX2_punch_2 18 rfl rfl)
theorem dX2_punch_66 : decode cX2_punch 66 = .ok (.iconst 0, 1) := dk_3 (dk_at dksX2_punch_2 19 rfl rfl)
theorem dX2_punch_67 : decode cX2_punch 67 = .ok (.istore 4, 2) := dk_54 4 (dk_at dksX2_punch_2 20 rfl rfl)
theorem dX2_punch_69 : decode cX2_punch 69 = .ok (.iload 4, 2) := dk_21 4 (dk_at dksX2_punch_2 22 rfl rfl)
theorem dX2_punch_71 : decode cX2_punch 71 = .ok (.aload_n 0, 1) := dk_42 (dk_at dksX2_punch_3 0 rfl rfl)
theorem dX2_punch_72 : decode cX2_punch 72 = .ok (.getfield 17, 3) := dk_180 0 17 (dk_at dksX2_punch_3 1 rfl rfl)
theorem dX2_punch_75 : decode cX2_punch 75 = .ok (.iconst 4, 1) := dk_7 (dk_at dksX2_punch_3 4 rfl rfl)
theorem dX2_punch_76 : decode cX2_punch 76 = .ok (.aload_n 0, 1) := dk_42 (dk_at dksX2_punch_3 5 rfl rfl)
theorem dX2_punch_77 : decode cX2_punch 77 = .ok (.getfield 17, 3) := dk_180 0 17 (dk_at dksX2_punch_3 6 rfl rfl)
theorem dX2_punch_80 : decode cX2_punch 80 = .ok (.bipush 37, 2) := dk_16 37 (dk_at dksX2_punch_3 9 rfl rfl)
theorem dX2_punch_82 : decode cX2_punch 82 = .ok (.iload_n 1, 1) := dk_27 (dk_at dksX2_punch_3 11 rfl rfl)
theorem dX2_punch_83 : decode cX2_punch 83 = .ok (.iadd, 1) := dk_96 (dk_at dksX2_punch_3 12 rfl rfl)
theorem dX2_punch_84 : decode cX2_punch 84 = .ok (.iaload, 1) := dk_46 (dk_at dksX2_punch_3 13 rfl rfl)
theorem dX2_punch_85 : decode cX2_punch 85 = .ok (.iadd, 1) := dk_96 (dk_at dksX2_punch_3 14 rfl rfl)
theorem dX2_punch_86 : decode cX2_punch 86 = .ok (.iaload, 1) := dk_46 (dk_at dksX2_punch_3 15 rfl rfl)
theorem dX2_punch_87 : decode cX2_punch 87 = .ok (.if_icmp .ge 23, 3) := dk_162 0 23 (dk_at dksX2_punch_3 16 rfl rfl)
theorem dX2_punch_90 : decode cX2_punch 90 = .ok (.aload_n 0, 1) := dk_42 (dk_at dksX2_punch_3 19 rfl rfl)
theorem dX2_punch_91 : decode cX2_punch 91 = .ok (.getfield 32, 3) := dk_180 0 32 (dk_at dksX2_punch_3 20 rfl rfl)
theorem dX2_punch_94 : decode cX2_punch 94 = .ok (.iload 4, 2) := dk_21 4 (dk_at dksX2_punch_4 0 rfl rfl)
theorem dX2_punch_96 : decode cX2_punch 96 = .ok (.iaload, 1) := dk_46 (dk_at dksX2_punch_4 2 rfl rfl)
theorem dX2_punch_97 : decode cX2_punch 97 = .ok (.iload_n 2, 1) := dk_28 (dk_at dksX2_punch_4 3 rfl rfl)
theorem dX2_punch_98 : decode cX2_punch 98 = .ok (.if_icmp .ne 6, 3) := dk_160 0 6 (dk_at dksX2_punch_4 4 rfl rfl)
theorem dX2_punch_101 : decode cX2_punch 101 = .ok (.iload 4, 2) := dk_21 4 (dk_at dksX2_punch_4 7 rfl rfl)
theorem dX2_punch_103 : decode cX2_punch 103 = .ok (.ireturn, 1) := dk_172 (dk_at dksX2_punch_4 9 rfl rfl)
theorem dX2_punch_104 : decode cX2_punch 104 = .ok (.iinc 4 1, 3) := dk_132 4 1 (dk_at dksX2_punch_4 10 rfl rfl)
theorem dX2_punch_107 : decode cX2_punch 107 = .ok (.goto (-38), 3) := dk_167 255 218 (dk_at dksX2_punch_4 13 rfl rfl)
theorem dX2_punch_110 : decode cX2_punch 110 = .ok (.bipush (-2), 2) := dk_16 254 (dk_at dksX2_punch_4 16 rfl rfl)
theorem dX2_punch_112 : decode cX2_punch 112 = .ok (.ireturn, 1) := dk_172 (dk_at dksX2_punch_4 18 rfl rfl)
theorem md_X2_punch : xMd yX2_punch cX2_punch 5 (Option.some Jvm.ClassFile.FieldType.int) 3 := ⟨q3226, q126, by decide, by decide +kernel, by decide +kernel, by decide +kernel⟩
def T_punch_69F   (k69 : Int32 × Int32 × Int32 × TS → Option (xO × TS)) (p : Int32 × Int32 × Int32 × TS) : Option (xO × TS) := match p with
  | (v1, v2, v4, s0) => (tald s0 7 (37 + v1) fun x9 =>
  (tald s0 7 (4 + x9) fun x10 =>
  (if x10 ≤ v4 then
  (rI (-2) s0) else
  (tald s0 20 v4 fun x11 =>
  (if x11 = v2 then
  (rI v4 s0) else
  (bnd (v4 + 1) fun x12 =>
  (k69 (v1, v2, x12, s0))))))))
def T_punch_24   (v1 : Int32) (v2 : Int32) (v3 : Int32) (w1 : Int32) (s0 : TS) : Option (xO × TS) :=
  (xcI (T_unless_2 s0 w1) fun x4 s3 =>
  (xcI (T_isRefused s3 x4) fun x6 s5 =>
  (if x6 = 0 then
  (if 2 ≤ v3 then
  (xcI (T_missedBy s5 v1) fun x8 s7 =>
  (lp (T_punch_69F) FU (v1, v2, 0, s7))) else
  (if v3 = 0 then
  (xcI (T_punchCode s5 v1 v2) fun x16 s15 =>
  (rI x16 s15)) else
  (xcI (T_punchTime s5 v1 v2) fun x14 s13 =>
  (rI x14 s13)))) else
  (rI (-1) s5))))
def T_punch_23   (v1 : Int32) (v2 : Int32) (v3 : Int32) (s0 : TS) : Option (xO × TS) :=
  (T_punch_24 v1 v2 v3 0 s0)
def T_punch (s0 : TS) (a1 : Int32) (a2 : Int32) (a3 : Int32) : Option (xO × TS) :=
  (xcI (T_isPunch s0 a1 a2) fun x2 s1 =>
  (if x2 = 0 then
  (T_punch_23 a1 a2 a3 s1) else
  (xcI (T_in s1 a3 0 2) fun x18 s17 =>
  (if x18 = 0 then
  (T_punch_23 a1 a2 a3 s17) else
  (T_punch_24 a1 a2 a3 1 s17)))))
theorem T_punch_69F_ok {G : xG} {E : TE} (hO : xOK G) (hE : tok E)   {k69 : Int32 × Int32 × Int32 × TS → Option (xO × TS)} (hk69 : ∀ (v1 : Int32) (v2 : Int32) (v4 : Int32) (s0 : TS), XT G E "ForestLegsModel" "punch" cX2_punch 5 (Option.some Jvm.ClassFile.FieldType.int) 3 69 [(0, .ref E.2.1), (1, .int v1), (2, .int v2), (4, .int v4)] [] s0 (k69 (v1, v2, v4, s0))) (v1 : Int32) (v2 : Int32) (v4 : Int32) (s0 : TS) : XT G E "ForestLegsModel" "punch" cX2_punch 5 (Option.some Jvm.ClassFile.FieldType.int) 3 69 [(0, .ref E.2.1), (1, .int v1), (2, .int v2), (4, .int v4)] [] s0 (T_punch_69F k69 (v1, v2, v4, s0)) := by
  unfold T_punch_69F
  refine x_iload 3 dX2_punch_69 rfl (n := 71) rfl ?_
  refine x_aload_nr 0 dX2_punch_71 rfl rfl (n := 72) rfl ?_
  refine tw_getA fl_X2_17 rfl (by decide) dX2_punch_72 (n := 75) rfl ?_
  refine x_iconst 4 dX2_punch_75 rfl (n := 76) rfl ?_
  refine x_aload_nr 0 dX2_punch_76 rfl rfl (n := 77) rfl ?_
  refine tw_getA fl_X2_17 rfl (by decide) dX2_punch_77 (n := 80) rfl ?_
  refine x_bipush 37 dX2_punch_80 rfl (n := 82) rfl ?_
  refine x_iload_n 1 dX2_punch_82 rfl rfl (n := 83) rfl ?_
  refine x_iadd dX2_punch_83 (n := 84) rfl ?_
  refine tw_iald hE (by decide) dX2_punch_84 (n := 85) rfl (fun x9 => ?_)
  refine x_iadd dX2_punch_85 (n := 86) rfl ?_
  refine tw_iald hE (by decide) dX2_punch_86 (n := 87) rfl (fun x10 => ?_)
  refine tw_icmp_ge dX2_punch_87 (t := 110) (by decide) (n := 90) rfl ?_ ?_
  · refine x_bipush (-2) dX2_punch_110 rfl (n := 112) rfl ?_
    exact tw_ireturn dX2_punch_112
  · refine x_aload_nr 0 dX2_punch_90 rfl rfl (n := 91) rfl ?_
    refine tw_getA fl_X2_32 rfl (by decide) dX2_punch_91 (n := 94) rfl ?_
    refine x_iload 3 dX2_punch_94 rfl (n := 96) rfl ?_
    refine tw_iald hE (by decide) dX2_punch_96 (n := 97) rfl (fun x11 => ?_)
    refine x_iload_n 2 dX2_punch_97 rfl rfl (n := 98) rfl ?_
    refine tw_icmp_ne dX2_punch_98 (t := 104) (by decide) (n := 101) rfl ?_ ?_
    · refine tw_iinc 3 (fun x12 => [(4, .int x12), (0, .ref E.2.1), (1, .int v1), (2, .int v2)]) dX2_punch_104 rfl rfl (by decide) (fun _ => rfl) (n := 107) rfl (fun x12 => ?_)
      refine x_goto dX2_punch_107 (n := 69) (by decide) ?_
      refine x_sub [1, 2, 3, 0] [(0, .ref E.2.1), (1, .int v1), (2, .int v2), (4, .int x12)] rfl ?_
      exact hk69 v1 v2 x12 s0
    · refine x_iload 3 dX2_punch_101 rfl (n := 103) rfl ?_
      exact tw_ireturn dX2_punch_103
theorem T_punch_69_lp {G : xG} {E : TE} (hO : xOK G) (hE : tok E)   (n : Nat) (v1 : Int32) (v2 : Int32) (v4 : Int32) (s0 : TS) : XT G E "ForestLegsModel" "punch" cX2_punch 5 (Option.some Jvm.ClassFile.FieldType.int) 3 69 [(0, .ref E.2.1), (1, .int v1), (2, .int v2), (4, .int v4)] [] s0 (lp (T_punch_69F) n (v1, v2, v4, s0)) :=
  lp_ok (W := fun p K => XT G E "ForestLegsModel" "punch" cX2_punch 5 (Option.some Jvm.ClassFile.FieldType.int) 3 69 [(0, .ref E.2.1), (1, .int p.1), (2, .int p.2.1), (4, .int p.2.2.1)] [] p.2.2.2 K) (fun _ => tw_no) (fun k hk => fun (v1, v2, v4, s0) => T_punch_69F_ok hO hE (fun v1 v2 v4 s0 => hk (v1, v2, v4, s0)) v1 v2 v4 s0) n (v1, v2, v4, s0)
theorem T_punch_24_ok {G : xG} {E : TE} (hO : xOK G) (hE : tok E)   (v1 : Int32) (v2 : Int32) (v3 : Int32) (w1 : Int32) (s0 : TS) : XT G E "ForestLegsModel" "punch" cX2_punch 5 (Option.some Jvm.ClassFile.FieldType.int) 3 24 [(0, .ref E.2.1), (1, .int v1), (2, .int v2), (3, .int v3)] [.int w1, .ref E.2.1] s0 (T_punch_24 v1 v2 v3 w1 s0) := by
  unfold T_punch_24
  refine tw_callS_I [.int w1] [.ref E.2.1] (T_unless_2_ok hO hE s0 w1) md_X2_unless_2 q3121 q3122 dX2_punch_24 rfl rfl (by decide) (Nat.le_of_ble_eq_true rfl) (n := 27) rfl (fun x4 s3 => ?_)
  refine tw_callV_I [.int x4] [] (T_isRefused_ok hO hE s3 x4) md_X2_isRefused q3022 q3024 qs63 dX2_punch_27 rfl rfl (by decide) (Nat.le_of_ble_eq_true rfl) (n := 30) rfl (fun x6 s5 => ?_)
  refine tw_if_eq dX2_punch_30 (t := 35) (by decide) (n := 33) rfl ?_ ?_
  · refine x_iload_n 3 dX2_punch_35 rfl rfl (n := 36) rfl ?_
    refine x_iconst 2 dX2_punch_36 rfl (n := 37) rfl ?_
    refine tw_icmp_ge dX2_punch_37 (t := 60) (by decide) (n := 40) rfl ?_ ?_
    · refine x_aload_nr 0 dX2_punch_60 rfl rfl (n := 61) rfl ?_
      refine x_iload_n 1 dX2_punch_61 rfl rfl (n := 62) rfl ?_
      refine tw_callV_I [.int v1] [] (T_missedBy_ok hO hE s5 v1) md_X2_missedBy q3136 q3138 qs83 dX2_punch_62 rfl rfl (by decide) (Nat.le_of_ble_eq_true rfl) (n := 65) rfl (fun x8 s7 => ?_)
      refine x_pop dX2_punch_65 rfl (n := 66) rfl ?_
      refine x_iconst 0 dX2_punch_66 rfl (n := 67) rfl ?_
      refine x_istore [(4, .int 0), (0, .ref E.2.1), (1, .int v1), (2, .int v2), (3, .int v3)] dX2_punch_67 (by decide) rfl (n := 69) rfl ?_
      refine x_sub [1, 2, 3, 0] [(0, .ref E.2.1), (1, .int v1), (2, .int v2), (4, .int 0)] rfl ?_
      exact T_punch_69_lp hO hE FU v1 v2 0 s7
    · refine x_iload_n 3 dX2_punch_40 rfl rfl (n := 41) rfl ?_
      refine tw_if_ne dX2_punch_41 (t := 53) (by decide) (n := 44) rfl ?_ ?_
      · refine x_aload_nr 0 dX2_punch_53 rfl rfl (n := 54) rfl ?_
        refine x_iload_n 1 dX2_punch_54 rfl rfl (n := 55) rfl ?_
        refine x_iload_n 2 dX2_punch_55 rfl rfl (n := 56) rfl ?_
        refine tw_callV_I [.int v1, .int v2] [] (T_punchTime_ok hO hE s5 v1 v2) md_X2_punchTime q3187 q3189 qs94 dX2_punch_56 rfl rfl (by decide) (Nat.le_of_ble_eq_true rfl) (n := 59) rfl (fun x14 s13 => ?_)
        exact tw_ireturn dX2_punch_59
      · refine x_aload_nr 0 dX2_punch_44 rfl rfl (n := 45) rfl ?_
        refine x_iload_n 1 dX2_punch_45 rfl rfl (n := 46) rfl ?_
        refine x_iload_n 2 dX2_punch_46 rfl rfl (n := 47) rfl ?_
        refine tw_callV_I [.int v1, .int v2] [] (T_punchCode_ok hO hE s5 v1 v2) md_X2_punchCode q3151 q3153 qs86 dX2_punch_47 rfl rfl (by decide) (Nat.le_of_ble_eq_true rfl) (n := 50) rfl (fun x16 s15 => ?_)
        refine x_goto dX2_punch_50 (n := 59) (by decide) ?_
        exact tw_ireturn dX2_punch_59
  · refine x_iconst (-1) dX2_punch_33 rfl (n := 34) rfl ?_
    exact tw_ireturn dX2_punch_34
theorem T_punch_23_ok {G : xG} {E : TE} (hO : xOK G) (hE : tok E)   (v1 : Int32) (v2 : Int32) (v3 : Int32) (s0 : TS) : XT G E "ForestLegsModel" "punch" cX2_punch 5 (Option.some Jvm.ClassFile.FieldType.int) 3 23 [(0, .ref E.2.1), (1, .int v1), (2, .int v2), (3, .int v3)] [.ref E.2.1] s0 (T_punch_23 v1 v2 v3 s0) := by
  unfold T_punch_23
  refine x_iconst 0 dX2_punch_23 rfl (n := 24) rfl ?_
  exact T_punch_24_ok hO hE v1 v2 v3 0 s0
theorem T_punch_ok {G : xG} {E : TE} (hO : xOK G) (hE : tok E) (s0 : TS) (a1 : Int32) (a2 : Int32) (a3 : Int32) : CTT G E 3 yX2_punch cX2_punch 5 (Option.some Jvm.ClassFile.FieldType.int) [.ref E.2.1, .int a1, .int a2, .int a3] s0 (T_punch s0 a1 a2 a3) := by
  refine CT_of hO (by decide +kernel) (by decide +kernel) (Nat.le_of_ble_eq_true rfl) ?_
  show XT G E "ForestLegsModel" "punch" cX2_punch 5 (Option.some Jvm.ClassFile.FieldType.int) 3 0 [(0, .ref E.2.1), (1, .int a1), (2, .int a2), (3, .int a3)] [] s0 (T_punch s0 a1 a2 a3)
  refine x_aload_nr 0 dX2_punch_0 rfl rfl (n := 1) rfl ?_
  refine x_aload_nr 0 dX2_punch_1 rfl rfl (n := 2) rfl ?_
  refine x_iload_n 1 dX2_punch_2 rfl rfl (n := 3) rfl ?_
  refine x_iload_n 2 dX2_punch_3 rfl rfl (n := 4) rfl ?_
  refine tw_callV_I [.int a1, .int a2] [.ref E.2.1] (T_isPunch_ok hO hE s0 a1 a2) md_X2_isPunch q3227 q3229 qs101 dX2_punch_4 rfl rfl (by decide) (Nat.le_of_ble_eq_true rfl) (n := 7) rfl (fun x2 s1 => ?_)
  refine tw_if_eq dX2_punch_7 (t := 23) (by decide) (n := 10) rfl ?_ ?_
  · exact T_punch_23_ok hO hE a1 a2 a3 s1
  · refine x_iload_n 3 dX2_punch_10 rfl rfl (n := 11) rfl ?_
    refine x_iconst 0 dX2_punch_11 rfl (n := 12) rfl ?_
    refine x_iconst 2 dX2_punch_12 rfl (n := 13) rfl ?_
    refine tw_callS_I [.int a3, .int 0, .int 2] [.ref E.2.1] (T_in_ok hO hE s1 a3 0 2) md_X2_in q3016 q3017 dX2_punch_13 rfl rfl (by decide) (Nat.le_of_ble_eq_true rfl) (n := 16) rfl (fun x18 s17 => ?_)
    refine tw_if_eq dX2_punch_16 (t := 23) (by decide) (n := 19) rfl ?_ ?_
    · exact T_punch_23_ok hO hE a1 a2 a3 s17
    · refine x_iconst 1 dX2_punch_19 rfl (n := 20) rfl ?_
      refine x_goto dX2_punch_20 (n := 24) (by decide) ?_
      exact T_punch_24_ok hO hE a1 a2 a3 1 s17
abbrev cX2_misses : ByteArray := prog_14_method_59_code
def yX2_misses : MethodName := ⟨RX2, "misses", "(II)I"⟩
def dkwX2_misses_1 : List UInt8 := [184, 0, 234, 182, 0, 161, 153, 0, 7, 2, 167, 0, 9, 42, 27, 28, 182, 0, 203, 172]
abbrev dktX2_misses_1 : List UInt8 := dkwX2_misses_1 ++ []
def dkwX2_misses_0 : List UInt8 := [42, 42, 27, 182, 0, 187, 153, 0, 15, 42, 28, 182, 0, 184, 153, 0, 7, 4, 167, 0, 4, 3]
abbrev dktX2_misses_0 : List UInt8 := dkwX2_misses_0 ++ dktX2_misses_1
theorem dksX2_misses_0 : cX2_misses.data.toList.drop 0 = dktX2_misses_0 := by decide +kernel
theorem dksX2_misses_1 : cX2_misses.data.toList.drop 22 = dktX2_misses_1 := dk_seg dksX2_misses_0 22 rfl rfl
theorem dX2_misses_0 : decode cX2_misses 0 = .ok (.aload_n 0, 1) := dk_42 (dk_at dksX2_misses_0 0 rfl rfl)
theorem dX2_misses_1 : decode cX2_misses 1 = .ok (.aload_n 0, 1) := dk_42 (dk_at dksX2_misses_0 1 rfl rfl)
theorem dX2_misses_2 : decode cX2_misses 2 = .ok (.iload_n 1, 1) := dk_27 (dk_at dksX2_misses_0 2 rfl rfl)
theorem dX2_misses_3 : decode cX2_misses 3 = .ok (.invokevirtual 187, 3) := dk_182 0 187 (dk_at dksX2_misses_0 3 rfl rfl)
theorem dX2_misses_6 : decode cX2_misses 6 = .ok (.ifCond .eq 15, 3) := dk_153 0 15 (dk_at dksX2_misses_0 6 rfl rfl)
theorem dX2_misses_9 : decode cX2_misses 9 = .ok (.aload_n 0, 1) := dk_42 (dk_at dksX2_misses_0 9 rfl rfl)
theorem dX2_misses_10 : decode cX2_misses 10 = .ok (.iload_n 2, 1) := dk_28 (dk_at dksX2_misses_0 10 rfl rfl)
theorem dX2_misses_11 : decode cX2_misses 11 = .ok (.invokevirtual 184, 3) := dk_182 0 184 (dk_at dksX2_misses_0 11 rfl rfl)
theorem dX2_misses_14 : decode cX2_misses 14 = .ok (.ifCond .eq 7, 3) := dk_153 0 7 (dk_at dksX2_misses_0 14 rfl rfl)
theorem dX2_misses_17 : decode cX2_misses 17 = .ok (.iconst 1, 1) := dk_4 (dk_at dksX2_misses_0 17 rfl rfl)
theorem dX2_misses_18 : decode cX2_misses 18 = .ok (.goto 4, 3) := dk_167 0 4 (dk_at dksX2_misses_0 18 rfl rfl)
theorem dX2_misses_21 : decode cX2_misses 21 = .ok (.iconst 0, 1) := dk_3 (dk_at dksX2_misses_0 21 rfl rfl)
theorem dX2_misses_22 : decode cX2_misses 22 = .ok (.invokestatic 234, 3) := dk_184 0 234 (dk_at dksX2_misses_1 0 rfl rfl)
theorem dX2_misses_25 : decode cX2_misses 25 = .ok (.invokevirtual 161, 3) := dk_182 0 161 (dk_at dksX2_misses_1 3 rfl rfl)
theorem dX2_misses_28 : decode cX2_misses 28 = .ok (.ifCond .eq 7, 3) := dk_153 0 7 (dk_at dksX2_misses_1 6 rfl rfl)
theorem dX2_misses_31 : decode cX2_misses 31 = .ok (.iconst (-1), 1) := dk_2 (dk_at dksX2_misses_1 9 rfl rfl)
theorem dX2_misses_32 : decode cX2_misses 32 = .ok (.goto 9, 3) := dk_167 0 9 (dk_at dksX2_misses_1 10 rfl rfl)
theorem dX2_misses_35 : decode cX2_misses 35 = .ok (.aload_n 0, 1) := dk_42 (dk_at dksX2_misses_1 13 rfl rfl)
theorem dX2_misses_36 : decode cX2_misses 36 = .ok (.iload_n 1, 1) := dk_27 (dk_at dksX2_misses_1 14 rfl rfl)
theorem dX2_misses_37 : decode cX2_misses 37 = .ok (.iload_n 2, 1) := dk_28 (dk_at dksX2_misses_1 15 rfl rfl)
theorem dX2_misses_38 : decode cX2_misses 38 = .ok (.invokevirtual 203, 3) := dk_182 0 203 (dk_at dksX2_misses_1 16 rfl rfl)
theorem dX2_misses_41 : decode cX2_misses 41 = .ok (.ireturn, 1) := dk_172 (dk_at dksX2_misses_1 19 rfl rfl)
theorem md_X2_misses : xMd yX2_misses cX2_misses 3 (Option.some Jvm.ClassFile.FieldType.int) 2 := ⟨q3234, q126, by decide, by decide +kernel, by decide +kernel, by decide +kernel⟩
def T_misses_22   (v1 : Int32) (v2 : Int32) (w1 : Int32) (s0 : TS) : Option (xO × TS) :=
  (xcI (T_unless_2 s0 w1) fun x4 s3 =>
  (xcI (T_isRefused s3 x4) fun x6 s5 =>
  (if x6 = 0 then
  (xcI (T_matches s5 v1 v2) fun x8 s7 =>
  (rI x8 s7)) else
  (rI (-1) s5))))
def T_misses_21   (v1 : Int32) (v2 : Int32) (s0 : TS) : Option (xO × TS) :=
  (T_misses_22 v1 v2 0 s0)
def T_misses (s0 : TS) (a1 : Int32) (a2 : Int32) : Option (xO × TS) :=
  (xcI (T_isRunner s0 a1) fun x2 s1 =>
  (if x2 = 0 then
  (T_misses_21 a1 a2 s1) else
  (xcI (T_isCourse s1 a2) fun x10 s9 =>
  (if x10 = 0 then
  (T_misses_21 a1 a2 s9) else
  (T_misses_22 a1 a2 1 s9)))))
theorem T_misses_22_ok {G : xG} {E : TE} (hO : xOK G) (hE : tok E)   (v1 : Int32) (v2 : Int32) (w1 : Int32) (s0 : TS) : XT G E "ForestLegsModel" "misses" cX2_misses 3 (Option.some Jvm.ClassFile.FieldType.int) 2 22 [(0, .ref E.2.1), (1, .int v1), (2, .int v2)] [.int w1, .ref E.2.1] s0 (T_misses_22 v1 v2 w1 s0) := by
  unfold T_misses_22
  refine tw_callS_I [.int w1] [.ref E.2.1] (T_unless_2_ok hO hE s0 w1) md_X2_unless_2 q3121 q3122 dX2_misses_22 rfl rfl (by decide) (Nat.le_of_ble_eq_true rfl) (n := 25) rfl (fun x4 s3 => ?_)
  refine tw_callV_I [.int x4] [] (T_isRefused_ok hO hE s3 x4) md_X2_isRefused q3022 q3024 qs63 dX2_misses_25 rfl rfl (by decide) (Nat.le_of_ble_eq_true rfl) (n := 28) rfl (fun x6 s5 => ?_)
  refine tw_if_eq dX2_misses_28 (t := 35) (by decide) (n := 31) rfl ?_ ?_
  · refine x_aload_nr 0 dX2_misses_35 rfl rfl (n := 36) rfl ?_
    refine x_iload_n 1 dX2_misses_36 rfl rfl (n := 37) rfl ?_
    refine x_iload_n 2 dX2_misses_37 rfl rfl (n := 38) rfl ?_
    refine tw_callV_I [.int v1, .int v2] [] (T_matches_ok hO hE s5 v1 v2) md_X2_matches q3140 q3142 qs84 dX2_misses_38 rfl rfl (by decide) (Nat.le_of_ble_eq_true rfl) (n := 41) rfl (fun x8 s7 => ?_)
    exact tw_ireturn dX2_misses_41
  · refine x_iconst (-1) dX2_misses_31 rfl (n := 32) rfl ?_
    refine x_goto dX2_misses_32 (n := 41) (by decide) ?_
    exact tw_ireturn dX2_misses_41
theorem T_misses_21_ok {G : xG} {E : TE} (hO : xOK G) (hE : tok E)   (v1 : Int32) (v2 : Int32) (s0 : TS) : XT G E "ForestLegsModel" "misses" cX2_misses 3 (Option.some Jvm.ClassFile.FieldType.int) 2 21 [(0, .ref E.2.1), (1, .int v1), (2, .int v2)] [.ref E.2.1] s0 (T_misses_21 v1 v2 s0) := by
  unfold T_misses_21
  refine x_iconst 0 dX2_misses_21 rfl (n := 22) rfl ?_
  exact T_misses_22_ok hO hE v1 v2 0 s0
theorem T_misses_ok {G : xG} {E : TE} (hO : xOK G) (hE : tok E) (s0 : TS) (a1 : Int32) (a2 : Int32) : CTT G E 2 yX2_misses cX2_misses 3 (Option.some Jvm.ClassFile.FieldType.int) [.ref E.2.1, .int a1, .int a2] s0 (T_misses s0 a1 a2) := by
  refine CT_of hO (by decide +kernel) (by decide +kernel) (Nat.le_of_ble_eq_true rfl) ?_
  show XT G E "ForestLegsModel" "misses" cX2_misses 3 (Option.some Jvm.ClassFile.FieldType.int) 2 0 [(0, .ref E.2.1), (1, .int a1), (2, .int a2)] [] s0 (T_misses s0 a1 a2)
  refine x_aload_nr 0 dX2_misses_0 rfl rfl (n := 1) rfl ?_
  refine x_aload_nr 0 dX2_misses_1 rfl rfl (n := 2) rfl ?_
  refine x_iload_n 1 dX2_misses_2 rfl rfl (n := 3) rfl ?_
  refine tw_callV_I [.int a1] [.ref E.2.1] (T_isRunner_ok hO hE s0 a1) md_X2_isRunner q3215 q3217 qs99 dX2_misses_3 rfl rfl (by decide) (Nat.le_of_ble_eq_true rfl) (n := 6) rfl (fun x2 s1 => ?_)
  refine tw_if_eq dX2_misses_6 (t := 21) (by decide) (n := 9) rfl ?_ ?_
  · exact T_misses_21_ok hO hE a1 a2 s1
  · refine x_aload_nr 0 dX2_misses_9 rfl rfl (n := 10) rfl ?_
    refine x_iload_n 2 dX2_misses_10 rfl rfl (n := 11) rfl ?_
    refine tw_callV_I [.int a2] [.ref E.2.1] (T_isCourse_ok hO hE s1 a2) md_X2_isCourse q3159 q3161 qs87 dX2_misses_11 rfl rfl (by decide) (Nat.le_of_ble_eq_true rfl) (n := 14) rfl (fun x10 s9 => ?_)
    refine tw_if_eq dX2_misses_14 (t := 21) (by decide) (n := 17) rfl ?_ ?_
    · exact T_misses_21_ok hO hE a1 a2 s9
    · refine x_iconst 1 dX2_misses_17 rfl (n := 18) rfl ?_
      refine x_goto dX2_misses_18 (n := 22) (by decide) ?_
      exact T_misses_22_ok hO hE a1 a2 1 s9
abbrev cX2_fits : ByteArray := prog_14_method_60_code
def yX2_fits : MethodName := ⟨RX2, "fits", "(I)I"⟩
def dkwX2_fits_3 : List UInt8 := [180, 0, 17, 7, 28, 96, 46, 164, 0, 7, 29, 167, 0, 4, 28, 61, 132, 3, 1, 167, 255, 188, 28, 172]
abbrev dktX2_fits_3 : List UInt8 := dkwX2_fits_3 ++ []
def dkwX2_fits_2 : List UInt8 := [21, 4, 21, 5, 161, 0, 29, 21, 4, 21, 5, 160, 0, 26, 42, 180, 0, 17, 7, 29, 96, 46, 42]
abbrev dktX2_fits_2 : List UInt8 := dkwX2_fits_2 ++ dktX2_fits_3
def dkwX2_fits_1 : List UInt8 := [180, 0, 17, 3, 46, 162, 0, 64, 42, 27, 29, 182, 0, 203, 54, 4, 42, 27, 28, 182, 0, 203, 54, 5]
abbrev dktX2_fits_1 : List UInt8 := dkwX2_fits_1 ++ dktX2_fits_2
def dkwX2_fits_0 : List UInt8 := [42, 42, 27, 182, 0, 187, 184, 0, 234, 182, 0, 161, 153, 0, 5, 2, 172, 3, 61, 4, 62, 29, 42]
abbrev dktX2_fits_0 : List UInt8 := dkwX2_fits_0 ++ dktX2_fits_1
theorem dksX2_fits_0 : cX2_fits.data.toList.drop 0 = dktX2_fits_0 := by decide +kernel
theorem dksX2_fits_1 : cX2_fits.data.toList.drop 23 = dktX2_fits_1 := dk_seg dksX2_fits_0 23 rfl rfl
theorem dksX2_fits_2 : cX2_fits.data.toList.drop 47 = dktX2_fits_2 := dk_seg dksX2_fits_1 24 rfl rfl
theorem dksX2_fits_3 : cX2_fits.data.toList.drop 70 = dktX2_fits_3 := dk_seg dksX2_fits_2 23 rfl rfl
theorem dX2_fits_0 : decode cX2_fits 0 = .ok (.aload_n 0, 1) := dk_42 (dk_at dksX2_fits_0 0 rfl rfl)
theorem dX2_fits_1 : decode cX2_fits 1 = .ok (.aload_n 0, 1) := dk_42 (dk_at dksX2_fits_0 1 rfl rfl)
theorem dX2_fits_2 : decode cX2_fits 2 = .ok (.iload_n 1, 1) := dk_27 (dk_at dksX2_fits_0 2 rfl rfl)
theorem dX2_fits_3 : decode cX2_fits 3 = .ok (.invokevirtual 187, 3) := dk_182 0 187 (dk_at dksX2_fits_0 3 rfl rfl)
theorem dX2_fits_6 : decode cX2_fits 6 = .ok (.invokestatic 234, 3) := dk_184 0 234 (dk_at dksX2_fits_0 6 rfl rfl)
theorem dX2_fits_9 : decode cX2_fits 9 = .ok (.invokevirtual 161, 3) := dk_182 0 161 (dk_at dksX2_fits_0 9 rfl rfl)
theorem dX2_fits_12 : decode cX2_fits 12 = .ok (.ifCond .eq 5, 3) := dk_153 0 5 (dk_at dksX2_fits_0 12 rfl rfl)
theorem dX2_fits_15 : decode cX2_fits 15 = .ok (.iconst (-1), 1) := dk_2 (dk_at dksX2_fits_0 15 rfl rfl)
theorem dX2_fits_16 : decode cX2_fits 16 = .ok (.ireturn, 1) := dk_172 (dk_at dksX2_fits_0 16 rfl rfl)
theorem dX2_fits_17 : decode cX2_fits 17 = .ok (.iconst 0, 1) := dk_3 (dk_at dksX2_fits_0 17 rfl rfl)
theorem dX2_fits_18 : decode cX2_fits 18 = .ok (.istore_n 2, 1) := dk_61 (dk_at dksX2_fits_0 18 rfl rfl)
theorem dX2_fits_19 : decode cX2_fits 19 = .ok (.iconst 1, 1) := dk_4 (dk_at dksX2_fits_0 19 rfl rfl)
theorem dX2_fits_20 : decode cX2_fits 20 = .ok (.istore_n 3, 1) := dk_62 (dk_at dksX2_fits_0 20 rfl rfl)
theorem dX2_fits_21 : decode cX2_fits 21 = .ok (.iload_n 3, 1) := dk_29 (dk_at dksX2_fits_0 21 rfl rfl)
theorem dX2_fits_22 : decode cX2_fits 22 = .ok (.aload_n 0, 1) := dk_42 (dk_at dksX2_fits_0 22 rfl rfl)
theorem dX2_fits_23 : decode cX2_fits 23 = .ok (.getfield 17, 3) := dk_180 0 17 (dk_at dksX2_fits_1 0 rfl rfl)
theorem dX2_fits_26 : decode cX2_fits 26 = .ok (.iconst 0, 1) := dk_3 (dk_at dksX2_fits_1 3 rfl rfl)
theorem dX2_fits_27 : decode cX2_fits 27 = .ok (.iaload, 1) := dk_46 (dk_at dksX2_fits_1 4 rfl rfl)
theorem dX2_fits_28 : decode cX2_fits 28 = .ok (.if_icmp .ge 64, 3) := dk_162 0 64 (dk_at dksX2_fits_1 5 rfl rfl)
theorem dX2_fits_31 : decode cX2_fits 31 = .ok (.aload_n 0, 1) := dk_42 (dk_at dksX2_fits_1 8 rfl rfl)
theorem dX2_fits_32 : decode cX2_fits 32 = .ok (.iload_n 1, 1) := dk_27 (dk_at dksX2_fits_1 9 rfl rfl)
theorem dX2_fits_33 : decode cX2_fits 33 = .ok (.iload_n 3, 1) := dk_29 (dk_at dksX2_fits_1 10 rfl rfl)
theorem dX2_fits_34 : decode cX2_fits 34 = .ok (.invokevirtual 203, 3) := dk_182 0 203 (dk_at dksX2_fits_1 11 rfl rfl)
theorem dX2_fits_37 : decode cX2_fits 37 = .ok (.istore 4, 2) := dk_54 4 (dk_at dksX2_fits_1 14 rfl rfl)
theorem dX2_fits_39 : decode cX2_fits 39 = .ok (.aload_n 0, 1) := dk_42 (dk_at dksX2_fits_1 16 rfl rfl)
theorem dX2_fits_40 : decode cX2_fits 40 = .ok (.iload_n 1, 1) := dk_27 (dk_at dksX2_fits_1 17 rfl rfl)
theorem dX2_fits_41 : decode cX2_fits 41 = .ok (.iload_n 2, 1) := dk_28 (dk_at dksX2_fits_1 18 rfl rfl)
theorem dX2_fits_42 : decode cX2_fits 42 = .ok (.invokevirtual 203, 3) := dk_182 0 203 (dk_at dksX2_fits_1 19 rfl rfl)
theorem dX2_fits_45 : decode cX2_fits 45 = .ok (.istore 5, 2) := dk_54 5 (dk_at dksX2_fits_1 22 rfl rfl)
theorem dX2_fits_47 : decode cX2_fits 47 = .ok (.iload 4, 2) := dk_21 4 (dk_at dksX2_fits_2 0 rfl rfl)
theorem dX2_fits_49 : decode cX2_fits 49 = .ok (.iload 5, 2) := dk_21 5 (dk_at dksX2_fits_2 2 rfl rfl)
theorem dX2_fits_51 : decode cX2_fits 51 = .ok (.if_icmp .lt 29, 3) := dk_161 0 29 (dk_at dksX2_fits_2 4 rfl rfl)
theorem dX2_fits_54 : decode cX2_fits 54 = .ok (.iload 4, 2) := dk_21 4 (dk_at dksX2_fits_2 7 rfl rfl)
theorem dX2_fits_56 : decode cX2_fits 56 = .ok (.iload 5, 2) := dk_21 5 (dk_at dksX2_fits_2 9 rfl rfl)
theorem dX2_fits_58 : decode cX2_fits 58 = .ok (.if_icmp .ne 26, 3) := dk_160 0 26 (dk_at dksX2_fits_2 11 rfl rfl)
theorem dX2_fits_61 : decode cX2_fits 61 = .ok (.aload_n 0, 1) := dk_42 (dk_at dksX2_fits_2 14 rfl rfl)
theorem dX2_fits_62 : decode cX2_fits 62 = .ok (.getfield 17, 3) := dk_180 0 17 (dk_at dksX2_fits_2 15 rfl rfl)
theorem dX2_fits_65 : decode cX2_fits 65 = .ok (.iconst 4, 1) := dk_7 (dk_at dksX2_fits_2 18 rfl rfl)
theorem dX2_fits_66 : decode cX2_fits 66 = .ok (.iload_n 3, 1) := dk_29 (dk_at dksX2_fits_2 19 rfl rfl)
theorem dX2_fits_67 : decode cX2_fits 67 = .ok (.iadd, 1) := dk_96 (dk_at dksX2_fits_2 20 rfl rfl)
theorem dX2_fits_68 : decode cX2_fits 68 = .ok (.iaload, 1) := dk_46 (dk_at dksX2_fits_2 21 rfl rfl)
theorem dX2_fits_69 : decode cX2_fits 69 = .ok (.aload_n 0, 1) := dk_42 (dk_at dksX2_fits_2 22 rfl rfl)
theorem dX2_fits_70 : decode cX2_fits 70 = .ok (.getfield 17, 3) := dk_180 0 17 (dk_at dksX2_fits_3 0 rfl rfl)
theorem dX2_fits_73 : decode cX2_fits 73 = .ok (.iconst 4, 1) := dk_7 (dk_at dksX2_fits_3 3 rfl rfl)
theorem dX2_fits_74 : decode cX2_fits 74 = .ok (.iload_n 2, 1) := dk_28 (dk_at dksX2_fits_3 4 rfl rfl)
theorem dX2_fits_75 : decode cX2_fits 75 = .ok (.iadd, 1) := dk_96 (dk_at dksX2_fits_3 5 rfl rfl)
theorem dX2_fits_76 : decode cX2_fits 76 = .ok (.iaload, 1) := dk_46 (dk_at dksX2_fits_3 6 rfl rfl)
theorem dX2_fits_77 : decode cX2_fits 77 = .ok (.if_icmp .le 7, 3) := dk_164 0 7 (dk_at dksX2_fits_3 7 rfl rfl)
theorem dX2_fits_80 : decode cX2_fits 80 = .ok (.iload_n 3, 1) := dk_29 (dk_at dksX2_fits_3 10 rfl rfl)
theorem dX2_fits_81 : decode cX2_fits 81 = .ok (.goto 4, 3) := dk_167 0 4 (dk_at dksX2_fits_3 11 rfl rfl)
theorem dX2_fits_84 : decode cX2_fits 84 = .ok (.iload_n 2, 1) := dk_28 (dk_at dksX2_fits_3 14 rfl rfl)
theorem dX2_fits_85 : decode cX2_fits 85 = .ok (.istore_n 2, 1) := dk_61 (dk_at dksX2_fits_3 15 rfl rfl)
theorem dX2_fits_86 : decode cX2_fits 86 = .ok (.iinc 3 1, 3) := dk_132 3 1 (dk_at dksX2_fits_3 16 rfl rfl)
theorem dX2_fits_89 : decode cX2_fits 89 = .ok (.goto (-68), 3) := dk_167 255 188 (dk_at dksX2_fits_3 19 rfl rfl)
theorem dX2_fits_92 : decode cX2_fits 92 = .ok (.iload_n 2, 1) := dk_28 (dk_at dksX2_fits_3 22 rfl rfl)
theorem dX2_fits_93 : decode cX2_fits 93 = .ok (.ireturn, 1) := dk_172 (dk_at dksX2_fits_3 23 rfl rfl)
theorem md_X2_fits : xMd yX2_fits cX2_fits 6 (Option.some Jvm.ClassFile.FieldType.int) 1 := ⟨q3238, q126, by decide, by decide +kernel, by decide +kernel, by decide +kernel⟩
def T_fits_85  (k21 : Int32 × Int32 × Int32 × TS → Option (xO × TS)) (v1 : Int32) (v3 : Int32) (w0 : Int32) (s0 : TS) : Option (xO × TS) :=
  (bnd (v3 + 1) fun x12 =>
  (k21 (v1, w0, x12, s0)))
def T_fits_80  (k21 : Int32 × Int32 × Int32 × TS → Option (xO × TS)) (v1 : Int32) (v3 : Int32) (s0 : TS) : Option (xO × TS) :=
  (T_fits_85 k21 v1 v3 v3 s0)
def T_fits_84  (k21 : Int32 × Int32 × Int32 × TS → Option (xO × TS)) (v1 : Int32) (v2 : Int32) (v3 : Int32) (s0 : TS) : Option (xO × TS) :=
  (T_fits_85 k21 v1 v3 v2 s0)
def T_fits_21F   (k21 : Int32 × Int32 × Int32 × TS → Option (xO × TS)) (p : Int32 × Int32 × Int32 × TS) : Option (xO × TS) := match p with
  | (v1, v2, v3, s0) => (tald s0 7 0 fun x7 =>
  (if x7 ≤ v3 then
  (rI v2 s0) else
  (xcI (T_matches s0 v1 v3) fun x9 s8 =>
  (xcI (T_matches s8 v1 v2) fun x11 s10 =>
  (if x9 < x11 then
  (T_fits_80 k21 v1 v3 s10) else
  (if x9 = x11 then
  (tald s10 7 (4 + v3) fun x13 =>
  (tald s10 7 (4 + v2) fun x14 =>
  (if x13 ≤ x14 then
  (T_fits_84 k21 v1 v2 v3 s10) else
  (T_fits_80 k21 v1 v3 s10)))) else
  (T_fits_84 k21 v1 v2 v3 s10)))))))
def T_fits (s0 : TS) (a1 : Int32) : Option (xO × TS) :=
  (xcI (T_isRunner s0 a1) fun x2 s1 =>
  (xcI (T_unless_2 s1 x2) fun x4 s3 =>
  (xcI (T_isRefused s3 x4) fun x6 s5 =>
  (if x6 = 0 then
  (lp (T_fits_21F) FU (a1, 0, 1, s5)) else
  (rI (-1) s5)))))
theorem T_fits_85_ok {G : xG} {E : TE} (hO : xOK G) (hE : tok E)  {k21 : Int32 × Int32 × Int32 × TS → Option (xO × TS)} (hk21 : ∀ (v1 : Int32) (v2 : Int32) (v3 : Int32) (s0 : TS), XT G E "ForestLegsModel" "fits" cX2_fits 6 (Option.some Jvm.ClassFile.FieldType.int) 2 21 [(0, .ref E.2.1), (1, .int v1), (2, .int v2), (3, .int v3)] [] s0 (k21 (v1, v2, v3, s0))) (v1 : Int32) (v3 : Int32) (w0 : Int32) (s0 : TS) : XT G E "ForestLegsModel" "fits" cX2_fits 6 (Option.some Jvm.ClassFile.FieldType.int) 2 85 [(0, .ref E.2.1), (1, .int v1), (3, .int v3)] [.int w0] s0 (T_fits_85 k21 v1 v3 w0 s0) := by
  unfold T_fits_85
  refine x_istore_n [(2, .int w0), (0, .ref E.2.1), (1, .int v1), (3, .int v3)] dX2_fits_85 rfl (by decide) rfl (n := 86) rfl ?_
  refine tw_iinc 3 (fun x12 => [(3, .int x12), (2, .int w0), (0, .ref E.2.1), (1, .int v1)]) dX2_fits_86 rfl rfl (by decide) (fun _ => rfl) (n := 89) rfl (fun x12 => ?_)
  refine x_goto dX2_fits_89 (n := 21) (by decide) ?_
  refine x_sub [2, 3, 1, 0] [(0, .ref E.2.1), (1, .int v1), (2, .int w0), (3, .int x12)] rfl ?_
  exact hk21 v1 w0 x12 s0
theorem T_fits_80_ok {G : xG} {E : TE} (hO : xOK G) (hE : tok E)  {k21 : Int32 × Int32 × Int32 × TS → Option (xO × TS)} (hk21 : ∀ (v1 : Int32) (v2 : Int32) (v3 : Int32) (s0 : TS), XT G E "ForestLegsModel" "fits" cX2_fits 6 (Option.some Jvm.ClassFile.FieldType.int) 2 21 [(0, .ref E.2.1), (1, .int v1), (2, .int v2), (3, .int v3)] [] s0 (k21 (v1, v2, v3, s0))) (v1 : Int32) (v3 : Int32) (s0 : TS) : XT G E "ForestLegsModel" "fits" cX2_fits 6 (Option.some Jvm.ClassFile.FieldType.int) 2 80 [(0, .ref E.2.1), (1, .int v1), (3, .int v3)] [] s0 (T_fits_80 k21 v1 v3 s0) := by
  unfold T_fits_80
  refine x_iload_n 2 dX2_fits_80 rfl rfl (n := 81) rfl ?_
  refine x_goto dX2_fits_81 (n := 85) (by decide) ?_
  exact T_fits_85_ok hO hE hk21 v1 v3 v3 s0
theorem T_fits_84_ok {G : xG} {E : TE} (hO : xOK G) (hE : tok E)  {k21 : Int32 × Int32 × Int32 × TS → Option (xO × TS)} (hk21 : ∀ (v1 : Int32) (v2 : Int32) (v3 : Int32) (s0 : TS), XT G E "ForestLegsModel" "fits" cX2_fits 6 (Option.some Jvm.ClassFile.FieldType.int) 2 21 [(0, .ref E.2.1), (1, .int v1), (2, .int v2), (3, .int v3)] [] s0 (k21 (v1, v2, v3, s0))) (v1 : Int32) (v2 : Int32) (v3 : Int32) (s0 : TS) : XT G E "ForestLegsModel" "fits" cX2_fits 6 (Option.some Jvm.ClassFile.FieldType.int) 2 84 [(0, .ref E.2.1), (1, .int v1), (2, .int v2), (3, .int v3)] [] s0 (T_fits_84 k21 v1 v2 v3 s0) := by
  unfold T_fits_84
  refine x_iload_n 2 dX2_fits_84 rfl rfl (n := 85) rfl ?_
  refine x_sub [0, 1, 3] [(0, .ref E.2.1), (1, .int v1), (3, .int v3)] rfl ?_
  exact T_fits_85_ok hO hE hk21 v1 v3 v2 s0
theorem T_fits_21F_ok {G : xG} {E : TE} (hO : xOK G) (hE : tok E)   {k21 : Int32 × Int32 × Int32 × TS → Option (xO × TS)} (hk21 : ∀ (v1 : Int32) (v2 : Int32) (v3 : Int32) (s0 : TS), XT G E "ForestLegsModel" "fits" cX2_fits 6 (Option.some Jvm.ClassFile.FieldType.int) 2 21 [(0, .ref E.2.1), (1, .int v1), (2, .int v2), (3, .int v3)] [] s0 (k21 (v1, v2, v3, s0))) (v1 : Int32) (v2 : Int32) (v3 : Int32) (s0 : TS) : XT G E "ForestLegsModel" "fits" cX2_fits 6 (Option.some Jvm.ClassFile.FieldType.int) 2 21 [(0, .ref E.2.1), (1, .int v1), (2, .int v2), (3, .int v3)] [] s0 (T_fits_21F k21 (v1, v2, v3, s0)) := by
  unfold T_fits_21F
  refine x_iload_n 3 dX2_fits_21 rfl rfl (n := 22) rfl ?_
  refine x_aload_nr 0 dX2_fits_22 rfl rfl (n := 23) rfl ?_
  refine tw_getA fl_X2_17 rfl (by decide) dX2_fits_23 (n := 26) rfl ?_
  refine x_iconst 0 dX2_fits_26 rfl (n := 27) rfl ?_
  refine tw_iald hE (by decide) dX2_fits_27 (n := 28) rfl (fun x7 => ?_)
  refine tw_icmp_ge dX2_fits_28 (t := 92) (by decide) (n := 31) rfl ?_ ?_
  · refine x_iload_n 2 dX2_fits_92 rfl rfl (n := 93) rfl ?_
    exact tw_ireturn dX2_fits_93
  · refine x_aload_nr 0 dX2_fits_31 rfl rfl (n := 32) rfl ?_
    refine x_iload_n 1 dX2_fits_32 rfl rfl (n := 33) rfl ?_
    refine x_iload_n 3 dX2_fits_33 rfl rfl (n := 34) rfl ?_
    refine tw_callV_I [.int v1, .int v3] [] (T_matches_ok hO hE s0 v1 v3) md_X2_matches q3140 q3142 qs84 dX2_fits_34 rfl rfl (by decide) (Nat.le_of_ble_eq_true rfl) (n := 37) rfl (fun x9 s8 => ?_)
    refine x_istore [(4, .int x9), (0, .ref E.2.1), (1, .int v1), (2, .int v2), (3, .int v3)] dX2_fits_37 (by decide) rfl (n := 39) rfl ?_
    refine x_aload_nr 1 dX2_fits_39 rfl rfl (n := 40) rfl ?_
    refine x_iload_n 2 dX2_fits_40 rfl rfl (n := 41) rfl ?_
    refine x_iload_n 3 dX2_fits_41 rfl rfl (n := 42) rfl ?_
    refine tw_callV_I [.int v1, .int v2] [] (T_matches_ok hO hE s8 v1 v2) md_X2_matches q3140 q3142 qs84 dX2_fits_42 rfl rfl (by decide) (Nat.le_of_ble_eq_true rfl) (n := 45) rfl (fun x11 s10 => ?_)
    refine x_istore [(5, .int x11), (4, .int x9), (0, .ref E.2.1), (1, .int v1), (2, .int v2), (3, .int v3)] dX2_fits_45 (by decide) rfl (n := 47) rfl ?_
    refine x_iload 1 dX2_fits_47 rfl (n := 49) rfl ?_
    refine x_iload 0 dX2_fits_49 rfl (n := 51) rfl ?_
    refine tw_icmp_lt dX2_fits_51 (t := 80) (by decide) (n := 54) rfl ?_ ?_
    · refine x_sub [2, 3, 5] [(0, .ref E.2.1), (1, .int v1), (3, .int v3)] rfl ?_
      exact T_fits_80_ok hO hE hk21 v1 v3 s10
    · refine x_iload 1 dX2_fits_54 rfl (n := 56) rfl ?_
      refine x_iload 0 dX2_fits_56 rfl (n := 58) rfl ?_
      refine tw_icmp_ne dX2_fits_58 (t := 84) (by decide) (n := 61) rfl ?_ ?_
      · refine x_sub [2, 3, 4, 5] [(0, .ref E.2.1), (1, .int v1), (2, .int v2), (3, .int v3)] rfl ?_
        exact T_fits_84_ok hO hE hk21 v1 v2 v3 s10
      · refine x_aload_nr 2 dX2_fits_61 rfl rfl (n := 62) rfl ?_
        refine tw_getA fl_X2_17 rfl (by decide) dX2_fits_62 (n := 65) rfl ?_
        refine x_iconst 4 dX2_fits_65 rfl (n := 66) rfl ?_
        refine x_iload_n 5 dX2_fits_66 rfl rfl (n := 67) rfl ?_
        refine x_iadd dX2_fits_67 (n := 68) rfl ?_
        refine tw_iald hE (by decide) dX2_fits_68 (n := 69) rfl (fun x13 => ?_)
        refine x_aload_nr 2 dX2_fits_69 rfl rfl (n := 70) rfl ?_
        refine tw_getA fl_X2_17 rfl (by decide) dX2_fits_70 (n := 73) rfl ?_
        refine x_iconst 4 dX2_fits_73 rfl (n := 74) rfl ?_
        refine x_iload_n 4 dX2_fits_74 rfl rfl (n := 75) rfl ?_
        refine x_iadd dX2_fits_75 (n := 76) rfl ?_
        refine tw_iald hE (by decide) dX2_fits_76 (n := 77) rfl (fun x14 => ?_)
        refine tw_icmp_le dX2_fits_77 (t := 84) (by decide) (n := 80) rfl ?_ ?_
        · refine x_sub [2, 3, 4, 5] [(0, .ref E.2.1), (1, .int v1), (2, .int v2), (3, .int v3)] rfl ?_
          exact T_fits_84_ok hO hE hk21 v1 v2 v3 s10
        · refine x_sub [2, 3, 5] [(0, .ref E.2.1), (1, .int v1), (3, .int v3)] rfl ?_
          exact T_fits_80_ok hO hE hk21 v1 v3 s10
theorem T_fits_21_lp {G : xG} {E : TE} (hO : xOK G) (hE : tok E)   (n : Nat) (v1 : Int32) (v2 : Int32) (v3 : Int32) (s0 : TS) : XT G E "ForestLegsModel" "fits" cX2_fits 6 (Option.some Jvm.ClassFile.FieldType.int) 2 21 [(0, .ref E.2.1), (1, .int v1), (2, .int v2), (3, .int v3)] [] s0 (lp (T_fits_21F) n (v1, v2, v3, s0)) :=
  lp_ok (W := fun p K => XT G E "ForestLegsModel" "fits" cX2_fits 6 (Option.some Jvm.ClassFile.FieldType.int) 2 21 [(0, .ref E.2.1), (1, .int p.1), (2, .int p.2.1), (3, .int p.2.2.1)] [] p.2.2.2 K) (fun _ => tw_no) (fun k hk => fun (v1, v2, v3, s0) => T_fits_21F_ok hO hE (fun v1 v2 v3 s0 => hk (v1, v2, v3, s0)) v1 v2 v3 s0) n (v1, v2, v3, s0)
theorem T_fits_ok {G : xG} {E : TE} (hO : xOK G) (hE : tok E) (s0 : TS) (a1 : Int32) : CTT G E 2 yX2_fits cX2_fits 6 (Option.some Jvm.ClassFile.FieldType.int) [.ref E.2.1, .int a1] s0 (T_fits s0 a1) := by
  refine CT_of hO (by decide +kernel) (by decide +kernel) (Nat.le_of_ble_eq_true rfl) ?_
  show XT G E "ForestLegsModel" "fits" cX2_fits 6 (Option.some Jvm.ClassFile.FieldType.int) 2 0 [(0, .ref E.2.1), (1, .int a1)] [] s0 (T_fits s0 a1)
  refine x_aload_nr 0 dX2_fits_0 rfl rfl (n := 1) rfl ?_
  refine x_aload_nr 0 dX2_fits_1 rfl rfl (n := 2) rfl ?_
  refine x_iload_n 1 dX2_fits_2 rfl rfl (n := 3) rfl ?_
  refine tw_callV_I [.int a1] [.ref E.2.1] (T_isRunner_ok hO hE s0 a1) md_X2_isRunner q3215 q3217 qs99 dX2_fits_3 rfl rfl (by decide) (Nat.le_of_ble_eq_true rfl) (n := 6) rfl (fun x2 s1 => ?_)
  refine tw_callS_I [.int x2] [.ref E.2.1] (T_unless_2_ok hO hE s1 x2) md_X2_unless_2 q3121 q3122 dX2_fits_6 rfl rfl (by decide) (Nat.le_of_ble_eq_true rfl) (n := 9) rfl (fun x4 s3 => ?_)
  refine tw_callV_I [.int x4] [] (T_isRefused_ok hO hE s3 x4) md_X2_isRefused q3022 q3024 qs63 dX2_fits_9 rfl rfl (by decide) (Nat.le_of_ble_eq_true rfl) (n := 12) rfl (fun x6 s5 => ?_)
  refine tw_if_eq dX2_fits_12 (t := 17) (by decide) (n := 15) rfl ?_ ?_
  · refine x_iconst 0 dX2_fits_17 rfl (n := 18) rfl ?_
    refine x_istore_n [(2, .int 0), (0, .ref E.2.1), (1, .int a1)] dX2_fits_18 rfl (by decide) rfl (n := 19) rfl ?_
    refine x_iconst 1 dX2_fits_19 rfl (n := 20) rfl ?_
    refine x_istore_n [(3, .int 1), (2, .int 0), (0, .ref E.2.1), (1, .int a1)] dX2_fits_20 rfl (by decide) rfl (n := 21) rfl ?_
    refine x_sub [2, 3, 1, 0] [(0, .ref E.2.1), (1, .int a1), (2, .int 0), (3, .int 1)] rfl ?_
    exact T_fits_21_lp hO hE FU a1 0 1 s5
  · refine x_iconst (-1) dX2_fits_15 rfl (n := 16) rfl ?_
    exact tw_ireturn dX2_fits_16
abbrev cX2_missed : ByteArray := prog_14_method_61_code
def yX2_missed : MethodName := ⟨RX2, "missed", "(I)I"⟩
def dkwX2_missed_3 : List UInt8 := [167, 255, 213, 28, 172]
abbrev dktX2_missed_3 : List UInt8 := dkwX2_missed_3 ++ []
def dkwX2_missed_2 : List UInt8 := [42, 180, 0, 32, 29, 46, 2, 160, 0, 9, 4, 29, 120, 167, 0, 4, 3, 128, 61, 132, 3, 1]
abbrev dktX2_missed_2 : List UInt8 := dkwX2_missed_2 ++ dktX2_missed_3
def dkwX2_missed_1 : List UInt8 := [61, 3, 62, 29, 42, 180, 0, 17, 7, 42, 180, 0, 17, 16, 37, 27, 96, 46, 96, 46, 162, 0, 29, 28]
abbrev dktX2_missed_1 : List UInt8 := dkwX2_missed_1 ++ dktX2_missed_2
def dkwX2_missed_0 : List UInt8 := [42, 42, 27, 182, 0, 187, 184, 0, 234, 182, 0, 161, 153, 0, 5, 2, 172, 42, 27, 182, 0, 206, 87, 3]
abbrev dktX2_missed_0 : List UInt8 := dkwX2_missed_0 ++ dktX2_missed_1
theorem dksX2_missed_0 : cX2_missed.data.toList.drop 0 = dktX2_missed_0 := by decide +kernel
theorem dksX2_missed_1 : cX2_missed.data.toList.drop 24 = dktX2_missed_1 := dk_seg dksX2_missed_0 24 rfl rfl
theorem dksX2_missed_2 : cX2_missed.data.toList.drop 48 = dktX2_missed_2 := dk_seg dksX2_missed_1 24 rfl rfl
theorem dksX2_missed_3 : cX2_missed.data.toList.drop 70 = dktX2_missed_3 := dk_seg dksX2_missed_2 22 rfl rfl
theorem dX2_missed_0 : decode cX2_missed 0 = .ok (.aload_n 0, 1) := dk_42 (dk_at dksX2_missed_0 0 rfl rfl)
theorem dX2_missed_1 : decode cX2_missed 1 = .ok (.aload_n 0, 1) := dk_42 (dk_at dksX2_missed_0 1 rfl rfl)
theorem dX2_missed_2 : decode cX2_missed 2 = .ok (.iload_n 1, 1) := dk_27 (dk_at dksX2_missed_0 2 rfl rfl)
theorem dX2_missed_3 : decode cX2_missed 3 = .ok (.invokevirtual 187, 3) := dk_182 0 187 (dk_at dksX2_missed_0 3 rfl rfl)
theorem dX2_missed_6 : decode cX2_missed 6 = .ok (.invokestatic 234, 3) := dk_184 0 234 (dk_at dksX2_missed_0 6 rfl rfl)
theorem dX2_missed_9 : decode cX2_missed 9 = .ok (.invokevirtual 161, 3) := dk_182 0 161 (dk_at dksX2_missed_0 9 rfl rfl)
theorem dX2_missed_12 : decode cX2_missed 12 = .ok (.ifCond .eq 5, 3) := dk_153 0 5 (dk_at dksX2_missed_0 12 rfl rfl)
theorem dX2_missed_15 : decode cX2_missed 15 = .ok (.iconst (-1), 1) := dk_2 (dk_at dksX2_missed_0 15 rfl rfl)
theorem dX2_missed_16 : decode cX2_missed 16 = .ok (.ireturn, 1) := dk_172 (dk_at dksX2_missed_0 16 rfl rfl)
theorem dX2_missed_17 : decode cX2_missed 17 = .ok (.aload_n 0, 1) := dk_42 (dk_at dksX2_missed_0 17 rfl rfl)
theorem dX2_missed_18 : decode cX2_missed 18 = .ok (.iload_n 1, 1) := dk_27 (dk_at dksX2_missed_0 18 rfl rfl)
theorem dX2_missed_19 : decode cX2_missed 19 = .ok (.invokevirtual 206, 3) := dk_182 0 206 (dk_at dksX2_missed_0 19 rfl rfl)
theorem dX2_missed_22 : decode cX2_missed 22 = .ok (.pop, 1) := dk_87 (dk_at dksX2_missed_0 22 rfl rfl)
theorem dX2_missed_23 : decode cX2_missed 23 = .ok (.iconst 0, 1) := dk_3 (dk_at dksX2_missed_0 23 rfl rfl)
theorem dX2_missed_24 : decode cX2_missed 24 = .ok (.istore_n 2, 1) := dk_61 (dk_at dksX2_missed_1 0 rfl rfl)
theorem dX2_missed_25 : decode cX2_missed 25 = .ok (.iconst 0, 1) := dk_3 (dk_at dksX2_missed_1 1 rfl rfl)
theorem dX2_missed_26 : decode cX2_missed 26 = .ok (.istore_n 3, 1) := dk_62 (dk_at dksX2_missed_1 2 rfl rfl)
theorem dX2_missed_27 : decode cX2_missed 27 = .ok (.iload_n 3, 1) := dk_29 (dk_at dksX2_missed_1 3 rfl rfl)
theorem dX2_missed_28 : decode cX2_missed 28 = .ok (.aload_n 0, 1) := dk_42 (dk_at dksX2_missed_1 4 rfl rfl)
theorem dX2_missed_29 : decode cX2_missed 29 = .ok (.getfield 17, 3) := dk_180 0 17 (dk_at dksX2_missed_1 5 rfl rfl)
theorem dX2_missed_32 : decode cX2_missed 32 = .ok (.iconst 4, 1) := dk_7 (dk_at dksX2_missed_1 8 rfl rfl)
theorem dX2_missed_33 : decode cX2_missed 33 = .ok (.aload_n 0, 1) := dk_42 (dk_at dksX2_missed_1 9 rfl rfl)
theorem dX2_missed_34 : decode cX2_missed 34 = .ok (.getfield 17, 3) := dk_180 0 17 (dk_at dksX2_missed_1 10 rfl rfl)
theorem dX2_missed_37 : decode cX2_missed 37 = .ok (.bipush 37, 2) := dk_16 37 (dk_at dksX2_missed_1 13 rfl rfl)
theorem dX2_missed_39 : decode cX2_missed 39 = .ok (.iload_n 1, 1) := dk_27 (dk_at dksX2_missed_1 15 rfl rfl)
theorem dX2_missed_40 : decode cX2_missed 40 = .ok (.iadd, 1) := dk_96 (dk_at dksX2_missed_1 16 rfl rfl)
theorem dX2_missed_41 : decode cX2_missed 41 = .ok (.iaload, 1) := dk_46 (dk_at dksX2_missed_1 17 rfl rfl)
theorem dX2_missed_42 : decode cX2_missed 42 = .ok (.iadd, 1) := dk_96 (dk_at dksX2_missed_1 18 rfl rfl)
theorem dX2_missed_43 : decode cX2_missed 43 = .ok (.iaload, 1) := dk_46 (dk_at dksX2_missed_1 19 rfl rfl)
theorem dX2_missed_44 : decode cX2_missed 44 = .ok (.if_icmp .ge 29, 3) := dk_162 0 29 (dk_at dksX2_missed_1 20 rfl rfl)
theorem dX2_missed_47 : decode cX2_missed 47 = .ok (.iload_n 2, 1) := dk_28 (dk_at dksX2_missed_1 23 rfl rfl)
theorem dX2_missed_48 : decode cX2_missed 48 = .ok (.aload_n 0, 1) := dk_42 (dk_at dksX2_missed_2 0 rfl rfl)
theorem dX2_missed_49 : decode cX2_missed 49 = .ok (.getfield 32, 3) := dk_180 0 32 (dk_at dksX2_missed_2 1 rfl rfl)
theorem dX2_missed_52 : decode cX2_missed 52 = .ok (.iload_n 3, 1) := dk_29 (dk_at dksX2_missed_2 4 rfl rfl)
theorem dX2_missed_53 : decode cX2_missed 53 = .ok (.iaload, 1) := dk_46 (dk_at dksX2_missed_2 5 rfl rfl)
theorem dX2_missed_54 : decode cX2_missed 54 = .ok (.iconst (-1), 1) := dk_2 (dk_at dksX2_missed_2 6 rfl rfl)
theorem dX2_missed_55 : decode cX2_missed 55 = .ok (.if_icmp .ne 9, 3) := dk_160 0 9 (dk_at dksX2_missed_2 7 rfl rfl)
theorem dX2_missed_58 : decode cX2_missed 58 = .ok (.iconst 1, 1) := dk_4 (dk_at dksX2_missed_2 10 rfl rfl)
theorem dX2_missed_59 : decode cX2_missed 59 = .ok (.iload_n 3, 1) := dk_29 (dk_at dksX2_missed_2 11 rfl rfl)
theorem dX2_missed_60 : decode cX2_missed 60 = .ok (.ishl, 1) := dk_120 (dk_at dksX2_missed_2 12 rfl rfl)
theorem dX2_missed_61 : decode cX2_missed 61 = .ok (.goto 4, 3) := dk_167 0 4 (dk_at dksX2_missed_2 13 rfl rfl)
theorem dX2_missed_64 : decode cX2_missed 64 = .ok (.iconst 0, 1) := dk_3 (dk_at dksX2_missed_2 16 rfl rfl)
theorem dX2_missed_65 : decode cX2_missed 65 = .ok (.ior, 1) := dk_128 (dk_at dksX2_missed_2 17 rfl rfl)
theorem dX2_missed_66 : decode cX2_missed 66 = .ok (.istore_n 2, 1) := dk_61 (dk_at dksX2_missed_2 18 rfl rfl)
theorem dX2_missed_67 : decode cX2_missed 67 = .ok (.iinc 3 1, 3) := dk_132 3 1 (dk_at dksX2_missed_2 19 rfl rfl)
theorem dX2_missed_70 : decode cX2_missed 70 = .ok (.goto (-43), 3) := dk_167 255 213 (dk_at dksX2_missed_3 0 rfl rfl)
theorem dX2_missed_73 : decode cX2_missed 73 = .ok (.iload_n 2, 1) := dk_28 (dk_at dksX2_missed_3 3 rfl rfl)
theorem dX2_missed_74 : decode cX2_missed 74 = .ok (.ireturn, 1) := dk_172 (dk_at dksX2_missed_3 4 rfl rfl)
theorem md_X2_missed : xMd yX2_missed cX2_missed 4 (Option.some Jvm.ClassFile.FieldType.int) 1 := ⟨q3242, q126, by decide, by decide +kernel, by decide +kernel, by decide +kernel⟩
def T_missed_65  (k27 : Int32 × Int32 × Int32 × TS → Option (xO × TS)) (v1 : Int32) (v3 : Int32) (w0 : Int32) (w1 : Int32) (s0 : TS) : Option (xO × TS) :=
  (bnd (w0 ||| w1) fun x12 =>
  (bnd (v3 + 1) fun x13 =>
  (k27 (v1, x12, x13, s0))))
def T_missed_27F   (k27 : Int32 × Int32 × Int32 × TS → Option (xO × TS)) (p : Int32 × Int32 × Int32 × TS) : Option (xO × TS) := match p with
  | (v1, v2, v3, s0) => (tald s0 7 (37 + v1) fun x9 =>
  (tald s0 7 (4 + x9) fun x10 =>
  (if x10 ≤ v3 then
  (rI v2 s0) else
  (tald s0 20 v3 fun x11 =>
  (if x11 = (-1) then
  (T_missed_65 k27 v1 v3 v2 (1 <<< (v3 &&& 31)) s0) else
  (T_missed_65 k27 v1 v3 v2 0 s0))))))
def T_missed (s0 : TS) (a1 : Int32) : Option (xO × TS) :=
  (xcI (T_isRunner s0 a1) fun x2 s1 =>
  (xcI (T_unless_2 s1 x2) fun x4 s3 =>
  (xcI (T_isRefused s3 x4) fun x6 s5 =>
  (if x6 = 0 then
  (xcI (T_missedBy s5 a1) fun x8 s7 =>
  (lp (T_missed_27F) FU (a1, 0, 0, s7))) else
  (rI (-1) s5)))))
theorem T_missed_65_ok {G : xG} {E : TE} (hO : xOK G) (hE : tok E)  {k27 : Int32 × Int32 × Int32 × TS → Option (xO × TS)} (hk27 : ∀ (v1 : Int32) (v2 : Int32) (v3 : Int32) (s0 : TS), XT G E "ForestLegsModel" "missed" cX2_missed 4 (Option.some Jvm.ClassFile.FieldType.int) 3 27 [(0, .ref E.2.1), (1, .int v1), (2, .int v2), (3, .int v3)] [] s0 (k27 (v1, v2, v3, s0))) (v1 : Int32) (v3 : Int32) (w0 : Int32) (w1 : Int32) (s0 : TS) : XT G E "ForestLegsModel" "missed" cX2_missed 4 (Option.some Jvm.ClassFile.FieldType.int) 3 65 [(0, .ref E.2.1), (1, .int v1), (3, .int v3)] [.int w1, .int w0] s0 (T_missed_65 k27 v1 v3 w0 w1 s0) := by
  unfold T_missed_65
  refine x_ior dX2_missed_65 (n := 66) rfl ?_
  refine tw_nm (fun x12 => ?_)
  refine x_istore_n [(2, .int x12), (0, .ref E.2.1), (1, .int v1), (3, .int v3)] dX2_missed_66 rfl (by decide) rfl (n := 67) rfl ?_
  refine tw_iinc 3 (fun x13 => [(3, .int x13), (2, .int x12), (0, .ref E.2.1), (1, .int v1)]) dX2_missed_67 rfl rfl (by decide) (fun _ => rfl) (n := 70) rfl (fun x13 => ?_)
  refine x_goto dX2_missed_70 (n := 27) (by decide) ?_
  refine x_sub [2, 3, 1, 0] [(0, .ref E.2.1), (1, .int v1), (2, .int x12), (3, .int x13)] rfl ?_
  exact hk27 v1 x12 x13 s0
theorem T_missed_27F_ok {G : xG} {E : TE} (hO : xOK G) (hE : tok E)   {k27 : Int32 × Int32 × Int32 × TS → Option (xO × TS)} (hk27 : ∀ (v1 : Int32) (v2 : Int32) (v3 : Int32) (s0 : TS), XT G E "ForestLegsModel" "missed" cX2_missed 4 (Option.some Jvm.ClassFile.FieldType.int) 3 27 [(0, .ref E.2.1), (1, .int v1), (2, .int v2), (3, .int v3)] [] s0 (k27 (v1, v2, v3, s0))) (v1 : Int32) (v2 : Int32) (v3 : Int32) (s0 : TS) : XT G E "ForestLegsModel" "missed" cX2_missed 4 (Option.some Jvm.ClassFile.FieldType.int) 3 27 [(0, .ref E.2.1), (1, .int v1), (2, .int v2), (3, .int v3)] [] s0 (T_missed_27F k27 (v1, v2, v3, s0)) := by
  unfold T_missed_27F
  refine x_iload_n 3 dX2_missed_27 rfl rfl (n := 28) rfl ?_
  refine x_aload_nr 0 dX2_missed_28 rfl rfl (n := 29) rfl ?_
  refine tw_getA fl_X2_17 rfl (by decide) dX2_missed_29 (n := 32) rfl ?_
  refine x_iconst 4 dX2_missed_32 rfl (n := 33) rfl ?_
  refine x_aload_nr 0 dX2_missed_33 rfl rfl (n := 34) rfl ?_
  refine tw_getA fl_X2_17 rfl (by decide) dX2_missed_34 (n := 37) rfl ?_
  refine x_bipush 37 dX2_missed_37 rfl (n := 39) rfl ?_
  refine x_iload_n 1 dX2_missed_39 rfl rfl (n := 40) rfl ?_
  refine x_iadd dX2_missed_40 (n := 41) rfl ?_
  refine tw_iald hE (by decide) dX2_missed_41 (n := 42) rfl (fun x9 => ?_)
  refine x_iadd dX2_missed_42 (n := 43) rfl ?_
  refine tw_iald hE (by decide) dX2_missed_43 (n := 44) rfl (fun x10 => ?_)
  refine tw_icmp_ge dX2_missed_44 (t := 73) (by decide) (n := 47) rfl ?_ ?_
  · refine x_iload_n 2 dX2_missed_73 rfl rfl (n := 74) rfl ?_
    exact tw_ireturn dX2_missed_74
  · refine x_iload_n 2 dX2_missed_47 rfl rfl (n := 48) rfl ?_
    refine x_aload_nr 0 dX2_missed_48 rfl rfl (n := 49) rfl ?_
    refine tw_getA fl_X2_32 rfl (by decide) dX2_missed_49 (n := 52) rfl ?_
    refine x_iload_n 3 dX2_missed_52 rfl rfl (n := 53) rfl ?_
    refine tw_iald hE (by decide) dX2_missed_53 (n := 54) rfl (fun x11 => ?_)
    refine x_iconst (-1) dX2_missed_54 rfl (n := 55) rfl ?_
    refine tw_icmp_ne dX2_missed_55 (t := 64) (by decide) (n := 58) rfl ?_ ?_
    · refine x_iconst 0 dX2_missed_64 rfl (n := 65) rfl ?_
      refine x_sub [0, 1, 3] [(0, .ref E.2.1), (1, .int v1), (3, .int v3)] rfl ?_
      exact T_missed_65_ok hO hE hk27 v1 v3 v2 0 s0
    · refine x_iconst 1 dX2_missed_58 rfl (n := 59) rfl ?_
      refine x_iload_n 3 dX2_missed_59 rfl rfl (n := 60) rfl ?_
      refine x_ishl dX2_missed_60 (n := 61) rfl ?_
      refine x_goto dX2_missed_61 (n := 65) (by decide) ?_
      refine x_sub [0, 1, 3] [(0, .ref E.2.1), (1, .int v1), (3, .int v3)] rfl ?_
      exact T_missed_65_ok hO hE hk27 v1 v3 v2 (1 <<< (v3 &&& 31)) s0
theorem T_missed_27_lp {G : xG} {E : TE} (hO : xOK G) (hE : tok E)   (n : Nat) (v1 : Int32) (v2 : Int32) (v3 : Int32) (s0 : TS) : XT G E "ForestLegsModel" "missed" cX2_missed 4 (Option.some Jvm.ClassFile.FieldType.int) 3 27 [(0, .ref E.2.1), (1, .int v1), (2, .int v2), (3, .int v3)] [] s0 (lp (T_missed_27F) n (v1, v2, v3, s0)) :=
  lp_ok (W := fun p K => XT G E "ForestLegsModel" "missed" cX2_missed 4 (Option.some Jvm.ClassFile.FieldType.int) 3 27 [(0, .ref E.2.1), (1, .int p.1), (2, .int p.2.1), (3, .int p.2.2.1)] [] p.2.2.2 K) (fun _ => tw_no) (fun k hk => fun (v1, v2, v3, s0) => T_missed_27F_ok hO hE (fun v1 v2 v3 s0 => hk (v1, v2, v3, s0)) v1 v2 v3 s0) n (v1, v2, v3, s0)
theorem T_missed_ok {G : xG} {E : TE} (hO : xOK G) (hE : tok E) (s0 : TS) (a1 : Int32) : CTT G E 3 yX2_missed cX2_missed 4 (Option.some Jvm.ClassFile.FieldType.int) [.ref E.2.1, .int a1] s0 (T_missed s0 a1) := by
  refine CT_of hO (by decide +kernel) (by decide +kernel) (Nat.le_of_ble_eq_true rfl) ?_
  show XT G E "ForestLegsModel" "missed" cX2_missed 4 (Option.some Jvm.ClassFile.FieldType.int) 3 0 [(0, .ref E.2.1), (1, .int a1)] [] s0 (T_missed s0 a1)
  refine x_aload_nr 0 dX2_missed_0 rfl rfl (n := 1) rfl ?_
  refine x_aload_nr 0 dX2_missed_1 rfl rfl (n := 2) rfl ?_
  refine x_iload_n 1 dX2_missed_2 rfl rfl (n := 3) rfl ?_
  refine tw_callV_I [.int a1] [.ref E.2.1] (T_isRunner_ok hO hE s0 a1) md_X2_isRunner q3215 q3217 qs99 dX2_missed_3 rfl rfl (by decide) (Nat.le_of_ble_eq_true rfl) (n := 6) rfl (fun x2 s1 => ?_)
  refine tw_callS_I [.int x2] [.ref E.2.1] (T_unless_2_ok hO hE s1 x2) md_X2_unless_2 q3121 q3122 dX2_missed_6 rfl rfl (by decide) (Nat.le_of_ble_eq_true rfl) (n := 9) rfl (fun x4 s3 => ?_)
  refine tw_callV_I [.int x4] [] (T_isRefused_ok hO hE s3 x4) md_X2_isRefused q3022 q3024 qs63 dX2_missed_9 rfl rfl (by decide) (Nat.le_of_ble_eq_true rfl) (n := 12) rfl (fun x6 s5 => ?_)
  refine tw_if_eq dX2_missed_12 (t := 17) (by decide) (n := 15) rfl ?_ ?_
  · refine x_aload_nr 0 dX2_missed_17 rfl rfl (n := 18) rfl ?_
    refine x_iload_n 1 dX2_missed_18 rfl rfl (n := 19) rfl ?_
    refine tw_callV_I [.int a1] [] (T_missedBy_ok hO hE s5 a1) md_X2_missedBy q3136 q3138 qs83 dX2_missed_19 rfl rfl (by decide) (Nat.le_of_ble_eq_true rfl) (n := 22) rfl (fun x8 s7 => ?_)
    refine x_pop dX2_missed_22 rfl (n := 23) rfl ?_
    refine x_iconst 0 dX2_missed_23 rfl (n := 24) rfl ?_
    refine x_istore_n [(2, .int 0), (0, .ref E.2.1), (1, .int a1)] dX2_missed_24 rfl (by decide) rfl (n := 25) rfl ?_
    refine x_iconst 0 dX2_missed_25 rfl (n := 26) rfl ?_
    refine x_istore_n [(3, .int 0), (2, .int 0), (0, .ref E.2.1), (1, .int a1)] dX2_missed_26 rfl (by decide) rfl (n := 27) rfl ?_
    refine x_sub [2, 3, 1, 0] [(0, .ref E.2.1), (1, .int a1), (2, .int 0), (3, .int 0)] rfl ?_
    exact T_missed_27_lp hO hE FU a1 0 0 s7
  · refine x_iconst (-1) dX2_missed_15 rfl (n := 16) rfl ?_
    exact tw_ireturn dX2_missed_16
abbrev cX2_isPoint : ByteArray := prog_14_method_32_code
def yX2_isPoint : MethodName := ⟨RX2, "isPoint", "(II)Z"⟩
def dkwX2_isPoint_1 : List UInt8 := [4, 167, 0, 4, 3, 172]
abbrev dktX2_isPoint_1 : List UInt8 := dkwX2_isPoint_1 ++ []
def dkwX2_isPoint_0 : List UInt8 := [42, 27, 182, 0, 184, 153, 0, 23, 28, 3, 42, 180, 0, 17, 7, 27, 96, 46, 184, 0, 79, 153, 0, 7]
abbrev dktX2_isPoint_0 : List UInt8 := dkwX2_isPoint_0 ++ dktX2_isPoint_1
theorem dksX2_isPoint_0 : cX2_isPoint.data.toList.drop 0 = dktX2_isPoint_0 := by decide +kernel
theorem dksX2_isPoint_1 : cX2_isPoint.data.toList.drop 24 = dktX2_isPoint_1 := dk_seg dksX2_isPoint_0 24 rfl rfl
theorem dX2_isPoint_0 : decode cX2_isPoint 0 = .ok (.aload_n 0, 1) := dk_42 (dk_at dksX2_isPoint_0 0 rfl rfl)
theorem dX2_isPoint_1 : decode cX2_isPoint 1 = .ok (.iload_n 1, 1) := dk_27 (dk_at dksX2_isPoint_0 1 rfl rfl)
theorem dX2_isPoint_2 : decode cX2_isPoint 2 = .ok (.invokevirtual 184, 3) := dk_182 0 184 (dk_at dksX2_isPoint_0 2 rfl rfl)
theorem dX2_isPoint_5 : decode cX2_isPoint 5 = .ok (.ifCond .eq 23, 3) := dk_153 0 23 (dk_at dksX2_isPoint_0 5 rfl rfl)
theorem dX2_isPoint_8 : decode cX2_isPoint 8 = .ok (.iload_n 2, 1) := dk_28 (dk_at dksX2_isPoint_0 8 rfl rfl)
theorem dX2_isPoint_9 : decode cX2_isPoint 9 = .ok (.iconst 0, 1) := dk_3 (dk_at dksX2_isPoint_0 9 rfl rfl)
theorem dX2_isPoint_10 : decode cX2_isPoint 10 = .ok (.aload_n 0, 1) := dk_42 (dk_at dksX2_isPoint_0 10 rfl rfl)
theorem dX2_isPoint_11 : decode cX2_isPoint 11 = .ok (.getfield 17, 3) := dk_180 0 17 (dk_at dksX2_isPoint_0 11 rfl rfl)
theorem dX2_isPoint_14 : decode cX2_isPoint 14 = .ok (.iconst 4, 1) := dk_7 (dk_at dksX2_isPoint_0 14 rfl rfl)
theorem dX2_isPoint_15 : decode cX2_isPoint 15 = .ok (.iload_n 1, 1) := dk_27 (dk_at dksX2_isPoint_0 15 rfl rfl)
theorem dX2_isPoint_16 : decode cX2_isPoint 16 = .ok (.iadd, 1) := dk_96 (dk_at dksX2_isPoint_0 16 rfl rfl)
theorem dX2_isPoint_17 : decode cX2_isPoint 17 = .ok (.iaload, 1) := dk_46 (dk_at dksX2_isPoint_0 17 rfl rfl)
theorem dX2_isPoint_18 : decode cX2_isPoint 18 = .ok (.invokestatic 79, 3) := dk_184 0 79 (dk_at dksX2_isPoint_0 18 rfl rfl)
theorem dX2_isPoint_21 : decode cX2_isPoint 21 = .ok (.ifCond .eq 7, 3) := dk_153 0 7 (dk_at dksX2_isPoint_0 21 rfl rfl)
theorem dX2_isPoint_24 : decode cX2_isPoint 24 = .ok (.iconst 1, 1) := dk_4 (dk_at dksX2_isPoint_1 0 rfl rfl)
theorem dX2_isPoint_25 : decode cX2_isPoint 25 = .ok (.goto 4, 3) := dk_167 0 4 (dk_at dksX2_isPoint_1 1 rfl rfl)
theorem dX2_isPoint_28 : decode cX2_isPoint 28 = .ok (.iconst 0, 1) := dk_3 (dk_at dksX2_isPoint_1 4 rfl rfl)
theorem dX2_isPoint_29 : decode cX2_isPoint 29 = .ok (.ireturn, 1) := dk_172 (dk_at dksX2_isPoint_1 5 rfl rfl)
theorem md_X2_isPoint : xMd yX2_isPoint cX2_isPoint 3 (Option.some Jvm.ClassFile.FieldType.boolean) 2 := ⟨q3254, q126, by decide, by decide +kernel, by decide +kernel, by decide +kernel⟩
def T_isPoint (s0 : TS) (a1 : Int32) (a2 : Int32) : Option (xO × TS) :=
  (xcI (T_isCourse s0 a1) fun x2 s1 =>
  (if x2 = 0 then
  (if vp_nar .boolean 0 = 0 then rI 0 s1 else none) else
  (tald s1 7 (4 + a1) fun x3 =>
  (xcI (T_in s1 a2 0 x3) fun x5 s4 =>
  (if x5 = 0 then
  (if vp_nar .boolean 0 = 0 then rI 0 s4 else none) else
  (if vp_nar .boolean 1 = 1 then rI 1 s4 else none))))))
theorem T_isPoint_ok {G : xG} {E : TE} (hO : xOK G) (hE : tok E) (s0 : TS) (a1 : Int32) (a2 : Int32) : CTT G E 2 yX2_isPoint cX2_isPoint 3 (Option.some Jvm.ClassFile.FieldType.boolean) [.ref E.2.1, .int a1, .int a2] s0 (T_isPoint s0 a1 a2) := by
  refine CT_of hO (by decide +kernel) (by decide +kernel) (Nat.le_of_ble_eq_true rfl) ?_
  show XT G E "ForestLegsModel" "isPoint" cX2_isPoint 3 (Option.some Jvm.ClassFile.FieldType.boolean) 2 0 [(0, .ref E.2.1), (1, .int a1), (2, .int a2)] [] s0 (T_isPoint s0 a1 a2)
  refine x_aload_nr 0 dX2_isPoint_0 rfl rfl (n := 1) rfl ?_
  refine x_iload_n 1 dX2_isPoint_1 rfl rfl (n := 2) rfl ?_
  refine tw_callV_I [.int a1] [] (T_isCourse_ok hO hE s0 a1) md_X2_isCourse q3159 q3161 qs87 dX2_isPoint_2 rfl rfl (by decide) (Nat.le_of_ble_eq_true rfl) (n := 5) rfl (fun x2 s1 => ?_)
  refine tw_if_eq dX2_isPoint_5 (t := 28) (by decide) (n := 8) rfl ?_ ?_
  · refine x_iconst 0 dX2_isPoint_28 rfl (n := 29) rfl ?_
    exact tw_zreturn rfl dX2_isPoint_29
  · refine x_iload_n 2 dX2_isPoint_8 rfl rfl (n := 9) rfl ?_
    refine x_iconst 0 dX2_isPoint_9 rfl (n := 10) rfl ?_
    refine x_aload_nr 0 dX2_isPoint_10 rfl rfl (n := 11) rfl ?_
    refine tw_getA fl_X2_17 rfl (by decide) dX2_isPoint_11 (n := 14) rfl ?_
    refine x_iconst 4 dX2_isPoint_14 rfl (n := 15) rfl ?_
    refine x_iload_n 1 dX2_isPoint_15 rfl rfl (n := 16) rfl ?_
    refine x_iadd dX2_isPoint_16 (n := 17) rfl ?_
    refine tw_iald hE (by decide) dX2_isPoint_17 (n := 18) rfl (fun x3 => ?_)
    refine tw_callS_I [.int a2, .int 0, .int x3] [] (T_in_ok hO hE s1 a2 0 x3) md_X2_in q3016 q3017 dX2_isPoint_18 rfl rfl (by decide) (Nat.le_of_ble_eq_true rfl) (n := 21) rfl (fun x5 s4 => ?_)
    refine tw_if_eq dX2_isPoint_21 (t := 28) (by decide) (n := 24) rfl ?_ ?_
    · refine x_iconst 0 dX2_isPoint_28 rfl (n := 29) rfl ?_
      exact tw_zreturn rfl dX2_isPoint_29
    · refine x_iconst 1 dX2_isPoint_24 rfl (n := 25) rfl ?_
      refine x_goto dX2_isPoint_25 (n := 29) (by decide) ?_
      exact tw_zreturn rfl dX2_isPoint_29
abbrev cX2_isOwnPoint : ByteArray := prog_14_method_33_code
def yX2_isOwnPoint : MethodName := ⟨RX2, "isOwnPoint", "(II)Z"⟩
def dkwX2_isOwnPoint_1 : List UInt8 := [153, 0, 7, 4, 167, 0, 4, 3, 172]
abbrev dktX2_isOwnPoint_1 : List UInt8 := dkwX2_isOwnPoint_1 ++ []
def dkwX2_isOwnPoint_0 : List UInt8 := [42, 27, 182, 0, 187, 153, 0, 24, 42, 42, 180, 0, 17, 16, 37, 27, 96, 46, 28, 182, 0, 190]
abbrev dktX2_isOwnPoint_0 : List UInt8 := dkwX2_isOwnPoint_0 ++ dktX2_isOwnPoint_1
theorem dksX2_isOwnPoint_0 : cX2_isOwnPoint.data.toList.drop 0 = dktX2_isOwnPoint_0 := by decide +kernel
theorem dksX2_isOwnPoint_1 : cX2_isOwnPoint.data.toList.drop 22 = dktX2_isOwnPoint_1 := dk_seg dksX2_isOwnPoint_0 22 rfl rfl
theorem dX2_isOwnPoint_0 : decode cX2_isOwnPoint 0 = .ok (.aload_n 0, 1) := dk_42 (dk_at dksX2_isOwnPoint_0 0 rfl rfl)
theorem dX2_isOwnPoint_1 : decode cX2_isOwnPoint 1 = .ok (.iload_n 1, 1) := dk_27 (dk_at dksX2_isOwnPoint_0 1 rfl rfl)
theorem dX2_isOwnPoint_2 : decode cX2_isOwnPoint 2 = .ok (.invokevirtual 187, 3) := dk_182 0 187 (dk_at dksX2_isOwnPoint_0 2 rfl rfl)
theorem dX2_isOwnPoint_5 : decode cX2_isOwnPoint 5 = .ok (.ifCond .eq 24, 3) := dk_153 0 24 (dk_at dksX2_isOwnPoint_0 5 rfl rfl)
theorem dX2_isOwnPoint_8 : decode cX2_isOwnPoint 8 = .ok (.aload_n 0, 1) := dk_42 (dk_at dksX2_isOwnPoint_0 8 rfl rfl)
theorem dX2_isOwnPoint_9 : decode cX2_isOwnPoint 9 = .ok (.aload_n 0, 1) := dk_42 (dk_at dksX2_isOwnPoint_0 9 rfl rfl)
theorem dX2_isOwnPoint_10 : decode cX2_isOwnPoint 10 = .ok (.getfield 17, 3) := dk_180 0 17 (dk_at dksX2_isOwnPoint_0 10 rfl rfl)
theorem dX2_isOwnPoint_13 : decode cX2_isOwnPoint 13 = .ok (.bipush 37, 2) := dk_16 37 (dk_at dksX2_isOwnPoint_0 13 rfl rfl)
theorem dX2_isOwnPoint_15 : decode cX2_isOwnPoint 15 = .ok (.iload_n 1, 1) := dk_27 (dk_at dksX2_isOwnPoint_0 15 rfl rfl)
theorem dX2_isOwnPoint_16 : decode cX2_isOwnPoint 16 = .ok (.iadd, 1) := dk_96 (dk_at dksX2_isOwnPoint_0 16 rfl rfl)
theorem dX2_isOwnPoint_17 : decode cX2_isOwnPoint 17 = .ok (.iaload, 1) := dk_46 (dk_at dksX2_isOwnPoint_0 17 rfl rfl)
theorem dX2_isOwnPoint_18 : decode cX2_isOwnPoint 18 = .ok (.iload_n 2, 1) := dk_28 (dk_at dksX2_isOwnPoint_0 18 rfl rfl)
theorem dX2_isOwnPoint_19 : decode cX2_isOwnPoint 19 = .ok (.invokevirtual 190, 3) := dk_182 0 190 (dk_at dksX2_isOwnPoint_0 19 rfl rfl)
theorem dX2_isOwnPoint_22 : decode cX2_isOwnPoint 22 = .ok (.ifCond .eq 7, 3) := dk_153 0 7 (dk_at dksX2_isOwnPoint_1 0 rfl rfl)
theorem dX2_isOwnPoint_25 : decode cX2_isOwnPoint 25 = .ok (.iconst 1, 1) := dk_4 (dk_at dksX2_isOwnPoint_1 3 rfl rfl)
theorem dX2_isOwnPoint_26 : decode cX2_isOwnPoint 26 = .ok (.goto 4, 3) := dk_167 0 4 (dk_at dksX2_isOwnPoint_1 4 rfl rfl)
theorem dX2_isOwnPoint_29 : decode cX2_isOwnPoint 29 = .ok (.iconst 0, 1) := dk_3 (dk_at dksX2_isOwnPoint_1 7 rfl rfl)
theorem dX2_isOwnPoint_30 : decode cX2_isOwnPoint 30 = .ok (.ireturn, 1) := dk_172 (dk_at dksX2_isOwnPoint_1 8 rfl rfl)
theorem md_X2_isOwnPoint : xMd yX2_isOwnPoint cX2_isOwnPoint 3 (Option.some Jvm.ClassFile.FieldType.boolean) 2 := ⟨q3250, q126, by decide, by decide +kernel, by decide +kernel, by decide +kernel⟩
def T_isOwnPoint (s0 : TS) (a1 : Int32) (a2 : Int32) : Option (xO × TS) :=
  (xcI (T_isRunner s0 a1) fun x2 s1 =>
  (if x2 = 0 then
  (if vp_nar .boolean 0 = 0 then rI 0 s1 else none) else
  (tald s1 7 (37 + a1) fun x3 =>
  (xcI (T_isPoint s1 x3 a2) fun x5 s4 =>
  (if x5 = 0 then
  (if vp_nar .boolean 0 = 0 then rI 0 s4 else none) else
  (if vp_nar .boolean 1 = 1 then rI 1 s4 else none))))))
theorem T_isOwnPoint_ok {G : xG} {E : TE} (hO : xOK G) (hE : tok E) (s0 : TS) (a1 : Int32) (a2 : Int32) : CTT G E 3 yX2_isOwnPoint cX2_isOwnPoint 3 (Option.some Jvm.ClassFile.FieldType.boolean) [.ref E.2.1, .int a1, .int a2] s0 (T_isOwnPoint s0 a1 a2) := by
  refine CT_of hO (by decide +kernel) (by decide +kernel) (Nat.le_of_ble_eq_true rfl) ?_
  show XT G E "ForestLegsModel" "isOwnPoint" cX2_isOwnPoint 3 (Option.some Jvm.ClassFile.FieldType.boolean) 3 0 [(0, .ref E.2.1), (1, .int a1), (2, .int a2)] [] s0 (T_isOwnPoint s0 a1 a2)
  refine x_aload_nr 0 dX2_isOwnPoint_0 rfl rfl (n := 1) rfl ?_
  refine x_iload_n 1 dX2_isOwnPoint_1 rfl rfl (n := 2) rfl ?_
  refine tw_callV_I [.int a1] [] (T_isRunner_ok hO hE s0 a1) md_X2_isRunner q3215 q3217 qs99 dX2_isOwnPoint_2 rfl rfl (by decide) (Nat.le_of_ble_eq_true rfl) (n := 5) rfl (fun x2 s1 => ?_)
  refine tw_if_eq dX2_isOwnPoint_5 (t := 29) (by decide) (n := 8) rfl ?_ ?_
  · refine x_iconst 0 dX2_isOwnPoint_29 rfl (n := 30) rfl ?_
    exact tw_zreturn rfl dX2_isOwnPoint_30
  · refine x_aload_nr 0 dX2_isOwnPoint_8 rfl rfl (n := 9) rfl ?_
    refine x_aload_nr 0 dX2_isOwnPoint_9 rfl rfl (n := 10) rfl ?_
    refine tw_getA fl_X2_17 rfl (by decide) dX2_isOwnPoint_10 (n := 13) rfl ?_
    refine x_bipush 37 dX2_isOwnPoint_13 rfl (n := 15) rfl ?_
    refine x_iload_n 1 dX2_isOwnPoint_15 rfl rfl (n := 16) rfl ?_
    refine x_iadd dX2_isOwnPoint_16 (n := 17) rfl ?_
    refine tw_iald hE (by decide) dX2_isOwnPoint_17 (n := 18) rfl (fun x3 => ?_)
    refine x_iload_n 2 dX2_isOwnPoint_18 rfl rfl (n := 19) rfl ?_
    refine tw_callV_I [.int x3, .int a2] [] (T_isPoint_ok hO hE s1 x3 a2) md_X2_isPoint q3251 q3253 qs103 dX2_isOwnPoint_19 rfl rfl (by decide) (Nat.le_of_ble_eq_true rfl) (n := 22) rfl (fun x5 s4 => ?_)
    refine tw_if_eq dX2_isOwnPoint_22 (t := 29) (by decide) (n := 25) rfl ?_ ?_
    · refine x_iconst 0 dX2_isOwnPoint_29 rfl (n := 30) rfl ?_
      exact tw_zreturn rfl dX2_isOwnPoint_30
    · refine x_iconst 1 dX2_isOwnPoint_25 rfl (n := 26) rfl ?_
      refine x_goto dX2_isOwnPoint_26 (n := 30) (by decide) ?_
      exact tw_zreturn rfl dX2_isOwnPoint_30
abbrev cX2_placeAt : ByteArray := prog_14_method_62_code
def yX2_placeAt : MethodName := ⟨RX2, "placeAt", "(IIZ)I"⟩
def dkwX2_placeAt_5 : List UInt8 := [21, 5, 172]
abbrev dktX2_placeAt_5 : List UInt8 := dkwX2_placeAt_5 ++ []
def dkwX2_placeAt_4 : List UInt8 := [159, 0, 14, 21, 7, 21, 4, 162, 0, 7, 4, 167, 0, 4, 3, 96, 54, 5, 132, 6, 1, 167, 255, 168]
abbrev dktX2_placeAt_4 : List UInt8 := dkwX2_placeAt_4 ++ dktX2_placeAt_5
def dkwX2_placeAt_3 : List UInt8 := [28, 182, 0, 221, 167, 0, 10, 42, 21, 6, 28, 182, 0, 224, 54, 7, 21, 5, 21, 7, 16, 254]
abbrev dktX2_placeAt_3 : List UInt8 := dkwX2_placeAt_3 ++ dktX2_placeAt_4
def dkwX2_placeAt_2 : List UInt8 := [42, 180, 0, 17, 16, 37, 27, 96, 46, 159, 0, 8, 16, 254, 167, 0, 24, 29, 153, 0, 13, 42, 21, 6]
abbrev dktX2_placeAt_2 : List UInt8 := dkwX2_placeAt_2 ++ dktX2_placeAt_3
def dkwX2_placeAt_1 : List UInt8 := [3, 54, 6, 21, 6, 42, 180, 0, 17, 4, 46, 162, 0, 83, 42, 180, 0, 17, 16, 37, 21, 6, 96, 46]
abbrev dktX2_placeAt_1 : List UInt8 := dkwX2_placeAt_1 ++ dktX2_placeAt_2
def dkwX2_placeAt_0 : List UInt8 := [29, 153, 0, 12, 42, 27, 28, 182, 0, 221, 167, 0, 9, 42, 27, 28, 182, 0, 224, 54, 4, 4, 54, 5]
abbrev dktX2_placeAt_0 : List UInt8 := dkwX2_placeAt_0 ++ dktX2_placeAt_1
theorem dksX2_placeAt_0 : cX2_placeAt.data.toList.drop 0 = dktX2_placeAt_0 := by decide +kernel
theorem dksX2_placeAt_1 : cX2_placeAt.data.toList.drop 24 = dktX2_placeAt_1 := dk_seg dksX2_placeAt_0 24 rfl rfl
theorem dksX2_placeAt_2 : cX2_placeAt.data.toList.drop 48 = dktX2_placeAt_2 := dk_seg dksX2_placeAt_1 24 rfl rfl
theorem dksX2_placeAt_3 : cX2_placeAt.data.toList.drop 72 = dktX2_placeAt_3 := dk_seg dksX2_placeAt_2 24 rfl rfl
theorem dksX2_placeAt_4 : cX2_placeAt.data.toList.drop 94 = dktX2_placeAt_4 := dk_seg dksX2_placeAt_3 22 rfl rfl
theorem dksX2_placeAt_5 : cX2_placeAt.data.toList.drop 118 = dktX2_placeAt_5 := dk_seg dksX2_placeAt_4 24 rfl rfl
theorem dX2_placeAt_0 : decode cX2_placeAt 0 = .ok (.iload_n 3, 1) := dk_29 (dk_at dksX2_placeAt_0 0 rfl rfl)
theorem dX2_placeAt_1 : decode cX2_placeAt 1 = .ok (.ifCond .eq 12, 3) := dk_153 0 12 (dk_at dksX2_placeAt_0 1 rfl rfl)
theorem dX2_placeAt_4 : decode cX2_placeAt 4 = .ok (.aload_n 0, 1) := dk_42 (dk_at dksX2_placeAt_0 4 rfl rfl)
theorem dX2_placeAt_5 : decode cX2_placeAt 5 = .ok (.iload_n 1, 1) := dk_27 (dk_at dksX2_placeAt_0 5 rfl rfl)
theorem dX2_placeAt_6 : decode cX2_placeAt 6 = .ok (.iload_n 2, 1) := dk_28 (dk_at dksX2_placeAt_0 6 rfl rfl)
theorem dX2_placeAt_7 : decode cX2_placeAt 7 = .ok (.invokevirtual 221, 3) := dk_182 0 221 (dk_at dksX2_placeAt_0 7 rfl rfl)
theorem dX2_placeAt_10 : decode cX2_placeAt 10 = .ok (.goto 9, 3) := dk_167 0 9 (dk_at dksX2_placeAt_0 10 rfl rfl)
theorem dX2_placeAt_13 : decode cX2_placeAt 13 = .ok (.aload_n 0, 1) := dk_42 (dk_at dksX2_placeAt_0 13 rfl rfl)
theorem dX2_placeAt_14 : decode cX2_placeAt 14 = .ok (.iload_n 1, 1) := dk_27 (dk_at dksX2_placeAt_0 14 rfl rfl)
theorem dX2_placeAt_15 : decode cX2_placeAt 15 = .ok (.iload_n 2, 1) := dk_28 (dk_at dksX2_placeAt_0 15 rfl rfl)
theorem dX2_placeAt_16 : decode cX2_placeAt 16 = .ok (.invokevirtual 224, 3) := dk_182 0 224 (dk_at dksX2_placeAt_0 16 rfl rfl)
theorem dX2_placeAt_19 : decode cX2_placeAt 19 = .ok (.istore 4, 2) := dk_54 4 (dk_at dksX2_placeAt_0 19 rfl rfl)
theorem dX2_placeAt_21 : decode cX2_placeAt 21 = .ok (.iconst 1, 1) := dk_4 (dk_at dksX2_placeAt_0 21 rfl rfl)
theorem dX2_placeAt_22 : decode cX2_placeAt 22 = .ok (.istore 5, 2) := dk_54 5 (dk_at dksX2_placeAt_0 22 rfl rfl)
theorem dX2_placeAt_24 : decode cX2_placeAt 24 = .ok (.iconst 0, 1) := dk_3 (dk_at dksX2_placeAt_1 0 rfl rfl)
theorem dX2_placeAt_25 : decode cX2_placeAt 25 = .ok (.istore 6, 2) := dk_54 6 (dk_at dksX2_placeAt_1 1 rfl rfl)
theorem dX2_placeAt_27 : decode cX2_placeAt 27 = .ok (.iload 6, 2) := dk_21 6 (dk_at dksX2_placeAt_1 3 rfl rfl)
theorem dX2_placeAt_29 : decode cX2_placeAt 29 = .ok (.aload_n 0, 1) := dk_42 (dk_at dksX2_placeAt_1 5 rfl rfl)
theorem dX2_placeAt_30 : decode cX2_placeAt 30 = .ok (.getfield 17, 3) := dk_180 0 17 (dk_at dksX2_placeAt_1 6 rfl rfl)
theorem dX2_placeAt_33 : decode cX2_placeAt 33 = .ok (.iconst 1, 1) := dk_4 (dk_at dksX2_placeAt_1 9 rfl rfl)
theorem dX2_placeAt_34 : decode cX2_placeAt 34 = .ok (.iaload, 1) := dk_46 (dk_at dksX2_placeAt_1 10 rfl rfl)
theorem dX2_placeAt_35 : decode cX2_placeAt 35 = .ok (.if_icmp .ge 83, 3) := dk_162 0 83 (dk_at dksX2_placeAt_1 11 rfl rfl)
theorem dX2_placeAt_38 : decode cX2_placeAt 38 = .ok (.aload_n 0, 1) := dk_42 (dk_at dksX2_placeAt_1 14 rfl rfl)
theorem dX2_placeAt_39 : decode cX2_placeAt 39 = .ok (.getfield 17, 3) := dk_180 0 17 (dk_at dksX2_placeAt_1 15 rfl rfl)
theorem dX2_placeAt_42 : decode cX2_placeAt 42 = .ok (.bipush 37, 2) := dk_16 37 (dk_at dksX2_placeAt_1 18 rfl rfl)
theorem dX2_placeAt_44 : decode cX2_placeAt 44 = .ok (.iload 6, 2) := dk_21 6 (dk_at dksX2_placeAt_1 20 rfl rfl)
theorem dX2_placeAt_46 : decode cX2_placeAt 46 = .ok (.iadd, 1) := dk_96 (dk_at dksX2_placeAt_1 22 rfl rfl)
theorem dX2_placeAt_47 : decode cX2_placeAt 47 = .ok (.iaload, 1) := dk_46 (dk_at dksX2_placeAt_1 23 rfl rfl)
theorem dX2_placeAt_48 : decode cX2_placeAt 48 = .ok (.aload_n 0, 1) := dk_42 (dk_at dksX2_placeAt_2 0 rfl rfl)
theorem dX2_placeAt_49 : decode cX2_placeAt 49 = .ok (.getfield 17, 3) := dk_180 0 17 (dk_at dksX2_placeAt_2 1 rfl rfl)
theorem dX2_placeAt_52 : decode cX2_placeAt 52 = .ok (.bipush 37, 2) := dk_16 37 (dk_at dksX2_placeAt_2 4 rfl rfl)
theorem dX2_placeAt_54 : decode cX2_placeAt 54 = .ok (.iload_n 1, 1) := dk_27 (dk_at dksX2_placeAt_2 6 rfl rfl)
theorem dX2_placeAt_55 : decode cX2_placeAt 55 = .ok (.iadd, 1) := dk_96 (dk_at dksX2_placeAt_2 7 rfl rfl)
theorem dX2_placeAt_56 : decode cX2_placeAt 56 = .ok (.iaload, 1) := dk_46 (dk_at dksX2_placeAt_2 8 rfl rfl)
theorem dX2_placeAt_57 : decode cX2_placeAt 57 = .ok (.if_icmp .eq 8, 3) := dk_159 0 8 (dk_at dksX2_placeAt_2 9 rfl rfl)
theorem dX2_placeAt_60 : decode cX2_placeAt 60 = .ok (.bipush (-2), 2) := dk_16 254 (dk_at dksX2_placeAt_2 12 rfl rfl)
theorem dX2_placeAt_62 : decode cX2_placeAt 62 = .ok (.goto 24, 3) := dk_167 0 24 (dk_at dksX2_placeAt_2 14 rfl rfl)
theorem dX2_placeAt_65 : decode cX2_placeAt 65 = .ok (.iload_n 3, 1) := dk_29 (dk_at dksX2_placeAt_2 17 rfl rfl)
theorem dX2_placeAt_66 : decode cX2_placeAt 66 = .ok (.ifCond .eq 13, 3) := dk_153 0 13 (dk_at dksX2_placeAt_2 18 rfl rfl)
theorem dX2_placeAt_69 : decode cX2_placeAt 69 = .ok (.aload_n 0, 1) := dk_42 (dk_at dksX2_placeAt_2 21 rfl rfl)
theorem dX2_placeAt_70 : decode cX2_placeAt 70 = .ok (.iload 6, 2) := dk_21 6 (dk_at dksX2_placeAt_2 22 rfl rfl)
theorem dX2_placeAt_72 : decode cX2_placeAt 72 = .ok (.iload_n 2, 1) := dk_28 (dk_at dksX2_placeAt_3 0 rfl rfl)
theorem dX2_placeAt_73 : decode cX2_placeAt 73 = .ok (.invokevirtual 221, 3) := dk_182 0 221 (dk_at dksX2_placeAt_3 1 rfl rfl)
theorem dX2_placeAt_76 : decode cX2_placeAt 76 = .ok (.goto 10, 3) := dk_167 0 10 (dk_at dksX2_placeAt_3 4 rfl rfl)
theorem dX2_placeAt_79 : decode cX2_placeAt 79 = .ok (.aload_n 0, 1) := dk_42 (dk_at dksX2_placeAt_3 7 rfl rfl)
theorem dX2_placeAt_80 : decode cX2_placeAt 80 = .ok (.iload 6, 2) := dk_21 6 (dk_at dksX2_placeAt_3 8 rfl rfl)
theorem dX2_placeAt_82 : decode cX2_placeAt 82 = .ok (.iload_n 2, 1) := dk_28 (dk_at dksX2_placeAt_3 10 rfl rfl)
theorem dX2_placeAt_83 : decode cX2_placeAt 83 = .ok (.invokevirtual 224, 3) := dk_182 0 224 (dk_at dksX2_placeAt_3 11 rfl rfl)
theorem dX2_placeAt_86 : decode cX2_placeAt 86 = .ok (.istore 7, 2) := dk_54 7 (dk_at dksX2_placeAt_3 14 rfl rfl)
theorem dX2_placeAt_88 : decode cX2_placeAt 88 = .ok (.iload 5, 2) := dk_21 5 (dk_at dksX2_placeAt_3 16 rfl rfl)
theorem dX2_placeAt_90 : decode cX2_placeAt 90 = .ok (.iload 7, 2) := dk_21 7 (dk_at dksX2_placeAt_3 18 rfl rfl)
theorem dX2_placeAt_92 : decode cX2_placeAt 92 = .ok (.bipush (-2), 2) := dk_16 254 (dk_at dksX2_placeAt_3 20 rfl rfl)
theorem dX2_placeAt_94 : decode cX2_placeAt 94 = .ok (.if_icmp .eq 14, 3) := dk_159 0 14 (dk_at dksX2_placeAt_4 0 rfl rfl)
theorem dX2_placeAt_97 : decode cX2_placeAt 97 = .ok (.iload 7, 2) := dk_21 7 (dk_at dksX2_placeAt_4 3 rfl rfl)
theorem dX2_placeAt_99 : decode cX2_placeAt 99 = .ok (.iload 4, 2) := dk_21 4 (dk_at dksX2_placeAt_4 5 rfl rfl)
theorem dX2_placeAt_101 : decode cX2_placeAt 101 = .ok (.if_icmp .ge 7, 3) := dk_162 0 7 (dk_at dksX2_placeAt_4 7 rfl rfl)
theorem dX2_placeAt_104 : decode cX2_placeAt 104 = .ok (.iconst 1, 1) := dk_4 (dk_at dksX2_placeAt_4 10 rfl rfl)
theorem dX2_placeAt_105 : decode cX2_placeAt 105 = .ok (.goto 4, 3) := dk_167 0 4 (dk_at dksX2_placeAt_4 11 rfl rfl)
theorem dX2_placeAt_108 : decode cX2_placeAt 108 = .ok (.iconst 0, 1) := dk_3 (dk_at dksX2_placeAt_4 14 rfl rfl)
theorem dX2_placeAt_109 : decode cX2_placeAt 109 = .ok (.iadd, 1) := dk_96 (dk_at dksX2_placeAt_4 15 rfl rfl)
theorem dX2_placeAt_110 : decode cX2_placeAt 110 = .ok (.istore 5, 2) := dk_54 5 (dk_at dksX2_placeAt_4 16 rfl rfl)
theorem dX2_placeAt_112 : decode cX2_placeAt 112 = .ok (.iinc 6 1, 3) := dk_132 6 1 (dk_at dksX2_placeAt_4 18 rfl rfl)
theorem dX2_placeAt_115 : decode cX2_placeAt 115 = .ok (.goto (-88), 3) := dk_167 255 168 (dk_at dksX2_placeAt_4 21 rfl rfl)
theorem dX2_placeAt_118 : decode cX2_placeAt 118 = .ok (.iload 5, 2) := dk_21 5 (dk_at dksX2_placeAt_5 0 rfl rfl)
theorem dX2_placeAt_120 : decode cX2_placeAt 120 = .ok (.ireturn, 1) := dk_172 (dk_at dksX2_placeAt_5 2 rfl rfl)
theorem md_X2_placeAt : xMd yX2_placeAt cX2_placeAt 8 (Option.some Jvm.ClassFile.FieldType.int) 3 := ⟨q3258, q126, by decide, by decide +kernel, by decide +kernel, by decide +kernel⟩
def T_placeAt_109  (k27 : Int32 × Int32 × Int32 × Int32 × Int32 × Int32 × TS → Option (xO × TS)) (v1 : Int32) (v2 : Int32) (v3 : Int32) (v4 : Int32) (v6 : Int32) (w0 : Int32) (w1 : Int32) (s0 : TS) : Option (xO × TS) :=
  (bnd (w0 + w1) fun x8 =>
  (bnd (v6 + 1) fun x9 =>
  (k27 (v1, v2, v3, v4, x8, x9, s0))))
def T_placeAt_108  (k27 : Int32 × Int32 × Int32 × Int32 × Int32 × Int32 × TS → Option (xO × TS)) (v1 : Int32) (v2 : Int32) (v3 : Int32) (v4 : Int32) (v6 : Int32) (w0 : Int32) (s0 : TS) : Option (xO × TS) :=
  (T_placeAt_109 k27 v1 v2 v3 v4 v6 w0 0 s0)
def T_placeAt_86  (k27 : Int32 × Int32 × Int32 × Int32 × Int32 × Int32 × TS → Option (xO × TS)) (v1 : Int32) (v2 : Int32) (v3 : Int32) (v4 : Int32) (v5 : Int32) (v6 : Int32) (w0 : Int32) (s0 : TS) : Option (xO × TS) :=
  (if w0 = (-2) then
  (T_placeAt_108 k27 v1 v2 v3 v4 v6 v5 s0) else
  (if v4 ≤ w0 then
  (T_placeAt_108 k27 v1 v2 v3 v4 v6 v5 s0) else
  (T_placeAt_109 k27 v1 v2 v3 v4 v6 v5 1 s0)))
def T_placeAt_27F   (k27 : Int32 × Int32 × Int32 × Int32 × Int32 × Int32 × TS → Option (xO × TS)) (p : Int32 × Int32 × Int32 × Int32 × Int32 × Int32 × TS) : Option (xO × TS) := match p with
  | (v1, v2, v3, v4, v5, v6, s0) => (tald s0 7 1 fun x3 =>
  (if x3 ≤ v6 then
  (rI v5 s0) else
  (tald s0 7 (37 + v6) fun x4 =>
  (tald s0 7 (37 + v1) fun x5 =>
  (if x4 = x5 then
  (if v3 = 0 then
  (xcI (T_splitOf s0 v6 v2) fun x7 s6 =>
  (T_placeAt_86 k27 v1 v2 v3 v4 v5 v6 x7 s6)) else
  (xcI (T_legOf s0 v6 v2) fun x11 s10 =>
  (T_placeAt_86 k27 v1 v2 v3 v4 v5 v6 x11 s10))) else
  (T_placeAt_86 k27 v1 v2 v3 v4 v5 v6 (-2) s0))))))
def T_placeAt_19   (v1 : Int32) (v2 : Int32) (v3 : Int32) (w0 : Int32) (s0 : TS) : Option (xO × TS) :=
  (lp (T_placeAt_27F) FU (v1, v2, v3, w0, 1, 0, s0))
def T_placeAt (s0 : TS) (a1 : Int32) (a2 : Int32) (a3 : Int32) : Option (xO × TS) :=
  (if a3 = 0 then
  (xcI (T_splitOf s0 a1 a2) fun x2 s1 =>
  (T_placeAt_19 a1 a2 a3 x2 s1)) else
  (xcI (T_legOf s0 a1 a2) fun x13 s12 =>
  (T_placeAt_19 a1 a2 a3 x13 s12)))
theorem T_placeAt_109_ok {G : xG} {E : TE} (hO : xOK G) (hE : tok E)  {k27 : Int32 × Int32 × Int32 × Int32 × Int32 × Int32 × TS → Option (xO × TS)} (hk27 : ∀ (v1 : Int32) (v2 : Int32) (v3 : Int32) (v4 : Int32) (v5 : Int32) (v6 : Int32) (s0 : TS), XT G E "ForestLegsModel" "placeAt" cX2_placeAt 8 (Option.some Jvm.ClassFile.FieldType.int) 5 27 [(0, .ref E.2.1), (1, .int v1), (2, .int v2), (3, .int v3), (4, .int v4), (5, .int v5), (6, .int v6)] [] s0 (k27 (v1, v2, v3, v4, v5, v6, s0))) (v1 : Int32) (v2 : Int32) (v3 : Int32) (v4 : Int32) (v6 : Int32) (w0 : Int32) (w1 : Int32) (s0 : TS) : XT G E "ForestLegsModel" "placeAt" cX2_placeAt 8 (Option.some Jvm.ClassFile.FieldType.int) 5 109 [(0, .ref E.2.1), (1, .int v1), (2, .int v2), (3, .int v3), (4, .int v4), (6, .int v6)] [.int w1, .int w0] s0 (T_placeAt_109 k27 v1 v2 v3 v4 v6 w0 w1 s0) := by
  unfold T_placeAt_109
  refine x_iadd dX2_placeAt_109 (n := 110) rfl ?_
  refine tw_nm (fun x8 => ?_)
  refine x_istore [(5, .int x8), (0, .ref E.2.1), (1, .int v1), (2, .int v2), (3, .int v3), (4, .int v4), (6, .int v6)] dX2_placeAt_110 (by decide) rfl (n := 112) rfl ?_
  refine tw_iinc 6 (fun x9 => [(6, .int x9), (5, .int x8), (0, .ref E.2.1), (1, .int v1), (2, .int v2), (3, .int v3), (4, .int v4)]) dX2_placeAt_112 rfl rfl (by decide) (fun _ => rfl) (n := 115) rfl (fun x9 => ?_)
  refine x_goto dX2_placeAt_115 (n := 27) (by decide) ?_
  refine x_sub [2, 3, 4, 5, 6, 1, 0] [(0, .ref E.2.1), (1, .int v1), (2, .int v2), (3, .int v3), (4, .int v4), (5, .int x8), (6, .int x9)] rfl ?_
  exact hk27 v1 v2 v3 v4 x8 x9 s0
theorem T_placeAt_108_ok {G : xG} {E : TE} (hO : xOK G) (hE : tok E)  {k27 : Int32 × Int32 × Int32 × Int32 × Int32 × Int32 × TS → Option (xO × TS)} (hk27 : ∀ (v1 : Int32) (v2 : Int32) (v3 : Int32) (v4 : Int32) (v5 : Int32) (v6 : Int32) (s0 : TS), XT G E "ForestLegsModel" "placeAt" cX2_placeAt 8 (Option.some Jvm.ClassFile.FieldType.int) 5 27 [(0, .ref E.2.1), (1, .int v1), (2, .int v2), (3, .int v3), (4, .int v4), (5, .int v5), (6, .int v6)] [] s0 (k27 (v1, v2, v3, v4, v5, v6, s0))) (v1 : Int32) (v2 : Int32) (v3 : Int32) (v4 : Int32) (v6 : Int32) (w0 : Int32) (s0 : TS) : XT G E "ForestLegsModel" "placeAt" cX2_placeAt 8 (Option.some Jvm.ClassFile.FieldType.int) 5 108 [(0, .ref E.2.1), (1, .int v1), (2, .int v2), (3, .int v3), (4, .int v4), (6, .int v6)] [.int w0] s0 (T_placeAt_108 k27 v1 v2 v3 v4 v6 w0 s0) := by
  unfold T_placeAt_108
  refine x_iconst 0 dX2_placeAt_108 rfl (n := 109) rfl ?_
  exact T_placeAt_109_ok hO hE hk27 v1 v2 v3 v4 v6 w0 0 s0
theorem T_placeAt_86_ok {G : xG} {E : TE} (hO : xOK G) (hE : tok E)  {k27 : Int32 × Int32 × Int32 × Int32 × Int32 × Int32 × TS → Option (xO × TS)} (hk27 : ∀ (v1 : Int32) (v2 : Int32) (v3 : Int32) (v4 : Int32) (v5 : Int32) (v6 : Int32) (s0 : TS), XT G E "ForestLegsModel" "placeAt" cX2_placeAt 8 (Option.some Jvm.ClassFile.FieldType.int) 5 27 [(0, .ref E.2.1), (1, .int v1), (2, .int v2), (3, .int v3), (4, .int v4), (5, .int v5), (6, .int v6)] [] s0 (k27 (v1, v2, v3, v4, v5, v6, s0))) (v1 : Int32) (v2 : Int32) (v3 : Int32) (v4 : Int32) (v5 : Int32) (v6 : Int32) (w0 : Int32) (s0 : TS) : XT G E "ForestLegsModel" "placeAt" cX2_placeAt 8 (Option.some Jvm.ClassFile.FieldType.int) 5 86 [(0, .ref E.2.1), (1, .int v1), (2, .int v2), (3, .int v3), (4, .int v4), (5, .int v5), (6, .int v6)] [.int w0] s0 (T_placeAt_86 k27 v1 v2 v3 v4 v5 v6 w0 s0) := by
  unfold T_placeAt_86
  refine x_istore [(7, .int w0), (0, .ref E.2.1), (1, .int v1), (2, .int v2), (3, .int v3), (4, .int v4), (5, .int v5), (6, .int v6)] dX2_placeAt_86 (by decide) rfl (n := 88) rfl ?_
  refine x_iload 6 dX2_placeAt_88 rfl (n := 90) rfl ?_
  refine x_iload 0 dX2_placeAt_90 rfl (n := 92) rfl ?_
  refine x_bipush (-2) dX2_placeAt_92 rfl (n := 94) rfl ?_
  refine tw_icmp_eq dX2_placeAt_94 (t := 108) (by decide) (n := 97) rfl ?_ ?_
  · refine x_sub [1, 2, 3, 4, 5, 7] [(0, .ref E.2.1), (1, .int v1), (2, .int v2), (3, .int v3), (4, .int v4), (6, .int v6)] rfl ?_
    exact T_placeAt_108_ok hO hE hk27 v1 v2 v3 v4 v6 v5 s0
  · refine x_iload 0 dX2_placeAt_97 rfl (n := 99) rfl ?_
    refine x_iload 5 dX2_placeAt_99 rfl (n := 101) rfl ?_
    refine tw_icmp_ge dX2_placeAt_101 (t := 108) (by decide) (n := 104) rfl ?_ ?_
    · refine x_sub [1, 2, 3, 4, 5, 7] [(0, .ref E.2.1), (1, .int v1), (2, .int v2), (3, .int v3), (4, .int v4), (6, .int v6)] rfl ?_
      exact T_placeAt_108_ok hO hE hk27 v1 v2 v3 v4 v6 v5 s0
    · refine x_iconst 1 dX2_placeAt_104 rfl (n := 105) rfl ?_
      refine x_goto dX2_placeAt_105 (n := 109) (by decide) ?_
      refine x_sub [1, 2, 3, 4, 5, 7] [(0, .ref E.2.1), (1, .int v1), (2, .int v2), (3, .int v3), (4, .int v4), (6, .int v6)] rfl ?_
      exact T_placeAt_109_ok hO hE hk27 v1 v2 v3 v4 v6 v5 1 s0
theorem T_placeAt_27F_ok {G : xG} {E : TE} (hO : xOK G) (hE : tok E)   {k27 : Int32 × Int32 × Int32 × Int32 × Int32 × Int32 × TS → Option (xO × TS)} (hk27 : ∀ (v1 : Int32) (v2 : Int32) (v3 : Int32) (v4 : Int32) (v5 : Int32) (v6 : Int32) (s0 : TS), XT G E "ForestLegsModel" "placeAt" cX2_placeAt 8 (Option.some Jvm.ClassFile.FieldType.int) 5 27 [(0, .ref E.2.1), (1, .int v1), (2, .int v2), (3, .int v3), (4, .int v4), (5, .int v5), (6, .int v6)] [] s0 (k27 (v1, v2, v3, v4, v5, v6, s0))) (v1 : Int32) (v2 : Int32) (v3 : Int32) (v4 : Int32) (v5 : Int32) (v6 : Int32) (s0 : TS) : XT G E "ForestLegsModel" "placeAt" cX2_placeAt 8 (Option.some Jvm.ClassFile.FieldType.int) 5 27 [(0, .ref E.2.1), (1, .int v1), (2, .int v2), (3, .int v3), (4, .int v4), (5, .int v5), (6, .int v6)] [] s0 (T_placeAt_27F k27 (v1, v2, v3, v4, v5, v6, s0)) := by
  unfold T_placeAt_27F
  refine x_iload 6 dX2_placeAt_27 rfl (n := 29) rfl ?_
  refine x_aload_nr 0 dX2_placeAt_29 rfl rfl (n := 30) rfl ?_
  refine tw_getA fl_X2_17 rfl (by decide) dX2_placeAt_30 (n := 33) rfl ?_
  refine x_iconst 1 dX2_placeAt_33 rfl (n := 34) rfl ?_
  refine tw_iald hE (by decide) dX2_placeAt_34 (n := 35) rfl (fun x3 => ?_)
  refine tw_icmp_ge dX2_placeAt_35 (t := 118) (by decide) (n := 38) rfl ?_ ?_
  · refine x_iload 5 dX2_placeAt_118 rfl (n := 120) rfl ?_
    exact tw_ireturn dX2_placeAt_120
  · refine x_aload_nr 0 dX2_placeAt_38 rfl rfl (n := 39) rfl ?_
    refine tw_getA fl_X2_17 rfl (by decide) dX2_placeAt_39 (n := 42) rfl ?_
    refine x_bipush 37 dX2_placeAt_42 rfl (n := 44) rfl ?_
    refine x_iload 6 dX2_placeAt_44 rfl (n := 46) rfl ?_
    refine x_iadd dX2_placeAt_46 (n := 47) rfl ?_
    refine tw_iald hE (by decide) dX2_placeAt_47 (n := 48) rfl (fun x4 => ?_)
    refine x_aload_nr 0 dX2_placeAt_48 rfl rfl (n := 49) rfl ?_
    refine tw_getA fl_X2_17 rfl (by decide) dX2_placeAt_49 (n := 52) rfl ?_
    refine x_bipush 37 dX2_placeAt_52 rfl (n := 54) rfl ?_
    refine x_iload_n 1 dX2_placeAt_54 rfl rfl (n := 55) rfl ?_
    refine x_iadd dX2_placeAt_55 (n := 56) rfl ?_
    refine tw_iald hE (by decide) dX2_placeAt_56 (n := 57) rfl (fun x5 => ?_)
    refine tw_icmp_eq dX2_placeAt_57 (t := 65) (by decide) (n := 60) rfl ?_ ?_
    · refine x_iload_n 3 dX2_placeAt_65 rfl rfl (n := 66) rfl ?_
      refine tw_if_eq dX2_placeAt_66 (t := 79) (by decide) (n := 69) rfl ?_ ?_
      · refine x_aload_nr 0 dX2_placeAt_79 rfl rfl (n := 80) rfl ?_
        refine x_iload 6 dX2_placeAt_80 rfl (n := 82) rfl ?_
        refine x_iload_n 2 dX2_placeAt_82 rfl rfl (n := 83) rfl ?_
        refine tw_callV_I [.int v6, .int v2] [] (T_splitOf_ok hO hE s0 v6 v2) md_X2_splitOf q3191 q3193 qs95 dX2_placeAt_83 rfl rfl (by decide) (Nat.le_of_ble_eq_true rfl) (n := 86) rfl (fun x7 s6 => ?_)
        exact T_placeAt_86_ok hO hE hk27 v1 v2 v3 v4 v5 v6 x7 s6
      · refine x_aload_nr 0 dX2_placeAt_69 rfl rfl (n := 70) rfl ?_
        refine x_iload 6 dX2_placeAt_70 rfl (n := 72) rfl ?_
        refine x_iload_n 2 dX2_placeAt_72 rfl rfl (n := 73) rfl ?_
        refine tw_callV_I [.int v6, .int v2] [] (T_legOf_ok hO hE s0 v6 v2) md_X2_legOf q3179 q3181 qs92 dX2_placeAt_73 rfl rfl (by decide) (Nat.le_of_ble_eq_true rfl) (n := 76) rfl (fun x11 s10 => ?_)
        refine x_goto dX2_placeAt_76 (n := 86) (by decide) ?_
        exact T_placeAt_86_ok hO hE hk27 v1 v2 v3 v4 v5 v6 x11 s10
    · refine x_bipush (-2) dX2_placeAt_60 rfl (n := 62) rfl ?_
      refine x_goto dX2_placeAt_62 (n := 86) (by decide) ?_
      exact T_placeAt_86_ok hO hE hk27 v1 v2 v3 v4 v5 v6 (-2) s0
theorem T_placeAt_27_lp {G : xG} {E : TE} (hO : xOK G) (hE : tok E)   (n : Nat) (v1 : Int32) (v2 : Int32) (v3 : Int32) (v4 : Int32) (v5 : Int32) (v6 : Int32) (s0 : TS) : XT G E "ForestLegsModel" "placeAt" cX2_placeAt 8 (Option.some Jvm.ClassFile.FieldType.int) 5 27 [(0, .ref E.2.1), (1, .int v1), (2, .int v2), (3, .int v3), (4, .int v4), (5, .int v5), (6, .int v6)] [] s0 (lp (T_placeAt_27F) n (v1, v2, v3, v4, v5, v6, s0)) :=
  lp_ok (W := fun p K => XT G E "ForestLegsModel" "placeAt" cX2_placeAt 8 (Option.some Jvm.ClassFile.FieldType.int) 5 27 [(0, .ref E.2.1), (1, .int p.1), (2, .int p.2.1), (3, .int p.2.2.1), (4, .int p.2.2.2.1), (5, .int p.2.2.2.2.1), (6, .int p.2.2.2.2.2.1)] [] p.2.2.2.2.2.2 K) (fun _ => tw_no) (fun k hk => fun (v1, v2, v3, v4, v5, v6, s0) => T_placeAt_27F_ok hO hE (fun v1 v2 v3 v4 v5 v6 s0 => hk (v1, v2, v3, v4, v5, v6, s0)) v1 v2 v3 v4 v5 v6 s0) n (v1, v2, v3, v4, v5, v6, s0)
theorem T_placeAt_19_ok {G : xG} {E : TE} (hO : xOK G) (hE : tok E)   (v1 : Int32) (v2 : Int32) (v3 : Int32) (w0 : Int32) (s0 : TS) : XT G E "ForestLegsModel" "placeAt" cX2_placeAt 8 (Option.some Jvm.ClassFile.FieldType.int) 5 19 [(0, .ref E.2.1), (1, .int v1), (2, .int v2), (3, .int v3)] [.int w0] s0 (T_placeAt_19 v1 v2 v3 w0 s0) := by
  unfold T_placeAt_19
  refine x_istore [(4, .int w0), (0, .ref E.2.1), (1, .int v1), (2, .int v2), (3, .int v3)] dX2_placeAt_19 (by decide) rfl (n := 21) rfl ?_
  refine x_iconst 1 dX2_placeAt_21 rfl (n := 22) rfl ?_
  refine x_istore [(5, .int 1), (4, .int w0), (0, .ref E.2.1), (1, .int v1), (2, .int v2), (3, .int v3)] dX2_placeAt_22 (by decide) rfl (n := 24) rfl ?_
  refine x_iconst 0 dX2_placeAt_24 rfl (n := 25) rfl ?_
  refine x_istore [(6, .int 0), (5, .int 1), (4, .int w0), (0, .ref E.2.1), (1, .int v1), (2, .int v2), (3, .int v3)] dX2_placeAt_25 (by decide) rfl (n := 27) rfl ?_
  refine x_sub [3, 4, 5, 6, 2, 1, 0] [(0, .ref E.2.1), (1, .int v1), (2, .int v2), (3, .int v3), (4, .int w0), (5, .int 1), (6, .int 0)] rfl ?_
  exact T_placeAt_27_lp hO hE FU v1 v2 v3 w0 1 0 s0
theorem T_placeAt_ok {G : xG} {E : TE} (hO : xOK G) (hE : tok E) (s0 : TS) (a1 : Int32) (a2 : Int32) (a3 : Int32) : CTT G E 5 yX2_placeAt cX2_placeAt 8 (Option.some Jvm.ClassFile.FieldType.int) [.ref E.2.1, .int a1, .int a2, .int a3] s0 (T_placeAt s0 a1 a2 a3) := by
  refine CT_of hO (by decide +kernel) (by decide +kernel) (Nat.le_of_ble_eq_true rfl) ?_
  show XT G E "ForestLegsModel" "placeAt" cX2_placeAt 8 (Option.some Jvm.ClassFile.FieldType.int) 5 0 [(0, .ref E.2.1), (1, .int a1), (2, .int a2), (3, .int a3)] [] s0 (T_placeAt s0 a1 a2 a3)
  refine x_iload_n 3 dX2_placeAt_0 rfl rfl (n := 1) rfl ?_
  refine tw_if_eq dX2_placeAt_1 (t := 13) (by decide) (n := 4) rfl ?_ ?_
  · refine x_aload_nr 0 dX2_placeAt_13 rfl rfl (n := 14) rfl ?_
    refine x_iload_n 1 dX2_placeAt_14 rfl rfl (n := 15) rfl ?_
    refine x_iload_n 2 dX2_placeAt_15 rfl rfl (n := 16) rfl ?_
    refine tw_callV_I [.int a1, .int a2] [] (T_splitOf_ok hO hE s0 a1 a2) md_X2_splitOf q3191 q3193 qs95 dX2_placeAt_16 rfl rfl (by decide) (Nat.le_of_ble_eq_true rfl) (n := 19) rfl (fun x2 s1 => ?_)
    exact T_placeAt_19_ok hO hE a1 a2 a3 x2 s1
  · refine x_aload_nr 0 dX2_placeAt_4 rfl rfl (n := 5) rfl ?_
    refine x_iload_n 1 dX2_placeAt_5 rfl rfl (n := 6) rfl ?_
    refine x_iload_n 2 dX2_placeAt_6 rfl rfl (n := 7) rfl ?_
    refine tw_callV_I [.int a1, .int a2] [] (T_legOf_ok hO hE s0 a1 a2) md_X2_legOf q3179 q3181 qs92 dX2_placeAt_7 rfl rfl (by decide) (Nat.le_of_ble_eq_true rfl) (n := 10) rfl (fun x13 s12 => ?_)
    refine x_goto dX2_placeAt_10 (n := 19) (by decide) ?_
    exact T_placeAt_19_ok hO hE a1 a2 a3 x13 s12
abbrev cX2_split : ByteArray := prog_14_method_63_code
def yX2_split : MethodName := ⟨RX2, "split", "(III)I"⟩
def dkwX2_split_4 : List UInt8 := [182, 0, 224, 100, 172]
abbrev dktX2_split_4 : List UInt8 := dkwX2_split_4 ++ []
def dkwX2_split_3 : List UInt8 := [167, 0, 26, 21, 4, 42, 42, 42, 180, 0, 17, 16, 37, 27, 96, 46, 28, 3, 182, 0, 227, 28]
abbrev dktX2_split_3 : List UInt8 := dkwX2_split_3 ++ dktX2_split_4
def dkwX2_split_2 : List UInt8 := [159, 0, 7, 29, 154, 0, 6, 21, 4, 172, 29, 4, 160, 0, 13, 42, 27, 28, 3, 182, 1, 8]
abbrev dktX2_split_2 : List UInt8 := dkwX2_split_2 ++ dktX2_split_3
def dkwX2_split_1 : List UInt8 := [184, 0, 234, 182, 0, 161, 153, 0, 5, 2, 172, 42, 27, 28, 182, 0, 224, 54, 4, 21, 4, 16, 254]
abbrev dktX2_split_1 : List UInt8 := dkwX2_split_1 ++ dktX2_split_2
def dkwX2_split_0 : List UInt8 := [42, 42, 27, 28, 182, 1, 5, 153, 0, 16, 29, 3, 5, 184, 0, 79, 153, 0, 7, 4, 167, 0, 4, 3]
abbrev dktX2_split_0 : List UInt8 := dkwX2_split_0 ++ dktX2_split_1
theorem dksX2_split_0 : cX2_split.data.toList.drop 0 = dktX2_split_0 := by decide +kernel
theorem dksX2_split_1 : cX2_split.data.toList.drop 24 = dktX2_split_1 := dk_seg dksX2_split_0 24 rfl rfl
theorem dksX2_split_2 : cX2_split.data.toList.drop 47 = dktX2_split_2 := dk_seg dksX2_split_1 23 rfl rfl
theorem dksX2_split_3 : cX2_split.data.toList.drop 69 = dktX2_split_3 := dk_seg dksX2_split_2 22 rfl rfl
theorem dksX2_split_4 : cX2_split.data.toList.drop 91 = dktX2_split_4 := dk_seg dksX2_split_3 22 rfl rfl
theorem dX2_split_0 : decode cX2_split 0 = .ok (.aload_n 0, 1) := dk_42 (dk_at dksX2_split_0 0 rfl rfl)
theorem dX2_split_1 : decode cX2_split 1 = .ok (.aload_n 0, 1) := dk_42 (dk_at dksX2_split_0 1 rfl rfl)
theorem dX2_split_2 : decode cX2_split 2 = .ok (.iload_n 1, 1) := dk_27 (dk_at dksX2_split_0 2 rfl rfl)
theorem dX2_split_3 : decode cX2_split 3 = .ok (.iload_n 2, 1) := dk_28 (dk_at dksX2_split_0 3 rfl rfl)
theorem dX2_split_4 : decode cX2_split 4 = .ok (.invokevirtual 261, 3) := dk_182 1 5 (dk_at dksX2_split_0 4 rfl rfl)
theorem dX2_split_7 : decode cX2_split 7 = .ok (.ifCond .eq 16, 3) := dk_153 0 16 (dk_at dksX2_split_0 7 rfl rfl)
theorem dX2_split_10 : decode cX2_split 10 = .ok (.iload_n 3, 1) := dk_29 (dk_at dksX2_split_0 10 rfl rfl)
theorem dX2_split_11 : decode cX2_split 11 = .ok (.iconst 0, 1) := dk_3 (dk_at dksX2_split_0 11 rfl rfl)
theorem dX2_split_12 : decode cX2_split 12 = .ok (.iconst 2, 1) := dk_5 (dk_at dksX2_split_0 12 rfl rfl)
theorem dX2_split_13 : decode cX2_split 13 = .ok (.invokestatic 79, 3) := dk_184 0 79 (dk_at dksX2_split_0 13 rfl rfl)
theorem dX2_split_16 : decode cX2_split 16 = .ok (.ifCond .eq 7, 3) := dk_153 0 7 (dk_at dksX2_split_0 16 rfl rfl)
theorem dX2_split_19 : decode cX2_split 19 = .ok (.iconst 1, 1) := dk_4 (dk_at dksX2_split_0 19 rfl rfl)
theorem dX2_split_20 : decode cX2_split 20 = .ok (.goto 4, 3) := dk_167 0 4 (dk_at dksX2_split_0 20 rfl rfl)
theorem dX2_split_23 : decode cX2_split 23 = .ok (.iconst 0, 1) := dk_3 (dk_at dksX2_split_0 23 rfl rfl)
theorem dX2_split_24 : decode cX2_split 24 = .ok (.invokestatic 234, 3) := dk_184 0 234 (dk_at dksX2_split_1 0 rfl rfl)
theorem dX2_split_27 : decode cX2_split 27 = .ok (.invokevirtual 161, 3) := dk_182 0 161 (dk_at dksX2_split_1 3 rfl rfl)
theorem dX2_split_30 : decode cX2_split 30 = .ok (.ifCond .eq 5, 3) := dk_153 0 5 (dk_at dksX2_split_1 6 rfl rfl)
theorem dX2_split_33 : decode cX2_split 33 = .ok (.iconst (-1), 1) := dk_2 (dk_at dksX2_split_1 9 rfl rfl)
theorem dX2_split_34 : decode cX2_split 34 = .ok (.ireturn, 1) := dk_172 (dk_at dksX2_split_1 10 rfl rfl)
theorem dX2_split_35 : decode cX2_split 35 = .ok (.aload_n 0, 1) := dk_42 (dk_at dksX2_split_1 11 rfl rfl)
theorem dX2_split_36 : decode cX2_split 36 = .ok (.iload_n 1, 1) := dk_27 (dk_at dksX2_split_1 12 rfl rfl)
theorem dX2_split_37 : decode cX2_split 37 = .ok (.iload_n 2, 1) := dk_28 (dk_at dksX2_split_1 13 rfl rfl)
theorem dX2_split_38 : decode cX2_split 38 = .ok (.invokevirtual 224, 3) := dk_182 0 224 (dk_at dksX2_split_1 14 rfl rfl)
theorem dX2_split_41 : decode cX2_split 41 = .ok (.istore 4, 2) := dk_54 4 (dk_at dksX2_split_1 17 rfl rfl)
theorem dX2_split_43 : decode cX2_split 43 = .ok (.iload 4, 2) := dk_21 4 (dk_at dksX2_split_1 19 rfl rfl)
theorem dX2_split_45 : decode cX2_split 45 = .ok (.bipush (-2), 2) := dk_16 254 (dk_at dksX2_split_1 21 rfl rfl)
theorem dX2_split_47 : decode cX2_split 47 = .ok (.if_icmp .eq 7, 3) := dk_159 0 7 (dk_at dksX2_split_2 0 rfl rfl)
theorem dX2_split_50 : decode cX2_split 50 = .ok (.iload_n 3, 1) := dk_29 (dk_at dksX2_split_2 3 rfl rfl)
theorem dX2_split_51 : decode cX2_split 51 = .ok (.ifCond .ne 6, 3) := dk_154 0 6 (dk_at dksX2_split_2 4 rfl rfl)
theorem dX2_split_54 : decode cX2_split 54 = .ok (.iload 4, 2) := dk_21 4 (dk_at dksX2_split_2 7 rfl rfl)
theorem dX2_split_56 : decode cX2_split 56 = .ok (.ireturn, 1) := dk_172 (dk_at dksX2_split_2 9 rfl rfl)
theorem dX2_split_57 : decode cX2_split 57 = .ok (.iload_n 3, 1) := dk_29 (dk_at dksX2_split_2 10 rfl rfl)
theorem dX2_split_58 : decode cX2_split 58 = .ok (.iconst 1, 1) := dk_4 (dk_at dksX2_split_2 11 rfl rfl)
theorem dX2_split_59 : decode cX2_split 59 = .ok (.if_icmp .ne 13, 3) := dk_160 0 13 (dk_at dksX2_split_2 12 rfl rfl)
theorem dX2_split_62 : decode cX2_split 62 = .ok (.aload_n 0, 1) := dk_42 (dk_at dksX2_split_2 15 rfl rfl)
theorem dX2_split_63 : decode cX2_split 63 = .ok (.iload_n 1, 1) := dk_27 (dk_at dksX2_split_2 16 rfl rfl)
theorem dX2_split_64 : decode cX2_split 64 = .ok (.iload_n 2, 1) := dk_28 (dk_at dksX2_split_2 17 rfl rfl)
theorem dX2_split_65 : decode cX2_split 65 = .ok (.iconst 0, 1) := dk_3 (dk_at dksX2_split_2 18 rfl rfl)
theorem dX2_split_66 : decode cX2_split 66 = .ok (.invokevirtual 264, 3) := dk_182 1 8 (dk_at dksX2_split_2 19 rfl rfl)
theorem dX2_split_69 : decode cX2_split 69 = .ok (.goto 26, 3) := dk_167 0 26 (dk_at dksX2_split_3 0 rfl rfl)
theorem dX2_split_72 : decode cX2_split 72 = .ok (.iload 4, 2) := dk_21 4 (dk_at dksX2_split_3 3 rfl rfl)
theorem dX2_split_74 : decode cX2_split 74 = .ok (.aload_n 0, 1) := dk_42 (dk_at dksX2_split_3 5 rfl rfl)
theorem dX2_split_75 : decode cX2_split 75 = .ok (.aload_n 0, 1) := dk_42 (dk_at dksX2_split_3 6 rfl rfl)
theorem dX2_split_76 : decode cX2_split 76 = .ok (.aload_n 0, 1) := dk_42 (dk_at dksX2_split_3 7 rfl rfl)
theorem dX2_split_77 : decode cX2_split 77 = .ok (.getfield 17, 3) := dk_180 0 17 (dk_at dksX2_split_3 8 rfl rfl)
theorem dX2_split_80 : decode cX2_split 80 = .ok (.bipush 37, 2) := dk_16 37 (dk_at dksX2_split_3 11 rfl rfl)
theorem dX2_split_82 : decode cX2_split 82 = .ok (.iload_n 1, 1) := dk_27 (dk_at dksX2_split_3 13 rfl rfl)
theorem dX2_split_83 : decode cX2_split 83 = .ok (.iadd, 1) := dk_96 (dk_at dksX2_split_3 14 rfl rfl)
theorem dX2_split_84 : decode cX2_split 84 = .ok (.iaload, 1) := dk_46 (dk_at dksX2_split_3 15 rfl rfl)
theorem dX2_split_85 : decode cX2_split 85 = .ok (.iload_n 2, 1) := dk_28 (dk_at dksX2_split_3 16 rfl rfl)
theorem dX2_split_86 : decode cX2_split 86 = .ok (.iconst 0, 1) := dk_3 (dk_at dksX2_split_3 17 rfl rfl)
theorem dX2_split_87 : decode cX2_split 87 = .ok (.invokevirtual 227, 3) := dk_182 0 227 (dk_at dksX2_split_3 18 rfl rfl)
theorem dX2_split_90 : decode cX2_split 90 = .ok (.iload_n 2, 1) := dk_28 (dk_at dksX2_split_3 21 rfl rfl)
theorem dX2_split_91 : decode cX2_split 91 = .ok (.invokevirtual 224, 3) := dk_182 0 224 (dk_at dksX2_split_4 0 rfl rfl)
theorem dX2_split_94 : decode cX2_split 94 = .ok (.isub, 1) := dk_100 (dk_at dksX2_split_4 3 rfl rfl)
theorem dX2_split_95 : decode cX2_split 95 = .ok (.ireturn, 1) := dk_172 (dk_at dksX2_split_4 4 rfl rfl)
theorem md_X2_split : xMd yX2_split cX2_split 5 (Option.some Jvm.ClassFile.FieldType.int) 3 := ⟨q3246, q126, by decide, by decide +kernel, by decide +kernel, by decide +kernel⟩
def T_split_24   (v1 : Int32) (v2 : Int32) (v3 : Int32) (w1 : Int32) (s0 : TS) : Option (xO × TS) :=
  (xcI (T_unless_2 s0 w1) fun x4 s3 =>
  (xcI (T_isRefused s3 x4) fun x6 s5 =>
  (if x6 = 0 then
  (xcI (T_splitOf s5 v1 v2) fun x8 s7 =>
  (if x8 = (-2) then
  (rI x8 s7) else
  (if v3 = 0 then
  (rI x8 s7) else
  (if v3 = 1 then
  (xcI (T_placeAt s7 v1 v2 0) fun x15 s14 =>
  (rI x15 s14)) else
  (tald s7 7 (37 + v1) fun x9 =>
  (xcI (T_bestRunner s7 x9 v2 0) fun x11 s10 =>
  (xcI (T_splitOf s10 x11 v2) fun x13 s12 =>
  (rI (x8 - x13) s12)))))))) else
  (rI (-1) s5))))
def T_split_23   (v1 : Int32) (v2 : Int32) (v3 : Int32) (s0 : TS) : Option (xO × TS) :=
  (T_split_24 v1 v2 v3 0 s0)
def T_split (s0 : TS) (a1 : Int32) (a2 : Int32) (a3 : Int32) : Option (xO × TS) :=
  (xcI (T_isOwnPoint s0 a1 a2) fun x2 s1 =>
  (if x2 = 0 then
  (T_split_23 a1 a2 a3 s1) else
  (xcI (T_in s1 a3 0 2) fun x17 s16 =>
  (if x17 = 0 then
  (T_split_23 a1 a2 a3 s16) else
  (T_split_24 a1 a2 a3 1 s16)))))
theorem T_split_24_ok {G : xG} {E : TE} (hO : xOK G) (hE : tok E)   (v1 : Int32) (v2 : Int32) (v3 : Int32) (w1 : Int32) (s0 : TS) : XT G E "ForestLegsModel" "split" cX2_split 5 (Option.some Jvm.ClassFile.FieldType.int) 6 24 [(0, .ref E.2.1), (1, .int v1), (2, .int v2), (3, .int v3)] [.int w1, .ref E.2.1] s0 (T_split_24 v1 v2 v3 w1 s0) := by
  unfold T_split_24
  refine tw_callS_I [.int w1] [.ref E.2.1] (T_unless_2_ok hO hE s0 w1) md_X2_unless_2 q3121 q3122 dX2_split_24 rfl rfl (by decide) (Nat.le_of_ble_eq_true rfl) (n := 27) rfl (fun x4 s3 => ?_)
  refine tw_callV_I [.int x4] [] (T_isRefused_ok hO hE s3 x4) md_X2_isRefused q3022 q3024 qs63 dX2_split_27 rfl rfl (by decide) (Nat.le_of_ble_eq_true rfl) (n := 30) rfl (fun x6 s5 => ?_)
  refine tw_if_eq dX2_split_30 (t := 35) (by decide) (n := 33) rfl ?_ ?_
  · refine x_aload_nr 0 dX2_split_35 rfl rfl (n := 36) rfl ?_
    refine x_iload_n 1 dX2_split_36 rfl rfl (n := 37) rfl ?_
    refine x_iload_n 2 dX2_split_37 rfl rfl (n := 38) rfl ?_
    refine tw_callV_I [.int v1, .int v2] [] (T_splitOf_ok hO hE s5 v1 v2) md_X2_splitOf q3191 q3193 qs95 dX2_split_38 rfl rfl (by decide) (Nat.le_of_ble_eq_true rfl) (n := 41) rfl (fun x8 s7 => ?_)
    refine x_istore [(4, .int x8), (0, .ref E.2.1), (1, .int v1), (2, .int v2), (3, .int v3)] dX2_split_41 (by decide) rfl (n := 43) rfl ?_
    refine x_iload 0 dX2_split_43 rfl (n := 45) rfl ?_
    refine x_bipush (-2) dX2_split_45 rfl (n := 47) rfl ?_
    refine tw_icmp_eq dX2_split_47 (t := 54) (by decide) (n := 50) rfl ?_ ?_
    · refine x_iload 0 dX2_split_54 rfl (n := 56) rfl ?_
      exact tw_ireturn dX2_split_56
    · refine x_iload_n 4 dX2_split_50 rfl rfl (n := 51) rfl ?_
      refine tw_if_ne dX2_split_51 (t := 57) (by decide) (n := 54) rfl ?_ ?_
      · refine x_iload_n 4 dX2_split_57 rfl rfl (n := 58) rfl ?_
        refine x_iconst 1 dX2_split_58 rfl (n := 59) rfl ?_
        refine tw_icmp_ne dX2_split_59 (t := 72) (by decide) (n := 62) rfl ?_ ?_
        · refine x_iload 0 dX2_split_72 rfl (n := 74) rfl ?_
          refine x_aload_nr 1 dX2_split_74 rfl rfl (n := 75) rfl ?_
          refine x_aload_nr 1 dX2_split_75 rfl rfl (n := 76) rfl ?_
          refine x_aload_nr 1 dX2_split_76 rfl rfl (n := 77) rfl ?_
          refine tw_getA fl_X2_17 rfl (by decide) dX2_split_77 (n := 80) rfl ?_
          refine x_bipush 37 dX2_split_80 rfl (n := 82) rfl ?_
          refine x_iload_n 2 dX2_split_82 rfl rfl (n := 83) rfl ?_
          refine x_iadd dX2_split_83 (n := 84) rfl ?_
          refine tw_iald hE (by decide) dX2_split_84 (n := 85) rfl (fun x9 => ?_)
          refine x_iload_n 3 dX2_split_85 rfl rfl (n := 86) rfl ?_
          refine x_iconst 0 dX2_split_86 rfl (n := 87) rfl ?_
          refine tw_callV_I [.int x9, .int v2, .int 0] [.ref E.2.1, .int x8] (T_bestRunner_ok hO hE s7 x9 v2 0) md_X2_bestRunner q3175 q3177 qs91 dX2_split_87 rfl rfl (by decide) (Nat.le_of_ble_eq_true rfl) (n := 90) rfl (fun x11 s10 => ?_)
          refine x_iload_n 3 dX2_split_90 rfl rfl (n := 91) rfl ?_
          refine tw_callV_I [.int x11, .int v2] [.int x8] (T_splitOf_ok hO hE s10 x11 v2) md_X2_splitOf q3191 q3193 qs95 dX2_split_91 rfl rfl (by decide) (Nat.le_of_ble_eq_true rfl) (n := 94) rfl (fun x13 s12 => ?_)
          refine x_isub dX2_split_94 (n := 95) rfl ?_
          exact tw_ireturn dX2_split_95
        · refine x_aload_nr 1 dX2_split_62 rfl rfl (n := 63) rfl ?_
          refine x_iload_n 2 dX2_split_63 rfl rfl (n := 64) rfl ?_
          refine x_iload_n 3 dX2_split_64 rfl rfl (n := 65) rfl ?_
          refine x_iconst 0 dX2_split_65 rfl (n := 66) rfl ?_
          refine tw_callV_I [.int v1, .int v2, .int 0] [] (T_placeAt_ok hO hE s7 v1 v2 0) md_X2_placeAt q3255 q3257 qs104 dX2_split_66 rfl rfl (by decide) (Nat.le_of_ble_eq_true rfl) (n := 69) rfl (fun x15 s14 => ?_)
          refine x_goto dX2_split_69 (n := 95) (by decide) ?_
          exact tw_ireturn dX2_split_95
      · refine x_iload 0 dX2_split_54 rfl (n := 56) rfl ?_
        exact tw_ireturn dX2_split_56
  · refine x_iconst (-1) dX2_split_33 rfl (n := 34) rfl ?_
    exact tw_ireturn dX2_split_34
theorem T_split_23_ok {G : xG} {E : TE} (hO : xOK G) (hE : tok E)   (v1 : Int32) (v2 : Int32) (v3 : Int32) (s0 : TS) : XT G E "ForestLegsModel" "split" cX2_split 5 (Option.some Jvm.ClassFile.FieldType.int) 6 23 [(0, .ref E.2.1), (1, .int v1), (2, .int v2), (3, .int v3)] [.ref E.2.1] s0 (T_split_23 v1 v2 v3 s0) := by
  unfold T_split_23
  refine x_iconst 0 dX2_split_23 rfl (n := 24) rfl ?_
  exact T_split_24_ok hO hE v1 v2 v3 0 s0
theorem T_split_ok {G : xG} {E : TE} (hO : xOK G) (hE : tok E) (s0 : TS) (a1 : Int32) (a2 : Int32) (a3 : Int32) : CTT G E 6 yX2_split cX2_split 5 (Option.some Jvm.ClassFile.FieldType.int) [.ref E.2.1, .int a1, .int a2, .int a3] s0 (T_split s0 a1 a2 a3) := by
  refine CT_of hO (by decide +kernel) (by decide +kernel) (Nat.le_of_ble_eq_true rfl) ?_
  show XT G E "ForestLegsModel" "split" cX2_split 5 (Option.some Jvm.ClassFile.FieldType.int) 6 0 [(0, .ref E.2.1), (1, .int a1), (2, .int a2), (3, .int a3)] [] s0 (T_split s0 a1 a2 a3)
  refine x_aload_nr 0 dX2_split_0 rfl rfl (n := 1) rfl ?_
  refine x_aload_nr 0 dX2_split_1 rfl rfl (n := 2) rfl ?_
  refine x_iload_n 1 dX2_split_2 rfl rfl (n := 3) rfl ?_
  refine x_iload_n 2 dX2_split_3 rfl rfl (n := 4) rfl ?_
  refine tw_callV_I [.int a1, .int a2] [.ref E.2.1] (T_isOwnPoint_ok hO hE s0 a1 a2) md_X2_isOwnPoint q3247 q3249 qs102 dX2_split_4 rfl rfl (by decide) (Nat.le_of_ble_eq_true rfl) (n := 7) rfl (fun x2 s1 => ?_)
  refine tw_if_eq dX2_split_7 (t := 23) (by decide) (n := 10) rfl ?_ ?_
  · exact T_split_23_ok hO hE a1 a2 a3 s1
  · refine x_iload_n 3 dX2_split_10 rfl rfl (n := 11) rfl ?_
    refine x_iconst 0 dX2_split_11 rfl (n := 12) rfl ?_
    refine x_iconst 2 dX2_split_12 rfl (n := 13) rfl ?_
    refine tw_callS_I [.int a3, .int 0, .int 2] [.ref E.2.1] (T_in_ok hO hE s1 a3 0 2) md_X2_in q3016 q3017 dX2_split_13 rfl rfl (by decide) (Nat.le_of_ble_eq_true rfl) (n := 16) rfl (fun x17 s16 => ?_)
    refine tw_if_eq dX2_split_16 (t := 23) (by decide) (n := 19) rfl ?_ ?_
    · exact T_split_23_ok hO hE a1 a2 a3 s16
    · refine x_iconst 1 dX2_split_19 rfl (n := 20) rfl ?_
      refine x_goto dX2_split_20 (n := 24) (by decide) ?_
      exact T_split_24_ok hO hE a1 a2 a3 1 s16
abbrev cX2_paces : ByteArray := prog_14_method_64_code
def yX2_paces : MethodName := ⟨RX2, "paces", "(I)Z"⟩
def dkwX2_paces_8 : List UInt8 := [29, 4, 100, 5, 108, 46, 181, 1, 14, 4, 172]
abbrev dktX2_paces_8 : List UInt8 := dkwX2_paces_8 ++ []
def dkwX2_paces_7 : List UInt8 := [154, 0, 5, 3, 172, 42, 42, 180, 0, 35, 29, 4, 100, 5, 108, 46, 181, 1, 11, 42, 42, 180, 0, 38]
abbrev dktX2_paces_7 : List UInt8 := dkwX2_paces_7 ++ dktX2_paces_8
def dkwX2_paces_6 : List UInt8 := [21, 5, 79, 42, 180, 0, 38, 21, 7, 21, 6, 79, 132, 3, 1, 132, 4, 1, 167, 255, 112, 29]
abbrev dktX2_paces_6 : List UInt8 := dkwX2_paces_6 ++ dktX2_paces_7
def dkwX2_paces_5 : List UInt8 := [21, 7, 42, 180, 0, 38, 21, 7, 4, 100, 46, 79, 132, 7, 255, 167, 255, 189, 42, 180, 0, 35, 21, 7]
abbrev dktX2_paces_5 : List UInt8 := dkwX2_paces_5 ++ dktX2_paces_6
def dkwX2_paces_4 : List UInt8 := [162, 0, 41, 42, 180, 0, 35, 21, 7, 42, 180, 0, 35, 21, 7, 4, 100, 46, 79, 42, 180, 0, 38]
abbrev dktX2_paces_4 : List UInt8 := dkwX2_paces_4 ++ dktX2_paces_5
def dkwX2_paces_3 : List UInt8 := [42, 180, 0, 38, 21, 7, 4, 100, 46, 104, 42, 180, 0, 35, 21, 7, 4, 100, 46, 21, 6, 104]
abbrev dktX2_paces_3 : List UInt8 := dkwX2_paces_3 ++ dktX2_paces_4
def dkwX2_paces_2 : List UInt8 := [42, 28, 21, 4, 182, 0, 231, 54, 6, 21, 6, 158, 0, 97, 29, 54, 7, 21, 7, 158, 0, 68, 21, 5]
abbrev dktX2_paces_2 : List UInt8 := dkwX2_paces_2 ++ dktX2_paces_3
def dkwX2_paces_1 : List UInt8 := [46, 163, 0, 137, 42, 27, 21, 4, 182, 0, 221, 54, 5, 21, 5, 16, 254, 160, 0, 7, 3, 167, 0, 10]
abbrev dktX2_paces_1 : List UInt8 := dkwX2_paces_1 ++ dktX2_paces_2
def dkwX2_paces_0 : List UInt8 := [42, 180, 0, 17, 16, 37, 27, 96, 46, 61, 3, 62, 3, 54, 4, 21, 4, 42, 180, 0, 17, 7, 28, 96]
abbrev dktX2_paces_0 : List UInt8 := dkwX2_paces_0 ++ dktX2_paces_1
theorem dksX2_paces_0 : cX2_paces.data.toList.drop 0 = dktX2_paces_0 := by decide +kernel
theorem dksX2_paces_1 : cX2_paces.data.toList.drop 24 = dktX2_paces_1 := dk_seg dksX2_paces_0 24 rfl rfl
theorem dksX2_paces_2 : cX2_paces.data.toList.drop 48 = dktX2_paces_2 := dk_seg dksX2_paces_1 24 rfl rfl
theorem dksX2_paces_3 : cX2_paces.data.toList.drop 72 = dktX2_paces_3 := dk_seg dksX2_paces_2 24 rfl rfl
theorem dksX2_paces_4 : cX2_paces.data.toList.drop 94 = dktX2_paces_4 := dk_seg dksX2_paces_3 22 rfl rfl
theorem dksX2_paces_5 : cX2_paces.data.toList.drop 117 = dktX2_paces_5 := dk_seg dksX2_paces_4 23 rfl rfl
theorem dksX2_paces_6 : cX2_paces.data.toList.drop 141 = dktX2_paces_6 := dk_seg dksX2_paces_5 24 rfl rfl
theorem dksX2_paces_7 : cX2_paces.data.toList.drop 163 = dktX2_paces_7 := dk_seg dksX2_paces_6 22 rfl rfl
theorem dksX2_paces_8 : cX2_paces.data.toList.drop 187 = dktX2_paces_8 := dk_seg dksX2_paces_7 24 rfl rfl
theorem dX2_paces_0 : decode cX2_paces 0 = .ok (.aload_n 0, 1) := dk_42 (dk_at dksX2_paces_0 0 rfl rfl)
theorem dX2_paces_1 : decode cX2_paces 1 = .ok (.getfield 17, 3) := dk_180 0 17 (dk_at dksX2_paces_0 1 rfl rfl)
theorem dX2_paces_4 : decode cX2_paces 4 = .ok (.bipush 37, 2) := dk_16 37 (dk_at dksX2_paces_0 4 rfl rfl)
theorem dX2_paces_6 : decode cX2_paces 6 = .ok (.iload_n 1, 1) := dk_27 (dk_at dksX2_paces_0 6 rfl rfl)
theorem dX2_paces_7 : decode cX2_paces 7 = .ok (.iadd, 1) := dk_96 (dk_at dksX2_paces_0 7 rfl rfl)
theorem dX2_paces_8 : decode cX2_paces 8 = .ok (.iaload, 1) := dk_46 (dk_at dksX2_paces_0 8 rfl rfl)
theorem dX2_paces_9 : decode cX2_paces 9 = .ok (.istore_n 2, 1) := dk_61 (dk_at dksX2_paces_0 9 rfl rfl)
theorem dX2_paces_10 : decode cX2_paces 10 = .ok (.iconst 0, 1) := dk_3 (dk_at dksX2_paces_0 10 rfl rfl)
theorem dX2_paces_11 : decode cX2_paces 11 = .ok (.istore_n 3, 1) := dk_62 (dk_at dksX2_paces_0 11 rfl rfl)
theorem dX2_paces_12 : decode cX2_paces 12 = .ok (.iconst 0, 1) := dk_3 (dk_at dksX2_paces_0 12 rfl rfl)
theorem dX2_paces_13 : decode cX2_paces 13 = .ok (.istore 4, 2) := dk_54 4 (dk_at dksX2_paces_0 13 rfl rfl)
theorem dX2_paces_15 : decode cX2_paces 15 = .ok (.iload 4, 2) := dk_21 4 (dk_at dksX2_paces_0 15 rfl rfl)
theorem dX2_paces_17 : decode cX2_paces 17 = .ok (.aload_n 0, 1) := dk_42 (dk_at dksX2_paces_0 17 rfl rfl)
theorem dX2_paces_18 : decode cX2_paces 18 = .ok (.getfield 17, 3) := dk_180 0 17 (dk_at dksX2_paces_0 18 rfl rfl)
theorem dX2_paces_21 : decode cX2_paces 21 = .ok (.iconst 4, 1) := dk_7 (dk_at dksX2_paces_0 21 rfl rfl)
theorem dX2_paces_22 : decode cX2_paces 22 = .ok (.iload_n 2, 1) := dk_28 (dk_at dksX2_paces_0 22 rfl rfl)
theorem dX2_paces_23 : decode cX2_paces 23 = .ok (.iadd, 1) := dk_96 (dk_at dksX2_paces_0 23 rfl rfl)
theorem dX2_paces_24 : decode cX2_paces 24 = .ok (.iaload, 1) := dk_46 (dk_at dksX2_paces_1 0 rfl rfl)
theorem dX2_paces_25 : decode cX2_paces 25 = .ok (.if_icmp .gt 137, 3) := dk_163 0 137 (dk_at dksX2_paces_1 1 rfl rfl)
theorem dX2_paces_28 : decode cX2_paces 28 = .ok (.aload_n 0, 1) := dk_42 (dk_at dksX2_paces_1 4 rfl rfl)
theorem dX2_paces_29 : decode cX2_paces 29 = .ok (.iload_n 1, 1) := dk_27 (dk_at dksX2_paces_1 5 rfl rfl)
theorem dX2_paces_30 : decode cX2_paces 30 = .ok (.iload 4, 2) := dk_21 4 (dk_at dksX2_paces_1 6 rfl rfl)
theorem dX2_paces_32 : decode cX2_paces 32 = .ok (.invokevirtual 221, 3) := dk_182 0 221 (dk_at dksX2_paces_1 8 rfl rfl)
theorem dX2_paces_35 : decode cX2_paces 35 = .ok (.istore 5, 2) := dk_54 5 (dk_at dksX2_paces_1 11 rfl rfl)
theorem dX2_paces_37 : decode cX2_paces 37 = .ok (.iload 5, 2) := dk_21 5 (dk_at dksX2_paces_1 13 rfl rfl)
theorem dX2_paces_39 : decode cX2_paces 39 = .ok (.bipush (-2), 2) := dk_16 254 (dk_at dksX2_paces_1 15 rfl rfl)
theorem dX2_paces_41 : decode cX2_paces 41 = .ok (.if_icmp .ne 7, 3) := dk_160 0 7 (dk_at dksX2_paces_1 17 rfl rfl)
theorem dX2_paces_44 : decode cX2_paces 44 = .ok (.iconst 0, 1) := dk_3 (dk_at dksX2_paces_1 20 rfl rfl)
theorem dX2_paces_45 : decode cX2_paces 45 = .ok (.goto 10, 3) := dk_167 0 10 (dk_at dksX2_paces_1 21 rfl rfl)
theorem dX2_paces_48 : decode cX2_paces 48 = .ok (.aload_n 0, 1) := dk_42 (dk_at dksX2_paces_2 0 rfl rfl)
theorem dX2_paces_49 : decode cX2_paces 49 = .ok (.iload_n 2, 1) := dk_28 (dk_at dksX2_paces_2 1 rfl rfl)
theorem dX2_paces_50 : decode cX2_paces 50 = .ok (.iload 4, 2) := dk_21 4 (dk_at dksX2_paces_2 2 rfl rfl)
theorem dX2_paces_52 : decode cX2_paces 52 = .ok (.invokevirtual 231, 3) := dk_182 0 231 (dk_at dksX2_paces_2 4 rfl rfl)
theorem dX2_paces_55 : decode cX2_paces 55 = .ok (.istore 6, 2) := dk_54 6 (dk_at dksX2_paces_2 7 rfl rfl)
theorem dX2_paces_57 : decode cX2_paces 57 = .ok (.iload 6, 2) := dk_21 6 (dk_at dksX2_paces_2 9 rfl rfl)
theorem dX2_paces_59 : decode cX2_paces 59 = .ok (.ifCond .le 97, 3) := dk_158 0 97 (dk_at dksX2_paces_2 11 rfl rfl)
theorem dX2_paces_62 : decode cX2_paces 62 = .ok (.iload_n 3, 1) := dk_29 (dk_at dksX2_paces_2 14 rfl rfl)
theorem dX2_paces_63 : decode cX2_paces 63 = .ok (.istore 7, 2) := dk_54 7 (dk_at dksX2_paces_2 15 rfl rfl)
theorem dX2_paces_65 : decode cX2_paces 65 = .ok (.iload 7, 2) := dk_21 7 (dk_at dksX2_paces_2 17 rfl rfl)
theorem dX2_paces_67 : decode cX2_paces 67 = .ok (.ifCond .le 68, 3) := dk_158 0 68 (dk_at dksX2_paces_2 19 rfl rfl)
theorem dX2_paces_70 : decode cX2_paces 70 = .ok (.iload 5, 2) := dk_21 5 (dk_at dksX2_paces_2 22 rfl rfl)
theorem dX2_paces_72 : decode cX2_paces 72 = .ok (.aload_n 0, 1) := dk_42 (dk_at dksX2_paces_3 0 rfl rfl)
theorem dX2_paces_73 : decode cX2_paces 73 = .ok (.getfield 38, 3) := dk_180 0 38 (dk_at dksX2_paces_3 1 rfl rfl)
theorem dX2_paces_76 : decode cX2_paces 76 = .ok (.iload 7, 2) := dk_21 7 (dk_at dksX2_paces_3 4 rfl rfl)
theorem dX2_paces_78 : decode cX2_paces 78 = .ok (.iconst 1, 1) := dk_4 (dk_at dksX2_paces_3 6 rfl rfl)
theorem dX2_paces_79 : decode cX2_paces 79 = .ok (.isub, 1) := dk_100 (dk_at dksX2_paces_3 7 rfl rfl)
theorem dX2_paces_80 : decode cX2_paces 80 = .ok (.iaload, 1) := dk_46 (dk_at dksX2_paces_3 8 rfl rfl)
theorem dX2_paces_81 : decode cX2_paces 81 = .ok (.imul, 1) := dk_104 (dk_at dksX2_paces_3 9 rfl rfl)
theorem dX2_paces_82 : decode cX2_paces 82 = .ok (.aload_n 0, 1) := dk_42 (dk_at dksX2_paces_3 10 rfl rfl)
theorem dX2_paces_83 : decode cX2_paces 83 = .ok (.getfield 35, 3) := dk_180 0 35 (dk_at dksX2_paces_3 11 rfl rfl)
theorem dX2_paces_86 : decode cX2_paces 86 = .ok (.iload 7, 2) := dk_21 7 (dk_at dksX2_paces_3 14 rfl rfl)
theorem dX2_paces_88 : decode cX2_paces 88 = .ok (.iconst 1, 1) := dk_4 (dk_at dksX2_paces_3 16 rfl rfl)
theorem dX2_paces_89 : decode cX2_paces 89 = .ok (.isub, 1) := dk_100 (dk_at dksX2_paces_3 17 rfl rfl)
theorem dX2_paces_90 : decode cX2_paces 90 = .ok (.iaload, 1) := dk_46 (dk_at dksX2_paces_3 18 rfl rfl)
theorem dX2_paces_91 : decode cX2_paces 91 = .ok (.iload 6, 2) := dk_21 6 (dk_at dksX2_paces_3 19 rfl rfl)
theorem dX2_paces_93 : decode cX2_paces 93 = .ok (.imul, 1) := dk_104 (dk_at dksX2_paces_3 21 rfl rfl)
theorem dX2_paces_94 : decode cX2_paces 94 = .ok (.if_icmp .ge 41, 3) := dk_162 0 41 (dk_at dksX2_paces_4 0 rfl rfl)
theorem dX2_paces_97 : decode cX2_paces 97 = .ok (.aload_n 0, 1) := dk_42 (dk_at dksX2_paces_4 3 rfl rfl)
theorem dX2_paces_98 : decode cX2_paces 98 = .ok (.getfield 35, 3) := dk_180 0 35 (dk_at dksX2_paces_4 4 rfl rfl)
theorem dX2_paces_101 : decode cX2_paces 101 = .ok (.iload 7, 2) := dk_21 7 (dk_at dksX2_paces_4 7 rfl rfl)
theorem dX2_paces_103 : decode cX2_paces 103 = .ok (.aload_n 0, 1) := dk_42 (dk_at dksX2_paces_4 9 rfl rfl)
theorem dX2_paces_104 : decode cX2_paces 104 = .ok (.getfield 35, 3) := dk_180 0 35 (dk_at dksX2_paces_4 10 rfl rfl)
theorem dX2_paces_107 : decode cX2_paces 107 = .ok (.iload 7, 2) := dk_21 7 (dk_at dksX2_paces_4 13 rfl rfl)
theorem dX2_paces_109 : decode cX2_paces 109 = .ok (.iconst 1, 1) := dk_4 (dk_at dksX2_paces_4 15 rfl rfl)
theorem dX2_paces_110 : decode cX2_paces 110 = .ok (.isub, 1) := dk_100 (dk_at dksX2_paces_4 16 rfl rfl)
theorem dX2_paces_111 : decode cX2_paces 111 = .ok (.iaload, 1) := dk_46 (dk_at dksX2_paces_4 17 rfl rfl)
theorem dX2_paces_112 : decode cX2_paces 112 = .ok (.iastore, 1) := dk_79 (dk_at dksX2_paces_4 18 rfl rfl)
theorem dX2_paces_113 : decode cX2_paces 113 = .ok (.aload_n 0, 1) := dk_42 (dk_at dksX2_paces_4 19 rfl rfl)
theorem dX2_paces_114 : decode cX2_paces 114 = .ok (.getfield 38, 3) := dk_180 0 38 (dk_at dksX2_paces_4 20 rfl rfl)
theorem dX2_paces_117 : decode cX2_paces 117 = .ok (.iload 7, 2) := dk_21 7 (dk_at dksX2_paces_5 0 rfl rfl)
theorem dX2_paces_119 : decode cX2_paces 119 = .ok (.aload_n 0, 1) := dk_42 (dk_at dksX2_paces_5 2 rfl rfl)
theorem dX2_paces_120 : decode cX2_paces 120 = .ok (.getfield 38, 3) := dk_180 0 38 (dk_at dksX2_paces_5 3 rfl rfl)
theorem dX2_paces_123 : decode cX2_paces 123 = .ok (.iload 7, 2) := dk_21 7 (dk_at dksX2_paces_5 6 rfl rfl)
theorem dX2_paces_125 : decode cX2_paces 125 = .ok (.iconst 1, 1) := dk_4 (dk_at dksX2_paces_5 8 rfl rfl)
theorem dX2_paces_126 : decode cX2_paces 126 = .ok (.isub, 1) := dk_100 (dk_at dksX2_paces_5 9 rfl rfl)
theorem dX2_paces_127 : decode cX2_paces 127 = .ok (.iaload, 1) := dk_46 (dk_at dksX2_paces_5 10 rfl rfl)
theorem dX2_paces_128 : decode cX2_paces 128 = .ok (.iastore, 1) := dk_79 (dk_at dksX2_paces_5 11 rfl rfl)
theorem dX2_paces_129 : decode cX2_paces 129 = .ok (.iinc 7 (-1), 3) := dk_132 7 255 (dk_at dksX2_paces_5 12 rfl rfl)
theorem dX2_paces_132 : decode cX2_paces 132 = .ok (.goto (-67), 3) := dk_167 255 189 (dk_at dksX2_paces_5 15 rfl rfl)
theorem dX2_paces_135 : decode cX2_paces 135 = .ok (.aload_n 0, 1) := dk_42 (dk_at dksX2_paces_5 18 rfl rfl)
theorem dX2_paces_136 : decode cX2_paces 136 = .ok (.getfield 35, 3) := dk_180 0 35 (dk_at dksX2_paces_5 19 rfl rfl)
theorem dX2_paces_139 : decode cX2_paces 139 = .ok (.iload 7, 2) := dk_21 7 (dk_at dksX2_paces_5 22 rfl rfl)
theorem dX2_paces_141 : decode cX2_paces 141 = .ok (.iload 5, 2) := dk_21 5 (dk_at dksX2_paces_6 0 rfl rfl)
theorem dX2_paces_143 : decode cX2_paces 143 = .ok (.iastore, 1) := dk_79 (dk_at dksX2_paces_6 2 rfl rfl)
theorem dX2_paces_144 : decode cX2_paces 144 = .ok (.aload_n 0, 1) := dk_42 (dk_at dksX2_paces_6 3 rfl rfl)
theorem dX2_paces_145 : decode cX2_paces 145 = .ok (.getfield 38, 3) := dk_180 0 38 (dk_at dksX2_paces_6 4 rfl rfl)
theorem dX2_paces_148 : decode cX2_paces 148 = .ok (.iload 7, 2) := dk_21 7 (dk_at dksX2_paces_6 7 rfl rfl)
theorem dX2_paces_150 : decode cX2_paces 150 = .ok (.iload 6, 2) := dk_21 6 (dk_at dksX2_paces_6 9 rfl rfl)
theorem dX2_paces_152 : decode cX2_paces 152 = .ok (.iastore, 1) := dk_79 (dk_at dksX2_paces_6 11 rfl rfl)
theorem dX2_paces_153 : decode cX2_paces 153 = .ok (.iinc 3 1, 3) := dk_132 3 1 (dk_at dksX2_paces_6 12 rfl rfl)
theorem dX2_paces_156 : decode cX2_paces 156 = .ok (.iinc 4 1, 3) := dk_132 4 1 (dk_at dksX2_paces_6 15 rfl rfl)
theorem dX2_paces_159 : decode cX2_paces 159 = .ok (.goto (-144), 3) := dk_167 255 112 (dk_at dksX2_paces_6 18 rfl rfl)
theorem dX2_paces_162 : decode cX2_paces 162 = .ok (.iload_n 3, 1) := dk_29 (dk_at dksX2_paces_6 21 rfl rfl)
theorem dX2_paces_163 : decode cX2_paces 163 = .ok (.ifCond .ne 5, 3) := dk_154 0 5 (dk_at dksX2_paces_7 0 rfl rfl)
theorem dX2_paces_166 : decode cX2_paces 166 = .ok (.iconst 0, 1) := dk_3 (dk_at dksX2_paces_7 3 rfl rfl)
theorem dX2_paces_167 : decode cX2_paces 167 = .ok (.ireturn, 1) := dk_172 (dk_at dksX2_paces_7 4 rfl rfl)
theorem dX2_paces_168 : decode cX2_paces 168 = .ok (.aload_n 0, 1) := dk_42 (dk_at dksX2_paces_7 5 rfl rfl)
theorem dX2_paces_169 : decode cX2_paces 169 = .ok (.aload_n 0, 1) := dk_42 (dk_at dksX2_paces_7 6 rfl rfl)
theorem dX2_paces_170 : decode cX2_paces 170 = .ok (.getfield 35, 3) := dk_180 0 35 (dk_at dksX2_paces_7 7 rfl rfl)
theorem dX2_paces_173 : decode cX2_paces 173 = .ok (.iload_n 3, 1) := dk_29 (dk_at dksX2_paces_7 10 rfl rfl)
theorem dX2_paces_174 : decode cX2_paces 174 = .ok (.iconst 1, 1) := dk_4 (dk_at dksX2_paces_7 11 rfl rfl)
theorem dX2_paces_175 : decode cX2_paces 175 = .ok (.isub, 1) := dk_100 (dk_at dksX2_paces_7 12 rfl rfl)
theorem dX2_paces_176 : decode cX2_paces 176 = .ok (.iconst 2, 1) := dk_5 (dk_at dksX2_paces_7 13 rfl rfl)
theorem dX2_paces_177 : decode cX2_paces 177 = .ok (.idiv, 1) := dk_108 (dk_at dksX2_paces_7 14 rfl rfl)
theorem dX2_paces_178 : decode cX2_paces 178 = .ok (.iaload, 1) := dk_46 (dk_at dksX2_paces_7 15 rfl rfl)
theorem dX2_paces_179 : decode cX2_paces 179 = .ok (.putfield 267, 3) := dk_181 1 11 (dk_at dksX2_paces_7 16 rfl rfl)
theorem dX2_paces_182 : decode cX2_paces 182 = .ok (.aload_n 0, 1) := dk_42 (dk_at dksX2_paces_7 19 rfl rfl)
theorem dX2_paces_183 : decode cX2_paces 183 = .ok (.aload_n 0, 1) := dk_42 (dk_at dksX2_paces_7 20 rfl rfl)
theorem dX2_paces_184 : decode cX2_paces 184 = .ok (.getfield 38, 3) := dk_180 0 38 (dk_at dksX2_paces_7 21 rfl rfl)
theorem dX2_paces_187 : decode cX2_paces 187 = .ok (.iload_n 3, 1) := dk_29 (dk_at dksX2_paces_8 0 rfl rfl)
theorem dX2_paces_188 : decode cX2_paces 188 = .ok (.iconst 1, 1) := dk_4 (dk_at dksX2_paces_8 1 rfl rfl)
theorem dX2_paces_189 : decode cX2_paces 189 = .ok (.isub, 1) := dk_100 (dk_at dksX2_paces_8 2 rfl rfl)
theorem dX2_paces_190 : decode cX2_paces 190 = .ok (.iconst 2, 1) := dk_5 (dk_at dksX2_paces_8 3 rfl rfl)
theorem dX2_paces_191 : decode cX2_paces 191 = .ok (.idiv, 1) := dk_108 (dk_at dksX2_paces_8 4 rfl rfl)
theorem dX2_paces_192 : decode cX2_paces 192 = .ok (.iaload, 1) := dk_46 (dk_at dksX2_paces_8 5 rfl rfl)
theorem dX2_paces_193 : decode cX2_paces 193 = .ok (.putfield 270, 3) := dk_181 1 14 (dk_at dksX2_paces_8 6 rfl rfl)
theorem dX2_paces_196 : decode cX2_paces 196 = .ok (.iconst 1, 1) := dk_4 (dk_at dksX2_paces_8 9 rfl rfl)
theorem dX2_paces_197 : decode cX2_paces 197 = .ok (.ireturn, 1) := dk_172 (dk_at dksX2_paces_8 10 rfl rfl)
theorem md_X2_paces : xMd yX2_paces cX2_paces 8 (Option.some Jvm.ClassFile.FieldType.boolean) 1 := ⟨q3270, q126, by decide, by decide +kernel, by decide +kernel, by decide +kernel⟩
def T_paces_156  (k15 : Int32 × Int32 × Int32 × Int32 × TS → Option (xO × TS)) (v1 : Int32) (v2 : Int32) (v3 : Int32) (v4 : Int32) (s0 : TS) : Option (xO × TS) :=
  (bnd (v4 + 1) fun x11 =>
  (k15 (v1, v2, v3, x11, s0)))
def T_paces_135  (k15 : Int32 × Int32 × Int32 × Int32 × TS → Option (xO × TS)) (v1 : Int32) (v2 : Int32) (v3 : Int32) (v4 : Int32) (v5 : Int32) (v6 : Int32) (v7 : Int32) (s0 : TS) : Option (xO × TS) :=
  (tast s0 21 v7 v5 fun s12 =>
  (tast s12 22 v7 v6 fun s13 =>
  (bnd (v3 + 1) fun x14 =>
  (T_paces_156 k15 v1 v2 x14 v4 s13))))
def T_paces_65F  (k15 : Int32 × Int32 × Int32 × Int32 × TS → Option (xO × TS)) (k65 : Int32 × Int32 × Int32 × Int32 × Int32 × Int32 × Int32 × TS → Option (xO × TS)) (p : Int32 × Int32 × Int32 × Int32 × Int32 × Int32 × Int32 × TS) : Option (xO × TS) := match p with
  | (v1, v2, v3, v4, v5, v6, v7, s0) => (if v7 ≤ 0 then
  (T_paces_135 k15 v1 v2 v3 v4 v5 v6 v7 s0) else
  (tald s0 22 (v7 - 1) fun x15 =>
  (tald s0 21 (v7 - 1) fun x16 =>
  (if (x16 * v6) ≤ (v5 * x15) then
  (T_paces_135 k15 v1 v2 v3 v4 v5 v6 v7 s0) else
  (tald s0 21 (v7 - 1) fun x17 =>
  (tast s0 21 v7 x17 fun s18 =>
  (tald s18 22 (v7 - 1) fun x19 =>
  (tast s18 22 v7 x19 fun s20 =>
  (bnd (v7 + (-1)) fun x21 =>
  (k65 (v1, v2, v3, v4, v5, v6, x21, s20)))))))))))
def T_paces_55  (k15 : Int32 × Int32 × Int32 × Int32 × TS → Option (xO × TS)) (v1 : Int32) (v2 : Int32) (v3 : Int32) (v4 : Int32) (v5 : Int32) (w0 : Int32) (s0 : TS) : Option (xO × TS) :=
  (if w0 ≤ 0 then
  (T_paces_156 k15 v1 v2 v3 v4 s0) else
  (lp (T_paces_65F k15) FU (v1, v2, v3, v4, v5, w0, v3, s0)))
def T_paces_15F   (k15 : Int32 × Int32 × Int32 × Int32 × TS → Option (xO × TS)) (p : Int32 × Int32 × Int32 × Int32 × TS) : Option (xO × TS) := match p with
  | (v1, v2, v3, v4, s0) => (tald s0 7 (4 + v2) fun x2 =>
  (if x2 < v4 then
  (if v3 = 0 then
  (if vp_nar .boolean 0 = 0 then rI 0 s0 else none) else
  (if 2 = 0 then none else
  (tald s0 21 ((v3 - 1) / 2) fun x3 =>
  (bnd (tI s0 23 x3) fun s4 =>
  (if 2 = 0 then none else
  (tald s4 22 ((v3 - 1) / 2) fun x5 =>
  (bnd (tI s4 24 x5) fun s6 =>
  (if vp_nar .boolean 1 = 1 then rI 1 s6 else none)))))))) else
  (xcI (T_legOf s0 v1 v4) fun x8 s7 =>
  (if x8 = (-2) then
  (T_paces_55 k15 v1 v2 v3 v4 x8 0 s7) else
  (xcI (T_bestLeg s7 v2 v4) fun x10 s9 =>
  (T_paces_55 k15 v1 v2 v3 v4 x8 x10 s9))))))
def T_paces (s0 : TS) (a1 : Int32) : Option (xO × TS) :=
  (tald s0 7 (37 + a1) fun x1 =>
  (lp (T_paces_15F) FU (a1, x1, 0, 0, s0)))
theorem T_paces_156_ok {G : xG} {E : TE} (hO : xOK G) (hE : tok E)  {k15 : Int32 × Int32 × Int32 × Int32 × TS → Option (xO × TS)} (hk15 : ∀ (v1 : Int32) (v2 : Int32) (v3 : Int32) (v4 : Int32) (s0 : TS), XT G E "ForestLegsModel" "paces" cX2_paces 8 (Option.some Jvm.ClassFile.FieldType.boolean) 7 15 [(0, .ref E.2.1), (1, .int v1), (2, .int v2), (3, .int v3), (4, .int v4)] [] s0 (k15 (v1, v2, v3, v4, s0))) (v1 : Int32) (v2 : Int32) (v3 : Int32) (v4 : Int32) (s0 : TS) : XT G E "ForestLegsModel" "paces" cX2_paces 8 (Option.some Jvm.ClassFile.FieldType.boolean) 7 156 [(0, .ref E.2.1), (1, .int v1), (2, .int v2), (3, .int v3), (4, .int v4)] [] s0 (T_paces_156 k15 v1 v2 v3 v4 s0) := by
  unfold T_paces_156
  refine tw_iinc 4 (fun x11 => [(4, .int x11), (0, .ref E.2.1), (1, .int v1), (2, .int v2), (3, .int v3)]) dX2_paces_156 rfl rfl (by decide) (fun _ => rfl) (n := 159) rfl (fun x11 => ?_)
  refine x_goto dX2_paces_159 (n := 15) (by decide) ?_
  refine x_sub [1, 2, 3, 4, 0] [(0, .ref E.2.1), (1, .int v1), (2, .int v2), (3, .int v3), (4, .int x11)] rfl ?_
  exact hk15 v1 v2 v3 x11 s0
theorem T_paces_135_ok {G : xG} {E : TE} (hO : xOK G) (hE : tok E)  {k15 : Int32 × Int32 × Int32 × Int32 × TS → Option (xO × TS)} (hk15 : ∀ (v1 : Int32) (v2 : Int32) (v3 : Int32) (v4 : Int32) (s0 : TS), XT G E "ForestLegsModel" "paces" cX2_paces 8 (Option.some Jvm.ClassFile.FieldType.boolean) 7 15 [(0, .ref E.2.1), (1, .int v1), (2, .int v2), (3, .int v3), (4, .int v4)] [] s0 (k15 (v1, v2, v3, v4, s0))) (v1 : Int32) (v2 : Int32) (v3 : Int32) (v4 : Int32) (v5 : Int32) (v6 : Int32) (v7 : Int32) (s0 : TS) : XT G E "ForestLegsModel" "paces" cX2_paces 8 (Option.some Jvm.ClassFile.FieldType.boolean) 7 135 [(0, .ref E.2.1), (1, .int v1), (2, .int v2), (3, .int v3), (4, .int v4), (5, .int v5), (6, .int v6), (7, .int v7)] [] s0 (T_paces_135 k15 v1 v2 v3 v4 v5 v6 v7 s0) := by
  unfold T_paces_135
  refine x_aload_nr 0 dX2_paces_135 rfl rfl (n := 136) rfl ?_
  refine tw_getA fl_X2_35 rfl (by decide) dX2_paces_136 (n := 139) rfl ?_
  refine x_iload 7 dX2_paces_139 rfl (n := 141) rfl ?_
  refine x_iload 5 dX2_paces_141 rfl (n := 143) rfl ?_
  refine tw_iast hE (by decide) dX2_paces_143 (n := 144) rfl (fun s12 => ?_)
  refine x_aload_nr 0 dX2_paces_144 rfl rfl (n := 145) rfl ?_
  refine tw_getA fl_X2_38 rfl (by decide) dX2_paces_145 (n := 148) rfl ?_
  refine x_iload 7 dX2_paces_148 rfl (n := 150) rfl ?_
  refine x_iload 6 dX2_paces_150 rfl (n := 152) rfl ?_
  refine tw_iast hE (by decide) dX2_paces_152 (n := 153) rfl (fun s13 => ?_)
  refine tw_iinc 3 (fun x14 => [(3, .int x14), (0, .ref E.2.1), (1, .int v1), (2, .int v2), (4, .int v4), (5, .int v5), (6, .int v6), (7, .int v7)]) dX2_paces_153 rfl rfl (by decide) (fun _ => rfl) (n := 156) rfl (fun x14 => ?_)
  refine x_sub [1, 2, 3, 0, 4] [(0, .ref E.2.1), (1, .int v1), (2, .int v2), (3, .int x14), (4, .int v4)] rfl ?_
  exact T_paces_156_ok hO hE hk15 v1 v2 x14 v4 s13
theorem T_paces_65F_ok {G : xG} {E : TE} (hO : xOK G) (hE : tok E)  {k15 : Int32 × Int32 × Int32 × Int32 × TS → Option (xO × TS)} (hk15 : ∀ (v1 : Int32) (v2 : Int32) (v3 : Int32) (v4 : Int32) (s0 : TS), XT G E "ForestLegsModel" "paces" cX2_paces 8 (Option.some Jvm.ClassFile.FieldType.boolean) 7 15 [(0, .ref E.2.1), (1, .int v1), (2, .int v2), (3, .int v3), (4, .int v4)] [] s0 (k15 (v1, v2, v3, v4, s0))) {k65 : Int32 × Int32 × Int32 × Int32 × Int32 × Int32 × Int32 × TS → Option (xO × TS)} (hk65 : ∀ (v1 : Int32) (v2 : Int32) (v3 : Int32) (v4 : Int32) (v5 : Int32) (v6 : Int32) (v7 : Int32) (s0 : TS), XT G E "ForestLegsModel" "paces" cX2_paces 8 (Option.some Jvm.ClassFile.FieldType.boolean) 7 65 [(0, .ref E.2.1), (1, .int v1), (2, .int v2), (3, .int v3), (4, .int v4), (5, .int v5), (6, .int v6), (7, .int v7)] [] s0 (k65 (v1, v2, v3, v4, v5, v6, v7, s0))) (v1 : Int32) (v2 : Int32) (v3 : Int32) (v4 : Int32) (v5 : Int32) (v6 : Int32) (v7 : Int32) (s0 : TS) : XT G E "ForestLegsModel" "paces" cX2_paces 8 (Option.some Jvm.ClassFile.FieldType.boolean) 7 65 [(0, .ref E.2.1), (1, .int v1), (2, .int v2), (3, .int v3), (4, .int v4), (5, .int v5), (6, .int v6), (7, .int v7)] [] s0 (T_paces_65F k15 k65 (v1, v2, v3, v4, v5, v6, v7, s0)) := by
  unfold T_paces_65F
  refine x_iload 7 dX2_paces_65 rfl (n := 67) rfl ?_
  refine tw_if_le dX2_paces_67 (t := 135) (by decide) (n := 70) rfl ?_ ?_
  · exact T_paces_135_ok hO hE hk15 v1 v2 v3 v4 v5 v6 v7 s0
  · refine x_iload 5 dX2_paces_70 rfl (n := 72) rfl ?_
    refine x_aload_nr 0 dX2_paces_72 rfl rfl (n := 73) rfl ?_
    refine tw_getA fl_X2_38 rfl (by decide) dX2_paces_73 (n := 76) rfl ?_
    refine x_iload 7 dX2_paces_76 rfl (n := 78) rfl ?_
    refine x_iconst 1 dX2_paces_78 rfl (n := 79) rfl ?_
    refine x_isub dX2_paces_79 (n := 80) rfl ?_
    refine tw_iald hE (by decide) dX2_paces_80 (n := 81) rfl (fun x15 => ?_)
    refine x_imul dX2_paces_81 (n := 82) rfl ?_
    refine x_aload_nr 0 dX2_paces_82 rfl rfl (n := 83) rfl ?_
    refine tw_getA fl_X2_35 rfl (by decide) dX2_paces_83 (n := 86) rfl ?_
    refine x_iload 7 dX2_paces_86 rfl (n := 88) rfl ?_
    refine x_iconst 1 dX2_paces_88 rfl (n := 89) rfl ?_
    refine x_isub dX2_paces_89 (n := 90) rfl ?_
    refine tw_iald hE (by decide) dX2_paces_90 (n := 91) rfl (fun x16 => ?_)
    refine x_iload 6 dX2_paces_91 rfl (n := 93) rfl ?_
    refine x_imul dX2_paces_93 (n := 94) rfl ?_
    refine tw_icmp_ge dX2_paces_94 (t := 135) (by decide) (n := 97) rfl ?_ ?_
    · exact T_paces_135_ok hO hE hk15 v1 v2 v3 v4 v5 v6 v7 s0
    · refine x_aload_nr 0 dX2_paces_97 rfl rfl (n := 98) rfl ?_
      refine tw_getA fl_X2_35 rfl (by decide) dX2_paces_98 (n := 101) rfl ?_
      refine x_iload 7 dX2_paces_101 rfl (n := 103) rfl ?_
      refine x_aload_nr 0 dX2_paces_103 rfl rfl (n := 104) rfl ?_
      refine tw_getA fl_X2_35 rfl (by decide) dX2_paces_104 (n := 107) rfl ?_
      refine x_iload 7 dX2_paces_107 rfl (n := 109) rfl ?_
      refine x_iconst 1 dX2_paces_109 rfl (n := 110) rfl ?_
      refine x_isub dX2_paces_110 (n := 111) rfl ?_
      refine tw_iald hE (by decide) dX2_paces_111 (n := 112) rfl (fun x17 => ?_)
      refine tw_iast hE (by decide) dX2_paces_112 (n := 113) rfl (fun s18 => ?_)
      refine x_aload_nr 0 dX2_paces_113 rfl rfl (n := 114) rfl ?_
      refine tw_getA fl_X2_38 rfl (by decide) dX2_paces_114 (n := 117) rfl ?_
      refine x_iload 7 dX2_paces_117 rfl (n := 119) rfl ?_
      refine x_aload_nr 0 dX2_paces_119 rfl rfl (n := 120) rfl ?_
      refine tw_getA fl_X2_38 rfl (by decide) dX2_paces_120 (n := 123) rfl ?_
      refine x_iload 7 dX2_paces_123 rfl (n := 125) rfl ?_
      refine x_iconst 1 dX2_paces_125 rfl (n := 126) rfl ?_
      refine x_isub dX2_paces_126 (n := 127) rfl ?_
      refine tw_iald hE (by decide) dX2_paces_127 (n := 128) rfl (fun x19 => ?_)
      refine tw_iast hE (by decide) dX2_paces_128 (n := 129) rfl (fun s20 => ?_)
      refine tw_iinc 7 (fun x21 => [(7, .int x21), (0, .ref E.2.1), (1, .int v1), (2, .int v2), (3, .int v3), (4, .int v4), (5, .int v5), (6, .int v6)]) dX2_paces_129 rfl rfl (by decide) (fun _ => rfl) (n := 132) rfl (fun x21 => ?_)
      refine x_goto dX2_paces_132 (n := 65) (by decide) ?_
      refine x_sub [1, 2, 3, 4, 5, 6, 7, 0] [(0, .ref E.2.1), (1, .int v1), (2, .int v2), (3, .int v3), (4, .int v4), (5, .int v5), (6, .int v6), (7, .int x21)] rfl ?_
      exact hk65 v1 v2 v3 v4 v5 v6 x21 s20
theorem T_paces_65_lp {G : xG} {E : TE} (hO : xOK G) (hE : tok E)  {k15 : Int32 × Int32 × Int32 × Int32 × TS → Option (xO × TS)} (hk15 : ∀ (v1 : Int32) (v2 : Int32) (v3 : Int32) (v4 : Int32) (s0 : TS), XT G E "ForestLegsModel" "paces" cX2_paces 8 (Option.some Jvm.ClassFile.FieldType.boolean) 7 15 [(0, .ref E.2.1), (1, .int v1), (2, .int v2), (3, .int v3), (4, .int v4)] [] s0 (k15 (v1, v2, v3, v4, s0))) (n : Nat) (v1 : Int32) (v2 : Int32) (v3 : Int32) (v4 : Int32) (v5 : Int32) (v6 : Int32) (v7 : Int32) (s0 : TS) : XT G E "ForestLegsModel" "paces" cX2_paces 8 (Option.some Jvm.ClassFile.FieldType.boolean) 7 65 [(0, .ref E.2.1), (1, .int v1), (2, .int v2), (3, .int v3), (4, .int v4), (5, .int v5), (6, .int v6), (7, .int v7)] [] s0 (lp (T_paces_65F k15) n (v1, v2, v3, v4, v5, v6, v7, s0)) :=
  lp_ok (W := fun p K => XT G E "ForestLegsModel" "paces" cX2_paces 8 (Option.some Jvm.ClassFile.FieldType.boolean) 7 65 [(0, .ref E.2.1), (1, .int p.1), (2, .int p.2.1), (3, .int p.2.2.1), (4, .int p.2.2.2.1), (5, .int p.2.2.2.2.1), (6, .int p.2.2.2.2.2.1), (7, .int p.2.2.2.2.2.2.1)] [] p.2.2.2.2.2.2.2 K) (fun _ => tw_no) (fun k hk => fun (v1, v2, v3, v4, v5, v6, v7, s0) => T_paces_65F_ok hO hE hk15 (fun v1 v2 v3 v4 v5 v6 v7 s0 => hk (v1, v2, v3, v4, v5, v6, v7, s0)) v1 v2 v3 v4 v5 v6 v7 s0) n (v1, v2, v3, v4, v5, v6, v7, s0)
theorem T_paces_55_ok {G : xG} {E : TE} (hO : xOK G) (hE : tok E)  {k15 : Int32 × Int32 × Int32 × Int32 × TS → Option (xO × TS)} (hk15 : ∀ (v1 : Int32) (v2 : Int32) (v3 : Int32) (v4 : Int32) (s0 : TS), XT G E "ForestLegsModel" "paces" cX2_paces 8 (Option.some Jvm.ClassFile.FieldType.boolean) 7 15 [(0, .ref E.2.1), (1, .int v1), (2, .int v2), (3, .int v3), (4, .int v4)] [] s0 (k15 (v1, v2, v3, v4, s0))) (v1 : Int32) (v2 : Int32) (v3 : Int32) (v4 : Int32) (v5 : Int32) (w0 : Int32) (s0 : TS) : XT G E "ForestLegsModel" "paces" cX2_paces 8 (Option.some Jvm.ClassFile.FieldType.boolean) 7 55 [(0, .ref E.2.1), (1, .int v1), (2, .int v2), (3, .int v3), (4, .int v4), (5, .int v5)] [.int w0] s0 (T_paces_55 k15 v1 v2 v3 v4 v5 w0 s0) := by
  unfold T_paces_55
  refine x_istore [(6, .int w0), (0, .ref E.2.1), (1, .int v1), (2, .int v2), (3, .int v3), (4, .int v4), (5, .int v5)] dX2_paces_55 (by decide) rfl (n := 57) rfl ?_
  refine x_iload 0 dX2_paces_57 rfl (n := 59) rfl ?_
  refine tw_if_le dX2_paces_59 (t := 156) (by decide) (n := 62) rfl ?_ ?_
  · refine x_sub [1, 2, 3, 4, 5] [(0, .ref E.2.1), (1, .int v1), (2, .int v2), (3, .int v3), (4, .int v4)] rfl ?_
    exact T_paces_156_ok hO hE hk15 v1 v2 v3 v4 s0
  · refine x_iload_n 4 dX2_paces_62 rfl rfl (n := 63) rfl ?_
    refine x_istore [(7, .int v3), (6, .int w0), (0, .ref E.2.1), (1, .int v1), (2, .int v2), (3, .int v3), (4, .int v4), (5, .int v5)] dX2_paces_63 (by decide) rfl (n := 65) rfl ?_
    refine x_sub [2, 3, 4, 5, 6, 7, 1, 0] [(0, .ref E.2.1), (1, .int v1), (2, .int v2), (3, .int v3), (4, .int v4), (5, .int v5), (6, .int w0), (7, .int v3)] rfl ?_
    exact T_paces_65_lp hO hE hk15 FU v1 v2 v3 v4 v5 w0 v3 s0
theorem T_paces_15F_ok {G : xG} {E : TE} (hO : xOK G) (hE : tok E)   {k15 : Int32 × Int32 × Int32 × Int32 × TS → Option (xO × TS)} (hk15 : ∀ (v1 : Int32) (v2 : Int32) (v3 : Int32) (v4 : Int32) (s0 : TS), XT G E "ForestLegsModel" "paces" cX2_paces 8 (Option.some Jvm.ClassFile.FieldType.boolean) 7 15 [(0, .ref E.2.1), (1, .int v1), (2, .int v2), (3, .int v3), (4, .int v4)] [] s0 (k15 (v1, v2, v3, v4, s0))) (v1 : Int32) (v2 : Int32) (v3 : Int32) (v4 : Int32) (s0 : TS) : XT G E "ForestLegsModel" "paces" cX2_paces 8 (Option.some Jvm.ClassFile.FieldType.boolean) 7 15 [(0, .ref E.2.1), (1, .int v1), (2, .int v2), (3, .int v3), (4, .int v4)] [] s0 (T_paces_15F k15 (v1, v2, v3, v4, s0)) := by
  unfold T_paces_15F
  refine x_iload 4 dX2_paces_15 rfl (n := 17) rfl ?_
  refine x_aload_nr 0 dX2_paces_17 rfl rfl (n := 18) rfl ?_
  refine tw_getA fl_X2_17 rfl (by decide) dX2_paces_18 (n := 21) rfl ?_
  refine x_iconst 4 dX2_paces_21 rfl (n := 22) rfl ?_
  refine x_iload_n 2 dX2_paces_22 rfl rfl (n := 23) rfl ?_
  refine x_iadd dX2_paces_23 (n := 24) rfl ?_
  refine tw_iald hE (by decide) dX2_paces_24 (n := 25) rfl (fun x2 => ?_)
  refine tw_icmp_gt dX2_paces_25 (t := 162) (by decide) (n := 28) rfl ?_ ?_
  · refine x_iload_n 3 dX2_paces_162 rfl rfl (n := 163) rfl ?_
    refine tw_if_ne dX2_paces_163 (t := 168) (by decide) (n := 166) rfl ?_ ?_
    · refine x_aload_nr 0 dX2_paces_168 rfl rfl (n := 169) rfl ?_
      refine x_aload_nr 0 dX2_paces_169 rfl rfl (n := 170) rfl ?_
      refine tw_getA fl_X2_35 rfl (by decide) dX2_paces_170 (n := 173) rfl ?_
      refine x_iload_n 3 dX2_paces_173 rfl rfl (n := 174) rfl ?_
      refine x_iconst 1 dX2_paces_174 rfl (n := 175) rfl ?_
      refine x_isub dX2_paces_175 (n := 176) rfl ?_
      refine x_iconst 2 dX2_paces_176 rfl (n := 177) rfl ?_
      refine tw_idiv dX2_paces_177 (n := 178) rfl ?_
      refine tw_iald hE (by decide) dX2_paces_178 (n := 179) rfl (fun x3 => ?_)
      refine tw_put (pl_X2_267 _ _ ⟨rfl, rfl⟩) rfl (by decide) dX2_paces_179 (n := 182) rfl (fun s4 => ?_)
      refine x_aload_nr 0 dX2_paces_182 rfl rfl (n := 183) rfl ?_
      refine x_aload_nr 0 dX2_paces_183 rfl rfl (n := 184) rfl ?_
      refine tw_getA fl_X2_38 rfl (by decide) dX2_paces_184 (n := 187) rfl ?_
      refine x_iload_n 3 dX2_paces_187 rfl rfl (n := 188) rfl ?_
      refine x_iconst 1 dX2_paces_188 rfl (n := 189) rfl ?_
      refine x_isub dX2_paces_189 (n := 190) rfl ?_
      refine x_iconst 2 dX2_paces_190 rfl (n := 191) rfl ?_
      refine tw_idiv dX2_paces_191 (n := 192) rfl ?_
      refine tw_iald hE (by decide) dX2_paces_192 (n := 193) rfl (fun x5 => ?_)
      refine tw_put (pl_X2_270 _ _ ⟨rfl, rfl⟩) rfl (by decide) dX2_paces_193 (n := 196) rfl (fun s6 => ?_)
      refine x_iconst 1 dX2_paces_196 rfl (n := 197) rfl ?_
      exact tw_zreturn rfl dX2_paces_197
    · refine x_iconst 0 dX2_paces_166 rfl (n := 167) rfl ?_
      exact tw_zreturn rfl dX2_paces_167
  · refine x_aload_nr 0 dX2_paces_28 rfl rfl (n := 29) rfl ?_
    refine x_iload_n 1 dX2_paces_29 rfl rfl (n := 30) rfl ?_
    refine x_iload 4 dX2_paces_30 rfl (n := 32) rfl ?_
    refine tw_callV_I [.int v1, .int v4] [] (T_legOf_ok hO hE s0 v1 v4) md_X2_legOf q3179 q3181 qs92 dX2_paces_32 rfl rfl (by decide) (Nat.le_of_ble_eq_true rfl) (n := 35) rfl (fun x8 s7 => ?_)
    refine x_istore [(5, .int x8), (0, .ref E.2.1), (1, .int v1), (2, .int v2), (3, .int v3), (4, .int v4)] dX2_paces_35 (by decide) rfl (n := 37) rfl ?_
    refine x_iload 0 dX2_paces_37 rfl (n := 39) rfl ?_
    refine x_bipush (-2) dX2_paces_39 rfl (n := 41) rfl ?_
    refine tw_icmp_ne dX2_paces_41 (t := 48) (by decide) (n := 44) rfl ?_ ?_
    · refine x_aload_nr 1 dX2_paces_48 rfl rfl (n := 49) rfl ?_
      refine x_iload_n 3 dX2_paces_49 rfl rfl (n := 50) rfl ?_
      refine x_iload 5 dX2_paces_50 rfl (n := 52) rfl ?_
      refine tw_callV_I [.int v2, .int v4] [] (T_bestLeg_ok hO hE s7 v2 v4) md_X2_bestLeg q3171 q3173 qs90 dX2_paces_52 rfl rfl (by decide) (Nat.le_of_ble_eq_true rfl) (n := 55) rfl (fun x10 s9 => ?_)
      refine x_sub [1, 2, 3, 4, 5, 0] [(0, .ref E.2.1), (1, .int v1), (2, .int v2), (3, .int v3), (4, .int v4), (5, .int x8)] rfl ?_
      exact T_paces_55_ok hO hE hk15 v1 v2 v3 v4 x8 x10 s9
    · refine x_iconst 0 dX2_paces_44 rfl (n := 45) rfl ?_
      refine x_goto dX2_paces_45 (n := 55) (by decide) ?_
      refine x_sub [1, 2, 3, 4, 5, 0] [(0, .ref E.2.1), (1, .int v1), (2, .int v2), (3, .int v3), (4, .int v4), (5, .int x8)] rfl ?_
      exact T_paces_55_ok hO hE hk15 v1 v2 v3 v4 x8 0 s7
theorem T_paces_15_lp {G : xG} {E : TE} (hO : xOK G) (hE : tok E)   (n : Nat) (v1 : Int32) (v2 : Int32) (v3 : Int32) (v4 : Int32) (s0 : TS) : XT G E "ForestLegsModel" "paces" cX2_paces 8 (Option.some Jvm.ClassFile.FieldType.boolean) 7 15 [(0, .ref E.2.1), (1, .int v1), (2, .int v2), (3, .int v3), (4, .int v4)] [] s0 (lp (T_paces_15F) n (v1, v2, v3, v4, s0)) :=
  lp_ok (W := fun p K => XT G E "ForestLegsModel" "paces" cX2_paces 8 (Option.some Jvm.ClassFile.FieldType.boolean) 7 15 [(0, .ref E.2.1), (1, .int p.1), (2, .int p.2.1), (3, .int p.2.2.1), (4, .int p.2.2.2.1)] [] p.2.2.2.2 K) (fun _ => tw_no) (fun k hk => fun (v1, v2, v3, v4, s0) => T_paces_15F_ok hO hE (fun v1 v2 v3 v4 s0 => hk (v1, v2, v3, v4, s0)) v1 v2 v3 v4 s0) n (v1, v2, v3, v4, s0)
theorem T_paces_ok {G : xG} {E : TE} (hO : xOK G) (hE : tok E) (s0 : TS) (a1 : Int32) : CTT G E 7 yX2_paces cX2_paces 8 (Option.some Jvm.ClassFile.FieldType.boolean) [.ref E.2.1, .int a1] s0 (T_paces s0 a1) := by
  refine CT_of hO (by decide +kernel) (by decide +kernel) (Nat.le_of_ble_eq_true rfl) ?_
  show XT G E "ForestLegsModel" "paces" cX2_paces 8 (Option.some Jvm.ClassFile.FieldType.boolean) 7 0 [(0, .ref E.2.1), (1, .int a1)] [] s0 (T_paces s0 a1)
  refine x_aload_nr 0 dX2_paces_0 rfl rfl (n := 1) rfl ?_
  refine tw_getA fl_X2_17 rfl (by decide) dX2_paces_1 (n := 4) rfl ?_
  refine x_bipush 37 dX2_paces_4 rfl (n := 6) rfl ?_
  refine x_iload_n 1 dX2_paces_6 rfl rfl (n := 7) rfl ?_
  refine x_iadd dX2_paces_7 (n := 8) rfl ?_
  refine tw_iald hE (by decide) dX2_paces_8 (n := 9) rfl (fun x1 => ?_)
  refine x_istore_n [(2, .int x1), (0, .ref E.2.1), (1, .int a1)] dX2_paces_9 rfl (by decide) rfl (n := 10) rfl ?_
  refine x_iconst 0 dX2_paces_10 rfl (n := 11) rfl ?_
  refine x_istore_n [(3, .int 0), (2, .int x1), (0, .ref E.2.1), (1, .int a1)] dX2_paces_11 rfl (by decide) rfl (n := 12) rfl ?_
  refine x_iconst 0 dX2_paces_12 rfl (n := 13) rfl ?_
  refine x_istore [(4, .int 0), (3, .int 0), (2, .int x1), (0, .ref E.2.1), (1, .int a1)] dX2_paces_13 (by decide) rfl (n := 15) rfl ?_
  refine x_sub [3, 4, 2, 1, 0] [(0, .ref E.2.1), (1, .int a1), (2, .int x1), (3, .int 0), (4, .int 0)] rfl ?_
  exact T_paces_15_lp hO hE FU a1 x1 0 0 s0
abbrev cX2_dueBy : ByteArray := prog_14_method_65_code
def yX2_dueBy : MethodName := ⟨RX2, "dueBy", "(I)I"⟩
def dkwX2_dueBy_1 : List UInt8 := [180, 1, 14, 164, 0, 9, 29, 4, 96, 167, 0, 4, 29, 172]
abbrev dktX2_dueBy_1 : List UInt8 := dkwX2_dueBy_1 ++ []
def dkwX2_dueBy_0 : List UInt8 := [42, 180, 1, 11, 27, 104, 61, 28, 42, 180, 1, 14, 108, 62, 5, 28, 42, 180, 1, 14, 112, 104, 42]
abbrev dktX2_dueBy_0 : List UInt8 := dkwX2_dueBy_0 ++ dktX2_dueBy_1
theorem dksX2_dueBy_0 : cX2_dueBy.data.toList.drop 0 = dktX2_dueBy_0 := by decide +kernel
theorem dksX2_dueBy_1 : cX2_dueBy.data.toList.drop 23 = dktX2_dueBy_1 := dk_seg dksX2_dueBy_0 23 rfl rfl
theorem dX2_dueBy_0 : decode cX2_dueBy 0 = .ok (.aload_n 0, 1) := dk_42 (dk_at dksX2_dueBy_0 0 rfl rfl)
theorem dX2_dueBy_1 : decode cX2_dueBy 1 = .ok (.getfield 267, 3) := dk_180 1 11 (dk_at dksX2_dueBy_0 1 rfl rfl)
theorem dX2_dueBy_4 : decode cX2_dueBy 4 = .ok (.iload_n 1, 1) := dk_27 (dk_at dksX2_dueBy_0 4 rfl rfl)
theorem dX2_dueBy_5 : decode cX2_dueBy 5 = .ok (.imul, 1) := dk_104 (dk_at dksX2_dueBy_0 5 rfl rfl)
theorem dX2_dueBy_6 : decode cX2_dueBy 6 = .ok (.istore_n 2, 1) := dk_61 (dk_at dksX2_dueBy_0 6 rfl rfl)
theorem dX2_dueBy_7 : decode cX2_dueBy 7 = .ok (.iload_n 2, 1) := dk_28 (dk_at dksX2_dueBy_0 7 rfl rfl)
theorem dX2_dueBy_8 : decode cX2_dueBy 8 = .ok (.aload_n 0, 1) := dk_42 (dk_at dksX2_dueBy_0 8 rfl rfl)
theorem dX2_dueBy_9 : decode cX2_dueBy 9 = .ok (.getfield 270, 3) := dk_180 1 14 (dk_at dksX2_dueBy_0 9 rfl rfl)
theorem dX2_dueBy_12 : decode cX2_dueBy 12 = .ok (.idiv, 1) := dk_108 (dk_at dksX2_dueBy_0 12 rfl rfl)
theorem dX2_dueBy_13 : decode cX2_dueBy 13 = .ok (.istore_n 3, 1) := dk_62 (dk_at dksX2_dueBy_0 13 rfl rfl)
theorem dX2_dueBy_14 : decode cX2_dueBy 14 = .ok (.iconst 2, 1) := dk_5 (dk_at dksX2_dueBy_0 14 rfl rfl)
theorem dX2_dueBy_15 : decode cX2_dueBy 15 = .ok (.iload_n 2, 1) := dk_28 (dk_at dksX2_dueBy_0 15 rfl rfl)
theorem dX2_dueBy_16 : decode cX2_dueBy 16 = .ok (.aload_n 0, 1) := dk_42 (dk_at dksX2_dueBy_0 16 rfl rfl)
theorem dX2_dueBy_17 : decode cX2_dueBy 17 = .ok (.getfield 270, 3) := dk_180 1 14 (dk_at dksX2_dueBy_0 17 rfl rfl)
theorem dX2_dueBy_20 : decode cX2_dueBy 20 = .ok (.irem, 1) := dk_112 (dk_at dksX2_dueBy_0 20 rfl rfl)
theorem dX2_dueBy_21 : decode cX2_dueBy 21 = .ok (.imul, 1) := dk_104 (dk_at dksX2_dueBy_0 21 rfl rfl)
theorem dX2_dueBy_22 : decode cX2_dueBy 22 = .ok (.aload_n 0, 1) := dk_42 (dk_at dksX2_dueBy_0 22 rfl rfl)
theorem dX2_dueBy_23 : decode cX2_dueBy 23 = .ok (.getfield 270, 3) := dk_180 1 14 (dk_at dksX2_dueBy_1 0 rfl rfl)
theorem dX2_dueBy_26 : decode cX2_dueBy 26 = .ok (.if_icmp .le 9, 3) := dk_164 0 9 (dk_at dksX2_dueBy_1 3 rfl rfl)
theorem dX2_dueBy_29 : decode cX2_dueBy 29 = .ok (.iload_n 3, 1) := dk_29 (dk_at dksX2_dueBy_1 6 rfl rfl)
theorem dX2_dueBy_30 : decode cX2_dueBy 30 = .ok (.iconst 1, 1) := dk_4 (dk_at dksX2_dueBy_1 7 rfl rfl)
theorem dX2_dueBy_31 : decode cX2_dueBy 31 = .ok (.iadd, 1) := dk_96 (dk_at dksX2_dueBy_1 8 rfl rfl)
theorem dX2_dueBy_32 : decode cX2_dueBy 32 = .ok (.goto 4, 3) := dk_167 0 4 (dk_at dksX2_dueBy_1 9 rfl rfl)
theorem dX2_dueBy_35 : decode cX2_dueBy 35 = .ok (.iload_n 3, 1) := dk_29 (dk_at dksX2_dueBy_1 12 rfl rfl)
theorem dX2_dueBy_36 : decode cX2_dueBy 36 = .ok (.ireturn, 1) := dk_172 (dk_at dksX2_dueBy_1 13 rfl rfl)
theorem md_X2_dueBy : xMd yX2_dueBy cX2_dueBy 4 (Option.some Jvm.ClassFile.FieldType.int) 1 := ⟨q3274, q126, by decide, by decide +kernel, by decide +kernel, by decide +kernel⟩
def T_dueBy (s0 : TS) (a1 : Int32) : Option (xO × TS) :=
  (bnd ((s0.1 23) * a1) fun x1 =>
  (if s0.1 24 = 0 then none else
  (bnd (x1 / (s0.1 24)) fun x2 =>
  (if s0.1 24 = 0 then none else
  (if (2 * (x1 - x1 / (s0.1 24) * (s0.1 24))) ≤ (s0.1 24) then
  (rI x2 s0) else
  (rI (x2 + 1) s0))))))
theorem T_dueBy_ok {G : xG} {E : TE} (hO : xOK G) (hE : tok E) (s0 : TS) (a1 : Int32) : CTT G E 0 yX2_dueBy cX2_dueBy 4 (Option.some Jvm.ClassFile.FieldType.int) [.ref E.2.1, .int a1] s0 (T_dueBy s0 a1) := by
  refine CT_of hO (by decide +kernel) (by decide +kernel) (Nat.le_of_ble_eq_true rfl) ?_
  show XT G E "ForestLegsModel" "dueBy" cX2_dueBy 4 (Option.some Jvm.ClassFile.FieldType.int) 0 0 [(0, .ref E.2.1), (1, .int a1)] [] s0 (T_dueBy s0 a1)
  refine x_aload_nr 0 dX2_dueBy_0 rfl rfl (n := 1) rfl ?_
  refine tw_getI fl_X2_267 rfl (by decide) dX2_dueBy_1 (n := 4) rfl ?_
  refine x_iload_n 1 dX2_dueBy_4 rfl rfl (n := 5) rfl ?_
  refine x_imul dX2_dueBy_5 (n := 6) rfl ?_
  refine tw_nm (fun x1 => ?_)
  refine x_istore_n [(2, .int x1), (0, .ref E.2.1), (1, .int a1)] dX2_dueBy_6 rfl (by decide) rfl (n := 7) rfl ?_
  refine x_iload_n 0 dX2_dueBy_7 rfl rfl (n := 8) rfl ?_
  refine x_aload_nr 1 dX2_dueBy_8 rfl rfl (n := 9) rfl ?_
  refine tw_getI fl_X2_270 rfl (by decide) dX2_dueBy_9 (n := 12) rfl ?_
  refine tw_idiv dX2_dueBy_12 (n := 13) rfl ?_
  refine tw_nm (fun x2 => ?_)
  refine x_istore_n [(3, .int x2), (2, .int x1), (0, .ref E.2.1), (1, .int a1)] dX2_dueBy_13 rfl (by decide) rfl (n := 14) rfl ?_
  refine x_iconst 2 dX2_dueBy_14 rfl (n := 15) rfl ?_
  refine x_iload_n 1 dX2_dueBy_15 rfl rfl (n := 16) rfl ?_
  refine x_aload_nr 2 dX2_dueBy_16 rfl rfl (n := 17) rfl ?_
  refine tw_getI fl_X2_270 rfl (by decide) dX2_dueBy_17 (n := 20) rfl ?_
  refine tw_irem dX2_dueBy_20 (n := 21) rfl ?_
  refine x_imul dX2_dueBy_21 (n := 22) rfl ?_
  refine x_aload_nr 2 dX2_dueBy_22 rfl rfl (n := 23) rfl ?_
  refine tw_getI fl_X2_270 rfl (by decide) dX2_dueBy_23 (n := 26) rfl ?_
  refine tw_icmp_le dX2_dueBy_26 (t := 35) (by decide) (n := 29) rfl ?_ ?_
  · refine x_iload_n 0 dX2_dueBy_35 rfl rfl (n := 36) rfl ?_
    exact tw_ireturn dX2_dueBy_36
  · refine x_iload_n 0 dX2_dueBy_29 rfl rfl (n := 30) rfl ?_
    refine x_iconst 1 dX2_dueBy_30 rfl (n := 31) rfl ?_
    refine x_iadd dX2_dueBy_31 (n := 32) rfl ?_
    refine x_goto dX2_dueBy_32 (n := 36) (by decide) ?_
    exact tw_ireturn dX2_dueBy_36
abbrev cX2_mistakeOf : ByteArray := prog_14_method_66_code
def yX2_mistakeOf : MethodName := ⟨RX2, "mistakeOf", "(II)I"⟩
def dkwX2_mistakeOf_3 : List UInt8 := [161, 0, 8, 21, 5, 167, 0, 4, 3, 172]
abbrev dktX2_mistakeOf_3 : List UInt8 := dkwX2_mistakeOf_3 ++ []
def dkwX2_mistakeOf_2 : List UInt8 := [172, 29, 42, 21, 4, 182, 1, 20, 100, 54, 5, 21, 5, 158, 0, 19, 21, 5, 42, 180, 0, 17, 6, 46]
abbrev dktX2_mistakeOf_2 : List UInt8 := dkwX2_mistakeOf_2 ++ dktX2_mistakeOf_3
def dkwX2_mistakeOf_1 : List UInt8 := [27, 96, 46, 28, 182, 0, 231, 54, 4, 21, 4, 158, 0, 11, 42, 27, 182, 1, 17, 154, 0, 6, 16, 254]
abbrev dktX2_mistakeOf_1 : List UInt8 := dkwX2_mistakeOf_1 ++ dktX2_mistakeOf_2
def dkwX2_mistakeOf_0 : List UInt8 := [42, 27, 28, 182, 0, 221, 62, 29, 16, 254, 160, 0, 7, 3, 167, 0, 17, 42, 42, 180, 0, 17, 16, 37]
abbrev dktX2_mistakeOf_0 : List UInt8 := dkwX2_mistakeOf_0 ++ dktX2_mistakeOf_1
theorem dksX2_mistakeOf_0 : cX2_mistakeOf.data.toList.drop 0 = dktX2_mistakeOf_0 := by decide +kernel
theorem dksX2_mistakeOf_1 : cX2_mistakeOf.data.toList.drop 24 = dktX2_mistakeOf_1 := dk_seg dksX2_mistakeOf_0 24 rfl rfl
theorem dksX2_mistakeOf_2 : cX2_mistakeOf.data.toList.drop 48 = dktX2_mistakeOf_2 := dk_seg dksX2_mistakeOf_1 24 rfl rfl
theorem dksX2_mistakeOf_3 : cX2_mistakeOf.data.toList.drop 72 = dktX2_mistakeOf_3 := dk_seg dksX2_mistakeOf_2 24 rfl rfl
theorem dX2_mistakeOf_0 : decode cX2_mistakeOf 0 = .ok (.aload_n 0, 1) := dk_42 (dk_at dksX2_mistakeOf_0 0 rfl rfl)
theorem dX2_mistakeOf_1 : decode cX2_mistakeOf 1 = .ok (.iload_n 1, 1) := dk_27 (dk_at dksX2_mistakeOf_0 1 rfl rfl)
theorem dX2_mistakeOf_2 : decode cX2_mistakeOf 2 = .ok (.iload_n 2, 1) := dk_28 (dk_at dksX2_mistakeOf_0 2 rfl rfl)
theorem dX2_mistakeOf_3 : decode cX2_mistakeOf 3 = .ok (.invokevirtual 221, 3) := dk_182 0 221 (dk_at dksX2_mistakeOf_0 3 rfl rfl)
theorem dX2_mistakeOf_6 : decode cX2_mistakeOf 6 = .ok (.istore_n 3, 1) := dk_62 (dk_at dksX2_mistakeOf_0 6 rfl rfl)
theorem dX2_mistakeOf_7 : decode cX2_mistakeOf 7 = .ok (.iload_n 3, 1) := dk_29 (dk_at dksX2_mistakeOf_0 7 rfl rfl)
theorem dX2_mistakeOf_8 : decode cX2_mistakeOf 8 = .ok (.bipush (-2), 2) := dk_16 254 (dk_at dksX2_mistakeOf_0 8 rfl rfl)
theorem dX2_mistakeOf_10 : decode cX2_mistakeOf 10 = .ok (.if_icmp .ne 7, 3) := dk_160 0 7 (dk_at dksX2_mistakeOf_0 10 rfl rfl)
theorem dX2_mistakeOf_13 : decode cX2_mistakeOf 13 = .ok (.iconst 0, 1) := dk_3 (dk_at dksX2_mistakeOf_0 13 rfl rfl)
theorem dX2_mistakeOf_14 : decode cX2_mistakeOf 14 = .ok (.goto 17, 3) := dk_167 0 17 (dk_at dksX2_mistakeOf_0 14 rfl rfl)
theorem dX2_mistakeOf_17 : decode cX2_mistakeOf 17 = .ok (.aload_n 0, 1) := dk_42 (dk_at dksX2_mistakeOf_0 17 rfl rfl)
theorem dX2_mistakeOf_18 : decode cX2_mistakeOf 18 = .ok (.aload_n 0, 1) := dk_42 (dk_at dksX2_mistakeOf_0 18 rfl rfl)
theorem dX2_mistakeOf_19 : decode cX2_mistakeOf 19 = .ok (.getfield 17, 3) := dk_180 0 17 (dk_at dksX2_mistakeOf_0 19 rfl rfl)
theorem dX2_mistakeOf_22 : decode cX2_mistakeOf 22 = .ok (.bipush 37, 2) := dk_16 37 (dk_at dksX2_mistakeOf_0 22 rfl rfl)
theorem dX2_mistakeOf_24 : decode cX2_mistakeOf 24 = .ok (.iload_n 1, 1) := dk_27 (dk_at dksX2_mistakeOf_1 0 rfl rfl)
theorem dX2_mistakeOf_25 : decode cX2_mistakeOf 25 = .ok (.iadd, 1) := dk_96 (dk_at dksX2_mistakeOf_1 1 rfl rfl)
theorem dX2_mistakeOf_26 : decode cX2_mistakeOf 26 = .ok (.iaload, 1) := dk_46 (dk_at dksX2_mistakeOf_1 2 rfl rfl)
theorem dX2_mistakeOf_27 : decode cX2_mistakeOf 27 = .ok (.iload_n 2, 1) := dk_28 (dk_at dksX2_mistakeOf_1 3 rfl rfl)
theorem dX2_mistakeOf_28 : decode cX2_mistakeOf 28 = .ok (.invokevirtual 231, 3) := dk_182 0 231 (dk_at dksX2_mistakeOf_1 4 rfl rfl)
theorem dX2_mistakeOf_31 : decode cX2_mistakeOf 31 = .ok (.istore 4, 2) := dk_54 4 (dk_at dksX2_mistakeOf_1 7 rfl rfl)
theorem dX2_mistakeOf_33 : decode cX2_mistakeOf 33 = .ok (.iload 4, 2) := dk_21 4 (dk_at dksX2_mistakeOf_1 9 rfl rfl)
theorem dX2_mistakeOf_35 : decode cX2_mistakeOf 35 = .ok (.ifCond .le 11, 3) := dk_158 0 11 (dk_at dksX2_mistakeOf_1 11 rfl rfl)
theorem dX2_mistakeOf_38 : decode cX2_mistakeOf 38 = .ok (.aload_n 0, 1) := dk_42 (dk_at dksX2_mistakeOf_1 14 rfl rfl)
theorem dX2_mistakeOf_39 : decode cX2_mistakeOf 39 = .ok (.iload_n 1, 1) := dk_27 (dk_at dksX2_mistakeOf_1 15 rfl rfl)
theorem dX2_mistakeOf_40 : decode cX2_mistakeOf 40 = .ok (.invokevirtual 273, 3) := dk_182 1 17 (dk_at dksX2_mistakeOf_1 16 rfl rfl)
theorem dX2_mistakeOf_43 : decode cX2_mistakeOf 43 = .ok (.ifCond .ne 6, 3) := dk_154 0 6 (dk_at dksX2_mistakeOf_1 19 rfl rfl)
theorem dX2_mistakeOf_46 : decode cX2_mistakeOf 46 = .ok (.bipush (-2), 2) := dk_16 254 (dk_at dksX2_mistakeOf_1 22 rfl rfl)
theorem dX2_mistakeOf_48 : decode cX2_mistakeOf 48 = .ok (.ireturn, 1) := dk_172 (dk_at dksX2_mistakeOf_2 0 rfl rfl)
theorem dX2_mistakeOf_49 : decode cX2_mistakeOf 49 = .ok (.iload_n 3, 1) := dk_29 (dk_at dksX2_mistakeOf_2 1 rfl rfl)
theorem dX2_mistakeOf_50 : decode cX2_mistakeOf 50 = .ok (.aload_n 0, 1) := dk_42 (dk_at dksX2_mistakeOf_2 2 rfl rfl)
theorem dX2_mistakeOf_51 : decode cX2_mistakeOf 51 = .ok (.iload 4, 2) := dk_21 4 (dk_at dksX2_mistakeOf_2 3 rfl rfl)
theorem dX2_mistakeOf_53 : decode cX2_mistakeOf 53 = .ok (.invokevirtual 276, 3) := dk_182 1 20 (dk_at dksX2_mistakeOf_2 5 rfl rfl)
theorem dX2_mistakeOf_56 : decode cX2_mistakeOf 56 = .ok (.isub, 1) := dk_100 (dk_at dksX2_mistakeOf_2 8 rfl rfl)
theorem dX2_mistakeOf_57 : decode cX2_mistakeOf 57 = .ok (.istore 5, 2) := dk_54 5 (dk_at dksX2_mistakeOf_2 9 rfl rfl)
theorem dX2_mistakeOf_59 : decode cX2_mistakeOf 59 = .ok (.iload 5, 2) := dk_21 5 (dk_at dksX2_mistakeOf_2 11 rfl rfl)
theorem dX2_mistakeOf_61 : decode cX2_mistakeOf 61 = .ok (.ifCond .le 19, 3) := dk_158 0 19 (dk_at dksX2_mistakeOf_2 13 rfl rfl)
theorem dX2_mistakeOf_64 : decode cX2_mistakeOf 64 = .ok (.iload 5, 2) := dk_21 5 (dk_at dksX2_mistakeOf_2 16 rfl rfl)
theorem dX2_mistakeOf_66 : decode cX2_mistakeOf 66 = .ok (.aload_n 0, 1) := dk_42 (dk_at dksX2_mistakeOf_2 18 rfl rfl)
theorem dX2_mistakeOf_67 : decode cX2_mistakeOf 67 = .ok (.getfield 17, 3) := dk_180 0 17 (dk_at dksX2_mistakeOf_2 19 rfl rfl)
theorem dX2_mistakeOf_70 : decode cX2_mistakeOf 70 = .ok (.iconst 3, 1) := dk_6 (dk_at dksX2_mistakeOf_2 22 rfl rfl)
theorem dX2_mistakeOf_71 : decode cX2_mistakeOf 71 = .ok (.iaload, 1) := dk_46 (dk_at dksX2_mistakeOf_2 23 rfl rfl)
theorem dX2_mistakeOf_72 : decode cX2_mistakeOf 72 = .ok (.if_icmp .lt 8, 3) := dk_161 0 8 (dk_at dksX2_mistakeOf_3 0 rfl rfl)
theorem dX2_mistakeOf_75 : decode cX2_mistakeOf 75 = .ok (.iload 5, 2) := dk_21 5 (dk_at dksX2_mistakeOf_3 3 rfl rfl)
theorem dX2_mistakeOf_77 : decode cX2_mistakeOf 77 = .ok (.goto 4, 3) := dk_167 0 4 (dk_at dksX2_mistakeOf_3 5 rfl rfl)
theorem dX2_mistakeOf_80 : decode cX2_mistakeOf 80 = .ok (.iconst 0, 1) := dk_3 (dk_at dksX2_mistakeOf_3 8 rfl rfl)
theorem dX2_mistakeOf_81 : decode cX2_mistakeOf 81 = .ok (.ireturn, 1) := dk_172 (dk_at dksX2_mistakeOf_3 9 rfl rfl)
theorem md_X2_mistakeOf : xMd yX2_mistakeOf cX2_mistakeOf 6 (Option.some Jvm.ClassFile.FieldType.int) 2 := ⟨q3266, q126, by decide, by decide +kernel, by decide +kernel, by decide +kernel⟩
def T_mistakeOf_31   (v1 : Int32) (v3 : Int32) (w0 : Int32) (s0 : TS) : Option (xO × TS) :=
  (if w0 ≤ 0 then
  (rI (-2) s0) else
  (xcI (T_paces s0 v1) fun x7 s6 =>
  (if x7 = 0 then
  (rI (-2) s6) else
  (xcI (T_dueBy s6 w0) fun x9 s8 =>
  (bnd (v3 - x9) fun x10 =>
  (if x10 ≤ 0 then
  (rI 0 s8) else
  (tald s8 7 3 fun x11 =>
  (if x10 < x11 then
  (rI 0 s8) else
  (rI x10 s8)))))))))
def T_mistakeOf (s0 : TS) (a1 : Int32) (a2 : Int32) : Option (xO × TS) :=
  (xcI (T_legOf s0 a1 a2) fun x2 s1 =>
  (if x2 = (-2) then
  (T_mistakeOf_31 a1 x2 0 s1) else
  (tald s1 7 (37 + a1) fun x3 =>
  (xcI (T_bestLeg s1 x3 a2) fun x5 s4 =>
  (T_mistakeOf_31 a1 x2 x5 s4)))))
theorem T_mistakeOf_31_ok {G : xG} {E : TE} (hO : xOK G) (hE : tok E)   (v1 : Int32) (v3 : Int32) (w0 : Int32) (s0 : TS) : XT G E "ForestLegsModel" "mistakeOf" cX2_mistakeOf 6 (Option.some Jvm.ClassFile.FieldType.int) 8 31 [(0, .ref E.2.1), (1, .int v1), (3, .int v3)] [.int w0] s0 (T_mistakeOf_31 v1 v3 w0 s0) := by
  unfold T_mistakeOf_31
  refine x_istore [(4, .int w0), (0, .ref E.2.1), (1, .int v1), (3, .int v3)] dX2_mistakeOf_31 (by decide) rfl (n := 33) rfl ?_
  refine x_iload 0 dX2_mistakeOf_33 rfl (n := 35) rfl ?_
  refine tw_if_le dX2_mistakeOf_35 (t := 46) (by decide) (n := 38) rfl ?_ ?_
  · refine x_bipush (-2) dX2_mistakeOf_46 rfl (n := 48) rfl ?_
    exact tw_ireturn dX2_mistakeOf_48
  · refine x_aload_nr 1 dX2_mistakeOf_38 rfl rfl (n := 39) rfl ?_
    refine x_iload_n 2 dX2_mistakeOf_39 rfl rfl (n := 40) rfl ?_
    refine tw_callV_I [.int v1] [] (T_paces_ok hO hE s0 v1) md_X2_paces q3267 q3269 qs106 dX2_mistakeOf_40 rfl rfl (by decide) (Nat.le_of_ble_eq_true rfl) (n := 43) rfl (fun x7 s6 => ?_)
    refine tw_if_ne dX2_mistakeOf_43 (t := 49) (by decide) (n := 46) rfl ?_ ?_
    · refine x_iload_n 3 dX2_mistakeOf_49 rfl rfl (n := 50) rfl ?_
      refine x_aload_nr 1 dX2_mistakeOf_50 rfl rfl (n := 51) rfl ?_
      refine x_iload 0 dX2_mistakeOf_51 rfl (n := 53) rfl ?_
      refine tw_callV_I [.int w0] [.int v3] (T_dueBy_ok hO hE s6 w0) md_X2_dueBy q3271 q3273 qs107 dX2_mistakeOf_53 rfl rfl (by decide) (Nat.le_of_ble_eq_true rfl) (n := 56) rfl (fun x9 s8 => ?_)
      refine x_isub dX2_mistakeOf_56 (n := 57) rfl ?_
      refine tw_nm (fun x10 => ?_)
      refine x_istore [(5, .int x10), (4, .int w0), (0, .ref E.2.1), (1, .int v1), (3, .int v3)] dX2_mistakeOf_57 (by decide) rfl (n := 59) rfl ?_
      refine x_iload 0 dX2_mistakeOf_59 rfl (n := 61) rfl ?_
      refine tw_if_le dX2_mistakeOf_61 (t := 80) (by decide) (n := 64) rfl ?_ ?_
      · refine x_iconst 0 dX2_mistakeOf_80 rfl (n := 81) rfl ?_
        exact tw_ireturn dX2_mistakeOf_81
      · refine x_iload 0 dX2_mistakeOf_64 rfl (n := 66) rfl ?_
        refine x_aload_nr 2 dX2_mistakeOf_66 rfl rfl (n := 67) rfl ?_
        refine tw_getA fl_X2_17 rfl (by decide) dX2_mistakeOf_67 (n := 70) rfl ?_
        refine x_iconst 3 dX2_mistakeOf_70 rfl (n := 71) rfl ?_
        refine tw_iald hE (by decide) dX2_mistakeOf_71 (n := 72) rfl (fun x11 => ?_)
        refine tw_icmp_lt dX2_mistakeOf_72 (t := 80) (by decide) (n := 75) rfl ?_ ?_
        · refine x_iconst 0 dX2_mistakeOf_80 rfl (n := 81) rfl ?_
          exact tw_ireturn dX2_mistakeOf_81
        · refine x_iload 0 dX2_mistakeOf_75 rfl (n := 77) rfl ?_
          refine x_goto dX2_mistakeOf_77 (n := 81) (by decide) ?_
          exact tw_ireturn dX2_mistakeOf_81
    · refine x_bipush (-2) dX2_mistakeOf_46 rfl (n := 48) rfl ?_
      exact tw_ireturn dX2_mistakeOf_48
theorem T_mistakeOf_ok {G : xG} {E : TE} (hO : xOK G) (hE : tok E) (s0 : TS) (a1 : Int32) (a2 : Int32) : CTT G E 8 yX2_mistakeOf cX2_mistakeOf 6 (Option.some Jvm.ClassFile.FieldType.int) [.ref E.2.1, .int a1, .int a2] s0 (T_mistakeOf s0 a1 a2) := by
  refine CT_of hO (by decide +kernel) (by decide +kernel) (Nat.le_of_ble_eq_true rfl) ?_
  show XT G E "ForestLegsModel" "mistakeOf" cX2_mistakeOf 6 (Option.some Jvm.ClassFile.FieldType.int) 8 0 [(0, .ref E.2.1), (1, .int a1), (2, .int a2)] [] s0 (T_mistakeOf s0 a1 a2)
  refine x_aload_nr 0 dX2_mistakeOf_0 rfl rfl (n := 1) rfl ?_
  refine x_iload_n 1 dX2_mistakeOf_1 rfl rfl (n := 2) rfl ?_
  refine x_iload_n 2 dX2_mistakeOf_2 rfl rfl (n := 3) rfl ?_
  refine tw_callV_I [.int a1, .int a2] [] (T_legOf_ok hO hE s0 a1 a2) md_X2_legOf q3179 q3181 qs92 dX2_mistakeOf_3 rfl rfl (by decide) (Nat.le_of_ble_eq_true rfl) (n := 6) rfl (fun x2 s1 => ?_)
  refine x_istore_n [(3, .int x2), (0, .ref E.2.1), (1, .int a1), (2, .int a2)] dX2_mistakeOf_6 rfl (by decide) rfl (n := 7) rfl ?_
  refine x_iload_n 0 dX2_mistakeOf_7 rfl rfl (n := 8) rfl ?_
  refine x_bipush (-2) dX2_mistakeOf_8 rfl (n := 10) rfl ?_
  refine tw_icmp_ne dX2_mistakeOf_10 (t := 17) (by decide) (n := 13) rfl ?_ ?_
  · refine x_aload_nr 1 dX2_mistakeOf_17 rfl rfl (n := 18) rfl ?_
    refine x_aload_nr 1 dX2_mistakeOf_18 rfl rfl (n := 19) rfl ?_
    refine tw_getA fl_X2_17 rfl (by decide) dX2_mistakeOf_19 (n := 22) rfl ?_
    refine x_bipush 37 dX2_mistakeOf_22 rfl (n := 24) rfl ?_
    refine x_iload_n 2 dX2_mistakeOf_24 rfl rfl (n := 25) rfl ?_
    refine x_iadd dX2_mistakeOf_25 (n := 26) rfl ?_
    refine tw_iald hE (by decide) dX2_mistakeOf_26 (n := 27) rfl (fun x3 => ?_)
    refine x_iload_n 3 dX2_mistakeOf_27 rfl rfl (n := 28) rfl ?_
    refine tw_callV_I [.int x3, .int a2] [] (T_bestLeg_ok hO hE s1 x3 a2) md_X2_bestLeg q3171 q3173 qs90 dX2_mistakeOf_28 rfl rfl (by decide) (Nat.le_of_ble_eq_true rfl) (n := 31) rfl (fun x5 s4 => ?_)
    refine x_sub [1, 2, 0] [(0, .ref E.2.1), (1, .int a1), (3, .int x2)] rfl ?_
    exact T_mistakeOf_31_ok hO hE a1 x2 x5 s4
  · refine x_iconst 0 dX2_mistakeOf_13 rfl (n := 14) rfl ?_
    refine x_goto dX2_mistakeOf_14 (n := 31) (by decide) ?_
    refine x_sub [1, 2, 0] [(0, .ref E.2.1), (1, .int a1), (3, .int x2)] rfl ?_
    exact T_mistakeOf_31_ok hO hE a1 x2 0 s1
abbrev cX2_leg : ByteArray := prog_14_method_67_code
def yX2_leg : MethodName := ⟨RX2, "leg", "(III)I"⟩
def dkwX2_leg_4 : List UInt8 := [100, 167, 0, 9, 42, 27, 28, 182, 1, 23, 172]
abbrev dktX2_leg_4 : List UInt8 := dkwX2_leg_4 ++ []
def dkwX2_leg_3 : List UInt8 := [167, 0, 34, 29, 5, 160, 0, 23, 21, 4, 42, 42, 180, 0, 17, 16, 37, 27, 96, 46, 28, 182, 0, 231]
abbrev dktX2_leg_3 : List UInt8 := dkwX2_leg_3 ++ dktX2_leg_4
def dkwX2_leg_2 : List UInt8 := [159, 0, 7, 29, 154, 0, 6, 21, 4, 172, 29, 4, 160, 0, 13, 42, 27, 28, 4, 182, 1, 8]
abbrev dktX2_leg_2 : List UInt8 := dkwX2_leg_2 ++ dktX2_leg_3
def dkwX2_leg_1 : List UInt8 := [184, 0, 234, 182, 0, 161, 153, 0, 5, 2, 172, 42, 27, 28, 182, 0, 221, 54, 4, 21, 4, 16, 254]
abbrev dktX2_leg_1 : List UInt8 := dkwX2_leg_1 ++ dktX2_leg_2
def dkwX2_leg_0 : List UInt8 := [42, 42, 27, 28, 182, 1, 5, 153, 0, 16, 29, 3, 6, 184, 0, 79, 153, 0, 7, 4, 167, 0, 4, 3]
abbrev dktX2_leg_0 : List UInt8 := dkwX2_leg_0 ++ dktX2_leg_1
theorem dksX2_leg_0 : cX2_leg.data.toList.drop 0 = dktX2_leg_0 := by decide +kernel
theorem dksX2_leg_1 : cX2_leg.data.toList.drop 24 = dktX2_leg_1 := dk_seg dksX2_leg_0 24 rfl rfl
theorem dksX2_leg_2 : cX2_leg.data.toList.drop 47 = dktX2_leg_2 := dk_seg dksX2_leg_1 23 rfl rfl
theorem dksX2_leg_3 : cX2_leg.data.toList.drop 69 = dktX2_leg_3 := dk_seg dksX2_leg_2 22 rfl rfl
theorem dksX2_leg_4 : cX2_leg.data.toList.drop 93 = dktX2_leg_4 := dk_seg dksX2_leg_3 24 rfl rfl
theorem dX2_leg_0 : decode cX2_leg 0 = .ok (.aload_n 0, 1) := dk_42 (dk_at dksX2_leg_0 0 rfl rfl)
theorem dX2_leg_1 : decode cX2_leg 1 = .ok (.aload_n 0, 1) := dk_42 (dk_at dksX2_leg_0 1 rfl rfl)
theorem dX2_leg_2 : decode cX2_leg 2 = .ok (.iload_n 1, 1) := dk_27 (dk_at dksX2_leg_0 2 rfl rfl)
theorem dX2_leg_3 : decode cX2_leg 3 = .ok (.iload_n 2, 1) := dk_28 (dk_at dksX2_leg_0 3 rfl rfl)
theorem dX2_leg_4 : decode cX2_leg 4 = .ok (.invokevirtual 261, 3) := dk_182 1 5 (dk_at dksX2_leg_0 4 rfl rfl)
theorem dX2_leg_7 : decode cX2_leg 7 = .ok (.ifCond .eq 16, 3) := dk_153 0 16 (dk_at dksX2_leg_0 7 rfl rfl)
theorem dX2_leg_10 : decode cX2_leg 10 = .ok (.iload_n 3, 1) := dk_29 (dk_at dksX2_leg_0 10 rfl rfl)
theorem dX2_leg_11 : decode cX2_leg 11 = .ok (.iconst 0, 1) := dk_3 (dk_at dksX2_leg_0 11 rfl rfl)
theorem dX2_leg_12 : decode cX2_leg 12 = .ok (.iconst 3, 1) := dk_6 (dk_at dksX2_leg_0 12 rfl rfl)
theorem dX2_leg_13 : decode cX2_leg 13 = .ok (.invokestatic 79, 3) := dk_184 0 79 (dk_at dksX2_leg_0 13 rfl rfl)
theorem dX2_leg_16 : decode cX2_leg 16 = .ok (.ifCond .eq 7, 3) := dk_153 0 7 (dk_at dksX2_leg_0 16 rfl rfl)
theorem dX2_leg_19 : decode cX2_leg 19 = .ok (.iconst 1, 1) := dk_4 (dk_at dksX2_leg_0 19 rfl rfl)
theorem dX2_leg_20 : decode cX2_leg 20 = .ok (.goto 4, 3) := dk_167 0 4 (dk_at dksX2_leg_0 20 rfl rfl)
theorem dX2_leg_23 : decode cX2_leg 23 = .ok (.iconst 0, 1) := dk_3 (dk_at dksX2_leg_0 23 rfl rfl)
theorem dX2_leg_24 : decode cX2_leg 24 = .ok (.invokestatic 234, 3) := dk_184 0 234 (dk_at dksX2_leg_1 0 rfl rfl)
theorem dX2_leg_27 : decode cX2_leg 27 = .ok (.invokevirtual 161, 3) := dk_182 0 161 (dk_at dksX2_leg_1 3 rfl rfl)
theorem dX2_leg_30 : decode cX2_leg 30 = .ok (.ifCond .eq 5, 3) := dk_153 0 5 (dk_at dksX2_leg_1 6 rfl rfl)
theorem dX2_leg_33 : decode cX2_leg 33 = .ok (.iconst (-1), 1) := dk_2 (dk_at dksX2_leg_1 9 rfl rfl)
theorem dX2_leg_34 : decode cX2_leg 34 = .ok (.ireturn, 1) := dk_172 (dk_at dksX2_leg_1 10 rfl rfl)
theorem dX2_leg_35 : decode cX2_leg 35 = .ok (.aload_n 0, 1) := dk_42 (dk_at dksX2_leg_1 11 rfl rfl)
theorem dX2_leg_36 : decode cX2_leg 36 = .ok (.iload_n 1, 1) := dk_27 (dk_at dksX2_leg_1 12 rfl rfl)
theorem dX2_leg_37 : decode cX2_leg 37 = .ok (.iload_n 2, 1) := dk_28 (dk_at dksX2_leg_1 13 rfl rfl)
theorem dX2_leg_38 : decode cX2_leg 38 = .ok (.invokevirtual 221, 3) := dk_182 0 221 (dk_at dksX2_leg_1 14 rfl rfl)
theorem dX2_leg_41 : decode cX2_leg 41 = .ok (.istore 4, 2) := dk_54 4 (dk_at dksX2_leg_1 17 rfl rfl)
theorem dX2_leg_43 : decode cX2_leg 43 = .ok (.iload 4, 2) := dk_21 4 (dk_at dksX2_leg_1 19 rfl rfl)
theorem dX2_leg_45 : decode cX2_leg 45 = .ok (.bipush (-2), 2) := dk_16 254 (dk_at dksX2_leg_1 21 rfl rfl)
theorem dX2_leg_47 : decode cX2_leg 47 = .ok (.if_icmp .eq 7, 3) := dk_159 0 7 (dk_at dksX2_leg_2 0 rfl rfl)
theorem dX2_leg_50 : decode cX2_leg 50 = .ok (.iload_n 3, 1) := dk_29 (dk_at dksX2_leg_2 3 rfl rfl)
theorem dX2_leg_51 : decode cX2_leg 51 = .ok (.ifCond .ne 6, 3) := dk_154 0 6 (dk_at dksX2_leg_2 4 rfl rfl)
theorem dX2_leg_54 : decode cX2_leg 54 = .ok (.iload 4, 2) := dk_21 4 (dk_at dksX2_leg_2 7 rfl rfl)
theorem dX2_leg_56 : decode cX2_leg 56 = .ok (.ireturn, 1) := dk_172 (dk_at dksX2_leg_2 9 rfl rfl)
theorem dX2_leg_57 : decode cX2_leg 57 = .ok (.iload_n 3, 1) := dk_29 (dk_at dksX2_leg_2 10 rfl rfl)
theorem dX2_leg_58 : decode cX2_leg 58 = .ok (.iconst 1, 1) := dk_4 (dk_at dksX2_leg_2 11 rfl rfl)
theorem dX2_leg_59 : decode cX2_leg 59 = .ok (.if_icmp .ne 13, 3) := dk_160 0 13 (dk_at dksX2_leg_2 12 rfl rfl)
theorem dX2_leg_62 : decode cX2_leg 62 = .ok (.aload_n 0, 1) := dk_42 (dk_at dksX2_leg_2 15 rfl rfl)
theorem dX2_leg_63 : decode cX2_leg 63 = .ok (.iload_n 1, 1) := dk_27 (dk_at dksX2_leg_2 16 rfl rfl)
theorem dX2_leg_64 : decode cX2_leg 64 = .ok (.iload_n 2, 1) := dk_28 (dk_at dksX2_leg_2 17 rfl rfl)
theorem dX2_leg_65 : decode cX2_leg 65 = .ok (.iconst 1, 1) := dk_4 (dk_at dksX2_leg_2 18 rfl rfl)
theorem dX2_leg_66 : decode cX2_leg 66 = .ok (.invokevirtual 264, 3) := dk_182 1 8 (dk_at dksX2_leg_2 19 rfl rfl)
theorem dX2_leg_69 : decode cX2_leg 69 = .ok (.goto 34, 3) := dk_167 0 34 (dk_at dksX2_leg_3 0 rfl rfl)
theorem dX2_leg_72 : decode cX2_leg 72 = .ok (.iload_n 3, 1) := dk_29 (dk_at dksX2_leg_3 3 rfl rfl)
theorem dX2_leg_73 : decode cX2_leg 73 = .ok (.iconst 2, 1) := dk_5 (dk_at dksX2_leg_3 4 rfl rfl)
theorem dX2_leg_74 : decode cX2_leg 74 = .ok (.if_icmp .ne 23, 3) := dk_160 0 23 (dk_at dksX2_leg_3 5 rfl rfl)
theorem dX2_leg_77 : decode cX2_leg 77 = .ok (.iload 4, 2) := dk_21 4 (dk_at dksX2_leg_3 8 rfl rfl)
theorem dX2_leg_79 : decode cX2_leg 79 = .ok (.aload_n 0, 1) := dk_42 (dk_at dksX2_leg_3 10 rfl rfl)
theorem dX2_leg_80 : decode cX2_leg 80 = .ok (.aload_n 0, 1) := dk_42 (dk_at dksX2_leg_3 11 rfl rfl)
theorem dX2_leg_81 : decode cX2_leg 81 = .ok (.getfield 17, 3) := dk_180 0 17 (dk_at dksX2_leg_3 12 rfl rfl)
theorem dX2_leg_84 : decode cX2_leg 84 = .ok (.bipush 37, 2) := dk_16 37 (dk_at dksX2_leg_3 15 rfl rfl)
theorem dX2_leg_86 : decode cX2_leg 86 = .ok (.iload_n 1, 1) := dk_27 (dk_at dksX2_leg_3 17 rfl rfl)
theorem dX2_leg_87 : decode cX2_leg 87 = .ok (.iadd, 1) := dk_96 (dk_at dksX2_leg_3 18 rfl rfl)
theorem dX2_leg_88 : decode cX2_leg 88 = .ok (.iaload, 1) := dk_46 (dk_at dksX2_leg_3 19 rfl rfl)
theorem dX2_leg_89 : decode cX2_leg 89 = .ok (.iload_n 2, 1) := dk_28 (dk_at dksX2_leg_3 20 rfl rfl)
theorem dX2_leg_90 : decode cX2_leg 90 = .ok (.invokevirtual 231, 3) := dk_182 0 231 (dk_at dksX2_leg_3 21 rfl rfl)
theorem dX2_leg_93 : decode cX2_leg 93 = .ok (.isub, 1) := dk_100 (dk_at dksX2_leg_4 0 rfl rfl)
theorem dX2_leg_94 : decode cX2_leg 94 = .ok (.goto 9, 3) := dk_167 0 9 (dk_at dksX2_leg_4 1 rfl rfl)
theorem dX2_leg_97 : decode cX2_leg 97 = .ok (.aload_n 0, 1) := dk_42 (dk_at dksX2_leg_4 4 rfl rfl)
theorem dX2_leg_98 : decode cX2_leg 98 = .ok (.iload_n 1, 1) := dk_27 (dk_at dksX2_leg_4 5 rfl rfl)
theorem dX2_leg_99 : decode cX2_leg 99 = .ok (.iload_n 2, 1) := dk_28 (dk_at dksX2_leg_4 6 rfl rfl)
theorem dX2_leg_100 : decode cX2_leg 100 = .ok (.invokevirtual 279, 3) := dk_182 1 23 (dk_at dksX2_leg_4 7 rfl rfl)
theorem dX2_leg_103 : decode cX2_leg 103 = .ok (.ireturn, 1) := dk_172 (dk_at dksX2_leg_4 10 rfl rfl)
theorem md_X2_leg : xMd yX2_leg cX2_leg 5 (Option.some Jvm.ClassFile.FieldType.int) 3 := ⟨q3262, q126, by decide, by decide +kernel, by decide +kernel, by decide +kernel⟩
def T_leg_24   (v1 : Int32) (v2 : Int32) (v3 : Int32) (w1 : Int32) (s0 : TS) : Option (xO × TS) :=
  (xcI (T_unless_2 s0 w1) fun x4 s3 =>
  (xcI (T_isRefused s3 x4) fun x6 s5 =>
  (if x6 = 0 then
  (xcI (T_legOf s5 v1 v2) fun x8 s7 =>
  (if x8 = (-2) then
  (rI x8 s7) else
  (if v3 = 0 then
  (rI x8 s7) else
  (if v3 = 1 then
  (xcI (T_placeAt s7 v1 v2 1) fun x15 s14 =>
  (rI x15 s14)) else
  (if v3 = 2 then
  (tald s7 7 (37 + v1) fun x11 =>
  (xcI (T_bestLeg s7 x11 v2) fun x13 s12 =>
  (rI (x8 - x13) s12))) else
  (xcI (T_mistakeOf s7 v1 v2) fun x10 s9 =>
  (rI x10 s9))))))) else
  (rI (-1) s5))))
def T_leg_23   (v1 : Int32) (v2 : Int32) (v3 : Int32) (s0 : TS) : Option (xO × TS) :=
  (T_leg_24 v1 v2 v3 0 s0)
def T_leg (s0 : TS) (a1 : Int32) (a2 : Int32) (a3 : Int32) : Option (xO × TS) :=
  (xcI (T_isOwnPoint s0 a1 a2) fun x2 s1 =>
  (if x2 = 0 then
  (T_leg_23 a1 a2 a3 s1) else
  (xcI (T_in s1 a3 0 3) fun x17 s16 =>
  (if x17 = 0 then
  (T_leg_23 a1 a2 a3 s16) else
  (T_leg_24 a1 a2 a3 1 s16)))))
theorem T_leg_24_ok {G : xG} {E : TE} (hO : xOK G) (hE : tok E)   (v1 : Int32) (v2 : Int32) (v3 : Int32) (w1 : Int32) (s0 : TS) : XT G E "ForestLegsModel" "leg" cX2_leg 5 (Option.some Jvm.ClassFile.FieldType.int) 9 24 [(0, .ref E.2.1), (1, .int v1), (2, .int v2), (3, .int v3)] [.int w1, .ref E.2.1] s0 (T_leg_24 v1 v2 v3 w1 s0) := by
  unfold T_leg_24
  refine tw_callS_I [.int w1] [.ref E.2.1] (T_unless_2_ok hO hE s0 w1) md_X2_unless_2 q3121 q3122 dX2_leg_24 rfl rfl (by decide) (Nat.le_of_ble_eq_true rfl) (n := 27) rfl (fun x4 s3 => ?_)
  refine tw_callV_I [.int x4] [] (T_isRefused_ok hO hE s3 x4) md_X2_isRefused q3022 q3024 qs63 dX2_leg_27 rfl rfl (by decide) (Nat.le_of_ble_eq_true rfl) (n := 30) rfl (fun x6 s5 => ?_)
  refine tw_if_eq dX2_leg_30 (t := 35) (by decide) (n := 33) rfl ?_ ?_
  · refine x_aload_nr 0 dX2_leg_35 rfl rfl (n := 36) rfl ?_
    refine x_iload_n 1 dX2_leg_36 rfl rfl (n := 37) rfl ?_
    refine x_iload_n 2 dX2_leg_37 rfl rfl (n := 38) rfl ?_
    refine tw_callV_I [.int v1, .int v2] [] (T_legOf_ok hO hE s5 v1 v2) md_X2_legOf q3179 q3181 qs92 dX2_leg_38 rfl rfl (by decide) (Nat.le_of_ble_eq_true rfl) (n := 41) rfl (fun x8 s7 => ?_)
    refine x_istore [(4, .int x8), (0, .ref E.2.1), (1, .int v1), (2, .int v2), (3, .int v3)] dX2_leg_41 (by decide) rfl (n := 43) rfl ?_
    refine x_iload 0 dX2_leg_43 rfl (n := 45) rfl ?_
    refine x_bipush (-2) dX2_leg_45 rfl (n := 47) rfl ?_
    refine tw_icmp_eq dX2_leg_47 (t := 54) (by decide) (n := 50) rfl ?_ ?_
    · refine x_iload 0 dX2_leg_54 rfl (n := 56) rfl ?_
      exact tw_ireturn dX2_leg_56
    · refine x_iload_n 4 dX2_leg_50 rfl rfl (n := 51) rfl ?_
      refine tw_if_ne dX2_leg_51 (t := 57) (by decide) (n := 54) rfl ?_ ?_
      · refine x_iload_n 4 dX2_leg_57 rfl rfl (n := 58) rfl ?_
        refine x_iconst 1 dX2_leg_58 rfl (n := 59) rfl ?_
        refine tw_icmp_ne dX2_leg_59 (t := 72) (by decide) (n := 62) rfl ?_ ?_
        · refine x_iload_n 4 dX2_leg_72 rfl rfl (n := 73) rfl ?_
          refine x_iconst 2 dX2_leg_73 rfl (n := 74) rfl ?_
          refine tw_icmp_ne dX2_leg_74 (t := 97) (by decide) (n := 77) rfl ?_ ?_
          · refine x_aload_nr 1 dX2_leg_97 rfl rfl (n := 98) rfl ?_
            refine x_iload_n 2 dX2_leg_98 rfl rfl (n := 99) rfl ?_
            refine x_iload_n 3 dX2_leg_99 rfl rfl (n := 100) rfl ?_
            refine tw_callV_I [.int v1, .int v2] [] (T_mistakeOf_ok hO hE s7 v1 v2) md_X2_mistakeOf q3263 q3265 qs105 dX2_leg_100 rfl rfl (by decide) (Nat.le_of_ble_eq_true rfl) (n := 103) rfl (fun x10 s9 => ?_)
            exact tw_ireturn dX2_leg_103
          · refine x_iload 0 dX2_leg_77 rfl (n := 79) rfl ?_
            refine x_aload_nr 1 dX2_leg_79 rfl rfl (n := 80) rfl ?_
            refine x_aload_nr 1 dX2_leg_80 rfl rfl (n := 81) rfl ?_
            refine tw_getA fl_X2_17 rfl (by decide) dX2_leg_81 (n := 84) rfl ?_
            refine x_bipush 37 dX2_leg_84 rfl (n := 86) rfl ?_
            refine x_iload_n 2 dX2_leg_86 rfl rfl (n := 87) rfl ?_
            refine x_iadd dX2_leg_87 (n := 88) rfl ?_
            refine tw_iald hE (by decide) dX2_leg_88 (n := 89) rfl (fun x11 => ?_)
            refine x_iload_n 3 dX2_leg_89 rfl rfl (n := 90) rfl ?_
            refine tw_callV_I [.int x11, .int v2] [.int x8] (T_bestLeg_ok hO hE s7 x11 v2) md_X2_bestLeg q3171 q3173 qs90 dX2_leg_90 rfl rfl (by decide) (Nat.le_of_ble_eq_true rfl) (n := 93) rfl (fun x13 s12 => ?_)
            refine x_isub dX2_leg_93 (n := 94) rfl ?_
            refine x_goto dX2_leg_94 (n := 103) (by decide) ?_
            exact tw_ireturn dX2_leg_103
        · refine x_aload_nr 1 dX2_leg_62 rfl rfl (n := 63) rfl ?_
          refine x_iload_n 2 dX2_leg_63 rfl rfl (n := 64) rfl ?_
          refine x_iload_n 3 dX2_leg_64 rfl rfl (n := 65) rfl ?_
          refine x_iconst 1 dX2_leg_65 rfl (n := 66) rfl ?_
          refine tw_callV_I [.int v1, .int v2, .int 1] [] (T_placeAt_ok hO hE s7 v1 v2 1) md_X2_placeAt q3255 q3257 qs104 dX2_leg_66 rfl rfl (by decide) (Nat.le_of_ble_eq_true rfl) (n := 69) rfl (fun x15 s14 => ?_)
          refine x_goto dX2_leg_69 (n := 103) (by decide) ?_
          exact tw_ireturn dX2_leg_103
      · refine x_iload 0 dX2_leg_54 rfl (n := 56) rfl ?_
        exact tw_ireturn dX2_leg_56
  · refine x_iconst (-1) dX2_leg_33 rfl (n := 34) rfl ?_
    exact tw_ireturn dX2_leg_34
theorem T_leg_23_ok {G : xG} {E : TE} (hO : xOK G) (hE : tok E)   (v1 : Int32) (v2 : Int32) (v3 : Int32) (s0 : TS) : XT G E "ForestLegsModel" "leg" cX2_leg 5 (Option.some Jvm.ClassFile.FieldType.int) 9 23 [(0, .ref E.2.1), (1, .int v1), (2, .int v2), (3, .int v3)] [.ref E.2.1] s0 (T_leg_23 v1 v2 v3 s0) := by
  unfold T_leg_23
  refine x_iconst 0 dX2_leg_23 rfl (n := 24) rfl ?_
  exact T_leg_24_ok hO hE v1 v2 v3 0 s0
theorem T_leg_ok {G : xG} {E : TE} (hO : xOK G) (hE : tok E) (s0 : TS) (a1 : Int32) (a2 : Int32) (a3 : Int32) : CTT G E 9 yX2_leg cX2_leg 5 (Option.some Jvm.ClassFile.FieldType.int) [.ref E.2.1, .int a1, .int a2, .int a3] s0 (T_leg s0 a1 a2 a3) := by
  refine CT_of hO (by decide +kernel) (by decide +kernel) (Nat.le_of_ble_eq_true rfl) ?_
  show XT G E "ForestLegsModel" "leg" cX2_leg 5 (Option.some Jvm.ClassFile.FieldType.int) 9 0 [(0, .ref E.2.1), (1, .int a1), (2, .int a2), (3, .int a3)] [] s0 (T_leg s0 a1 a2 a3)
  refine x_aload_nr 0 dX2_leg_0 rfl rfl (n := 1) rfl ?_
  refine x_aload_nr 0 dX2_leg_1 rfl rfl (n := 2) rfl ?_
  refine x_iload_n 1 dX2_leg_2 rfl rfl (n := 3) rfl ?_
  refine x_iload_n 2 dX2_leg_3 rfl rfl (n := 4) rfl ?_
  refine tw_callV_I [.int a1, .int a2] [.ref E.2.1] (T_isOwnPoint_ok hO hE s0 a1 a2) md_X2_isOwnPoint q3247 q3249 qs102 dX2_leg_4 rfl rfl (by decide) (Nat.le_of_ble_eq_true rfl) (n := 7) rfl (fun x2 s1 => ?_)
  refine tw_if_eq dX2_leg_7 (t := 23) (by decide) (n := 10) rfl ?_ ?_
  · exact T_leg_23_ok hO hE a1 a2 a3 s1
  · refine x_iload_n 3 dX2_leg_10 rfl rfl (n := 11) rfl ?_
    refine x_iconst 0 dX2_leg_11 rfl (n := 12) rfl ?_
    refine x_iconst 3 dX2_leg_12 rfl (n := 13) rfl ?_
    refine tw_callS_I [.int a3, .int 0, .int 3] [.ref E.2.1] (T_in_ok hO hE s1 a3 0 3) md_X2_in q3016 q3017 dX2_leg_13 rfl rfl (by decide) (Nat.le_of_ble_eq_true rfl) (n := 16) rfl (fun x17 s16 => ?_)
    refine tw_if_eq dX2_leg_16 (t := 23) (by decide) (n := 19) rfl ?_ ?_
    · exact T_leg_23_ok hO hE a1 a2 a3 s16
    · refine x_iconst 1 dX2_leg_19 rfl (n := 20) rfl ?_
      refine x_goto dX2_leg_20 (n := 24) (by decide) ?_
      exact T_leg_24_ok hO hE a1 a2 a3 1 s16
abbrev cX2_best : ByteArray := prog_14_method_68_code
def yX2_best : MethodName := ⟨RX2, "best", "(III)I"⟩
def dkwX2_best_2 : List UInt8 := [42, 27, 28, 4, 182, 0, 227, 172]
abbrev dktX2_best_2 : List UInt8 := dkwX2_best_2 ++ []
def dkwX2_best_1 : List UInt8 := [184, 0, 234, 182, 0, 161, 153, 0, 5, 2, 172, 29, 154, 0, 12, 42, 27, 28, 182, 0, 231, 167, 0, 10]
abbrev dktX2_best_1 : List UInt8 := dkwX2_best_1 ++ dktX2_best_2
def dkwX2_best_0 : List UInt8 := [42, 42, 27, 28, 182, 0, 190, 153, 0, 16, 29, 3, 4, 184, 0, 79, 153, 0, 7, 4, 167, 0, 4, 3]
abbrev dktX2_best_0 : List UInt8 := dkwX2_best_0 ++ dktX2_best_1
theorem dksX2_best_0 : cX2_best.data.toList.drop 0 = dktX2_best_0 := by decide +kernel
theorem dksX2_best_1 : cX2_best.data.toList.drop 24 = dktX2_best_1 := dk_seg dksX2_best_0 24 rfl rfl
theorem dksX2_best_2 : cX2_best.data.toList.drop 48 = dktX2_best_2 := dk_seg dksX2_best_1 24 rfl rfl
theorem dX2_best_0 : decode cX2_best 0 = .ok (.aload_n 0, 1) := dk_42 (dk_at dksX2_best_0 0 rfl rfl)
theorem dX2_best_1 : decode cX2_best 1 = .ok (.aload_n 0, 1) := dk_42 (dk_at dksX2_best_0 1 rfl rfl)
theorem dX2_best_2 : decode cX2_best 2 = .ok (.iload_n 1, 1) := dk_27 (dk_at dksX2_best_0 2 rfl rfl)
theorem dX2_best_3 : decode cX2_best 3 = .ok (.iload_n 2, 1) := dk_28 (dk_at dksX2_best_0 3 rfl rfl)
theorem dX2_best_4 : decode cX2_best 4 = .ok (.invokevirtual 190, 3) := dk_182 0 190 (dk_at dksX2_best_0 4 rfl rfl)
theorem dX2_best_7 : decode cX2_best 7 = .ok (.ifCond .eq 16, 3) := dk_153 0 16 (dk_at dksX2_best_0 7 rfl rfl)
theorem dX2_best_10 : decode cX2_best 10 = .ok (.iload_n 3, 1) := dk_29 (dk_at dksX2_best_0 10 rfl rfl)
theorem dX2_best_11 : decode cX2_best 11 = .ok (.iconst 0, 1) := dk_3 (dk_at dksX2_best_0 11 rfl rfl)
theorem dX2_best_12 : decode cX2_best 12 = .ok (.iconst 1, 1) := dk_4 (dk_at dksX2_best_0 12 rfl rfl)
theorem dX2_best_13 : decode cX2_best 13 = .ok (.invokestatic 79, 3) := dk_184 0 79 (dk_at dksX2_best_0 13 rfl rfl)
theorem dX2_best_16 : decode cX2_best 16 = .ok (.ifCond .eq 7, 3) := dk_153 0 7 (dk_at dksX2_best_0 16 rfl rfl)
theorem dX2_best_19 : decode cX2_best 19 = .ok (.iconst 1, 1) := dk_4 (dk_at dksX2_best_0 19 rfl rfl)
theorem dX2_best_20 : decode cX2_best 20 = .ok (.goto 4, 3) := dk_167 0 4 (dk_at dksX2_best_0 20 rfl rfl)
theorem dX2_best_23 : decode cX2_best 23 = .ok (.iconst 0, 1) := dk_3 (dk_at dksX2_best_0 23 rfl rfl)
theorem dX2_best_24 : decode cX2_best 24 = .ok (.invokestatic 234, 3) := dk_184 0 234 (dk_at dksX2_best_1 0 rfl rfl)
theorem dX2_best_27 : decode cX2_best 27 = .ok (.invokevirtual 161, 3) := dk_182 0 161 (dk_at dksX2_best_1 3 rfl rfl)
theorem dX2_best_30 : decode cX2_best 30 = .ok (.ifCond .eq 5, 3) := dk_153 0 5 (dk_at dksX2_best_1 6 rfl rfl)
theorem dX2_best_33 : decode cX2_best 33 = .ok (.iconst (-1), 1) := dk_2 (dk_at dksX2_best_1 9 rfl rfl)
theorem dX2_best_34 : decode cX2_best 34 = .ok (.ireturn, 1) := dk_172 (dk_at dksX2_best_1 10 rfl rfl)
theorem dX2_best_35 : decode cX2_best 35 = .ok (.iload_n 3, 1) := dk_29 (dk_at dksX2_best_1 11 rfl rfl)
theorem dX2_best_36 : decode cX2_best 36 = .ok (.ifCond .ne 12, 3) := dk_154 0 12 (dk_at dksX2_best_1 12 rfl rfl)
theorem dX2_best_39 : decode cX2_best 39 = .ok (.aload_n 0, 1) := dk_42 (dk_at dksX2_best_1 15 rfl rfl)
theorem dX2_best_40 : decode cX2_best 40 = .ok (.iload_n 1, 1) := dk_27 (dk_at dksX2_best_1 16 rfl rfl)
theorem dX2_best_41 : decode cX2_best 41 = .ok (.iload_n 2, 1) := dk_28 (dk_at dksX2_best_1 17 rfl rfl)
theorem dX2_best_42 : decode cX2_best 42 = .ok (.invokevirtual 231, 3) := dk_182 0 231 (dk_at dksX2_best_1 18 rfl rfl)
theorem dX2_best_45 : decode cX2_best 45 = .ok (.goto 10, 3) := dk_167 0 10 (dk_at dksX2_best_1 21 rfl rfl)
theorem dX2_best_48 : decode cX2_best 48 = .ok (.aload_n 0, 1) := dk_42 (dk_at dksX2_best_2 0 rfl rfl)
theorem dX2_best_49 : decode cX2_best 49 = .ok (.iload_n 1, 1) := dk_27 (dk_at dksX2_best_2 1 rfl rfl)
theorem dX2_best_50 : decode cX2_best 50 = .ok (.iload_n 2, 1) := dk_28 (dk_at dksX2_best_2 2 rfl rfl)
theorem dX2_best_51 : decode cX2_best 51 = .ok (.iconst 1, 1) := dk_4 (dk_at dksX2_best_2 3 rfl rfl)
theorem dX2_best_52 : decode cX2_best 52 = .ok (.invokevirtual 227, 3) := dk_182 0 227 (dk_at dksX2_best_2 4 rfl rfl)
theorem dX2_best_55 : decode cX2_best 55 = .ok (.ireturn, 1) := dk_172 (dk_at dksX2_best_2 7 rfl rfl)
theorem md_X2_best : xMd yX2_best cX2_best 4 (Option.some Jvm.ClassFile.FieldType.int) 3 := ⟨q3278, q126, by decide, by decide +kernel, by decide +kernel, by decide +kernel⟩
def T_best_24   (v1 : Int32) (v2 : Int32) (v3 : Int32) (w1 : Int32) (s0 : TS) : Option (xO × TS) :=
  (xcI (T_unless_2 s0 w1) fun x4 s3 =>
  (xcI (T_isRefused s3 x4) fun x6 s5 =>
  (if x6 = 0 then
  (if v3 = 0 then
  (xcI (T_bestLeg s5 v1 v2) fun x10 s9 =>
  (rI x10 s9)) else
  (xcI (T_bestRunner s5 v1 v2 1) fun x8 s7 =>
  (rI x8 s7))) else
  (rI (-1) s5))))
def T_best_23   (v1 : Int32) (v2 : Int32) (v3 : Int32) (s0 : TS) : Option (xO × TS) :=
  (T_best_24 v1 v2 v3 0 s0)
def T_best (s0 : TS) (a1 : Int32) (a2 : Int32) (a3 : Int32) : Option (xO × TS) :=
  (xcI (T_isPoint s0 a1 a2) fun x2 s1 =>
  (if x2 = 0 then
  (T_best_23 a1 a2 a3 s1) else
  (xcI (T_in s1 a3 0 1) fun x12 s11 =>
  (if x12 = 0 then
  (T_best_23 a1 a2 a3 s11) else
  (T_best_24 a1 a2 a3 1 s11)))))
theorem T_best_24_ok {G : xG} {E : TE} (hO : xOK G) (hE : tok E)   (v1 : Int32) (v2 : Int32) (v3 : Int32) (w1 : Int32) (s0 : TS) : XT G E "ForestLegsModel" "best" cX2_best 4 (Option.some Jvm.ClassFile.FieldType.int) 7 24 [(0, .ref E.2.1), (1, .int v1), (2, .int v2), (3, .int v3)] [.int w1, .ref E.2.1] s0 (T_best_24 v1 v2 v3 w1 s0) := by
  unfold T_best_24
  refine tw_callS_I [.int w1] [.ref E.2.1] (T_unless_2_ok hO hE s0 w1) md_X2_unless_2 q3121 q3122 dX2_best_24 rfl rfl (by decide) (Nat.le_of_ble_eq_true rfl) (n := 27) rfl (fun x4 s3 => ?_)
  refine tw_callV_I [.int x4] [] (T_isRefused_ok hO hE s3 x4) md_X2_isRefused q3022 q3024 qs63 dX2_best_27 rfl rfl (by decide) (Nat.le_of_ble_eq_true rfl) (n := 30) rfl (fun x6 s5 => ?_)
  refine tw_if_eq dX2_best_30 (t := 35) (by decide) (n := 33) rfl ?_ ?_
  · refine x_iload_n 3 dX2_best_35 rfl rfl (n := 36) rfl ?_
    refine tw_if_ne dX2_best_36 (t := 48) (by decide) (n := 39) rfl ?_ ?_
    · refine x_aload_nr 0 dX2_best_48 rfl rfl (n := 49) rfl ?_
      refine x_iload_n 1 dX2_best_49 rfl rfl (n := 50) rfl ?_
      refine x_iload_n 2 dX2_best_50 rfl rfl (n := 51) rfl ?_
      refine x_iconst 1 dX2_best_51 rfl (n := 52) rfl ?_
      refine tw_callV_I [.int v1, .int v2, .int 1] [] (T_bestRunner_ok hO hE s5 v1 v2 1) md_X2_bestRunner q3175 q3177 qs91 dX2_best_52 rfl rfl (by decide) (Nat.le_of_ble_eq_true rfl) (n := 55) rfl (fun x8 s7 => ?_)
      exact tw_ireturn dX2_best_55
    · refine x_aload_nr 0 dX2_best_39 rfl rfl (n := 40) rfl ?_
      refine x_iload_n 1 dX2_best_40 rfl rfl (n := 41) rfl ?_
      refine x_iload_n 2 dX2_best_41 rfl rfl (n := 42) rfl ?_
      refine tw_callV_I [.int v1, .int v2] [] (T_bestLeg_ok hO hE s5 v1 v2) md_X2_bestLeg q3171 q3173 qs90 dX2_best_42 rfl rfl (by decide) (Nat.le_of_ble_eq_true rfl) (n := 45) rfl (fun x10 s9 => ?_)
      refine x_goto dX2_best_45 (n := 55) (by decide) ?_
      exact tw_ireturn dX2_best_55
  · refine x_iconst (-1) dX2_best_33 rfl (n := 34) rfl ?_
    exact tw_ireturn dX2_best_34
theorem T_best_23_ok {G : xG} {E : TE} (hO : xOK G) (hE : tok E)   (v1 : Int32) (v2 : Int32) (v3 : Int32) (s0 : TS) : XT G E "ForestLegsModel" "best" cX2_best 4 (Option.some Jvm.ClassFile.FieldType.int) 7 23 [(0, .ref E.2.1), (1, .int v1), (2, .int v2), (3, .int v3)] [.ref E.2.1] s0 (T_best_23 v1 v2 v3 s0) := by
  unfold T_best_23
  refine x_iconst 0 dX2_best_23 rfl (n := 24) rfl ?_
  exact T_best_24_ok hO hE v1 v2 v3 0 s0
theorem T_best_ok {G : xG} {E : TE} (hO : xOK G) (hE : tok E) (s0 : TS) (a1 : Int32) (a2 : Int32) (a3 : Int32) : CTT G E 7 yX2_best cX2_best 4 (Option.some Jvm.ClassFile.FieldType.int) [.ref E.2.1, .int a1, .int a2, .int a3] s0 (T_best s0 a1 a2 a3) := by
  refine CT_of hO (by decide +kernel) (by decide +kernel) (Nat.le_of_ble_eq_true rfl) ?_
  show XT G E "ForestLegsModel" "best" cX2_best 4 (Option.some Jvm.ClassFile.FieldType.int) 7 0 [(0, .ref E.2.1), (1, .int a1), (2, .int a2), (3, .int a3)] [] s0 (T_best s0 a1 a2 a3)
  refine x_aload_nr 0 dX2_best_0 rfl rfl (n := 1) rfl ?_
  refine x_aload_nr 0 dX2_best_1 rfl rfl (n := 2) rfl ?_
  refine x_iload_n 1 dX2_best_2 rfl rfl (n := 3) rfl ?_
  refine x_iload_n 2 dX2_best_3 rfl rfl (n := 4) rfl ?_
  refine tw_callV_I [.int a1, .int a2] [.ref E.2.1] (T_isPoint_ok hO hE s0 a1 a2) md_X2_isPoint q3251 q3253 qs103 dX2_best_4 rfl rfl (by decide) (Nat.le_of_ble_eq_true rfl) (n := 7) rfl (fun x2 s1 => ?_)
  refine tw_if_eq dX2_best_7 (t := 23) (by decide) (n := 10) rfl ?_ ?_
  · exact T_best_23_ok hO hE a1 a2 a3 s1
  · refine x_iload_n 3 dX2_best_10 rfl rfl (n := 11) rfl ?_
    refine x_iconst 0 dX2_best_11 rfl (n := 12) rfl ?_
    refine x_iconst 1 dX2_best_12 rfl (n := 13) rfl ?_
    refine tw_callS_I [.int a3, .int 0, .int 1] [.ref E.2.1] (T_in_ok hO hE s1 a3 0 1) md_X2_in q3016 q3017 dX2_best_13 rfl rfl (by decide) (Nat.le_of_ble_eq_true rfl) (n := 16) rfl (fun x12 s11 => ?_)
    refine tw_if_eq dX2_best_16 (t := 23) (by decide) (n := 19) rfl ?_ ?_
    · exact T_best_23_ok hO hE a1 a2 a3 s11
    · refine x_iconst 1 dX2_best_19 rfl (n := 20) rfl ?_
      refine x_goto dX2_best_20 (n := 24) (by decide) ?_
      exact T_best_24_ok hO hE a1 a2 a3 1 s11
